def fn_X2_lambda_new_0 (p0 : Option Nat) (p1 : Int32) (p2 : Int32) (σ : Hs) : Option (Int64 × Hs) := some ((1000000 : Int64), σ)
def fn_X4_lambda_factor_0 (p0 : Option Nat) (p1 : Int32) (p2 : Int32) (σ : Hs) : Option (Int64 × Hs) := some (p1.toInt64, σ)
def fn_X4_lambda_factor_1 (p0 : Option Nat) (p1 : Int32) (p2 : Int32) (σ : Hs) : Option (Int64 × Hs) := (ho_fI σ p0 [7] 5).bind fun v1 => some (v1.toInt64, σ)
def fn_X4_lambda_factor_2 (p0 : Option Nat) (p1 : Int32) (p2 : Int32) (σ : Hs) : Option (Int64 × Hs) := some (p2.toInt64, σ)
def fn_X4_lambda_factor_3 (p0 : Int32) (p1 : Option Nat) (p2 : Int32) (p3 : Int32) (σ : Hs) : Option (Int64 × Hs) := some (p0.toInt64, σ)
theorem fx_X4_275 : fx "ElasticTruss$SetupReader" 275 [7] 5 := ⟨"ElasticTruss$Member", "ElasticTruss$Member", "length", "I", ⟨Or.inr ⟨_, lw_n q2965 rfl⟩, Or.inl rfl⟩, fx_c (r := (RX8, TX8, 6)) (Nat.le_of_ble_eq_true rfl) rfl (Nat.le_of_ble_eq_true rfl) rfl rfl rfl (fx_0)⟩
set_option maxHeartbeats 4000000 in
theorem mt_X2_lambda_new_0 {E : Ev} {l : Launch} (hl : l.stackTraces = false) {p0 : Option Nat} {p1 : Int32} {p2 : Int32} {σ : Hs} {r : Int64} {σ' : Hs} (hf : fn_X2_lambda_new_0 p0 p1 p2 σ = some (r, σ')) : wk_M E l yX2_lambda_new_0 (ws_ yX2_lambda_new_0 cX2_lambda_new_0 3 (Option.some FieldType.long)) 0 0 [vR p0, vI p1, vI p2] σ (.inl (some (.long r))) σ' := by
  refine wk_start (by decide +kernel) hl (Nat.le_of_ble_eq_true rfl) (fun K C hK => ?_)
  subst hK
  refine wk_L (L' := [(0, vR p0), (1, vI p1), (2, vI p2)]) rfl ?_
  unfold fn_X2_lambda_new_0 at hf
  refine wk_ldc2 C q609 dX2_lambda_new_0_0 ?_
  obtain ⟨rfl, rfl⟩ := Prod.mk.inj (Option.some.inj hf)
  exact wk_lret C rfl rfl dX2_lambda_new_0_3
set_option maxHeartbeats 4000000 in
theorem mt_X4_lambda_factor_0 {E : Ev} {l : Launch} (hl : l.stackTraces = false) {p0 : Option Nat} {p1 : Int32} {p2 : Int32} {σ : Hs} {r : Int64} {σ' : Hs} (hf : fn_X4_lambda_factor_0 p0 p1 p2 σ = some (r, σ')) : wk_M E l yX4_lambda_factor_0 (ws_ yX4_lambda_factor_0 cX4_lambda_factor_0 3 (Option.some FieldType.long)) 0 0 [vR p0, vI p1, vI p2] σ (.inl (some (.long r))) σ' := by
  refine wk_start (by decide +kernel) hl (Nat.le_of_ble_eq_true rfl) (fun K C hK => ?_)
  subst hK
  refine wk_L (L' := [(0, vR p0), (1, vI p1), (2, vI p2)]) rfl ?_
  unfold fn_X4_lambda_factor_0 at hf
  refine wk_iload_n C 1 rfl dX4_lambda_factor_0_0 ?_
  refine wk_i2l C dX4_lambda_factor_0_1 ?_
  obtain ⟨rfl, rfl⟩ := Prod.mk.inj (Option.some.inj hf)
  exact wk_lret C rfl rfl dX4_lambda_factor_0_2
set_option maxHeartbeats 4000000 in
theorem mt_X4_lambda_factor_1 {E : Ev} {l : Launch} (hl : l.stackTraces = false) {p0 : Option Nat} {p1 : Int32} {p2 : Int32} {σ : Hs} {r : Int64} {σ' : Hs} (hf : fn_X4_lambda_factor_1 p0 p1 p2 σ = some (r, σ')) : wk_M E l yX4_lambda_factor_1 (ws_ yX4_lambda_factor_1 cX4_lambda_factor_1 3 (Option.some FieldType.long)) 0 0 [vR p0, vI p1, vI p2] σ (.inl (some (.long r))) σ' := by
  refine wk_start (by decide +kernel) hl (Nat.le_of_ble_eq_true rfl) (fun K C hK => ?_)
  subst hK
  refine wk_L (L' := [(0, vR p0), (1, vI p1), (2, vI p2)]) rfl ?_
  unfold fn_X4_lambda_factor_1 at hf
  refine wk_aload_n C 0 rfl dX4_lambda_factor_1_0 ?_
  obtain ⟨v1, h_v1, hf⟩ := ho_b hf
  refine wk_getI C fx_X4_275 h_v1 dX4_lambda_factor_1_1 ?_
  refine wk_i2l C dX4_lambda_factor_1_4 ?_
  obtain ⟨rfl, rfl⟩ := Prod.mk.inj (Option.some.inj hf)
  exact wk_lret C rfl rfl dX4_lambda_factor_1_5
set_option maxHeartbeats 4000000 in
theorem mt_X4_lambda_factor_2 {E : Ev} {l : Launch} (hl : l.stackTraces = false) {p0 : Option Nat} {p1 : Int32} {p2 : Int32} {σ : Hs} {r : Int64} {σ' : Hs} (hf : fn_X4_lambda_factor_2 p0 p1 p2 σ = some (r, σ')) : wk_M E l yX4_lambda_factor_2 (ws_ yX4_lambda_factor_2 cX4_lambda_factor_2 3 (Option.some FieldType.long)) 0 0 [vR p0, vI p1, vI p2] σ (.inl (some (.long r))) σ' := by
  refine wk_start (by decide +kernel) hl (Nat.le_of_ble_eq_true rfl) (fun K C hK => ?_)
  subst hK
  refine wk_L (L' := [(0, vR p0), (1, vI p1), (2, vI p2)]) rfl ?_
  unfold fn_X4_lambda_factor_2 at hf
  refine wk_iload_n C 2 rfl dX4_lambda_factor_2_0 ?_
  refine wk_i2l C dX4_lambda_factor_2_1 ?_
  obtain ⟨rfl, rfl⟩ := Prod.mk.inj (Option.some.inj hf)
  exact wk_lret C rfl rfl dX4_lambda_factor_2_2
set_option maxHeartbeats 4000000 in
theorem mt_X4_lambda_factor_3 {E : Ev} {l : Launch} (hl : l.stackTraces = false) {p0 : Int32} {p1 : Option Nat} {p2 : Int32} {p3 : Int32} {σ : Hs} {r : Int64} {σ' : Hs} (hf : fn_X4_lambda_factor_3 p0 p1 p2 p3 σ = some (r, σ')) : wk_M E l yX4_lambda_factor_3 (ws_ yX4_lambda_factor_3 cX4_lambda_factor_3 4 (Option.some FieldType.long)) 0 0 [vI p0, vR p1, vI p2, vI p3] σ (.inl (some (.long r))) σ' := by
  refine wk_start (by decide +kernel) hl (Nat.le_of_ble_eq_true rfl) (fun K C hK => ?_)
  subst hK
  refine wk_L (L' := [(0, vI p0), (1, vR p1), (2, vI p2), (3, vI p3)]) rfl ?_
  unfold fn_X4_lambda_factor_3 at hf
  refine wk_iload_n C 0 rfl dX4_lambda_factor_3_0 ?_
  refine wk_i2l C dX4_lambda_factor_3_1 ?_
  obtain ⟨rfl, rfl⟩ := Prod.mk.inj (Option.some.inj hf)
  exact wk_lret C rfl rfl dX4_lambda_factor_3_2
