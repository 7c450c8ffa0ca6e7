def fn_J12_max_b10  (t0 : Int32) (σ : Hs) : Option (Int32 × Hs) := some (t0, σ)
def fn_J12_max (p0 : Int32) (p1 : Int32) (σ : Hs) : Option (Int32 × Hs) := if p0 < p1 then fn_J12_max_b10 p1 σ else fn_J12_max_b10 p0 σ
def fn_J12_min_b10  (t0 : Int32) (σ : Hs) : Option (Int32 × Hs) := some (t0, σ)
def fn_J12_min (p0 : Int32) (p1 : Int32) (σ : Hs) : Option (Int32 × Hs) := if p1 < p0 then fn_J12_min_b10 p1 σ else fn_J12_min_b10 p0 σ
def fn_J12_max_2_b11  (t0 : Int64) (σ : Hs) : Option (Int64 × Hs) := some (t0, σ)
def fn_J12_max_2 (p0 : Int64) (p1 : Int64) (σ : Hs) : Option (Int64 × Hs) := if p0 < p1 then fn_J12_max_2_b11 p1 σ else fn_J12_max_2_b11 p0 σ
def fn_J12_min_2_b11  (t0 : Int64) (σ : Hs) : Option (Int64 × Hs) := some (t0, σ)
def fn_J12_min_2 (p0 : Int64) (p1 : Int64) (σ : Hs) : Option (Int64 × Hs) := if p1 < p0 then fn_J12_min_2_b11 p1 σ else fn_J12_min_2_b11 p0 σ
def fn_J12_abs_b10  (t0 : Int32) (σ : Hs) : Option (Int32 × Hs) := some (t0, σ)
def fn_J12_abs (p0 : Int32) (σ : Hs) : Option (Int32 × Hs) := if 0 ≤ p0 then fn_J12_abs_b10 p0 σ else fn_J12_abs_b10 (-p0) σ
def fn_J14_checkIndex_b9  (σ : Hs) : Option (Int32 × Hs) := none
def fn_J14_checkIndex (p0 : Int32) (p1 : Int32) (p2 : Option Nat) (σ : Hs) : Option (Int32 × Hs) := if p0 < 0 then fn_J14_checkIndex_b9  σ else if p0 < p1 then some (p0, σ) else fn_J14_checkIndex_b9  σ
def fn_J9_checkIndex (ev : Nat → Option Nat) (p0 : Int32) (p1 : Int32) (σ : Hs) : Option Hs := ho_b2 (fn_J14_checkIndex p0 p1 (ev 11) σ) fun v2 σ1 => some σ1
def fn_J9_coder_b14  (t0 : Int32) (σ : Hs) : Option (Int32 × Hs) := (ho_byte t0).bind fun v1 => some (v1, σ)
def fn_J9_coder (p0 : Option Nat) (σ : Hs) : Option (Int32 × Hs) := if (1 : Int32) = 0 then fn_J9_coder_b14 (1 : Int32) σ else (ho_fI σ p0 [210] 1).bind fun v2 => fn_J9_coder_b14 v2 σ
def fn_J9_length (p0 : Option Nat) (σ : Hs) : Option (Int32 × Hs) := (ho_fR σ p0 [210] 0).bind fun v1 => (ho_len σ v1).bind fun v2 => (ho_is σ p0 [210]).bind fun b3 => ho_b2 (fn_J9_coder p0 σ) fun v5 σ4 => some (v2 >>> (v5 &&& 31), σ4)
def fn_J9_isLatin1_b18  (t0 : Int32) (σ : Hs) : Option (Int32 × Hs) := (ho_bool t0).bind fun v1 => some (v1, σ)
def fn_J9_isLatin1_b17  (σ : Hs) : Option (Int32 × Hs) := fn_J9_isLatin1_b18 (0 : Int32) σ
def fn_J9_isLatin1 (p0 : Option Nat) (σ : Hs) : Option (Int32 × Hs) := if (1 : Int32) = 0 then fn_J9_isLatin1_b17  σ else (ho_fI σ p0 [210] 1).bind fun v2 => if v2 = 0 then fn_J9_isLatin1_b18 (1 : Int32) σ else fn_J9_isLatin1_b17  σ
def fn_J15_charAt (ev : Nat → Option Nat) (p0 : Option Nat) (p1 : Int32) (σ : Hs) : Option (Int32 × Hs) := (ho_len σ p0).bind fun v1 => (fn_J9_checkIndex ev p1 v1 σ).bind fun σ2 => (ho_aI σ2 p0 [2, 91] p1).bind fun v3 => (ho_char (((v3 &&& (255 : Int32)).toUInt32 % 65536).toInt32)).bind fun v4 => some (v4, σ2)
def fn_J9_charAt (ev : Nat → Option Nat) (p0 : Option Nat) (p1 : Int32) (σ : Hs) : Option (Int32 × Hs) := (ho_is σ p0 [210]).bind fun b1 => ho_b2 (fn_J9_isLatin1 p0 σ) fun v3 σ2 => if v3 = 0 then none else (ho_fR σ2 p0 [210] 0).bind fun v4 => ho_b2 (fn_J15_charAt ev v4 p1 σ2) fun v6 σ5 => (ho_char v6).bind fun v7 => some (v7, σ5)
theorem sx_J9_1053 : sx "java/lang/String" 1053 11 := ⟨_, Or.inl q347, rfl⟩
theorem cx_J9_1059 : cxS "java/lang/String" 1059 yJ14_checkIndex cJ14_checkIndex 3 (Option.some FieldType.int) 3 := ⟨q1508, q1199, q119, q1200, ⟨by decide +kernel, by decide +kernel⟩, fun sig h => by have e := (show (parseMethodDescriptor (yJ14_checkIndex).desc).map (fun d => d.parameters.length) = some 3 by decide +kernel); rw [h] at e; exact (Option.some.inj e).symm⟩
theorem sx_J9_38 : sx "java/lang/String" 38 10 := ⟨_, Or.inl q369, rfl⟩
theorem fx_J9_15 : fx "java/lang/String" 15 [210] 1 := ⟨"java/lang/String", "java/lang/String", "coder", "B", ⟨Or.inl q511, Or.inl rfl⟩, fx_s (Nat.le_of_ble_eq_true rfl) rfl (fx_0)⟩
theorem fx_J9_9 : fx "java/lang/String" 9 [210] 0 := ⟨"java/lang/String", "java/lang/String", "value", "[B", ⟨Or.inl q510, Or.inl rfl⟩, fx_s (Nat.le_of_ble_eq_true rfl) rfl (fx_0)⟩
theorem cx_J9_335 : cxV "java/lang/String" "java/lang/String" 335 yJ9_coder cJ9_coder 1 (Option.some FieldType.byte) 0 := ⟨q365, q366, q367, q113, q368, ⟨by decide +kernel, by decide +kernel⟩, fun sig h => by have e := (show (parseMethodDescriptor (yJ9_coder).desc).map (fun d => d.parameters.length) = some 0 by decide +kernel); rw [h] at e; exact (Option.some.inj e).symm⟩
theorem rx_210 : rx 210 "java/lang/String" := Or.inr ⟨(Nat.le_of_ble_eq_true rfl), rfl⟩
theorem cx_J15_9 : cxS "java/lang/StringLatin1" 9 yJ9_checkIndex cJ9_checkIndex 2 (Option.none : Option FieldType) 2 := ⟨q1601, q1506, q113, q1507, ⟨by decide +kernel, by decide +kernel⟩, fun sig h => by have e := (show (parseMethodDescriptor (yJ9_checkIndex).desc).map (fun d => d.parameters.length) = some 2 by decide +kernel); rw [h] at e; exact (Option.some.inj e).symm⟩
theorem cx_J9_492 : cxV "java/lang/String" "java/lang/String" 492 yJ9_isLatin1 cJ9_isLatin1 1 (Option.some FieldType.boolean) 0 := ⟨q1597, q1586, q1587, q113, q1588, ⟨by decide +kernel, by decide +kernel⟩, fun sig h => by have e := (show (parseMethodDescriptor (yJ9_isLatin1).desc).map (fun d => d.parameters.length) = some 0 by decide +kernel); rw [h] at e; exact (Option.some.inj e).symm⟩
theorem cx_J9_495 : cxS "java/lang/String" 495 yJ15_charAt cJ15_charAt 2 (Option.some FieldType.char) 2 := ⟨q1598, q1599, q120, q1600, ⟨by decide +kernel, by decide +kernel⟩, fun sig h => by have e := (show (parseMethodDescriptor (yJ15_charAt).desc).map (fun d => d.parameters.length) = some 2 by decide +kernel); rw [h] at e; exact (Option.some.inj e).symm⟩
set_option maxHeartbeats 4000000 in
theorem wb_J12_max_b10 {E : Ev} {K : Kx} (C : wk_C E K yJ12_max cJ12_max 2 (Option.some FieldType.int) 0 0 []) {r : Int32} {σ' : Hs} (t0 : Int32) (σ : Hs) (hf : fn_J12_max_b10 t0 σ = some (r, σ')) : wk_V E K (.inl (some (.int r))) σ' σ 10 [] [vI t0] := by
  unfold fn_J12_max_b10 at hf
  obtain ⟨rfl, rfl⟩ := Prod.mk.inj (Option.some.inj hf)
  exact wk_iret C rfl rfl dJ12_max_10
set_option maxHeartbeats 4000000 in
theorem mt_J12_max {E : Ev} {l : Launch} (hl : l.stackTraces = false) {p0 : Int32} {p1 : Int32} {σ : Hs} {r : Int32} {σ' : Hs} (hf : fn_J12_max p0 p1 σ = some (r, σ')) : wk_M E l yJ12_max (ws_ yJ12_max cJ12_max 2 (Option.some FieldType.int)) 0 0 [vI p0, vI p1] σ (.inl (some (.int r))) σ' := by
  refine wk_start (by decide +kernel) hl (Nat.le_of_ble_eq_true rfl) (fun K C hK => ?_)
  subst hK
  refine wk_L (L' := [(0, vI p0), (1, vI p1)]) rfl ?_
  unfold fn_J12_max at hf
  refine wk_iload_n C 0 rfl dJ12_max_0 ?_
  refine wk_iload_n C 1 rfl dJ12_max_1 ?_
  refine wk_icmp_lt C 9 (by decide) dJ12_max_2 (fun c_ => ?_) (fun c_ => ?_)
  · rw [if_pos c_] at hf
    refine wk_iload_n C 1 rfl dJ12_max_9 ?_
    refine wk_sub (L' := []) [] rfl ?_
    exact wb_J12_max_b10 C  _ _ hf
  · rw [if_neg c_] at hf
    refine wk_iload_n C 0 rfl dJ12_max_5 ?_
    refine wk_goto C 10 (by decide) dJ12_max_6 ?_
    refine wk_sub (L' := []) [] rfl ?_
    exact wb_J12_max_b10 C  _ _ hf
set_option maxHeartbeats 4000000 in
theorem wb_J12_min_b10 {E : Ev} {K : Kx} (C : wk_C E K yJ12_min cJ12_min 2 (Option.some FieldType.int) 0 0 []) {r : Int32} {σ' : Hs} (t0 : Int32) (σ : Hs) (hf : fn_J12_min_b10 t0 σ = some (r, σ')) : wk_V E K (.inl (some (.int r))) σ' σ 10 [] [vI t0] := by
  unfold fn_J12_min_b10 at hf
  obtain ⟨rfl, rfl⟩ := Prod.mk.inj (Option.some.inj hf)
  exact wk_iret C rfl rfl dJ12_min_10
set_option maxHeartbeats 4000000 in
theorem mt_J12_min {E : Ev} {l : Launch} (hl : l.stackTraces = false) {p0 : Int32} {p1 : Int32} {σ : Hs} {r : Int32} {σ' : Hs} (hf : fn_J12_min p0 p1 σ = some (r, σ')) : wk_M E l yJ12_min (ws_ yJ12_min cJ12_min 2 (Option.some FieldType.int)) 0 0 [vI p0, vI p1] σ (.inl (some (.int r))) σ' := by
  refine wk_start (by decide +kernel) hl (Nat.le_of_ble_eq_true rfl) (fun K C hK => ?_)
  subst hK
  refine wk_L (L' := [(0, vI p0), (1, vI p1)]) rfl ?_
  unfold fn_J12_min at hf
  refine wk_iload_n C 0 rfl dJ12_min_0 ?_
  refine wk_iload_n C 1 rfl dJ12_min_1 ?_
  refine wk_icmp_gt C 9 (by decide) dJ12_min_2 (fun c_ => ?_) (fun c_ => ?_)
  · rw [if_pos c_] at hf
    refine wk_iload_n C 1 rfl dJ12_min_9 ?_
    refine wk_sub (L' := []) [] rfl ?_
    exact wb_J12_min_b10 C  _ _ hf
  · rw [if_neg c_] at hf
    refine wk_iload_n C 0 rfl dJ12_min_5 ?_
    refine wk_goto C 10 (by decide) dJ12_min_6 ?_
    refine wk_sub (L' := []) [] rfl ?_
    exact wb_J12_min_b10 C  _ _ hf
set_option maxHeartbeats 4000000 in
theorem wb_J12_max_2_b11 {E : Ev} {K : Kx} (C : wk_C E K yJ12_max_2 cJ12_max_2 4 (Option.some FieldType.long) 0 0 []) {r : Int64} {σ' : Hs} (t0 : Int64) (σ : Hs) (hf : fn_J12_max_2_b11 t0 σ = some (r, σ')) : wk_V E K (.inl (some (.long r))) σ' σ 11 [] [vJ t0] := by
  unfold fn_J12_max_2_b11 at hf
  obtain ⟨rfl, rfl⟩ := Prod.mk.inj (Option.some.inj hf)
  exact wk_lret C rfl rfl dJ12_max_2_11
set_option maxHeartbeats 4000000 in
theorem mt_J12_max_2 {E : Ev} {l : Launch} (hl : l.stackTraces = false) {p0 : Int64} {p1 : Int64} {σ : Hs} {r : Int64} {σ' : Hs} (hf : fn_J12_max_2 p0 p1 σ = some (r, σ')) : wk_M E l yJ12_max_2 (ws_ yJ12_max_2 cJ12_max_2 4 (Option.some FieldType.long)) 0 0 [vJ p0, vJ p1] σ (.inl (some (.long r))) σ' := by
  refine wk_start (by decide +kernel) hl (Nat.le_of_ble_eq_true rfl) (fun K C hK => ?_)
  subst hK
  refine wk_L (L' := [(0, vJ p0), (2, vJ p1)]) rfl ?_
  unfold fn_J12_max_2 at hf
  refine wk_lload_n C 0 rfl dJ12_max_2_0 ?_
  refine wk_lload_n C 1 rfl dJ12_max_2_1 ?_
  refine wk_lcmp_lt C 10 (by decide) dJ12_max_2_2 dJ12_max_2_3 (fun c_ => ?_) (fun c_ => ?_)
  · rw [if_pos c_] at hf
    refine wk_lload_n C 1 rfl dJ12_max_2_10 ?_
    refine wk_sub (L' := []) [] rfl ?_
    exact wb_J12_max_2_b11 C  _ _ hf
  · rw [if_neg c_] at hf
    refine wk_lload_n C 0 rfl dJ12_max_2_6 ?_
    refine wk_goto C 11 (by decide) dJ12_max_2_7 ?_
    refine wk_sub (L' := []) [] rfl ?_
    exact wb_J12_max_2_b11 C  _ _ hf
set_option maxHeartbeats 4000000 in
theorem wb_J12_min_2_b11 {E : Ev} {K : Kx} (C : wk_C E K yJ12_min_2 cJ12_min_2 4 (Option.some FieldType.long) 0 0 []) {r : Int64} {σ' : Hs} (t0 : Int64) (σ : Hs) (hf : fn_J12_min_2_b11 t0 σ = some (r, σ')) : wk_V E K (.inl (some (.long r))) σ' σ 11 [] [vJ t0] := by
  unfold fn_J12_min_2_b11 at hf
  obtain ⟨rfl, rfl⟩ := Prod.mk.inj (Option.some.inj hf)
  exact wk_lret C rfl rfl dJ12_min_2_11
set_option maxHeartbeats 4000000 in
theorem mt_J12_min_2 {E : Ev} {l : Launch} (hl : l.stackTraces = false) {p0 : Int64} {p1 : Int64} {σ : Hs} {r : Int64} {σ' : Hs} (hf : fn_J12_min_2 p0 p1 σ = some (r, σ')) : wk_M E l yJ12_min_2 (ws_ yJ12_min_2 cJ12_min_2 4 (Option.some FieldType.long)) 0 0 [vJ p0, vJ p1] σ (.inl (some (.long r))) σ' := by
  refine wk_start (by decide +kernel) hl (Nat.le_of_ble_eq_true rfl) (fun K C hK => ?_)
  subst hK
  refine wk_L (L' := [(0, vJ p0), (2, vJ p1)]) rfl ?_
  unfold fn_J12_min_2 at hf
  refine wk_lload_n C 0 rfl dJ12_min_2_0 ?_
  refine wk_lload_n C 1 rfl dJ12_min_2_1 ?_
  refine wk_lcmp_gt C 10 (by decide) dJ12_min_2_2 dJ12_min_2_3 (fun c_ => ?_) (fun c_ => ?_)
  · rw [if_pos c_] at hf
    refine wk_lload_n C 1 rfl dJ12_min_2_10 ?_
    refine wk_sub (L' := []) [] rfl ?_
    exact wb_J12_min_2_b11 C  _ _ hf
  · rw [if_neg c_] at hf
    refine wk_lload_n C 0 rfl dJ12_min_2_6 ?_
    refine wk_goto C 11 (by decide) dJ12_min_2_7 ?_
    refine wk_sub (L' := []) [] rfl ?_
    exact wb_J12_min_2_b11 C  _ _ hf
set_option maxHeartbeats 4000000 in
theorem wb_J12_abs_b10 {E : Ev} {K : Kx} (C : wk_C E K yJ12_abs cJ12_abs 1 (Option.some FieldType.int) 0 0 []) {r : Int32} {σ' : Hs} (t0 : Int32) (σ : Hs) (hf : fn_J12_abs_b10 t0 σ = some (r, σ')) : wk_V E K (.inl (some (.int r))) σ' σ 10 [] [vI t0] := by
  unfold fn_J12_abs_b10 at hf
  obtain ⟨rfl, rfl⟩ := Prod.mk.inj (Option.some.inj hf)
  exact wk_iret C rfl rfl dJ12_abs_10
set_option maxHeartbeats 4000000 in
theorem mt_J12_abs {E : Ev} {l : Launch} (hl : l.stackTraces = false) {p0 : Int32} {σ : Hs} {r : Int32} {σ' : Hs} (hf : fn_J12_abs p0 σ = some (r, σ')) : wk_M E l yJ12_abs (ws_ yJ12_abs cJ12_abs 1 (Option.some FieldType.int)) 0 0 [vI p0] σ (.inl (some (.int r))) σ' := by
  refine wk_start (by decide +kernel) hl (Nat.le_of_ble_eq_true rfl) (fun K C hK => ?_)
  subst hK
  refine wk_L (L' := [(0, vI p0)]) rfl ?_
  unfold fn_J12_abs at hf
  refine wk_iload_n C 0 rfl dJ12_abs_0 ?_
  refine wk_if_ge C 9 (by decide) dJ12_abs_1 (fun c_ => ?_) (fun c_ => ?_)
  · rw [if_pos c_] at hf
    refine wk_iload_n C 0 rfl dJ12_abs_9 ?_
    refine wk_sub (L' := []) [] rfl ?_
    exact wb_J12_abs_b10 C  _ _ hf
  · rw [if_neg c_] at hf
    refine wk_iload_n C 0 rfl dJ12_abs_4 ?_
    refine wk_ineg C dJ12_abs_5 ?_
    refine wk_goto C 10 (by decide) dJ12_abs_6 ?_
    refine wk_sub (L' := []) [] rfl ?_
    exact wb_J12_abs_b10 C  _ _ hf
set_option maxHeartbeats 4000000 in
theorem wb_J14_checkIndex_b9 {E : Ev} {K : Kx} (C : wk_C E K yJ14_checkIndex cJ14_checkIndex 3 (Option.some FieldType.int) 0 0 []) {r : Int32} {σ' : Hs}  (σ : Hs) (hf : fn_J14_checkIndex_b9  σ = some (r, σ')) : wk_V E K (.inl (some (.int r))) σ' σ 9 [] [] := by
  unfold fn_J14_checkIndex_b9 at hf
  cases hf
set_option maxHeartbeats 4000000 in
theorem mt_J14_checkIndex {E : Ev} {l : Launch} (hl : l.stackTraces = false) {p0 : Int32} {p1 : Int32} {p2 : Option Nat} {σ : Hs} {r : Int32} {σ' : Hs} (hf : fn_J14_checkIndex p0 p1 p2 σ = some (r, σ')) : wk_M E l yJ14_checkIndex (ws_ yJ14_checkIndex cJ14_checkIndex 3 (Option.some FieldType.int)) 0 0 [vI p0, vI p1, vR p2] σ (.inl (some (.int r))) σ' := by
  refine wk_start (by decide +kernel) hl (Nat.le_of_ble_eq_true rfl) (fun K C hK => ?_)
  subst hK
  refine wk_L (L' := [(0, vI p0), (1, vI p1), (2, vR p2)]) rfl ?_
  unfold fn_J14_checkIndex at hf
  refine wk_iload_n C 0 rfl dJ14_checkIndex_0 ?_
  refine wk_if_lt C 9 (by decide) dJ14_checkIndex_1 (fun c_ => ?_) (fun c_ => ?_)
  · rw [if_pos c_] at hf
    refine wk_sub (L' := []) [] rfl ?_
    exact wb_J14_checkIndex_b9 C   _ hf
  · rw [if_neg c_] at hf
    refine wk_iload_n C 0 rfl dJ14_checkIndex_4 ?_
    refine wk_iload_n C 1 rfl dJ14_checkIndex_5 ?_
    refine wk_icmp_lt C 16 (by decide) dJ14_checkIndex_6 (fun c_ => ?_) (fun c_ => ?_)
    · rw [if_pos c_] at hf
      refine wk_iload_n C 0 rfl dJ14_checkIndex_16 ?_
      obtain ⟨rfl, rfl⟩ := Prod.mk.inj (Option.some.inj hf)
      exact wk_iret C rfl rfl dJ14_checkIndex_17
    · rw [if_neg c_] at hf
      refine wk_sub (L' := []) [] rfl ?_
      exact wb_J14_checkIndex_b9 C   _ hf
set_option maxHeartbeats 4000000 in
theorem mt_J9_checkIndex {E : Ev} {l : Launch} (hl : l.stackTraces = false) {p0 : Int32} {p1 : Int32} {σ : Hs} {σ' : Hs} (hf : fn_J9_checkIndex E.2.2.1 p0 p1 σ = some σ') : wk_M E l yJ9_checkIndex (ws_ yJ9_checkIndex cJ9_checkIndex 2 (Option.none : Option FieldType)) 1 22 [vI p0, vI p1] σ (.inl none) σ' := by
  refine wk_start (by decide +kernel) hl (Nat.le_of_ble_eq_true rfl) (fun K C hK => ?_)
  subst hK
  refine wk_L (L' := [(0, vI p0), (1, vI p1)]) rfl ?_
  unfold fn_J9_checkIndex at hf
  refine wk_iload_n C 0 rfl dJ9_checkIndex_0 ?_
  refine wk_iload_n C 1 rfl dJ9_checkIndex_1 ?_
  refine wk_getsR C (j := 11) sx_J9_1053 rfl dJ9_checkIndex_2 ?_
  obtain ⟨v2, σ1, h_σ1, hf⟩ := ho_e2 hf
  refine wk_callS (av := [vI p0, vI p1, vR (E.2.2.1 11)]) (rest := []) (rv := some (vI v2)) C cx_J9_1059 (mt_J14_checkIndex (wk_C.tr C) h_σ1) rfl rfl (Nat.le_of_ble_eq_true rfl) (Nat.le_of_ble_eq_true rfl) (Nat.le_of_ble_eq_true rfl) dJ9_checkIndex_5 ?_
  refine wk_pop C rfl dJ9_checkIndex_8 ?_
  obtain rfl := Option.some.inj hf
  exact wk_vret C rfl rfl dJ9_checkIndex_9
set_option maxHeartbeats 4000000 in
theorem wb_J9_coder_b14 {E : Ev} {K : Kx} (C : wk_C E K yJ9_coder cJ9_coder 1 (Option.some FieldType.byte) 0 0 []) {r : Int32} {σ' : Hs} (t0 : Int32) (σ : Hs) (hf : fn_J9_coder_b14 t0 σ = some (r, σ')) : wk_V E K (.inl (some (.int r))) σ' σ 14 [] [vI t0] := by
  unfold fn_J9_coder_b14 at hf
  obtain ⟨v1, h_v1, hf⟩ := ho_b hf
  obtain ⟨rfl, rfl⟩ := Prod.mk.inj (Option.some.inj hf)
  exact wk_bret C h_v1 rfl rfl dJ9_coder_14
set_option maxHeartbeats 4000000 in
theorem mt_J9_coder {E : Ev} {l : Launch} (hl : l.stackTraces = false) {p0 : Option Nat} {σ : Hs} {r : Int32} {σ' : Hs} (hf : fn_J9_coder p0 σ = some (r, σ')) : wk_M E l yJ9_coder (ws_ yJ9_coder cJ9_coder 1 (Option.some FieldType.byte)) 0 0 [vR p0] σ (.inl (some (.int r))) σ' := by
  refine wk_start (by decide +kernel) hl (Nat.le_of_ble_eq_true rfl) (fun K C hK => ?_)
  subst hK
  refine wk_L (L' := [(0, vR p0)]) rfl ?_
  unfold fn_J9_coder at hf
  refine wk_getsI C (j := 10) sx_J9_38 rfl dJ9_coder_0 ?_
  refine wk_if_eq C 13 (by decide) dJ9_coder_3 (fun c_ => ?_) (fun c_ => ?_)
  · rw [if_pos c_] at hf
    refine wk_iconst (v := 1) C dJ9_coder_13 rfl ?_
    refine wk_sub (L' := []) [] rfl ?_
    exact wb_J9_coder_b14 C  _ _ hf
  · rw [if_neg c_] at hf
    refine wk_aload_n C 0 rfl dJ9_coder_6 ?_
    obtain ⟨v2, h_v2, hf⟩ := ho_b hf
    refine wk_getI C fx_J9_15 h_v2 dJ9_coder_7 ?_
    refine wk_goto C 14 (by decide) dJ9_coder_10 ?_
    refine wk_sub (L' := []) [] rfl ?_
    exact wb_J9_coder_b14 C  _ _ hf
set_option maxHeartbeats 4000000 in
theorem mt_J9_length {E : Ev} {l : Launch} (hl : l.stackTraces = false) {p0 : Option Nat} {σ : Hs} {r : Int32} {σ' : Hs} (hf : fn_J9_length p0 σ = some (r, σ')) : wk_M E l yJ9_length (ws_ yJ9_length cJ9_length 1 (Option.some FieldType.int)) 1 20 [vR p0] σ (.inl (some (.int r))) σ' := by
  refine wk_start (by decide +kernel) hl (Nat.le_of_ble_eq_true rfl) (fun K C hK => ?_)
  subst hK
  refine wk_L (L' := [(0, vR p0)]) rfl ?_
  unfold fn_J9_length at hf
  refine wk_aload_n C 0 rfl dJ9_length_0 ?_
  obtain ⟨v1, h_v1, hf⟩ := ho_b hf
  refine wk_getR C fx_J9_9 h_v1 dJ9_length_1 ?_
  obtain ⟨v2, h_v2, hf⟩ := ho_b hf
  refine wk_alen C h_v2 dJ9_length_4 ?_
  refine wk_aload_n C 0 rfl dJ9_length_5 ?_
  obtain ⟨b3, h_b3, hf⟩ := ho_b hf
  obtain ⟨v5, σ4, h_σ4, hf⟩ := ho_e2 hf
  refine wk_callV (av := []) (rest := [vI v2]) (rv := some (vI v5)) C h_b3 rx_210 cx_J9_335 (mt_J9_coder (wk_C.tr C) h_σ4) rfl rfl (Nat.le_of_ble_eq_true rfl) (Nat.le_of_ble_eq_true rfl) (Nat.le_of_ble_eq_true rfl) dJ9_length_6 ?_
  refine wk_ishr C dJ9_length_9 ?_
  obtain ⟨rfl, rfl⟩ := Prod.mk.inj (Option.some.inj hf)
  exact wk_iret C rfl rfl dJ9_length_10
set_option maxHeartbeats 4000000 in
theorem wb_J9_isLatin1_b18 {E : Ev} {K : Kx} (C : wk_C E K yJ9_isLatin1 cJ9_isLatin1 1 (Option.some FieldType.boolean) 0 0 []) {r : Int32} {σ' : Hs} (t0 : Int32) (σ : Hs) (hf : fn_J9_isLatin1_b18 t0 σ = some (r, σ')) : wk_V E K (.inl (some (.int r))) σ' σ 18 [] [vI t0] := by
  unfold fn_J9_isLatin1_b18 at hf
  obtain ⟨v1, h_v1, hf⟩ := ho_b hf
  obtain ⟨rfl, rfl⟩ := Prod.mk.inj (Option.some.inj hf)
  exact wk_zret C h_v1 rfl rfl dJ9_isLatin1_18
set_option maxHeartbeats 4000000 in
theorem wb_J9_isLatin1_b17 {E : Ev} {K : Kx} (C : wk_C E K yJ9_isLatin1 cJ9_isLatin1 1 (Option.some FieldType.boolean) 0 0 []) {r : Int32} {σ' : Hs}  (σ : Hs) (hf : fn_J9_isLatin1_b17  σ = some (r, σ')) : wk_V E K (.inl (some (.int r))) σ' σ 17 [] [] := by
  unfold fn_J9_isLatin1_b17 at hf
  refine wk_iconst (v := 0) C dJ9_isLatin1_17 rfl ?_
  exact wb_J9_isLatin1_b18 C  _ _ hf
set_option maxHeartbeats 4000000 in
theorem mt_J9_isLatin1 {E : Ev} {l : Launch} (hl : l.stackTraces = false) {p0 : Option Nat} {σ : Hs} {r : Int32} {σ' : Hs} (hf : fn_J9_isLatin1 p0 σ = some (r, σ')) : wk_M E l yJ9_isLatin1 (ws_ yJ9_isLatin1 cJ9_isLatin1 1 (Option.some FieldType.boolean)) 0 0 [vR p0] σ (.inl (some (.int r))) σ' := by
  refine wk_start (by decide +kernel) hl (Nat.le_of_ble_eq_true rfl) (fun K C hK => ?_)
  subst hK
  refine wk_L (L' := [(0, vR p0)]) rfl ?_
  unfold fn_J9_isLatin1 at hf
  refine wk_getsI C (j := 10) sx_J9_38 rfl dJ9_isLatin1_0 ?_
  refine wk_if_eq C 17 (by decide) dJ9_isLatin1_3 (fun c_ => ?_) (fun c_ => ?_)
  · rw [if_pos c_] at hf
    refine wk_sub (L' := []) [] rfl ?_
    exact wb_J9_isLatin1_b17 C   _ hf
  · rw [if_neg c_] at hf
    refine wk_aload_n C 0 rfl dJ9_isLatin1_6 ?_
    obtain ⟨v2, h_v2, hf⟩ := ho_b hf
    refine wk_getI C fx_J9_15 h_v2 dJ9_isLatin1_7 ?_
    refine wk_if_ne C 17 (by decide) dJ9_isLatin1_10 (fun c_ => ?_) (fun c_ => ?_)
    · rw [if_neg c_] at hf
      refine wk_sub (L' := []) [] rfl ?_
      exact wb_J9_isLatin1_b17 C   _ hf
    · rw [if_pos c_] at hf
      refine wk_iconst (v := 1) C dJ9_isLatin1_13 rfl ?_
      refine wk_goto C 18 (by decide) dJ9_isLatin1_14 ?_
      refine wk_sub (L' := []) [] rfl ?_
      exact wb_J9_isLatin1_b18 C  _ _ hf
set_option maxHeartbeats 4000000 in
theorem mt_J15_charAt {E : Ev} {l : Launch} (hl : l.stackTraces = false) {p0 : Option Nat} {p1 : Int32} {σ : Hs} {r : Int32} {σ' : Hs} (hf : fn_J15_charAt E.2.2.1 p0 p1 σ = some (r, σ')) : wk_M E l yJ15_charAt (ws_ yJ15_charAt cJ15_charAt 2 (Option.some FieldType.char)) 2 43 [vR p0, vI p1] σ (.inl (some (.int r))) σ' := by
  refine wk_start (by decide +kernel) hl (Nat.le_of_ble_eq_true rfl) (fun K C hK => ?_)
  subst hK
  refine wk_L (L' := [(0, vR p0), (1, vI p1)]) rfl ?_
  unfold fn_J15_charAt at hf
  refine wk_iload_n C 1 rfl dJ15_charAt_0 ?_
  refine wk_aload_n C 0 rfl dJ15_charAt_1 ?_
  obtain ⟨v1, h_v1, hf⟩ := ho_b hf
  refine wk_alen C h_v1 dJ15_charAt_2 ?_
  obtain ⟨σ2, h_σ2, hf⟩ := ho_b hf
  refine wk_callS (av := [vI p1, vI v1]) (rest := []) (rv := none) C cx_J15_9 (mt_J9_checkIndex (wk_C.tr C) h_σ2) rfl rfl (Nat.le_of_ble_eq_true rfl) (Nat.le_of_ble_eq_true rfl) (Nat.le_of_ble_eq_true rfl) dJ15_charAt_3 ?_
  refine wk_aload_n C 0 rfl dJ15_charAt_6 ?_
  refine wk_iload_n C 1 rfl dJ15_charAt_7 ?_
  obtain ⟨v3, h_v3, hf⟩ := ho_b hf
  refine wk_bald C h_v3 dJ15_charAt_8 ?_
  refine wk_sipush (v := 255) C dJ15_charAt_9 rfl ?_
  refine wk_iand C dJ15_charAt_12 ?_
  refine wk_i2c C dJ15_charAt_13 ?_
  obtain ⟨v4, h_v4, hf⟩ := ho_b hf
  obtain ⟨rfl, rfl⟩ := Prod.mk.inj (Option.some.inj hf)
  exact wk_chret C h_v4 rfl rfl dJ15_charAt_14
set_option maxHeartbeats 4000000 in
theorem mt_J9_charAt {E : Ev} {l : Launch} (hl : l.stackTraces = false) {p0 : Option Nat} {p1 : Int32} {σ : Hs} {r : Int32} {σ' : Hs} (hf : fn_J9_charAt E.2.2.1 p0 p1 σ = some (r, σ')) : wk_M E l yJ9_charAt (ws_ yJ9_charAt cJ9_charAt 2 (Option.some FieldType.char)) 3 64 [vR p0, vI p1] σ (.inl (some (.int r))) σ' := by
  refine wk_start (by decide +kernel) hl (Nat.le_of_ble_eq_true rfl) (fun K C hK => ?_)
  subst hK
  refine wk_L (L' := [(0, vR p0), (1, vI p1)]) rfl ?_
  unfold fn_J9_charAt at hf
  refine wk_aload_n C 0 rfl dJ9_charAt_0 ?_
  obtain ⟨b1, h_b1, hf⟩ := ho_b hf
  obtain ⟨v3, σ2, h_σ2, hf⟩ := ho_e2 hf
  refine wk_callV (av := []) (rest := []) (rv := some (vI v3)) C h_b1 rx_210 cx_J9_492 (mt_J9_isLatin1 (wk_C.tr C) h_σ2) rfl rfl (Nat.le_of_ble_eq_true rfl) (Nat.le_of_ble_eq_true rfl) (Nat.le_of_ble_eq_true rfl) dJ9_charAt_1 ?_
  refine wk_if_eq C 16 (by decide) dJ9_charAt_4 (fun c_ => ?_) (fun c_ => ?_)
  · rw [if_pos c_] at hf
    cases hf
  · rw [if_neg c_] at hf
    refine wk_aload_n C 0 rfl dJ9_charAt_7 ?_
    obtain ⟨v4, h_v4, hf⟩ := ho_b hf
    refine wk_getR C fx_J9_9 h_v4 dJ9_charAt_8 ?_
    refine wk_iload_n C 1 rfl dJ9_charAt_11 ?_
    obtain ⟨v6, σ5, h_σ5, hf⟩ := ho_e2 hf
    refine wk_callS (av := [vR v4, vI p1]) (rest := []) (rv := some (vI v6)) C cx_J9_495 (mt_J15_charAt (wk_C.tr C) h_σ5) rfl rfl (Nat.le_of_ble_eq_true rfl) (Nat.le_of_ble_eq_true rfl) (Nat.le_of_ble_eq_true rfl) dJ9_charAt_12 ?_
    obtain ⟨v7, h_v7, hf⟩ := ho_b hf
    obtain ⟨rfl, rfl⟩ := Prod.mk.inj (Option.some.inj hf)
    exact wk_chret C h_v7 rfl rfl dJ9_charAt_15
