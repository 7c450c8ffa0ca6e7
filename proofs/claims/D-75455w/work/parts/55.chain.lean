def fn_X10_of (rs : Option Nat → Option Nat → Int32 → Int32 → Hs → Option (Int64 × Hs)) (p0 : Option Nat) (p1 : Option Nat) (p2 : Int32) (p3 : Int32) (σ : Hs) : Option (Int64 × Hs) := (ho_fR σ p0 [9] 0).bind fun v1 => none
def fn_X10_ofR : Nat → Option Nat → Option Nat → Int32 → Int32 → Hs → Option (Int64 × Hs)
  | 0, _, _, _, _, _ => none
  | d + 1, q0, q1, q2, q3, σ => fn_X10_of (fn_X10_ofR d) q0 q1 q2 q3 σ
theorem fx_X10_7 : fx "ElasticTruss$Chain" 7 [9] 0 := ⟨"ElasticTruss$Chain", "ElasticTruss$Chain", "first", "LElasticTruss$Quantity;", ⟨Or.inl q3047, Or.inl rfl⟩, fx_c (r := (RX10, TX10, 3)) (Nat.le_of_ble_eq_true rfl) rfl (Nat.le_of_ble_eq_true rfl) rfl rfl rfl (fx_0)⟩
set_option maxHeartbeats 4000000 in
theorem mt_X10_of {E : Ev} {l : Launch} (hl : l.stackTraces = false) {fs ls : Nat} {rs : Option Nat → Option Nat → Int32 → Int32 → Hs → Option (Int64 × Hs)} (hrs : ∀ {q0 : Option Nat} {q1 : Option Nat} {q2 : Int32} {q3 : Int32} {σ : Hs} {r : Int64} {σ' : Hs}, rs q0 q1 q2 q3 σ = some (r, σ') → wk_M E l yX10_of (ws_ yX10_of cX10_of 7 (Option.some FieldType.long)) fs ls [vR q0, vR q1, vI q2, vI q3] σ (.inl (some (.long r))) σ') {p0 : Option Nat} {p1 : Option Nat} {p2 : Int32} {p3 : Int32} {σ : Hs} {r : Int64} {σ' : Hs} (hf : fn_X10_of rs p0 p1 p2 p3 σ = some (r, σ')) : wk_M E l yX10_of (ws_ yX10_of cX10_of 7 (Option.some FieldType.long)) (fs + 0) (ls + 0) [vR p0, vR p1, vI p2, vI p3] σ (.inl (some (.long r))) σ' := by
  refine wk_start (by decide +kernel) hl (Nat.le_of_ble_eq_true rfl) (fun K C hK => ?_)
  subst hK
  refine wk_L (L' := [(0, vR p0), (1, vR p1), (2, vI p2), (3, vI p3)]) rfl ?_
  unfold fn_X10_of at hf
  refine wk_aload_n C 0 rfl dX10_of_0 ?_
  obtain ⟨v1, h_v1, hf⟩ := ho_b hf
  refine wk_getR C fx_X10_7 h_v1 dX10_of_1 ?_
  refine wk_aload_n C 1 rfl dX10_of_4 ?_
  refine wk_iload_n C 2 rfl dX10_of_5 ?_
  refine wk_iload_n C 3 rfl dX10_of_6 ?_
  cases hf
theorem mt_X10_ofR {E : Ev} {l : Launch} (hl : l.stackTraces = false) : ∀ (d : Nat) {q0 : Option Nat} {q1 : Option Nat} {q2 : Int32} {q3 : Int32} {σ : Hs} {r : Int64} {σ' : Hs}, fn_X10_ofR d q0 q1 q2 q3 σ = some (r, σ') → wk_M E l yX10_of (ws_ yX10_of cX10_of 7 (Option.some FieldType.long)) (d * 0) (d * 0) [vR q0, vR q1, vI q2, vI q3] σ (.inl (some (.long r))) σ' := by
  intro d
  induction d with
  | zero =>
    intro q0 q1 q2 q3 σ r σ' hf
    rw [fn_X10_ofR] at hf
    cases hf
  | succ d ih =>
    intro q0 q1 q2 q3 σ r σ' hf
    rw [fn_X10_ofR] at hf
    rw [Nat.succ_mul, Nat.succ_mul]
    exact mt_X10_of hl ih hf
theorem mt_X10_ofS {E : Ev} {l : Launch} (hl : l.stackTraces = false) {q0 : Option Nat} {q1 : Option Nat} {q2 : Int32} {q3 : Int32} {σ : Hs} {r : Int64} {σ' : Hs} (hf : fn_X10_ofR 12 q0 q1 q2 q3 σ = some (r, σ')) : wk_M E l yX10_of (ws_ yX10_of cX10_of 7 (Option.some FieldType.long)) 0 0 [vR q0, vR q1, vI q2, vI q3] σ (.inl (some (.long r))) σ' := mt_X10_ofR hl 12 hf
