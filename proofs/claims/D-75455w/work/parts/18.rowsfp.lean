/-! floats and doubles; shifts of longs; constants of the wide kind -/
def ho_n32 (r : UInt32) : Option UInt32 := if r &&& 0x7fffffff ≤ 0x7f800000 then some r else none
def ho_n64 (r : UInt64) : Option UInt64 := if r &&& 0x7fffffffffffffff ≤ 0x7ff0000000000000 then some r else none
theorem ho_n32_of {r v : UInt32} (h : ho_n32 r = some v) : vf_n32 r ∧ r = v := by
  unfold ho_n32 at h
  split at h
  · next q => cases h; exact ⟨q, rfl⟩
  · cases h
theorem ho_n64_of {r v : UInt64} (h : ho_n64 r = some v) : vf_n64 r ∧ r = v := by
  unfold ho_n64 at h
  split at h
  · next q => cases h; exact ⟨q, rfl⟩
  · cases h
section WKFP
variable {E : Ev} {K : Kx} {out : Ot} {σ' σ σ1 : Hs} {y : MethodName} {cc : ByteArray} {nL : Nat} {ret : Option FieldType} {fr lo : Nat} {tb : List ExceptionTableEntry} {pc : Nat} {L L' : Lc} {st : List TV}
theorem wk_fload_n (C : wk_C E K y cc nL ret fr lo tb) {j : Fin 4} {x : UInt32} (n : Nat) (hl : L[n]? = some ((j : Nat), vF x)) (d : decode cc pc = .ok (.fload_n j, 1)) (k : wk_V E K out σ' σ (pc + 1) L (vF x :: st)) : wk_V E K out σ' σ pc L st := fun H locs ls h1 h2 h3 h4 h5 => lv_fload_n C.1 C.2.1 d rfl (lc_at h5 hl) (k H locs ls h1 h2 h3 h4 h5)
theorem wk_fload (C : wk_C E K y cc nL ret fr lo tb) {j : Nat} {x : UInt32} (n : Nat) (hl : L[n]? = some (j, vF x)) (d : decode cc pc = .ok (.fload j, 2)) (k : wk_V E K out σ' σ (pc + 2) L (vF x :: st)) : wk_V E K out σ' σ pc L st := fun H locs ls h1 h2 h3 h4 h5 => lv_fload C.1 C.2.1 d (lc_at h5 hl) (k H locs ls h1 h2 h3 h4 h5)
theorem wk_dload_n (C : wk_C E K y cc nL ret fr lo tb) {j : Fin 4} {x : UInt64} (n : Nat) (hl : L[n]? = some ((j : Nat), vD x)) (d : decode cc pc = .ok (.dload_n j, 1)) (k : wk_V E K out σ' σ (pc + 1) L (vD x :: st)) : wk_V E K out σ' σ pc L st := fun H locs ls h1 h2 h3 h4 h5 => lv_dload_n C.1 C.2.1 d rfl (lc_at h5 hl) (k H locs ls h1 h2 h3 h4 h5)
theorem wk_dload (C : wk_C E K y cc nL ret fr lo tb) {j : Nat} {x : UInt64} (n : Nat) (hl : L[n]? = some (j, vD x)) (d : decode cc pc = .ok (.dload j, 2)) (k : wk_V E K out σ' σ (pc + 2) L (vD x :: st)) : wk_V E K out σ' σ pc L st := fun H locs ls h1 h2 h3 h4 h5 => lv_dload C.1 C.2.1 d (lc_at h5 hl) (k H locs ls h1 h2 h3 h4 h5)
theorem wk_fstore_n (C : wk_C E K y cc nL ret fr lo tb) {j : Fin 4} {x : UInt32} (hn : (j : Nat) < nL) (hl : lc_s1 L (j : Nat) (vF x) = L') (d : decode cc pc = .ok (.fstore_n j, 1)) (k : wk_V E K out σ' σ (pc + 1) L' st) : wk_V E K out σ' σ pc L (vF x :: st) := fun H locs ls h1 h2 h3 h4 h5 => lv_fstore_n C.1 C.2.1 d rfl h5 (by rw [C.2.2.1]; exact hn) rfl (fun ls' h' => k H locs ls' h1 h2 h3 h4 (lc_1 hl h'))
theorem wk_fstore (C : wk_C E K y cc nL ret fr lo tb) {j : Nat} {x : UInt32} (hn : j < nL) (hl : lc_s1 L j (vF x) = L') (d : decode cc pc = .ok (.fstore j, 2)) (k : wk_V E K out σ' σ (pc + 2) L' st) : wk_V E K out σ' σ pc L (vF x :: st) := fun H locs ls h1 h2 h3 h4 h5 => lv_fstore C.1 C.2.1 d h5 (by rw [C.2.2.1]; exact hn) rfl (fun ls' h' => k H locs ls' h1 h2 h3 h4 (lc_1 hl h'))
theorem wk_dstore_n (C : wk_C E K y cc nL ret fr lo tb) {j : Fin 4} {x : UInt64} (hn : (j : Nat) + 1 < nL) (hl : lc_s2 L (j : Nat) (vD x) = L') (d : decode cc pc = .ok (.dstore_n j, 1)) (k : wk_V E K out σ' σ (pc + 1) L' st) : wk_V E K out σ' σ pc L (vD x :: st) := fun H locs ls h1 h2 h3 h4 h5 => lv_dstore_n C.1 C.2.1 d rfl h5 (by rw [C.2.2.1]; exact hn) rfl (fun ls' h' => k H locs ls' h1 h2 h3 h4 (lc_2 hl h'))
theorem wk_dstore (C : wk_C E K y cc nL ret fr lo tb) {j : Nat} {x : UInt64} (hn : j + 1 < nL) (hl : lc_s2 L j (vD x) = L') (d : decode cc pc = .ok (.dstore j, 2)) (k : wk_V E K out σ' σ (pc + 2) L' st) : wk_V E K out σ' σ pc L (vD x :: st) := fun H locs ls h1 h2 h3 h4 h5 => lv_dstore C.1 C.2.1 d h5 (by rw [C.2.2.1]; exact hn) rfl (fun ls' h' => k H locs ls' h1 h2 h3 h4 (lc_2 hl h'))
theorem wk_fconst0 (C : wk_C E K y cc nL ret fr lo tb) (d : decode cc pc = .ok (.fconst 0, 1)) (k : wk_V E K out σ' σ (pc + 1) L (vF FP.fconst0 :: st)) : wk_V E K out σ' σ pc L st := fun H locs ls h1 h2 h3 h4 h5 => lv_fconst0 C.1 C.2.1 d (k H locs ls h1 h2 h3 h4 h5)
theorem wk_dconst0 (C : wk_C E K y cc nL ret fr lo tb) (d : decode cc pc = .ok (.dconst 0, 1)) (k : wk_V E K out σ' σ (pc + 1) L (vD FP.dconst0 :: st)) : wk_V E K out σ' σ pc L st := fun H locs ls h1 h2 h3 h4 h5 => lv_dconst0 C.1 C.2.1 d (k H locs ls h1 h2 h3 h4 h5)
theorem wk_dconst1 (C : wk_C E K y cc nL ret fr lo tb) (d : decode cc pc = .ok (.dconst 1, 1)) (k : wk_V E K out σ' σ (pc + 1) L (vD FP.dconst1 :: st)) : wk_V E K out σ' σ pc L st := fun H locs ls h1 h2 h3 h4 h5 => lv_dconst1 C.1 C.2.1 d (k H locs ls h1 h2 h3 h4 h5)
theorem wk_fcmp (C : wk_C E K y cc nL ret fr lo tb) {x z : UInt32} {op : CmpOp} (d : decode cc pc = .ok (.fcmp op, 1)) (k : wk_V E K out σ' σ (pc + 1) L (vI (Op.cmpValue (FP.fcmp x z) op) :: st)) : wk_V E K out σ' σ pc L (vF z :: vF x :: st) := fun H locs ls h1 h2 h3 h4 h5 => lv_fcmp C.1 C.2.1 d (k H locs ls h1 h2 h3 h4 h5)
theorem wk_dcmp (C : wk_C E K y cc nL ret fr lo tb) {x z : UInt64} {op : CmpOp} (d : decode cc pc = .ok (.dcmp op, 1)) (k : wk_V E K out σ' σ (pc + 1) L (vI (Op.cmpValue (FP.dcmp x z) op) :: st)) : wk_V E K out σ' σ pc L (vD z :: vD x :: st) := fun H locs ls h1 h2 h3 h4 h5 => lv_dcmp C.1 C.2.1 d (k H locs ls h1 h2 h3 h4 h5)
theorem wk_i2f (C : wk_C E K y cc nL ret fr lo tb) {x : Int32} (d : decode cc pc = .ok (.i2f, 1)) (k : wk_V E K out σ' σ (pc + 1) L (vF (FP.i2f x) :: st)) : wk_V E K out σ' σ pc L (vI x :: st) := fun H locs ls h1 h2 h3 h4 h5 => lv_i2f C.1 C.2.1 d (k H locs ls h1 h2 h3 h4 h5)
theorem wk_i2d (C : wk_C E K y cc nL ret fr lo tb) {x : Int32} (d : decode cc pc = .ok (.i2d, 1)) (k : wk_V E K out σ' σ (pc + 1) L (vD (FP.i2d x) :: st)) : wk_V E K out σ' σ pc L (vI x :: st) := fun H locs ls h1 h2 h3 h4 h5 => lv_i2d C.1 C.2.1 d (k H locs ls h1 h2 h3 h4 h5)
theorem wk_f2i (C : wk_C E K y cc nL ret fr lo tb) {x : UInt32} (d : decode cc pc = .ok (.f2i, 1)) (k : wk_V E K out σ' σ (pc + 1) L (vI (FP.f2i x) :: st)) : wk_V E K out σ' σ pc L (vF x :: st) := fun H locs ls h1 h2 h3 h4 h5 => lv_f2i C.1 C.2.1 d (k H locs ls h1 h2 h3 h4 h5)
theorem wk_d2i (C : wk_C E K y cc nL ret fr lo tb) {x : UInt64} (d : decode cc pc = .ok (.d2i, 1)) (k : wk_V E K out σ' σ (pc + 1) L (vI (FP.d2i x) :: st)) : wk_V E K out σ' σ pc L (vD x :: st) := fun H locs ls h1 h2 h3 h4 h5 => lv_d2i C.1 C.2.1 d (k H locs ls h1 h2 h3 h4 h5)
theorem wk_f2d (C : wk_C E K y cc nL ret fr lo tb) {x : UInt32} {v : UInt64} (hv : ho_n64 (FP.f2d x) = some v) (d : decode cc pc = .ok (.f2d, 1)) (k : wk_V E K out σ' σ (pc + 1) L (vD v :: st)) : wk_V E K out σ' σ pc L (vF x :: st) := by
  obtain ⟨h, rfl⟩ := ho_n64_of hv
  exact fun H locs ls h1 h2 h3 h4 h5 => lv_f2d C.1 C.2.1 d h (k H locs ls h1 h2 h3 h4 h5)
theorem wk_fmul (C : wk_C E K y cc nL ret fr lo tb) {x z v : UInt32} (hv : ho_n32 (FP.fmul x z) = some v) (d : decode cc pc = .ok (.fmul, 1)) (k : wk_V E K out σ' σ (pc + 1) L (vF v :: st)) : wk_V E K out σ' σ pc L (vF z :: vF x :: st) := by
  obtain ⟨h, rfl⟩ := ho_n32_of hv
  exact fun H locs ls h1 h2 h3 h4 h5 => lv_fmul C.1 C.2.1 d h (k H locs ls h1 h2 h3 h4 h5)
theorem wk_ddiv (C : wk_C E K y cc nL ret fr lo tb) {x z v : UInt64} (hv : ho_n64 (FP.ddiv x z) = some v) (d : decode cc pc = .ok (.ddiv, 1)) (k : wk_V E K out σ' σ (pc + 1) L (vD v :: st)) : wk_V E K out σ' σ pc L (vD z :: vD x :: st) := by
  obtain ⟨h, rfl⟩ := ho_n64_of hv
  exact fun H locs ls h1 h2 h3 h4 h5 => lv_ddiv C.1 C.2.1 d h (k H locs ls h1 h2 h3 h4 h5)
theorem wk_dmul (C : wk_C E K y cc nL ret fr lo tb) {x z v : UInt64} (hv : ho_n64 (FP.dmul x z) = some v) (d : decode cc pc = .ok (.dmul, 1)) (k : wk_V E K out σ' σ (pc + 1) L (vD v :: st)) : wk_V E K out σ' σ pc L (vD z :: vD x :: st) := by
  obtain ⟨h, rfl⟩ := ho_n64_of hv
  exact fun H locs ls h1 h2 h3 h4 h5 => lv_dmul C.1 C.2.1 d h (k H locs ls h1 h2 h3 h4 h5)
theorem wk_dadd (C : wk_C E K y cc nL ret fr lo tb) {x z v : UInt64} (hv : ho_n64 (FP.dadd x z) = some v) (d : decode cc pc = .ok (.dadd, 1)) (k : wk_V E K out σ' σ (pc + 1) L (vD v :: st)) : wk_V E K out σ' σ pc L (vD z :: vD x :: st) := by
  obtain ⟨h, rfl⟩ := ho_n64_of hv
  exact fun H locs ls h1 h2 h3 h4 h5 => lv_dadd C.1 C.2.1 d h (k H locs ls h1 h2 h3 h4 h5)
theorem wk_ldcF (C : wk_C E K y cc nL ret fr lo tb) {index : Nat} {v : UInt32} (h : Cond.constantFloat y.cls index v ∈ lw_all) (d : decode cc pc = .ok (.ldc index, 2)) (k : wk_V E K out σ' σ (pc + 2) L (vF v :: st)) : wk_V E K out σ' σ pc L st := fun H locs ls h1 h2 h3 h4 h5 => lv_ldcf C.1 C.2.1 C.2.2.2.2.2.1 (C.2.2.2.2.2.2.1 _ h) d (k H locs ls h1 h2 h3 h4 h5)
theorem wk_ldc2D (C : wk_C E K y cc nL ret fr lo tb) {index : Nat} {v : UInt64} (h : Cond.constantDouble y.cls index v ∈ lw_all) (d : decode cc pc = .ok (.ldc2_w index, 3)) (k : wk_V E K out σ' σ (pc + 3) L (vD v :: st)) : wk_V E K out σ' σ pc L st := fun H locs ls h1 h2 h3 h4 h5 => lv_ldc2d C.1 C.2.1 C.2.2.2.2.2.1 (C.2.2.2.2.2.2.1 _ h) d (k H locs ls h1 h2 h3 h4 h5)
theorem wk_ldcw (C : wk_C E K y cc nL ret fr lo tb) {index : Nat} {v : Int32} (h : Cond.constant y.cls index v ∈ lw_all) (d : decode cc pc = .ok (.ldc_w index, 3)) (k : wk_V E K out σ' σ (pc + 3) L (vI v :: st)) : wk_V E K out σ' σ pc L st := fun H locs ls h1 h2 h3 h4 h5 => lv_ldcw C.1 C.2.1 C.2.2.2.2.2.1 (C.2.2.2.2.2.2.1 _ h) d (k H locs ls h1 h2 h3 h4 h5)
theorem wk_dret (C : wk_C E K y cc nL (some .double) fr lo tb) {x : UInt64} (ho : out = .inl (some (.double x))) (hs : σ' = σ) (d : decode cc pc = .ok (.dreturn, 1)) : wk_V E K out σ' σ pc L [vD x] := by
  subst ho; subst hs
  intro H locs ls h1 h2 h3 h4 h5
  exact wk_end h1 h2 h3 h4 (ls := ls) (W.dret C.1 C.2.1 C.2.2.2.1 (fun t ht hW => ⟨rfl, by rw [ht]; exact h1.moved hW.alike, h2.F ht⟩) h2.2.2 d C.2.2.2.2.1)
end WKFP
