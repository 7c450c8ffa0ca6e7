/-! shifts of longs; natives: bits of a double, System.arraycopy, clone of an int array, getClass; the class object of Object[] -/
def ho_l2d (b : Int64) : Option UInt64 := if vn_snl2d b = false then some b.toUInt64 else none
/-- the array r, a copy of it behind all else -/
def ho_clone (σ : Hs) (r : Option Nat) : Option (Option Nat × Hs) := (ho_ar σ r).bind fun x => match x.2.2 with
  | .inl f => if x.1 = 0 then ho_new σ (.inl (0, x.2.1, .inl f)) x.2.1 else none
  | _ => none
/-- references copied from array to array, of kinds k1 and k2; what is copied is null or of the kinds cs -/
def ho_copy (σ : Hs) (src : Option Nat) (sp : Int32) (dst : Option Nat) (dp n : Int32) (k1 k2 : Nat) (cs : List Nat) : Option Hs := src.bind fun a0 => dst.bind fun a => match ho_g σ a0, ho_g σ a with
  | some (.inl (c1, n0, .inr (.inr (.inr (.inr f))))), some (.inl (c2, n1, .inr (.inr (.inr (.inr g))))) => if c1 = k1 ∧ c2 = k2 ∧ ¬ sp < 0 ∧ ¬ dp < 0 ∧ ¬ n < 0 ∧ sp.toNatClampNeg + n.toNatClampNeg ≤ n0 ∧ dp.toNatClampNeg + n.toNatClampNeg ≤ n1 ∧ ∀ i, i < n.toNatClampNeg → (ho_in σ (f (sp.toNatClampNeg + i)) cs).isSome = true then some (ho_s σ a (.inl (k2, n1, .inr (.inr (.inr (.inr (va_cpy f g sp.toNatClampNeg dp.toNatClampNeg n.toNatClampNeg))))))) else none
  | _, _ => none
theorem ho_copy_of {σ σ1 : Hs} {src dst : Option Nat} {sp dp n : Int32} {k1 k2 : Nat} {cs : List Nat} (h : ho_copy σ src sp dst dp n k1 k2 cs = some σ1) : ∃ a0 a n0 n1 f g, src = some a0 ∧ dst = some a ∧ ho_g σ a0 = some (.inl (k1, n0, .inr (.inr (.inr (.inr f))))) ∧ ho_g σ a = some (.inl (k2, n1, .inr (.inr (.inr (.inr g))))) ∧ (¬ sp < 0 ∧ ¬ dp < 0 ∧ ¬ n < 0 ∧ sp.toNatClampNeg + n.toNatClampNeg ≤ n0 ∧ dp.toNatClampNeg + n.toNatClampNeg ≤ n1 ∧ ∀ i, i < n.toNatClampNeg → (ho_in σ (f (sp.toNatClampNeg + i)) cs).isSome = true) ∧ σ1 = ho_s σ a (.inl (k2, n1, .inr (.inr (.inr (.inr (va_cpy f g sp.toNatClampNeg dp.toNatClampNeg n.toNatClampNeg)))))) := by
  obtain ⟨a0, e0, h8⟩ := ho_b h
  obtain ⟨a, e1, h9⟩ := ho_b h8
  clear h8 h
  split at h9
  · next c1 n0 f c2 n1 g h1 h2 =>
    split at h9
    · next hc =>
      obtain ⟨rfl, rfl, hc⟩ := hc
      exact ⟨a0, a, n0, n1, f, g, e0, e1, h1, h2, hc, (Option.some.inj h9).symm⟩
    · cases h9
  · cases h9
section WKNT
variable {E : Ev} {K : Kx} {out : Ot} {σ' σ σ1 : Hs} {y : MethodName} {cc : ByteArray} {nL : Nat} {ret : Option FieldType} {fr lo : Nat} {tb : List ExceptionTableEntry} {pc : Nat} {L L' : Lc} {st : List TV}
theorem wk_lshl (C : wk_C E K y cc nL ret fr lo tb) {x : Int64} {z : Int32} (d : decode cc pc = .ok (.lshl, 1)) (k : wk_V E K out σ' σ (pc + 1) L (vJ (x <<< (z.toInt64 &&& 63)) :: st)) : wk_V E K out σ' σ pc L (vI z :: vJ x :: st) := fun H locs ls h1 h2 h3 h4 h5 => lv_lshl C.1 C.2.1 d rfl (k H locs ls h1 h2 h3 h4 h5)
theorem wk_lshr (C : wk_C E K y cc nL ret fr lo tb) {x : Int64} {z : Int32} (d : decode cc pc = .ok (.lshr, 1)) (k : wk_V E K out σ' σ (pc + 1) L (vJ (x >>> (z.toInt64 &&& 63)) :: st)) : wk_V E K out σ' σ pc L (vI z :: vJ x :: st) := fun H locs ls h1 h2 h3 h4 h5 => lv_lshr C.1 C.2.1 d rfl (k H locs ls h1 h2 h3 h4 h5)
theorem wk_d2l (C : wk_C E K y cc nL ret fr lo tb) {index : Nat} {x : UInt64} (f1 : Cond.methodLink y.cls index ⟨"java/lang/Double", "doubleToRawLongBits", "(D)J"⟩ ∈ lw_all) (f2 : Cond.native ⟨"java/lang/Double", "doubleToRawLongBits", "(D)J"⟩ ∈ lw_all) (f3 : Cond.static ⟨"java/lang/Double", "doubleToRawLongBits", "(D)J"⟩ ∈ lw_all) (f4 : Cond.initialized "java/lang/Double" ∈ lw_all) (hfr : 1 ≤ fr) (hlo : lc_w st + 15 ≤ lo) (d : decode cc pc = .ok (.invokestatic index, 3)) (kk : wk_V E K out σ' σ (pc + 3) L (vJ x.toInt64 :: st)) : wk_V E K out σ' σ pc L (vD x :: st) := by
  intro H locs ls h1 h2 h3 h4 h5
  obtain ⟨hx, hb, hml, -, -, hown, hts, hF, hbs, -, hfrK, hloK, -⟩ := C
  exact vn_d2l hx hb h5.1.symm hown (hts _ f1) (hts _ f2) (hts _ f3) (hts _ f4) (by rw [hfrK]; exact hfr) (by rw [tv_sum, hloK]; exact hlo) d (kk H locs ls h1 h2 h3 h4 h5)
theorem wk_l2d (C : wk_C E K y cc nL ret fr lo tb) {index : Nat} {x : Int64} {v : UInt64} (hv : ho_l2d x = some v) (f1 : Cond.methodLink y.cls index ⟨"java/lang/Double", "longBitsToDouble", "(J)D"⟩ ∈ lw_all) (f2 : Cond.native ⟨"java/lang/Double", "longBitsToDouble", "(J)D"⟩ ∈ lw_all) (f3 : Cond.static ⟨"java/lang/Double", "longBitsToDouble", "(J)D"⟩ ∈ lw_all) (f4 : Cond.initialized "java/lang/Double" ∈ lw_all) (hfr : 1 ≤ fr) (hlo : lc_w st + 15 ≤ lo) (d : decode cc pc = .ok (.invokestatic index, 3)) (kk : wk_V E K out σ' σ (pc + 3) L (vD v :: st)) : wk_V E K out σ' σ pc L (vJ x :: st) := by
  unfold ho_l2d at hv
  split at hv
  · next hs =>
    cases hv
    intro H locs ls h1 h2 h3 h4 h5
    obtain ⟨hx, hb, hml, -, -, hown, hts, hF, hbs, -, hfrK, hloK, -⟩ := C
    exact vn_l2d hx hb h5.1.symm hown (hts _ f1) (hts _ f2) (hts _ f3) (hts _ f4) hs (by rw [hfrK]; exact hfr) (by rw [tv_sum, hloK]; exact hlo) d (kk H locs ls h1 h2 h3 h4 h5)
  · cases hv
theorem wk_ldcM (C : wk_C E K y cc nL ret fr lo tb) {index : Nat} (hl : Cond.classLink y.cls index "[Ljava/lang/Object;" ∈ lw_all) (d : decode cc pc = .ok (.ldc index, 2)) (kk : wk_V E K out σ' σ (pc + 2) L (vR (E.2.2.1 90) :: st)) : wk_V E K out σ' σ pc L st := by
  intro H locs ls h1 h2 h3 h4 h5
  obtain ⟨hx, hb, -, -, -, hown, hts, hF, -⟩ := C
  obtain ⟨mi, hmi, hM⟩ := hF.2.2.2.2.2.2.2.2.2.2.1
  have hk := kk H locs ls h1 h2 h3 h4 h5
  rw [hmi] at hk
  exact va_ldcM hx hb hown (hts _ hl) hM d hk
/-- getClass of an Object[] -/
theorem wk_getC (C : wk_C E K y cc nL ret fr lo tb) {index : Nat} {r : Option Nat} {x : Nat × vp_A} (hv : ho_ar σ r = some x) (hx3 : x.1 = 3) (f1 : Cond.methodLink y.cls index ⟨"java/lang/Object", "getClass", "()Ljava/lang/Class;"⟩ ∈ lw_all) (f2 : Cond.declares ⟨"java/lang/Object", "getClass", "()Ljava/lang/Class;"⟩ ∈ lw_nw) (f3 : Cond.selects "[Ljava/lang/Object;" ⟨"java/lang/Object", "getClass", "()Ljava/lang/Class;"⟩ ⟨"java/lang/Object", "getClass", "()Ljava/lang/Class;"⟩ ∈ lw_all) (f4 : Cond.instanceMethod ⟨"java/lang/Object", "getClass", "()Ljava/lang/Class;"⟩ ∈ lw_all) (f5 : Cond.native ⟨"java/lang/Object", "getClass", "()Ljava/lang/Class;"⟩ ∈ lw_all) (hfr : 1 ≤ fr) (hlo : lc_w st + 14 ≤ lo) (d : decode cc pc = .ok (.invokevirtual index, 3)) (kk : wk_V E K out σ' σ (pc + 3) L (vR (E.2.2.1 90) :: st)) : wk_V E K out σ' σ pc L (vR r :: st) := by
  intro H locs ls h1 h2 h3 h4 h5
  obtain ⟨hx, hb, hml, -, -, hown, hts, hF, hbs, -, hfrK, hloK, -⟩ := C
  obtain ⟨mi, hmi, hM⟩ := hF.2.2.2.2.2.2.2.2.2.2.1
  have hk := kk H locs ls h1 h2 h3 h4 h5
  rw [hmi] at hk
  obtain ⟨a, rfl, hg⟩ := ho_ar_of hv
  have hX := (h1.2 a _ hg).1
  unfold wk_XA at hX
  rw [hx3, if_pos (by omega)] at hX
  obtain ⟨cA, e1, e2, e3, e4⟩ := hX
  rw [ho_v_cell] at e1
  exact va_getC hx hb h5.1.symm hown (hts _ f1) (nw_use (List.mem_filter.mp f2).2 (hF.2.1 _ f2)) (hts _ f3) (hts _ f4) (hts _ f5) hM ⟨_, e1, rfl, e3⟩ (by rw [hfrK]; exact hfr) (by rw [tv_sum, hloK]; exact hlo) d hk
theorem wk_clone (C : wk_C E K y cc nL ret fr lo tb) {index : Nat} {r r2 : Option Nat} (hv : ho_clone σ r = some (r2, σ1)) (f1 : Cond.methodLink y.cls index ⟨"[I", "clone", "()Ljava/lang/Object;"⟩ ∈ lw_all) (f2 : Cond.sameMethod "[I" "java/lang/Object" "clone" "()Ljava/lang/Object;" ∈ lw_all) (f3 : Cond.native ⟨"java/lang/Object", "clone", "()Ljava/lang/Object;"⟩ ∈ lw_all) (f4 : Cond.instanceMethod ⟨"java/lang/Object", "clone", "()Ljava/lang/Object;"⟩ ∈ lw_all) (f5 : Cond.selects "[I" ⟨"[I", "clone", "()Ljava/lang/Object;"⟩ ⟨"java/lang/Object", "clone", "()Ljava/lang/Object;"⟩ ∈ lw_all) (f6 : Cond.castable "[I" "java/lang/Cloneable" ∈ lw_nw) (hfr : 1 ≤ fr) (hlo : lc_w st + 14 ≤ lo) (d : decode cc pc = .ok (.invokevirtual index, 3)) (kk : wk_V E K out σ' σ1 (pc + 3) L (vR r2 :: st)) : wk_V E K out σ' σ pc L (vR r :: st) := by
  intro H locs ls h1 h2 h3 h4 h5
  obtain ⟨hx, hb, hml, -, -, hown, hts, hF, hbs, -, hfrK, hloK, -⟩ := C
  obtain ⟨⟨k, n, u⟩, har, hv⟩ := ho_b hv
  rcases u with f | u
  · dsimp only at hv
    split at hv
    · next hk0 =>
      subst hk0
      obtain ⟨g1, g2, rfl, rfl⟩ := ho_new_of hv
      obtain ⟨a, rfl, hg⟩ := ho_ar_of har
      have hX := (h1.2 a _ hg)
      have hX1 := hX.1
      unfold wk_XA at hX1
      dsimp only at hX1
      rw [if_pos (by omega)] at hX1
      obtain ⟨cA, e1, e2, e3, e4⟩ := hX1
      have e3' : (ks K).vm.findClass "[I" = some cA := e3
      have hcl := (nw_use (A := ka K) (List.mem_filter.mp f6).2 (hF.2.1 _ f6))
      obtain ⟨c0, t0', q1, q2, q3⟩ := Cond.castable_spec hcl
      cases e3'.symm.trans q1
      intro T hT X
      have hsz : (vp_cell cA (n, .inl f)).slots.size = n := arrV_size _ _ _
      obtain ⟨-, kA, hkA, comp, hkind⟩ := State.isArrayOf_alike X.warmed.alike (e2 0 (fun _ => .null))
      obtain ⟨-, kS, hkS, compS, hkindS⟩ := e2 0 (fun _ => .null)
      obtain ⟨vm', X', st9⟩ := X.cloneArray hx hown (hts _ f1) (hts _ f2) (hts _ f3) (hts _ f4) (hts _ f5) (a := a) (cell := vp_cell cA (n, .inl f)) (by rw [hT]; exact e1) (fun k h => by cases h) (fun h => by cases h) e3' q2 q3
        (fun i v hv => by
          have hk' : T.vm.classes[cA]? = some kA := hkA
          simpa [State.fitsSlot, State.slotType?, hk', hkind, vp_cell, arrV] using (show fits (ho_ty 0) v = true from va_fit (cA := cA) (n := n) (F := fun j => .int (f j)) (ty := .int) (fun _ _ => rfl) i v hv))
        (g := F0 (km K) pc ls (.ref a :: st.map tv)) rfl h5.1 rfl (by rw [hb]; exact d) (by rw [hfrK]; exact hfr) (by show 2 * 0 + _ + 14 ≤ _; rw [tv_sum, hloK]; omega) (by omega) (by rw [hsz]; omega) (hloader := Vm.clonesLoader_of_array hkS hkindS)
      have hcellE : ({ cls := (vp_cell cA (n, .inl f)).cls, slots := (vp_cell cA (n, .inl f)).slots } : Cell) = vp_cell cA (n, .inl f) := rfl
      rw [hcellE, hsz] at X'
      generalize hH1 : H.push (vp_cell cA (n, .inl f)) = H1
      have z1 : H1.size = H.size + 1 := by rw [← hH1, Array.size_push]
      have x1 : H1[H.size]? = some (vp_cell cA (n, .inl f)) := by rw [← hH1, Array.getElem?_push_size]
      have o1 : ∀ q : Nat, q < H.size → H1[q]? = H[q]? := fun q hq => by rw [← hH1, Array.getElem?_push, if_neg (Nat.ne_of_lt hq)]
      have hG : wk_G E (ks K) (ho_al σ (.inl (0, n, .inl f)) n) H1 := by
        refine h1.push z1 o1 ?_
        rw [← h1.1]
        refine ⟨?_, fun _ => Nat.le_trans hbs h2.1⟩
        unfold wk_XA
        dsimp only
        rw [if_pos (by omega)]
        exact ⟨cA, x1, e2, e3, e4⟩
      have hh := kk H1 locs ls hG ⟨Nat.le_trans h2.1 (by omega), fun x k1 k2 => (o1 x (Nat.lt_of_lt_of_le k1 h2.1)).trans (h2.2.1 x k1 k2), h2.2.2⟩ (by show σ.2.1 - 1 ≤ _; omega) (by show σ.2.2 - _ ≤ _; omega) h5
      rw [← h1.1] at hh
      have hh2 := W.cs (cells := (kR K).cells - σ.2.1 + 1) (slots := (kR K).slots - σ.2.2 + n) (by show _ = (kR K).cells - (σ.2.1 - 1); omega) (by show _ = (kR K).slots - (σ.2.2 - _); omega) hh
      obtain ⟨t, b1, b2⟩ := hh2 ((T.setVm vm').pushCell (vp_cell cA (n, .inl f))) (by rw [← hH1, ← hT]; rfl) X'
      refine ⟨t, st9 t ?_, b2⟩
      rw [hcellE, hT]
      exact b1
    · cases hv
  · cases hv
theorem wk_copy (C : wk_C E K y cc nL ret fr lo tb) {index k1 k2 : Nat} {src dst : Option Nat} {sp dp n : Int32} {cs : List Nat} {c1 c2 : String} (hk1 : k1 < 90) (hk2 : k2 < 90) (ht1 : ho_ty k1 = .object c1) (ht2 : ho_ty k2 = .object c2) (hax : ∀ c ∈ cs, ax c c2) (hv : ho_copy σ src sp dst dp n k1 k2 cs = some σ1) (f1 : Cond.methodLink y.cls index arraycopyName ∈ lw_all) (f2 : Cond.native arraycopyName ∈ lw_all) (f3 : Cond.static arraycopyName ∈ lw_all) (f4 : Cond.initialized "java/lang/System" ∈ lw_all) (hfr : 1 ≤ fr) (hlo : lc_w st + (nativeFrameWords "java/lang/System" "arraycopy" 5 + 11) ≤ lo) (d : decode cc pc = .ok (.invokestatic index, 3)) (kk : wk_V E K out σ' σ1 (pc + 3) L st) : wk_V E K out σ' σ pc L (vI n :: vI dp :: vR dst :: vI sp :: vR src :: st) := by
  intro H locs ls h1 h2 h3 h4 h5
  obtain ⟨hx, hb, hml, -, -, hown, hts, hF, hbs, -, hfrK, hloK, -⟩ := C
  obtain ⟨a0, a, n0, n1, f, g, rfl, rfl, hg0, hg1, ⟨z1, z2, z3, z4, z5, hel⟩, rfl⟩ := ho_copy_of hv
  have nn : ∀ z : Int32, ¬ z < 0 → z.toInt = (z.toNatClampNeg : Int) := by
    intro z hz
    have hz0 : (0 : Int) ≤ z.toInt := by
      have := Int32.not_lt.mp hz
      simpa using Int32.le_iff_toInt_le.mp this
    show z.toInt = ((z.toInt.toNat : Nat) : Int)
    omega
  have hX0 := (h1.2 a0 _ hg0).1
  have hXa := h1.2 a _ hg1
  have hA : wk_A E a := hXa.2 hk2
  have hX1 := hXa.1
  unfold wk_XA at hX0 hX1
  dsimp only at hX0 hX1
  rw [if_pos hk1, ht1] at hX0
  rw [if_pos hk2, ht2] at hX1
  obtain ⟨cA0, hc0, u0, -, -⟩ := hX0
  obtain ⟨cA1, hc1, u1, u2, u3⟩ := hX1
  obtain ⟨-, k0, hk0, cm0, hkk0⟩ := u0 n0 (fun j => va_rf (f j))
  obtain ⟨-, k1', hk1', cm1, hkk1⟩ := u1 n1 (fun j => va_rf (g j))
  have u3' := u3
  unfold wk_cp at u3'
  rw [ht2] at u3'
  obtain ⟨kA, comp, r1, r2, r3⟩ := u3'
  cases hk1'.symm.trans r1
  cases hkk1.symm.trans r2
  intro T hT X
  obtain ⟨vm', X', step⟩ := X.arraycopy hx hown (hts _ f1) (hts _ f2) (hts _ f3) (hts _ f4) (src := a0) (dst := a) (cs := vp_cell cA0 (n0, .inr (.inr (.inr (.inr f))))) (cd := vp_cell cA1 (n1, .inr (.inr (.inr (.inr g))))) (srcPos := sp) (destPos := dp) (n := n) (by rw [hT]; exact hc0) (by rw [hT]; exact hc1)
    (fun _ h => by cases h) (fun _ h => by cases h) (fun h => by cases h) (fun h => by cases h) hk0 hk1' hkk0 hkk1 rfl z1 z2 z3
    (by rw [nn sp z1, nn n z3]; show ¬ _ > ((arrV cA0 n0 (fun j => va_rf (f j))).slots.size : Int); rw [arrV_size]; omega)
    (by rw [nn dp z2, nn n z3]; show ¬ _ > ((arrV cA1 n1 (fun j => va_rf (g j))).slots.size : Int); rw [arrV_size]; omega)
    (fun vm₁ hal i hi => by
      have e : (vp_cell cA0 (n0, .inr (.inr (.inr (.inr f))))).slots.getD (sp.toNatClampNeg + i) .null = va_rf (f (sp.toNatClampNeg + i)) := by
        show (arrV cA0 n0 (fun j => va_rf (f j))).slots.getD _ _ = _
        rw [Array.getD_eq_getD_getElem?, arrV_read _ _ (by omega)]
        rfl
      rw [e]
      obtain ⟨u, hin⟩ := Option.isSome_iff_exists.mp (hel i hi)
      rcases ho_in_of hin with hn | ⟨b, c, fs, hn, hgb, hcb⟩
      · rw [hn]
        exact ⟨rfl, trivial⟩
      · rw [hn]
        obtain ⟨cellV, t, e1, e2, e3, e4⟩ := wk_asg hF (h1.2 b _ hgb) (hax c hcb)
        cases r3.symm.trans e3
        obtain ⟨cn9, hrx, -⟩ := hax c hcb
        obtain ⟨cell9, q1, q2, q3⟩ := wk_recv hF (h1.2 b _ hgb) hrx
        cases e1.symm.trans q1
        obtain ⟨kC, hkC, -⟩ := Vm.findClass_spec q3
        obtain ⟨kE, hkE, -⟩ := Vm.findClass_spec r3
        obtain ⟨kC', hkC', -⟩ := hal.2.2 _ _ hkC
        obtain ⟨kE', hkE', -⟩ := hal.2.2 _ _ hkE
        refine ⟨rfl, cellV, (show T.heap[b]? = some cellV by rw [hT]; exact e1), (fun q h => by rw [h] at e2; cases e2), ⟨kC', hkC'⟩, ?_, ?_⟩
        · exact ⟨kE', hkE'⟩
        · show vm₁.assignable _ _ = true
          rw [hal.assignable]
          exact e4)
    (g := F0 (km K) pc ls (.int n :: .int dp :: .ref a :: .int sp :: .ref a0 :: st.map tv)) rfl h5.1 (rest := st.map tv) rfl (by rw [hb]; exact d) (by rw [hfrK]; exact hfr) (by show 2 * 0 + _ + _ ≤ _; rw [tv_sum, hloK]; omega)
  have e1 : copied (vp_cell cA0 (n0, .inr (.inr (.inr (.inr f))))) (vp_cell cA1 (n1, .inr (.inr (.inr (.inr g))))) sp dp n = vp_cell cA1 (n1, .inr (.inr (.inr (.inr (va_cpy f g sp.toNatClampNeg dp.toNatClampNeg n.toNatClampNeg))))) := by
    rw [vp_cell_q, vp_cell_q, vp_cell_q]
    exact va_copied (fun z => va_rf z) cA0 cA1 f g z4
  rw [e1] at X' step
  have hl : a < H.size := (Array.getElem?_eq_some_iff.mp hc1).1
  have hheap : ((T.setVm vm').setCell a (vp_cell cA1 (n1, .inr (.inr (.inr (.inr (va_cpy f g sp.toNatClampNeg dp.toNatClampNeg n.toNatClampNeg))))))).heap = H.setIfInBounds a (vp_cell cA1 (n1, .inr (.inr (.inr (.inr (va_cpy f g sp.toNatClampNeg dp.toNatClampNeg n.toNatClampNeg)))))) := by rw [← hT]; rfl
  have oq : ∀ q : Nat, q ≠ a → (H.setIfInBounds a (vp_cell cA1 (n1, .inr (.inr (.inr (.inr (va_cpy f g sp.toNatClampNeg dp.toNatClampNeg n.toNatClampNeg)))))))[q]? = H[q]? := fun q hq => by simp [Array.getElem?_setIfInBounds, Ne.symm hq]
  have hG : wk_G E (ks K) (ho_s σ a (.inl (k2, n1, .inr (.inr (.inr (.inr (va_cpy f g sp.toNatClampNeg dp.toNatClampNeg n.toNatClampNeg))))))) (H.setIfInBounds a (vp_cell cA1 (n1, .inr (.inr (.inr (.inr (va_cpy f g sp.toNatClampNeg dp.toNatClampNeg n.toNatClampNeg))))))) := by
    refine h1.set (by simp) oq ⟨?_, fun _ => hA⟩
    unfold wk_XA
    dsimp only
    rw [if_pos hk2, ht2]
    exact ⟨cA1, by simp [Array.getElem?_setIfInBounds, hl], u1, u2, u3⟩
  obtain ⟨t, a1, b1⟩ := kk _ _ ls hG ⟨by simp; exact h2.1, fun q g1 g2 => by
      rw [oq q (fun e => g2 (by rw [e]; exact hA))]
      exact h2.2.1 q g1 g2, fun q hq => by
      rcases List.mem_append.mp hq with h | h
      · exact h2.2.2 q h
      · obtain ⟨z, -, hz⟩ := List.mem_map.mp h
        rw [← hz]
        exact hA⟩ h3 h4 h5 _ hheap X'
  exact ⟨t, step t a1, b1⟩
end WKNT
