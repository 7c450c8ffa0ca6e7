/-! calls of inherited and overriding methods, through interfaces, of nest members; casts; arrays of references; floats -/
/-- the entry names x, declared in owner; class C has y for it -/
def cxU (own C owner : String) (index : Nat) (x z : MethodName) (bytes : ByteArray) (maxL : Nat) (ret : Option FieldType) (n : Nat) : Prop := Cond.methodLink own index x ∈ lw_all ∧ Cond.sameMethod x.cls owner x.name x.desc ∈ lw_all ∧ (Cond.declares ⟨owner, x.name, x.desc⟩ ∈ lw_nw ∨ (Cond.instanceMethod ⟨owner, x.name, x.desc⟩ ∈ lw_all ∧ ∃ b m r, Cond.code ⟨owner, x.name, x.desc⟩ b m r ∈ lw_all)) ∧ (owner ≠ "java/lang/invoke/MethodHandle" ∧ owner ≠ "java/lang/invoke/VarHandle") ∧ Cond.selects C x z ∈ lw_all ∧ Cond.instanceMethod z ∈ lw_all ∧ Cond.initialized z.cls ∈ lw_all ∧ Cond.code z bytes maxL ret ∈ lw_all ∧ ∀ sig, parseMethodDescriptor x.desc = some sig → n = sig.parameters.length
/-- through an interface -/
def cxF (own C : String) (index : Nat) (x z : MethodName) (bytes : ByteArray) (maxL : Nat) (ret : Option FieldType) (n : Nat) : Prop := Cond.methodLink own index x ∈ lw_all ∧ (C, x, z) ∈ wk_fw ∧ Cond.selects C x z ∈ lw_all ∧ Cond.instanceMethod z ∈ lw_all ∧ Cond.initialized z.cls ∈ lw_all ∧ Cond.code z bytes maxL ret ∈ lw_all ∧ ∀ sig, parseMethodDescriptor x.desc = some sig → n = sig.parameters.length
def cxSN (own : String) (index : Nat) (host : String) (z : MethodName) (bytes : ByteArray) (maxL : Nat) (ret : Option FieldType) (n : Nat) : Prop := Cond.methodLinkNest own index z host ∈ lw_nw ∧ Cond.static z ∈ lw_all ∧ Cond.initialized z.cls ∈ lw_all ∧ Cond.code z bytes maxL ret ∈ lw_all ∧ (z.cls ≠ "java/lang/invoke/MethodHandle" ∧ z.cls ≠ "java/lang/invoke/VarHandle") ∧ ∀ sig, parseMethodDescriptor z.desc = some sig → n = sig.parameters.length
def cxIN (own : String) (index : Nat) (host : String) (z : MethodName) (bytes : ByteArray) (maxL : Nat) (n : Nat) : Prop := Cond.methodLinkNest own index z host ∈ lw_nw ∧ Cond.instanceMethod z ∈ lw_all ∧ Cond.initialized z.cls ∈ lw_all ∧ Cond.code z bytes maxL none ∈ lw_all ∧ (z.cls ≠ "java/lang/invoke/MethodHandle" ∧ z.cls ≠ "java/lang/invoke/VarHandle") ∧ z.name = "<init>" ∧ ∀ sig, parseMethodDescriptor z.desc = some sig → n = sig.parameters.length
section WKU
variable {E : Ev} {K : Kx} {out : Ot} {σ' σ σ1 : Hs} {y : MethodName} {cc : ByteArray} {nL : Nat} {ret : Option FieldType} {fr lo : Nat} {tb : List ExceptionTableEntry} {pc : Nat} {L L' : Lc} {st rest stk stk2 : List TV} {rv : Option TV} {av : List TV}
theorem wk_callU (C : wk_C E K y cc nL ret fr lo tb) {index maxL fr2 lo2 b c : Nat} {cn owner : String} {x z : MethodName} {bytes : ByteArray} {ret2 : Option FieldType} {r : Option Nat} (hr : ho_is σ r [c] = some b) (hc : rx c cn) (F : cxU y.cls cn owner index x z bytes maxL ret2 av.length) (hM : wk_M E (kl K) z (ws_ z bytes maxL ret2) fr2 lo2 (vR r :: av) σ (.inl (rv.map tv)) σ1) (hst : av.reverse ++ vR r :: rest = stk) (hk : rv.toList ++ rest = stk2) (hfr : fr2 + 1 ≤ fr) (hlo : 8 + (maxL + 11) + lo2 ≤ lo) (hw : lc_w rest ≤ 8) (d : decode cc pc = .ok (.invokevirtual index, 3)) (kk : wk_V E K out σ' σ1 (pc + 3) L stk2) : wk_V E K out σ' σ pc L stk := by
  intro H locs ls h1 h2 h3 h4 h5 T hT X
  obtain ⟨c', fs, rfl, hg, hcc⟩ := ho_is_of hr
  cases List.mem_singleton.mp hcc
  obtain ⟨hx, hb, -, -, -, hown, hts, hF, hbs, -, hfrK, hloK, -⟩ := C
  obtain ⟨f1, f2, f3, f4, f5, f6, f7, f8, f9⟩ := F
  obtain ⟨cellB, k1, k2, k3⟩ := wk_recv hF (h1.2 b _ hg) hc
  have hD : va_Decl (ks K) ⟨owner, x.name, x.desc⟩ := by
    rcases f3 with f3 | ⟨g1, b0, m0, r0, g2⟩
    · exact Cond.declares_spec (nw_use (A := ka K) (List.mem_filter.mp f3).2 (hF.2.1 _ f3))
    · exact va_Decl.of (hts _ g1) (hts _ g2)
  have hK := wk_back (R := kR K) (p := kp K) (e := ke K) (below := kb K) (s := ks K) (sargs := ka K) (len := 3) (W9 := 8) hM (by rw [hfrK]; exact hfr) (by rw [hloK]; exact hlo) hts f8 f7
  refine wk_fin (a := ((vR (some b) :: av).map tv).toArray) hT h2 h3 h4 h5 rfl hk (va_callVU X hx (C := cn) (owner := owner) (x := x) (y := z) (bytes := bytes) (maxL := maxL) (ret := ret2) hown (hts _ f1) (hts _ f2) hD f4 (hts _ f5) (hts _ f6) (hts _ f8) hK (by rw [hT]; exact k1) k2 k3 rfl h5.1 (argsL := av.map tv) (rest := rest.map tv) (fun sig h => by rw [List.length_map]; exact f9 sig h) ?_ (lv_room (by rw [tv_sum]; exact hw)) (by rw [hb]; exact d) (wk_pre hF hbs hT h1 h2 h3 h4 rfl)) kk
  show stk.map tv = _
  rw [← hst, List.map_append, List.map_reverse]
  rfl
theorem wk_callF (C : wk_C E K y cc nL ret fr lo tb) {index count maxL fr2 lo2 b c : Nat} {cn : String} {x z : MethodName} {bytes : ByteArray} {ret2 : Option FieldType} {r : Option Nat} (hr : ho_is σ r [c] = some b) (hc : rx c cn) (F : cxF y.cls cn index x z bytes maxL ret2 av.length) (hM : wk_M E (kl K) z (ws_ z bytes maxL ret2) fr2 lo2 (vR r :: av) σ (.inl (rv.map tv)) σ1) (hst : av.reverse ++ vR r :: rest = stk) (hk : rv.toList ++ rest = stk2) (hfr : fr2 + 1 ≤ fr) (hlo : 8 + (maxL + 11) + lo2 ≤ lo) (hw : lc_w rest ≤ 8) (d : decode cc pc = .ok (.invokeinterface index count, 5)) (kk : wk_V E K out σ' σ1 (pc + 5) L stk2) : wk_V E K out σ' σ pc L stk := by
  intro H locs ls h1 h2 h3 h4 h5 T hT X
  obtain ⟨c', fs, rfl, hg, hcc⟩ := ho_is_of hr
  cases List.mem_singleton.mp hcc
  obtain ⟨hx, hb, -, -, -, hown, hts, hF, hbs, -, hfrK, hloK, -⟩ := C
  obtain ⟨f1, f2, f5, f6, f7, f8, f9⟩ := F
  obtain ⟨cellB, k1, k2, k3⟩ := wk_recv hF (h1.2 b _ hg) hc
  obtain ⟨g1, g2, g3, g4, g5⟩ := hF.2.2.2.2.2.1 _ f2
  obtain ⟨kB, hkB, -⟩ := Vm.findClass_spec k3
  have hK := wk_back (R := kR K) (p := kp K) (e := ke K) (below := kb K) (s := ks K) (sargs := ka K) (len := 5) (W9 := 8) hM (by rw [hfrK]; exact hfr) (by rw [hloK]; exact hlo) hts f8 f7
  refine wk_fin (len := 5) (a := ((vR (some b) :: av).map tv).toArray) hT h2 h3 h4 h5 rfl hk (va_callIF X hx (C := cn) (x := x) (y := z) (bytes := bytes) (maxL := maxL) (ret := ret2) hown (hts _ f1) (va_any rfl g1) (va_any rfl g2) (hts _ f5) (hts _ f6) (va_any rfl g3) (va_any rfl g4) (va_any rfl g5) (hts _ f8) (wk_fw_ok _ f2) hK (by rw [hT]; exact k1) k2 k3 hkB rfl h5.1 (argsL := av.map tv) (rest := rest.map tv) (fun sig h => by rw [List.length_map]; exact f9 sig h) ?_ (lv_room (by rw [tv_sum]; exact hw)) (by rw [hb]; exact d) (wk_pre hF hbs hT h1 h2 h3 h4 rfl)) kk
  show stk.map tv = _
  rw [← hst, List.map_append, List.map_reverse]
  rfl
theorem wk_callSN (C : wk_C E K y cc nL ret fr lo tb) {index maxL fr2 lo2 : Nat} {host : String} {z : MethodName} {bytes : ByteArray} {ret2 : Option FieldType} (F : cxSN y.cls index host z bytes maxL ret2 av.length) (hM : wk_M E (kl K) z (ws_ z bytes maxL ret2) fr2 lo2 av σ (.inl (rv.map tv)) σ1) (hst : av.reverse ++ rest = stk) (hk : rv.toList ++ rest = stk2) (hfr : fr2 + 1 ≤ fr) (hlo : 8 + (maxL + 11) + lo2 ≤ lo) (hw : lc_w rest ≤ 8) (d : decode cc pc = .ok (.invokestatic index, 3)) (kk : wk_V E K out σ' σ1 (pc + 3) L stk2) : wk_V E K out σ' σ pc L stk := by
  intro H locs ls h1 h2 h3 h4 h5 T hT X
  obtain ⟨hx, hb, -, -, -, hown, hts, hF, hbs, -, hfrK, hloK, -⟩ := C
  obtain ⟨f1, f2, f3, f4, f5, f6⟩ := F
  have hK := wk_back (R := kR K) (p := kp K) (e := ke K) (below := kb K) (s := ks K) (sargs := ka K) (len := 3) (W9 := 8) hM (by rw [hfrK]; exact hfr) (by rw [hloK]; exact hlo) hts f4 f3
  refine wk_fin (a := (av.map tv).toArray) hT h2 h3 h4 h5 rfl hk (va_callSN X hx (bytes := bytes) (maxL := maxL) (ret := ret2) hown (nw_use (List.mem_filter.mp f1).2 (hF.2.1 _ f1)) (hts _ f2) (hts _ f3) (hts _ f4) f5 hK rfl h5.1 (argsL := av.map tv) (rest := rest.map tv) (fun sig h => by rw [List.length_map]; exact f6 sig h) ?_ (lv_room (by rw [tv_sum]; exact hw)) (by rw [hb]; exact d) (wk_pre hF hbs hT h1 h2 h3 h4 rfl)) kk
  show stk.map tv = _
  rw [← hst, List.map_append, List.map_reverse]
theorem wk_callIN (C : wk_C E K y cc nL ret fr lo tb) {index maxL fr2 lo2 b : Nat} {host : String} {z : MethodName} {bytes : ByteArray} {r : Option Nat} (F : cxIN y.cls index host z bytes maxL av.length) (hr : r = some b) (hM : wk_M E (kl K) z (ws_ z bytes maxL none) fr2 lo2 (vR r :: av) σ (.inl none) σ1) (hst : av.reverse ++ vR r :: rest = stk) (hfr : fr2 + 1 ≤ fr) (hlo : 8 + (maxL + 11) + lo2 ≤ lo) (hw : lc_w rest ≤ 8) (d : decode cc pc = .ok (.invokespecial index, 3)) (kk : wk_V E K out σ' σ1 (pc + 3) L rest) : wk_V E K out σ' σ pc L stk := by
  intro H locs ls h1 h2 h3 h4 h5 T hT X
  subst hr
  obtain ⟨hx, hb, -, -, -, hown, hts, hF, hbs, -, hfrK, hloK, -⟩ := C
  obtain ⟨f1, f2, f3, f4, f5, f6, f7⟩ := F
  have hK := wk_back (R := kR K) (p := kp K) (e := ke K) (below := kb K) (s := ks K) (sargs := ka K) (len := 3) (W9 := 8) hM (by rw [hfrK]; exact hfr) (by rw [hloK]; exact hlo) hts f4 f3
  refine wk_fin (rv := none) (a := ((vR (some b) :: av).map tv).toArray) hT h2 h3 h4 h5 rfl rfl (va_callIN X hx (bytes := bytes) (maxL := maxL) hown f6 (nw_use (List.mem_filter.mp f1).2 (hF.2.1 _ f1)) (hts _ f2) (hts _ f4) f5 hK rfl h5.1 (a := b) (argsL := av.map tv) (rest := rest.map tv) (fun sig h => by rw [List.length_map]; exact f7 sig h) ?_ (lv_room (by rw [tv_sum]; exact hw)) (by rw [hb]; exact d) (wk_pre hF hbs hT h1 h2 h3 h4 rfl)) kk
  show stk.map tv = _
  rw [← hst, List.map_append, List.map_reverse]
  rfl
/-! casts -/
/-- objects of kind c pass a cast to nm -/
def ax (c : Nat) (nm : String) : Prop := ∃ cn, rx c cn ∧ ((c < 100 ∧ cn = nm) ∨ Cond.castable cn nm ∈ lw_nw)
theorem ax_same {c : Nat} {nm : String} (h : rx c nm) (hc : c < 100) : ax c nm := ⟨nm, h, Or.inl ⟨hc, rfl⟩⟩
theorem ax_cast {c : Nat} {cn nm : String} (h : rx c cn) (q : Cond.castable cn nm ∈ lw_tbl) : ax c nm := ⟨cn, h, Or.inr (lw_n q rfl)⟩
theorem wk_asg {s : State} {H : Heap} {a c : Nat} {fs : List Value} {nm : String} (hF : wk_PF E s) (hX : wk_X E s H a (.inr (c, fs))) (h : ax c nm) : ∃ (cell : Cell) (t : ClassId), H[a]? = some cell ∧ cell.vm.isStatics = false ∧ s.vm.findClass nm = some t ∧ s.vm.assignable cell.cls t = true := by
  obtain ⟨cn, hrx, h⟩ := h
  obtain ⟨cell, e1, e2, e3⟩ := wk_recv hF hX hrx
  rcases h with ⟨hc, rfl⟩ | h
  · rcases hrx with ⟨-, r, hr, rfl⟩ | ⟨hz, -⟩
    · have hcl := (hF.1 c r hr).2
      have : E.1.1 c = cell.cls := Option.some.inj (hcl.1.symm.trans e3)
      exact ⟨cell, _, e1, e2, e3, by rw [← this]; exact va_assign hcl⟩
    · omega
  · obtain ⟨c0, t0, f1, f2, f3⟩ := Cond.castable_spec (nw_use (A := #[]) (List.mem_filter.mp h).2 (hF.2.1 _ h))
    cases e3.symm.trans f1
    exact ⟨cell, t0, e1, e2, f2, f3⟩
/-- r is null, or an object of one of these kinds -/
def ho_in (σ : Hs) (r : Option Nat) (cs : List Nat) : Option Unit := match r with
  | none => some ()
  | some _ => if (ho_is σ r cs).isSome then some () else none
theorem ho_in_of {σ : Hs} {r : Option Nat} {cs : List Nat} {u : Unit} (h : ho_in σ r cs = some u) : r = none ∨ ∃ a c fs, r = some a ∧ ho_g σ a = some (.inr (c, fs)) ∧ c ∈ cs := by
  cases r with
  | none => exact Or.inl rfl
  | some a =>
    unfold ho_in at h
    dsimp only at h
    split at h
    · next hs =>
      obtain ⟨b, hb⟩ := Option.isSome_iff_exists.mp hs
      obtain ⟨c, fs, h1, h2, h3⟩ := ho_is_of hb
      cases h1
      exact Or.inr ⟨a, c, fs, rfl, h2, h3⟩
    · cases h
theorem wk_cast (C : wk_C E K y cc nL ret fr lo tb) {index : Nat} {nm : String} {cs : List Nat} {r : Option Nat} {u : Unit} (hl : Cond.classLink y.cls index nm ∈ lw_all) (hax : ∀ c ∈ cs, ax c nm) (hv : ho_in σ r cs = some u) (d : decode cc pc = .ok (.checkcast index, 3)) (kk : wk_V E K out σ' σ (pc + 3) L (vR r :: st)) : wk_V E K out σ' σ pc L (vR r :: st) := by
  intro H locs ls h1 h2 h3 h4 h5
  obtain ⟨hx, hb, -, -, -, hown, hts, hF, -⟩ := C
  have hk := kk H locs ls h1 h2 h3 h4 h5
  rcases ho_in_of hv with rfl | ⟨a, c, fs, rfl, hg, hc⟩
  · exact lv_castN hx hb d hk
  · obtain ⟨cell, t, e1, e2, e3, e4⟩ := wk_asg hF (h1.2 a _ hg) (hax c hc)
    intro T hT X
    obtain ⟨vm', X', st9⟩ := X.checkcastYes hx hown (hts _ hl) (by rw [hT]; exact e1) e2 e3 e4 (g := F0 (km K) pc ls (.ref a :: st.map tv)) rfl rfl (by rw [hb]; exact d)
    obtain ⟨t9, a1, b1⟩ := hk (T.setVm vm') hT X'
    exact ⟨t9, st9 t9 a1, b1⟩
/-- a cast of an array, that its class passes -/
theorem wk_castA (C : wk_C E K y cc nL ret fr lo tb) {index k : Nat} {nm : String} {r : Option Nat} {x : Nat × vp_A} (hl : Cond.classLink y.cls index nm ∈ lw_all) (hk : k < 90) (hnm : "[" ++ (ho_ty k).toString = nm) (hv : ho_ar σ r = some x) (hx : x.1 = k) (d : decode cc pc = .ok (.checkcast index, 3)) (kk : wk_V E K out σ' σ (pc + 3) L (vR r :: st)) : wk_V E K out σ' σ pc L (vR r :: st) := by
  intro H locs ls h1 h2 h3 h4 h5
  obtain ⟨hx9, hb, -, -, -, hown, hts, hF, -⟩ := C
  have hkk := kk H locs ls h1 h2 h3 h4 h5
  obtain ⟨a, rfl, hg⟩ := ho_ar_of hv
  have hX := (h1.2 a _ hg).1
  unfold wk_XA at hX
  rw [hx, if_pos hk] at hX
  obtain ⟨cA, e1, e2, e3, e4⟩ := hX
  rw [ho_v_cell] at e1
  rw [hnm] at e3
  intro T hT X
  obtain ⟨vm', X', st9⟩ := X.checkcastYes hx9 hown (hts _ hl) (by rw [hT]; exact e1) rfl e3 (Vm.assignable_self _ _) (g := F0 (km K) pc ls (.ref a :: st.map tv)) rfl rfl (by rw [hb]; exact d)
  obtain ⟨t9, a1, b1⟩ := hkk (T.setVm vm') hT X'
  exact ⟨t9, st9 t9 a1, b1⟩
/-- instanceof: objects of the kinds yes are, those of the kinds no aren't -/
def ho_io (σ : Hs) (r : Option Nat) (yes no : List Nat) : Option Int32 := match r with
  | none => some 0
  | some _ => if (ho_is σ r yes).isSome then some 1 else if (ho_is σ r no).isSome then some 0 else none
theorem wk_inst (C : wk_C E K y cc nL ret fr lo tb) {index : Nat} {nm : String} {yes no : List Nat} {r : Option Nat} {v : Int32} (hl : Cond.classLink y.cls index nm ∈ lw_all) (hax : ∀ c ∈ yes, ax c nm) (hno : ∀ c ∈ no, ∃ cn, rx c cn ∧ (cn, nm) ∈ wk_nc) (hv : ho_io σ r yes no = some v) (d : decode cc pc = .ok (.instanceof index, 3)) (kk : wk_V E K out σ' σ (pc + 3) L (vI v :: st)) : wk_V E K out σ' σ pc L (vR r :: st) := by
  intro H locs ls h1 h2 h3 h4 h5
  obtain ⟨hx, hb, -, -, -, hown, hts, hF, -⟩ := C
  have hk := kk H locs ls h1 h2 h3 h4 h5
  cases r with
  | none =>
    cases hv
    exact lv_instN hx hb d hk
  | some a0 =>
    unfold ho_io at hv
    dsimp only at hv
    split at hv
    · next hs =>
      cases hv
      obtain ⟨b, hb9⟩ := Option.isSome_iff_exists.mp hs
      obtain ⟨c, fs, q1, hg, hc⟩ := ho_is_of hb9
      cases q1
      obtain ⟨cell, t, e1, e2, e3, e4⟩ := wk_asg hF (h1.2 a0 _ hg) (hax c hc)
      intro T hT X
      obtain ⟨vm', X', st9⟩ := X.instanceofYes hx hown (hts _ hl) (by rw [hT]; exact e1) e2 e3 e4 (g := F0 (km K) pc ls (.ref a0 :: st.map tv)) rfl rfl (by rw [hb]; exact d)
      obtain ⟨t9, a1, b1⟩ := hk (T.setVm vm') hT X'
      exact ⟨t9, st9 t9 a1, b1⟩
    · split at hv
      · next hs =>
        cases hv
        obtain ⟨b, hb9⟩ := Option.isSome_iff_exists.mp hs
        obtain ⟨c, fs, q1, hg, hc⟩ := ho_is_of hb9
        cases q1
        obtain ⟨cn, hrx, hn⟩ := hno c hc
        exact va_instNo hx hb hown (hts _ hl) (hF.2.2.2.2.1 _ hn) (wk_recv hF (h1.2 a0 _ hg) hrx) d hk
      · cases hv
/-! arrays of references -/
/-- a place of an array of kind k gets v, null or an object of one of these kinds -/
def ho_tO (σ : Hs) (r : Option Nat) (k : Nat) (cs : List Nat) (i : Int32) (v : Option Nat) : Option Hs := (ho_in σ v cs).bind fun _ => ho_tR σ r k i v
theorem wk_aast (C : wk_C E K y cc nL ret fr lo tb) {r v : Option Nat} {i : Int32} {k : Nat} {cs : List Nat} {cn : String} (hk : k < 90) (hty : ho_ty k = .object cn) (hax : ∀ c ∈ cs, ax c cn) (hv : ho_tO σ r k cs i v = some σ1) (d : decode cc pc = .ok (.aastore, 1)) (kk : wk_V E K out σ' σ1 (pc + 1) L st) : wk_V E K out σ' σ pc L (vR v :: vI i :: vR r :: st) := by
  intro H locs ls h1 h2 h3 h4 h5
  obtain ⟨hx, hb, -, -, -, hown, hts, hF, -⟩ := C
  obtain ⟨u, hin, hv⟩ := ho_b hv
  obtain ⟨a, n, f, rfl, hg, hi, rfl⟩ := ho_tR_of hv
  have hX := h1.2 a _ hg
  have hA : wk_A E a := hX.2 hk
  have hX1 := hX.1
  unfold wk_XA at hX1
  dsimp only at hX1
  rw [if_pos hk, hty] at hX1
  obtain ⟨cA, e1, e2, e3, e4⟩ := hX1
  unfold wk_cp at e4
  rw [hty] at e4
  obtain ⟨kA, comp, g1, g2, g3⟩ := e4
  rw [ho_v_cell] at e1
  obtain ⟨i1, i2⟩ := ho_ix_of hi
  have hsz : (arrV cA n (ho_v (n, .inr (.inr (.inr (.inr f)))))).slots.size = n := arrV_size _ _ _
  have fin : ∀ (w : Value), w = va_rf v → ∀ H1 : Heap, H1[a]? = some ((arrV cA n (ho_v (n, .inr (.inr (.inr (.inr f)))))).setSlot i.toNatClampNeg w) → H1.size = H.size → (∀ q, q ≠ a → H1[q]? = H[q]?) → W (kp K) (kl K) (ke K) (kR K) (ks K) (km K) (ka K) (kb K) (kM K) (kc K) H1 (locs ++ [⟨a, i.toNatClampNeg⟩]) ((kR K).cells - σ.2.1) ((kR K).slots - σ.2.2) (wk_Q E K out σ') (F0 (km K) (pc + 1) ls (st.map tv)) := by
    intro w hw H1 q1 q2 q3
    refine kk H1 _ ls (h1.set q2 q3 (wk_upd hk hX (v := w) (j := i.toNatClampNeg) (fun q => ?_) (fun c hc => by cases e1.symm.trans hc; exact q1))) (h2.put q2 q3 hA) h3 h4 h5
    show va_rf (va_up f _ v q) = updV _ _ _ q
    by_cases hq : q = i.toNatClampNeg <;> simp [updV, va_up, ho_v, hq, hw]
  rcases ho_in_of hin with rfl | ⟨b, c, fs, rfl, hgb, hcb⟩
  · exact va_WaastN (C := cn) (g := F0 (km K) pc ls (.null :: .int i :: .ref a :: st.map tv)) hx hb e1 (e2 _ _) (fun h => by cases h) (fun q => q.elim (fun z => i1 (Or.inl z)) (fun z => by rw [hsz] at z; omega)) rfl rfl d (fin .null rfl)
  · obtain ⟨cellV, t, k1, k2, k3, k4⟩ := wk_asg hF (h1.2 b _ hgb) (hax c hcb)
    cases g3.symm.trans k3
    obtain ⟨kE, hkE, -⟩ := Vm.findClass_spec g3
    obtain ⟨cn9, hrx, -⟩ := hax c hcb
    obtain ⟨cell9, q1, q2, q3⟩ := wk_recv hF (h1.2 b _ hgb) hrx
    cases k1.symm.trans q1
    obtain ⟨kV, hkV, -⟩ := Vm.findClass_spec q3
    exact W.aast (g := F0 (km K) pc ls (.ref b :: .int i :: .ref a :: st.map tv)) hx hb e1 (fun q h => by cases h) (fun h => by cases h) g1 g2 rfl hkE ⟨fun z => i1 (Or.inl z), by rw [hsz]; exact i2⟩ k1 (fun q h => by rw [h] at k2; cases k2) hkV k4 rfl rfl d (fin (.ref b) rfl)
/-- a place of an array of arrays gets an array of kind k2 -/
def ho_tA (σ : Hs) (r : Option Nat) (k k2 : Nat) (i : Int32) (v : Option Nat) : Option Hs := (ho_ar σ v).bind fun x => if x.1 = k2 then ho_tR σ r k i v else none
theorem wk_aastA (C : wk_C E K y cc nL ret fr lo tb) {r v : Option Nat} {i : Int32} {k k2 : Nat} {t : FieldType} (hk : k < 90) (hk2 : k2 < 90) (hty : ho_ty k = .array t) (hnm : "[" ++ (ho_ty k2).toString = (FieldType.array t).toString) (hv : ho_tA σ r k k2 i v = some σ1) (d : decode cc pc = .ok (.aastore, 1)) (kk : wk_V E K out σ' σ1 (pc + 1) L st) : wk_V E K out σ' σ pc L (vR v :: vI i :: vR r :: st) := by
  intro H locs ls h1 h2 h3 h4 h5
  obtain ⟨hx, hb, -, -, -, hown, hts, hF, -⟩ := C
  obtain ⟨x, hxr, hv⟩ := ho_b hv
  split at hv
  · next hx2 =>
    obtain ⟨a, n, f, rfl, hg, hi, rfl⟩ := ho_tR_of hv
    obtain ⟨b, rfl, hgb⟩ := ho_ar_of hxr
    have hX := h1.2 a _ hg
    have hA : wk_A E a := hX.2 hk
    have hX1 := hX.1
    unfold wk_XA at hX1
    dsimp only at hX1
    rw [if_pos hk, hty] at hX1
    obtain ⟨cA, e1, e2, e3, e4⟩ := hX1
    unfold wk_cp at e4
    rw [hty] at e4
    obtain ⟨kA, comp, g1, g2, g3⟩ := e4
    rw [ho_v_cell] at e1
    have hXb := (h1.2 b _ hgb).1
    unfold wk_XA at hXb
    rw [hx2, if_pos hk2] at hXb
    obtain ⟨cB, b1, b2, b3, b4⟩ := hXb
    rw [ho_v_cell] at b1
    rw [hnm] at b3
    cases g3.symm.trans b3
    obtain ⟨i1, i2⟩ := ho_ix_of hi
    have hsz : (arrV cA n (ho_v (n, .inr (.inr (.inr (.inr f)))))).slots.size = n := arrV_size _ _ _
    obtain ⟨kE, hkE, -⟩ := Vm.findClass_spec g3
    refine W.aast (g := F0 (km K) pc ls (.ref b :: .int i :: .ref a :: st.map tv)) hx hb e1 (fun q h => by cases h) (fun h => by cases h) g1 g2 rfl hkE ⟨fun z => i1 (Or.inl z), by rw [hsz]; exact i2⟩ b1 (fun q h => by cases h) hkE (Vm.assignable_self _ _) rfl rfl d fun H1 q1 q2 q3 => ?_
    refine kk H1 _ ls (h1.set q2 q3 (wk_upd hk hX (v := .ref b) (j := i.toNatClampNeg) (fun q => ?_) (fun c hc => by cases e1.symm.trans hc; exact q1))) (h2.put q2 q3 hA) h3 h4 h5
    show va_rf (va_up f _ (some b) q) = updV _ _ _ q
    by_cases hq : q = i.toNatClampNeg <;> simp [updV, va_up, ho_v, hq, va_rf]
  · cases hv
theorem wk_newq {k : Nat} {n : Int32} {H1 H : Heap} {s : State} {cA : ClassId} (hG : wk_G E s σ H) (hk : k < 90) (hA : wk_A E H.size) (hb : ∃ c : Cell, c = { cls := cA, slots := Array.replicate n.toNatClampNeg .null, vm := .none } ∧ H1 = H.push c) (hAr : ArrOfT s cA (ho_ty k)) (hNm : s.vm.findClass ("[" ++ (ho_ty k).toString) = some cA) (hcp : wk_cp s k cA) : wk_G E s (ho_al σ (.inl (k, n.toNatClampNeg, .inr (.inr (.inr (.inr (fun _ => none)))))) n.toNatClampNeg) H1 := by
  obtain ⟨c, rfl, rfl⟩ := hb
  refine hG.push (by rw [Array.size_push]) (fun q hq => by rw [Array.getElem?_push, if_neg (Nat.ne_of_lt hq)]) ?_
  rw [← hG.1]
  refine ⟨?_, fun _ => hA⟩
  unfold wk_XA
  dsimp only
  rw [if_pos hk]
  refine ⟨cA, ?_, hAr, hNm, hcp⟩
  rw [Array.getElem?_push_size, ho_v_cell, arrV_new]
  rfl
theorem wk_anew (C : wk_C E K y cc nL ret fr lo tb) {index k : Nat} {cn : String} {n : Int32} {r : Option Nat} (hk : k < 90) (hty : ho_ty k = .object cn) (hl : Cond.classLink y.cls index cn ∈ lw_all) (hao : cn ∈ wk_ao) (hv : ho_nR σ k n = some (r, σ1)) (d : decode cc pc = .ok (.anewarray index, 3)) (kk : wk_V E K out σ' σ1 (pc + 3) L (vR r :: st)) : wk_V E K out σ' σ pc L (vI n :: st) := by
  intro H locs ls h1 h2 h3 h4 h5
  obtain ⟨hx, hb, -, -, -, hown, hts, hF, hbs, -⟩ := C
  unfold ho_nR at hv
  split at hv
  · next hn =>
    obtain ⟨g1, g2, rfl, rfl⟩ := ho_new_of hv
    refine W.anew (g := F0 (km K) pc ls (.int n :: st.map tv)) hx hb hown (hts _ hl) (va_AO.use (hF.2.2.2.2.2.2.1 _ hao)) rfl d rfl hn.1 (by omega) (by omega) (by omega) fun cA kA comp f1 f2 f3 f4 => ?_
    have hG := wk_newq (E := E) (n := n) (H1 := H.push { cls := cA, slots := Array.replicate n.toNatClampNeg .null, vm := .none }) h1 hk (Nat.le_trans hbs h2.1) ⟨_, rfl, rfl⟩ (by rw [hty]; exact fun N z => ⟨(fun k h => by cases h), kA, f2, comp, f3⟩) (by rw [hty]; exact f1) (by unfold wk_cp; rw [hty]; exact ⟨kA, comp, f2, f3, f4⟩)
    have hh := kk _ locs ls hG ⟨Nat.le_trans h2.1 (by rw [Array.size_push]; omega), fun x k1 k2 => by rw [Array.getElem?_push, if_neg (Nat.ne_of_lt (Nat.lt_of_lt_of_le k1 h2.1))]; exact h2.2.1 x k1 k2, h2.2.2⟩ (by show σ.2.1 - 1 ≤ _; omega) (by show σ.2.2 - _ ≤ _; omega) h5
    rw [← h1.1] at hh
    exact W.cs (by show _ = (kR K).cells - (σ.2.1 - 1); omega) (by show _ = (kR K).slots - (σ.2.2 - _); omega) hh
  · cases hv
theorem wk_anewA (C : wk_C E K y cc nL ret fr lo tb) {index k : Nat} {t : FieldType} {n : Int32} {r : Option Nat} (hk : k < 90) (hty : ho_ty k = .array t) (hl : Cond.classLink y.cls index (FieldType.array t).toString ∈ lw_all) (hao : t ∈ wk_aa) (hv : ho_nR σ k n = some (r, σ1)) (d : decode cc pc = .ok (.anewarray index, 3)) (kk : wk_V E K out σ' σ1 (pc + 3) L (vR r :: st)) : wk_V E K out σ' σ pc L (vI n :: st) := by
  intro H locs ls h1 h2 h3 h4 h5
  obtain ⟨hx, hb, -, -, -, hown, hts, hF, hbs, -⟩ := C
  unfold ho_nR at hv
  split at hv
  · next hn =>
    obtain ⟨g1, g2, rfl, rfl⟩ := ho_new_of hv
    refine W.anewA (g := F0 (km K) pc ls (.int n :: st.map tv)) hx hb hown (hts _ hl) (hF.2.2.2.2.2.2.2.2.2.1 _ hao) rfl d rfl hn.1 (by omega) (by omega) (by omega) fun cA kA comp f1 f2 f3 f4 => ?_
    have hG := wk_newq (E := E) (n := n) (H1 := H.push { cls := cA, slots := Array.replicate n.toNatClampNeg .null, vm := .none }) h1 hk (Nat.le_trans hbs h2.1) ⟨_, rfl, rfl⟩ (by rw [hty]; exact fun N z => ⟨(fun k h => by cases h), kA, f2, comp, f3⟩) (by rw [hty]; exact f1) (by unfold wk_cp; rw [hty]; exact ⟨kA, comp, f2, f3, f4⟩)
    have hh := kk _ locs ls hG ⟨Nat.le_trans h2.1 (by rw [Array.size_push]; omega), fun x k1 k2 => by rw [Array.getElem?_push, if_neg (Nat.ne_of_lt (Nat.lt_of_lt_of_le k1 h2.1))]; exact h2.2.1 x k1 k2, h2.2.2⟩ (by show σ.2.1 - 1 ≤ _; omega) (by show σ.2.2 - _ ≤ _; omega) h5
    rw [← h1.1] at hh
    exact W.cs (by show _ = (kR K).cells - (σ.2.1 - 1); omega) (by show _ = (kR K).slots - (σ.2.2 - _); omega) hh
  · cases hv
end WKU
