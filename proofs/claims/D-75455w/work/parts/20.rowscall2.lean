/-! calls of methods that throw; calls of methods with handlers -/
section WKBXW
variable {E : Ev} {l : Launch} {R : Room} {p : Program} {e : Env} {below : List Frame} {s : State} {sargs : Array Value} {y : MethodName} {len W9 : Nat}
/-- a callee with handlers that returns or throws -/
theorem wk_backXW {bytes : ByteArray} {maxL : Nat} {ret : Option FieldType} {hh : List (Nat × Nat × Nat × Nat)} {fr lo : Nat} {av : List TV} {σ σ' : Hs} {out : Ot} (hM : wk_M E l y (wsW_ y bytes maxL ret hh) fr lo av σ out σ')
    (hframes : fr + 1 ≤ R.frames) (hlocals : W9 + (maxL + 11) + lo ≤ R.locals) (hts : ∀ w ∈ lw_all, w.before sargs s = true) (hcode : Cond.codeWith y bytes maxL ret hh ∈ lw_all) (hinit : Cond.initialized y.cls ∈ lw_all) :
    vx_Back l R p e below s sargs y len W9 (wk_Pre E R av σ) (fun A a v B => out = .inl v ∧ wk_Pst E σ σ' v A a v B) (fun A a q B => out = .inr q ∧ wk_Pst E σ σ' none A a none B) := by
  intro m meth c A g ig mk a X hg hsize hdg hW hn hp
  have hws : ∀ w ∈ wsW_ y bytes maxL ret hh, ∀ (a' : Array Value) (U : State), s.WarmedH U.vm → w.before a' U = true := pay_in hts (lw_methW hcode)
  have h1 : (headSpec (wsW_ y bytes maxL ret hh) ({ frames := fr, cells := σ.2.1, slots := σ.2.2, locals := lo } : Room)).pre.before a A.U = true := atoms_intro fun w hw => hws w hw _ _ X.warmed
  have h2 : (Cond.codeWith y bytes maxL ret hh).before a A.U = true := hws _ List.mem_cons_self _ _ X.warmed
  have h3 : (Cond.initialized y.cls).before a A.U = true := pay_in hts lw_self _ hinit _ _ X.warmed
  obtain ⟨h4, h5, ha, hpp⟩ := hp
  have hPc : va_Pc (av.map tv) (fun U => wk_G E U σ U.heap ∧ wk_PF E U ∧ E.2.1 ≤ U.heap.size) a (A.U.calling g mk a) := ⟨ha, wk_calling hpp⟩
  obtain ⟨U, Ls, c0, s0⟩ := A
  dsimp only [Pt.U, Pt.locs, Pt.cells, Pt.slots] at h1 h2 h3 h4 h5 X hn hPc ⊢
  obtain ⟨m9, methY, cY, hn9, hmY, hcY, -, hlY, -⟩ := Cond.codeWith_spec h2
  cases hn.symm.trans hn9
  obtain ⟨kY, hkY, -⟩ := className_of_methodNamed hn
  have hinitY : kY.init = .initialized := Cond.initialized_spec (findClass_of_methodNamed hn) hkY h3
  have h : At U g.method c below := by rw [hg]; exact X.here
  have happ : (headSpec (wsW_ y bytes maxL ret hh) ({ frames := fr, cells := σ.2.1, slots := σ.2.2, locals := lo } : Room)).appliesLoose y e.platform (U.calling g mk a) = true :=
    Spec.appliesLoose_calling (g := g) h hdg hn hkY hinitY
      (X.room_calling (g := g) (R' := ({ frames := fr, cells := σ.2.1, slots := σ.2.2, locals := lo } : Room)) hsize hmY hcY hframes (by rw [hlY]; show _ + lo ≤ _; omega) h4 h5) h1
  obtain ⟨mid, hmid⟩ := h.above
  have hfr : (U.setTop g).frames = (.java g :: mid) ++ below := by rw [State.frames_setTop' g h.top, hmid]; rfl
  obtain ⟨o, s₂, hsteps, -, hend, hq⟩ := Steps.callFree hM p X.admits X.cas X.clock (acts := []) hfr happ hPc trivial
  rw [State.frames_setTop' g h.top] at hend
  obtain ⟨g₀, hg0⟩ := Option.isSome_iff_exists.mp h.top
  obtain ⟨r, hr⟩ := State.topJava?_eq_some.mp hg0
  have hr' : (({ U with heap := s₂.heap, slotsUsed := s₂.slotsUsed } : State).setVm s₂.vm).frames = .java g₀ :: r := hr
  have hq' : wk_O E σ.2.1 σ.2.2 out σ' (U.calling g mk a) o s₂ := hq
  obtain ⟨rfl, hW₂, ⟨L, hsm, hL⟩, hGt, hFt, hc5, hc6⟩ := hq'
  obtain ⟨e2, q2, q3, q4, q5, q6⟩ := id hsm
  have e3 : s₂ = ({ (U.calling g mk a).setFrames s₂.frames with heap := s₂.heap, slotsUsed := s₂.slotsUsed } : State).setVm s₂.vm := by
    have : s₂ = ({ s₂ with vm := (U.calling g mk a).vm } : State).setVm s₂.vm := rfl
    rw [e2] at this
    exact this
  have hW' : U.WarmedH s₂.vm := hW₂
  have hsame : U.sameButNew ({ U with heap := s₂.heap, slotsUsed := s₂.slotsUsed } : State) L (σ.2.1 - σ'.2.1) (σ.2.2 - σ'.2.2) := by
    refine ⟨?_, q2, q3, q4, q5, q6⟩
    obtain ⟨t, ht, -⟩ := State.frames_cons hr
    show ({ U with heap := s₂.heap, slotsUsed := s₂.slotsUsed } : State) = { U.setFrames U.frames with heap := s₂.heap, slotsUsed := s₂.slotsUsed }
    rw [State.setFrames_self ht]
  cases out with
  | inl v =>
    obtain ⟨c₂, i₂, len₂, hc₂, hd₂, hf₂⟩ := hend
    have hcc : c₂ = c := by
      have h1 : s₂.code? g.method = U.code? g.method := by
        rw [State.code?_eq, State.code?_eq, hW'.alike.method?]
      exact Option.some.inj (hc₂.symm.trans (h1.trans h.code))
    subst hcc
    have hlen : len₂ = len := by rw [hdg] at hd₂; cases hd₂; rfl
    subst hlen
    have hs₂ : s₂ = (({ U with heap := s₂.heap, slotsUsed := s₂.slotsUsed } : State).setVm s₂.vm).setTop { g with pc := g.pc + len₂, stack := v.toList ++ g.stack } := by
      refine e3.trans ?_
      rw [hf₂, State.calling_eq h.top, State.setFrames_setFrames, State.setTop_of_frames _ hr', hr]
      rfl
    subst hg
    refine Or.inl ⟨v, ⟨(({ U with heap := s₂.heap, slotsUsed := s₂.slotsUsed } : State).setVm s₂.vm), Ls ++ L, c0 + (σ.2.1 - σ'.2.1), s0 + (σ.2.2 - σ'.2.2)⟩,
      ⟨X.admits, X.cas, X.clock, X.frames, X.room, X.hears, X.method, X.code, (X.here.setHeapUsed s₂.heap s₂.slotsUsed).setVm hW'.alike, X.tail, State.WarmedH.trans X.warmed hW', X.limits, X.bytes, X.same.trans (hsame.setVm s.vm)⟩,
      ⟨rfl, rfl, s₂, L, rfl, rfl, hGt, hFt, rfl, hL, rfl, rfl, hc5, hc6⟩, ?_⟩
    show Steps p.tables e below _ ((({ U with heap := s₂.heap, slotsUsed := s₂.slotsUsed } : State).setVm s₂.vm).setTop { g with pc := g.pc + len₂, stack := v.toList ++ g.stack })
    rw [← hs₂]
    exact hsteps
  | inr q =>
    have hf₂ : s₂.frames = .throwing q :: .java g :: U.frames.tail := hend
    have hs₂ : s₂ = ((({ U with heap := s₂.heap, slotsUsed := s₂.slotsUsed } : State).setVm s₂.vm).setTop g).pushFrame (.throwing q) := by
      refine e3.trans ?_
      rw [hf₂, State.calling_eq h.top, State.setFrames_setFrames, State.pushFrame, State.frames_setTop _ hr', State.setTop_of_frames _ hr', State.setFrames_setFrames, hr]
      rfl
    subst hg
    refine Or.inr ⟨q, ⟨(({ U with heap := s₂.heap, slotsUsed := s₂.slotsUsed } : State).setVm s₂.vm), Ls ++ L, c0 + (σ.2.1 - σ'.2.1), s0 + (σ.2.2 - σ'.2.2)⟩,
      ⟨X.admits, X.cas, X.clock, X.frames, X.room, X.hears, X.method, X.code, (X.here.setHeapUsed s₂.heap s₂.slotsUsed).setVm hW'.alike, X.tail, State.WarmedH.trans X.warmed hW', X.limits, X.bytes, X.same.trans (hsame.setVm s.vm)⟩,
      ⟨rfl, rfl, s₂, L, rfl, rfl, hGt, hFt, rfl, hL, rfl, rfl, hc5, hc6⟩, ?_⟩
    show Steps p.tables e below _ (((({ U with heap := s₂.heap, slotsUsed := s₂.slotsUsed } : State).setVm s₂.vm).setTop g).pushFrame (.throwing q))
    rw [← hs₂]
    exact hsteps
end WKBXW
/-- the entry names a method with handlers -/
def cxSW (own : String) (index : Nat) (z : MethodName) (bytes : ByteArray) (maxL : Nat) (ret : Option FieldType) (hh : List (Nat × Nat × Nat × Nat)) (n : Nat) : Prop := Cond.methodLink own index z ∈ lw_all ∧ Cond.static z ∈ lw_all ∧ Cond.initialized z.cls ∈ lw_all ∧ Cond.codeWith z bytes maxL ret hh ∈ lw_all ∧ (z.cls ≠ "java/lang/invoke/MethodHandle" ∧ z.cls ≠ "java/lang/invoke/VarHandle") ∧ ∀ sig, parseMethodDescriptor z.desc = some sig → n = sig.parameters.length
def cxVW (own C : String) (index : Nat) (z : MethodName) (bytes : ByteArray) (maxL : Nat) (ret : Option FieldType) (hh : List (Nat × Nat × Nat × Nat)) (n : Nat) : Prop := Cond.methodLink own index z ∈ lw_all ∧ Cond.instanceMethod z ∈ lw_all ∧ Cond.selects C z z ∈ lw_all ∧ Cond.initialized z.cls ∈ lw_all ∧ Cond.codeWith z bytes maxL ret hh ∈ lw_all ∧ (z.cls ≠ "java/lang/invoke/MethodHandle" ∧ z.cls ≠ "java/lang/invoke/VarHandle") ∧ ∀ sig, parseMethodDescriptor z.desc = some sig → n = sig.parameters.length
section WKCW
variable {E : Ev} {K : Kx} {out : Ot} {σ' σ σ1 : Hs} {y : MethodName} {cc : ByteArray} {nL : Nat} {ret : Option FieldType} {fr lo : Nat} {tb : List ExceptionTableEntry} {pc : Nat} {L L' : Lc} {st rest stk stk2 : List TV} {rv : Option TV} {av : List TV}
theorem wk_callST (C : wk_C E K y cc nL ret fr lo tb) {index maxL fr2 lo2 q : Nat} {z : MethodName} {bytes : ByteArray} {ret2 : Option FieldType} (F : cxS y.cls index z bytes maxL ret2 av.length) (hM : wk_M E (kl K) z (ws_ z bytes maxL ret2) fr2 lo2 av σ (.inr q) σ1) (hst : av.reverse ++ rest = stk) (hfr : fr2 + 1 ≤ fr) (hlo : 8 + (maxL + 11) + lo2 ≤ lo) (hw : lc_w rest ≤ 8) (d : decode cc pc = .ok (.invokestatic index, 3)) (kx : wk_T E K out σ' σ1 pc L q) : wk_V E K out σ' σ pc L stk :=
  wk_callSX (rest := rest) C F hM hst hfr hlo hw d (fun v h => by cases h) (fun v h => by cases h) (fun q2 h => by cases h; exact kx)
theorem wk_callVT (C : wk_C E K y cc nL ret fr lo tb) {index maxL fr2 lo2 b c q : Nat} {cn : String} {z : MethodName} {bytes : ByteArray} {ret2 : Option FieldType} {r : Option Nat} (hr : ho_is σ r [c] = some b) (hc : rx c cn) (F : cxV y.cls cn index z bytes maxL ret2 av.length) (hM : wk_M E (kl K) z (ws_ z bytes maxL ret2) fr2 lo2 (vR r :: av) σ (.inr q) σ1) (hst : av.reverse ++ vR r :: rest = stk) (hfr : fr2 + 1 ≤ fr) (hlo : 8 + (maxL + 11) + lo2 ≤ lo) (hw : lc_w rest ≤ 8) (d : decode cc pc = .ok (.invokevirtual index, 3)) (kx : wk_T E K out σ' σ1 pc L q) : wk_V E K out σ' σ pc L stk :=
  wk_callVX (rest := rest) C hr hc F hM hst hfr hlo hw d (fun v h => by cases h) (fun v h => by cases h) (fun q2 h => by cases h; exact kx)
theorem wk_callSW (C : wk_C E K y cc nL ret fr lo tb) {index maxL fr2 lo2 : Nat} {z : MethodName} {bytes : ByteArray} {ret2 : Option FieldType} {hh : List (Nat × Nat × Nat × Nat)} (F : cxSW y.cls index z bytes maxL ret2 hh av.length) (hM : wk_M E (kl K) z (wsW_ z bytes maxL ret2 hh) fr2 lo2 av σ (.inl (rv.map tv)) σ1) (hst : av.reverse ++ rest = stk) (hk : rv.toList ++ rest = stk2) (hfr : fr2 + 1 ≤ fr) (hlo : 8 + (maxL + 11) + lo2 ≤ lo) (hw : lc_w rest ≤ 8) (d : decode cc pc = .ok (.invokestatic index, 3)) (kk : wk_V E K out σ' σ1 (pc + 3) L stk2) : wk_V E K out σ' σ pc L stk := by
  intro H locs ls h1 h2 h3 h4 h5 T hT X
  obtain ⟨hx, hb, -, -, -, hown, hts, hF, hbs, -, hfrK, hloK, -⟩ := C
  obtain ⟨f1, f2, f3, f4, f5, f6⟩ := F
  have hK := wk_backXW (R := kR K) (p := kp K) (e := ke K) (below := kb K) (s := ks K) (sargs := ka K) (len := 3) (W9 := 8) hM (by rw [hfrK]; exact hfr) (by rw [hloK]; exact hlo) hts f4 f3
  have hstk : stk.map tv = (av.map tv).reverse ++ rest.map tv := by rw [← hst, List.map_append, List.map_reverse]
  rcases vx_callSX X hx (bytes := bytes) (maxL := maxL) (ret := ret2) hown (hts _ f1) (hts _ f2) (hts _ f3) (hts _ f4) f5 hK (g := F0 (km K) pc ls (stk.map tv)) rfl h5.1 (argsL := av.map tv) (rest := rest.map tv) (fun sig h => by rw [List.length_map]; exact f6 sig h) hstk (lv_room (by rw [tv_sum]; exact hw)) (by rw [hb]; exact d) (wk_pre hF hbs hT h1 h2 h3 h4 rfl) with ⟨v, vm₁, B, hW₁, X', ⟨e1, hP⟩, st1⟩ | ⟨q, vm₁, B, hW₁, X', ⟨e1, hP⟩, st1⟩
  · cases e1
    exact wk_fin (rv := rv) (a := (av.map tv).toArray) hT h2 h3 h4 h5 rfl hk ⟨_, vm₁, B, hW₁, X', hP, st1⟩ kk
  · cases e1
theorem wk_callVW (C : wk_C E K y cc nL ret fr lo tb) {index maxL fr2 lo2 b c : Nat} {cn : String} {z : MethodName} {bytes : ByteArray} {ret2 : Option FieldType} {hh : List (Nat × Nat × Nat × Nat)} {r : Option Nat} (hr : ho_is σ r [c] = some b) (hc : rx c cn) (F : cxVW y.cls cn index z bytes maxL ret2 hh av.length) (hM : wk_M E (kl K) z (wsW_ z bytes maxL ret2 hh) fr2 lo2 (vR r :: av) σ (.inl (rv.map tv)) σ1) (hst : av.reverse ++ vR r :: rest = stk) (hk : rv.toList ++ rest = stk2) (hfr : fr2 + 1 ≤ fr) (hlo : 8 + (maxL + 11) + lo2 ≤ lo) (hw : lc_w rest ≤ 8) (d : decode cc pc = .ok (.invokevirtual index, 3)) (kk : wk_V E K out σ' σ1 (pc + 3) L stk2) : wk_V E K out σ' σ pc L stk := by
  intro H locs ls h1 h2 h3 h4 h5 T hT X
  obtain ⟨c', fs, rfl, hg, hcc⟩ := ho_is_of hr
  cases List.mem_singleton.mp hcc
  obtain ⟨hx, hb, -, -, -, hown, hts, hF, hbs, -, hfrK, hloK, -⟩ := C
  obtain ⟨f1, f2, f3, f4, f5, f6, f7⟩ := F
  obtain ⟨cellB, k1, k2, k3⟩ := wk_recv hF (h1.2 b _ hg) hc
  have hK := wk_backXW (R := kR K) (p := kp K) (e := ke K) (below := kb K) (s := ks K) (sargs := ka K) (len := 3) (W9 := 8) hM (by rw [hfrK]; exact hfr) (by rw [hloK]; exact hlo) hts f5 f4
  have hstk : stk.map tv = (av.map tv).reverse ++ .ref b :: rest.map tv := by rw [← hst, List.map_append, List.map_reverse]; rfl
  rcases vx_callVX X hx (C := cn) (bytes := bytes) (maxL := maxL) (ret := ret2) hown (hts _ f1) (hts _ f2) (hts _ f3) (hts _ f5) f6 hK (by rw [hT]; exact k1) k2 k3 (g := F0 (km K) pc ls (stk.map tv)) rfl h5.1 (argsL := av.map tv) (rest := rest.map tv) (fun sig h => by rw [List.length_map]; exact f7 sig h) hstk (lv_room (by rw [tv_sum]; exact hw)) (by rw [hb]; exact d) (wk_pre hF hbs hT h1 h2 h3 h4 rfl) with ⟨v, vm₁, B, hW₁, X', ⟨e1, hP⟩, st1⟩ | ⟨q, vm₁, B, hW₁, X', ⟨e1, hP⟩, st1⟩
  · cases e1
    exact wk_fin (rv := rv) (a := ((vR (some b) :: av).map tv).toArray) hT h2 h3 h4 h5 rfl hk ⟨_, vm₁, B, hW₁, X', hP, st1⟩ kk
  · cases e1
theorem wk_callVWT (C : wk_C E K y cc nL ret fr lo tb) {index maxL fr2 lo2 b c q : Nat} {cn : String} {z : MethodName} {bytes : ByteArray} {ret2 : Option FieldType} {hh : List (Nat × Nat × Nat × Nat)} {r : Option Nat} (hr : ho_is σ r [c] = some b) (hc : rx c cn) (F : cxVW y.cls cn index z bytes maxL ret2 hh av.length) (hM : wk_M E (kl K) z (wsW_ z bytes maxL ret2 hh) fr2 lo2 (vR r :: av) σ (.inr q) σ1) (hst : av.reverse ++ vR r :: rest = stk) (hfr : fr2 + 1 ≤ fr) (hlo : 8 + (maxL + 11) + lo2 ≤ lo) (hw : lc_w rest ≤ 8) (d : decode cc pc = .ok (.invokevirtual index, 3)) (kx : wk_T E K out σ' σ1 pc L q) : wk_V E K out σ' σ pc L stk := by
  intro H locs ls h1 h2 h3 h4 h5 T hT X
  obtain ⟨c', fs, rfl, hg, hcc⟩ := ho_is_of hr
  cases List.mem_singleton.mp hcc
  obtain ⟨hx, hb, -, -, -, hown, hts, hF, hbs, -, hfrK, hloK, -⟩ := C
  obtain ⟨f1, f2, f3, f4, f5, f6, f7⟩ := F
  obtain ⟨cellB, k1, k2, k3⟩ := wk_recv hF (h1.2 b _ hg) hc
  have hK := wk_backXW (R := kR K) (p := kp K) (e := ke K) (below := kb K) (s := ks K) (sargs := ka K) (len := 3) (W9 := 8) hM (by rw [hfrK]; exact hfr) (by rw [hloK]; exact hlo) hts f5 f4
  have hstk : stk.map tv = (av.map tv).reverse ++ .ref b :: rest.map tv := by rw [← hst, List.map_append, List.map_reverse]; rfl
  rcases vx_callVX X hx (C := cn) (bytes := bytes) (maxL := maxL) (ret := ret2) hown (hts _ f1) (hts _ f2) (hts _ f3) (hts _ f5) f6 hK (by rw [hT]; exact k1) k2 k3 (g := F0 (km K) pc ls (stk.map tv)) rfl h5.1 (argsL := av.map tv) (rest := rest.map tv) (fun sig h => by rw [List.length_map]; exact f7 sig h) hstk (lv_room (by rw [tv_sum]; exact hw)) (by rw [hb]; exact d) (wk_pre hF hbs hT h1 h2 h3 h4 rfl) with ⟨v, vm₁, B, hW₁, X', ⟨e1, hP⟩, st1⟩ | ⟨q9, vm₁, B, hW₁, X', ⟨e1, hP⟩, st1⟩
  · cases e1
  · cases e1
    exact wk_finX hT h2 h3 h4 h5 X' hP st1 kx
theorem ho_k_of {σ : Hs} {q k : Nat} (h : ho_k σ (some q) = some k) : ∃ fs, ho_g σ q = some (.inr (k, fs)) := by
  unfold ho_k at h
  rw [Option.bind_some] at h
  cases hg : ho_g σ q with
  | none => rw [hg] at h; cases h
  | some x =>
    rw [hg] at h
    rcases x with x | ⟨c, fs⟩
    · cases h
    · cases h
      exact ⟨fs, rfl⟩
/-- caught by the row x of the table -/
theorem wk_catchK (C : wk_C E K y cc nL ret fr lo tb) {q k hpc2 : Nat} {cn name : String} (hg : ho_k σ (some q) = some k) (hc : rx k cn) (pre : List ExceptionTableEntry) (x : ExceptionTableEntry) (suf : List ExceptionTableEntry) (hsplit : tb = pre ++ x :: suf)
    (hpass : ∀ z ∈ pre, covers z pc = false ∨ (z.catchType ≠ 0 ∧ ∃ nm : String, Cond.classLink y.cls z.catchType nm ∈ lw_all ∧ (cn, nm) ∈ wk_nc)) (hx : covers x pc = true) (h0 : x.catchType ≠ 0) (hlink : Cond.classLink y.cls x.catchType name ∈ lw_all) (hcast : Cond.castable cn name ∈ lw_tbl)
    (hpc : x.handlerPc = hpc2) (kk : wk_V E K out σ' σ hpc2 L [vR (some q)]) : wk_T E K out σ' σ pc L q := by
  obtain ⟨fs, hg⟩ := ho_k_of hg
  exact wk_catch C hg hc pre x suf hsplit hpass hx h0 hlink (lw_n hcast rfl) hpc kk
end WKCW
