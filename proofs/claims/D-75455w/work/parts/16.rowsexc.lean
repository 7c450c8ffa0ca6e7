/-! methods that throw: their ends, their calls, handlers -/
def ot_I (r : Int32 ⊕ Nat) : Ot := match r with
  | .inl x => .inl (some (.int x))
  | .inr q => .inr q
def ot_J (r : Int64 ⊕ Nat) : Ot := match r with
  | .inl x => .inl (some (.long x))
  | .inr q => .inr q
def ot_R (r : Option Nat ⊕ Nat) : Ot := match r with
  | .inl x => .inl (some (va_rf x))
  | .inr q => .inr q
def ot_V (r : Unit ⊕ Nat) : Ot := match r with
  | .inl _ => .inl none
  | .inr q => .inr q
/-- the answer of a method that may throw -/
def ho_x {α β : Type} (r : α ⊕ Nat) (f : α → Option β) (g : Nat → Option β) : Option β := match r with
  | .inl x => f x
  | .inr q => g q
theorem ho_xe {α β : Type} {r : α ⊕ Nat} {f : α → Option β} {g : Nat → Option β} {z : β} (h : ho_x r f g = some z) : (∃ x, r = .inl x ∧ f x = some z) ∨ ∃ q, r = .inr q ∧ g q = some z := by
  rcases r with x | q
  · exact Or.inl ⟨x, rfl, h⟩
  · exact Or.inr ⟨q, rfl, h⟩
/-- q, thrown over the frame at pc -/
def wk_T (E : Ev) (K : Kx) (out : Ot) (σ' σ : Hs) (pc : Nat) (L : Lc) (q : Nat) : Prop :=
  ∀ (H : Heap) (locs : List Loc) (ls : Array Slot) (st : List Value), wk_G E (ks K) σ H → va_S (wk_A E) (ks K).heap H locs → σ.2.1 ≤ (kR K).cells → σ.2.2 ≤ (kR K).slots → lv_has ls (kc K).maxLocals (lc_v L) →
    vx_W (kp K) (kl K) (ke K) (kR K) (ks K) (km K) (ka K) (kb K) (kM K) (kc K) H locs ((kR K).cells - σ.2.1) ((kR K).slots - σ.2.2) (wk_Q E K out σ') (F0 (km K) pc ls st) q
section WKX
variable {E : Ev} {K : Kx} {out : Ot} {σ' σ : Hs} {y : MethodName} {cc : ByteArray} {nL : Nat} {ret : Option FieldType} {fr lo : Nat} {tb : List ExceptionTableEntry} {pc : Nat} {L L' : Lc} {st : List TV}
theorem wk_Ctb (C : wk_C E K y cc nL ret fr lo tb) : (kc K).exceptionTable.toList = tb := C.2.2.2.2.2.2.2.2.2.2.2.2.2.1
theorem wk_tsub {q : Nat} (is : List Nat) (h : lc_pick L is = L') (k : wk_T E K out σ' σ pc L' q) : wk_T E K out σ' σ pc L q := fun H locs ls st h1 h2 h3 h4 h5 => k H locs ls st h1 h2 h3 h4 (lc_sub h5 is h)
/-- not caught here -/
theorem wk_out (C : wk_C E K y cc nL ret fr lo tb) {q : Nat} (hout : ∀ x ∈ tb, covers x pc = false) (ho : out = .inr q) (hs : σ' = σ) : wk_T E K out σ' σ pc L q := by
  subst ho; subst hs
  intro H locs ls st h1 h2 h3 h4 h5 T hT X
  obtain ⟨st1, hrun, hend, hW, hsm⟩ := X.leaveThrown q (g := F0 (km K) pc ls st) rfl rfl rfl (by rw [wk_Ctb C]; exact hout) C.2.2.2.2.1
  refine ⟨_, st1, .threw q, hrun, hend, rfl, hW, ⟨locs, hsm, h2.2.2⟩, ?_, ?_, h3, h4⟩
  · show wk_G E _ _ T.heap
    rw [hT]
    exact h1.moved hW.alike
  · exact h2.F hT
theorem wk_athrow (C : wk_C E K y cc nL ret fr lo tb) {q : Nat} {r : Option Nat} (hr : r = some q) (hout : ∀ x ∈ tb, covers x pc = false) (ho : out = .inr q) (hs : σ' = σ) (d : decode cc pc = .ok (.athrow, 1)) : wk_V E K out σ' σ pc L (vR r :: st) := by
  subst hr; subst ho; subst hs
  intro H locs ls h1 h2 h3 h4 h5 T hT X
  obtain ⟨st1, hrun, hend, hW, hsm⟩ := X.athrowLeaves C.1 (g := F0 (km K) pc ls (.ref q :: st.map tv)) rfl rfl rfl (by rw [wk_Ctb C]; exact hout) (a := q) (rest := st.map tv) rfl (by rw [C.2.1]; exact d) C.2.2.2.2.1
  refine ⟨_, st1, .threw q, hrun, hend, rfl, hW, ⟨locs, hsm, h2.2.2⟩, ?_, ?_, h3, h4⟩
  · show wk_G E _ _ T.heap
    rw [hT]
    exact h1.moved hW.alike
  · exact h2.F hT
/-- what a 'new X(); throw' needs of the tables -/
def tx (own : String) (ik ic k : Nat) (cls : String) (names : List String) : Prop := Bundle.fit cls = true ∧ (∀ n ∈ names, Bundle.fit n = true) ∧ Cond.classLink own ik cls ∈ lw_all ∧ Cond.initialized cls ∈ lw_all ∧ (∀ w ∈ vx_at0 own ic cls names, w ∈ lw_all ∨ w ∈ lw_nw) ∧ (∀ w ∈ Cond.classLink own ik cls :: Cond.initialized cls :: vx_at0 own ic cls names, vx_ot w = true) ∧ 220 ≤ k ∧ wk_sc k = (cls, [])
/-- 'throw new X()' -/
theorem wk_throw0 (C : wk_C E K y cc nL ret fr lo tb) {ik ic k q : Nat} {cls : String} {names : List String} {r : Option Nat} {σ1 : Hs} (F : tx y.cls ik ic k cls names) (hv : ho_new σ (.inr (k, [])) 6 = some (r, σ1)) (hr : r = some q) (ho : out = .inr q) (hs : σ' = σ1)
    (d0 : decode cc pc = .ok (.new ik, 3)) (d3 : decode cc (pc + 3) = .ok (.dup, 1)) (d4 : decode cc (pc + 4) = .ok (.invokespecial ic, 3)) (d7 : decode cc (pc + 7) = .ok (.athrow, 1))
    (hout : ∀ x ∈ tb, covers x (pc + 7) = false) (hRf : names.length + 3 < fr) (hRl : lc_w st + (13 * (names.length + 1) + 42) ≤ lo) : wk_V E K out σ' σ pc L st := by
  subst ho; subst hs
  intro H locs ls h1 h2 h3 h4 h5 T hT X
  obtain ⟨hexec, hb, hml, hret, hlocks, hown, hts, hF, hbs, hnm, hfr, hlo, hl, htb, -⟩ := C
  obtain ⟨hcls, hnames, fk, fini, fat, hgood, hk220, hsc⟩ := F
  obtain ⟨g1, g2, e1, rfl⟩ := ho_new_of hv
  rw [hr] at e1
  cases e1
  have hat : ∀ w ∈ vx_at0 y.cls ic cls names, w.before (ka K) (ks K) = true := fun w hw => (fat w hw).elim (hts w) (fun z => nw_use (List.mem_filter.mp z).2 (hF.2.1 w z))
  have hU := hF.2.2.2.2.2.2.2.1
  have hN := hF.2.2.2.2.2.2.2.2.1
  have htr : (ke K).platform.stackTraces = false := (show (ke K).platform.stackTraces = (kl K).stackTraces by rw [X.admits.platform]).trans hl
  have Y := vx_rebase X (R' := { frames := (kR K).frames, locals := (kR K).locals, cells := 1, slots := 6 }) (Nat.le_refl _) (Nat.le_refl _) (by show _ - _ + 1 ≤ _; omega) (by show _ - _ + 6 ≤ _; omega)
  obtain ⟨s', hA⟩ : ∃ z, z = (T.setVm (ks K).vm).setFrames (.invoking (km K) (ka K) :: (kb K)) := ⟨_, rfl⟩
  rw [← hA] at Y
  have hvm : s'.vm = (ks K).vm := by rw [hA]; rfl
  have hhp : s'.heap = H := by rw [hA]; exact hT
  have hW0 : (ks K).WarmedH s'.vm := by rw [hvm]; exact State.WarmedH.refl (ks K)
  have hat' : ∀ w ∈ vx_at0 y.cls ic cls names, w.before (ka K) s' = true := fun w hw => vx_ot_at hW0 hvm.symm (hgood w (List.mem_cons_of_mem _ (List.mem_cons_of_mem _ hw))) (hat w hw)
  have hk' : (Cond.classLink y.cls ik cls).before (ka K) s' = true := vx_ot_at hW0 hvm.symm (hgood _ List.mem_cons_self) (hts _ fk)
  have hini' : (Cond.initialized cls).before (ka K) s' = true := vx_ot_at hW0 hvm.symm (hgood _ (List.mem_cons_of_mem _ List.mem_cons_self)) (hts _ fini)
  have hU' : vx_Zq Bundle.tN "UNASSIGNED_STACK" Bundle.steD (wk_A E) s' s'.heap := by rw [hhp]; exact vx_Zq.moved hW0.alike (hU.kept h2.2.1)
  have hN' : vx_Zq Bundle.tN "SUPPRESSED_SENTINEL" Bundle.listD (wk_A E) s' s'.heap := by rw [hhp]; exact vx_Zq.moved hW0.alike (hN.kept h2.2.1)
  have h : ∀ w ∈ Bundle.ownAtoms0 y.cls ic cls names, w.before (ka K) s' = true := vx_own hat' (vx_isRefq hU'.1) (vx_isRefq hN'.1) hU'.2.word hN'.2.word
  have hown' : s'.vm.findClass y.cls = some (km K).cls := by rw [hvm]; exact hown
  have hins : (Cond.instantiable cls 6).before (ka K) s' = true := h _ (by simp [Bundle.ownAtoms0])
  obtain ⟨vm₁, cX, kX, hfX, hkX, -, -, X₁, st1⟩ := Y.newCold hexec (own := y.cls) (C := cls) (index := ik) (n := 6) hown' hk' hins hini'
    (g := F0 (km K) pc ls (st.map tv)) rfl (by rw [hb]; exact d0) (Nat.le_refl _) (Nat.le_refl _)
  generalize hT1 : (T.setVm vm₁).pushCell { cls := cX, slots := kX.instanceTypes.map defaultValue, vm := .none } = T1 at X₁ st1
  have hcat : (Value.ref T.heap.size).category = 1 := rfl
  have hcellA : T1.heap[T.heap.size]? = some (freshCell cX kX) := by rw [← hT1]; exact State.heap_pushCell_size _ _
  have d3' : decode (kc K).code (pc + 3) = .ok (.dup, 1) := by rw [hb]; exact d3
  obtain ⟨U, hsteps, hrun, hend, hW, hsame, ce, hce, hO⟩ := X₁.ctorThrow0 hexec htr (own := y.cls) (cls := cls) (names := names) (ic := ic) hown' hcls hnames h (fun x hx => nomatch hx) hfX hkX hcellA (by rw [hhp, hT]; exact Nat.le_refl _)
    (g := { method := (km K), pc := pc + 4, locals := ls, stack := .ref T.heap.size :: .ref T.heap.size :: st.map tv, locked := none }) rfl (by rw [h5.1]) rfl rfl (rest := st.map tv) rfl
    (by rw [hb]; exact d4) (by rw [hb]; exact d7) (by rw [htb]; exact hout) (by rw [hfr]; exact hRf) (by simp only [List.map_cons, List.sum_cons, hcat, tv_sum]; rw [hlo]; omega) hlocks
  obtain ⟨f1, f2⟩ := vx_frame hsame
  rw [hhp] at f1 f2
  have hWs : (ks K).WarmedH U.vm := State.WarmedH.trans hW0 hW
  have hcl : (ks K).vm.findClass cls = some ce.cls := by
    have h9 := hO.cls
    rw [hvm] at h9
    exact h9
  have hsz : U.heap.size ≤ H.size + 1 := by
    have h9 := hsame.2.2.1
    rw [hhp] at h9
    exact h9
  have hlt : T.heap.size < U.heap.size := (Array.getElem?_eq_some_iff.mp hce).1
  have hsz2 : U.heap.size = H.size + 1 := by rw [hT] at hlt; omega
  have hall : (ks K).sameButNew ({ U with vm := (ks K).vm } : State) locs ((kR K).cells - (σ.2.1 - 1)) ((kR K).slots - (σ.2.2 - 6)) := by
    subst hA
    obtain ⟨e1, e2⟩ := hsame
    rw [State.setFrames_setFrames] at e1
    have h2 : (T.setVm (ks K).vm).sameButNew ({ U with vm := (ks K).vm } : State) [] (0 + 1) (0 + 6) := ⟨e1, e2⟩
    have h3 := X.same.trans h2
    rw [List.append_nil] at h3
    exact h3.mono (by omega) (by omega)
  have hq : σ.1.size = T.heap.size := by rw [hT, h1.1]
  have hG : wk_G E (ks K) (ho_al σ (.inr (k, [])) 6) U.heap := by
    refine h1.push hsz2 (fun z hz => f2 z hz (fun z hz => nomatch hz)) ?_
    unfold wk_X
    dsimp only
    rw [if_neg (by omega), if_neg (by omega)]
    refine ⟨ce, by rw [hq]; exact hce, by rw [hO.vm]; rfl, by rw [hO.vm]; exact (fun z => by cases z), by rw [hsc]; exact hcl, fun j z v hz => ?_⟩
    rw [hsc] at hz
    cases hz
  refine ⟨U, ?_, .threw σ.1.size, hrun, by rw [hq]; exact hend, rfl, hWs, ⟨locs, hall, h2.2.2⟩, hG.moved hWs.alike, ⟨Nat.le_trans h2.1 f1, fun z hz1 hz2 => (f2 z (Nat.lt_of_lt_of_le hz1 h2.1) (fun z hz => nomatch hz)).trans (h2.2.1 z hz1 hz2)⟩, by show σ.2.1 - 1 ≤ _; omega, by show σ.2.2 - 6 ≤ _; omega⟩
  refine st1 _ ?_
  show Steps (kp K).tables (ke K) (kb K) (T1.setTop { method := (km K), pc := pc + 3, locals := ls, stack := .ref T.heap.size :: st.map tv, locked := none }) _
  jvm_step X₁.here [X₁.here.top, hexec, d3', Value.category]
  exact hsteps
/-- caught by the row x of this method's table; the rows ahead don't take it -/
theorem wk_catch (C : wk_C E K y cc nL ret fr lo tb) {q k hpc2 : Nat} {fs : List Value} {cn name : String} (hg : ho_g σ q = some (.inr (k, fs))) (hc : rx k cn) (pre : List ExceptionTableEntry) (x : ExceptionTableEntry) (suf : List ExceptionTableEntry) (hsplit : tb = pre ++ x :: suf)
    (hpass : ∀ z ∈ pre, covers z pc = false ∨ (z.catchType ≠ 0 ∧ ∃ nm : String, Cond.classLink y.cls z.catchType nm ∈ lw_all ∧ (cn, nm) ∈ wk_nc)) (hx : covers x pc = true) (h0 : x.catchType ≠ 0) (hlink : Cond.classLink y.cls x.catchType name ∈ lw_all) (hcast : Cond.castable cn name ∈ lw_nw)
    (hpc : x.handlerPc = hpc2) (kk : wk_V E K out σ' σ hpc2 L [vR (some q)]) : wk_T E K out σ' σ pc L q := by
  subst hpc
  intro H locs ls st h1 h2 h3 h4 h5 T hT X
  obtain ⟨hexec, hb, hml, hret, hlocks, hown, hts, hF, hbs, hnm, hfr, hlo, hl, htb, -⟩ := C
  obtain ⟨ce, hcell, hv, hcl⟩ := wk_recv hF (h1.2 q _ hg) hc
  have hpl : (ke K).platform.magicAccessors = ({} : Platform).magicAccessors := by rw [X.admits.platform]
  obtain ⟨c3, c4, hc3, hc4, hasg⟩ := Cond.castable_spec (nw_use (A := ka K) (List.mem_filter.mp hcast).2 (hF.2.1 _ hcast))
  cases Option.some.inj (hc3.symm.trans hcl)
  obtain ⟨c5, hc5, hcl5⟩ := Cond.classLink_spec hown (hts _ hlink) (ke K).platform hpl
  cases Option.some.inj (hc4.symm.trans hc5)
  obtain ⟨vm', X', st1⟩ := X.thenCaughtThrough q (g := F0 (km K) pc ls st) rfl (Steps.refl _) (by rw [hT]; exact hcell) hv (by obtain ⟨k9, h9, -⟩ := Vm.findClass_spec hcl; exact ⟨k9, h9⟩) pre x suf (htb.trans hsplit)
    (fun z hz => by
      rcases hpass z hz with h | ⟨hz0, nm, hl1, hn1⟩
      · exact Or.inl h
      · obtain ⟨c6, hc6, hcl6⟩ := Cond.classLink_spec hown (hts _ hl1) (ke K).platform hpl
        obtain ⟨a8, b8, k1, k2, k3⟩ := hF.2.2.2.2.1 _ hn1
        cases Option.some.inj (k1.symm.trans hcl)
        cases Option.some.inj (k2.symm.trans hc6)
        exact Or.inr ⟨hz0, _, hcl6, k3⟩) hx (Or.inr ⟨h0, c4, hcl5, hasg⟩)
  obtain ⟨t, a1, b1⟩ := kk H locs ls h1 h2 h3 h4 h5 (T.setVm vm') hT X'
  exact ⟨t, st1.trans a1, b1⟩
end WKX
section WKBX
variable {E : Ev} {l : Launch} {R : Room} {p : Program} {e : Env} {below : List Frame} {s : State} {sargs : Array Value} {y : MethodName} {len W9 : Nat}
/-- (follows vx_back of EXCEPTIONS.to-paste) a callee that returns or throws -/
theorem wk_backX {bytes : ByteArray} {maxL : Nat} {ret : Option FieldType} {fr lo : Nat} {av : List TV} {σ σ' : Hs} {out : Ot} (hM : wk_M E l y (ws_ y bytes maxL ret) fr lo av σ out σ')
    (hframes : fr + 1 ≤ R.frames) (hlocals : W9 + (maxL + 11) + lo ≤ R.locals) (hts : ∀ w ∈ lw_all, w.before sargs s = true) (hcode : Cond.code y bytes maxL ret ∈ lw_all) (hinit : Cond.initialized y.cls ∈ lw_all) :
    vx_Back l R p e below s sargs y len W9 (wk_Pre E R av σ) (fun A a v B => out = .inl v ∧ wk_Pst E σ σ' v A a v B) (fun A a q B => out = .inr q ∧ wk_Pst E σ σ' none A a none B) := by
  intro m meth c A g ig mk a X hg hsize hdg hW hn hp
  have hws : ∀ w ∈ ws_ y bytes maxL ret, ∀ (a' : Array Value) (U : State), s.WarmedH U.vm → w.before a' U = true := pay_in hts (lw_meth hcode)
  have h1 : (headSpec (ws_ y bytes maxL ret) ({ frames := fr, cells := σ.2.1, slots := σ.2.2, locals := lo } : Room)).pre.before a A.U = true := atoms_intro fun w hw => hws w hw _ _ X.warmed
  have h2 : (Cond.code y bytes maxL ret).before a A.U = true := hws _ List.mem_cons_self _ _ X.warmed
  have h3 : (Cond.initialized y.cls).before a A.U = true := pay_in hts lw_self _ hinit _ _ X.warmed
  obtain ⟨h4, h5, ha, hpp⟩ := hp
  have hPc : va_Pc (av.map tv) (fun U => wk_G E U σ U.heap ∧ wk_PF E U ∧ E.2.1 ≤ U.heap.size) a (A.U.calling g mk a) := ⟨ha, wk_calling hpp⟩
  obtain ⟨U, Ls, c0, s0⟩ := A
  dsimp only [Pt.U, Pt.locs, Pt.cells, Pt.slots] at h1 h2 h3 h4 h5 X hn hPc ⊢
  obtain ⟨methY, cY, hmY, hcY, -, hlY, -, -, -, -⟩ := Cond.code_spec hn h2
  obtain ⟨kY, hkY, -⟩ := className_of_methodNamed hn
  have hinitY : kY.init = .initialized := Cond.initialized_spec (findClass_of_methodNamed hn) hkY h3
  have h : At U g.method c below := by rw [hg]; exact X.here
  have happ : (headSpec (ws_ y bytes maxL ret) ({ frames := fr, cells := σ.2.1, slots := σ.2.2, locals := lo } : Room)).appliesLoose y e.platform (U.calling g mk a) = true :=
    Spec.appliesLoose_calling (g := g) h hdg hn hkY hinitY
      (X.room_calling (g := g) (R' := ({ frames := fr, cells := σ.2.1, slots := σ.2.2, locals := lo } : Room)) hsize hmY hcY hframes (by rw [hlY]; show _ + lo ≤ _; omega) h4 h5) h1
  obtain ⟨mid, hmid⟩ := h.above
  have hfr : (U.setTop g).frames = (.java g :: mid) ++ below := by rw [State.frames_setTop' g h.top, hmid]; rfl
  obtain ⟨o, s₂, hsteps, -, hend, hq⟩ := Steps.callFree hM p X.admits X.cas X.clock (acts := []) hfr happ hPc trivial
  rw [State.frames_setTop' g h.top] at hend
  obtain ⟨g₀, hg0⟩ := Option.isSome_iff_exists.mp h.top
  obtain ⟨r, hr⟩ := State.topJava?_eq_some.mp hg0
  have hr' : (({ U with heap := s₂.heap, slotsUsed := s₂.slotsUsed } : State).setVm s₂.vm).frames = .java g₀ :: r := hr
  have hq' : wk_O E σ.2.1 σ.2.2 out σ' (U.calling g mk a) o s₂ := hq
  obtain ⟨rfl, hW₂, ⟨L, hsm, hL⟩, hGt, hFt, hc5, hc6⟩ := hq'
  obtain ⟨e2, q2, q3, q4, q5, q6⟩ := id hsm
  have e3 : s₂ = ({ (U.calling g mk a).setFrames s₂.frames with heap := s₂.heap, slotsUsed := s₂.slotsUsed } : State).setVm s₂.vm := by
    have : s₂ = ({ s₂ with vm := (U.calling g mk a).vm } : State).setVm s₂.vm := rfl
    rw [e2] at this
    exact this
  have hW' : U.WarmedH s₂.vm := hW₂
  have hsame : U.sameButNew ({ U with heap := s₂.heap, slotsUsed := s₂.slotsUsed } : State) L (σ.2.1 - σ'.2.1) (σ.2.2 - σ'.2.2) := by
    refine ⟨?_, q2, q3, q4, q5, q6⟩
    obtain ⟨t, ht, -⟩ := State.frames_cons hr
    show ({ U with heap := s₂.heap, slotsUsed := s₂.slotsUsed } : State) = { U.setFrames U.frames with heap := s₂.heap, slotsUsed := s₂.slotsUsed }
    rw [State.setFrames_self ht]
  cases out with
  | inl v =>
    obtain ⟨c₂, i₂, len₂, hc₂, hd₂, hf₂⟩ := hend
    have hcc : c₂ = c := by
      have h1 : s₂.code? g.method = U.code? g.method := by
        rw [State.code?_eq, State.code?_eq, hW'.alike.method?]
      exact Option.some.inj (hc₂.symm.trans (h1.trans h.code))
    subst hcc
    have hlen : len₂ = len := by rw [hdg] at hd₂; cases hd₂; rfl
    subst hlen
    have hs₂ : s₂ = (({ U with heap := s₂.heap, slotsUsed := s₂.slotsUsed } : State).setVm s₂.vm).setTop { g with pc := g.pc + len₂, stack := v.toList ++ g.stack } := by
      refine e3.trans ?_
      rw [hf₂, State.calling_eq h.top, State.setFrames_setFrames, State.setTop_of_frames _ hr', hr]
      rfl
    subst hg
    refine Or.inl ⟨v, ⟨(({ U with heap := s₂.heap, slotsUsed := s₂.slotsUsed } : State).setVm s₂.vm), Ls ++ L, c0 + (σ.2.1 - σ'.2.1), s0 + (σ.2.2 - σ'.2.2)⟩,
      ⟨X.admits, X.cas, X.clock, X.frames, X.room, X.hears, X.method, X.code, (X.here.setHeapUsed s₂.heap s₂.slotsUsed).setVm hW'.alike, X.tail, State.WarmedH.trans X.warmed hW', X.limits, X.bytes, X.same.trans (hsame.setVm s.vm)⟩,
      ⟨rfl, rfl, s₂, L, rfl, rfl, hGt, hFt, rfl, hL, rfl, rfl, hc5, hc6⟩, ?_⟩
    show Steps p.tables e below _ ((({ U with heap := s₂.heap, slotsUsed := s₂.slotsUsed } : State).setVm s₂.vm).setTop { g with pc := g.pc + len₂, stack := v.toList ++ g.stack })
    rw [← hs₂]
    exact hsteps
  | inr q =>
    have hf₂ : s₂.frames = .throwing q :: .java g :: U.frames.tail := hend
    have hs₂ : s₂ = ((({ U with heap := s₂.heap, slotsUsed := s₂.slotsUsed } : State).setVm s₂.vm).setTop g).pushFrame (.throwing q) := by
      refine e3.trans ?_
      rw [hf₂, State.calling_eq h.top, State.setFrames_setFrames, State.pushFrame, State.frames_setTop _ hr', State.setTop_of_frames _ hr', State.setFrames_setFrames, hr]
      rfl
    subst hg
    refine Or.inr ⟨q, ⟨(({ U with heap := s₂.heap, slotsUsed := s₂.slotsUsed } : State).setVm s₂.vm), Ls ++ L, c0 + (σ.2.1 - σ'.2.1), s0 + (σ.2.2 - σ'.2.2)⟩,
      ⟨X.admits, X.cas, X.clock, X.frames, X.room, X.hears, X.method, X.code, (X.here.setHeapUsed s₂.heap s₂.slotsUsed).setVm hW'.alike, X.tail, State.WarmedH.trans X.warmed hW', X.limits, X.bytes, X.same.trans (hsame.setVm s.vm)⟩,
      ⟨rfl, rfl, s₂, L, rfl, rfl, hGt, hFt, rfl, hL, rfl, rfl, hc5, hc6⟩, ?_⟩
    show Steps p.tables e below _ (((({ U with heap := s₂.heap, slotsUsed := s₂.slotsUsed } : State).setVm s₂.vm).setTop g).pushFrame (.throwing q))
    rw [← hs₂]
    exact hsteps
end WKBX
section WKCX
variable {E : Ev} {K : Kx} {out : Ot} {σ' σ σ1 : Hs} {y : MethodName} {cc : ByteArray} {nL : Nat} {ret : Option FieldType} {fr lo : Nat} {tb : List ExceptionTableEntry} {pc : Nat} {L L' : Lc} {st rest stk stk2 : List TV} {rv : Option TV} {av : List TV}
/-- behind a call that has thrown -/
theorem wk_finX {H : Heap} {locs : List Loc} {ls : Array Slot} {T : State} {a : Array Value} {q : Nat} (hT : T.heap = H) (h2 : va_S (wk_A E) (ks K).heap H locs) (h3 : σ.2.1 ≤ (kR K).cells) (h4 : σ.2.2 ≤ (kR K).slots) (h5 : lv_has ls (kc K).maxLocals (lc_v L))
    {vm₁ : Vm} {B : Pt} (X' : Stand (kp K) (kl K) (ke K) (kR K) (ks K) (km K) (ka K) (kb K) (kM K) (kc K) B.U B.locs B.cells B.slots) (hP : wk_Pst E σ σ1 none ⟨T.setVm vm₁, locs, (kR K).cells - σ.2.1, (kR K).slots - σ.2.2⟩ a none B)
    (st1 : Steps (kp K).tables (ke K) (kb K) (T.setTop (F0 (km K) pc ls (stk.map tv))) ((B.U.setTop { F0 (km K) pc ls (stk.map tv) with stack := rest.map tv }).pushFrame (.throwing q)))
    (kx : wk_T E K out σ' σ1 pc L q) : ∃ t, Steps (kp K).tables (ke K) (kb K) (T.setTop (F0 (km K) pc ls (stk.map tv))) t ∧ wk_Q E K out σ' t := by
  obtain ⟨U', l2, c2, s2⟩ := B
  obtain ⟨-, t, Lo, e1, e2, hG, hF, g1, hL, g2, g3, g4, g5⟩ := hP
  dsimp only [Pt.U, Pt.locs, Pt.cells, Pt.slots] at X' e1 e2 g1 g2 g3 st1 hF
  subst g1; subst g2; subst g3
  have hz : H.size ≤ U'.heap.size := by rw [e1, ← hT]; exact hF.1
  have hkp : ∀ q : Nat, q < H.size → ¬ wk_A E q → U'.heap[q]? = H[q]? := fun q h1 h2 => by
    rw [e1, ← hT]
    exact hF.2 q (by rw [show (T.setVm vm₁).heap = T.heap from rfl, hT]; exact h1) h2
  have hS : va_S (wk_A E) (ks K).heap U'.heap (locs ++ Lo) := ⟨Nat.le_trans h2.1 hz, fun q k1 k2 => (hkp q (Nat.lt_of_lt_of_le k1 h2.1) k2).trans (h2.2.1 q k1 k2), fun q hq => (List.mem_append.mp hq).elim (h2.2.2 q) (hL q)⟩
  have hG' : wk_G E (ks K) σ1 U'.heap := by
    rw [e1]
    refine hG.moved ?_
    rw [← e2]
    exact X'.warmed.alike.symm
  have V := kx U'.heap (locs ++ Lo) ls (rest.map tv) hG' hS (Nat.le_trans g4 h3) (Nat.le_trans g5 h4) h5
  rw [show (kR K).cells - σ1.2.1 = (kR K).cells - σ.2.1 + (σ.2.1 - σ1.2.1) by omega, show (kR K).slots - σ1.2.2 = (kR K).slots - σ.2.2 + (σ.2.2 - σ1.2.2) by omega] at V
  obtain ⟨t2, a1, b1⟩ := V U' rfl X'
  exact ⟨t2, st1.trans a1, b1⟩
theorem wk_callSX (C : wk_C E K y cc nL ret fr lo tb) {index maxL fr2 lo2 : Nat} {z : MethodName} {bytes : ByteArray} {ret2 : Option FieldType} {o : Ot} (F : cxS y.cls index z bytes maxL ret2 av.length) (hM : wk_M E (kl K) z (ws_ z bytes maxL ret2) fr2 lo2 av σ o σ1) (hst : av.reverse ++ rest = stk) (hfr : fr2 + 1 ≤ fr) (hlo : 8 + (maxL + 11) + lo2 ≤ lo) (hw : lc_w rest ≤ 8) (d : decode cc pc = .ok (.invokestatic index, 3))
    (kk : ∀ v : Option TV, o = .inl (v.map tv) → wk_V E K out σ' σ1 (pc + 3) L (v.toList ++ rest)) (ho : ∀ v, o = .inl v → ∃ u : Option TV, v = u.map tv) (kx : ∀ q, o = .inr q → wk_T E K out σ' σ1 pc L q) : wk_V E K out σ' σ pc L stk := by
  intro H locs ls h1 h2 h3 h4 h5 T hT X
  obtain ⟨hx, hb, -, -, -, hown, hts, hF, hbs, -, hfrK, hloK, -⟩ := C
  obtain ⟨f1, f2, f3, f4, f5, f6⟩ := F
  have hK := wk_backX (R := kR K) (p := kp K) (e := ke K) (below := kb K) (s := ks K) (sargs := ka K) (len := 3) (W9 := 8) hM (by rw [hfrK]; exact hfr) (by rw [hloK]; exact hlo) hts f4 f3
  have hstk : stk.map tv = (av.map tv).reverse ++ rest.map tv := by rw [← hst, List.map_append, List.map_reverse]
  rcases vx_callS X hx (bytes := bytes) (maxL := maxL) (ret := ret2) hown (hts _ f1) (hts _ f2) (hts _ f3) (hts _ f4) f5 hK (g := F0 (km K) pc ls (stk.map tv)) rfl h5.1 (argsL := av.map tv) (rest := rest.map tv) (fun sig h => by rw [List.length_map]; exact f6 sig h) hstk (lv_room (by rw [tv_sum]; exact hw)) (by rw [hb]; exact d) (wk_pre hF hbs hT h1 h2 h3 h4 rfl) with ⟨v, vm₁, B, hW₁, X', ⟨rfl, hP⟩, st1⟩ | ⟨q, vm₁, B, hW₁, X', ⟨rfl, hP⟩, st1⟩
  · obtain ⟨u, rfl⟩ := ho v rfl
    exact wk_fin (rv := u) (a := (av.map tv).toArray) hT h2 h3 h4 h5 rfl rfl ⟨_, vm₁, B, hW₁, X', hP, st1⟩ (kk u rfl)
  · exact wk_finX hT h2 h3 h4 h5 X' hP st1 (kx q rfl)
theorem wk_callVX (C : wk_C E K y cc nL ret fr lo tb) {index maxL fr2 lo2 b c : Nat} {cn : String} {z : MethodName} {bytes : ByteArray} {ret2 : Option FieldType} {r : Option Nat} {o : Ot} (hr : ho_is σ r [c] = some b) (hc : rx c cn) (F : cxV y.cls cn index z bytes maxL ret2 av.length) (hM : wk_M E (kl K) z (ws_ z bytes maxL ret2) fr2 lo2 (vR r :: av) σ o σ1) (hst : av.reverse ++ vR r :: rest = stk) (hfr : fr2 + 1 ≤ fr) (hlo : 8 + (maxL + 11) + lo2 ≤ lo) (hw : lc_w rest ≤ 8) (d : decode cc pc = .ok (.invokevirtual index, 3))
    (kk : ∀ v : Option TV, o = .inl (v.map tv) → wk_V E K out σ' σ1 (pc + 3) L (v.toList ++ rest)) (ho : ∀ v, o = .inl v → ∃ u : Option TV, v = u.map tv) (kx : ∀ q, o = .inr q → wk_T E K out σ' σ1 pc L q) : wk_V E K out σ' σ pc L stk := by
  intro H locs ls h1 h2 h3 h4 h5 T hT X
  obtain ⟨c', fs, rfl, hg, hcc⟩ := ho_is_of hr
  cases List.mem_singleton.mp hcc
  obtain ⟨hx, hb, -, -, -, hown, hts, hF, hbs, -, hfrK, hloK, -⟩ := C
  obtain ⟨f1, f2, f3, f4, f5, f6, f7⟩ := F
  obtain ⟨cellB, k1, k2, k3⟩ := wk_recv hF (h1.2 b _ hg) hc
  have hK := wk_backX (R := kR K) (p := kp K) (e := ke K) (below := kb K) (s := ks K) (sargs := ka K) (len := 3) (W9 := 8) hM (by rw [hfrK]; exact hfr) (by rw [hloK]; exact hlo) hts f5 f4
  have hstk : stk.map tv = (av.map tv).reverse ++ .ref b :: rest.map tv := by rw [← hst, List.map_append, List.map_reverse]; rfl
  rcases vx_callV X hx (C := cn) (bytes := bytes) (maxL := maxL) (ret := ret2) hown (hts _ f1) (hts _ f2) (hts _ f3) (hts _ f5) f6 hK (by rw [hT]; exact k1) k2 k3 (g := F0 (km K) pc ls (stk.map tv)) rfl h5.1 (argsL := av.map tv) (rest := rest.map tv) (fun sig h => by rw [List.length_map]; exact f7 sig h) hstk (lv_room (by rw [tv_sum]; exact hw)) (by rw [hb]; exact d) (wk_pre hF hbs hT h1 h2 h3 h4 rfl) with ⟨v, vm₁, B, hW₁, X', ⟨rfl, hP⟩, st1⟩ | ⟨q, vm₁, B, hW₁, X', ⟨rfl, hP⟩, st1⟩
  · obtain ⟨u, rfl⟩ := ho v rfl
    exact wk_fin (rv := u) (a := ((vR (some b) :: av).map tv).toArray) hT h2 h3 h4 h5 rfl rfl ⟨_, vm₁, B, hW₁, X', hP, st1⟩ (kk u rfl)
  · exact wk_finX hT h2 h3 h4 h5 X' hP st1 (kx q rfl)
end WKCX
/-- the start of a method with handlers -/
theorem wk_startW {E : Ev} {l : Launch} {y : MethodName} {cc : ByteArray} {nL : Nat} {ret : Option FieldType} {hh : List (Nat × Nat × Nat × Nat)} {fr lo : Nat} {av : List TV} {σ σ' : Hs} {out : Ot} (hy : plainFor y = true) (hl : l.stackTraces = false) (hw : lc_w av ≤ nL)
    (body : ∀ K : Kx, wk_C E K y cc nL ret fr lo (tableOf hh) → kl K = l → wk_V E K out σ' σ 0 (lc_args 0 av) []) : wk_M E l y (wsW_ y cc nL ret hh) fr lo av σ out σ' := by
  refine MetFree.of_bodySF (code := cc) (maxLocals := nL) (ret := ret) hy ?_ ?_
  · intro args s m h hn
    obtain ⟨m9, meth, c, hn9, h1, h2, h3, h4, -, h5, h6, -⟩ := Cond.codeWith_spec (atoms_spec (ws := wsW_ y cc nL ret hh) h _ List.mem_cons_self)
    cases hn.symm.trans hn9
    exact ⟨meth, c, h1, h2, h3, h4, h5, h6⟩
  · intro p e s m args below meth c s₁ B hml hP _
    obtain ⟨rfl, hG, hF, hbs⟩ := hP
    have hh0 : s₁.heap = s.heap := by rw [B.state]; rfl
    have hts : ∀ w ∈ lw_all, w.before (av.map tv).toArray s = true := fun w h => atoms_spec (ws := wsW_ y cc nL ret hh) B.pre w (List.mem_cons_of_mem _ h)
    have ht : c.exceptionTable.toList = tableOf hh := vx_table (x := y) B (atoms_spec (ws := wsW_ y cc nL ret hh) B.pre _ List.mem_cons_self)
    have V := body (p, l, e, ({ frames := fr, cells := σ.2.1, slots := σ.2.2, locals := lo } : Room), s, m, (av.map tv).toArray, below, meth, c)
      ⟨B.exec, B.bytes, hml, B.returns, B.notSynchronized, findClass_of_methodNamed B.named, hts, hF, hbs, (name_of_methodNamed B.named B.method).1, rfl, rfl, hl, ht, B.named⟩ rfl
    have hlv := lv_entry (av.map tv) (n := nL) (by rw [lc_w_sl]; exact hw)
    rw [lc_args_v] at hlv
    have V2 := V s.heap [] _ hG va_S.rf (Nat.le_refl _) (Nat.le_refl _) (by rw [show (kc _).maxLocals = nL from hml]; exact hlv)
    have V3 := W.cs (Nat.sub_self _).symm (Nat.sub_self _).symm V2
    obtain ⟨t, a1, o, b1, b2, b3⟩ := V3 s₁ hh0 (Stand.of_body B)
    refine ⟨t, o, ?_, b1, b2, b3⟩
    rw [lg_entry_eq]
    exact a1
