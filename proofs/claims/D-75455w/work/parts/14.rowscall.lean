/-! new objects and arrays, returns, a method's start, calls -/
/-- the entry 'index' of class own names a class whose objects are of kind ci, N fields, fs at their birth -/
def nx (own : String) (index ci N : Nat) (fs : List Value) : Prop := ci < 100 ∧ fs.length = N ∧ ∃ (C : String) (T : u_T) (ty : Nat → FieldType), vwCl[ci]? = some (C, T, N) ∧ vwTy[ci]? = some ty ∧ Cond.classLink own index C ∈ lw_all ∧ Cond.instantiable C N ∈ lw_all ∧ Cond.initialized C ∈ lw_all ∧ ∀ j, j < N → defaultValue (ty j) = vp_V fs j
theorem W.post {p : Program} {l : Launch} {e : Env} {R : Room} {s : State} {m : MethodId} {args : Array Value} {below : List Frame} {meth : Method} {c : Code} {H : Heap} {locs : List Loc} {cells slots : Nat} {Q1 Q2 : State → Prop} {g : JFrame} (h : ∀ t, Q1 t → Q2 t) (k : W p l e R s m args below meth c H locs cells slots Q1 g) : W p l e R s m args below meth c H locs cells slots Q2 g := by
  intro T hT X
  obtain ⟨t, a, b⟩ := k T hT X
  exact ⟨t, a, h t b⟩
section WKN
variable {E : Ev} {K : Kx} {out : Ot} {σ' σ : Hs} {y : MethodName} {cc : ByteArray} {nL : Nat} {ret : Option FieldType} {fr lo : Nat} {tb : List ExceptionTableEntry} {pc : Nat} {L L' : Lc} {st : List TV}
theorem wk_new (C : wk_C E K y cc nL ret fr lo tb) {index ci N : Nat} {fs : List Value} {r : Option Nat} {σ1 : Hs} (F : nx y.cls index ci N fs) (hv : ho_new σ (.inr (ci, fs)) N = some (r, σ1)) (d : decode cc pc = .ok (.new index, 3)) (kk : wk_V E K out σ' σ1 (pc + 3) L (vR r :: st)) : wk_V E K out σ' σ pc L st := by
  intro H locs ls h1 h2 h3 h4 h5
  obtain ⟨hx, hb, -, -, -, hown, hts, hF, hbs, -⟩ := C
  obtain ⟨hci, hlen, Cn, T, ty, hc, hty, hcl, hins, hini, hfs⟩ := F
  obtain ⟨g1, g2, rfl, rfl⟩ := ho_new_of hv
  obtain ⟨hin, htyk, hnm⟩ := vw_all ci _ ty hc hty
  have hKn := hF.1 ci _ hc
  refine W.newcK (g := F0 (km K) pc ls (st.map tv)) hx hb hown (hts _ hcl) (hts _ hins) (hts _ hini) rfl d (by omega) (by omega) hKn.2.1 rfl fun H1 kC hkC e1 z1 o1 => ?_
  have hG : wk_G E (ks K) (ho_al σ (.inr (ci, fs)) N) H1 := by
    refine h1.push z1 o1 ?_
    unfold wk_X
    dsimp only
    rw [if_pos hci, ← h1.1]
    exact ⟨⟨_, hc, hlen, (u_born ty hts hin hKn hkC e1 htyk).to hfs⟩, Nat.le_trans hbs h2.1⟩
  have hS : va_S (wk_A E) (ks K).heap H1 locs := ⟨Nat.le_trans h2.1 (by omega), fun x k1 k2 => (o1 x (Nat.lt_of_lt_of_le k1 h2.1)).trans (h2.2.1 x k1 k2), h2.2.2⟩
  have hh := kk H1 locs ls hG hS (by show σ.2.1 - 1 ≤ _; omega) (by show σ.2.2 - N ≤ _; omega) h5
  rw [← h1.1] at hh
  exact W.cs (by show _ = (kR K).cells - (σ.2.1 - 1); omega) (by show _ = (kR K).slots - (σ.2.2 - N); omega) hh
theorem wk_newarr (C : wk_C E K y cc nL ret fr lo tb) {atype : ArrayType} {k : Nat} {n : Int32} {r : Option Nat} {x : (Nat → Int32) ⊕ (Nat → Int64) ⊕ (Nat → UInt32) ⊕ (Nat → UInt64) ⊕ (Nat → Option Nat)} {σ1 : Hs} (hk : k < 90) (hty : newarray.typeOf atype = ho_ty k) (hcp : ∀ (U : State) (cA : ClassId), wk_cp U k cA) (hx0 : ∀ j, ho_v (n.toNatClampNeg, x) j = defaultValue (ho_ty k)) (harr : Cond.arrayClass (ho_ty k) ∈ lw_all) (hcb : componentBytes (ho_ty k) ≤ 8) (hn : ¬ n < 0) (hm : n.toNatClampNeg ≤ 60000000) (hv : ho_new σ (.inl (k, n.toNatClampNeg, x)) n.toNatClampNeg = some (r, σ1)) (d : decode cc pc = .ok (.newarray atype, 2)) (kk : wk_V E K out σ' σ1 (pc + 2) L (vR r :: st)) : wk_V E K out σ' σ pc L (vI n :: st) := by
  intro H locs ls h1 h2 h3 h4 h5
  obtain ⟨hx, hb, -, -, -, hown, hts, hF, hbs, -⟩ := C
  obtain ⟨g1, g2, rfl, rfl⟩ := ho_new_of hv
  have hbt : n.toNatClampNeg * componentBytes (newarray.typeOf atype) ≤ 536870912 := by
    rw [hty]
    have : n.toNatClampNeg * componentBytes (ho_ty k) ≤ 60000000 * 8 := Nat.mul_le_mul hm hcb
    omega
  refine va_newaK (g := F0 (km K) pc ls (.int n :: st.map tv)) hx hb (by rw [hty]; exact hts _ harr) rfl d rfl hn rfl hbt (by omega) (by omega) rfl fun H1 cA e1 z1 o1 hAr hNm => ?_
  rw [hty] at e1 hAr hNm
  have hG : wk_G E (ks K) (ho_al σ (.inl (k, n.toNatClampNeg, x)) n.toNatClampNeg) H1 := by
    refine h1.push z1 o1 ?_
    rw [← h1.1]
    refine ⟨?_, fun _ => Nat.le_trans hbs h2.1⟩
    unfold wk_XA
    dsimp only
    rw [if_pos hk]
    refine ⟨cA, ?_, hAr, hNm, hcp _ _⟩
    rw [e1, ho_v_cell]
    congr 2
    funext j
    exact (hx0 j).symm
  have hS : va_S (wk_A E) (ks K).heap H1 locs := ⟨Nat.le_trans h2.1 (by omega), fun x k1 k2 => (o1 x (Nat.lt_of_lt_of_le k1 h2.1)).trans (h2.2.1 x k1 k2), h2.2.2⟩
  have hh := kk H1 locs ls hG hS (by show σ.2.1 - 1 ≤ _; omega) (by show σ.2.2 - _ ≤ _; omega) h5
  rw [← h1.1] at hh
  exact W.cs (by show _ = (kR K).cells - (σ.2.1 - 1); omega) (by show _ = (kR K).slots - (σ.2.2 - _); omega) hh
theorem wk_newaI (C : wk_C E K y cc nL ret fr lo tb) {n : Int32} {r : Option Nat} {σ1 : Hs} (harr : Cond.arrayClass .int ∈ lw_all) (hv : ho_nI σ 0 n = some (r, σ1)) (d : decode cc pc = .ok (.newarray .int, 2)) (kk : wk_V E K out σ' σ1 (pc + 2) L (vR r :: st)) : wk_V E K out σ' σ pc L (vI n :: st) := by
  unfold ho_nI at hv
  split at hv
  · next hn => exact wk_newarr C (k := 0) (by decide) rfl (fun _ _ => trivial) (fun _ => rfl) harr (by decide) hn.1 hn.2 hv d kk
  · cases hv
theorem wk_newaB (C : wk_C E K y cc nL ret fr lo tb) {n : Int32} {r : Option Nat} {σ1 : Hs} (harr : Cond.arrayClass .byte ∈ lw_all) (hv : ho_nI σ 2 n = some (r, σ1)) (d : decode cc pc = .ok (.newarray .byte, 2)) (kk : wk_V E K out σ' σ1 (pc + 2) L (vR r :: st)) : wk_V E K out σ' σ pc L (vI n :: st) := by
  unfold ho_nI at hv
  split at hv
  · next hn => exact wk_newarr C (k := 2) (by decide) rfl (fun _ _ => trivial) (fun _ => rfl) harr (by decide) hn.1 hn.2 hv d kk
  · cases hv
theorem wk_newaJ (C : wk_C E K y cc nL ret fr lo tb) {n : Int32} {r : Option Nat} {σ1 : Hs} (harr : Cond.arrayClass .long ∈ lw_all) (hv : ho_nJ σ n = some (r, σ1)) (d : decode cc pc = .ok (.newarray .long, 2)) (kk : wk_V E K out σ' σ1 (pc + 2) L (vR r :: st)) : wk_V E K out σ' σ pc L (vI n :: st) := by
  unfold ho_nJ at hv
  split at hv
  · next hn => exact wk_newarr C (k := 1) (by decide) rfl (fun _ _ => trivial) (fun _ => rfl) harr (by decide) hn.1 hn.2 hv d kk
  · cases hv
/-! returns -/
theorem wk_end {v : Option Value} {H : Heap} {locs : List Loc} {ls : Array Slot} (h1 : wk_G E (ks K) σ H) (h2 : va_S (wk_A E) (ks K).heap H locs) (h3 : σ.2.1 ≤ (kR K).cells) (h4 : σ.2.2 ≤ (kR K).slots) {g : JFrame}
    (k : W (kp K) (kl K) (ke K) (kR K) (ks K) (km K) (ka K) (kb K) (kM K) (kc K) H locs ((kR K).cells - σ.2.1) ((kR K).slots - σ.2.2) (MQ (kb K) (fun _ st o t => o = .returned v ∧ wk_G E t σ t.heap ∧ va_F (wk_A E) st t) (ka K) (ks K) ((kR K).cells - σ.2.1) ((kR K).slots - σ.2.2) (wk_A E)) g) :
    W (kp K) (kl K) (ke K) (kR K) (ks K) (km K) (ka K) (kb K) (kM K) (kc K) H locs ((kR K).cells - σ.2.1) ((kR K).slots - σ.2.2) (wk_Q E K (.inl v) σ) g := by
  refine W.post (fun t ht => ?_) k
  obtain ⟨o, hrun, hend, ⟨rfl, hG, hF⟩, L, ⟨-, hW, hsame⟩, hL⟩ := ht
  exact ⟨_, hrun, hend, rfl, hW, ⟨L, hsame, hL⟩, hG, hF, h3, h4⟩
theorem wk_iret (C : wk_C E K y cc nL (some .int) fr lo tb) {x : Int32} (ho : out = .inl (some (.int x))) (hs : σ' = σ) (d : decode cc pc = .ok (.ireturn, 1)) : wk_V E K out σ' σ pc L [vI x] := by
  subst ho; subst hs
  intro H locs ls h1 h2 h3 h4 h5
  exact wk_end h1 h2 h3 h4 (ls := ls) (W.iret C.1 C.2.1 C.2.2.2.1 (fun t ht hW => ⟨rfl, by rw [ht]; exact h1.moved hW.alike, h2.F ht⟩) h2.2.2 d C.2.2.2.2.1)
theorem wk_zret (C : wk_C E K y cc nL (some .boolean) fr lo tb) {x v : Int32} (hv : ho_bool x = some v) (ho : out = .inl (some (.int v))) (hs : σ' = σ) (d : decode cc pc = .ok (.ireturn, 1)) : wk_V E K out σ' σ pc L [vI x] := by
  subst ho; subst hs
  unfold ho_bool at hv
  split at hv
  · next hx =>
    cases hv
    intro H locs ls h1 h2 h3 h4 h5
    exact wk_end h1 h2 h3 h4 (ls := ls) (W.zret C.1 C.2.1 C.2.2.2.1 (by rcases hx with rfl | rfl <;> rfl) (fun t ht hW => ⟨rfl, by rw [ht]; exact h1.moved hW.alike, h2.F ht⟩) h2.2.2 d C.2.2.2.2.1)
  · cases hv
theorem wk_cret (C : wk_C E K y cc nL (some .char) fr lo tb) {x : Int32} (hn : narrow .char (.int x) = .int x) (ho : out = .inl (some (.int x))) (hs : σ' = σ) (d : decode cc pc = .ok (.ireturn, 1)) : wk_V E K out σ' σ pc L [vI x] := by
  subst ho; subst hs
  intro H locs ls h1 h2 h3 h4 h5
  exact wk_end h1 h2 h3 h4 (ls := ls) (W.zret C.1 C.2.1 C.2.2.2.1 hn (fun t ht hW => ⟨rfl, by rw [ht]; exact h1.moved hW.alike, h2.F ht⟩) h2.2.2 d C.2.2.2.2.1)
theorem wk_lret (C : wk_C E K y cc nL (some .long) fr lo tb) {x : Int64} (ho : out = .inl (some (.long x))) (hs : σ' = σ) (d : decode cc pc = .ok (.lreturn, 1)) : wk_V E K out σ' σ pc L [vJ x] := by
  subst ho; subst hs
  intro H locs ls h1 h2 h3 h4 h5
  exact wk_end h1 h2 h3 h4 (ls := ls) (W.lret C.1 C.2.1 C.2.2.2.1 (fun t ht hW => ⟨rfl, by rw [ht]; exact h1.moved hW.alike, h2.F ht⟩) h2.2.2 d C.2.2.2.2.1)
theorem wk_vret (C : wk_C E K y cc nL none fr lo tb) (ho : out = .inl none) (hs : σ' = σ) (d : decode cc pc = .ok (.return_, 1)) : wk_V E K out σ' σ pc L [] := by
  subst ho; subst hs
  intro H locs ls h1 h2 h3 h4 h5
  exact wk_end h1 h2 h3 h4 (ls := ls) (W.vret C.1 C.2.1 C.2.2.2.1 (fun t ht hW => ⟨rfl, by rw [ht]; exact h1.moved hW.alike, h2.F ht⟩) h2.2.2 d C.2.2.2.2.1)
theorem wk_aret {ty : FieldType} (C : wk_C E K y cc nL (some ty) fr lo tb) {r : Option Nat} (hty : (∃ n, ty = .object n) ∨ ∃ t, ty = .array t) (ho : out = .inl (some (va_rf r))) (hs : σ' = σ) (d : decode cc pc = .ok (.areturn, 1)) : wk_V E K out σ' σ pc L [vR r] := by
  subst ho; subst hs
  intro H locs ls h1 h2 h3 h4 h5
  exact wk_end h1 h2 h3 h4 (ls := ls) (W.aret C.1 C.2.1 C.2.2.2.1 hty (by cases r with | none => exact Or.inl rfl | some a => exact Or.inr ⟨a, rfl⟩) (fun t ht hW => ⟨rfl, by rw [ht]; exact h1.moved hW.alike, h2.F ht⟩) h2.2.2 d C.2.2.2.2.1)
end WKN
/-! a method's start -/
theorem wk_start {E : Ev} {l : Launch} {y : MethodName} {cc : ByteArray} {nL : Nat} {ret : Option FieldType} {fr lo : Nat} {av : List TV} {σ σ' : Hs} {out : Ot} (hy : plainFor y = true) (hl : l.stackTraces = false) (hw : lc_w av ≤ nL)
    (body : ∀ K : Kx, wk_C E K y cc nL ret fr lo [] → kl K = l → wk_V E K out σ' σ 0 (lc_args 0 av) []) : wk_M E l y (ws_ y cc nL ret) fr lo av σ out σ' := by
  refine MetFree.of_bodySF (code := cc) (maxLocals := nL) (ret := ret) hy ?_ ?_
  · intro args s m h hn
    obtain ⟨meth, c, h1, h2, h3, h4, h5, h6, -, -⟩ := Cond.code_spec hn (atoms_spec (ws := ws_ y cc nL ret) h _ List.mem_cons_self)
    exact ⟨meth, c, h1, h2, h3, h4, h5, h6⟩
  · intro p e s m args below meth c s₁ B hml hP _
    obtain ⟨rfl, hG, hF, hbs⟩ := hP
    have hh0 : s₁.heap = s.heap := by rw [B.state]; rfl
    have hts : ∀ w ∈ lw_all, w.before (av.map tv).toArray s = true := fun w h => atoms_spec (ws := ws_ y cc nL ret) B.pre w (List.mem_cons_of_mem _ h)
    have ht : c.exceptionTable.toList = [] := by
      obtain ⟨meth9, c9, h1, h2, -, -, -, -, h7, -⟩ := Cond.code_spec B.named (atoms_spec (ws := ws_ y cc nL ret) B.pre _ List.mem_cons_self)
      cases Option.some.inj (h1.symm.trans B.method)
      cases Option.some.inj (h2.symm.trans (Stand.of_body B).code)
      rw [Array.isEmpty_iff.mp h7]
    have V := body (p, l, e, ({ frames := fr, cells := σ.2.1, slots := σ.2.2, locals := lo } : Room), s, m, (av.map tv).toArray, below, meth, c)
      ⟨B.exec, B.bytes, hml, B.returns, B.notSynchronized, findClass_of_methodNamed B.named, hts, hF, hbs, (name_of_methodNamed B.named B.method).1, rfl, rfl, hl, ht, B.named⟩ rfl
    have hlv := lv_entry (av.map tv) (n := nL) (by rw [lc_w_sl]; exact hw)
    rw [lc_args_v] at hlv
    have V2 := V s.heap [] _ hG va_S.rf (Nat.le_refl _) (Nat.le_refl _) (by rw [show (kc _).maxLocals = nL from hml]; exact hlv)
    have V3 := W.cs (Nat.sub_self _).symm (Nat.sub_self _).symm V2
    obtain ⟨t, a1, o, b1, b2, b3⟩ := V3 s₁ hh0 (Stand.of_body B)
    refine ⟨t, o, ?_, b1, b2, b3⟩
    rw [lg_entry_eq]
    exact a1
/-! calls -/
def wk_Pre (E : Ev) (R : Room) (av : List TV) (σ : Hs) : Pt → Array Value → Prop := fun A a => A.cells + σ.2.1 ≤ R.cells ∧ A.slots + σ.2.2 ≤ R.slots ∧ a = (av.map tv).toArray ∧ wk_G E A.U σ A.U.heap ∧ wk_PF E A.U ∧ E.2.1 ≤ A.U.heap.size
def wk_Pst (E : Ev) (σ σ' : Hs) (rv : Option Value) : Pt → Array Value → Option Value → Pt → Prop := fun A _ v B => v = rv ∧ ∃ (t : State) (L : List Loc), B.U.heap = t.heap ∧ B.U.vm = t.vm ∧ wk_G E t σ' t.heap ∧ va_F (wk_A E) A.U t ∧ B.locs = A.locs ++ L ∧ (∀ z ∈ L, wk_A E z.base) ∧ B.cells = A.cells + (σ.2.1 - σ'.2.1) ∧ B.slots = A.slots + (σ.2.2 - σ'.2.2) ∧ σ'.2.1 ≤ σ.2.1 ∧ σ'.2.2 ≤ σ.2.2
theorem wk_calling {E : Ev} {U : State} {g : JFrame} {mk : MethodId} {a : Array Value} {σ : Hs} (h : wk_G E U σ U.heap ∧ wk_PF E U ∧ E.2.1 ≤ U.heap.size) : wk_G E (U.calling g mk a) σ (U.calling g mk a).heap ∧ wk_PF E (U.calling g mk a) ∧ E.2.1 ≤ (U.calling g mk a).heap.size :=
  ⟨h.1.moved (U := U.calling g mk a) (Vm.Alike.refl U.vm), wk_PF.step (U := U.calling g mk a) (State.WarmedH.refl U) (fun _ _ _ => rfl) h.2.1, h.2.2⟩
section WKB
variable {E : Ev} {l : Launch} {R : Room} {p : Program} {e : Env} {below : List Frame} {s : State} {sargs : Array Value} {y : MethodName} {len W9 : Nat}
theorem wk_back {bytes : ByteArray} {maxL : Nat} {ret : Option FieldType} {fr lo : Nat} {av : List TV} {σ σ' : Hs} {rv : Option Value} (hM : wk_M E l y (ws_ y bytes maxL ret) fr lo av σ (.inl rv) σ')
    (hframes : fr + 1 ≤ R.frames) (hlocals : W9 + (maxL + 11) + lo ≤ R.locals) (hts : ∀ w ∈ lw_all, w.before sargs s = true) (hcode : Cond.code y bytes maxL ret ∈ lw_all) (hinit : Cond.initialized y.cls ∈ lw_all) : Back l R p e below s sargs y len W9 (wk_Pre E R av σ) (wk_Pst E σ σ' rv) := by
  have hws : ∀ w ∈ ws_ y bytes maxL ret, ∀ (a' : Array Value) (U : State), s.WarmedH U.vm → w.before a' U = true := pay_in hts (lw_meth hcode)
  have hwi : ∀ (a' : Array Value) (U : State), s.WarmedH U.vm → (Cond.initialized y.cls).before a' U = true := fun a' U hW => pay_in hts lw_self _ hinit a' U hW
  refine Back.of_free (bytes := bytes) (maxL := maxL) (ret := ret) (E := fun a st o t L k n => k = σ.2.1 - σ'.2.1 ∧ n = σ.2.2 - σ'.2.2 ∧ ∀ q ∈ L, wk_A E q.base) hM hframes hlocals ?_ ?_ (fun _ _ _ _ _ _ _ _ _ => trivial) ?_ ?_
  · intro m meth c A a X hp
    exact ⟨atoms_intro fun w hw => hws w hw _ _ X.warmed, hws _ List.mem_cons_self _ _ X.warmed, hwi _ _ X.warmed, hp.1, hp.2.1⟩
  · intro m meth c A a g mk X hp
    exact ⟨hp.2.2.1, wk_calling hp.2.2.2⟩
  · intro a st o t h
    obtain ⟨rfl, hW, ⟨L, hsame, hL⟩, -⟩ := h
    exact ⟨L, _, _, ⟨⟨_, rfl⟩, hW, hsame⟩, rfl, rfl, hL⟩
  · intro m meth c A a g mk v t L k n X hp hq hF ⟨e1, e2, hL⟩
    obtain ⟨hv, hW, -, hG, hF2, h5, h6⟩ := hq
    cases hv
    subst e1; subst e2
    exact ⟨rfl, t, L, rfl, rfl, hG, hF2, rfl, hL, rfl, rfl, h5, h6⟩
end WKB
section WKC
variable {E : Ev} {K : Kx} {out : Ot} {σ' σ σ1 : Hs} {y : MethodName} {cc : ByteArray} {nL : Nat} {ret : Option FieldType} {fr lo : Nat} {tb : List ExceptionTableEntry} {pc : Nat} {L L' : Lc} {st rest stk stk2 : List TV} {rv : Option TV} {av : List TV}
/-- behind a call -/
theorem wk_fin {H : Heap} {locs : List Loc} {ls : Array Slot} {T : State} {a : Array Value} {len : Nat} {g : JFrame} (hT : T.heap = H) (h2 : va_S (wk_A E) (ks K).heap H locs) (h3 : σ.2.1 ≤ (kR K).cells) (h4 : σ.2.2 ≤ (kR K).slots) (h5 : lv_has ls (kc K).maxLocals (lc_v L)) (hg : g = F0 (km K) pc ls (stk.map tv)) (hk : rv.toList ++ rest = stk2)
    (h : ∃ (v : Option Value) (vm₁ : Vm) (B : Pt), (ks K).WarmedH vm₁ ∧ Stand (kp K) (kl K) (ke K) (kR K) (ks K) (km K) (ka K) (kb K) (kM K) (kc K) B.U B.locs B.cells B.slots ∧ wk_Pst E σ σ1 (rv.map tv) ⟨T.setVm vm₁, locs, (kR K).cells - σ.2.1, (kR K).slots - σ.2.2⟩ a v B ∧
      ∀ target, Steps (kp K).tables (ke K) (kb K) (B.U.setTop { g with pc := g.pc + len, stack := v.toList ++ rest.map tv }) target → Steps (kp K).tables (ke K) (kb K) (T.setTop g) target)
    (kk : wk_V E K out σ' σ1 (pc + len) L stk2) : ∃ t, Steps (kp K).tables (ke K) (kb K) (T.setTop g) t ∧ wk_Q E K out σ' t := by
  obtain ⟨v, vm₁, ⟨U', l2, c2, s2⟩, hW₁, X', ⟨rfl, t, Lo, e1, e2, hG, hF, g1, hL, g2, g3, g4, g5⟩, st1⟩ := h
  dsimp only [Pt.U, Pt.locs, Pt.cells, Pt.slots] at X' e1 e2 g1 g2 g3 st1 hF
  subst g1; subst g2; subst g3; subst hg
  have hz : H.size ≤ U'.heap.size := by rw [e1, ← hT]; exact hF.1
  have hkp : ∀ q : Nat, q < H.size → ¬ wk_A E q → U'.heap[q]? = H[q]? := fun q h1 h2 => by
    rw [e1, ← hT]
    exact hF.2 q (by rw [show (T.setVm vm₁).heap = T.heap from rfl, hT]; exact h1) h2
  have hS : va_S (wk_A E) (ks K).heap U'.heap (locs ++ Lo) := ⟨Nat.le_trans h2.1 hz, fun q k1 k2 => (hkp q (Nat.lt_of_lt_of_le k1 h2.1) k2).trans (h2.2.1 q k1 k2), fun q hq => (List.mem_append.mp hq).elim (h2.2.2 q) (hL q)⟩
  have hG' : wk_G E (ks K) σ1 U'.heap := by
    rw [e1]
    refine hG.moved ?_
    rw [← e2]
    exact X'.warmed.alike.symm
  have V := kk U'.heap (locs ++ Lo) ls hG' hS (Nat.le_trans g4 h3) (Nat.le_trans g5 h4) h5
  have V2 := W.cs (cells := (kR K).cells - σ.2.1 + (σ.2.1 - σ1.2.1)) (slots := (kR K).slots - σ.2.2 + (σ.2.2 - σ1.2.2)) (by omega) (by omega) V
  obtain ⟨t2, a1, b1⟩ := V2 U' rfl X'
  refine ⟨t2, st1 t2 ?_, b1⟩
  have hst : (rv.map tv).toList ++ rest.map tv = stk2.map tv := by
    rw [← hk, List.map_append]
    cases rv <;> rfl
  rw [hst]
  exact a1
theorem wk_pre {H : Heap} {locs : List Loc} {T : State} {a : Array Value} (hF : wk_PF E (ks K)) (hbs : E.2.1 ≤ (ks K).heap.size) (hT : T.heap = H) (h1 : wk_G E (ks K) σ H) (h2 : va_S (wk_A E) (ks K).heap H locs) (h3 : σ.2.1 ≤ (kR K).cells) (h4 : σ.2.2 ≤ (kR K).slots) (ha : a = (av.map tv).toArray) : ∀ vm₁, (ks K).WarmedH vm₁ → wk_Pre E (kR K) av σ ⟨T.setVm vm₁, locs, (kR K).cells - σ.2.1, (kR K).slots - σ.2.2⟩ a := by
  intro vm₁ hW
  refine ⟨by show _ - _ + _ ≤ _; omega, by show _ - _ + _ ≤ _; omega, ha, ?_, ?_, ?_⟩
  · show wk_G E (T.setVm vm₁) σ T.heap
    rw [hT]
    exact h1.moved hW.alike
  · exact wk_PF.step (s := ks K) (U := T.setVm vm₁) hW (fun q k1 k2 => by show T.heap[q]? = _; rw [hT]; exact h2.2.1 q k1 k2) hF
  · show _ ≤ T.heap.size
    rw [hT]
    exact Nat.le_trans hbs h2.1
/-- static calls -/
def cxS (own : String) (index : Nat) (z : MethodName) (bytes : ByteArray) (maxL : Nat) (ret : Option FieldType) (n : Nat) : Prop := Cond.methodLink own index z ∈ lw_all ∧ Cond.static z ∈ lw_all ∧ Cond.initialized z.cls ∈ lw_all ∧ Cond.code z bytes maxL ret ∈ lw_all ∧ (z.cls ≠ "java/lang/invoke/MethodHandle" ∧ z.cls ≠ "java/lang/invoke/VarHandle") ∧ ∀ sig, parseMethodDescriptor z.desc = some sig → n = sig.parameters.length
theorem wk_callS (C : wk_C E K y cc nL ret fr lo tb) {index maxL fr2 lo2 : Nat} {z : MethodName} {bytes : ByteArray} {ret2 : Option FieldType} (F : cxS y.cls index z bytes maxL ret2 av.length) (hM : wk_M E (kl K) z (ws_ z bytes maxL ret2) fr2 lo2 av σ (.inl (rv.map tv)) σ1) (hst : av.reverse ++ rest = stk) (hk : rv.toList ++ rest = stk2) (hfr : fr2 + 1 ≤ fr) (hlo : 8 + (maxL + 11) + lo2 ≤ lo) (hw : lc_w rest ≤ 8) (d : decode cc pc = .ok (.invokestatic index, 3)) (kk : wk_V E K out σ' σ1 (pc + 3) L stk2) : wk_V E K out σ' σ pc L stk := by
  intro H locs ls h1 h2 h3 h4 h5 T hT X
  obtain ⟨hx, hb, -, -, -, hown, hts, hF, hbs, -, hfrK, hloK, -⟩ := C
  obtain ⟨f1, f2, f3, f4, f5, f6⟩ := F
  have hK := wk_back (R := kR K) (p := kp K) (e := ke K) (below := kb K) (s := ks K) (sargs := ka K) (len := 3) (W9 := 8) hM (by rw [hfrK]; exact hfr) (by rw [hloK]; exact hlo) hts f4 f3
  refine wk_fin (a := (av.map tv).toArray) hT h2 h3 h4 h5 rfl hk (callS X hx (bytes := bytes) (maxL := maxL) (ret := ret2) hown (hts _ f1) (hts _ f2) (hts _ f3) (hts _ f4) f5 hK rfl h5.1 (argsL := av.map tv) (rest := rest.map tv) (fun sig h => by rw [List.length_map]; exact f6 sig h) ?_ (lv_room (by rw [tv_sum]; exact hw)) (by rw [hb]; exact d) (wk_pre hF hbs hT h1 h2 h3 h4 rfl)) kk
  show stk.map tv = _
  rw [← hst, List.map_append, List.map_reverse]
/-- constructors -/
def cxI (own : String) (index : Nat) (z : MethodName) (bytes : ByteArray) (maxL : Nat) (n : Nat) : Prop := Cond.methodLink own index z ∈ lw_all ∧ Cond.instanceMethod z ∈ lw_all ∧ Cond.initialized z.cls ∈ lw_all ∧ Cond.code z bytes maxL none ∈ lw_all ∧ (z.cls ≠ "java/lang/invoke/MethodHandle" ∧ z.cls ≠ "java/lang/invoke/VarHandle") ∧ z.name = "<init>" ∧ ∀ sig, parseMethodDescriptor z.desc = some sig → n = sig.parameters.length
theorem wk_callI (C : wk_C E K y cc nL ret fr lo tb) {index maxL fr2 lo2 b : Nat} {z : MethodName} {bytes : ByteArray} {r : Option Nat} (F : cxI y.cls index z bytes maxL av.length) (hr : r = some b) (hM : wk_M E (kl K) z (ws_ z bytes maxL none) fr2 lo2 (vR r :: av) σ (.inl none) σ1) (hst : av.reverse ++ vR r :: rest = stk) (hfr : fr2 + 1 ≤ fr) (hlo : 8 + (maxL + 11) + lo2 ≤ lo) (hw : lc_w rest ≤ 8) (d : decode cc pc = .ok (.invokespecial index, 3)) (kk : wk_V E K out σ' σ1 (pc + 3) L rest) : wk_V E K out σ' σ pc L stk := by
  intro H locs ls h1 h2 h3 h4 h5 T hT X
  subst hr
  obtain ⟨hx, hb, -, -, -, hown, hts, hF, hbs, -, hfrK, hloK, -⟩ := C
  obtain ⟨f1, f2, f3, f4, f5, f6, f7⟩ := F
  have hK := wk_back (R := kR K) (p := kp K) (e := ke K) (below := kb K) (s := ks K) (sargs := ka K) (len := 3) (W9 := 8) hM (by rw [hfrK]; exact hfr) (by rw [hloK]; exact hlo) hts f4 f3
  refine wk_fin (rv := none) (a := ((vR (some b) :: av).map tv).toArray) hT h2 h3 h4 h5 rfl rfl (callI X hx (bytes := bytes) (maxL := maxL) hown f6 (hts _ f1) (hts _ f2) (hts _ f4) f5 hK rfl h5.1 (a := b) (argsL := av.map tv) (rest := rest.map tv) (fun sig h => by rw [List.length_map]; exact f7 sig h) ?_ (lv_room (by rw [tv_sum]; exact hw)) (by rw [hb]; exact d) (wk_pre hF hbs hT h1 h2 h3 h4 rfl)) kk
  show stk.map tv = _
  rw [← hst, List.map_append, List.map_reverse]
  rfl
/-- Object.<init> -/
theorem wk_objI (C : wk_C E K y cc nL ret fr lo tb) {index b : Nat} {r : Option Nat} (hr : r = some b) (f1 : Cond.methodLink y.cls index Lib.objectInit ∈ lw_all) (f2 : Cond.instanceMethod Lib.objectInit ∈ lw_all) (f3 : Cond.code Lib.objectInit ⟨#[0xb1]⟩ 1 none ∈ lw_all) (hfr : 1 ≤ fr) (hlo : lc_w rest + 12 ≤ lo) (d : decode cc pc = .ok (.invokespecial index, 3)) (kk : wk_V E K out σ' σ (pc + 3) L rest) : wk_V E K out σ' σ pc L (vR r :: rest) := by
  subst hr
  intro H locs ls h1 h2 h3 h4 h5
  obtain ⟨hx, hb, -, -, -, hown, hts, hF, hbs, -, hfrK, hloK, -⟩ := C
  refine W.objInit (g := F0 (km K) pc ls (.ref b :: rest.map tv)) hx hb hown (hts _ f1) (hts _ f2) (hts _ f3) rfl h5.1 rfl d (by rw [hfrK]; exact hfr) ?_ (kk H locs ls h1 h2 h3 h4 h5)
  rw [tv_sum, hloK]
  show 2 * 0 + lc_w rest + 12 ≤ lo
  omega
/-- the class of a receiver of kind c -/
def rx (c : Nat) (C : String) : Prop := (c < 100 ∧ ∃ r : vw_C, vwCl[c]? = some r ∧ r.1 = C) ∨ (200 ≤ c ∧ (wk_sc c).1 = C)
theorem wk_recv {s : State} {H : Heap} {a c : Nat} {fs : List Value} {C : String} (hF : wk_PF E s) (hX : wk_X E s H a (.inr (c, fs))) (h : rx c C) : ∃ cell : Cell, H[a]? = some cell ∧ cell.vm.isStatics = false ∧ s.vm.findClass C = some cell.cls := by
  rcases h with ⟨hc, r, hr, rfl⟩ | ⟨hc, rfl⟩
  · unfold wk_X at hX
    dsimp only at hX
    rw [if_pos hc] at hX
    obtain ⟨⟨r', hr', hlen, cell, q1, q2, q3, q4⟩, -⟩ := hX
    exact ⟨cell, q1, by rw [q3]; rfl, by rw [q2]; exact (hF.1 c r hr).2.1⟩
  · unfold wk_X at hX
    dsimp only at hX
    rw [if_neg (by omega), if_neg (by omega)] at hX
    obtain ⟨cell, g1, g2, g3, g4, -⟩ := hX
    exact ⟨cell, g1, g2, g4⟩
/-- calls through an object, the method named that is meant -/
def cxV (own C : String) (index : Nat) (z : MethodName) (bytes : ByteArray) (maxL : Nat) (ret : Option FieldType) (n : Nat) : Prop := Cond.methodLink own index z ∈ lw_all ∧ Cond.instanceMethod z ∈ lw_all ∧ Cond.selects C z z ∈ lw_all ∧ Cond.initialized z.cls ∈ lw_all ∧ Cond.code z bytes maxL ret ∈ lw_all ∧ (z.cls ≠ "java/lang/invoke/MethodHandle" ∧ z.cls ≠ "java/lang/invoke/VarHandle") ∧ ∀ sig, parseMethodDescriptor z.desc = some sig → n = sig.parameters.length
theorem wk_callV (C : wk_C E K y cc nL ret fr lo tb) {index maxL fr2 lo2 b c : Nat} {cn : String} {z : MethodName} {bytes : ByteArray} {ret2 : Option FieldType} {r : Option Nat} (hr : ho_is σ r [c] = some b) (hc : rx c cn) (F : cxV y.cls cn index z bytes maxL ret2 av.length) (hM : wk_M E (kl K) z (ws_ z bytes maxL ret2) fr2 lo2 (vR r :: av) σ (.inl (rv.map tv)) σ1) (hst : av.reverse ++ vR r :: rest = stk) (hk : rv.toList ++ rest = stk2) (hfr : fr2 + 1 ≤ fr) (hlo : 8 + (maxL + 11) + lo2 ≤ lo) (hw : lc_w rest ≤ 8) (d : decode cc pc = .ok (.invokevirtual index, 3)) (kk : wk_V E K out σ' σ1 (pc + 3) L stk2) : wk_V E K out σ' σ pc L stk := by
  intro H locs ls h1 h2 h3 h4 h5 T hT X
  obtain ⟨c', fs, rfl, hg, hcc⟩ := ho_is_of hr
  cases List.mem_singleton.mp hcc
  obtain ⟨hx, hb, -, -, -, hown, hts, hF, hbs, -, hfrK, hloK, -⟩ := C
  obtain ⟨f1, f2, f3, f4, f5, f6, f7⟩ := F
  obtain ⟨cellB, k1, k2, k3⟩ := wk_recv hF (h1.2 b _ hg) hc
  have hK := wk_back (R := kR K) (p := kp K) (e := ke K) (below := kb K) (s := ks K) (sargs := ka K) (len := 3) (W9 := 8) hM (by rw [hfrK]; exact hfr) (by rw [hloK]; exact hlo) hts f5 f4
  refine wk_fin (a := ((vR (some b) :: av).map tv).toArray) hT h2 h3 h4 h5 rfl hk (callV X hx (C := cn) (bytes := bytes) (maxL := maxL) (ret := ret2) hown (hts _ f1) (hts _ f2) (hts _ f3) (hts _ f5) f6 hK (by rw [hT]; exact k1) k2 k3 rfl h5.1 (argsL := av.map tv) (rest := rest.map tv) (fun sig h => by rw [List.length_map]; exact f7 sig h) ?_ (lv_room (by rw [tv_sum]; exact hw)) (by rw [hb]; exact d) (wk_pre hF hbs hT h1 h2 h3 h4 rfl)) kk
  show stk.map tv = _
  rw [← hst, List.map_append, List.map_reverse]
  rfl
end WKC
