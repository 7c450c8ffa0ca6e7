/-! THE WALK OVER THE ABSTRACT HEAP: what a cell of it is in the machine's heap; what holds all through a run; the judgement wk_V; a row an instruction -/
def ho_v (x : vp_A) (j : Nat) : Value := match x.2 with
  | .inl f => .int (f j)
  | .inr (.inl f) => .long (f j)
  | .inr (.inr (.inl f)) => .float (f j)
  | .inr (.inr (.inr (.inl f))) => .double (f j)
  | .inr (.inr (.inr (.inr f))) => va_rf (f j)
theorem ho_v_cell (cA : ClassId) (x : vp_A) : vp_cell cA x = arrV cA x.1 (ho_v x) := by
  obtain ⟨n, f | f | f | f | f⟩ := x <;> rfl
/-- the component of an array of references -/
def wk_cp (U : State) (k : Nat) (cA : ClassId) : Prop := match ho_ty k with
  | .object C => ∃ (kA : Class) (comp : ClassId), U.vm.classes[cA]? = some kA ∧ kA.kind = .array comp (.object C) ∧ U.vm.findClass C = some comp
  | .array t => ∃ (kA : Class) (comp : ClassId), U.vm.classes[cA]? = some kA ∧ kA.kind = .array comp (.array t) ∧ U.vm.findClass (FieldType.array t).toString = some comp
  | _ => True
theorem wk_cp.moved {u U : State} {k : Nat} {cA : ClassId} (hvm : u.vm.Alike U.vm) (h : wk_cp u k cA) : wk_cp U k cA := by
  unfold wk_cp at h ⊢
  split at h
  · obtain ⟨kA, comp, h1, h2, h3⟩ := h
    obtain ⟨k', hk', he⟩ := hvm.2.2 _ _ h1
    exact ⟨k', comp, hk', by rw [he]; exact h2, by rw [hvm.findClass]; exact h3⟩
  · obtain ⟨kA, comp, h1, h2, h3⟩ := h
    obtain ⟨k', hk', he⟩ := hvm.2.2 _ _ h1
    exact ⟨k', comp, hk', by rw [he]; exact h2, by rw [hvm.findClass]; exact h3⟩
  · trivial
def wk_XA (U : State) (H : Heap) (a k : Nat) (x : vp_A) : Prop := if k < 90 then ∃ cA : ClassId, H[a]? = some (vp_cell cA x) ∧ ArrOfT U cA (ho_ty k) ∧ U.vm.findClass ("[" ++ (ho_ty k).toString) = some cA ∧ wk_cp U k cA
  else ∃ cell : Cell, H[a]? = some cell ∧ U.isArrayOf cell (ho_ty k) ∧ cell.vm ≠ .unknown ∧ x.1 ≤ cell.slots.size ∧ cell.slots.size.toInt32 = Int32.ofNat x.1 ∧ ∀ j : Nat, j < x.1 → cell.slots[j]? = some (ho_v x j)
theorem wk_XA.cell {U : State} {H : Heap} {a k : Nat} {x : vp_A} (h : wk_XA U H a k x) : ∃ cell : Cell, H[a]? = some cell ∧ U.isArrayOf cell (ho_ty k) ∧ cell.vm ≠ .unknown ∧ x.1 ≤ cell.slots.size ∧ cell.slots.size.toInt32 = Int32.ofNat x.1 ∧ ∀ j : Nat, j < x.1 → cell.slots[j]? = some (ho_v x j) := by
  unfold wk_XA at h
  split at h
  · obtain ⟨cA, h1, h2, h3, h4⟩ := h
    rw [ho_v_cell] at h1
    exact ⟨_, h1, h2 _ _, (fun q => by cases q), by rw [arrV_size] <;> exact Nat.le_refl _, by rw [arrV_size] <;> rfl, fun j hj => arrV_read _ _ hj⟩
  · exact h
theorem wk_XA.moved {u U : State} {H : Heap} {a k : Nat} {x : vp_A} (hvm : u.vm.Alike U.vm) (h : wk_XA u H a k x) : wk_XA U H a k x := by
  unfold wk_XA at h ⊢
  split at h
  · next hk =>
    obtain ⟨cA, h1, h2, h3, h4⟩ := h
    rw [if_pos hk]
    exact ⟨cA, h1, arrOfT_moved hvm h2, by rw [hvm.findClass]; exact h3, h4.moved hvm⟩
  · next hk =>
    obtain ⟨cell, h1, h2, h3⟩ := h
    rw [if_neg hk]
    exact ⟨cell, h1, State.isArrayOf_alike hvm h2, h3⟩
theorem wk_XA.kept {U : State} {H H1 : Heap} {a k : Nat} {x : vp_A} (hq : H1[a]? = H[a]?) (h : wk_XA U H a k x) : wk_XA U H1 a k x := by
  unfold wk_XA at h ⊢
  rw [hq]
  exact h
def wk_XN (E : Ev) (H : Heap) (a : Nat) (o : Nat × List Value) : Prop := ∃ r : vw_C, vwCl[o.1]? = some r ∧ o.2.length = r.2.2 ∧ t_OB a (E.1.1 o.1) r.2.2 (E.1.2 o.1) H (vp_V o.2)
def wk_XL (E : Ev) (H : Heap) (a : Nat) (o : Nat × List Value) : Prop := ∃ cell : Cell, H[a]? = some cell ∧ cell.vm = .none ∧ cell.cls = E.2.2.2 o.1 ∧ cell.slots = o.2.toArray
def wk_XS (U : State) (H : Heap) (a : Nat) (o : Nat × List Value) : Prop := ∃ cell : Cell, H[a]? = some cell ∧ cell.vm.isStatics = false ∧ cell.vm ≠ .unknown ∧ U.vm.findClass (wk_sc o.1).1 = some cell.cls ∧ ∀ (j : Nat) (q : String × String × String) (v : Value), (wk_sc o.1).2[j]? = some q → o.2[j]? = some v →
  ∃ (cf : ClassId) (k : Class) (i : Nat) (f : Field), U.fieldFound? q.1 q.2.1 q.2.2 = some (cf, k, i, f) ∧ f.isStatic = false ∧ cell.slots[f.slot]? = some v
def wk_X (E : Ev) (U : State) (H : Heap) (a : Nat) (x : Hc) : Prop := match x with
  | .inl y => wk_XA U H a y.1 y.2 ∧ (y.1 < 90 → wk_A E a)
  | .inr o => if o.1 < 100 then wk_XN E H a o ∧ wk_A E a else if o.1 < 200 then wk_XL E H a o else wk_XS U H a o
theorem wk_X.moved {E : Ev} {u U : State} {H : Heap} {a : Nat} {x : Hc} (hvm : u.vm.Alike U.vm) (h : wk_X E u H a x) : wk_X E U H a x := by
  rcases x with y | o
  · exact ⟨h.1.moved hvm, h.2⟩
  · unfold wk_X at h ⊢
    dsimp only at h ⊢
    split at h
    · next h1 => rw [if_pos h1]; exact h
    · next h1 =>
      rw [if_neg h1]
      split at h
      · next h2 => rw [if_pos h2]; exact h
      · next h2 =>
        rw [if_neg h2]
        obtain ⟨cell, g1, g2, g3, g4, g5⟩ := h
        refine ⟨cell, g1, g2, g3, by rw [hvm.findClass]; exact g4, fun j q v hq hv => ?_⟩
        obtain ⟨cf, k, i, f, e1, e2, e3⟩ := g5 j q v hq hv
        obtain ⟨k', hi', -⟩ := State.fieldFound?_setVm hvm e1
        exact ⟨cf, k', i, f, hi', e2, e3⟩
theorem wk_X.kept {E : Ev} {U : State} {H H1 : Heap} {a : Nat} {x : Hc} (hq : H1[a]? = H[a]?) (h : wk_X E U H a x) : wk_X E U H1 a x := by
  rcases x with y | o
  · exact ⟨h.1.kept hq, h.2⟩
  · unfold wk_X at h ⊢
    dsimp only at h ⊢
    split at h
    · next h1 =>
      rw [if_pos h1]
      obtain ⟨⟨r, g1, g2, g3⟩, g4⟩ := h
      exact ⟨⟨r, g1, g2, g3.kept hq⟩, g4⟩
    · next h1 =>
      rw [if_neg h1]
      split at h
      · next h2 =>
        rw [if_pos h2]
        unfold wk_XL at h ⊢
        rw [hq]; exact h
      · next h2 =>
        rw [if_neg h2]
        unfold wk_XS at h ⊢
        rw [hq]; exact h
def wk_G (E : Ev) (U : State) (σ : Hs) (H : Heap) : Prop := H.size = σ.1.size ∧ ∀ (a : Nat) (x : Hc), ho_g σ a = some x → wk_X E U H a x
theorem wk_G.moved {E : Ev} {u U : State} {σ : Hs} {H : Heap} (hvm : u.vm.Alike U.vm) (h : wk_G E u σ H) : wk_G E U σ H := ⟨h.1, fun a x hx => (h.2 a x hx).moved hvm⟩
theorem wk_G.set {E : Ev} {U : State} {σ : Hs} {H H1 : Heap} {a : Nat} {x : Hc} (h : wk_G E U σ H) (z : H1.size = H.size) (oq : ∀ q : Nat, q ≠ a → H1[q]? = H[q]?) (hx : wk_X E U H1 a x) : wk_G E U (ho_s σ a x) H1 := by
  refine ⟨by rw [ho_s_size, z]; exact h.1, fun b y hy => ?_⟩
  rw [ho_gs] at hy
  split at hy
  · next hc =>
    cases hy
    rw [hc.1]; exact hx
  · next hc =>
    by_cases hb : b = a
    · subst hb
      exact absurd ⟨rfl, ho_lt hy⟩ hc
    · exact (h.2 b y hy).kept (oq b hb)
theorem wk_G.push {E : Ev} {U : State} {σ : Hs} {H H1 : Heap} {n : Nat} {x : Hc} (h : wk_G E U σ H) (z : H1.size = H.size + 1) (oq : ∀ q : Nat, q < H.size → H1[q]? = H[q]?) (hx : wk_X E U H1 σ.1.size x) : wk_G E U (ho_al σ x n) H1 := by
  refine ⟨by rw [ho_al_size, z, h.1], fun b y hy => ?_⟩
  rw [ho_ga] at hy
  split at hy
  · next hc =>
    cases hy
    rw [hc]; exact hx
  · exact (h.2 b y hy).kept (oq b (by rw [h.1]; exact ho_lt hy))
/-! what holds all through a run -/
def wk_AOA (t : FieldType) (U : State) : Prop := (Cond.arrayOver (.array t)).before #[] U = true
theorem wk_AOA.moved {t : FieldType} {u U : State} (hvm : u.vm.Alike U.vm) (h : wk_AOA t u) : wk_AOA t U := by
  obtain ⟨comp, c, k, h1, h2, h3, h4, h5⟩ := arrayOverA_spec h
  obtain ⟨k', hk', he⟩ := hvm.2.2 _ _ h3
  have hi : (U.vm.classes.findIdx? fun (x : Class) => match x.kind with | .array component _ => component == comp | _ => false) = some c := by
    rw [hvm.findIdx?_eq _ (fun _ => rfl)]
    exact h2
  have hkind : k'.kind = .array comp (.array t) := by rw [he]; exact h4
  have f1 : U.vm.findClass (FieldType.array t).toString = some comp := by rw [hvm.findClass]; exact h1
  have f2 : U.vm.findClass ("[" ++ (FieldType.array t).toString) = some c := by rw [hvm.findClass]; exact h5
  unfold wk_AOA Cond.before Cond.holds
  simp only [Cond.value]
  rw [f1, Option.bind_some]
  refine (congrArg (fun o : Option Nat => (o.bind (fun c => (U.vm.classes[c]?).map fun (k : Class) => match k.kind with | .array _ ty => decide (ty = FieldType.array t) && decide (U.vm.findClass ("[" ++ (FieldType.array t).toString) = some c) | _ => false) == some true)) hi).trans ?_
  simp [hk', hkind, f2]
/-- a lambda's site is linked; its one object, if it captures nothing, is old -/
def wk_LS (E : Ev) (U : State) (q : MethodName × Nat × Nat × Lambda.Shape × Nat) : Prop := ∃ one : Option Addr, U.lambdaAt? q.1 q.2.1 q.2.2.1 q.2.2.2.1 = some (E.2.2.2 q.2.2.2.2, one) ∧ one = E.2.2.1 (q.2.2.2.2 + 10) ∧ ∀ a, one = some a → ¬ wk_A E a
theorem wk_LS.step {E : Ev} {s U : State} (hW : s.WarmedH U.vm) (hH : ∀ q : Nat, q < s.heap.size → ¬ wk_A E q → U.heap[q]? = s.heap[q]?) {q : MethodName × Nat × Nat × Lambda.Shape × Nat} (h : wk_LS E s q) : wk_LS E U q := by
  obtain ⟨one, h, ho, hA⟩ := h
  refine ⟨one, ?_, ho, hA⟩
  obtain ⟨m, kc, cf, i0, p0, l, hm, hk, hcf, hsh, hin, hfind, hmade, hcall, hl⟩ := State.lambdaAt?_spec h
  have hcall' : U.lambdaCallable q.2.2.2.1 (E.2.2.2 q.2.2.2.2) = true := by
    have hA := hW.alike
    simp only [State.lambdaCallable, hA.findClass, hA.assignable, hA.superclasses, hA.declaredIn] at hcall ⊢
    exact hcall
  obtain ⟨kc', hk', he⟩ := hW.alike.2.2 _ _ hk
  have hm' : U.methodNamed? q.1 = some m := by
    have := State.methodNamed?_setVm (s := s) hW.alike q.1
    rw [hm] at this
    exact this
  have hcf' : kc'.cf = some cf := by rw [he]; exact hcf
  have hin' : (m.idx, q.2.1, q.2.2.1, q.2.2.2.1) ∈ Lambda.sitesOf kc' := by rw [he]; exact hin
  have hfind' : (kc'.callSites.find? fun y => y.1 == m.idx && y.2.1 == q.2.1) = some (i0, p0, l) := by rw [he]; exact hfind
  have hmade' := Lambda.isMade_warmer hW hmade
  obtain ⟨m2, k2, hm2, hk2, hjdk, howes⟩ := State.lambdaAt?_road h
  cases hm.symm.trans hm2
  cases hk.symm.trans hk2
  have hjdk' : jdkName kc'.name = false := by rw [he]; exact hjdk
  have howes' : (U.vm.findClass q.2.2.2.1.iface).bind (Lambda.owesInit U.vm) = none := by
    rw [hW.alike.findClass]
    cases hfi : s.vm.findClass q.2.2.2.1.iface with
    | none => rfl
    | some i => rw [hfi] at howes; simpa [Lambda.owesInit_alike hW.alike] using howes
  have hany : ((Lambda.sitesOf kc').any fun y => decide (y = (m.idx, q.2.1, q.2.2.1, q.2.2.2.1))) = true := by simpa using hin'
  rcases hl with ⟨a, cell, rfl, rfl, hcap, hcell, hcls, hvm, hslots⟩ | ⟨rfl, rfl, hcap⟩
  · have hc' : U.heap[a]? = some cell := (hH a (Array.getElem?_eq_some_iff.mp hcell).1 (hA a rfl)).trans hcell
    simp [State.lambdaAt?, guard, hjdk', howes', hm', hk', hcf', hsh, hany, hfind', hc', hcap, hcls, hmade', hcall', hvm, hslots]
  · simp [State.lambdaAt?, guard, hjdk', howes', hm', hk', hcf', hsh, hany, hfind', hcap, hmade', hcall']
def wk_PF (E : Ev) (U : State) : Prop := (∀ (c : Nat) (q : vw_C), vwCl[c]? = some q → u_Kn U q.1 q.2.1 q.2.2 (E.1.1 c) (E.1.2 c)) ∧ (∀ w ∈ lw_nw, va_Nw w U) ∧
  (∀ (j : Nat) (q : String × String × String × Option Int32), wk_st[j]? = some q → va_Z q.1 q.2.1 q.2.2.1 (wk_sv E j q) (wk_A E) U U.heap) ∧
  (∀ q ∈ wk_ld, ∃ a, E.2.2.1 (100 + q.2.2.2) = some a ∧ vk_R q.1 q.2.1 q.2.2.1 a U) ∧ (∀ q ∈ wk_nc, va_Nc q.1 q.2 U) ∧ (∀ q ∈ wk_fw, va_Fw q.1 q.2.1 q.2.2 U) ∧ (∀ C ∈ wk_ao, va_AO C U) ∧
  vx_Zq Bundle.tN "UNASSIGNED_STACK" Bundle.steD (wk_A E) U U.heap ∧ vx_Zq Bundle.tN "SUPPRESSED_SENTINEL" Bundle.listD (wk_A E) U U.heap ∧
  (∀ t ∈ wk_aa, wk_AOA t U) ∧ (∃ mi, E.2.2.1 90 = some mi ∧ va_Mi "[Ljava/lang/Object;" mi U) ∧ (∀ q ∈ wk_ls, wk_LS E U q)
theorem wk_PF.step {E : Ev} {s U : State} (hW : s.WarmedH U.vm) (hH : ∀ q : Nat, q < s.heap.size → ¬ wk_A E q → U.heap[q]? = s.heap[q]?) (h : wk_PF E s) : wk_PF E U := by
  obtain ⟨h1, h2, h3, h4, h5, h6, h7, h8, h9, h10, h11, h12⟩ := h
  refine ⟨fun c q hq => u_Kn_moved hW.alike (h1 c q hq), fun w hw => nw_warm (List.mem_filter.mp hw).2 hW (h2 w hw), fun j q hq => va_Z.moved hW.alike ((h3 j q hq).kept hH), fun q hq => ?_, fun q hq => va_Nc.moved hW.alike (h5 q hq), fun q hq => va_Fw.moved (wk_fw_ok q hq) hW.alike (h6 q hq), fun C hC => va_AO.moved hW.alike (h7 C hC), vx_Zq.moved hW.alike (h8.kept hH), vx_Zq.moved hW.alike (h9.kept hH), fun t ht => (h10 t ht).moved hW.alike, ?_, fun q hq => (h12 q hq).step hW hH⟩
  · obtain ⟨a, ha, hr⟩ := h4 q hq
    exact ⟨a, ha, hr.warm hW⟩
  · obtain ⟨mi, ha, hr⟩ := h11
    exact ⟨mi, ha, va_Mi.moved hW.alike hr⟩
/-! the walk's setting in one piece -/
abbrev Kx : Type := Program × Launch × Env × Room × State × MethodId × Array Value × List Frame × Method × Code
abbrev kp (K : Kx) : Program := K.1
abbrev kl (K : Kx) : Launch := K.2.1
abbrev ke (K : Kx) : Env := K.2.2.1
abbrev kR (K : Kx) : Room := K.2.2.2.1
abbrev ks (K : Kx) : State := K.2.2.2.2.1
abbrev km (K : Kx) : MethodId := K.2.2.2.2.2.1
abbrev ka (K : Kx) : Array Value := K.2.2.2.2.2.2.1
abbrev kb (K : Kx) : List Frame := K.2.2.2.2.2.2.2.1
abbrev kM (K : Kx) : Method := K.2.2.2.2.2.2.2.2.1
abbrev kc (K : Kx) : Code := K.2.2.2.2.2.2.2.2.2
abbrev Ot : Type := Option Value ⊕ Nat
def wk_oc (out : Ot) : Outcome := match out with
  | .inl v => .returned v
  | .inr q => .threw q
/-- what a method owes at its end: its answer, the heap behind it, nothing else turned, its room -/
def wk_O (E : Ev) (C0 S0 : Nat) (out : Ot) (σ' : Hs) (st : State) (o : Outcome) (t : State) : Prop :=
  o = wk_oc out ∧ st.WarmedH t.vm ∧ (∃ L : List Loc, st.sameButNew ({ t with vm := st.vm } : State) L (C0 - σ'.2.1) (S0 - σ'.2.2) ∧ ∀ z ∈ L, wk_A E z.base) ∧ wk_G E t σ' t.heap ∧ va_F (wk_A E) st t ∧ σ'.2.1 ≤ C0 ∧ σ'.2.2 ≤ S0
def wk_Q (E : Ev) (K : Kx) (out : Ot) (σ' : Hs) : State → Prop := fun t => ∃ o, t.status = .running ∧ Ended t (kb K) o ∧ wk_O E (kR K).cells (kR K).slots out σ' (ks K) o t
/-- the contract: from the heap σ, with these arguments, method y ends so, with the heap σ'; fr frames and lo words of room -/
def wk_M (E : Ev) (l : Launch) (y : MethodName) (ws : List Cond) (fr lo : Nat) (av : List TV) (σ : Hs) (out : Ot) (σ' : Hs) : Prop :=
  MetFree l y (headSpec ws ({ frames := fr, cells := σ.2.1, slots := σ.2.2, locals := lo } : Room)) (va_Pc (av.map tv) (fun U => wk_G E U σ U.heap ∧ wk_PF E U ∧ E.2.1 ≤ U.heap.size)) (fun _ _ _ _ _ => True) (fun _ st o t => wk_O E σ.2.1 σ.2.2 out σ' st o t)
/-- what is known in a method's body -/
def wk_C (E : Ev) (K : Kx) (y : MethodName) (cc : ByteArray) (nL : Nat) (ret : Option FieldType) (fr lo : Nat) (tb : List ExceptionTableEntry) : Prop :=
  (kp K).tables.exec = Jvm.exec ∧ (kc K).code = cc ∧ (kc K).maxLocals = nL ∧ (kM K).sig.returnType = ret ∧ (kM K).locks = false ∧ (ks K).vm.findClass y.cls = some (km K).cls ∧ (∀ w ∈ lw_all, w.before (ka K) (ks K) = true) ∧ wk_PF E (ks K) ∧ E.2.1 ≤ (ks K).heap.size ∧ (kM K).name = y.name ∧ (kR K).frames = fr ∧ (kR K).locals = lo ∧ (kl K).stackTraces = false ∧ (kc K).exceptionTable.toList = tb ∧ (ks K).methodNamed? y = some (km K)
abbrev Lc : Type := List (Nat × TV)
def lc_v (L : Lc) : List (Nat × Value) := L.map fun q => (q.1, tv q.2)
/-- the judgement: from here, with the heap σ, the locals L, the operands st, the method comes to its end 'out', σ' -/
def wk_V (E : Ev) (K : Kx) (out : Ot) (σ' σ : Hs) (pc : Nat) (L : Lc) (st : List TV) : Prop :=
  ∀ (H : Heap) (locs : List Loc) (ls : Array Slot), wk_G E (ks K) σ H → va_S (wk_A E) (ks K).heap H locs → σ.2.1 ≤ (kR K).cells → σ.2.2 ≤ (kR K).slots → lv_has ls (kc K).maxLocals (lc_v L) →
    W (kp K) (kl K) (ke K) (kR K) (ks K) (km K) (ka K) (kb K) (kM K) (kc K) H locs ((kR K).cells - σ.2.1) ((kR K).slots - σ.2.2) (wk_Q E K out σ') (F0 (km K) pc ls (st.map tv))
/-! the locals, in the order of their numbers -/
def lc_ins (i : Nat) (t : TV) : Lc → Lc
  | [] => [(i, t)]
  | q :: l => bif Nat.blt i q.1 then (i, t) :: q :: l else q :: lc_ins i t l
def lc_c2 (t : TV) : Bool := match t with
  | .inr (.inr (.inl _)) => true
  | .inr (.inr (.inr (.inr _))) => true
  | _ => false
def lc_k1 (i : Nat) (q : Nat × TV) : Bool := !(q.1 == i) && !(q.1 + 1 == i && lc_c2 q.2)
def lc_k2 (i : Nat) (q : Nat × TV) : Bool := !(q.1 == i) && (!(q.1 == i + 1) && !(q.1 + 1 == i && lc_c2 q.2))
def lc_s1 (L : Lc) (i : Nat) (t : TV) : Lc := lc_ins i t (L.filter (lc_k1 i))
def lc_s2 (L : Lc) (i : Nat) (t : TV) : Lc := lc_ins i t (L.filter (lc_k2 i))
theorem lc_ins_mem {i : Nat} {t : TV} {q : Nat × TV} : ∀ {L : Lc}, q ∈ lc_ins i t L → q = (i, t) ∨ q ∈ L
  | [], h => Or.inl (List.mem_singleton.mp h)
  | p :: l, h => by
    unfold lc_ins at h
    cases hb : Nat.blt i p.1 with
    | true =>
      rw [hb] at h
      rcases List.mem_cons.mp h with h | h
      · exact Or.inl h
      · exact Or.inr h
    | false =>
      rw [hb] at h
      rcases List.mem_cons.mp h with h | h
      · exact Or.inr (by rw [h]; exact List.mem_cons_self)
      · rcases lc_ins_mem h with h | h
        · exact Or.inl h
        · exact Or.inr (List.mem_cons_of_mem _ h)
theorem lc_c2_cat (t : TV) : ((tv t).category == 2) = lc_c2 t := by
  rw [tv_cat]
  rcases t with r | x | x | x | x <;> rfl
theorem lc_1 {L L' : Lc} {i : Nat} {t : TV} (h : lc_s1 L i t = L') {ls : Array Slot} {n : Nat} (hl : lv_has ls n ((i, tv t) :: (lc_v L).filter (fun q => !(q.1 == i) && !(q.1 + 1 == i && q.2.category == 2)))) : lv_has ls n (lc_v L') := by
  refine ⟨hl.1, hl.2.1, fun q hq => ?_⟩
  obtain ⟨p, hp, rfl⟩ := List.mem_map.mp hq
  rw [← h] at hp
  rcases lc_ins_mem hp with rfl | hp
  · exact hl.2.2 _ List.mem_cons_self
  · obtain ⟨h1, h2⟩ := List.mem_filter.mp hp
    refine hl.2.2 _ (List.mem_cons_of_mem _ (List.mem_filter.mpr ⟨List.mem_map.mpr ⟨p, h1, rfl⟩, ?_⟩))
    unfold lc_k1 at h2
    rw [← lc_c2_cat] at h2
    exact h2
theorem lc_2 {L L' : Lc} {i : Nat} {t : TV} (h : lc_s2 L i t = L') {ls : Array Slot} {n : Nat} (hl : lv_has ls n ((i, tv t) :: (lc_v L).filter (fun q => !(q.1 == i) && (!(q.1 == i + 1) && !(q.1 + 1 == i && q.2.category == 2))))) : lv_has ls n (lc_v L') := by
  refine ⟨hl.1, hl.2.1, fun q hq => ?_⟩
  obtain ⟨p, hp, rfl⟩ := List.mem_map.mp hq
  rw [← h] at hp
  rcases lc_ins_mem hp with rfl | hp
  · exact hl.2.2 _ List.mem_cons_self
  · obtain ⟨h1, h2⟩ := List.mem_filter.mp hp
    refine hl.2.2 _ (List.mem_cons_of_mem _ (List.mem_filter.mpr ⟨List.mem_map.mpr ⟨p, h1, rfl⟩, ?_⟩))
    unfold lc_k2 at h2
    rw [← lc_c2_cat] at h2
    exact h2
theorem lc_at {L : Lc} {ls : Array Slot} {n k i : Nat} {t : TV} (hl : lv_has ls n (lc_v L)) (h : L[k]? = some (i, t)) : ls[i]? = some (.val (tv t)) :=
  hl.2.2 (i, tv t) (List.mem_map.mpr ⟨(i, t), List.mem_of_getElem? h, rfl⟩)
/-- fewer locals -/
def lc_pick (L : Lc) (is : List Nat) : Lc := is.filterMap (fun i => L[i]?)
theorem lc_sub {L L' : Lc} {ls : Array Slot} {n : Nat} (hl : lv_has ls n (lc_v L)) (is : List Nat) (h : lc_pick L is = L') : lv_has ls n (lc_v L') := by
  refine ⟨hl.1, hl.2.1, fun q hq => ?_⟩
  obtain ⟨p, hp, rfl⟩ := List.mem_map.mp hq
  rw [← h] at hp
  obtain ⟨i, -, hi⟩ := List.mem_filterMap.mp hp
  exact hl.2.2 _ (List.mem_map.mpr ⟨p, List.mem_of_getElem? hi, rfl⟩)
/-- the locals with which a method begins -/
def lc_args : Nat → List TV → Lc
  | _, [] => []
  | i, t :: ts => (i, t) :: lc_args (i + tcat t) ts
theorem lc_args_v : ∀ (ts : List TV) (i : Nat), lv_args i (ts.map tv) = lc_v (lc_args i ts)
  | [], _ => rfl
  | t :: ts, i => by
    show (i, tv t) :: lv_args (if (tv t).category = 2 then i + 2 else i + 1) (ts.map tv) = _
    have h : (if (tv t).category = 2 then i + 2 else i + 1) = i + tcat t := by
      rw [tv_cat]
      rcases t with r | x | x | x | x <;> rfl
    rw [h, lc_args_v ts]
    rfl
def lc_w (ts : List TV) : Nat := (ts.map tcat).sum
theorem lc_w_sl : ∀ (ts : List TV), (lg_sl (ts.map tv)).length = lc_w ts
  | [] => rfl
  | t :: ts => by
    have ih := lc_w_sl ts
    unfold lg_sl at ih ⊢
    unfold lc_w at ih ⊢
    simp only [List.map_cons, List.flatMap_cons, List.length_append, List.sum_cons, ih]
    rw [tv_cat]
    rcases t with r | x | x | x | x <;> simp [tcat]
theorem tv_sum (st : List TV) : ((st.map tv).map fun v => v.category).sum = lc_w st := by
  unfold lc_w
  rw [List.map_map]
  congr 1
  exact List.map_congr_left fun t _ => tv_cat t
section WK
variable {E : Ev} {K : Kx} {out : Ot} {σ' σ : Hs} {y : MethodName} {cc : ByteArray} {nL : Nat} {ret : Option FieldType} {fr lo : Nat} {tb : List ExceptionTableEntry} {pc : Nat} {L L' : Lc} {st : List TV}
theorem wk_sub (is : List Nat) (h : lc_pick L is = L') (k : wk_V E K out σ' σ pc L' st) : wk_V E K out σ' σ pc L st := fun H locs ls h1 h2 h3 h4 h5 => k H locs ls h1 h2 h3 h4 (lc_sub h5 is h)

theorem wk_iconst (C : wk_C E K y cc nL ret fr lo tb) {n : Int} {v : Int32} (d : decode cc pc = .ok (.iconst n, 1)) (hv : Int32.ofInt n = v) (k : wk_V E K out σ' σ (pc + 1) L (vI v :: st)) : wk_V E K out σ' σ pc L (st) := fun H locs ls h1 h2 h3 h4 h5 => lv_iconst C.1 C.2.1 d hv (k H locs ls h1 h2 h3 h4 h5)
theorem wk_bipush (C : wk_C E K y cc nL ret fr lo tb) {n : Int} {v : Int32} (d : decode cc pc = .ok (.bipush n, 2)) (hv : (Int8.ofInt n).toInt32 = v) (k : wk_V E K out σ' σ (pc + 2) L (vI v :: st)) : wk_V E K out σ' σ pc L (st) := fun H locs ls h1 h2 h3 h4 h5 => lv_bipush C.1 C.2.1 d hv (k H locs ls h1 h2 h3 h4 h5)
theorem wk_sipush (C : wk_C E K y cc nL ret fr lo tb) {n : Int} {v : Int32} (d : decode cc pc = .ok (.sipush n, 3)) (hv : (Int16.ofInt n).toInt32 = v) (k : wk_V E K out σ' σ (pc + 3) L (vI v :: st)) : wk_V E K out σ' σ pc L (st) := fun H locs ls h1 h2 h3 h4 h5 => lv_sipush C.1 C.2.1 d hv (k H locs ls h1 h2 h3 h4 h5)
theorem wk_lconst (C : wk_C E K y cc nL ret fr lo tb) {n : Fin 2} {v : Int64} (d : decode cc pc = .ok (.lconst n, 1)) (hv : Int64.ofNat (n : Nat) = v) (k : wk_V E K out σ' σ (pc + 1) L (vJ v :: st)) : wk_V E K out σ' σ pc L (st) := fun H locs ls h1 h2 h3 h4 h5 => lv_lconst C.1 C.2.1 d hv (k H locs ls h1 h2 h3 h4 h5)
theorem wk_null (C : wk_C E K y cc nL ret fr lo tb) (d : decode cc pc = .ok (.aconst_null, 1)) (k : wk_V E K out σ' σ (pc + 1) L (vR none :: st)) : wk_V E K out σ' σ pc L st := fun H locs ls h1 h2 h3 h4 h5 => lv_null C.1 C.2.1 d (k H locs ls h1 h2 h3 h4 h5)
theorem wk_iadd (C : wk_C E K y cc nL ret fr lo tb) {x z : Int32} (d : decode cc pc = .ok (.iadd, 1)) (k : wk_V E K out σ' σ (pc + 1) L (vI (x + z) :: st)) : wk_V E K out σ' σ pc L (vI z :: vI x :: st) := fun H locs ls h1 h2 h3 h4 h5 => lv_iadd C.1 C.2.1 d (k H locs ls h1 h2 h3 h4 h5)
theorem wk_isub (C : wk_C E K y cc nL ret fr lo tb) {x z : Int32} (d : decode cc pc = .ok (.isub, 1)) (k : wk_V E K out σ' σ (pc + 1) L (vI (x - z) :: st)) : wk_V E K out σ' σ pc L (vI z :: vI x :: st) := fun H locs ls h1 h2 h3 h4 h5 => lv_isub C.1 C.2.1 d (k H locs ls h1 h2 h3 h4 h5)
theorem wk_imul (C : wk_C E K y cc nL ret fr lo tb) {x z : Int32} (d : decode cc pc = .ok (.imul, 1)) (k : wk_V E K out σ' σ (pc + 1) L (vI (x * z) :: st)) : wk_V E K out σ' σ pc L (vI z :: vI x :: st) := fun H locs ls h1 h2 h3 h4 h5 => lv_imul C.1 C.2.1 d (k H locs ls h1 h2 h3 h4 h5)
theorem wk_iand (C : wk_C E K y cc nL ret fr lo tb) {x z : Int32} (d : decode cc pc = .ok (.iand, 1)) (k : wk_V E K out σ' σ (pc + 1) L (vI (x &&& z) :: st)) : wk_V E K out σ' σ pc L (vI z :: vI x :: st) := fun H locs ls h1 h2 h3 h4 h5 => lv_iand C.1 C.2.1 d (k H locs ls h1 h2 h3 h4 h5)
theorem wk_ior (C : wk_C E K y cc nL ret fr lo tb) {x z : Int32} (d : decode cc pc = .ok (.ior, 1)) (k : wk_V E K out σ' σ (pc + 1) L (vI (x ||| z) :: st)) : wk_V E K out σ' σ pc L (vI z :: vI x :: st) := fun H locs ls h1 h2 h3 h4 h5 => lv_ior C.1 C.2.1 d (k H locs ls h1 h2 h3 h4 h5)
theorem wk_ixor (C : wk_C E K y cc nL ret fr lo tb) {x z : Int32} (d : decode cc pc = .ok (.ixor, 1)) (k : wk_V E K out σ' σ (pc + 1) L (vI (x ^^^ z) :: st)) : wk_V E K out σ' σ pc L (vI z :: vI x :: st) := fun H locs ls h1 h2 h3 h4 h5 => lv_ixor C.1 C.2.1 d (k H locs ls h1 h2 h3 h4 h5)
theorem wk_ishl (C : wk_C E K y cc nL ret fr lo tb) {x z : Int32} (d : decode cc pc = .ok (.ishl, 1)) (k : wk_V E K out σ' σ (pc + 1) L (vI (x <<< (z &&& 31)) :: st)) : wk_V E K out σ' σ pc L (vI z :: vI x :: st) := fun H locs ls h1 h2 h3 h4 h5 => lv_ishl C.1 C.2.1 d (k H locs ls h1 h2 h3 h4 h5)
theorem wk_ishr (C : wk_C E K y cc nL ret fr lo tb) {x z : Int32} (d : decode cc pc = .ok (.ishr, 1)) (k : wk_V E K out σ' σ (pc + 1) L (vI (x >>> (z &&& 31)) :: st)) : wk_V E K out σ' σ pc L (vI z :: vI x :: st) := fun H locs ls h1 h2 h3 h4 h5 => lv_ishr C.1 C.2.1 d (k H locs ls h1 h2 h3 h4 h5)
theorem wk_ladd (C : wk_C E K y cc nL ret fr lo tb) {x z : Int64} (d : decode cc pc = .ok (.ladd, 1)) (k : wk_V E K out σ' σ (pc + 1) L (vJ (x + z) :: st)) : wk_V E K out σ' σ pc L (vJ z :: vJ x :: st) := fun H locs ls h1 h2 h3 h4 h5 => lv_ladd C.1 C.2.1 d (k H locs ls h1 h2 h3 h4 h5)
theorem wk_lsub (C : wk_C E K y cc nL ret fr lo tb) {x z : Int64} (d : decode cc pc = .ok (.lsub, 1)) (k : wk_V E K out σ' σ (pc + 1) L (vJ (x - z) :: st)) : wk_V E K out σ' σ pc L (vJ z :: vJ x :: st) := fun H locs ls h1 h2 h3 h4 h5 => lv_lsub C.1 C.2.1 d (k H locs ls h1 h2 h3 h4 h5)
theorem wk_lmul (C : wk_C E K y cc nL ret fr lo tb) {x z : Int64} (d : decode cc pc = .ok (.lmul, 1)) (k : wk_V E K out σ' σ (pc + 1) L (vJ (x * z) :: st)) : wk_V E K out σ' σ pc L (vJ z :: vJ x :: st) := fun H locs ls h1 h2 h3 h4 h5 => lv_lmul C.1 C.2.1 d (k H locs ls h1 h2 h3 h4 h5)
theorem wk_land (C : wk_C E K y cc nL ret fr lo tb) {x z : Int64} (d : decode cc pc = .ok (.land, 1)) (k : wk_V E K out σ' σ (pc + 1) L (vJ (x &&& z) :: st)) : wk_V E K out σ' σ pc L (vJ z :: vJ x :: st) := fun H locs ls h1 h2 h3 h4 h5 => lv_land C.1 C.2.1 d (k H locs ls h1 h2 h3 h4 h5)
theorem wk_lor (C : wk_C E K y cc nL ret fr lo tb) {x z : Int64} (d : decode cc pc = .ok (.lor, 1)) (k : wk_V E K out σ' σ (pc + 1) L (vJ (x ||| z) :: st)) : wk_V E K out σ' σ pc L (vJ z :: vJ x :: st) := fun H locs ls h1 h2 h3 h4 h5 => lv_lor C.1 C.2.1 d (k H locs ls h1 h2 h3 h4 h5)
theorem wk_lxor (C : wk_C E K y cc nL ret fr lo tb) {x z : Int64} (d : decode cc pc = .ok (.lxor, 1)) (k : wk_V E K out σ' σ (pc + 1) L (vJ (x ^^^ z) :: st)) : wk_V E K out σ' σ pc L (vJ z :: vJ x :: st) := fun H locs ls h1 h2 h3 h4 h5 => lv_lxor C.1 C.2.1 d (k H locs ls h1 h2 h3 h4 h5)
theorem wk_iushr (C : wk_C E K y cc nL ret fr lo tb) {x z : Int32} (d : decode cc pc = .ok (.iushr, 1)) (k : wk_V E K out σ' σ (pc + 1) L (vI (x.toUInt32 >>> (z.toUInt32 &&& Int32.toUInt32 31)).toInt32 :: st)) : wk_V E K out σ' σ pc L (vI z :: vI x :: st) := fun H locs ls h1 h2 h3 h4 h5 => lv_iushr C.1 C.2.1 d rfl (k H locs ls h1 h2 h3 h4 h5)
theorem wk_ineg (C : wk_C E K y cc nL ret fr lo tb) {x : Int32} (d : decode cc pc = .ok (.ineg, 1)) (k : wk_V E K out σ' σ (pc + 1) L (vI (-x) :: st)) : wk_V E K out σ' σ pc L (vI x :: st) := fun H locs ls h1 h2 h3 h4 h5 => lv_ineg C.1 C.2.1 d (k H locs ls h1 h2 h3 h4 h5)
theorem wk_lneg (C : wk_C E K y cc nL ret fr lo tb) {x : Int64} (d : decode cc pc = .ok (.lneg, 1)) (k : wk_V E K out σ' σ (pc + 1) L (vJ (-x) :: st)) : wk_V E K out σ' σ pc L (vJ x :: st) := fun H locs ls h1 h2 h3 h4 h5 => lv_lneg C.1 C.2.1 d (k H locs ls h1 h2 h3 h4 h5)
theorem wk_i2l (C : wk_C E K y cc nL ret fr lo tb) {x : Int32} (d : decode cc pc = .ok (.i2l, 1)) (k : wk_V E K out σ' σ (pc + 1) L (vJ (x.toInt64) :: st)) : wk_V E K out σ' σ pc L (vI x :: st) := fun H locs ls h1 h2 h3 h4 h5 => lv_i2l C.1 C.2.1 d rfl (k H locs ls h1 h2 h3 h4 h5)
theorem wk_l2i (C : wk_C E K y cc nL ret fr lo tb) {x : Int64} (d : decode cc pc = .ok (.l2i, 1)) (k : wk_V E K out σ' σ (pc + 1) L (vI (x.toInt32) :: st)) : wk_V E K out σ' σ pc L (vJ x :: st) := fun H locs ls h1 h2 h3 h4 h5 => lv_l2i C.1 C.2.1 d rfl (k H locs ls h1 h2 h3 h4 h5)
theorem wk_i2b (C : wk_C E K y cc nL ret fr lo tb) {x : Int32} (d : decode cc pc = .ok (.i2b, 1)) (k : wk_V E K out σ' σ (pc + 1) L (vI (x.toInt8.toInt32) :: st)) : wk_V E K out σ' σ pc L (vI x :: st) := fun H locs ls h1 h2 h3 h4 h5 => lv_i2b C.1 C.2.1 d rfl (k H locs ls h1 h2 h3 h4 h5)
theorem wk_i2c (C : wk_C E K y cc nL ret fr lo tb) {x : Int32} (d : decode cc pc = .ok (.i2c, 1)) (k : wk_V E K out σ' σ (pc + 1) L (vI (x.toUInt32 % 65536).toInt32 :: st)) : wk_V E K out σ' σ pc L (vI x :: st) := fun H locs ls h1 h2 h3 h4 h5 => lv_i2c C.1 C.2.1 d rfl (k H locs ls h1 h2 h3 h4 h5)
theorem wk_lcmp (C : wk_C E K y cc nL ret fr lo tb) {x z : Int64} (d : decode cc pc = .ok (.lcmp, 1)) (k : wk_V E K out σ' σ (pc + 1) L (vI (lg_cmp x z) :: st)) : wk_V E K out σ' σ pc L (vJ z :: vJ x :: st) := fun H locs ls h1 h2 h3 h4 h5 => W.lcmp C.1 C.2.1 d (k H locs ls h1 h2 h3 h4 h5)
theorem wk_idiv (C : wk_C E K y cc nL ret fr lo tb) {x z v : Int32} (d : decode cc pc = .ok (.idiv, 1)) (hv : ho_div x z = some v) (k : wk_V E K out σ' σ (pc + 1) L (vI v :: st)) : wk_V E K out σ' σ pc L (vI z :: vI x :: st) := by
  unfold ho_div at hv
  split at hv
  · cases hv
  · next hz =>
    cases hv
    exact fun H locs ls h1 h2 h3 h4 h5 => lv_idiv C.1 C.2.1 d hz (k H locs ls h1 h2 h3 h4 h5)
theorem wk_irem (C : wk_C E K y cc nL ret fr lo tb) {x z v : Int32} (d : decode cc pc = .ok (.irem, 1)) (hv : ho_rem x z = some v) (k : wk_V E K out σ' σ (pc + 1) L (vI v :: st)) : wk_V E K out σ' σ pc L (vI z :: vI x :: st) := by
  unfold ho_rem at hv
  split at hv
  · cases hv
  · next hz =>
    cases hv
    exact fun H locs ls h1 h2 h3 h4 h5 => lv_irem C.1 C.2.1 d hz (k H locs ls h1 h2 h3 h4 h5)
theorem wk_ldiv (C : wk_C E K y cc nL ret fr lo tb) {x z v : Int64} (d : decode cc pc = .ok (.ldiv, 1)) (hv : ho_divJ x z = some v) (k : wk_V E K out σ' σ (pc + 1) L (vJ v :: st)) : wk_V E K out σ' σ pc L (vJ z :: vJ x :: st) := by
  unfold ho_divJ at hv
  split at hv
  · cases hv
  · next hz =>
    cases hv
    exact fun H locs ls h1 h2 h3 h4 h5 => lv_ldiv C.1 C.2.1 d hz (k H locs ls h1 h2 h3 h4 h5)
theorem wk_lrem (C : wk_C E K y cc nL ret fr lo tb) {x z v : Int64} (d : decode cc pc = .ok (.lrem, 1)) (hv : ho_remJ x z = some v) (k : wk_V E K out σ' σ (pc + 1) L (vJ v :: st)) : wk_V E K out σ' σ pc L (vJ z :: vJ x :: st) := by
  unfold ho_remJ at hv
  split at hv
  · cases hv
  · next hz =>
    cases hv
    exact fun H locs ls h1 h2 h3 h4 h5 => lv_lrem C.1 C.2.1 d hz (k H locs ls h1 h2 h3 h4 h5)
theorem wk_iload_n (C : wk_C E K y cc nL ret fr lo tb) {j : Fin 4} {x : Int32} (n : Nat) (hl : L[n]? = some ((j : Nat), vI x)) (d : decode cc pc = .ok (.iload_n j, 1)) (k : wk_V E K out σ' σ (pc + 1) L (vI x :: st)) : wk_V E K out σ' σ pc L st := fun H locs ls h1 h2 h3 h4 h5 => lv_iload_n C.1 C.2.1 d rfl (lc_at h5 hl) (k H locs ls h1 h2 h3 h4 h5)
theorem wk_iload (C : wk_C E K y cc nL ret fr lo tb) {j : Nat} {x : Int32} (n : Nat) (hl : L[n]? = some (j, vI x)) (d : decode cc pc = .ok (.iload j, 2)) (k : wk_V E K out σ' σ (pc + 2) L (vI x :: st)) : wk_V E K out σ' σ pc L st := fun H locs ls h1 h2 h3 h4 h5 => lv_iload C.1 C.2.1 d (lc_at h5 hl) (k H locs ls h1 h2 h3 h4 h5)
theorem wk_lload_n (C : wk_C E K y cc nL ret fr lo tb) {j : Fin 4} {x : Int64} (n : Nat) (hl : L[n]? = some ((j : Nat), vJ x)) (d : decode cc pc = .ok (.lload_n j, 1)) (k : wk_V E K out σ' σ (pc + 1) L (vJ x :: st)) : wk_V E K out σ' σ pc L st := fun H locs ls h1 h2 h3 h4 h5 => lv_lload_n C.1 C.2.1 d rfl (lc_at h5 hl) (k H locs ls h1 h2 h3 h4 h5)
theorem wk_lload (C : wk_C E K y cc nL ret fr lo tb) {j : Nat} {x : Int64} (n : Nat) (hl : L[n]? = some (j, vJ x)) (d : decode cc pc = .ok (.lload j, 2)) (k : wk_V E K out σ' σ (pc + 2) L (vJ x :: st)) : wk_V E K out σ' σ pc L st := fun H locs ls h1 h2 h3 h4 h5 => lv_lload C.1 C.2.1 d (lc_at h5 hl) (k H locs ls h1 h2 h3 h4 h5)
theorem wk_aload_n (C : wk_C E K y cc nL ret fr lo tb) {j : Fin 4} {x : Option Nat} (n : Nat) (hl : L[n]? = some ((j : Nat), vR x)) (d : decode cc pc = .ok (.aload_n j, 1)) (k : wk_V E K out σ' σ (pc + 1) L (vR x :: st)) : wk_V E K out σ' σ pc L st := by
  intro H locs ls h1 h2 h3 h4 h5
  cases x with
  | none => exact lv_aload_nN C.1 C.2.1 d rfl (lc_at h5 hl) (k H locs ls h1 h2 h3 h4 h5)
  | some a => exact lv_aload_n C.1 C.2.1 d rfl (lc_at h5 hl) (k H locs ls h1 h2 h3 h4 h5)
theorem wk_aload (C : wk_C E K y cc nL ret fr lo tb) {j : Nat} {x : Option Nat} (n : Nat) (hl : L[n]? = some (j, vR x)) (d : decode cc pc = .ok (.aload j, 2)) (k : wk_V E K out σ' σ (pc + 2) L (vR x :: st)) : wk_V E K out σ' σ pc L st := by
  intro H locs ls h1 h2 h3 h4 h5
  cases x with
  | none => exact lv_aloadN C.1 C.2.1 d (lc_at h5 hl) (k H locs ls h1 h2 h3 h4 h5)
  | some a => exact lv_aload C.1 C.2.1 d (lc_at h5 hl) (k H locs ls h1 h2 h3 h4 h5)
theorem wk_istore_n (C : wk_C E K y cc nL ret fr lo tb) {j : Fin 4} {x : Int32} (hn : (j : Nat) < nL) (hl : lc_s1 L (j : Nat) (vI x) = L') (d : decode cc pc = .ok (.istore_n j, 1)) (k : wk_V E K out σ' σ (pc + 1) L' st) : wk_V E K out σ' σ pc L (vI x :: st) := fun H locs ls h1 h2 h3 h4 h5 => lv_istore_n C.1 C.2.1 d rfl h5 (by rw [C.2.2.1]; exact hn) rfl (fun ls' h' => k H locs ls' h1 h2 h3 h4 (lc_1 hl h'))
theorem wk_istore (C : wk_C E K y cc nL ret fr lo tb) {j : Nat} {x : Int32} (hn : j < nL) (hl : lc_s1 L j (vI x) = L') (d : decode cc pc = .ok (.istore j, 2)) (k : wk_V E K out σ' σ (pc + 2) L' st) : wk_V E K out σ' σ pc L (vI x :: st) := fun H locs ls h1 h2 h3 h4 h5 => lv_istore C.1 C.2.1 d h5 (by rw [C.2.2.1]; exact hn) rfl (fun ls' h' => k H locs ls' h1 h2 h3 h4 (lc_1 hl h'))
theorem wk_lstore_n (C : wk_C E K y cc nL ret fr lo tb) {j : Fin 4} {x : Int64} (hn : (j : Nat) + 1 < nL) (hl : lc_s2 L (j : Nat) (vJ x) = L') (d : decode cc pc = .ok (.lstore_n j, 1)) (k : wk_V E K out σ' σ (pc + 1) L' st) : wk_V E K out σ' σ pc L (vJ x :: st) := fun H locs ls h1 h2 h3 h4 h5 => lv_lstore_n C.1 C.2.1 d rfl h5 (by rw [C.2.2.1]; exact hn) rfl (fun ls' h' => k H locs ls' h1 h2 h3 h4 (lc_2 hl h'))
theorem wk_lstore (C : wk_C E K y cc nL ret fr lo tb) {j : Nat} {x : Int64} (hn : j + 1 < nL) (hl : lc_s2 L j (vJ x) = L') (d : decode cc pc = .ok (.lstore j, 2)) (k : wk_V E K out σ' σ (pc + 2) L' st) : wk_V E K out σ' σ pc L (vJ x :: st) := fun H locs ls h1 h2 h3 h4 h5 => lv_lstore C.1 C.2.1 d h5 (by rw [C.2.2.1]; exact hn) rfl (fun ls' h' => k H locs ls' h1 h2 h3 h4 (lc_2 hl h'))
theorem wk_astore_n (C : wk_C E K y cc nL ret fr lo tb) {j : Fin 4} {x : Option Nat} (hn : (j : Nat) < nL) (hl : lc_s1 L (j : Nat) (vR x) = L') (d : decode cc pc = .ok (.astore_n j, 1)) (k : wk_V E K out σ' σ (pc + 1) L' st) : wk_V E K out σ' σ pc L (vR x :: st) := by
  intro H locs ls h1 h2 h3 h4 h5
  cases x with
  | none => exact lv_astore_nN C.1 C.2.1 d rfl h5 (by rw [C.2.2.1]; exact hn) rfl (fun ls' h' => k H locs ls' h1 h2 h3 h4 (lc_1 hl h'))
  | some a => exact lv_astore_n C.1 C.2.1 d rfl h5 (by rw [C.2.2.1]; exact hn) rfl (fun ls' h' => k H locs ls' h1 h2 h3 h4 (lc_1 hl h'))
theorem wk_astore (C : wk_C E K y cc nL ret fr lo tb) {j : Nat} {x : Option Nat} (hn : j < nL) (hl : lc_s1 L j (vR x) = L') (d : decode cc pc = .ok (.astore j, 2)) (k : wk_V E K out σ' σ (pc + 2) L' st) : wk_V E K out σ' σ pc L (vR x :: st) := by
  intro H locs ls h1 h2 h3 h4 h5
  cases x with
  | none => exact lv_astoreN C.1 C.2.1 d h5 (by rw [C.2.2.1]; exact hn) rfl (fun ls' h' => k H locs ls' h1 h2 h3 h4 (lc_1 hl h'))
  | some a => exact lv_astore C.1 C.2.1 d h5 (by rw [C.2.2.1]; exact hn) rfl (fun ls' h' => k H locs ls' h1 h2 h3 h4 (lc_1 hl h'))
theorem wk_iinc (C : wk_C E K y cc nL ret fr lo tb) {j : Nat} {z : Int} {x v : Int32} (n : Nat) (hg : L[n]? = some (j, vI x)) (hn : j < nL) (hv : x + Int32.ofInt z = v) (hl : lc_s1 L j (vI v) = L') (d : decode cc pc = .ok (.iinc j z, 3)) (k : wk_V E K out σ' σ (pc + 3) L' st) : wk_V E K out σ' σ pc L st := fun H locs ls h1 h2 h3 h4 h5 => lv_iinc C.1 C.2.1 d h5 (k := n) (by unfold lc_v; rw [List.getElem?_map, hg]; rfl) hv (by rw [C.2.2.1]; exact hn) rfl (fun ls' h' => k H locs ls' h1 h2 h3 h4 (lc_1 hl h'))
theorem wk_dup (C : wk_C E K y cc nL ret fr lo tb) {t : TV} (hc : tcat t = 1) (d : decode cc pc = .ok (.dup, 1)) (k : wk_V E K out σ' σ (pc + 1) L (t :: t :: st)) : wk_V E K out σ' σ pc L (t :: st) := fun H locs ls h1 h2 h3 h4 h5 => lv_dup C.1 C.2.1 d ((tv_cat t).trans hc) (k H locs ls h1 h2 h3 h4 h5)
theorem wk_pop (C : wk_C E K y cc nL ret fr lo tb) {t : TV} (hc : tcat t = 1) (d : decode cc pc = .ok (.pop, 1)) (k : wk_V E K out σ' σ (pc + 1) L st) : wk_V E K out σ' σ pc L (t :: st) := fun H locs ls h1 h2 h3 h4 h5 => lv_pop C.1 C.2.1 d ((tv_cat t).trans hc) (k H locs ls h1 h2 h3 h4 h5)
theorem wk_dup_x1 (C : wk_C E K y cc nL ret fr lo tb) {t u : TV} (hc : tcat t = 1) (hc2 : tcat u = 1) (d : decode cc pc = .ok (.dup_x1, 1)) (k : wk_V E K out σ' σ (pc + 1) L (t :: u :: t :: st)) : wk_V E K out σ' σ pc L (t :: u :: st) := fun H locs ls h1 h2 h3 h4 h5 => lv_dup_x1 C.1 C.2.1 d ((tv_cat t).trans hc) ((tv_cat u).trans hc2) (k H locs ls h1 h2 h3 h4 h5)
theorem wk_dup_x2 (C : wk_C E K y cc nL ret fr lo tb) {t u z : TV} (hc : tcat t = 1) (hc2 : tcat u = 1) (hc3 : tcat z = 1) (d : decode cc pc = .ok (.dup_x2, 1)) (k : wk_V E K out σ' σ (pc + 1) L (t :: u :: z :: t :: st)) : wk_V E K out σ' σ pc L (t :: u :: z :: st) := fun H locs ls h1 h2 h3 h4 h5 => lv_dup_x2 C.1 C.2.1 d ((tv_cat t).trans hc) ((tv_cat u).trans hc2) ((tv_cat z).trans hc3) (k H locs ls h1 h2 h3 h4 h5)
theorem wk_dup2_11 (C : wk_C E K y cc nL ret fr lo tb) {t u : TV} (hc : tcat t = 1) (hc2 : tcat u = 1) (d : decode cc pc = .ok (.dup2, 1)) (k : wk_V E K out σ' σ (pc + 1) L (t :: u :: t :: u :: st)) : wk_V E K out σ' σ pc L (t :: u :: st) := fun H locs ls h1 h2 h3 h4 h5 => lv_dup2_11 C.1 C.2.1 d ((tv_cat t).trans hc) ((tv_cat u).trans hc2) (k H locs ls h1 h2 h3 h4 h5)
theorem wk_goto (C : wk_C E K y cc nL ret fr lo tb) {off : Int} (tgt : Nat) (ht : (pc : Int) + off = (tgt : Int)) (d : decode cc pc = .ok (.goto off, 3)) (k : wk_V E K out σ' σ tgt L st) : wk_V E K out σ' σ pc L st := fun H locs ls h1 h2 h3 h4 h5 => lv_goto C.1 C.2.1 d ht (k H locs ls h1 h2 h3 h4 h5)
theorem wk_if_eq (C : wk_C E K y cc nL ret fr lo tb) {x : Int32} {off : Int} (tgt : Nat) (ht : (pc : Int) + off = (tgt : Int)) (d : decode cc pc = .ok (.ifCond .eq off, 3)) (kt : x = 0 → wk_V E K out σ' σ tgt L st) (kf : ¬ x = 0 → wk_V E K out σ' σ (pc + 3) L st) : wk_V E K out σ' σ pc L (vI x :: st) := fun H locs ls h1 h2 h3 h4 h5 => lv_if_eq C.1 C.2.1 d ht (fun q => kt q H locs ls h1 h2 h3 h4 h5) (fun q => kf q H locs ls h1 h2 h3 h4 h5)
theorem wk_icmp_eq (C : wk_C E K y cc nL ret fr lo tb) {x z : Int32} {off : Int} (tgt : Nat) (ht : (pc : Int) + off = (tgt : Int)) (d : decode cc pc = .ok (.if_icmp .eq off, 3)) (kt : x = z → wk_V E K out σ' σ tgt L st) (kf : ¬ x = z → wk_V E K out σ' σ (pc + 3) L st) : wk_V E K out σ' σ pc L (vI z :: vI x :: st) := fun H locs ls h1 h2 h3 h4 h5 => lv_icmp_eq C.1 C.2.1 d ht (fun q => kt q H locs ls h1 h2 h3 h4 h5) (fun q => kf q H locs ls h1 h2 h3 h4 h5)
theorem wk_if_ne (C : wk_C E K y cc nL ret fr lo tb) {x : Int32} {off : Int} (tgt : Nat) (ht : (pc : Int) + off = (tgt : Int)) (d : decode cc pc = .ok (.ifCond .ne off, 3)) (kt : ¬ x = 0 → wk_V E K out σ' σ tgt L st) (kf : x = 0 → wk_V E K out σ' σ (pc + 3) L st) : wk_V E K out σ' σ pc L (vI x :: st) := fun H locs ls h1 h2 h3 h4 h5 => lv_if_ne C.1 C.2.1 d ht (fun q => kt q H locs ls h1 h2 h3 h4 h5) (fun q => kf q H locs ls h1 h2 h3 h4 h5)
theorem wk_icmp_ne (C : wk_C E K y cc nL ret fr lo tb) {x z : Int32} {off : Int} (tgt : Nat) (ht : (pc : Int) + off = (tgt : Int)) (d : decode cc pc = .ok (.if_icmp .ne off, 3)) (kt : ¬ x = z → wk_V E K out σ' σ tgt L st) (kf : x = z → wk_V E K out σ' σ (pc + 3) L st) : wk_V E K out σ' σ pc L (vI z :: vI x :: st) := fun H locs ls h1 h2 h3 h4 h5 => lv_icmp_ne C.1 C.2.1 d ht (fun q => kt q H locs ls h1 h2 h3 h4 h5) (fun q => kf q H locs ls h1 h2 h3 h4 h5)
theorem wk_if_lt (C : wk_C E K y cc nL ret fr lo tb) {x : Int32} {off : Int} (tgt : Nat) (ht : (pc : Int) + off = (tgt : Int)) (d : decode cc pc = .ok (.ifCond .lt off, 3)) (kt : x < 0 → wk_V E K out σ' σ tgt L st) (kf : ¬ x < 0 → wk_V E K out σ' σ (pc + 3) L st) : wk_V E K out σ' σ pc L (vI x :: st) := fun H locs ls h1 h2 h3 h4 h5 => lv_if_lt C.1 C.2.1 d ht (fun q => kt q H locs ls h1 h2 h3 h4 h5) (fun q => kf q H locs ls h1 h2 h3 h4 h5)
theorem wk_icmp_lt (C : wk_C E K y cc nL ret fr lo tb) {x z : Int32} {off : Int} (tgt : Nat) (ht : (pc : Int) + off = (tgt : Int)) (d : decode cc pc = .ok (.if_icmp .lt off, 3)) (kt : x < z → wk_V E K out σ' σ tgt L st) (kf : ¬ x < z → wk_V E K out σ' σ (pc + 3) L st) : wk_V E K out σ' σ pc L (vI z :: vI x :: st) := fun H locs ls h1 h2 h3 h4 h5 => lv_icmp_lt C.1 C.2.1 d ht (fun q => kt q H locs ls h1 h2 h3 h4 h5) (fun q => kf q H locs ls h1 h2 h3 h4 h5)
theorem wk_if_ge (C : wk_C E K y cc nL ret fr lo tb) {x : Int32} {off : Int} (tgt : Nat) (ht : (pc : Int) + off = (tgt : Int)) (d : decode cc pc = .ok (.ifCond .ge off, 3)) (kt : 0 ≤ x → wk_V E K out σ' σ tgt L st) (kf : ¬ 0 ≤ x → wk_V E K out σ' σ (pc + 3) L st) : wk_V E K out σ' σ pc L (vI x :: st) := fun H locs ls h1 h2 h3 h4 h5 => lv_if_ge C.1 C.2.1 d ht (fun q => kt q H locs ls h1 h2 h3 h4 h5) (fun q => kf q H locs ls h1 h2 h3 h4 h5)
theorem wk_icmp_ge (C : wk_C E K y cc nL ret fr lo tb) {x z : Int32} {off : Int} (tgt : Nat) (ht : (pc : Int) + off = (tgt : Int)) (d : decode cc pc = .ok (.if_icmp .ge off, 3)) (kt : z ≤ x → wk_V E K out σ' σ tgt L st) (kf : ¬ z ≤ x → wk_V E K out σ' σ (pc + 3) L st) : wk_V E K out σ' σ pc L (vI z :: vI x :: st) := fun H locs ls h1 h2 h3 h4 h5 => lv_icmp_ge C.1 C.2.1 d ht (fun q => kt q H locs ls h1 h2 h3 h4 h5) (fun q => kf q H locs ls h1 h2 h3 h4 h5)
theorem wk_if_gt (C : wk_C E K y cc nL ret fr lo tb) {x : Int32} {off : Int} (tgt : Nat) (ht : (pc : Int) + off = (tgt : Int)) (d : decode cc pc = .ok (.ifCond .gt off, 3)) (kt : 0 < x → wk_V E K out σ' σ tgt L st) (kf : ¬ 0 < x → wk_V E K out σ' σ (pc + 3) L st) : wk_V E K out σ' σ pc L (vI x :: st) := fun H locs ls h1 h2 h3 h4 h5 => lv_if_gt C.1 C.2.1 d ht (fun q => kt q H locs ls h1 h2 h3 h4 h5) (fun q => kf q H locs ls h1 h2 h3 h4 h5)
theorem wk_icmp_gt (C : wk_C E K y cc nL ret fr lo tb) {x z : Int32} {off : Int} (tgt : Nat) (ht : (pc : Int) + off = (tgt : Int)) (d : decode cc pc = .ok (.if_icmp .gt off, 3)) (kt : z < x → wk_V E K out σ' σ tgt L st) (kf : ¬ z < x → wk_V E K out σ' σ (pc + 3) L st) : wk_V E K out σ' σ pc L (vI z :: vI x :: st) := fun H locs ls h1 h2 h3 h4 h5 => lv_icmp_gt C.1 C.2.1 d ht (fun q => kt q H locs ls h1 h2 h3 h4 h5) (fun q => kf q H locs ls h1 h2 h3 h4 h5)
theorem wk_if_le (C : wk_C E K y cc nL ret fr lo tb) {x : Int32} {off : Int} (tgt : Nat) (ht : (pc : Int) + off = (tgt : Int)) (d : decode cc pc = .ok (.ifCond .le off, 3)) (kt : x ≤ 0 → wk_V E K out σ' σ tgt L st) (kf : ¬ x ≤ 0 → wk_V E K out σ' σ (pc + 3) L st) : wk_V E K out σ' σ pc L (vI x :: st) := fun H locs ls h1 h2 h3 h4 h5 => lv_if_le C.1 C.2.1 d ht (fun q => kt q H locs ls h1 h2 h3 h4 h5) (fun q => kf q H locs ls h1 h2 h3 h4 h5)
theorem wk_icmp_le (C : wk_C E K y cc nL ret fr lo tb) {x z : Int32} {off : Int} (tgt : Nat) (ht : (pc : Int) + off = (tgt : Int)) (d : decode cc pc = .ok (.if_icmp .le off, 3)) (kt : x ≤ z → wk_V E K out σ' σ tgt L st) (kf : ¬ x ≤ z → wk_V E K out σ' σ (pc + 3) L st) : wk_V E K out σ' σ pc L (vI z :: vI x :: st) := fun H locs ls h1 h2 h3 h4 h5 => lv_icmp_le C.1 C.2.1 d ht (fun q => kt q H locs ls h1 h2 h3 h4 h5) (fun q => kf q H locs ls h1 h2 h3 h4 h5)
theorem wk_acmp_eq (C : wk_C E K y cc nL ret fr lo tb) {x z : Option Nat} {off : Int} (tgt : Nat) (ht : (pc : Int) + off = (tgt : Int)) (d : decode cc pc = .ok (.if_acmp .eq off, 3)) (kt : x = z → wk_V E K out σ' σ tgt L st) (kf : ¬ x = z → wk_V E K out σ' σ (pc + 3) L st) : wk_V E K out σ' σ pc L (vR z :: vR x :: st) := fun H locs ls h1 h2 h3 h4 h5 => lv_acmp_eq C.1 C.2.1 d ht (fun q => kt q H locs ls h1 h2 h3 h4 h5) (fun q => kf q H locs ls h1 h2 h3 h4 h5)
theorem wk_acmp_ne (C : wk_C E K y cc nL ret fr lo tb) {x z : Option Nat} {off : Int} (tgt : Nat) (ht : (pc : Int) + off = (tgt : Int)) (d : decode cc pc = .ok (.if_acmp .ne off, 3)) (kt : ¬ x = z → wk_V E K out σ' σ tgt L st) (kf : x = z → wk_V E K out σ' σ (pc + 3) L st) : wk_V E K out σ' σ pc L (vR z :: vR x :: st) := fun H locs ls h1 h2 h3 h4 h5 => lv_acmp_ne C.1 C.2.1 d ht (fun q => kt q H locs ls h1 h2 h3 h4 h5) (fun q => kf q H locs ls h1 h2 h3 h4 h5)
theorem wk_ifnull (C : wk_C E K y cc nL ret fr lo tb) {x : Option Nat} {off : Int} (tgt : Nat) (ht : (pc : Int) + off = (tgt : Int)) (d : decode cc pc = .ok (.ifnull off, 3)) (kt : x = none → wk_V E K out σ' σ tgt L st) (kf : ¬ x = none → wk_V E K out σ' σ (pc + 3) L st) : wk_V E K out σ' σ pc L (vR x :: st) := by
  intro H locs ls h1 h2 h3 h4 h5
  cases x with
  | none => exact lv_ifnullN C.1 C.2.1 d ht (kt rfl H locs ls h1 h2 h3 h4 h5)
  | some a => exact lv_ifnull C.1 C.2.1 d (kf (fun q => by cases q) H locs ls h1 h2 h3 h4 h5)
theorem wk_ifnonnull (C : wk_C E K y cc nL ret fr lo tb) {x : Option Nat} {off : Int} (tgt : Nat) (ht : (pc : Int) + off = (tgt : Int)) (d : decode cc pc = .ok (.ifnonnull off, 3)) (kt : ¬ x = none → wk_V E K out σ' σ tgt L st) (kf : x = none → wk_V E K out σ' σ (pc + 3) L st) : wk_V E K out σ' σ pc L (vR x :: st) := by
  intro H locs ls h1 h2 h3 h4 h5
  cases x with
  | none => exact lv_ifnonnullN C.1 C.2.1 d (kf rfl H locs ls h1 h2 h3 h4 h5)
  | some a => exact lv_ifnonnull C.1 C.2.1 d ht (kt (fun q => by cases q) H locs ls h1 h2 h3 h4 h5)
end WK
