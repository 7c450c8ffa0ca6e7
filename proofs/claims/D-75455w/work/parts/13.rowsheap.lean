/-! rows that read and write the heap -/
/-- the entry 'index' of class own names the field ref.n : d, declared in o -/
def fx_l (own : String) (index : Nat) (ref o n d : String) : Prop := ((Cond.fieldLink own index ref n d) ∈ lw_all ∨ ∃ host, (Cond.fieldLinkNest own index ref n d host) ∈ lw_nw) ∧ (ref = o ∨ (Cond.sameField ref o n d) ∈ lw_all)
/-- in objects of the kinds cs that field stands at place k -/
def fx_d (cs : List Nat) (k : Nat) (o n d : String) : Prop := ∀ c ∈ cs, (c < 100 ∧ ∃ r : vw_C, vwCl[c]? = some r ∧ k < r.2.2 ∧ (r.2.1 k).1 = o ∧ (r.2.1 k).2.1 = n ∧ (r.2.1 k).2.2.1 = d) ∨ (200 ≤ c ∧ (wk_sc c).2[k]? = some (o, n, d))
def fx (own : String) (index : Nat) (cs : List Nat) (k : Nat) : Prop := ∃ ref o n d, fx_l own index ref o n d ∧ fx_d cs k o n d
/-- a field that may be written: its type, whether it is final -/
def px_d (cs : List Nat) (k : Nat) (o n d : String) (fin : Bool) : Prop := ∀ c ∈ cs, c < 100 ∧ ∃ r : vw_C, vwCl[c]? = some r ∧ k < r.2.2 ∧ r.2.1 k = (o, n, d, fin)
def px (own : String) (index : Nat) (cs : List Nat) (k : Nat) (ty : FieldType) (fin : Bool) : Prop := ∃ ref o n d, fx_l own index ref o n d ∧ px_d cs k o n d fin ∧ parseFieldDescriptor d = some ty ∧ (fin = true → o = own ∧ Cond.fieldLink own index ref n d ∈ lw_all)
theorem va_S.keep {A : Nat → Prop} {H0 H : Heap} {locs : List Loc} (h : va_S A H0 H locs) {a : Nat} (h1 : a < H0.size) (h2 : ¬ A a) : H[a]? = H0[a]? := h.2.1 a h1 h2
theorem wk_same {args : Array Value} {s : State} {ref o n d : String} (hts : ∀ w ∈ lw_all, w.before args s = true) (h : ref = o ∨ (Cond.sameField ref o n d) ∈ lw_all) (x : ClassId × Class × Nat × Field) (hx : s.fieldFound? o n d = some x) : s.fieldFound? ref n d = some x := by
  rcases h with rfl | h
  · exact hx
  · exact u_same (hts _ h) x hx
/-- what a field's read stands on -/
theorem wk_fld {E : Ev} {s : State} {args : Array Value} {H : Heap} {a c k : Nat} {cs : List Nat} {fs : List Value} {o n d : String} {v : Value} (hts : ∀ w ∈ lw_all, w.before args s = true) (hF : wk_PF E s) (hX : wk_X E s H a (.inr (c, fs))) (hc : c ∈ cs) (hd : fx_d cs k o n d) (hv : fs[k]? = some v) :
    ∃ (cf : ClassId) (kk : Class) (i : Nat) (f : Field) (cell : Cell), s.fieldFound? o n d = some (cf, kk, i, f) ∧ f.isStatic = false ∧ H[a]? = some cell ∧ cell.vm ≠ .unknown ∧ cell.slots[f.slot]? = some v := by
  rcases hd c hc with ⟨hc1, r, hr, hk, h1, h2, h3⟩ | ⟨hc1, hq⟩
  · have hX' : wk_XN E H a (c, fs) ∧ wk_A E a := by
      have := hX
      unfold wk_X at this
      dsimp only at this
      rwa [if_pos hc1] at this
    obtain ⟨⟨r', hr', hlen, cell, q1, q2, q3, q4⟩, -⟩ := hX'
    cases Option.some.inj (hr'.symm.trans hr)
    obtain ⟨ty, hty⟩ := vw_ty hr
    obtain ⟨hin, -, -⟩ := vw_all c r ty hr hty
    obtain ⟨hS, hfc, kC, hkC, hkind⟩ := hF.1 c r hr
    obtain ⟨cf, kf, fi, f, hi, hsl⟩ := hS k hk
    rw [h1, h2, h3] at hi
    have hst := (u_facts hfc hkC (u_lays hts hin hk) (by rw [h1, h2, h3]; exact hi)).1
    refine ⟨cf, kf, fi, f, cell, hi, hst, q1, (by rw [q3]; exact (fun h => by cases h)), ?_⟩
    rw [hsl, q4 k hk]
    simp [vp_V, hv]
  · have hX' : wk_XS s H a (c, fs) := by
      have := hX
      unfold wk_X at this
      dsimp only at this
      rwa [if_neg (by omega), if_neg (by omega)] at this
    obtain ⟨cell, g1, g2, g3, g4, g5⟩ := hX'
    obtain ⟨cf, kk, i, f, e1, e2, e3⟩ := g5 k _ v hq hv
    exact ⟨cf, kk, i, f, cell, e1, e2, g1, g3, e3⟩
section WKH
variable {E : Ev} {K : Kx} {out : Ot} {σ' σ : Hs} {y : MethodName} {cc : ByteArray} {nL : Nat} {ret : Option FieldType} {fr lo : Nat} {tb : List ExceptionTableEntry} {pc : Nat} {L L' : Lc} {st : List TV}
theorem wk_getf (C : wk_C E K y cc nL ret fr lo tb) {index k : Nat} {cs : List Nat} {r : Option Nat} {v : Value} {t : TV} (F : fx y.cls index cs k) (hv : ho_f σ r cs k = some v) (ht : v = tv t) (d : decode cc pc = .ok (.getfield index, 3)) (kk : wk_V E K out σ' σ (pc + 3) L (t :: st)) : wk_V E K out σ' σ pc L (vR r :: st) := by
  intro H locs ls h1 h2 h3 h4 h5
  obtain ⟨hx, hb, -, -, -, hown, hts, hF, -⟩ := C
  obtain ⟨ref, o, n, dd, ⟨hlk, hsm⟩, hd⟩ := F
  obtain ⟨a, c, fs, rfl, hg, hc, hfs⟩ := ho_f_of hv
  obtain ⟨cf, kf, i, f, cell, e1, e2, e3, e4, e5⟩ := wk_fld hts hF (h1.2 a _ hg) hc hd hfs
  have K1 := kk H locs ls h1 h2 h3 h4 h5
  subst ht
  rcases hlk with hlk | ⟨host, hlk⟩
  · exact W.getf (g := F0 (km K) pc ls (.ref a :: st.map tv)) hx hb hown (hts _ hlk) (wk_same hts hsm _ e1) e2 e3 e4 e5 rfl rfl d K1
  · exact va_Wgetf (g := F0 (km K) pc ls (.ref a :: st.map tv)) hx hb hown (nw_use (List.mem_filter.mp hlk).2 (hF.2.1 _ hlk)) (wk_same hts hsm _ e1) e2 e3 e4 e5 rfl rfl d K1
theorem wk_getI (C : wk_C E K y cc nL ret fr lo tb) {index k : Nat} {cs : List Nat} {r : Option Nat} {x : Int32} (F : fx y.cls index cs k) (hv : ho_fI σ r cs k = some x) (d : decode cc pc = .ok (.getfield index, 3)) (kk : wk_V E K out σ' σ (pc + 3) L (vI x :: st)) : wk_V E K out σ' σ pc L (vR r :: st) := by
  obtain ⟨v, hv, hx⟩ := ho_b hv
  exact wk_getf C F hv (ho_asI_of hx) d kk
theorem wk_getJ (C : wk_C E K y cc nL ret fr lo tb) {index k : Nat} {cs : List Nat} {r : Option Nat} {x : Int64} (F : fx y.cls index cs k) (hv : ho_fJ σ r cs k = some x) (d : decode cc pc = .ok (.getfield index, 3)) (kk : wk_V E K out σ' σ (pc + 3) L (vJ x :: st)) : wk_V E K out σ' σ pc L (vR r :: st) := by
  obtain ⟨v, hv, hx⟩ := ho_b hv
  exact wk_getf C F hv (ho_asJ_of hx) d kk
theorem wk_getF (C : wk_C E K y cc nL ret fr lo tb) {index k : Nat} {cs : List Nat} {r : Option Nat} {x : UInt32} (F : fx y.cls index cs k) (hv : ho_fF σ r cs k = some x) (d : decode cc pc = .ok (.getfield index, 3)) (kk : wk_V E K out σ' σ (pc + 3) L (vF x :: st)) : wk_V E K out σ' σ pc L (vR r :: st) := by
  obtain ⟨v, hv, hx⟩ := ho_b hv
  exact wk_getf C F hv (ho_asF_of hx) d kk
theorem wk_getR (C : wk_C E K y cc nL ret fr lo tb) {index k : Nat} {cs : List Nat} {r x : Option Nat} (F : fx y.cls index cs k) (hv : ho_fR σ r cs k = some x) (d : decode cc pc = .ok (.getfield index, 3)) (kk : wk_V E K out σ' σ (pc + 3) L (vR x :: st)) : wk_V E K out σ' σ pc L (vR r :: st) := by
  obtain ⟨v, hv, hx⟩ := ho_b hv
  exact wk_getf C F hv (ho_asR_of hx) d kk
theorem wk_putf (C : wk_C E K y cc nL ret fr lo tb) {index k : Nat} {cs : List Nat} {r : Option Nat} {t : TV} {ty : FieldType} {fin : Bool} {σ1 : Hs} (F : px y.cls index cs k ty fin) (hfin : fin = true → y.name = "<init>") (hv : ho_p σ r cs k (tv t) = some σ1) (hn : narrow ty (tv t) = tv t) (hfit : fits ty (tv t) = true) (d : decode cc pc = .ok (.putfield index, 3)) (kk : wk_V E K out σ' σ1 (pc + 3) L st) : wk_V E K out σ' σ pc L (t :: vR r :: st) := by
  intro H locs ls h1 h2 h3 h4 h5
  obtain ⟨hx, hb, -, -, -, hown, hts, hF, -, hnm, -⟩ := C
  obtain ⟨ref, o, n, dd, ⟨hlk, hsm⟩, hd, hpd, hfo⟩ := F
  obtain ⟨a, c, fs, rfl, hg, hc, hk, rfl⟩ := ho_p_of hv
  obtain ⟨hc1, q, hq, hkq, hrow⟩ := hd c hc
  have hX := h1.2 a _ hg
  have hX' : wk_XN E H a (c, fs) ∧ wk_A E a := by
    have := hX
    unfold wk_X at this
    dsimp only at this
    rwa [if_pos hc1] at this
  obtain ⟨⟨r', hr', hlen, cell, q1, q2, q3, q4⟩, hA⟩ := hX'
  cases Option.some.inj (hr'.symm.trans hq)
  obtain ⟨ty0, hty0⟩ := vw_ty hq
  obtain ⟨hin, hty, hnmd⟩ := vw_all c q ty0 hq hty0
  have hKn := hF.1 c q hq
  obtain ⟨hS, hfc, kC, hkC, hkind⟩ := id hKn
  obtain ⟨cf, kf, fi, f, hi, hsl⟩ := hS k hkq
  rw [hrow] at hi
  dsimp only at hi
  have hlays := u_lays hts hin hkq
  rw [hrow] at hlays
  dsimp only at hlays
  have hst := (u_facts hfc hkC hlays hi).1
  have hap : ∀ x z, x < q.2.2 → z < q.2.2 → x ≠ z → (E.1.2 c) x ≠ (E.1.2 c) z := by
    intro x z hx1 hz1 hne
    obtain ⟨_, _, _, fa, hia, ea⟩ := hS x hx1
    obtain ⟨_, _, _, fb, hib, eb⟩ := hS z hz1
    rw [← ea, ← eb]
    refine u_apart (u_lays hts hin hx1) (u_lays hts hin hz1) hia hib ?_
    rw [(State.fieldFound?_type hia (hty x hx1)).1, (State.fieldFound?_type hib (hty z hz1)).1]
    exact hnmd x hx1 z hz1 hne
  have hfits := u_fits hfc hkC hkind hlays hi hpd hn hfit
  have fin' : ∀ (H' : Heap), H'[a]? = some (cell.setSlot f.slot (tv t)) → H'.size = H.size → (∀ q, q ≠ a → H'[q]? = H[q]?) → W (kp K) (kl K) (ke K) (kR K) (ks K) (km K) (ka K) (kb K) (kM K) (kc K) H' (locs ++ [⟨a, f.slot⟩]) ((kR K).cells - σ.2.1) ((kR K).slots - σ.2.2) (wk_Q E K out σ') (F0 (km K) (pc + 3) ls (st.map tv)) := by
    intro H' e1 e2 e3
    rw [hsl] at e1 ⊢
    refine kk H' _ ls (h1.set e2 e3 ?_) (h2.put e2 e3 hA) h3 h4 h5
    show wk_X E (ks K) H' a (.inr (c, fs.set k (tv t)))
    unfold wk_X
    dsimp only
    rw [if_pos hc1]
    exact ⟨⟨q, hq, by rw [List.length_set]; exact hlen, t_OB.to (V := updV (vp_V fs) k (tv t)) ⟨_, e1, q2, q3, t_set q4 hap hkq (tv t)⟩ (fun j _ => vp_updV_set hk (tv t) j)⟩, hA⟩
  cases fin with
  | true =>
    obtain ⟨ho, hlk'⟩ := hfo rfl
    have hlay := hts _ (hin _ (u_in_lay hkq))
    unfold u_lay at hlay
    rw [hrow] at hlay
    rw [if_pos rfl] at hlay
    dsimp only at hlay
    have hcf : (km K).cls = cf := by
      obtain ⟨_, _, c', _, _, _, -, -, hf', -, -, -, hown2, -⟩ := Cond.laysFinal_spec hlay
      have e1 : c' = cf := by have := hi.symm.trans hf'; simp at this; exact this.1.symm
      rw [ho] at hown2
      rw [← e1]; exact Option.some.inj (hown.symm.trans hown2)
    exact W.putFinK (g := F0 (km K) pc ls (tv t :: .ref a :: st.map tv)) hx hb hown (hts _ hlk') (wk_same hts hsm _ hi) hst hcf (hnm.trans (hfin rfl)) (by rw [q2]; exact hfits) q1 q3 (by rw [hsl]; exact k2_hasslot (q4 k hkq)) rfl rfl d fin'
  | false =>
    have hlay := hts _ (hin _ (u_in_lay hkq))
    unfold u_lay at hlay
    rw [hrow] at hlay
    rw [if_neg (show ¬ ((o, n, dd, false) : String × String × String × Bool).2.2.2 = true from fun q => by cases q)] at hlay
    dsimp only at hlay
    have h6 := u_store hfc hkC hkind hlay hi hpd hn hfit
    rcases hlk with hlk | ⟨host, hlk⟩
    · exact W.putK (g := F0 (km K) pc ls (tv t :: .ref a :: st.map tv)) hx hb (f := f) ⟨hown, hts _ hlk, ⟨_, _, _, wk_same hts hsm _ hi⟩, hst⟩ (by rw [q2]; exact h6) q1 q3 (by rw [hsl]; exact k2_hasslot (q4 k hkq)) rfl rfl d fin'
    · exact va_WputK (g := F0 (km K) pc ls (tv t :: .ref a :: st.map tv)) hx hb (f := f) hown (nw_use (List.mem_filter.mp hlk).2 (hF.2.1 _ hlk)) (wk_same hts hsm _ hi) hst (by rw [q2]; exact h6) q1 q3 (by rw [hsl]; exact k2_hasslot (q4 k hkq)) rfl rfl d fin'
theorem wk_putI (C : wk_C E K y cc nL ret fr lo tb) {index k : Nat} {cs : List Nat} {r : Option Nat} {x : Int32} {fin : Bool} {σ1 : Hs} (F : px y.cls index cs k .int fin) (hfin : fin = true → y.name = "<init>") (hv : ho_pI σ r cs k x = some σ1) (d : decode cc pc = .ok (.putfield index, 3)) (kk : wk_V E K out σ' σ1 (pc + 3) L st) : wk_V E K out σ' σ pc L (vI x :: vR r :: st) := wk_putf C F hfin hv rfl rfl d kk
theorem wk_putJ (C : wk_C E K y cc nL ret fr lo tb) {index k : Nat} {cs : List Nat} {r : Option Nat} {x : Int64} {fin : Bool} {σ1 : Hs} (F : px y.cls index cs k .long fin) (hfin : fin = true → y.name = "<init>") (hv : ho_pJ σ r cs k x = some σ1) (d : decode cc pc = .ok (.putfield index, 3)) (kk : wk_V E K out σ' σ1 (pc + 3) L st) : wk_V E K out σ' σ pc L (vJ x :: vR r :: st) := wk_putf C F hfin hv rfl rfl d kk
theorem wk_putF (C : wk_C E K y cc nL ret fr lo tb) {index k : Nat} {cs : List Nat} {r : Option Nat} {x : UInt32} {fin : Bool} {σ1 : Hs} (F : px y.cls index cs k .float fin) (hfin : fin = true → y.name = "<init>") (hv : ho_pF σ r cs k x = some σ1) (d : decode cc pc = .ok (.putfield index, 3)) (kk : wk_V E K out σ' σ1 (pc + 3) L st) : wk_V E K out σ' σ pc L (vF x :: vR r :: st) := wk_putf C F hfin hv rfl rfl d kk
theorem wk_putZ (C : wk_C E K y cc nL ret fr lo tb) {index k : Nat} {cs : List Nat} {r : Option Nat} {x : Int32} {fin : Bool} {σ1 : Hs} (F : px y.cls index cs k .boolean fin) (hfin : fin = true → y.name = "<init>") (hv : ho_pZ σ r cs k x = some σ1) (d : decode cc pc = .ok (.putfield index, 3)) (kk : wk_V E K out σ' σ1 (pc + 3) L st) : wk_V E K out σ' σ pc L (vI x :: vR r :: st) := by
  unfold ho_pZ at hv
  split at hv
  · next hx =>
    rcases hx with rfl | rfl
    · exact wk_putf C F hfin hv rfl rfl d kk
    · exact wk_putf C F hfin hv rfl rfl d kk
  · cases hv
theorem wk_putR (C : wk_C E K y cc nL ret fr lo tb) {index k : Nat} {cs : List Nat} {r x : Option Nat} {ty : FieldType} {fin : Bool} {σ1 : Hs} (F : px y.cls index cs k ty fin) (hty : (∃ n, ty = .object n) ∨ ∃ t, ty = .array t) (hfin : fin = true → y.name = "<init>") (hv : ho_pR σ r cs k x = some σ1) (d : decode cc pc = .ok (.putfield index, 3)) (kk : wk_V E K out σ' σ1 (pc + 3) L st) : wk_V E K out σ' σ pc L (vR x :: vR r :: st) := by
  refine wk_putf C F hfin hv ?_ ?_ d kk
  · rcases hty with ⟨n, rfl⟩ | ⟨t, rfl⟩ <;> cases x <;> rfl
  · rcases hty with ⟨n, rfl⟩ | ⟨t, rfl⟩ <;> cases x <;> rfl
theorem wk_alen (C : wk_C E K y cc nL ret fr lo tb) {r : Option Nat} {x : Int32} (hv : ho_len σ r = some x) (d : decode cc pc = .ok (.arraylength, 1)) (kk : wk_V E K out σ' σ (pc + 1) L (vI x :: st)) : wk_V E K out σ' σ pc L (vR r :: st) := by
  intro H locs ls h1 h2 h3 h4 h5
  obtain ⟨⟨k, v⟩, hx, hv⟩ := ho_b hv
  cases hv
  obtain ⟨a, rfl, hg⟩ := ho_ar_of hx
  obtain ⟨cell, e1, e2, e3, e4, e5, e6⟩ := (h1.2 a _ hg).1.cell
  exact W.alen (g := F0 (km K) pc ls (.ref a :: st.map tv)) C.1 C.2.1 e1 e2 e5 rfl rfl d (kk H locs ls h1 h2 h3 h4 h5)
theorem wk_iald (C : wk_C E K y cc nL ret fr lo tb) {r : Option Nat} {i x : Int32} (hv : ho_aI σ r [0, 90] i = some x) (d : decode cc pc = .ok (.iaload, 1)) (kk : wk_V E K out σ' σ (pc + 1) L (vI x :: st)) : wk_V E K out σ' σ pc L (vI i :: vR r :: st) := by
  intro H locs ls h1 h2 h3 h4 h5
  obtain ⟨a, k, n, f, rfl, hg, hk, hi, rfl⟩ := ho_aI_of hv
  obtain ⟨cell, e1, e2, e3, e4, e5, e6⟩ := (h1.2 a _ hg).1.cell
  have ht : ho_ty k = .int := by
    simp only [List.mem_cons, List.not_mem_nil, or_false] at hk
    rcases hk with rfl | rfl <;> rfl
  dsimp only at e2 e4 e6
  rw [ht] at e2
  obtain ⟨i1, i2⟩ := ho_ix_of hi
  exact W.iald (g := F0 (km K) pc ls (.int i :: .ref a :: st.map tv)) C.1 C.2.1 e1 e2 e3 (fun q => q.elim (fun z => i1 (Or.inl z)) (fun z => Nat.lt_irrefl _ (Nat.lt_of_lt_of_le (Nat.lt_of_lt_of_le i2 e4) z))) (e6 _ i2) rfl rfl d (kk H locs ls h1 h2 h3 h4 h5)
theorem wk_bald (C : wk_C E K y cc nL ret fr lo tb) {r : Option Nat} {i x : Int32} (hv : ho_aI σ r [2, 91] i = some x) (d : decode cc pc = .ok (.baload, 1)) (kk : wk_V E K out σ' σ (pc + 1) L (vI x :: st)) : wk_V E K out σ' σ pc L (vI i :: vR r :: st) := by
  intro H locs ls h1 h2 h3 h4 h5
  obtain ⟨a, k, n, f, rfl, hg, hk, hi, rfl⟩ := ho_aI_of hv
  obtain ⟨cell, e1, e2, e3, e4, e5, e6⟩ := (h1.2 a _ hg).1.cell
  have ht : ho_ty k = .byte := by
    simp only [List.mem_cons, List.not_mem_nil, or_false] at hk
    rcases hk with rfl | rfl <;> rfl
  dsimp only at e2 e4 e6
  rw [ht] at e2
  obtain ⟨i1, i2⟩ := ho_ix_of hi
  exact W.bald (g := F0 (km K) pc ls (.int i :: .ref a :: st.map tv)) C.1 C.2.1 e1 e2 e3 (fun q => q.elim (fun z => i1 (Or.inl z)) (fun z => Nat.lt_irrefl _ (Nat.lt_of_lt_of_le (Nat.lt_of_lt_of_le i2 e4) z))) (e6 _ i2) rfl rfl d (kk H locs ls h1 h2 h3 h4 h5)
theorem wk_lald (C : wk_C E K y cc nL ret fr lo tb) {r : Option Nat} {i : Int32} {x : Int64} (hv : ho_aJ σ r [1] i = some x) (d : decode cc pc = .ok (.laload, 1)) (kk : wk_V E K out σ' σ (pc + 1) L (vJ x :: st)) : wk_V E K out σ' σ pc L (vI i :: vR r :: st) := by
  intro H locs ls h1 h2 h3 h4 h5
  obtain ⟨a, k, n, f, rfl, hg, hk, hi, rfl⟩ := ho_aJ_of hv
  obtain ⟨cell, e1, e2, e3, e4, e5, e6⟩ := (h1.2 a _ hg).1.cell
  rw [List.mem_singleton.mp hk] at e2
  dsimp only at e4 e6
  obtain ⟨i1, i2⟩ := ho_ix_of hi
  exact W.lald (g := F0 (km K) pc ls (.int i :: .ref a :: st.map tv)) C.1 C.2.1 e1 e2 e3 (fun q => q.elim (fun z => i1 (Or.inl z)) (fun z => Nat.lt_irrefl _ (Nat.lt_of_lt_of_le (Nat.lt_of_lt_of_le i2 e4) z))) (e6 _ i2) rfl rfl d (kk H locs ls h1 h2 h3 h4 h5)
theorem wk_aald (C : wk_C E K y cc nL ret fr lo tb) {r x : Option Nat} {i : Int32} (hv : ho_aR σ r [3, 4, 5, 6, 7, 8] i = some x) (d : decode cc pc = .ok (.aaload, 1)) (kk : wk_V E K out σ' σ (pc + 1) L (vR x :: st)) : wk_V E K out σ' σ pc L (vI i :: vR r :: st) := by
  intro H locs ls h1 h2 h3 h4 h5
  obtain ⟨a, k, n, f, rfl, hg, hk, hi, rfl⟩ := ho_aR_of hv
  obtain ⟨cell, e1, e2, e3, e4, e5, e6⟩ := (h1.2 a _ hg).1.cell
  have ht : (ho_ty k).isReference = true := by
    simp only [List.mem_cons, List.not_mem_nil, or_false] at hk
    rcases hk with rfl | rfl | rfl | rfl | rfl | rfl <;> rfl
  dsimp only at e2 e4 e6
  obtain ⟨i1, i2⟩ := ho_ix_of hi
  exact W.aald (g := F0 (km K) pc ls (.int i :: .ref a :: st.map tv)) C.1 C.2.1 e1 e2 ht e3 (fun q => q.elim (fun z => i1 (Or.inl z)) (fun z => Nat.lt_irrefl _ (Nat.lt_of_lt_of_le (Nat.lt_of_lt_of_le i2 e4) z))) (e6 _ i2) rfl rfl d (kk H locs ls h1 h2 h3 h4 h5)
/-- an array's cell with one place turned -/
theorem wk_upd {E : Ev} {s : State} {H H1 : Heap} {a k n j : Nat} {u u' : (Nat → Int32) ⊕ (Nat → Int64) ⊕ (Nat → UInt32) ⊕ (Nat → UInt64) ⊕ (Nat → Option Nat)} {v : Value} (hk : k < 90) (hX : wk_X E s H a (.inl (k, n, u))) (hu : ∀ i, ho_v (n, u') i = updV (ho_v (n, u)) j v i) (e1 : ∀ cell, H[a]? = some cell → H1[a]? = some (cell.setSlot j v)) : wk_X E s H1 a (.inl (k, n, u')) := by
  obtain ⟨h1, h2⟩ := hX
  refine ⟨?_, h2⟩
  unfold wk_XA at h1 ⊢
  rw [if_pos hk] at h1 ⊢
  obtain ⟨cA, g1, g2⟩ := h1
  refine ⟨cA, ?_, g2⟩
  rw [e1 _ g1]
  rw [ho_v_cell, ho_v_cell, arrV_store]
  congr 2
  funext i
  exact (hu i).symm
theorem wk_iast (C : wk_C E K y cc nL ret fr lo tb) {r : Option Nat} {i x : Int32} {σ1 : Hs} (hv : ho_tI σ r 0 i x = some σ1) (d : decode cc pc = .ok (.iastore, 1)) (kk : wk_V E K out σ' σ1 (pc + 1) L st) : wk_V E K out σ' σ pc L (vI x :: vI i :: vR r :: st) := by
  intro H locs ls h1 h2 h3 h4 h5
  obtain ⟨a, n, f, rfl, hg, hi, rfl⟩ := ho_tI_of hv
  have hX := h1.2 a _ hg
  obtain ⟨cell, e1, e2, e3, e4, e5, e6⟩ := hX.1.cell
  dsimp only at e4
  obtain ⟨i1, i2⟩ := ho_ix_of hi
  refine W.iast (g := F0 (km K) pc ls (.int x :: .int i :: .ref a :: st.map tv)) C.1 C.2.1 e1 e2 e3 (fun q => q.elim (fun z => i1 (Or.inl z)) (fun z => Nat.lt_irrefl _ (Nat.lt_of_lt_of_le (Nat.lt_of_lt_of_le i2 e4) z))) rfl rfl d fun H1 g1 g2 g3 => ?_
  refine kk H1 _ ls (h1.set g2 g3 (wk_upd (by decide) hX (v := .int x) (j := i.toNatClampNeg) (fun q => ?_) (fun c hc => by cases e1.symm.trans hc; exact g1))) (h2.put g2 g3 (hX.2 (Nat.le_of_ble_eq_true rfl))) h3 h4 h5
  show Value.int (va_up f _ x q) = updV _ _ _ q
  by_cases hq : q = i.toNatClampNeg <;> simp [updV, va_up, ho_v, hq]
theorem wk_last (C : wk_C E K y cc nL ret fr lo tb) {r : Option Nat} {i : Int32} {x : Int64} {σ1 : Hs} (hv : ho_tJ σ r 1 i x = some σ1) (d : decode cc pc = .ok (.lastore, 1)) (kk : wk_V E K out σ' σ1 (pc + 1) L st) : wk_V E K out σ' σ pc L (vJ x :: vI i :: vR r :: st) := by
  intro H locs ls h1 h2 h3 h4 h5
  obtain ⟨a, n, f, rfl, hg, hi, rfl⟩ := ho_tJ_of hv
  have hX := h1.2 a _ hg
  obtain ⟨cell, e1, e2, e3, e4, e5, e6⟩ := hX.1.cell
  dsimp only at e4
  obtain ⟨i1, i2⟩ := ho_ix_of hi
  refine W.last (g := F0 (km K) pc ls (.long x :: .int i :: .ref a :: st.map tv)) C.1 C.2.1 e1 e2 e3 (fun q => q.elim (fun z => i1 (Or.inl z)) (fun z => Nat.lt_irrefl _ (Nat.lt_of_lt_of_le (Nat.lt_of_lt_of_le i2 e4) z))) rfl rfl d fun H1 g1 g2 g3 => ?_
  refine kk H1 _ ls (h1.set g2 g3 (wk_upd (by decide) hX (v := .long x) (j := i.toNatClampNeg) (fun q => ?_) (fun c hc => by cases e1.symm.trans hc; exact g1))) (h2.put g2 g3 (hX.2 (Nat.le_of_ble_eq_true rfl))) h3 h4 h5
  show Value.long (va_up f _ x q) = updV _ _ _ q
  by_cases hq : q = i.toNatClampNeg <;> simp [updV, va_up, ho_v, hq]
theorem wk_bast (C : wk_C E K y cc nL ret fr lo tb) {r : Option Nat} {i x : Int32} {σ1 : Hs} (hv : ho_tI σ r 2 i (vp_nar .byte x) = some σ1) (d : decode cc pc = .ok (.bastore, 1)) (kk : wk_V E K out σ' σ1 (pc + 1) L st) : wk_V E K out σ' σ pc L (vI x :: vI i :: vR r :: st) := by
  intro H locs ls h1 h2 h3 h4 h5
  obtain ⟨a, n, f, rfl, hg, hi, rfl⟩ := ho_tI_of hv
  have hX := h1.2 a _ hg
  obtain ⟨cell, e1, e2, e3, e4, e5, e6⟩ := hX.1.cell
  dsimp only at e4
  obtain ⟨i1, i2⟩ := ho_ix_of hi
  refine W.bast (g := F0 (km K) pc ls (.int x :: .int i :: .ref a :: st.map tv)) C.1 C.2.1 e1 e2 e3 (fun q => q.elim (fun z => i1 (Or.inl z)) (fun z => Nat.lt_irrefl _ (Nat.lt_of_lt_of_le (Nat.lt_of_lt_of_le i2 e4) z))) rfl rfl d fun H1 g1 g2 g3 => ?_
  refine kk H1 _ ls (h1.set g2 g3 (wk_upd (by decide) hX (v := .int (vp_nar .byte x)) (j := i.toNatClampNeg) (fun q => ?_) (fun c hc => by cases e1.symm.trans hc; exact g1))) (h2.put g2 g3 (hX.2 (Nat.le_of_ble_eq_true rfl))) h3 h4 h5
  show Value.int (va_up f _ _ q) = updV _ _ _ q
  by_cases hq : q = i.toNatClampNeg <;> simp [updV, va_up, ho_v, hq]
end WKH
