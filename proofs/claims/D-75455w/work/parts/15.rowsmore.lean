/-! what the printed walks use beside the rows -/
def fu_el : Nat := 20000
def ho_b2 {α β : Type} (x : Option (α × Hs)) (f : α → Hs → Option β) : Option β := x.bind fun p => f p.1 p.2
theorem ho_e2 {α β : Type} {x : Option (α × Hs)} {f : α → Hs → Option β} {r : β} (h : ho_b2 x f = some r) : ∃ a σ, x = some (a, σ) ∧ f a σ = some r := by
  obtain ⟨⟨a, σ⟩, h1, h2⟩ := ho_b h
  exact ⟨a, σ, h1, h2⟩
theorem fx_0 {k : Nat} {o n d : String} : fx_d [] k o n d := fun c hc => by cases hc
theorem fx_c {c k : Nat} {cs : List Nat} {r : vw_C} {o n d : String} (h1 : c < 100) (hr : vwCl[c]? = some r) (hk : k < r.2.2) (e1 : (r.2.1 k).1 = o) (e2 : (r.2.1 k).2.1 = n) (e3 : (r.2.1 k).2.2.1 = d) (h : fx_d cs k o n d) : fx_d (c :: cs) k o n d := by
  intro q hq
  rcases List.mem_cons.mp hq with rfl | hq
  · exact Or.inl ⟨h1, r, hr, hk, e1, e2, e3⟩
  · exact h q hq
theorem fx_s {c k : Nat} {cs : List Nat} {o n d : String} (h1 : 200 ≤ c) (e : (wk_sc c).2[k]? = some (o, n, d)) (h : fx_d cs k o n d) : fx_d (c :: cs) k o n d := by
  intro q hq
  rcases List.mem_cons.mp hq with rfl | hq
  · exact Or.inr ⟨h1, e⟩
  · exact h q hq
theorem px_0 {k : Nat} {o n d : String} {fin : Bool} : px_d [] k o n d fin := fun c hc => by cases hc
theorem px_c {c k : Nat} {cs : List Nat} {r : vw_C} {o n d : String} {fin : Bool} (h1 : c < 100) (hr : vwCl[c]? = some r) (hk : k < r.2.2) (e : r.2.1 k = (o, n, d, fin)) (h : px_d cs k o n d fin) : px_d (c :: cs) k o n d fin := by
  intro q hq
  rcases List.mem_cons.mp hq with rfl | hq
  · exact ⟨h1, r, hr, hk, e⟩
  · exact h q hq
/-- the entry names the static at place j of wk_st -/
def sx (own : String) (index j : Nat) : Prop := ∃ q : String × String × String × Option Int32, ((Cond.fieldLink own index q.1 q.2.1 q.2.2.1) ∈ lw_all ∨ ∃ host, (Cond.fieldLinkNest own index q.1 q.2.1 q.2.2.1 host) ∈ lw_nw) ∧ wk_st[j]? = some q
def ho_byte (x : Int32) : Option Int32 := if vp_nar .byte x = x then some x else none
def ho_char (x : Int32) : Option Int32 := if vp_nar .char x = x then some x else none
section WKM
variable {E : Ev} {K : Kx} {out : Ot} {σ' σ : Hs} {y : MethodName} {cc : ByteArray} {nL : Nat} {ret : Option FieldType} {fr lo : Nat} {tb : List ExceptionTableEntry} {pc : Nat} {L L' : Lc} {st : List TV}
theorem wk_C.tr (C : wk_C E K y cc nL ret fr lo tb) : (kl K).stackTraces = false := C.2.2.2.2.2.2.2.2.2.2.2.2.1
theorem wk_L (h : L = L') (k : wk_V E K out σ' σ pc L' st) : wk_V E K out σ' σ pc L st := h ▸ k
theorem wk_tI {x v : Int32} (h : x = v) (k : wk_V E K out σ' σ pc L (vI v :: st)) : wk_V E K out σ' σ pc L (vI x :: st) := h ▸ k
theorem wk_tJ {x v : Int64} (h : x = v) (k : wk_V E K out σ' σ pc L (vJ v :: st)) : wk_V E K out σ' σ pc L (vJ x :: st) := h ▸ k
theorem wk_tR {x v : Option Nat} (h : x = v) (k : wk_V E K out σ' σ pc L (vR v :: st)) : wk_V E K out σ' σ pc L (vR x :: st) := h ▸ k
theorem wk_tF {x v : UInt32} (h : x = v) (k : wk_V E K out σ' σ pc L (vF v :: st)) : wk_V E K out σ' σ pc L (vF x :: st) := h ▸ k
theorem wk_tD {x v : UInt64} (h : x = v) (k : wk_V E K out σ' σ pc L (vD v :: st)) : wk_V E K out σ' σ pc L (vD x :: st) := h ▸ k
theorem wk_ldc (C : wk_C E K y cc nL ret fr lo tb) {index : Nat} {v : Int32} (h : Cond.constant y.cls index v ∈ lw_all) (d : decode cc pc = .ok (.ldc index, 2)) (k : wk_V E K out σ' σ (pc + 2) L (vI v :: st)) : wk_V E K out σ' σ pc L st := fun H locs ls h1 h2 h3 h4 h5 => lv_ldc C.1 C.2.1 C.2.2.2.2.2.1 (C.2.2.2.2.2.2.1 _ h) d (k H locs ls h1 h2 h3 h4 h5)
theorem wk_ldc2 (C : wk_C E K y cc nL ret fr lo tb) {index : Nat} {v : Int64} (h : Cond.constantLong y.cls index v ∈ lw_all) (d : decode cc pc = .ok (.ldc2_w index, 3)) (k : wk_V E K out σ' σ (pc + 3) L (vJ v :: st)) : wk_V E K out σ' σ pc L st := fun H locs ls h1 h2 h3 h4 h5 => lv_ldc2 C.1 C.2.1 C.2.2.2.2.2.1 (C.2.2.2.2.2.2.1 _ h) d (k H locs ls h1 h2 h3 h4 h5)
theorem wk_ldcS (C : wk_C E K y cc nL ret fr lo tb) {index : Nat} {q : String × Nat × String × Nat} (h : q ∈ wk_ld) (e1 : q.1 = y.cls) (e2 : q.2.1 = index) (d : decode cc pc = .ok (.ldc index, 2)) (k : wk_V E K out σ' σ (pc + 2) L (vR (E.2.2.1 (100 + q.2.2.2)) :: st)) : wk_V E K out σ' σ pc L st := by
  intro H locs ls h1 h2 h3 h4 h5
  obtain ⟨hx, hb, -, -, -, hown, hts, hF, -⟩ := C
  obtain ⟨a, ha, hr⟩ := hF.2.2.2.1 q h
  have hk := k H locs ls h1 h2 h3 h4 h5
  rw [ha] at hk
  rw [← e1] at hown
  subst e2
  exact va_ldcS hx hb hown hr d hk
theorem wk_gets (C : wk_C E K y cc nL ret fr lo tb) {index j : Nat} (F : sx y.cls index j) {t : TV} (ht : ∀ q, wk_st[j]? = some q → wk_sv E j q = tv t) (d : decode cc pc = .ok (.getstatic index, 3)) (k : wk_V E K out σ' σ (pc + 3) L (t :: st)) : wk_V E K out σ' σ pc L st := by
  intro H locs ls h1 h2 h3 h4 h5
  obtain ⟨hx, hb, -, -, -, hown, hts, hF, -⟩ := C
  obtain ⟨q, hl, hq⟩ := F
  have hZ := hF.2.2.1 j q hq
  rw [ht q hq] at hZ
  have hk := k H locs ls h1 h2 h3 h4 h5
  rcases hl with hl | ⟨host, hl⟩
  · exact va_gets hx hb hZ h2 hown (hts _ hl) (fun _ h => h) d hk
  · exact va_getsN hx hb hZ h2 hown (nw_use (List.mem_filter.mp hl).2 (hF.2.1 _ hl)) (fun _ h => h) d hk
theorem wk_getsR (C : wk_C E K y cc nL ret fr lo tb) {index j : Nat} (F : sx y.cls index j) (hj : (wk_st[j]?).map (fun q => q.2.2.2) = some none) (d : decode cc pc = .ok (.getstatic index, 3)) (k : wk_V E K out σ' σ (pc + 3) L (vR (E.2.2.1 j) :: st)) : wk_V E K out σ' σ pc L st :=
  wk_gets C F (fun q hq => by rw [hq] at hj; have e : q.2.2.2 = none := Option.some.inj hj; unfold wk_sv; rw [e]; rfl) d k
theorem wk_getsI (C : wk_C E K y cc nL ret fr lo tb) {index j : Nat} {v : Int32} (F : sx y.cls index j) (hj : (wk_st[j]?).map (fun q => q.2.2.2) = some (some v)) (d : decode cc pc = .ok (.getstatic index, 3)) (k : wk_V E K out σ' σ (pc + 3) L (vI v :: st)) : wk_V E K out σ' σ pc L st :=
  wk_gets C F (fun q hq => by rw [hq] at hj; have e : q.2.2.2 = some v := Option.some.inj hj; unfold wk_sv; rw [e]; rfl) d k
theorem wk_lcmp_lt (C : wk_C E K y cc nL ret fr lo tb) {x z : Int64} {off : Int} (tgt : Nat) (ht : ((pc + 1 : Nat) : Int) + off = (tgt : Int)) (d : decode cc pc = .ok (.lcmp, 1)) (d2 : decode cc (pc + 1) = .ok (.ifCond .lt off, 3)) (kt : x < z → wk_V E K out σ' σ tgt L st) (kf : ¬ x < z → wk_V E K out σ' σ (pc + 1 + 3) L st) : wk_V E K out σ' σ pc L (vJ z :: vJ x :: st) :=
  wk_lcmp C d (wk_if_lt C tgt ht d2 (fun q => kt ((lg_cmp_lt x z).mp q)) (fun q => kf (fun c => q ((lg_cmp_lt x z).mpr c))))
theorem wk_lcmp_ge (C : wk_C E K y cc nL ret fr lo tb) {x z : Int64} {off : Int} (tgt : Nat) (ht : ((pc + 1 : Nat) : Int) + off = (tgt : Int)) (d : decode cc pc = .ok (.lcmp, 1)) (d2 : decode cc (pc + 1) = .ok (.ifCond .ge off, 3)) (kt : z ≤ x → wk_V E K out σ' σ tgt L st) (kf : ¬ z ≤ x → wk_V E K out σ' σ (pc + 1 + 3) L st) : wk_V E K out σ' σ pc L (vJ z :: vJ x :: st) :=
  wk_lcmp C d (wk_if_ge C tgt ht d2 (fun q => kt ((lg_cmp_ge x z).mp q)) (fun q => kf (fun c => q ((lg_cmp_ge x z).mpr c))))
theorem wk_lcmp_gt (C : wk_C E K y cc nL ret fr lo tb) {x z : Int64} {off : Int} (tgt : Nat) (ht : ((pc + 1 : Nat) : Int) + off = (tgt : Int)) (d : decode cc pc = .ok (.lcmp, 1)) (d2 : decode cc (pc + 1) = .ok (.ifCond .gt off, 3)) (kt : z < x → wk_V E K out σ' σ tgt L st) (kf : ¬ z < x → wk_V E K out σ' σ (pc + 1 + 3) L st) : wk_V E K out σ' σ pc L (vJ z :: vJ x :: st) :=
  wk_lcmp C d (wk_if_gt C tgt ht d2 (fun q => kt ((lg_cmp_gt x z).mp q)) (fun q => kf (fun c => q ((lg_cmp_gt x z).mpr c))))
theorem wk_lcmp_le (C : wk_C E K y cc nL ret fr lo tb) {x z : Int64} {off : Int} (tgt : Nat) (ht : ((pc + 1 : Nat) : Int) + off = (tgt : Int)) (d : decode cc pc = .ok (.lcmp, 1)) (d2 : decode cc (pc + 1) = .ok (.ifCond .le off, 3)) (kt : x ≤ z → wk_V E K out σ' σ tgt L st) (kf : ¬ x ≤ z → wk_V E K out σ' σ (pc + 1 + 3) L st) : wk_V E K out σ' σ pc L (vJ z :: vJ x :: st) :=
  wk_lcmp C d (wk_if_le C tgt ht d2 (fun q => kt ((lg_cmp_le x z).mp q)) (fun q => kf (fun c => q ((lg_cmp_le x z).mpr c))))
theorem wk_lcmp_eq (C : wk_C E K y cc nL ret fr lo tb) {x z : Int64} {off : Int} (tgt : Nat) (ht : ((pc + 1 : Nat) : Int) + off = (tgt : Int)) (d : decode cc pc = .ok (.lcmp, 1)) (d2 : decode cc (pc + 1) = .ok (.ifCond .eq off, 3)) (kt : x = z → wk_V E K out σ' σ tgt L st) (kf : ¬ x = z → wk_V E K out σ' σ (pc + 1 + 3) L st) : wk_V E K out σ' σ pc L (vJ z :: vJ x :: st) :=
  wk_lcmp C d (wk_if_eq C tgt ht d2 (fun q => kt ((lg_cmp_eq x z).mp q)) (fun q => kf (fun c => q ((lg_cmp_eq x z).mpr c))))
theorem wk_lcmp_ne (C : wk_C E K y cc nL ret fr lo tb) {x z : Int64} {off : Int} (tgt : Nat) (ht : ((pc + 1 : Nat) : Int) + off = (tgt : Int)) (d : decode cc pc = .ok (.lcmp, 1)) (d2 : decode cc (pc + 1) = .ok (.ifCond .ne off, 3)) (kt : ¬ x = z → wk_V E K out σ' σ tgt L st) (kf : x = z → wk_V E K out σ' σ (pc + 1 + 3) L st) : wk_V E K out σ' σ pc L (vJ z :: vJ x :: st) :=
  wk_lcmp C d (wk_if_ne C tgt ht d2 (fun q => kt (fun c => q ((lg_cmp_eq x z).mpr c))) (fun q => kf ((lg_cmp_eq x z).mp q)))
theorem wk_bret (C : wk_C E K y cc nL (some .byte) fr lo tb) {x v : Int32} (hv : ho_byte x = some v) (ho : out = .inl (some (.int v))) (hs : σ' = σ) (d : decode cc pc = .ok (.ireturn, 1)) : wk_V E K out σ' σ pc L [vI x] := by
  subst ho; subst hs
  unfold ho_byte at hv
  split at hv
  · next hx =>
    cases hv
    intro H locs ls h1 h2 h3 h4 h5
    exact wk_end h1 h2 h3 h4 (ls := ls) (W.zret C.1 C.2.1 C.2.2.2.1 (show Value.int (vp_nar .byte x) = _ by rw [hx]) (fun t ht hW => ⟨rfl, by rw [ht]; exact h1.moved hW.alike, h2.F ht⟩) h2.2.2 d C.2.2.2.2.1)
  · cases hv
theorem wk_chret (C : wk_C E K y cc nL (some .char) fr lo tb) {x v : Int32} (hv : ho_char x = some v) (ho : out = .inl (some (.int v))) (hs : σ' = σ) (d : decode cc pc = .ok (.ireturn, 1)) : wk_V E K out σ' σ pc L [vI x] := by
  subst ho; subst hs
  unfold ho_char at hv
  split at hv
  · next hx =>
    cases hv
    intro H locs ls h1 h2 h3 h4 h5
    exact wk_end h1 h2 h3 h4 (ls := ls) (W.zret C.1 C.2.1 C.2.2.2.1 (show Value.int (vp_nar .char x) = _ by rw [hx]) (fun t ht hW => ⟨rfl, by rw [ht]; exact h1.moved hW.alike, h2.F ht⟩) h2.2.2 d C.2.2.2.2.1)
  · cases hv
end WKM
