/-! THE ABSTRACT HEAP: cells by their addresses; what a method reads, writes and makes, as plain functions. Array kinds: 0 int, 1 long, 2 byte, 3 Object, 4 Member, 5 Member[], 6 int[], 7 Operator, 8 HashMap$Node; 90 int, 91 byte that nobody writes. Object kinds: < 100 by vwCl; 100 .. lambdas; 200 .. objects that nobody writes -/
abbrev Hc : Type := (Nat × vp_A) ⊕ (Nat × List Value)
abbrev Hs : Type := Array (Option Hc) × Nat × Nat
def ho_g (σ : Hs) (a : Nat) : Option Hc := (σ.1[a]?).bind id
def ho_s (σ : Hs) (a : Nat) (x : Hc) : Hs := (σ.1.setIfInBounds a (some x), σ.2)
def ho_al (σ : Hs) (x : Hc) (n : Nat) : Hs := (σ.1.push (some x), σ.2.1 - 1, σ.2.2 - n)
def ho_new (σ : Hs) (x : Hc) (n : Nat) : Option (Option Nat × Hs) := if 1 ≤ σ.2.1 ∧ n ≤ σ.2.2 then some (some σ.1.size, ho_al σ x n) else none
theorem ho_lt {σ : Hs} {a : Nat} {x : Hc} (h : ho_g σ a = some x) : a < σ.1.size := by
  unfold ho_g at h
  cases hh : σ.1[a]? with
  | none => rw [hh] at h; simp at h
  | some y => exact (Array.getElem?_eq_some_iff.mp hh).1
theorem ho_gs {σ : Hs} {a b : Nat} {x : Hc} : ho_g (ho_s σ a x) b = if b = a ∧ a < σ.1.size then some x else ho_g σ b := by
  unfold ho_g ho_s
  simp only [Array.getElem?_setIfInBounds]
  by_cases h : a = b
  · subst h
    by_cases h2 : a < σ.1.size
    · simp [h2]
    · simp [h2]
  · have h' : ¬ b = a := fun q => h q.symm
    simp [h, h']
theorem ho_gs_same {σ : Hs} {a : Nat} {x : Hc} (h : a < σ.1.size) : ho_g (ho_s σ a x) a = some x := by rw [ho_gs, if_pos ⟨rfl, h⟩]
theorem ho_gs_ne {σ : Hs} {a b : Nat} {x : Hc} (h : b ≠ a) : ho_g (ho_s σ a x) b = ho_g σ b := by rw [ho_gs, if_neg (fun q => h q.1)]
theorem ho_ga {σ : Hs} {b n : Nat} {x : Hc} : ho_g (ho_al σ x n) b = if b = σ.1.size then some x else ho_g σ b := by
  unfold ho_g ho_al
  simp only [Array.getElem?_push]
  by_cases h : b = σ.1.size
  · simp [h]
  · simp [h]
theorem ho_ga_new {σ : Hs} {n : Nat} {x : Hc} : ho_g (ho_al σ x n) σ.1.size = some x := by rw [ho_ga, if_pos rfl]
theorem ho_ga_old {σ : Hs} {b n : Nat} {x : Hc} (h : b ≠ σ.1.size) : ho_g (ho_al σ x n) b = ho_g σ b := by rw [ho_ga, if_neg h]
theorem ho_s_size {σ : Hs} {a : Nat} {x : Hc} : (ho_s σ a x).1.size = σ.1.size := by simp [ho_s]
theorem ho_s_room {σ : Hs} {a : Nat} {x : Hc} : (ho_s σ a x).2 = σ.2 := rfl
theorem ho_al_size {σ : Hs} {n : Nat} {x : Hc} : (ho_al σ x n).1.size = σ.1.size + 1 := by simp [ho_al]
/-! values by their kinds -/
abbrev TV : Type := Option Nat ⊕ (Int32 ⊕ (Int64 ⊕ (UInt32 ⊕ UInt64)))
abbrev vR (r : Option Nat) : TV := .inl r
abbrev vI (x : Int32) : TV := .inr (.inl x)
abbrev vJ (x : Int64) : TV := .inr (.inr (.inl x))
abbrev vF (x : UInt32) : TV := .inr (.inr (.inr (.inl x)))
abbrev vD (x : UInt64) : TV := .inr (.inr (.inr (.inr x)))
def tv (t : TV) : Value := match t with
  | .inl r => va_rf r
  | .inr (.inl x) => .int x
  | .inr (.inr (.inl x)) => .long x
  | .inr (.inr (.inr (.inl x))) => .float x
  | .inr (.inr (.inr (.inr x))) => .double x
def tcat (t : TV) : Nat := match t with
  | .inr (.inr (.inl _)) => 2
  | .inr (.inr (.inr (.inr _))) => 2
  | _ => 1
theorem tv_cat (t : TV) : (tv t).category = tcat t := by
  rcases t with r | x | x | x | x
  · cases r <;> rfl
  · rfl
  · rfl
  · rfl
  · rfl
def ho_asI (v : Value) : Option Int32 := match v with
  | .int x => some x
  | _ => none
def ho_asJ (v : Value) : Option Int64 := match v with
  | .long x => some x
  | _ => none
def ho_asF (v : Value) : Option UInt32 := match v with
  | .float x => some x
  | _ => none
def ho_asR (v : Value) : Option (Option Nat) := match v with
  | .null => some none
  | .ref a => some (some a)
  | _ => none
theorem ho_asI_of {v : Value} {x : Int32} (h : ho_asI v = some x) : v = tv (vI x) := by
  cases v <;> simp [ho_asI] at h
  subst h; rfl
theorem ho_asJ_of {v : Value} {x : Int64} (h : ho_asJ v = some x) : v = tv (vJ x) := by
  cases v <;> simp [ho_asJ] at h
  subst h; rfl
theorem ho_asF_of {v : Value} {x : UInt32} (h : ho_asF v = some x) : v = tv (vF x) := by
  cases v <;> simp [ho_asF] at h
  subst h; rfl
theorem ho_asR_of {v : Value} {x : Option Nat} (h : ho_asR v = some x) : v = tv (vR x) := by
  cases v <;> simp [ho_asR] at h
  · subst h; rfl
  · subst h; rfl
/-! fields: cs: the kinds that the object may have, k: the field's place -/
def ho_f (σ : Hs) (r : Option Nat) (cs : List Nat) (k : Nat) : Option Value := r.bind fun a => match ho_g σ a with
  | some (.inr o) => if o.1 ∈ cs then o.2[k]? else none
  | _ => none
def ho_fI (σ : Hs) (r : Option Nat) (cs : List Nat) (k : Nat) : Option Int32 := (ho_f σ r cs k).bind ho_asI
def ho_fJ (σ : Hs) (r : Option Nat) (cs : List Nat) (k : Nat) : Option Int64 := (ho_f σ r cs k).bind ho_asJ
def ho_fF (σ : Hs) (r : Option Nat) (cs : List Nat) (k : Nat) : Option UInt32 := (ho_f σ r cs k).bind ho_asF
def ho_fR (σ : Hs) (r : Option Nat) (cs : List Nat) (k : Nat) : Option (Option Nat) := (ho_f σ r cs k).bind ho_asR
def ho_p (σ : Hs) (r : Option Nat) (cs : List Nat) (k : Nat) (v : Value) : Option Hs := r.bind fun a => match ho_g σ a with
  | some (.inr o) => if o.1 ∈ cs ∧ k < o.2.length then some (ho_s σ a (.inr (o.1, o.2.set k v))) else none
  | _ => none
def ho_pI (σ : Hs) (r : Option Nat) (cs : List Nat) (k : Nat) (x : Int32) : Option Hs := ho_p σ r cs k (.int x)
def ho_pZ (σ : Hs) (r : Option Nat) (cs : List Nat) (k : Nat) (x : Int32) : Option Hs := if x = 0 ∨ x = 1 then ho_p σ r cs k (.int x) else none
def ho_pJ (σ : Hs) (r : Option Nat) (cs : List Nat) (k : Nat) (x : Int64) : Option Hs := ho_p σ r cs k (.long x)
def ho_pF (σ : Hs) (r : Option Nat) (cs : List Nat) (k : Nat) (x : UInt32) : Option Hs := ho_p σ r cs k (.float x)
def ho_pR (σ : Hs) (r : Option Nat) (cs : List Nat) (k : Nat) (x : Option Nat) : Option Hs := ho_p σ r cs k (va_rf x)
/-- the kind of the object or array that r refers to -/
def ho_k (σ : Hs) (r : Option Nat) : Option Nat := r.bind fun a => match ho_g σ a with
  | some (.inr o) => some o.1
  | _ => none
/-- r, if it refers to an object of one of these kinds -/
def ho_is (σ : Hs) (r : Option Nat) (cs : List Nat) : Option Nat := r.bind fun a => match ho_g σ a with
  | some (.inr o) => if o.1 ∈ cs then some a else none
  | _ => none
/-! arrays: ks: the kinds that the array may have -/
def ho_ix (i : Int32) (n : Nat) : Bool := !(decide (i < 0)) && decide (i.toNatClampNeg < n)
def ho_ar (σ : Hs) (r : Option Nat) : Option (Nat × vp_A) := r.bind fun a => match ho_g σ a with
  | some (.inl x) => some x
  | _ => none
def ho_len (σ : Hs) (r : Option Nat) : Option Int32 := (ho_ar σ r).bind fun x => some (Int32.ofNat x.2.1)
def ho_aI (σ : Hs) (r : Option Nat) (ks : List Nat) (i : Int32) : Option Int32 := (ho_ar σ r).bind fun x => match x.2.2 with
  | .inl f => if x.1 ∈ ks ∧ ho_ix i x.2.1 = true then some (f i.toNatClampNeg) else none
  | _ => none
def ho_aJ (σ : Hs) (r : Option Nat) (ks : List Nat) (i : Int32) : Option Int64 := (ho_ar σ r).bind fun x => match x.2.2 with
  | .inr (.inl f) => if x.1 ∈ ks ∧ ho_ix i x.2.1 = true then some (f i.toNatClampNeg) else none
  | _ => none
def ho_aR (σ : Hs) (r : Option Nat) (ks : List Nat) (i : Int32) : Option (Option Nat) := (ho_ar σ r).bind fun x => match x.2.2 with
  | .inr (.inr (.inr (.inr f))) => if x.1 ∈ ks ∧ ho_ix i x.2.1 = true then some (f i.toNatClampNeg) else none
  | _ => none
def ho_tI (σ : Hs) (r : Option Nat) (k : Nat) (i : Int32) (v : Int32) : Option Hs := r.bind fun a => match ho_g σ a with
  | some (.inl (k', n, .inl f)) => if k' = k ∧ ho_ix i n = true then some (ho_s σ a (.inl (k', n, .inl (va_up f i.toNatClampNeg v)))) else none
  | _ => none
def ho_tJ (σ : Hs) (r : Option Nat) (k : Nat) (i : Int32) (v : Int64) : Option Hs := r.bind fun a => match ho_g σ a with
  | some (.inl (k', n, .inr (.inl f))) => if k' = k ∧ ho_ix i n = true then some (ho_s σ a (.inl (k', n, .inr (.inl (va_up f i.toNatClampNeg v))))) else none
  | _ => none
def ho_tR (σ : Hs) (r : Option Nat) (k : Nat) (i : Int32) (v : Option Nat) : Option Hs := r.bind fun a => match ho_g σ a with
  | some (.inl (k', n, .inr (.inr (.inr (.inr f))))) => if k' = k ∧ ho_ix i n = true then some (ho_s σ a (.inl (k', n, .inr (.inr (.inr (.inr (va_up f i.toNatClampNeg v))))))) else none
  | _ => none
/-- a new array of N zeros or nulls; size in bytes at most 2^29 -/
def ho_nI (σ : Hs) (k : Nat) (n : Int32) : Option (Option Nat × Hs) := if ¬ n < 0 ∧ n.toNatClampNeg ≤ 60000000 then ho_new σ (.inl (k, n.toNatClampNeg, .inl (fun _ => 0))) n.toNatClampNeg else none
def ho_nJ (σ : Hs) (n : Int32) : Option (Option Nat × Hs) := if ¬ n < 0 ∧ n.toNatClampNeg ≤ 60000000 then ho_new σ (.inl (1, n.toNatClampNeg, .inr (.inl (fun _ => 0)))) n.toNatClampNeg else none
def ho_nR (σ : Hs) (k : Nat) (n : Int32) : Option (Option Nat × Hs) := if ¬ n < 0 ∧ n.toNatClampNeg ≤ 60000000 then ho_new σ (.inl (k, n.toNatClampNeg, .inr (.inr (.inr (.inr (fun _ => none)))))) n.toNatClampNeg else none
/-! divisions that the machine does -/
def ho_div (x y : Int32) : Option Int32 := if y = 0 then none else some (x / y)
def ho_rem (x y : Int32) : Option Int32 := if y = 0 then none else some (x - x / y * y)
def ho_divJ (x y : Int64) : Option Int64 := if y = 0 then none else some (x / y)
def ho_remJ (x y : Int64) : Option Int64 := if y = 0 then none else some (x - x / y * y)
def ho_bool (x : Int32) : Option Int32 := if x = 0 ∨ x = 1 then some x else none
theorem ho_b {α β : Type} {x : Option α} {f : α → Option β} {r : β} (h : x.bind f = some r) : ∃ a, x = some a ∧ f a = some r := Option.bind_eq_some_iff.mp h
theorem ho_f_of {σ : Hs} {r : Option Nat} {cs : List Nat} {k : Nat} {v : Value} (h : ho_f σ r cs k = some v) : ∃ a c fs, r = some a ∧ ho_g σ a = some (.inr (c, fs)) ∧ c ∈ cs ∧ fs[k]? = some v := by
  obtain ⟨a, ha, h⟩ := ho_b h
  cases hg : ho_g σ a with
  | none => rw [hg] at h; cases h
  | some x =>
    rw [hg] at h
    rcases x with x | ⟨c, fs⟩
    · cases h
    · dsimp only at h
      split at h
      · next hc => exact ⟨a, c, fs, ha, hg, hc, h⟩
      · cases h
theorem ho_p_of {σ σ1 : Hs} {r : Option Nat} {cs : List Nat} {k : Nat} {v : Value} (h : ho_p σ r cs k v = some σ1) : ∃ a c fs, r = some a ∧ ho_g σ a = some (.inr (c, fs)) ∧ c ∈ cs ∧ k < fs.length ∧ σ1 = ho_s σ a (.inr (c, fs.set k v)) := by
  obtain ⟨a, ha, h⟩ := ho_b h
  cases hg : ho_g σ a with
  | none => rw [hg] at h; cases h
  | some x =>
    rw [hg] at h
    rcases x with x | ⟨c, fs⟩
    · cases h
    · dsimp only at h
      split at h
      · next hc => exact ⟨a, c, fs, ha, hg, hc.1, hc.2, (Option.some.inj h).symm⟩
      · cases h
theorem ho_is_of {σ : Hs} {r : Option Nat} {cs : List Nat} {a : Nat} (h : ho_is σ r cs = some a) : ∃ c fs, r = some a ∧ ho_g σ a = some (.inr (c, fs)) ∧ c ∈ cs := by
  obtain ⟨b, ha, h⟩ := ho_b h
  cases hg : ho_g σ b with
  | none => rw [hg] at h; cases h
  | some x =>
    rw [hg] at h
    rcases x with x | ⟨c, fs⟩
    · cases h
    · dsimp only at h
      split at h
      · next hc =>
        cases h
        exact ⟨c, fs, ha, hg, hc⟩
      · cases h
theorem ho_ar_of {σ : Hs} {r : Option Nat} {x : Nat × vp_A} (h : ho_ar σ r = some x) : ∃ a, r = some a ∧ ho_g σ a = some (.inl x) := by
  obtain ⟨a, ha, h⟩ := ho_b h
  cases hg : ho_g σ a with
  | none => rw [hg] at h; cases h
  | some y =>
    rw [hg] at h
    rcases y with y | y
    · cases h
      exact ⟨a, ha, hg⟩
    · cases h
theorem ho_ix_of {i : Int32} {n : Nat} (h : ho_ix i n = true) : vp_in i n ∧ i.toNatClampNeg < n := by
  simp only [ho_ix, Bool.and_eq_true, Bool.not_eq_true', decide_eq_false_iff_not, decide_eq_true_eq] at h
  exact ⟨fun q => q.elim h.1 (fun z => Nat.lt_irrefl _ (Nat.lt_of_lt_of_le h.2 z)), h.2⟩
theorem ho_aI_of {σ : Hs} {r : Option Nat} {ks : List Nat} {i v : Int32} (h : ho_aI σ r ks i = some v) : ∃ a k n f, r = some a ∧ ho_g σ a = some (.inl (k, n, .inl f)) ∧ k ∈ ks ∧ ho_ix i n = true ∧ v = f i.toNatClampNeg := by
  obtain ⟨⟨k, n, f⟩, hx, h⟩ := ho_b h
  obtain ⟨a, ha, hg⟩ := ho_ar_of hx
  rcases f with f | f
  · dsimp only at h
    split at h
    · next hc => exact ⟨a, k, n, f, ha, hg, hc.1, hc.2, (Option.some.inj h).symm⟩
    · cases h
  · cases h
theorem ho_aJ_of {σ : Hs} {r : Option Nat} {ks : List Nat} {i : Int32} {v : Int64} (h : ho_aJ σ r ks i = some v) : ∃ a k n f, r = some a ∧ ho_g σ a = some (.inl (k, n, .inr (.inl f))) ∧ k ∈ ks ∧ ho_ix i n = true ∧ v = f i.toNatClampNeg := by
  obtain ⟨⟨k, n, f⟩, hx, h⟩ := ho_b h
  obtain ⟨a, ha, hg⟩ := ho_ar_of hx
  rcases f with f | f | f
  · cases h
  · dsimp only at h
    split at h
    · next hc => exact ⟨a, k, n, f, ha, hg, hc.1, hc.2, (Option.some.inj h).symm⟩
    · cases h
  · cases h
theorem ho_aR_of {σ : Hs} {r : Option Nat} {ks : List Nat} {i : Int32} {v : Option Nat} (h : ho_aR σ r ks i = some v) : ∃ a k n f, r = some a ∧ ho_g σ a = some (.inl (k, n, .inr (.inr (.inr (.inr f))))) ∧ k ∈ ks ∧ ho_ix i n = true ∧ v = f i.toNatClampNeg := by
  obtain ⟨⟨k, n, f⟩, hx, h⟩ := ho_b h
  obtain ⟨a, ha, hg⟩ := ho_ar_of hx
  rcases f with f | f | f | f | f
  · cases h
  · cases h
  · cases h
  · cases h
  · dsimp only at h
    split at h
    · next hc => exact ⟨a, k, n, f, ha, hg, hc.1, hc.2, (Option.some.inj h).symm⟩
    · cases h
theorem ho_tI_of {σ σ1 : Hs} {r : Option Nat} {k : Nat} {i v : Int32} (h : ho_tI σ r k i v = some σ1) : ∃ a n f, r = some a ∧ ho_g σ a = some (.inl (k, n, .inl f)) ∧ ho_ix i n = true ∧ σ1 = ho_s σ a (.inl (k, n, .inl (va_up f i.toNatClampNeg v))) := by
  obtain ⟨a, ha, h9⟩ := ho_b h
  cases hg : ho_g σ a with
  | none => rw [hg] at h9; cases h9
  | some y =>
    rw [hg] at h9
    rcases y with ⟨k', n, f | f⟩ | y
    · dsimp only at h9
      split at h9
      · next hc =>
        obtain ⟨rfl, hc⟩ := hc
        exact ⟨a, n, f, ha, hg, hc, (Option.some.inj h9).symm⟩
      · cases h9
    · cases h9
    · cases h9
theorem ho_tJ_of {σ σ1 : Hs} {r : Option Nat} {k : Nat} {i : Int32} {v : Int64} (h : ho_tJ σ r k i v = some σ1) : ∃ a n f, r = some a ∧ ho_g σ a = some (.inl (k, n, .inr (.inl f))) ∧ ho_ix i n = true ∧ σ1 = ho_s σ a (.inl (k, n, .inr (.inl (va_up f i.toNatClampNeg v)))) := by
  obtain ⟨a, ha, h9⟩ := ho_b h
  cases hg : ho_g σ a with
  | none => rw [hg] at h9; cases h9
  | some y =>
    rw [hg] at h9
    rcases y with ⟨k', n, f | f | f⟩ | y
    · cases h9
    · dsimp only at h9
      split at h9
      · next hc =>
        obtain ⟨rfl, hc⟩ := hc
        exact ⟨a, n, f, ha, hg, hc, (Option.some.inj h9).symm⟩
      · cases h9
    · cases h9
    · cases h9
theorem ho_tR_of {σ σ1 : Hs} {r : Option Nat} {k : Nat} {i : Int32} {v : Option Nat} (h : ho_tR σ r k i v = some σ1) : ∃ a n f, r = some a ∧ ho_g σ a = some (.inl (k, n, .inr (.inr (.inr (.inr f))))) ∧ ho_ix i n = true ∧ σ1 = ho_s σ a (.inl (k, n, .inr (.inr (.inr (.inr (va_up f i.toNatClampNeg v)))))) := by
  obtain ⟨a, ha, h9⟩ := ho_b h
  cases hg : ho_g σ a with
  | none => rw [hg] at h9; cases h9
  | some y =>
    rw [hg] at h9
    rcases y with ⟨k', n, f | f | f | f | f⟩ | y
    · cases h9
    · cases h9
    · cases h9
    · cases h9
    · dsimp only at h9
      split at h9
      · next hc =>
        obtain ⟨rfl, hc⟩ := hc
        exact ⟨a, n, f, ha, hg, hc, (Option.some.inj h9).symm⟩
      · cases h9
    · cases h9
theorem ho_new_of {σ σ1 : Hs} {x : Hc} {n : Nat} {r : Option Nat} (h : ho_new σ x n = some (r, σ1)) : 1 ≤ σ.2.1 ∧ n ≤ σ.2.2 ∧ r = some σ.1.size ∧ σ1 = ho_al σ x n := by
  unfold ho_new at h
  split at h
  · next hc =>
    cases h
    exact ⟨hc.1, hc.2, rfl, rfl⟩
  · cases h
