/-! lambdas: their sites -/
section WKLM
variable {E : Ev} {K : Kx} {out : Ot} {σ' σ σ1 : Hs} {y : MethodName} {cc : ByteArray} {nL : Nat} {ret : Option FieldType} {fr lo : Nat} {tb : List ExceptionTableEntry} {pc : Nat} {L L' : Lc} {st : List TV}
theorem wk_C.named (C : wk_C E K y cc nL ret fr lo tb) : (ks K).methodNamed? y = some (km K) := C.2.2.2.2.2.2.2.2.2.2.2.2.2.2
theorem wk_lamC (C : wk_C E K y cc nL ret fr lo tb) {i j index : Nat} {q : MethodName × Nat × Nat × Lambda.Shape × Nat} (hq : wk_ls[i]? = some q) (e1 : q.1 = y) (e2 : q.2.1 = pc) (e3 : q.2.2.2.1.captured = []) (e4 : q.2.2.2.2 + 10 = j) (hlo : lc_w st + 3072 ≤ lo) (d : decode cc pc = .ok (.invokedynamic index, 5)) (kk : wk_V E K out σ' σ (pc + 5) L (vR (E.2.2.1 j) :: st)) : wk_V E K out σ' σ pc L st := by
  subst e4; subst e2
  intro H locs ls h1 h2 h3 h4 h5 T hT X
  have hnm := C.named
  obtain ⟨hx, hb, hml, -, -, hown, hts, hF, hbs, -, hfrK, hloK, -⟩ := C
  obtain ⟨one, hla, ho, hnA⟩ := hF.2.2.2.2.2.2.2.2.2.2.2 _ (List.mem_of_getElem? hq)
  obtain ⟨m0, k, cf, i0, p0, l, hm, hk, hcf, hsh, hin, hfind, hmade, hcall, hl⟩ := State.lambdaAt?_spec hla
  rw [e1] at hm
  cases hm.symm.trans hnm
  rcases hl with ⟨a, cell, rfl, rfl, -⟩ | ⟨-, -, hcap⟩
  · have V := kk H locs ls h1 h2 h3 h4 h5
    rw [← ho] at V
    obtain ⟨t, a1, b1⟩ := V T hT X
    have hw : (ke K).platform.lambdaLinkWords = 3072 := by rw [X.admits.platform]
    exact ⟨t, X.lambdaConstant hx (g := F0 (km K) q.2.1 ls (st.map tv)) rfl h5.1 (by rw [hb]; exact d) hk hfind (by rw [hw]; show 2 * 0 + _ + 3072 ≤ _; rw [tv_sum, hloK]; omega) a1, b1⟩
  · exact absurd e3 hcap
theorem wk_shp {cf : ClassFile} {index : Nat} {sh : Lambda.Shape} (h : Lambda.shapeOf? cf index = some sh) : ∃ b nt name desc site, cf.constantPool[index]? = some (.invokeDynamic b nt) ∧ cf.constantPool.nameAndType? nt = some (name, desc) ∧ parseMethodDescriptor desc = some site ∧ site.parameters = sh.captured := by
  unfold Lambda.shapeOf? at h
  generalize hA : cf.constantPool[index]? = x at h
  rcases x with _ | x
  · cases h
  cases x with
  | invokeDynamic b nt =>
    obtain ⟨entries, -, h⟩ := Option.bind_eq_some_iff.mp h
    obtain ⟨bm, -, h⟩ := Option.bind_eq_some_iff.mp h
    generalize cf.constantPool[bm.bootstrapMethodRef]? = x2 at h
    rcases x2 with _ | x2
    · cases h
    cases x2 with
    | methodHandle kd r =>
      by_cases hk : kd = 6
      · subst hk
        obtain ⟨u, -, h⟩ := Option.bind_eq_some_iff.mp h
        generalize bm.bootstrapArguments = A at h
        obtain ⟨A⟩ := A
        rcases A with _ | ⟨a0, _ | ⟨a1, _ | ⟨a2, _ | ⟨a3, A⟩⟩⟩⟩
        · cases h
        · cases h
        · cases h
        · conv at h => lhs; whnf
          split at h
          · split at h
            · split at h
              · simp only [Option.bind_eq_bind, Option.bind_eq_some_iff] at h
                obtain ⟨nd, hnd, site, hsite, h⟩ := h
                split at h
                · simp only [Option.bind_eq_some_iff, Option.pure_def, Option.some.injEq] at h
                  obtain ⟨mem, -, s0, -, sam, -, idesc, -, s2, -, inst, -, h⟩ := h
                  exact ⟨b, nt, nd.1, nd.2, site, by first | exact hA | rfl, hnd, hsite, by rw [← h]⟩
                · cases h
              · cases h
            · cases h
          · cases h
        · cases h
      · rcases kd with _ | _ | _ | _ | _ | _ | _ | kd
        · cases h
        · cases h
        · cases h
        · cases h
        · cases h
        · cases h
        · exact absurd rfl hk
        · cases h
    | _ => cases h
  | _ => cases h
theorem wk_laid : (((wk_sh [.int] "ElasticTruss$SetupReader" "lambda$factor$3").file "ElasticTruss$SetupReader").bind fun D => (layoutFields D 0).map fun z => z.2.1) = some #[.int] := by decide +kernel
theorem wk_lamM (C : wk_C E K y cc nL ret fr lo tb) {index : Nat} {x : Int32} {r : Option Nat} (hy : y = ⟨"ElasticTruss$SetupReader", "factor", "()LElasticTruss$Quantity;"⟩) (hpi : pc = 129 ∧ index = 119) (hv : ho_new σ (.inr (104, [.int x])) 1 = some (r, σ1)) (hlo : lc_w st + 3073 ≤ lo) (d : decode cc pc = .ok (.invokedynamic index, 5)) (kk : wk_V E K out σ' σ1 (pc + 5) L (vR r :: st)) : wk_V E K out σ' σ pc L (vI x :: st) := by
  intro H locs ls h1 h2 h3 h4 h5 T hT X
  have hnm := C.named
  obtain ⟨rfl, rfl⟩ := hpi
  obtain ⟨hx, hb, hml, -, -, hown, hts, hF, hbs, -, hfrK, hloK, -⟩ := C
  obtain ⟨g1, g2, rfl, rfl⟩ := ho_new_of hv
  obtain ⟨one, hla, ho, hnA⟩ := hF.2.2.2.2.2.2.2.2.2.2.2 _ (List.mem_of_getElem? (show wk_ls[4]? = some _ from rfl))
  dsimp only at hla
  obtain ⟨m0, k, cf, i0, p0, l, hm, hk, hcf, hsh, hin, hfind, hmade, hcall, hl⟩ := State.lambdaAt?_spec hla
  rw [← hy] at hm
  cases hm.symm.trans hnm
  rcases hl with ⟨a, cell, -, -, hcap, -⟩ | ⟨rfl, rfl, hcap⟩
  · cases hcap
  · obtain ⟨b, nt, name, desc, site, c1, c2, c3, c4⟩ := wk_shp hsh
    obtain ⟨dk, kK, ok, tk, file, cf9, object, iface, t, lay, methods, tgt, found, hd9, hkK, hfile, hcf9, hobj, hi9, hok, hlay, hms, -, -, -, -, hrec9, -, -, -, -, hpool, hmeth, hfields, ⟨hinst, -⟩, -⟩ := Lambda.isMade_spec hmade
    obtain ⟨cS, kS, hcS, hkS, -, -, -, hn0⟩ := Cond.instantiable_spec (hts _ q3920)
    cases hobj.symm.trans hcS
    cases hok.symm.trans hkS
    obtain ⟨kN, hkN, hnN⟩ := className_of_methodNamed hnm
    cases hkN.symm.trans hd9
    rw [hnN, hy] at hcf9
    have hl2 := wk_laid
    dsimp only at hcf9
    rw [hcf9, Option.bind_some, ← hn0, hlay] at hl2
    have hty : kK.instanceTypes = #[.int] := by
      rw [hinst, Array.eq_empty_of_size_eq_zero hn0]
      simpa using hl2
    have hslotsE : ((kK.instanceTypes.toList.zip [Value.int x]).map fun (t, v) => narrow t v) = [Value.int x] := by rw [hty]; rfl
    have hw : (ke K).platform.lambdaLinkWords = 3072 := by rw [X.admits.platform]
    have e7 : lc_w (vI x :: st) = 1 + lc_w st := by simp [lc_w, tcat]
    have hwd : 2 * (F0 (km K) 129 ls ((vI x :: st).map tv)).monitorRoom + ((F0 (km K) 129 ls ((vI x :: st).map tv)).stack.map fun v => v.category).sum + (ke K).platform.lambdaLinkWords ≤ (kR K).locals := by
      rw [hw]
      show 2 * 0 + (((vI x :: st).map tv).map fun v => v.category).sum + 3072 ≤ _
      rw [tv_sum, hloK, e7]
      omega
    have hfit : ∀ (i : Nat) (v : Value), (((kK.instanceTypes.toList.zip [Value.int x]).map fun (t, v) => narrow t v).toArray)[i]? = some v → (ks K).fitsSlot (E.2.2.2 104) .none i v = true := by
      intro i v hv
      rw [hslotsE] at hv
      cases i with
      | zero => simp at hv; subst hv; simp [State.fitsSlot, State.slotType?, hkK, hrec9.2.1, hty, fits]
      | succ j => simp at hv
    obtain ⟨X₁, st1⟩ := X.lambdaMakes hx (g := F0 (km K) 129 ls ((vI x :: st).map tv)) rfl h5.1 (by rw [hb]; exact d) (vals := [Value.int x]) (rest := st.map tv) hk hfind hcf c1 c2 (parseLong_of_parse c3) (by rw [c4]; rfl) rfl hkK hwd (by omega) (by rw [hslotsE]; show _ + 1 ≤ _; omega) hfit
    rw [hslotsE] at X₁ st1
    have hG : wk_G E (ks K) (ho_al σ (.inr (104, [.int x])) 1) (H.push { cls := E.2.2.2 104, slots := [Value.int x].toArray, vm := .none }) := by
      refine h1.push (by rw [Array.size_push]) (fun q hq => by rw [Array.getElem?_push, if_neg (Nat.ne_of_lt hq)]) ?_
      rw [← h1.1]
      unfold wk_X
      dsimp only
      rw [if_neg (by omega), if_pos (by omega)]
      exact ⟨_, Array.getElem?_push_size, rfl, rfl, rfl⟩
    have hh := kk _ locs ls hG ⟨Nat.le_trans h2.1 (by rw [Array.size_push]; omega), fun x k1 k2 => by rw [Array.getElem?_push, if_neg (Nat.ne_of_lt (Nat.lt_of_lt_of_le k1 h2.1))]; exact h2.2.1 x k1 k2, h2.2.2⟩ (by show σ.2.1 - 1 ≤ _; omega) (by show σ.2.2 - _ ≤ _; omega) h5
    rw [← h1.1] at hh
    have hh2 := W.cs (cells := (kR K).cells - σ.2.1 + 1) (slots := (kR K).slots - σ.2.2 + 1) (by show _ = (kR K).cells - (σ.2.1 - 1); omega) (by show _ = (kR K).slots - (σ.2.2 - 1); omega) hh
    obtain ⟨t9, b1, b2⟩ := hh2 _ (by rw [← hT]; rfl) X₁
    refine ⟨t9, st1 t9 ?_, b2⟩
    rw [hT]
    exact b1
end WKLM
