/-! lambdas: their sites -/
section WKLM
variable {E : Ev} {K : Kx} {out : Ot} {σ' σ σ1 : Hs} {y : MethodName} {cc : ByteArray} {nL : Nat} {ret : Option FieldType} {fr lo : Nat} {tb : List ExceptionTableEntry} {pc : Nat} {L L' : Lc} {st : List TV}
theorem wk_C.named (C : wk_C E K y cc nL ret fr lo tb) : (ks K).methodNamed? y = some (km K) := C.2.2.2.2.2.2.2.2.2.2.2.2.2.2
theorem wk_lamC (C : wk_C E K y cc nL ret fr lo tb) {i j index : Nat} {q : MethodName × Nat × Nat × Lambda.Shape × Nat} (hq : wk_ls[i]? = some q) (e1 : q.1 = y) (e2 : q.2.1 = pc) (e3 : q.2.2.2.1.captured = []) (e4 : q.2.2.2.2 + 10 = j) (hlo : lc_w st + 3072 ≤ lo) (d : decode cc pc = .ok (.invokedynamic index, 5)) (kk : wk_V E K out σ' σ (pc + 5) L (vR (E.2.2.1 j) :: st)) : wk_V E K out σ' σ pc L st := by
  subst e4; subst e2
  intro H locs ls h1 h2 h3 h4 h5 T hT X
  have hnm := C.named
  obtain ⟨hx, hb, hml, -, -, hown, hts, hF, hbs, -, hfrK, hloK, -⟩ := C
  obtain ⟨one, hla, ho, hnA⟩ := hF.2.2.2.2.2.2.2.2.2.2.2 _ (List.mem_of_getElem? hq)
  obtain ⟨m0, k, cf, i0, p0, l, hm, hk, hcf, hsh, hin, hfind, hmade, hcall, hl⟩ := State.lambdaAt?_spec hla
  rw [e1] at hm
  cases hm.symm.trans hnm
  rcases hl with ⟨a, cell, rfl, rfl, -⟩ | ⟨-, -, hcap⟩
  · have V := kk H locs ls h1 h2 h3 h4 h5
    rw [← ho] at V
    obtain ⟨t, a1, b1⟩ := V T hT X
    have hw : (ke K).platform.lambdaLinkWords = 3072 := by rw [X.admits.platform]
    exact ⟨t, X.lambdaConstant hx (g := F0 (km K) q.2.1 ls (st.map tv)) rfl h5.1 (by rw [hb]; exact d) hk hfind (by rw [hw]; show 2 * 0 + _ + 3072 ≤ _; rw [tv_sum, hloK]; omega) a1, b1⟩
  · exact absurd e3 hcap
end WKLM
