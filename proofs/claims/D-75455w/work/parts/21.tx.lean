/-! what a throw of a new exception of the JDK needs; multi-kind helpers -/
theorem tx_X1_57 : tx "ElasticTruss" 57 59 220 "java/lang/IndexOutOfBoundsException" ["java/lang/RuntimeException", "java/lang/Exception"] := ⟨by decide +kernel, by decide +kernel, q3126, q159, by decide +kernel, by decide +kernel, by decide, rfl⟩
theorem tx_X1_60 : tx "ElasticTruss" 60 62 221 "java/lang/IllegalArgumentException" ["java/lang/RuntimeException", "java/lang/Exception"] := ⟨by decide +kernel, by decide +kernel, q2682, q110, by decide +kernel, by decide +kernel, by decide, rfl⟩
theorem tx_X1_63 : tx "ElasticTruss" 63 65 222 "java/lang/IllegalStateException" ["java/lang/RuntimeException", "java/lang/Exception"] := ⟨by decide +kernel, by decide +kernel, q3317, q147, by decide +kernel, by decide +kernel, by decide, rfl⟩
theorem ho_isk {σ : Hs} {r : Option Nat} {c : Nat} (h : ho_k σ r = some c) : ∃ b, ho_is σ r [c] = some b := by
  cases r with
  | none => cases h
  | some q =>
    obtain ⟨fs, hg⟩ := ho_k_of h
    refine ⟨q, ?_⟩
    unfold ho_is
    rw [Option.bind_some, hg]
    simp
