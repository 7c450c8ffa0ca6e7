def fn_X4_factor (ev : Nat → Option Nat) (rs : Option Nat → Hs → Option ((Option Nat ⊕ Nat) × Hs)) (p0 : Option Nat) (σ : Hs) : Option ((Option Nat ⊕ Nat) × Hs) := (ho_is σ p0 [3]).bind fun b1 => ho_b2 (fn_X4_takeWord ev p0 (ev 100) σ) fun v3 σ2 => if v3 = 0 then (ho_is σ2 p0 [3]).bind fun b4 => ho_b2 (fn_X4_takeWord ev p0 (ev 101) σ2) fun v6 σ5 => if v6 = 0 then (ho_is σ5 p0 [3]).bind fun b7 => ho_b2 (fn_X4_takeWord ev p0 (ev 102) σ5) fun v9 σ8 => if v9 = 0 then (ho_is σ8 p0 [3]).bind fun b10 => ho_b2 (fn_X4_skipSpaces p0 σ8) fun v12 σ11 => if v12 = (40 : Int32) then (ho_fI σ11 p0 [3] 4).bind fun v20 => if v20 = (4 : Int32) then ho_b2 (ho_new σ11 (.inr (4, [.null, .null, .null, .null, .null, .int 0, .int 0, .int 0])) 8) fun v37 σ38 => (ho_fI σ38 p0 [3] 2).bind fun v39 => v37.bind fun b40 => (fn_X5_init ev v37 (-5 : Int32) v39 σ38).bind fun σ41 => v37.bind fun q42 => some (.inr q42, σ41) else (ho_fI σ11 p0 [3] 4).bind fun v21 => (ho_pI σ11 p0 [3] 4 (v21 + (1 : Int32))).bind fun σ22 => (ho_fI σ22 p0 [3] 2).bind fun v23 => (ho_pI σ22 p0 [3] 2 (v23 + (1 : Int32))).bind fun σ24 => (ho_is σ24 p0 [3]).bind fun b25 => ho_b2 (rs p0 σ24) fun v27 σ26 => ho_x v27 (fun x28 => (ho_is σ26 p0 [3]).bind fun b30 => ho_b2 (fn_X4_needSign ev p0 (41 : Int32) σ26) fun v32 σ31 => ho_x v32 (fun _ => (ho_fI σ31 p0 [3] 4).bind fun v35 => (ho_pI σ31 p0 [3] 4 (v35 - (1 : Int32))).bind fun σ36 => some (.inl x28, σ36)) (fun q34 => some (.inr q34, σ31))) (fun q29 => some (.inr q29, σ26)) else (ho_is σ11 p0 [3]).bind fun b13 => ho_b2 (fn_X4_number ev p0 (0 : Int32) (9999 : Int32) σ11) fun v15 σ14 => ho_x v15 (fun x16 => ho_b2 (ho_new σ14 (.inr (104, [.int x16])) 1) fun v18 σ19 => some (.inl v18, σ19)) (fun q17 => some (.inr q17, σ14)) else some (.inl (ev 113), σ8) else some (.inl (ev 112), σ5) else some (.inl (ev 111), σ2)
def fn_X4_term_b33 (ev : Nat → Option Nat) (rs : Option Nat → Hs → Option ((Option Nat ⊕ Nat) × Hs))  : Nat → Option Nat → Option Nat → Option Nat → Hs → Option ((Option Nat ⊕ Nat) × Hs)
  | 0, _, _, _, _ => none
  | n + 1, l0, l1, l2, σ => if l2 = none then some (.inl l1, σ) else (ho_is σ l0 [3]).bind fun b1 => ho_b2 (fn_X4_factor ev rs l0 σ) fun v3 σ2 => ho_x v3 (fun x4 => (ho_is σ2 l1 [9]).bind fun b6 => (fn_X10_add l1 l2 x4 σ2).bind fun σ7 => ho_b2 (ho_nR σ7 7 (2 : Int32)) fun v8 σ9 => (ho_tO σ9 v8 7 [200, 201, 202, 203] (0 : Int32) (ev 3)).bind fun σ10 => (ho_tO σ10 v8 7 [200, 201, 202, 203] (1 : Int32) (ev 4)).bind fun σ11 => (ho_is σ11 l0 [3]).bind fun b12 => ho_b2 (fn_X4_take l0 v8 σ11) fun v14 σ13 => fn_X4_term_b33 ev rs n l0 l1 v14 σ13) (fun q5 => some (.inr q5, σ2))
def fn_X4_term (ev : Nat → Option Nat) (rs : Option Nat → Hs → Option ((Option Nat ⊕ Nat) × Hs)) (p0 : Option Nat) (σ : Hs) : Option ((Option Nat ⊕ Nat) × Hs) := ho_b2 (ho_new σ (.inr (9, [.null, .null, .null])) 3) fun v15 σ16 => (ho_is σ16 p0 [3]).bind fun b17 => ho_b2 (fn_X4_factor ev rs p0 σ16) fun v19 σ18 => ho_x v19 (fun x20 => v15.bind fun b22 => (fn_X10_init v15 x20 σ18).bind fun σ23 => ho_b2 (ho_nR σ23 7 (2 : Int32)) fun v24 σ25 => (ho_tO σ25 v24 7 [200, 201, 202, 203] (0 : Int32) (ev 3)).bind fun σ26 => (ho_tO σ26 v24 7 [200, 201, 202, 203] (1 : Int32) (ev 4)).bind fun σ27 => (ho_is σ27 p0 [3]).bind fun b28 => ho_b2 (fn_X4_take p0 v24 σ27) fun v30 σ29 => fn_X4_term_b33 ev rs fu_el p0 v15 v30 σ29) (fun q21 => some (.inr q21, σ18))
def fn_X4_sum_b33 (ev : Nat → Option Nat) (rs : Option Nat → Hs → Option ((Option Nat ⊕ Nat) × Hs))  : Nat → Option Nat → Option Nat → Option Nat → Hs → Option ((Option Nat ⊕ Nat) × Hs)
  | 0, _, _, _, _ => none
  | n + 1, l0, l1, l2, σ => if l2 = none then some (.inl l1, σ) else (ho_is σ l0 [3]).bind fun b1 => ho_b2 (fn_X4_term ev rs l0 σ) fun v3 σ2 => ho_x v3 (fun x4 => (ho_is σ2 l1 [9]).bind fun b6 => (fn_X10_add l1 l2 x4 σ2).bind fun σ7 => ho_b2 (ho_nR σ7 7 (2 : Int32)) fun v8 σ9 => (ho_tO σ9 v8 7 [200, 201, 202, 203] (0 : Int32) (ev 1)).bind fun σ10 => (ho_tO σ10 v8 7 [200, 201, 202, 203] (1 : Int32) (ev 2)).bind fun σ11 => (ho_is σ11 l0 [3]).bind fun b12 => ho_b2 (fn_X4_take l0 v8 σ11) fun v14 σ13 => fn_X4_sum_b33 ev rs n l0 l1 v14 σ13) (fun q5 => some (.inr q5, σ2))
def fn_X4_sum (ev : Nat → Option Nat) (rs : Option Nat → Hs → Option ((Option Nat ⊕ Nat) × Hs)) (p0 : Option Nat) (σ : Hs) : Option ((Option Nat ⊕ Nat) × Hs) := ho_b2 (ho_new σ (.inr (9, [.null, .null, .null])) 3) fun v15 σ16 => (ho_is σ16 p0 [3]).bind fun b17 => ho_b2 (fn_X4_term ev rs p0 σ16) fun v19 σ18 => ho_x v19 (fun x20 => v15.bind fun b22 => (fn_X10_init v15 x20 σ18).bind fun σ23 => ho_b2 (ho_nR σ23 7 (2 : Int32)) fun v24 σ25 => (ho_tO σ25 v24 7 [200, 201, 202, 203] (0 : Int32) (ev 1)).bind fun σ26 => (ho_tO σ26 v24 7 [200, 201, 202, 203] (1 : Int32) (ev 2)).bind fun σ27 => (ho_is σ27 p0 [3]).bind fun b28 => ho_b2 (fn_X4_take p0 v24 σ27) fun v30 σ29 => fn_X4_sum_b33 ev rs fu_el p0 v15 v30 σ29) (fun q21 => some (.inr q21, σ18))
def fn_X4_sumR (ev : Nat → Option Nat) : Nat → Option Nat → Hs → Option ((Option Nat ⊕ Nat) × Hs)
  | 0, _, _ => none
  | d + 1, q0, σ => fn_X4_sum ev (fn_X4_sumR ev d) q0 σ
def fn_X4_statement_b187 (ev : Nat → Option Nat)  (l0 : Option Nat) (σ : Hs) : Option ((Unit ⊕ Nat) × Hs) := (ho_is σ l0 [3]).bind fun b1 => ho_b2 (fn_X4_needSign ev l0 (59 : Int32) σ) fun v3 σ2 => ho_x v3 (fun _ => some (.inl (), σ2)) (fun q5 => some (.inr q5, σ2))
def fn_X4_statement_b53 (ev : Nat → Option Nat)  (l0 : Option Nat) (l1 : Int32) (t0 : Option Nat) (t1 : Int32) (σ : Hs) : Option ((Unit ⊕ Nat) × Hs) := (ho_is σ t0 [3]).bind fun b6 => ho_b2 (fn_X4_needRoom ev t0 t1 l1 σ) fun v8 σ7 => ho_x v8 (fun _ => (ho_fR σ7 l0 [3] 1).bind fun v11 => (ho_fR σ7 v11 [1] 6).bind fun v12 => (ho_fR σ7 l0 [3] 1).bind fun v13 => (ho_fI σ7 v13 [1] 7).bind fun v14 => (ho_is σ7 l0 [3]).bind fun b15 => ho_b2 (fn_X4_number ev l0 (1 : Int32) (50 : Int32) σ7) fun v17 σ16 => ho_x v17 (fun x18 => (ho_tI σ16 v12 0 v14 x18).bind fun σ20 => (ho_fR σ20 l0 [3] 1).bind fun v21 => (ho_fI σ20 v21 [1] 7).bind fun v22 => (ho_pI σ20 v21 [1] 7 (v22 + (1 : Int32))).bind fun σ23 => fn_X4_statement_b187 ev l0 σ23) (fun q19 => some (.inr q19, σ16))) (fun q10 => some (.inr q10, σ7))
def fn_X4_statement (ev : Nat → Option Nat) (p0 : Option Nat) (σ : Hs) : Option ((Unit ⊕ Nat) × Hs) := (ho_is σ p0 [3]).bind fun b24 => ho_b2 (fn_X4_skipSpaces p0 σ) fun v26 σ25 => (ho_fI σ25 p0 [3] 2).bind fun v27 => (ho_is σ25 p0 [3]).bind fun b28 => ho_b2 (fn_X4_takeWord ev p0 (ev 104) σ25) fun v30 σ29 => if v30 = 0 then (ho_is σ29 p0 [3]).bind fun b31 => ho_b2 (fn_X4_takeWord ev p0 (ev 107) σ29) fun v33 σ32 => if v33 = 0 then (ho_is σ32 p0 [3]).bind fun b34 => ho_b2 (fn_X4_takeWord ev p0 (ev 108) σ32) fun v36 σ35 => if v36 = 0 then (ho_is σ35 p0 [3]).bind fun b37 => ho_b2 (fn_X4_takeWord ev p0 (ev 109) σ35) fun v39 σ38 => if v39 = 0 then (ho_is σ38 p0 [3]).bind fun b40 => ho_b2 (fn_X4_takeWord ev p0 (ev 110) σ38) fun v42 σ41 => if v42 = 0 then ho_b2 (ho_new σ41 (.inr (4, [.null, .null, .null, .null, .null, .int 0, .int 0, .int 0])) 8) fun v43 σ44 => v43.bind fun b45 => (fn_X5_init ev v43 (-2 : Int32) v27 σ44).bind fun σ46 => v43.bind fun q47 => some (.inr q47, σ46) else (ho_fI σ41 p0 [3] 5).bind fun v48 => if v48 = 0 then (ho_pZ σ41 p0 [3] 5 (1 : Int32)).bind fun σ49 => (ho_fR σ49 p0 [3] 1).bind fun v50 => (ho_is σ49 p0 [3]).bind fun b51 => ho_b2 (fn_X4_sumR ev 6 p0 σ49) fun v53 σ52 => ho_x v53 (fun x54 => (ho_pR σ52 v50 [1] 5 x54).bind fun σ56 => fn_X4_statement_b187 ev p0 σ56) (fun q55 => some (.inr q55, σ52)) else ho_b2 (ho_new σ41 (.inr (4, [.null, .null, .null, .null, .null, .int 0, .int 0, .int 0])) 8) fun v57 σ58 => v57.bind fun b59 => (fn_X5_init ev v57 (-2 : Int32) v27 σ58).bind fun σ60 => v57.bind fun q61 => some (.inr q61, σ60) else (ho_is σ38 p0 [3]).bind fun b62 => ho_b2 (fn_X4_readLoad ev p0 v27 σ38) fun v64 σ63 => ho_x v64 (fun _ => fn_X4_statement_b187 ev p0 σ63) (fun q66 => some (.inr q66, σ63)) else (ho_is σ35 p0 [3]).bind fun b67 => ho_b2 (fn_X4_readMember ev p0 v27 σ35) fun v69 σ68 => ho_x v69 (fun _ => fn_X4_statement_b187 ev p0 σ68) (fun q71 => some (.inr q71, σ68)) else (ho_fR σ32 p0 [3] 1).bind fun v72 => (ho_fI σ32 v72 [1] 7).bind fun v73 => if (5 : Int32) ≤ v73 then fn_X4_statement_b53 ev p0 v27 p0 (0 : Int32) σ32 else fn_X4_statement_b53 ev p0 v27 p0 (1 : Int32) σ32 else (ho_is σ29 p0 [3]).bind fun b74 => ho_b2 (fn_X4_node ev p0 v27 σ29) fun v76 σ75 => ho_x v76 (fun _ => fn_X4_statement_b187 ev p0 σ75) (fun q78 => some (.inr q78, σ75))
def fn_X4_init (ev : Nat → Option Nat) (p0 : Option Nat) (p1 : Option Nat) (p2 : Int32) (σ : Hs) : Option Hs := (ho_pR σ p0 [3] 6 p1).bind fun σ1 => p0.bind fun b2 => ho_b2 (ho_new σ1 (.inr (1, [.int 0, .int 0, .int 0, .null, .null, .null, .null, .int 0, .null])) 9) fun v3 σ4 => v3.bind fun b5 => (fn_X2_init ev v3 σ4).bind fun σ6 => (ho_pR σ6 p0 [3] 1 v3).bind fun σ7 => (ho_pI σ7 p0 [3] 0 p2).bind fun σ8 => some σ8
def fn_X4_read_b68 (ev : Nat → Option Nat)  : Nat → Option Nat → Hs → Option ((Option Nat ⊕ Nat) × Hs)
  | 0, _, _ => none
  | n + 1, l0, σ => (ho_is σ l0 [3]).bind fun b1 => ho_b2 (fn_X4_skipSpaces l0 σ) fun v3 σ2 => if v3 = (-1 : Int32) then (ho_fR σ2 l0 [3] 1).bind fun v4 => some (.inl v4, σ2) else (ho_is σ2 l0 [3]).bind fun b5 => ho_b2 (fn_X4_statement ev l0 σ2) fun v7 σ6 => ho_x v7 (fun _ => fn_X4_read_b68 ev n l0 σ6) (fun q9 => some (.inr q9, σ6))
def fn_X4_read (ev : Nat → Option Nat) (p0 : Option Nat) (σ : Hs) : Option ((Option Nat ⊕ Nat) × Hs) := (ho_is σ p0 [3]).bind fun b10 => ho_b2 (fn_X4_takeWord ev p0 (ev 103) σ) fun v12 σ11 => if v12 = 0 then ho_b2 (ho_new σ11 (.inr (4, [.null, .null, .null, .null, .null, .int 0, .int 0, .int 0])) 8) fun v38 σ39 => (ho_fI σ39 p0 [3] 2).bind fun v40 => v38.bind fun b41 => (fn_X5_init ev v38 (-2 : Int32) v40 σ39).bind fun σ42 => v38.bind fun q43 => some (.inr q43, σ42) else (ho_is σ11 p0 [3]).bind fun b13 => ho_b2 (fn_X4_number ev p0 (1 : Int32) (9999 : Int32) σ11) fun v15 σ14 => ho_x v15 (fun x16 => (ho_is σ14 p0 [3]).bind fun b18 => ho_b2 (fn_X4_number ev p0 (1 : Int32) (9999 : Int32) σ14) fun v20 σ19 => ho_x v20 (fun x21 => ho_b2 (ho_new σ19 (.inr (1, [.int 0, .int 0, .int 0, .null, .null, .null, .null, .int 0, .null])) 9) fun v23 σ24 => (ho_is σ24 p0 [3]).bind fun b25 => ho_b2 (fn_X4_number ev p0 (1 : Int32) (40 : Int32) σ24) fun v27 σ26 => ho_x v27 (fun x28 => v23.bind fun b30 => (fn_X2_init_2 ev v23 x16 x21 x28 σ26).bind fun σ31 => (ho_pR σ31 p0 [3] 1 v23).bind fun σ32 => (ho_is σ32 p0 [3]).bind fun b33 => ho_b2 (fn_X4_needSign ev p0 (59 : Int32) σ32) fun v35 σ34 => ho_x v35 (fun _ => fn_X4_read_b68 ev fu_el p0 σ34) (fun q37 => some (.inr q37, σ34))) (fun q29 => some (.inr q29, σ26))) (fun q22 => some (.inr q22, σ19))) (fun q17 => some (.inr q17, σ14))
theorem fx_X4_109 : fx "ElasticTruss$SetupReader" 109 [3] 4 := ⟨"ElasticTruss$SetupReader", "ElasticTruss$SetupReader", "nesting", "I", ⟨Or.inl q2705, Or.inl rfl⟩, fx_c (r := (RX4, TX4, 7)) (Nat.le_of_ble_eq_true rfl) rfl (Nat.le_of_ble_eq_true rfl) rfl rfl rfl (fx_0)⟩
theorem px_X4_109 : px "ElasticTruss$SetupReader" 109 [3] 4 (.int) false := ⟨"ElasticTruss$SetupReader", "ElasticTruss$SetupReader", "nesting", "I", ⟨Or.inl q2705, Or.inl rfl⟩, px_c (r := (RX4, TX4, 7)) (Nat.le_of_ble_eq_true rfl) rfl (Nat.le_of_ble_eq_true rfl) rfl (px_0), by decide +kernel, fun h => by cases h⟩
theorem cx_X4_112 : cxV "ElasticTruss$SetupReader" "ElasticTruss$SetupReader" 112 yX4_sum cX4_sum 3 (Option.some (FieldType.object "ElasticTruss$Quantity")) 0 := ⟨q3018, q3020, qs42, q128, q3021, ⟨by decide +kernel, by decide +kernel⟩, fun sig h => by have e := (show (parseMethodDescriptor (yX4_sum).desc).map (fun d => d.parameters.length) = some 0 by decide +kernel); rw [h] at e; exact (Option.some.inj e).symm⟩
theorem cx_X4_115 : cxV "ElasticTruss$SetupReader" "ElasticTruss$SetupReader" 115 yX4_needSign cX4_needSign 2 (Option.none : Option FieldType) 1 := ⟨q2794, q2796, qs30, q128, q2797, ⟨by decide +kernel, by decide +kernel⟩, fun sig h => by have e := (show (parseMethodDescriptor (yX4_needSign).desc).map (fun d => d.parameters.length) = some 1 by decide +kernel); rw [h] at e; exact (Option.some.inj e).symm⟩
theorem cx_X4_130 : cxV "ElasticTruss$SetupReader" "ElasticTruss$SetupReader" 130 yX4_factor cX4_factor 2 (Option.some (FieldType.object "ElasticTruss$Quantity")) 0 := ⟨q3028, q3030, qs44, q128, q3031, ⟨by decide +kernel, by decide +kernel⟩, fun sig h => by have e := (show (parseMethodDescriptor (yX4_factor).desc).map (fun d => d.parameters.length) = some 0 by decide +kernel); rw [h] at e; exact (Option.some.inj e).symm⟩
theorem cx_X4_147 : cxV "ElasticTruss$SetupReader" "ElasticTruss$Chain" 147 yX10_add cX10_add 4 (Option.none : Option FieldType) 2 := ⟨q3067, q3068, q3069, q143, q3070, ⟨by decide +kernel, by decide +kernel⟩, fun sig h => by have e := (show (parseMethodDescriptor (yX10_add).desc).map (fun d => d.parameters.length) = some 2 by decide +kernel); rw [h] at e; exact (Option.some.inj e).symm⟩
theorem rx_9 : rx 9 "ElasticTruss$Chain" := Or.inl ⟨(Nat.le_of_ble_eq_true rfl), (RX10, TX10, 3), rfl, rfl⟩
theorem sx_X4_136 : sx "ElasticTruss$SetupReader" 136 3 := ⟨_, Or.inl q3059, rfl⟩
theorem rx_203 : rx 203 "ElasticTruss$Operator$4" := Or.inr ⟨(Nat.le_of_ble_eq_true rfl), rfl⟩
theorem rx_202 : rx 202 "ElasticTruss$Operator$3" := Or.inr ⟨(Nat.le_of_ble_eq_true rfl), rfl⟩
theorem rx_201 : rx 201 "ElasticTruss$Operator$2" := Or.inr ⟨(Nat.le_of_ble_eq_true rfl), rfl⟩
theorem rx_200 : rx 200 "ElasticTruss$Operator$1" := Or.inr ⟨(Nat.le_of_ble_eq_true rfl), rfl⟩
theorem sx_X4_140 : sx "ElasticTruss$SetupReader" 140 4 := ⟨_, Or.inl q3061, rfl⟩
theorem cx_X4_143 : cxV "ElasticTruss$SetupReader" "ElasticTruss$SetupReader" 143 yX4_take cX4_take 6 (Option.some (FieldType.object "ElasticTruss$Operator")) 1 := ⟨q3063, q3065, qs45, q128, q3066, ⟨by decide +kernel, by decide +kernel⟩, fun sig h => by have e := (show (parseMethodDescriptor (yX4_take).desc).map (fun d => d.parameters.length) = some 1 by decide +kernel); rw [h] at e; exact (Option.some.inj e).symm⟩
theorem nx_X4_128 : nx "ElasticTruss$SetupReader" 128 9 3 [.null, .null, .null] := ⟨(Nat.le_of_ble_eq_true rfl), rfl, RX10, TX10, tyX10, rfl, rfl, q3022, q3023, q143, by
  intro j hj
  match j, hj with
  | 0, _ => rfl
  | 1, _ => rfl
  | 2, _ => rfl
  | j + 3, hj => omega⟩
theorem cx_X4_133 : cxI "ElasticTruss$SetupReader" 133 yX10_init cX10_init 2 1 := ⟨q3043, q3044, q143, q3045, ⟨by decide +kernel, by decide +kernel⟩, rfl, fun sig h => by have e := (show (parseMethodDescriptor (yX10_init).desc).map (fun d => d.parameters.length) = some 1 by decide +kernel); rw [h] at e; exact (Option.some.inj e).symm⟩
theorem cx_X4_151 : cxV "ElasticTruss$SetupReader" "ElasticTruss$SetupReader" 151 yX4_term cX4_term 3 (Option.some (FieldType.object "ElasticTruss$Quantity")) 0 := ⟨q3024, q3026, qs43, q128, q3027, ⟨by decide +kernel, by decide +kernel⟩, fun sig h => by have e := (show (parseMethodDescriptor (yX4_term).desc).map (fun d => d.parameters.length) = some 0 by decide +kernel); rw [h] at e; exact (Option.some.inj e).symm⟩
theorem sx_X4_154 : sx "ElasticTruss$SetupReader" 154 1 := ⟨_, Or.inl q3089, rfl⟩
theorem sx_X4_157 : sx "ElasticTruss$SetupReader" 157 2 := ⟨_, Or.inl q3091, rfl⟩
theorem fx_X4_245 : fx "ElasticTruss$SetupReader" 245 [1] 6 := ⟨"ElasticTruss$Truss", "ElasticTruss$Truss", "areas", "[I", ⟨Or.inr ⟨_, lw_n q625 rfl⟩, Or.inl rfl⟩, fx_c (r := (RX2, TX2, 9)) (Nat.le_of_ble_eq_true rfl) rfl (Nat.le_of_ble_eq_true rfl) rfl rfl rfl (fx_0)⟩
theorem px_X4_220 : px "ElasticTruss$SetupReader" 220 [1] 7 (.int) false := ⟨"ElasticTruss$Truss", "ElasticTruss$Truss", "groupCount", "I", ⟨Or.inr ⟨_, lw_n q629 rfl⟩, Or.inl rfl⟩, px_c (r := (RX2, TX2, 9)) (Nat.le_of_ble_eq_true rfl) rfl (Nat.le_of_ble_eq_true rfl) rfl (px_0), by decide +kernel, fun h => by cases h⟩
theorem fx_X4_261 : fx "ElasticTruss$SetupReader" 261 [3] 5 := ⟨"ElasticTruss$SetupReader", "ElasticTruss$SetupReader", "hasBuckling", "Z", ⟨Or.inl q2706, Or.inl rfl⟩, fx_c (r := (RX4, TX4, 7)) (Nat.le_of_ble_eq_true rfl) rfl (Nat.le_of_ble_eq_true rfl) rfl rfl rfl (fx_0)⟩
theorem px_X4_261 : px "ElasticTruss$SetupReader" 261 [3] 5 (.boolean) false := ⟨"ElasticTruss$SetupReader", "ElasticTruss$SetupReader", "hasBuckling", "Z", ⟨Or.inl q2706, Or.inl rfl⟩, px_c (r := (RX4, TX4, 7)) (Nat.le_of_ble_eq_true rfl) rfl (Nat.le_of_ble_eq_true rfl) rfl (px_0), by decide +kernel, fun h => by cases h⟩
theorem px_X4_265 : px "ElasticTruss$SetupReader" 265 [1] 5 (.object "ElasticTruss$Quantity") false := ⟨"ElasticTruss$Truss", "ElasticTruss$Truss", "buckling", "LElasticTruss$Quantity;", ⟨Or.inr ⟨_, lw_n q623 rfl⟩, Or.inl rfl⟩, px_c (r := (RX2, TX2, 9)) (Nat.le_of_ble_eq_true rfl) rfl (Nat.le_of_ble_eq_true rfl) rfl (px_0), by decide +kernel, fun h => by cases h⟩
theorem cx_X4_256 : cxV "ElasticTruss$SetupReader" "ElasticTruss$SetupReader" 256 yX4_readLoad cX4_readLoad 5 (Option.none : Option FieldType) 1 := ⟨q2987, q2989, qs40, q128, q2990, ⟨by decide +kernel, by decide +kernel⟩, fun sig h => by have e := (show (parseMethodDescriptor (yX4_readLoad).desc).map (fun d => d.parameters.length) = some 1 by decide +kernel); rw [h] at e; exact (Option.some.inj e).symm⟩
theorem cx_X4_251 : cxV "ElasticTruss$SetupReader" "ElasticTruss$SetupReader" 251 yX4_readMember cX4_readMember 4 (Option.none : Option FieldType) 1 := ⟨q2882, q2884, qs38, q128, q2885, ⟨by decide +kernel, by decide +kernel⟩, fun sig h => by have e := (show (parseMethodDescriptor (yX4_readMember).desc).map (fun d => d.parameters.length) = some 1 by decide +kernel); rw [h] at e; exact (Option.some.inj e).symm⟩
theorem cx_X4_240 : cxV "ElasticTruss$SetupReader" "ElasticTruss$SetupReader" 240 yX4_node cX4_node 6 (Option.none : Option FieldType) 1 := ⟨q2807, q2809, qs33, q128, q2810, ⟨by decide +kernel, by decide +kernel⟩, fun sig h => by have e := (show (parseMethodDescriptor (yX4_node).desc).map (fun d => d.parameters.length) = some 1 by decide +kernel); rw [h] at e; exact (Option.some.inj e).symm⟩
theorem px_X4_3 : px "ElasticTruss$SetupReader" 3 [3] 6 (.object "ElasticTruss") true := ⟨"ElasticTruss$SetupReader", "ElasticTruss$SetupReader", "this$0", "LElasticTruss;", ⟨Or.inl q2707, Or.inl rfl⟩, px_c (r := (RX4, TX4, 7)) (Nat.le_of_ble_eq_true rfl) rfl (Nat.le_of_ble_eq_true rfl) rfl (px_0), by decide +kernel, fun _ => ⟨rfl, q2707⟩⟩
theorem nx_X4_15 : nx "ElasticTruss$SetupReader" 15 1 9 [.int 0, .int 0, .int 0, .null, .null, .null, .null, .int 0, .null] := ⟨(Nat.le_of_ble_eq_true rfl), rfl, RX2, TX2, tyX2, rfl, rfl, q2699, q182, q103, by
  intro j hj
  match j, hj with
  | 0, _ => rfl
  | 1, _ => rfl
  | 2, _ => rfl
  | 3, _ => rfl
  | 4, _ => rfl
  | 5, _ => rfl
  | 6, _ => rfl
  | 7, _ => rfl
  | 8, _ => rfl
  | j + 9, hj => omega⟩
theorem cx_X4_17 : cxI "ElasticTruss$SetupReader" 17 yX2_init cX2_init 1 0 := ⟨q2700, q184, q103, q185, ⟨by decide +kernel, by decide +kernel⟩, rfl, fun sig h => by have e := (show (parseMethodDescriptor (yX2_init).desc).map (fun d => d.parameters.length) = some 0 by decide +kernel); rw [h] at e; exact (Option.some.inj e).symm⟩
theorem px_X4_18 : px "ElasticTruss$SetupReader" 18 [3] 1 (.object "ElasticTruss$Truss") false := ⟨"ElasticTruss$SetupReader", "ElasticTruss$SetupReader", "read", "LElasticTruss$Truss;", ⟨Or.inl q2702, Or.inl rfl⟩, px_c (r := (RX4, TX4, 7)) (Nat.le_of_ble_eq_true rfl) rfl (Nat.le_of_ble_eq_true rfl) rfl (px_0), by decide +kernel, fun h => by cases h⟩
theorem px_X4_22 : px "ElasticTruss$SetupReader" 22 [3] 0 (.int) true := ⟨"ElasticTruss$SetupReader", "ElasticTruss$SetupReader", "length", "I", ⟨Or.inl q2701, Or.inl rfl⟩, px_c (r := (RX4, TX4, 7)) (Nat.le_of_ble_eq_true rfl) rfl (Nat.le_of_ble_eq_true rfl) rfl (px_0), by decide +kernel, fun _ => ⟨rfl, q2701⟩⟩
theorem cx_X4_272 : cxV "ElasticTruss$SetupReader" "ElasticTruss$SetupReader" 272 yX4_statement cX4_statement 2 (Option.none : Option FieldType) 0 := ⟨q2802, q2804, qs32, q128, q2805, ⟨by decide +kernel, by decide +kernel⟩, fun sig h => by have e := (show (parseMethodDescriptor (yX4_statement).desc).map (fun d => d.parameters.length) = some 0 by decide +kernel); rw [h] at e; exact (Option.some.inj e).symm⟩
theorem cx_X4_270 : cxI "ElasticTruss$SetupReader" 270 yX2_init_2 cX2_init_2 4 3 := ⟨q2793, q187, q103, q188, ⟨by decide +kernel, by decide +kernel⟩, rfl, fun sig h => by have e := (show (parseMethodDescriptor (yX2_init_2).desc).map (fun d => d.parameters.length) = some 3 by decide +kernel); rw [h] at e; exact (Option.some.inj e).symm⟩
set_option maxHeartbeats 4000000 in
theorem mt_X4_factor {E : Ev} {l : Launch} (hl : l.stackTraces = false) {fs ls : Nat} {rs : Option Nat → Hs → Option ((Option Nat ⊕ Nat) × Hs)} (hrs : ∀ {q0 : Option Nat} {σ : Hs} {r : Option Nat ⊕ Nat} {σ' : Hs}, rs q0 σ = some (r, σ') → wk_M E l yX4_sum (ws_ yX4_sum cX4_sum 3 (Option.some (FieldType.object "ElasticTruss$Quantity"))) fs ls [vR q0] σ (ot_R r) σ') {p0 : Option Nat} {σ : Hs} {r : Option Nat ⊕ Nat} {σ' : Hs} (hf : fn_X4_factor E.2.2.1 rs p0 σ = some (r, σ')) : wk_M E l yX4_factor (ws_ yX4_factor cX4_factor 2 (Option.some (FieldType.object "ElasticTruss$Quantity"))) (fs + 6) (ls + 3132) [vR p0] σ (ot_R r) σ' := by
  refine wk_start (by decide +kernel) hl (Nat.le_of_ble_eq_true rfl) (fun K C hK => ?_)
  subst hK
  refine wk_L (L' := [(0, vR p0)]) rfl ?_
  unfold fn_X4_factor at hf
  refine wk_aload_n C 0 rfl dX4_factor_0 ?_
  refine wk_ldcS (q := ("ElasticTruss$SetupReader", 94, "area", 0)) C (by decide +kernel) rfl rfl dX4_factor_1 ?_
  obtain ⟨b1, h_b1, hf⟩ := ho_b hf
  obtain ⟨v3, σ2, h_σ2, hf⟩ := ho_e2 hf
  refine wk_callV (av := [vR (E.2.2.1 100)]) (rest := []) (rv := some (vI v3)) C h_b1 rx_3 cx_X4_96 (mt_X4_takeWord (wk_C.tr C) h_σ2) rfl rfl (by omega) (by omega) (Nat.le_of_ble_eq_true rfl) dX4_factor_3 ?_
  refine wk_if_eq C 15 (by decide) dX4_factor_6 (fun c_ => ?_) (fun c_ => ?_)
  · rw [if_pos c_] at hf
    refine wk_aload_n C 0 rfl dX4_factor_15 ?_
    refine wk_ldcS (q := ("ElasticTruss$SetupReader", 104, "length", 1)) C (by decide +kernel) rfl rfl dX4_factor_16 ?_
    obtain ⟨b4, h_b4, hf⟩ := ho_b hf
    obtain ⟨v6, σ5, h_σ5, hf⟩ := ho_e2 hf
    refine wk_callV (av := [vR (E.2.2.1 101)]) (rest := []) (rv := some (vI v6)) C h_b4 rx_3 cx_X4_96 (mt_X4_takeWord (wk_C.tr C) h_σ5) rfl rfl (by omega) (by omega) (Nat.le_of_ble_eq_true rfl) dX4_factor_18 ?_
    refine wk_if_eq C 30 (by decide) dX4_factor_21 (fun c_ => ?_) (fun c_ => ?_)
    · rw [if_pos c_] at hf
      refine wk_aload_n C 0 rfl dX4_factor_30 ?_
      refine wk_ldcS (q := ("ElasticTruss$SetupReader", 106, "modulus", 2)) C (by decide +kernel) rfl rfl dX4_factor_31 ?_
      obtain ⟨b7, h_b7, hf⟩ := ho_b hf
      obtain ⟨v9, σ8, h_σ8, hf⟩ := ho_e2 hf
      refine wk_callV (av := [vR (E.2.2.1 102)]) (rest := []) (rv := some (vI v9)) C h_b7 rx_3 cx_X4_96 (mt_X4_takeWord (wk_C.tr C) h_σ8) rfl rfl (by omega) (by omega) (Nat.le_of_ble_eq_true rfl) dX4_factor_33 ?_
      refine wk_if_eq C 45 (by decide) dX4_factor_36 (fun c_ => ?_) (fun c_ => ?_)
      · rw [if_pos c_] at hf
        refine wk_aload_n C 0 rfl dX4_factor_45 ?_
        obtain ⟨b10, h_b10, hf⟩ := ho_b hf
        obtain ⟨v12, σ11, h_σ11, hf⟩ := ho_e2 hf
        refine wk_callV (av := []) (rest := []) (rv := some (vI v12)) C h_b10 rx_3 cx_X4_49 (mt_X4_skipSpaces (wk_C.tr C) h_σ11) rfl rfl (by omega) (by omega) (Nat.le_of_ble_eq_true rfl) dX4_factor_46 ?_
        refine wk_bipush (v := 40) C dX4_factor_49 rfl ?_
        refine wk_icmp_ne C 119 (by decide) dX4_factor_51 (fun c_ => ?_) (fun c_ => ?_)
        · rw [if_neg c_] at hf
          refine wk_aload_n C 0 rfl dX4_factor_119 ?_
          refine wk_iconst (v := 0) C dX4_factor_120 rfl ?_
          refine wk_sipush (v := 9999) C dX4_factor_121 rfl ?_
          obtain ⟨b13, h_b13, hf⟩ := ho_b hf
          obtain ⟨v15, σ14, h_σ14, hf⟩ := ho_e2 hf
          rcases ho_xe hf with ⟨x16, rfl, hf⟩ | ⟨q17, rfl, hf⟩
          · refine wk_callV (av := [vI (0 : Int32), vI (9999 : Int32)]) (rest := []) (rv := some (vI x16)) C h_b13 rx_3 cx_X4_91 (mt_X4_number (wk_C.tr C) h_σ14) rfl rfl (by omega) (by omega) (Nat.le_of_ble_eq_true rfl) dX4_factor_124 ?_
            refine wk_istore_n (L' := [(0, vR p0), (1, vI x16)]) C (by decide) rfl dX4_factor_127 ?_
            refine wk_iload_n C 1 rfl dX4_factor_128 ?_
            obtain ⟨v18, σ19, h_σ19, hf⟩ := ho_e2 hf
            refine wk_lamM C rfl ⟨rfl, rfl⟩ h_σ19 (show 0 + 3073 ≤ (ls + 3132) from by omega) dX4_factor_129 ?_
            obtain ⟨rfl, rfl⟩ := Prod.mk.inj (Option.some.inj hf)
            exact wk_aret C (Or.inl ⟨_, rfl⟩) rfl rfl dX4_factor_134
          · refine wk_callVT (av := [vI (0 : Int32), vI (9999 : Int32)]) (rest := []) C h_b13 rx_3 cx_X4_91 (mt_X4_number (wk_C.tr C) h_σ14) rfl (by omega) (by omega) (Nat.le_of_ble_eq_true rfl) dX4_factor_124 ?_
            obtain ⟨rfl, rfl⟩ := Prod.mk.inj (Option.some.inj hf)
            exact wk_out C (by decide +kernel) rfl rfl
        · rw [if_pos c_] at hf
          refine wk_aload_n C 0 rfl dX4_factor_54 ?_
          obtain ⟨v20, h_v20, hf⟩ := ho_b hf
          refine wk_getI C fx_X4_109 h_v20 dX4_factor_55 ?_
          refine wk_iconst (v := 4) C dX4_factor_58 rfl ?_
          refine wk_icmp_ne C 76 (by decide) dX4_factor_59 (fun c_ => ?_) (fun c_ => ?_)
          · rw [if_neg c_] at hf
            refine wk_aload_n C 0 rfl dX4_factor_76 ?_
            refine wk_dup C rfl dX4_factor_77 ?_
            obtain ⟨v21, h_v21, hf⟩ := ho_b hf
            refine wk_getI C fx_X4_109 h_v21 dX4_factor_78 ?_
            refine wk_iconst (v := 1) C dX4_factor_81 rfl ?_
            refine wk_iadd C dX4_factor_82 ?_
            obtain ⟨σ22, h_σ22, hf⟩ := ho_b hf
            refine wk_putI C px_X4_109 (fun q => by cases q) h_σ22 dX4_factor_83 ?_
            refine wk_aload_n C 0 rfl dX4_factor_86 ?_
            refine wk_dup C rfl dX4_factor_87 ?_
            obtain ⟨v23, h_v23, hf⟩ := ho_b hf
            refine wk_getI C fx_X4_30 h_v23 dX4_factor_88 ?_
            refine wk_iconst (v := 1) C dX4_factor_91 rfl ?_
            refine wk_iadd C dX4_factor_92 ?_
            obtain ⟨σ24, h_σ24, hf⟩ := ho_b hf
            refine wk_putI C px_X4_30 (fun q => by cases q) h_σ24 dX4_factor_93 ?_
            refine wk_aload_n C 0 rfl dX4_factor_96 ?_
            obtain ⟨b25, h_b25, hf⟩ := ho_b hf
            obtain ⟨v27, σ26, h_σ26, hf⟩ := ho_e2 hf
            rcases ho_xe hf with ⟨x28, rfl, hf⟩ | ⟨q29, rfl, hf⟩
            · refine wk_callV (av := []) (rest := []) (rv := some (vR x28)) C h_b25 rx_3 cx_X4_112 (hrs h_σ26) rfl rfl (by omega) (by omega) (Nat.le_of_ble_eq_true rfl) dX4_factor_97 ?_
              refine wk_astore_n (L' := [(0, vR p0), (1, vR x28)]) C (by decide) rfl dX4_factor_100 ?_
              refine wk_aload_n C 0 rfl dX4_factor_101 ?_
              refine wk_bipush (v := 41) C dX4_factor_102 rfl ?_
              obtain ⟨b30, h_b30, hf⟩ := ho_b hf
              obtain ⟨v32, σ31, h_σ31, hf⟩ := ho_e2 hf
              rcases ho_xe hf with ⟨x33, rfl, hf⟩ | ⟨q34, rfl, hf⟩
              · refine wk_callV (av := [vI (41 : Int32)]) (rest := []) (rv := none) C h_b30 rx_3 cx_X4_115 (mt_X4_needSign (wk_C.tr C) h_σ31) rfl rfl (by omega) (by omega) (Nat.le_of_ble_eq_true rfl) dX4_factor_104 ?_
                refine wk_aload_n C 0 rfl dX4_factor_107 ?_
                refine wk_dup C rfl dX4_factor_108 ?_
                obtain ⟨v35, h_v35, hf⟩ := ho_b hf
                refine wk_getI C fx_X4_109 h_v35 dX4_factor_109 ?_
                refine wk_iconst (v := 1) C dX4_factor_112 rfl ?_
                refine wk_isub C dX4_factor_113 ?_
                obtain ⟨σ36, h_σ36, hf⟩ := ho_b hf
                refine wk_putI C px_X4_109 (fun q => by cases q) h_σ36 dX4_factor_114 ?_
                refine wk_aload_n C 1 rfl dX4_factor_117 ?_
                obtain ⟨rfl, rfl⟩ := Prod.mk.inj (Option.some.inj hf)
                exact wk_aret C (Or.inl ⟨_, rfl⟩) rfl rfl dX4_factor_118
              · refine wk_callVT (av := [vI (41 : Int32)]) (rest := []) C h_b30 rx_3 cx_X4_115 (mt_X4_needSign (wk_C.tr C) h_σ31) rfl (by omega) (by omega) (Nat.le_of_ble_eq_true rfl) dX4_factor_104 ?_
                obtain ⟨rfl, rfl⟩ := Prod.mk.inj (Option.some.inj hf)
                exact wk_out C (by decide +kernel) rfl rfl
            · refine wk_callVT (av := []) (rest := []) C h_b25 rx_3 cx_X4_112 (hrs h_σ26) rfl (by omega) (by omega) (Nat.le_of_ble_eq_true rfl) dX4_factor_97 ?_
              obtain ⟨rfl, rfl⟩ := Prod.mk.inj (Option.some.inj hf)
              exact wk_out C (by decide +kernel) rfl rfl
          · rw [if_pos c_] at hf
            obtain ⟨v37, σ38, h_σ38, hf⟩ := ho_e2 hf
            refine wk_new C nx_X4_69 h_σ38 dX4_factor_62 ?_
            refine wk_dup C rfl dX4_factor_65 ?_
            refine wk_bipush (v := -5) C dX4_factor_66 rfl ?_
            refine wk_aload_n C 0 rfl dX4_factor_68 ?_
            obtain ⟨v39, h_v39, hf⟩ := ho_b hf
            refine wk_getI C fx_X4_30 h_v39 dX4_factor_69 ?_
            obtain ⟨b40, h_b40, hf⟩ := ho_b hf
            obtain ⟨σ41, h_σ41, hf⟩ := ho_b hf
            refine wk_callI (av := [vI (-5 : Int32), vI v39]) (rest := [vR v37]) C cx_X4_71 h_b40 (mt_X5_init (wk_C.tr C) h_σ41) rfl (by omega) (by omega) (Nat.le_of_ble_eq_true rfl) dX4_factor_72 ?_
            obtain ⟨q42, h_q42, hf⟩ := ho_b hf
            obtain ⟨rfl, rfl⟩ := Prod.mk.inj (Option.some.inj hf)
            exact wk_athrow C h_q42 (by decide +kernel) rfl rfl dX4_factor_75
      · rw [if_neg c_] at hf
        refine wk_lamC C (i := 3) (j := 113) rfl rfl rfl rfl rfl (show 0 + 3072 ≤ (ls + 3132) from by omega) dX4_factor_39 ?_
        obtain ⟨rfl, rfl⟩ := Prod.mk.inj (Option.some.inj hf)
        exact wk_aret C (Or.inl ⟨_, rfl⟩) rfl rfl dX4_factor_44
    · rw [if_neg c_] at hf
      refine wk_lamC C (i := 2) (j := 112) rfl rfl rfl rfl rfl (show 0 + 3072 ≤ (ls + 3132) from by omega) dX4_factor_24 ?_
      obtain ⟨rfl, rfl⟩ := Prod.mk.inj (Option.some.inj hf)
      exact wk_aret C (Or.inl ⟨_, rfl⟩) rfl rfl dX4_factor_29
  · rw [if_neg c_] at hf
    refine wk_lamC C (i := 1) (j := 111) rfl rfl rfl rfl rfl (show 0 + 3072 ≤ (ls + 3132) from by omega) dX4_factor_9 ?_
    obtain ⟨rfl, rfl⟩ := Prod.mk.inj (Option.some.inj hf)
    exact wk_aret C (Or.inl ⟨_, rfl⟩) rfl rfl dX4_factor_14
set_option maxHeartbeats 4000000 in
theorem wb_X4_term_b33 {E : Ev} {K : Kx} {fs ls : Nat} {rs : Option Nat → Hs → Option ((Option Nat ⊕ Nat) × Hs)} (C : wk_C E K yX4_term cX4_term 3 (Option.some (FieldType.object "ElasticTruss$Quantity")) (fs + 7) (ls + 3153) []) (hrs : ∀ {q0 : Option Nat} {σ : Hs} {r : Option Nat ⊕ Nat} {σ' : Hs}, rs q0 σ = some (r, σ') → wk_M E (kl K) yX4_sum (ws_ yX4_sum cX4_sum 3 (Option.some (FieldType.object "ElasticTruss$Quantity"))) fs ls [vR q0] σ (ot_R r) σ') {r : Option Nat ⊕ Nat} {σ' : Hs} : ∀ (n : Nat) (l0 : Option Nat) (l1 : Option Nat) (l2 : Option Nat) (σ : Hs), fn_X4_term_b33 E.2.2.1 rs n l0 l1 l2 σ = some (r, σ') → wk_V E K (ot_R r) σ' σ 33 [(0, vR l0), (1, vR l1), (2, vR l2)] [] := by
  intro n
  induction n with
  | zero =>
    intro l0 l1 l2 σ hf
    rw [fn_X4_term_b33] at hf
    cases hf
  | succ n ih =>
    intro l0 l1 l2 σ hf
    rw [fn_X4_term_b33] at hf
    refine wk_aload_n C 2 rfl dX4_term_33 ?_
    refine wk_ifnull C 70 (by decide) dX4_term_34 (fun c_ => ?_) (fun c_ => ?_)
    · rw [if_pos c_] at hf
      refine wk_aload_n C 1 rfl dX4_term_70 ?_
      obtain ⟨rfl, rfl⟩ := Prod.mk.inj (Option.some.inj hf)
      exact wk_aret C (Or.inl ⟨_, rfl⟩) rfl rfl dX4_term_71
    · rw [if_neg c_] at hf
      refine wk_aload_n C 1 rfl dX4_term_37 ?_
      refine wk_aload_n C 2 rfl dX4_term_38 ?_
      refine wk_aload_n C 0 rfl dX4_term_39 ?_
      obtain ⟨b1, h_b1, hf⟩ := ho_b hf
      obtain ⟨v3, σ2, h_σ2, hf⟩ := ho_e2 hf
      rcases ho_xe hf with ⟨x4, rfl, hf⟩ | ⟨q5, rfl, hf⟩
      · refine wk_callV (av := []) (rest := [vR l2, vR l1]) (rv := some (vR x4)) C h_b1 rx_3 cx_X4_130 (mt_X4_factor (wk_C.tr C) hrs h_σ2) rfl rfl (by omega) (by omega) (Nat.le_of_ble_eq_true rfl) dX4_term_40 ?_
        obtain ⟨b6, h_b6, hf⟩ := ho_b hf
        obtain ⟨σ7, h_σ7, hf⟩ := ho_b hf
        refine wk_callV (av := [vR l2, vR x4]) (rest := []) (rv := none) C h_b6 rx_9 cx_X4_147 (mt_X10_add (wk_C.tr C) h_σ7) rfl rfl (by omega) (by omega) (Nat.le_of_ble_eq_true rfl) dX4_term_43 ?_
        refine wk_aload_n C 0 rfl dX4_term_46 ?_
        refine wk_iconst (v := 2) C dX4_term_47 rfl ?_
        obtain ⟨v8, σ9, h_σ9, hf⟩ := ho_e2 hf
        refine wk_anew C (k := 7) (Nat.le_of_ble_eq_true rfl) rfl q3057 (by decide +kernel) h_σ9 dX4_term_48 ?_
        refine wk_dup C rfl dX4_term_51 ?_
        refine wk_iconst (v := 0) C dX4_term_52 rfl ?_
        refine wk_getsR C (j := 3) sx_X4_136 rfl dX4_term_53 ?_
        obtain ⟨σ10, h_σ10, hf⟩ := ho_b hf
        refine wk_aast C (Nat.le_of_ble_eq_true rfl) rfl (List.forall_mem_cons.mpr ⟨ax_cast rx_200 q3894, List.forall_mem_cons.mpr ⟨ax_cast rx_201 q3895, List.forall_mem_cons.mpr ⟨ax_cast rx_202 q3892, List.forall_mem_cons.mpr ⟨ax_cast rx_203 q3893, (List.forall_mem_nil _)⟩⟩⟩⟩) h_σ10 dX4_term_56 ?_
        refine wk_dup C rfl dX4_term_57 ?_
        refine wk_iconst (v := 1) C dX4_term_58 rfl ?_
        refine wk_getsR C (j := 4) sx_X4_140 rfl dX4_term_59 ?_
        obtain ⟨σ11, h_σ11, hf⟩ := ho_b hf
        refine wk_aast C (Nat.le_of_ble_eq_true rfl) rfl (List.forall_mem_cons.mpr ⟨ax_cast rx_200 q3894, List.forall_mem_cons.mpr ⟨ax_cast rx_201 q3895, List.forall_mem_cons.mpr ⟨ax_cast rx_202 q3892, List.forall_mem_cons.mpr ⟨ax_cast rx_203 q3893, (List.forall_mem_nil _)⟩⟩⟩⟩) h_σ11 dX4_term_62 ?_
        obtain ⟨b12, h_b12, hf⟩ := ho_b hf
        obtain ⟨v14, σ13, h_σ13, hf⟩ := ho_e2 hf
        refine wk_callV (av := [vR v8]) (rest := []) (rv := some (vR v14)) C h_b12 rx_3 cx_X4_143 (mt_X4_take (wk_C.tr C) h_σ13) rfl rfl (by omega) (by omega) (Nat.le_of_ble_eq_true rfl) dX4_term_63 ?_
        refine wk_astore_n (L' := [(0, vR l0), (1, vR l1), (2, vR v14)]) C (by decide) rfl dX4_term_66 ?_
        refine wk_goto C 33 (by decide) dX4_term_67 ?_
        exact ih _ _ _ _ hf
      · refine wk_callVT (av := []) (rest := [vR l2, vR l1]) C h_b1 rx_3 cx_X4_130 (mt_X4_factor (wk_C.tr C) hrs h_σ2) rfl (by omega) (by omega) (Nat.le_of_ble_eq_true rfl) dX4_term_40 ?_
        obtain ⟨rfl, rfl⟩ := Prod.mk.inj (Option.some.inj hf)
        exact wk_out C (by decide +kernel) rfl rfl
set_option maxHeartbeats 4000000 in
theorem mt_X4_term {E : Ev} {l : Launch} (hl : l.stackTraces = false) {fs ls : Nat} {rs : Option Nat → Hs → Option ((Option Nat ⊕ Nat) × Hs)} (hrs : ∀ {q0 : Option Nat} {σ : Hs} {r : Option Nat ⊕ Nat} {σ' : Hs}, rs q0 σ = some (r, σ') → wk_M E l yX4_sum (ws_ yX4_sum cX4_sum 3 (Option.some (FieldType.object "ElasticTruss$Quantity"))) fs ls [vR q0] σ (ot_R r) σ') {p0 : Option Nat} {σ : Hs} {r : Option Nat ⊕ Nat} {σ' : Hs} (hf : fn_X4_term E.2.2.1 rs p0 σ = some (r, σ')) : wk_M E l yX4_term (ws_ yX4_term cX4_term 3 (Option.some (FieldType.object "ElasticTruss$Quantity"))) (fs + 7) (ls + 3153) [vR p0] σ (ot_R r) σ' := by
  refine wk_start (by decide +kernel) hl (Nat.le_of_ble_eq_true rfl) (fun K C hK => ?_)
  subst hK
  refine wk_L (L' := [(0, vR p0)]) rfl ?_
  unfold fn_X4_term at hf
  obtain ⟨v15, σ16, h_σ16, hf⟩ := ho_e2 hf
  refine wk_new C nx_X4_128 h_σ16 dX4_term_0 ?_
  refine wk_dup C rfl dX4_term_3 ?_
  refine wk_aload_n C 0 rfl dX4_term_4 ?_
  obtain ⟨b17, h_b17, hf⟩ := ho_b hf
  obtain ⟨v19, σ18, h_σ18, hf⟩ := ho_e2 hf
  rcases ho_xe hf with ⟨x20, rfl, hf⟩ | ⟨q21, rfl, hf⟩
  · refine wk_callV (av := []) (rest := [vR v15, vR v15]) (rv := some (vR x20)) C h_b17 rx_3 cx_X4_130 (mt_X4_factor (wk_C.tr C) hrs h_σ18) rfl rfl (by omega) (by omega) (Nat.le_of_ble_eq_true rfl) dX4_term_5 ?_
    obtain ⟨b22, h_b22, hf⟩ := ho_b hf
    obtain ⟨σ23, h_σ23, hf⟩ := ho_b hf
    refine wk_callI (av := [vR x20]) (rest := [vR v15]) C cx_X4_133 h_b22 (mt_X10_init (wk_C.tr C) h_σ23) rfl (by omega) (by omega) (Nat.le_of_ble_eq_true rfl) dX4_term_8 ?_
    refine wk_astore_n (L' := [(0, vR p0), (1, vR v15)]) C (by decide) rfl dX4_term_11 ?_
    refine wk_aload_n C 0 rfl dX4_term_12 ?_
    refine wk_iconst (v := 2) C dX4_term_13 rfl ?_
    obtain ⟨v24, σ25, h_σ25, hf⟩ := ho_e2 hf
    refine wk_anew C (k := 7) (Nat.le_of_ble_eq_true rfl) rfl q3057 (by decide +kernel) h_σ25 dX4_term_14 ?_
    refine wk_dup C rfl dX4_term_17 ?_
    refine wk_iconst (v := 0) C dX4_term_18 rfl ?_
    refine wk_getsR C (j := 3) sx_X4_136 rfl dX4_term_19 ?_
    obtain ⟨σ26, h_σ26, hf⟩ := ho_b hf
    refine wk_aast C (Nat.le_of_ble_eq_true rfl) rfl (List.forall_mem_cons.mpr ⟨ax_cast rx_200 q3894, List.forall_mem_cons.mpr ⟨ax_cast rx_201 q3895, List.forall_mem_cons.mpr ⟨ax_cast rx_202 q3892, List.forall_mem_cons.mpr ⟨ax_cast rx_203 q3893, (List.forall_mem_nil _)⟩⟩⟩⟩) h_σ26 dX4_term_22 ?_
    refine wk_dup C rfl dX4_term_23 ?_
    refine wk_iconst (v := 1) C dX4_term_24 rfl ?_
    refine wk_getsR C (j := 4) sx_X4_140 rfl dX4_term_25 ?_
    obtain ⟨σ27, h_σ27, hf⟩ := ho_b hf
    refine wk_aast C (Nat.le_of_ble_eq_true rfl) rfl (List.forall_mem_cons.mpr ⟨ax_cast rx_200 q3894, List.forall_mem_cons.mpr ⟨ax_cast rx_201 q3895, List.forall_mem_cons.mpr ⟨ax_cast rx_202 q3892, List.forall_mem_cons.mpr ⟨ax_cast rx_203 q3893, (List.forall_mem_nil _)⟩⟩⟩⟩) h_σ27 dX4_term_28 ?_
    obtain ⟨b28, h_b28, hf⟩ := ho_b hf
    obtain ⟨v30, σ29, h_σ29, hf⟩ := ho_e2 hf
    refine wk_callV (av := [vR v24]) (rest := []) (rv := some (vR v30)) C h_b28 rx_3 cx_X4_143 (mt_X4_take (wk_C.tr C) h_σ29) rfl rfl (by omega) (by omega) (Nat.le_of_ble_eq_true rfl) dX4_term_29 ?_
    refine wk_astore_n (L' := [(0, vR p0), (1, vR v15), (2, vR v30)]) C (by decide) rfl dX4_term_32 ?_
    exact wb_X4_term_b33 C hrs  _ _ _ _ _ hf
  · refine wk_callVT (av := []) (rest := [vR v15, vR v15]) C h_b17 rx_3 cx_X4_130 (mt_X4_factor (wk_C.tr C) hrs h_σ18) rfl (by omega) (by omega) (Nat.le_of_ble_eq_true rfl) dX4_term_5 ?_
    obtain ⟨rfl, rfl⟩ := Prod.mk.inj (Option.some.inj hf)
    exact wk_out C (by decide +kernel) rfl rfl
set_option maxHeartbeats 4000000 in
theorem wb_X4_sum_b33 {E : Ev} {K : Kx} {fs ls : Nat} {rs : Option Nat → Hs → Option ((Option Nat ⊕ Nat) × Hs)} (C : wk_C E K yX4_sum cX4_sum 3 (Option.some (FieldType.object "ElasticTruss$Quantity")) (fs + 8) (ls + 3175) []) (hrs : ∀ {q0 : Option Nat} {σ : Hs} {r : Option Nat ⊕ Nat} {σ' : Hs}, rs q0 σ = some (r, σ') → wk_M E (kl K) yX4_sum (ws_ yX4_sum cX4_sum 3 (Option.some (FieldType.object "ElasticTruss$Quantity"))) fs ls [vR q0] σ (ot_R r) σ') {r : Option Nat ⊕ Nat} {σ' : Hs} : ∀ (n : Nat) (l0 : Option Nat) (l1 : Option Nat) (l2 : Option Nat) (σ : Hs), fn_X4_sum_b33 E.2.2.1 rs n l0 l1 l2 σ = some (r, σ') → wk_V E K (ot_R r) σ' σ 33 [(0, vR l0), (1, vR l1), (2, vR l2)] [] := by
  intro n
  induction n with
  | zero =>
    intro l0 l1 l2 σ hf
    rw [fn_X4_sum_b33] at hf
    cases hf
  | succ n ih =>
    intro l0 l1 l2 σ hf
    rw [fn_X4_sum_b33] at hf
    refine wk_aload_n C 2 rfl dX4_sum_33 ?_
    refine wk_ifnull C 70 (by decide) dX4_sum_34 (fun c_ => ?_) (fun c_ => ?_)
    · rw [if_pos c_] at hf
      refine wk_aload_n C 1 rfl dX4_sum_70 ?_
      obtain ⟨rfl, rfl⟩ := Prod.mk.inj (Option.some.inj hf)
      exact wk_aret C (Or.inl ⟨_, rfl⟩) rfl rfl dX4_sum_71
    · rw [if_neg c_] at hf
      refine wk_aload_n C 1 rfl dX4_sum_37 ?_
      refine wk_aload_n C 2 rfl dX4_sum_38 ?_
      refine wk_aload_n C 0 rfl dX4_sum_39 ?_
      obtain ⟨b1, h_b1, hf⟩ := ho_b hf
      obtain ⟨v3, σ2, h_σ2, hf⟩ := ho_e2 hf
      rcases ho_xe hf with ⟨x4, rfl, hf⟩ | ⟨q5, rfl, hf⟩
      · refine wk_callV (av := []) (rest := [vR l2, vR l1]) (rv := some (vR x4)) C h_b1 rx_3 cx_X4_151 (mt_X4_term (wk_C.tr C) hrs h_σ2) rfl rfl (by omega) (by omega) (Nat.le_of_ble_eq_true rfl) dX4_sum_40 ?_
        obtain ⟨b6, h_b6, hf⟩ := ho_b hf
        obtain ⟨σ7, h_σ7, hf⟩ := ho_b hf
        refine wk_callV (av := [vR l2, vR x4]) (rest := []) (rv := none) C h_b6 rx_9 cx_X4_147 (mt_X10_add (wk_C.tr C) h_σ7) rfl rfl (by omega) (by omega) (Nat.le_of_ble_eq_true rfl) dX4_sum_43 ?_
        refine wk_aload_n C 0 rfl dX4_sum_46 ?_
        refine wk_iconst (v := 2) C dX4_sum_47 rfl ?_
        obtain ⟨v8, σ9, h_σ9, hf⟩ := ho_e2 hf
        refine wk_anew C (k := 7) (Nat.le_of_ble_eq_true rfl) rfl q3057 (by decide +kernel) h_σ9 dX4_sum_48 ?_
        refine wk_dup C rfl dX4_sum_51 ?_
        refine wk_iconst (v := 0) C dX4_sum_52 rfl ?_
        refine wk_getsR C (j := 1) sx_X4_154 rfl dX4_sum_53 ?_
        obtain ⟨σ10, h_σ10, hf⟩ := ho_b hf
        refine wk_aast C (Nat.le_of_ble_eq_true rfl) rfl (List.forall_mem_cons.mpr ⟨ax_cast rx_200 q3894, List.forall_mem_cons.mpr ⟨ax_cast rx_201 q3895, List.forall_mem_cons.mpr ⟨ax_cast rx_202 q3892, List.forall_mem_cons.mpr ⟨ax_cast rx_203 q3893, (List.forall_mem_nil _)⟩⟩⟩⟩) h_σ10 dX4_sum_56 ?_
        refine wk_dup C rfl dX4_sum_57 ?_
        refine wk_iconst (v := 1) C dX4_sum_58 rfl ?_
        refine wk_getsR C (j := 2) sx_X4_157 rfl dX4_sum_59 ?_
        obtain ⟨σ11, h_σ11, hf⟩ := ho_b hf
        refine wk_aast C (Nat.le_of_ble_eq_true rfl) rfl (List.forall_mem_cons.mpr ⟨ax_cast rx_200 q3894, List.forall_mem_cons.mpr ⟨ax_cast rx_201 q3895, List.forall_mem_cons.mpr ⟨ax_cast rx_202 q3892, List.forall_mem_cons.mpr ⟨ax_cast rx_203 q3893, (List.forall_mem_nil _)⟩⟩⟩⟩) h_σ11 dX4_sum_62 ?_
        obtain ⟨b12, h_b12, hf⟩ := ho_b hf
        obtain ⟨v14, σ13, h_σ13, hf⟩ := ho_e2 hf
        refine wk_callV (av := [vR v8]) (rest := []) (rv := some (vR v14)) C h_b12 rx_3 cx_X4_143 (mt_X4_take (wk_C.tr C) h_σ13) rfl rfl (by omega) (by omega) (Nat.le_of_ble_eq_true rfl) dX4_sum_63 ?_
        refine wk_astore_n (L' := [(0, vR l0), (1, vR l1), (2, vR v14)]) C (by decide) rfl dX4_sum_66 ?_
        refine wk_goto C 33 (by decide) dX4_sum_67 ?_
        exact ih _ _ _ _ hf
      · refine wk_callVT (av := []) (rest := [vR l2, vR l1]) C h_b1 rx_3 cx_X4_151 (mt_X4_term (wk_C.tr C) hrs h_σ2) rfl (by omega) (by omega) (Nat.le_of_ble_eq_true rfl) dX4_sum_40 ?_
        obtain ⟨rfl, rfl⟩ := Prod.mk.inj (Option.some.inj hf)
        exact wk_out C (by decide +kernel) rfl rfl
set_option maxHeartbeats 4000000 in
theorem mt_X4_sum {E : Ev} {l : Launch} (hl : l.stackTraces = false) {fs ls : Nat} {rs : Option Nat → Hs → Option ((Option Nat ⊕ Nat) × Hs)} (hrs : ∀ {q0 : Option Nat} {σ : Hs} {r : Option Nat ⊕ Nat} {σ' : Hs}, rs q0 σ = some (r, σ') → wk_M E l yX4_sum (ws_ yX4_sum cX4_sum 3 (Option.some (FieldType.object "ElasticTruss$Quantity"))) fs ls [vR q0] σ (ot_R r) σ') {p0 : Option Nat} {σ : Hs} {r : Option Nat ⊕ Nat} {σ' : Hs} (hf : fn_X4_sum E.2.2.1 rs p0 σ = some (r, σ')) : wk_M E l yX4_sum (ws_ yX4_sum cX4_sum 3 (Option.some (FieldType.object "ElasticTruss$Quantity"))) (fs + 8) (ls + 3175) [vR p0] σ (ot_R r) σ' := by
  refine wk_start (by decide +kernel) hl (Nat.le_of_ble_eq_true rfl) (fun K C hK => ?_)
  subst hK
  refine wk_L (L' := [(0, vR p0)]) rfl ?_
  unfold fn_X4_sum at hf
  obtain ⟨v15, σ16, h_σ16, hf⟩ := ho_e2 hf
  refine wk_new C nx_X4_128 h_σ16 dX4_sum_0 ?_
  refine wk_dup C rfl dX4_sum_3 ?_
  refine wk_aload_n C 0 rfl dX4_sum_4 ?_
  obtain ⟨b17, h_b17, hf⟩ := ho_b hf
  obtain ⟨v19, σ18, h_σ18, hf⟩ := ho_e2 hf
  rcases ho_xe hf with ⟨x20, rfl, hf⟩ | ⟨q21, rfl, hf⟩
  · refine wk_callV (av := []) (rest := [vR v15, vR v15]) (rv := some (vR x20)) C h_b17 rx_3 cx_X4_151 (mt_X4_term (wk_C.tr C) hrs h_σ18) rfl rfl (by omega) (by omega) (Nat.le_of_ble_eq_true rfl) dX4_sum_5 ?_
    obtain ⟨b22, h_b22, hf⟩ := ho_b hf
    obtain ⟨σ23, h_σ23, hf⟩ := ho_b hf
    refine wk_callI (av := [vR x20]) (rest := [vR v15]) C cx_X4_133 h_b22 (mt_X10_init (wk_C.tr C) h_σ23) rfl (by omega) (by omega) (Nat.le_of_ble_eq_true rfl) dX4_sum_8 ?_
    refine wk_astore_n (L' := [(0, vR p0), (1, vR v15)]) C (by decide) rfl dX4_sum_11 ?_
    refine wk_aload_n C 0 rfl dX4_sum_12 ?_
    refine wk_iconst (v := 2) C dX4_sum_13 rfl ?_
    obtain ⟨v24, σ25, h_σ25, hf⟩ := ho_e2 hf
    refine wk_anew C (k := 7) (Nat.le_of_ble_eq_true rfl) rfl q3057 (by decide +kernel) h_σ25 dX4_sum_14 ?_
    refine wk_dup C rfl dX4_sum_17 ?_
    refine wk_iconst (v := 0) C dX4_sum_18 rfl ?_
    refine wk_getsR C (j := 1) sx_X4_154 rfl dX4_sum_19 ?_
    obtain ⟨σ26, h_σ26, hf⟩ := ho_b hf
    refine wk_aast C (Nat.le_of_ble_eq_true rfl) rfl (List.forall_mem_cons.mpr ⟨ax_cast rx_200 q3894, List.forall_mem_cons.mpr ⟨ax_cast rx_201 q3895, List.forall_mem_cons.mpr ⟨ax_cast rx_202 q3892, List.forall_mem_cons.mpr ⟨ax_cast rx_203 q3893, (List.forall_mem_nil _)⟩⟩⟩⟩) h_σ26 dX4_sum_22 ?_
    refine wk_dup C rfl dX4_sum_23 ?_
    refine wk_iconst (v := 1) C dX4_sum_24 rfl ?_
    refine wk_getsR C (j := 2) sx_X4_157 rfl dX4_sum_25 ?_
    obtain ⟨σ27, h_σ27, hf⟩ := ho_b hf
    refine wk_aast C (Nat.le_of_ble_eq_true rfl) rfl (List.forall_mem_cons.mpr ⟨ax_cast rx_200 q3894, List.forall_mem_cons.mpr ⟨ax_cast rx_201 q3895, List.forall_mem_cons.mpr ⟨ax_cast rx_202 q3892, List.forall_mem_cons.mpr ⟨ax_cast rx_203 q3893, (List.forall_mem_nil _)⟩⟩⟩⟩) h_σ27 dX4_sum_28 ?_
    obtain ⟨b28, h_b28, hf⟩ := ho_b hf
    obtain ⟨v30, σ29, h_σ29, hf⟩ := ho_e2 hf
    refine wk_callV (av := [vR v24]) (rest := []) (rv := some (vR v30)) C h_b28 rx_3 cx_X4_143 (mt_X4_take (wk_C.tr C) h_σ29) rfl rfl (by omega) (by omega) (Nat.le_of_ble_eq_true rfl) dX4_sum_29 ?_
    refine wk_astore_n (L' := [(0, vR p0), (1, vR v15), (2, vR v30)]) C (by decide) rfl dX4_sum_32 ?_
    exact wb_X4_sum_b33 C hrs  _ _ _ _ _ hf
  · refine wk_callVT (av := []) (rest := [vR v15, vR v15]) C h_b17 rx_3 cx_X4_151 (mt_X4_term (wk_C.tr C) hrs h_σ18) rfl (by omega) (by omega) (Nat.le_of_ble_eq_true rfl) dX4_sum_5 ?_
    obtain ⟨rfl, rfl⟩ := Prod.mk.inj (Option.some.inj hf)
    exact wk_out C (by decide +kernel) rfl rfl
theorem mt_X4_sumR {E : Ev} {l : Launch} (hl : l.stackTraces = false) : ∀ (d : Nat) {q0 : Option Nat} {σ : Hs} {r : Option Nat ⊕ Nat} {σ' : Hs}, fn_X4_sumR E.2.2.1 d q0 σ = some (r, σ') → wk_M E l yX4_sum (ws_ yX4_sum cX4_sum 3 (Option.some (FieldType.object "ElasticTruss$Quantity"))) (d * 8) (d * 3175) [vR q0] σ (ot_R r) σ' := by
  intro d
  induction d with
  | zero =>
    intro q0 σ r σ' hf
    rw [fn_X4_sumR] at hf
    cases hf
  | succ d ih =>
    intro q0 σ r σ' hf
    rw [fn_X4_sumR] at hf
    rw [Nat.succ_mul, Nat.succ_mul]
    exact mt_X4_sum hl ih hf
theorem mt_X4_sumS {E : Ev} {l : Launch} (hl : l.stackTraces = false) {q0 : Option Nat} {σ : Hs} {r : Option Nat ⊕ Nat} {σ' : Hs} (hf : fn_X4_sumR E.2.2.1 6 q0 σ = some (r, σ')) : wk_M E l yX4_sum (ws_ yX4_sum cX4_sum 3 (Option.some (FieldType.object "ElasticTruss$Quantity"))) 48 19050 [vR q0] σ (ot_R r) σ' := mt_X4_sumR hl 6 hf
set_option maxHeartbeats 4000000 in
theorem wb_X4_statement_b187 {E : Ev} {K : Kx} (C : wk_C E K yX4_statement cX4_statement 2 (Option.none : Option FieldType) 49 19072 []) {r : Unit ⊕ Nat} {σ' : Hs} (l0 : Option Nat) (σ : Hs) (hf : fn_X4_statement_b187 E.2.2.1 l0 σ = some (r, σ')) : wk_V E K (ot_V r) σ' σ 187 [(0, vR l0)] [] := by
  unfold fn_X4_statement_b187 at hf
  refine wk_aload_n C 0 rfl dX4_statement_187 ?_
  refine wk_bipush (v := 59) C dX4_statement_188 rfl ?_
  obtain ⟨b1, h_b1, hf⟩ := ho_b hf
  obtain ⟨v3, σ2, h_σ2, hf⟩ := ho_e2 hf
  rcases ho_xe hf with ⟨x4, rfl, hf⟩ | ⟨q5, rfl, hf⟩
  · refine wk_callV (av := [vI (59 : Int32)]) (rest := []) (rv := none) C h_b1 rx_3 cx_X4_115 (mt_X4_needSign (wk_C.tr C) h_σ2) rfl rfl (Nat.le_of_ble_eq_true rfl) (Nat.le_of_ble_eq_true rfl) (Nat.le_of_ble_eq_true rfl) dX4_statement_190 ?_
    obtain ⟨rfl, rfl⟩ := Prod.mk.inj (Option.some.inj hf)
    exact wk_vret C rfl rfl dX4_statement_193
  · refine wk_callVT (av := [vI (59 : Int32)]) (rest := []) C h_b1 rx_3 cx_X4_115 (mt_X4_needSign (wk_C.tr C) h_σ2) rfl (Nat.le_of_ble_eq_true rfl) (Nat.le_of_ble_eq_true rfl) (Nat.le_of_ble_eq_true rfl) dX4_statement_190 ?_
    obtain ⟨rfl, rfl⟩ := Prod.mk.inj (Option.some.inj hf)
    exact wk_out C (by decide +kernel) rfl rfl
set_option maxHeartbeats 4000000 in
theorem wb_X4_statement_b53 {E : Ev} {K : Kx} (C : wk_C E K yX4_statement cX4_statement 2 (Option.none : Option FieldType) 49 19072 []) {r : Unit ⊕ Nat} {σ' : Hs} (l0 : Option Nat) (l1 : Int32) (t0 : Option Nat) (t1 : Int32) (σ : Hs) (hf : fn_X4_statement_b53 E.2.2.1 l0 l1 t0 t1 σ = some (r, σ')) : wk_V E K (ot_V r) σ' σ 53 [(0, vR l0), (1, vI l1)] [vI t1, vR t0] := by
  unfold fn_X4_statement_b53 at hf
  refine wk_iload_n C 1 rfl dX4_statement_53 ?_
  obtain ⟨b6, h_b6, hf⟩ := ho_b hf
  obtain ⟨v8, σ7, h_σ7, hf⟩ := ho_e2 hf
  rcases ho_xe hf with ⟨x9, rfl, hf⟩ | ⟨q10, rfl, hf⟩
  · refine wk_callV (av := [vI t1, vI l1]) (rest := []) (rv := none) C h_b6 rx_3 cx_X4_169 (mt_X4_needRoom (wk_C.tr C) h_σ7) rfl rfl (Nat.le_of_ble_eq_true rfl) (Nat.le_of_ble_eq_true rfl) (Nat.le_of_ble_eq_true rfl) dX4_statement_54 ?_
    refine wk_aload_n C 0 rfl dX4_statement_57 ?_
    obtain ⟨v11, h_v11, hf⟩ := ho_b hf
    refine wk_getR C fx_X4_18 h_v11 dX4_statement_58 ?_
    obtain ⟨v12, h_v12, hf⟩ := ho_b hf
    refine wk_getR C fx_X4_245 h_v12 dX4_statement_61 ?_
    refine wk_aload_n C 0 rfl dX4_statement_64 ?_
    obtain ⟨v13, h_v13, hf⟩ := ho_b hf
    refine wk_getR C fx_X4_18 h_v13 dX4_statement_65 ?_
    obtain ⟨v14, h_v14, hf⟩ := ho_b hf
    refine wk_getI C fx_X4_220 h_v14 dX4_statement_68 ?_
    refine wk_aload_n C 0 rfl dX4_statement_71 ?_
    refine wk_iconst (v := 1) C dX4_statement_72 rfl ?_
    refine wk_bipush (v := 50) C dX4_statement_73 rfl ?_
    obtain ⟨b15, h_b15, hf⟩ := ho_b hf
    obtain ⟨v17, σ16, h_σ16, hf⟩ := ho_e2 hf
    rcases ho_xe hf with ⟨x18, rfl, hf⟩ | ⟨q19, rfl, hf⟩
    · refine wk_callV (av := [vI (1 : Int32), vI (50 : Int32)]) (rest := [vI v14, vR v12]) (rv := some (vI x18)) C h_b15 rx_3 cx_X4_91 (mt_X4_number (wk_C.tr C) h_σ16) rfl rfl (Nat.le_of_ble_eq_true rfl) (Nat.le_of_ble_eq_true rfl) (Nat.le_of_ble_eq_true rfl) dX4_statement_75 ?_
      obtain ⟨σ20, h_σ20, hf⟩ := ho_b hf
      refine wk_iast C h_σ20 dX4_statement_78 ?_
      refine wk_aload_n C 0 rfl dX4_statement_79 ?_
      obtain ⟨v21, h_v21, hf⟩ := ho_b hf
      refine wk_getR C fx_X4_18 h_v21 dX4_statement_80 ?_
      refine wk_dup C rfl dX4_statement_83 ?_
      obtain ⟨v22, h_v22, hf⟩ := ho_b hf
      refine wk_getI C fx_X4_220 h_v22 dX4_statement_84 ?_
      refine wk_iconst (v := 1) C dX4_statement_87 rfl ?_
      refine wk_iadd C dX4_statement_88 ?_
      obtain ⟨σ23, h_σ23, hf⟩ := ho_b hf
      refine wk_putI C px_X4_220 (fun q => by cases q) h_σ23 dX4_statement_89 ?_
      refine wk_goto C 187 (by decide) dX4_statement_92 ?_
      refine wk_sub (L' := [(0, vR l0)]) [0] rfl ?_
      exact wb_X4_statement_b187 C  _ _ hf
    · refine wk_callVT (av := [vI (1 : Int32), vI (50 : Int32)]) (rest := [vI v14, vR v12]) C h_b15 rx_3 cx_X4_91 (mt_X4_number (wk_C.tr C) h_σ16) rfl (Nat.le_of_ble_eq_true rfl) (Nat.le_of_ble_eq_true rfl) (Nat.le_of_ble_eq_true rfl) dX4_statement_75 ?_
      obtain ⟨rfl, rfl⟩ := Prod.mk.inj (Option.some.inj hf)
      exact wk_out C (by decide +kernel) rfl rfl
  · refine wk_callVT (av := [vI t1, vI l1]) (rest := []) C h_b6 rx_3 cx_X4_169 (mt_X4_needRoom (wk_C.tr C) h_σ7) rfl (Nat.le_of_ble_eq_true rfl) (Nat.le_of_ble_eq_true rfl) (Nat.le_of_ble_eq_true rfl) dX4_statement_54 ?_
    obtain ⟨rfl, rfl⟩ := Prod.mk.inj (Option.some.inj hf)
    exact wk_out C (by decide +kernel) rfl rfl
set_option maxHeartbeats 4000000 in
theorem mt_X4_statement {E : Ev} {l : Launch} (hl : l.stackTraces = false) {p0 : Option Nat} {σ : Hs} {r : Unit ⊕ Nat} {σ' : Hs} (hf : fn_X4_statement E.2.2.1 p0 σ = some (r, σ')) : wk_M E l yX4_statement (ws_ yX4_statement cX4_statement 2 (Option.none : Option FieldType)) 49 19072 [vR p0] σ (ot_V r) σ' := by
  refine wk_start (by decide +kernel) hl (Nat.le_of_ble_eq_true rfl) (fun K C hK => ?_)
  subst hK
  refine wk_L (L' := [(0, vR p0)]) rfl ?_
  unfold fn_X4_statement at hf
  refine wk_aload_n C 0 rfl dX4_statement_0 ?_
  obtain ⟨b24, h_b24, hf⟩ := ho_b hf
  obtain ⟨v26, σ25, h_σ25, hf⟩ := ho_e2 hf
  refine wk_callV (av := []) (rest := []) (rv := some (vI v26)) C h_b24 rx_3 cx_X4_49 (mt_X4_skipSpaces (wk_C.tr C) h_σ25) rfl rfl (Nat.le_of_ble_eq_true rfl) (Nat.le_of_ble_eq_true rfl) (Nat.le_of_ble_eq_true rfl) dX4_statement_1 ?_
  refine wk_pop C rfl dX4_statement_4 ?_
  refine wk_aload_n C 0 rfl dX4_statement_5 ?_
  obtain ⟨v27, h_v27, hf⟩ := ho_b hf
  refine wk_getI C fx_X4_30 h_v27 dX4_statement_6 ?_
  refine wk_istore_n (L' := [(0, vR p0), (1, vI v27)]) C (by decide) rfl dX4_statement_9 ?_
  refine wk_aload_n C 0 rfl dX4_statement_10 ?_
  refine wk_ldcS (q := ("ElasticTruss$SetupReader", 238, "node", 4)) C (by decide +kernel) rfl rfl dX4_statement_11 ?_
  obtain ⟨b28, h_b28, hf⟩ := ho_b hf
  obtain ⟨v30, σ29, h_σ29, hf⟩ := ho_e2 hf
  refine wk_callV (av := [vR (E.2.2.1 104)]) (rest := []) (rv := some (vI v30)) C h_b28 rx_3 cx_X4_96 (mt_X4_takeWord (wk_C.tr C) h_σ29) rfl rfl (Nat.le_of_ble_eq_true rfl) (Nat.le_of_ble_eq_true rfl) (Nat.le_of_ble_eq_true rfl) dX4_statement_13 ?_
  refine wk_if_eq C 27 (by decide) dX4_statement_16 (fun c_ => ?_) (fun c_ => ?_)
  · rw [if_pos c_] at hf
    refine wk_aload_n C 0 rfl dX4_statement_27 ?_
    refine wk_ldcS (q := ("ElasticTruss$SetupReader", 243, "group", 7)) C (by decide +kernel) rfl rfl dX4_statement_28 ?_
    obtain ⟨b31, h_b31, hf⟩ := ho_b hf
    obtain ⟨v33, σ32, h_σ32, hf⟩ := ho_e2 hf
    refine wk_callV (av := [vR (E.2.2.1 107)]) (rest := []) (rv := some (vI v33)) C h_b31 rx_3 cx_X4_96 (mt_X4_takeWord (wk_C.tr C) h_σ32) rfl rfl (Nat.le_of_ble_eq_true rfl) (Nat.le_of_ble_eq_true rfl) (Nat.le_of_ble_eq_true rfl) dX4_statement_30 ?_
    refine wk_if_eq C 95 (by decide) dX4_statement_33 (fun c_ => ?_) (fun c_ => ?_)
    · rw [if_pos c_] at hf
      refine wk_aload_n C 0 rfl dX4_statement_95 ?_
      refine wk_ldcS (q := ("ElasticTruss$SetupReader", 249, "member", 8)) C (by decide +kernel) rfl rfl dX4_statement_96 ?_
      obtain ⟨b34, h_b34, hf⟩ := ho_b hf
      obtain ⟨v36, σ35, h_σ35, hf⟩ := ho_e2 hf
      refine wk_callV (av := [vR (E.2.2.1 108)]) (rest := []) (rv := some (vI v36)) C h_b34 rx_3 cx_X4_96 (mt_X4_takeWord (wk_C.tr C) h_σ35) rfl rfl (Nat.le_of_ble_eq_true rfl) (Nat.le_of_ble_eq_true rfl) (Nat.le_of_ble_eq_true rfl) dX4_statement_98 ?_
      refine wk_if_eq C 112 (by decide) dX4_statement_101 (fun c_ => ?_) (fun c_ => ?_)
      · rw [if_pos c_] at hf
        refine wk_aload_n C 0 rfl dX4_statement_112 ?_
        refine wk_ldcS (q := ("ElasticTruss$SetupReader", 254, "load", 9)) C (by decide +kernel) rfl rfl dX4_statement_113 ?_
        obtain ⟨b37, h_b37, hf⟩ := ho_b hf
        obtain ⟨v39, σ38, h_σ38, hf⟩ := ho_e2 hf
        refine wk_callV (av := [vR (E.2.2.1 109)]) (rest := []) (rv := some (vI v39)) C h_b37 rx_3 cx_X4_96 (mt_X4_takeWord (wk_C.tr C) h_σ38) rfl rfl (Nat.le_of_ble_eq_true rfl) (Nat.le_of_ble_eq_true rfl) (Nat.le_of_ble_eq_true rfl) dX4_statement_115 ?_
        refine wk_if_eq C 129 (by decide) dX4_statement_118 (fun c_ => ?_) (fun c_ => ?_)
        · rw [if_pos c_] at hf
          refine wk_aload_n C 0 rfl dX4_statement_129 ?_
          refine wk_ldcSw (q := ("ElasticTruss$SetupReader", 259, "buckling", 10)) C (by decide +kernel) rfl rfl dX4_statement_130 ?_
          obtain ⟨b40, h_b40, hf⟩ := ho_b hf
          obtain ⟨v42, σ41, h_σ41, hf⟩ := ho_e2 hf
          refine wk_callV (av := [vR (E.2.2.1 110)]) (rest := []) (rv := some (vI v42)) C h_b40 rx_3 cx_X4_96 (mt_X4_takeWord (wk_C.tr C) h_σ41) rfl rfl (Nat.le_of_ble_eq_true rfl) (Nat.le_of_ble_eq_true rfl) (Nat.le_of_ble_eq_true rfl) dX4_statement_133 ?_
          refine wk_if_eq C 176 (by decide) dX4_statement_136 (fun c_ => ?_) (fun c_ => ?_)
          · rw [if_pos c_] at hf
            obtain ⟨v43, σ44, h_σ44, hf⟩ := ho_e2 hf
            refine wk_new C nx_X4_69 h_σ44 dX4_statement_176 ?_
            refine wk_dup C rfl dX4_statement_179 ?_
            refine wk_bipush (v := -2) C dX4_statement_180 rfl ?_
            refine wk_iload_n C 1 rfl dX4_statement_182 ?_
            obtain ⟨b45, h_b45, hf⟩ := ho_b hf
            obtain ⟨σ46, h_σ46, hf⟩ := ho_b hf
            refine wk_callI (av := [vI (-2 : Int32), vI v27]) (rest := [vR v43]) C cx_X4_71 h_b45 (mt_X5_init (wk_C.tr C) h_σ46) rfl (Nat.le_of_ble_eq_true rfl) (Nat.le_of_ble_eq_true rfl) (Nat.le_of_ble_eq_true rfl) dX4_statement_183 ?_
            obtain ⟨q47, h_q47, hf⟩ := ho_b hf
            obtain ⟨rfl, rfl⟩ := Prod.mk.inj (Option.some.inj hf)
            exact wk_athrow C h_q47 (by decide +kernel) rfl rfl dX4_statement_186
          · rw [if_neg c_] at hf
            refine wk_aload_n C 0 rfl dX4_statement_139 ?_
            obtain ⟨v48, h_v48, hf⟩ := ho_b hf
            refine wk_getI C fx_X4_261 h_v48 dX4_statement_140 ?_
            refine wk_if_eq C 157 (by decide) dX4_statement_143 (fun c_ => ?_) (fun c_ => ?_)
            · rw [if_pos c_] at hf
              refine wk_aload_n C 0 rfl dX4_statement_157 ?_
              refine wk_iconst (v := 1) C dX4_statement_158 rfl ?_
              obtain ⟨σ49, h_σ49, hf⟩ := ho_b hf
              refine wk_putZ C px_X4_261 (fun q => by cases q) h_σ49 dX4_statement_159 ?_
              refine wk_aload_n C 0 rfl dX4_statement_162 ?_
              obtain ⟨v50, h_v50, hf⟩ := ho_b hf
              refine wk_getR C fx_X4_18 h_v50 dX4_statement_163 ?_
              refine wk_aload_n C 0 rfl dX4_statement_166 ?_
              obtain ⟨b51, h_b51, hf⟩ := ho_b hf
              obtain ⟨v53, σ52, h_σ52, hf⟩ := ho_e2 hf
              rcases ho_xe hf with ⟨x54, rfl, hf⟩ | ⟨q55, rfl, hf⟩
              · refine wk_callV (av := []) (rest := [vR v50]) (rv := some (vR x54)) C h_b51 rx_3 cx_X4_112 (mt_X4_sumS (wk_C.tr C) h_σ52) rfl rfl (Nat.le_of_ble_eq_true rfl) (Nat.le_of_ble_eq_true rfl) (Nat.le_of_ble_eq_true rfl) dX4_statement_167 ?_
                obtain ⟨σ56, h_σ56, hf⟩ := ho_b hf
                refine wk_putR C px_X4_265 (Or.inl ⟨_, rfl⟩) (fun q => by cases q) h_σ56 dX4_statement_170 ?_
                refine wk_goto C 187 (by decide) dX4_statement_173 ?_
                refine wk_sub (L' := [(0, vR p0)]) [0] rfl ?_
                exact wb_X4_statement_b187 C  _ _ hf
              · refine wk_callVT (av := []) (rest := [vR v50]) C h_b51 rx_3 cx_X4_112 (mt_X4_sumS (wk_C.tr C) h_σ52) rfl (Nat.le_of_ble_eq_true rfl) (Nat.le_of_ble_eq_true rfl) (Nat.le_of_ble_eq_true rfl) dX4_statement_167 ?_
                obtain ⟨rfl, rfl⟩ := Prod.mk.inj (Option.some.inj hf)
                exact wk_out C (by decide +kernel) rfl rfl
            · rw [if_neg c_] at hf
              obtain ⟨v57, σ58, h_σ58, hf⟩ := ho_e2 hf
              refine wk_new C nx_X4_69 h_σ58 dX4_statement_146 ?_
              refine wk_dup C rfl dX4_statement_149 ?_
              refine wk_bipush (v := -2) C dX4_statement_150 rfl ?_
              refine wk_iload_n C 1 rfl dX4_statement_152 ?_
              obtain ⟨b59, h_b59, hf⟩ := ho_b hf
              obtain ⟨σ60, h_σ60, hf⟩ := ho_b hf
              refine wk_callI (av := [vI (-2 : Int32), vI v27]) (rest := [vR v57]) C cx_X4_71 h_b59 (mt_X5_init (wk_C.tr C) h_σ60) rfl (Nat.le_of_ble_eq_true rfl) (Nat.le_of_ble_eq_true rfl) (Nat.le_of_ble_eq_true rfl) dX4_statement_153 ?_
              obtain ⟨q61, h_q61, hf⟩ := ho_b hf
              obtain ⟨rfl, rfl⟩ := Prod.mk.inj (Option.some.inj hf)
              exact wk_athrow C h_q61 (by decide +kernel) rfl rfl dX4_statement_156
        · rw [if_neg c_] at hf
          refine wk_aload_n C 0 rfl dX4_statement_121 ?_
          refine wk_iload_n C 1 rfl dX4_statement_122 ?_
          obtain ⟨b62, h_b62, hf⟩ := ho_b hf
          obtain ⟨v64, σ63, h_σ63, hf⟩ := ho_e2 hf
          rcases ho_xe hf with ⟨x65, rfl, hf⟩ | ⟨q66, rfl, hf⟩
          · refine wk_callV (av := [vI v27]) (rest := []) (rv := none) C h_b62 rx_3 cx_X4_256 (mt_X4_readLoad (wk_C.tr C) h_σ63) rfl rfl (Nat.le_of_ble_eq_true rfl) (Nat.le_of_ble_eq_true rfl) (Nat.le_of_ble_eq_true rfl) dX4_statement_123 ?_
            refine wk_goto C 187 (by decide) dX4_statement_126 ?_
            refine wk_sub (L' := [(0, vR p0)]) [0] rfl ?_
            exact wb_X4_statement_b187 C  _ _ hf
          · refine wk_callVT (av := [vI v27]) (rest := []) C h_b62 rx_3 cx_X4_256 (mt_X4_readLoad (wk_C.tr C) h_σ63) rfl (Nat.le_of_ble_eq_true rfl) (Nat.le_of_ble_eq_true rfl) (Nat.le_of_ble_eq_true rfl) dX4_statement_123 ?_
            obtain ⟨rfl, rfl⟩ := Prod.mk.inj (Option.some.inj hf)
            exact wk_out C (by decide +kernel) rfl rfl
      · rw [if_neg c_] at hf
        refine wk_aload_n C 0 rfl dX4_statement_104 ?_
        refine wk_iload_n C 1 rfl dX4_statement_105 ?_
        obtain ⟨b67, h_b67, hf⟩ := ho_b hf
        obtain ⟨v69, σ68, h_σ68, hf⟩ := ho_e2 hf
        rcases ho_xe hf with ⟨x70, rfl, hf⟩ | ⟨q71, rfl, hf⟩
        · refine wk_callV (av := [vI v27]) (rest := []) (rv := none) C h_b67 rx_3 cx_X4_251 (mt_X4_readMember (wk_C.tr C) h_σ68) rfl rfl (Nat.le_of_ble_eq_true rfl) (Nat.le_of_ble_eq_true rfl) (Nat.le_of_ble_eq_true rfl) dX4_statement_106 ?_
          refine wk_goto C 187 (by decide) dX4_statement_109 ?_
          refine wk_sub (L' := [(0, vR p0)]) [0] rfl ?_
          exact wb_X4_statement_b187 C  _ _ hf
        · refine wk_callVT (av := [vI v27]) (rest := []) C h_b67 rx_3 cx_X4_251 (mt_X4_readMember (wk_C.tr C) h_σ68) rfl (Nat.le_of_ble_eq_true rfl) (Nat.le_of_ble_eq_true rfl) (Nat.le_of_ble_eq_true rfl) dX4_statement_106 ?_
          obtain ⟨rfl, rfl⟩ := Prod.mk.inj (Option.some.inj hf)
          exact wk_out C (by decide +kernel) rfl rfl
    · rw [if_neg c_] at hf
      refine wk_aload_n C 0 rfl dX4_statement_36 ?_
      refine wk_aload_n C 0 rfl dX4_statement_37 ?_
      obtain ⟨v72, h_v72, hf⟩ := ho_b hf
      refine wk_getR C fx_X4_18 h_v72 dX4_statement_38 ?_
      obtain ⟨v73, h_v73, hf⟩ := ho_b hf
      refine wk_getI C fx_X4_220 h_v73 dX4_statement_41 ?_
      refine wk_iconst (v := 5) C dX4_statement_44 rfl ?_
      refine wk_icmp_ge C 52 (by decide) dX4_statement_45 (fun c_ => ?_) (fun c_ => ?_)
      · rw [if_pos c_] at hf
        refine wk_iconst (v := 0) C dX4_statement_52 rfl ?_
        exact wb_X4_statement_b53 C  _ _ _ _ _ hf
      · rw [if_neg c_] at hf
        refine wk_iconst (v := 1) C dX4_statement_48 rfl ?_
        refine wk_goto C 53 (by decide) dX4_statement_49 ?_
        exact wb_X4_statement_b53 C  _ _ _ _ _ hf
  · rw [if_neg c_] at hf
    refine wk_aload_n C 0 rfl dX4_statement_19 ?_
    refine wk_iload_n C 1 rfl dX4_statement_20 ?_
    obtain ⟨b74, h_b74, hf⟩ := ho_b hf
    obtain ⟨v76, σ75, h_σ75, hf⟩ := ho_e2 hf
    rcases ho_xe hf with ⟨x77, rfl, hf⟩ | ⟨q78, rfl, hf⟩
    · refine wk_callV (av := [vI v27]) (rest := []) (rv := none) C h_b74 rx_3 cx_X4_240 (mt_X4_node (wk_C.tr C) h_σ75) rfl rfl (Nat.le_of_ble_eq_true rfl) (Nat.le_of_ble_eq_true rfl) (Nat.le_of_ble_eq_true rfl) dX4_statement_21 ?_
      refine wk_goto C 187 (by decide) dX4_statement_24 ?_
      refine wk_sub (L' := [(0, vR p0)]) [0] rfl ?_
      exact wb_X4_statement_b187 C  _ _ hf
    · refine wk_callVT (av := [vI v27]) (rest := []) C h_b74 rx_3 cx_X4_240 (mt_X4_node (wk_C.tr C) h_σ75) rfl (Nat.le_of_ble_eq_true rfl) (Nat.le_of_ble_eq_true rfl) (Nat.le_of_ble_eq_true rfl) dX4_statement_21 ?_
      obtain ⟨rfl, rfl⟩ := Prod.mk.inj (Option.some.inj hf)
      exact wk_out C (by decide +kernel) rfl rfl
set_option maxHeartbeats 4000000 in
theorem mt_X4_init {E : Ev} {l : Launch} (hl : l.stackTraces = false) {p0 : Option Nat} {p1 : Option Nat} {p2 : Int32} {σ : Hs} {σ' : Hs} (hf : fn_X4_init E.2.2.1 p0 p1 p2 σ = some σ') : wk_M E l yX4_init (ws_ yX4_init cX4_init 3 (Option.none : Option FieldType)) 6 3175 [vR p0, vR p1, vI p2] σ (.inl none) σ' := by
  refine wk_start (by decide +kernel) hl (Nat.le_of_ble_eq_true rfl) (fun K C hK => ?_)
  subst hK
  refine wk_L (L' := [(0, vR p0), (1, vR p1), (2, vI p2)]) rfl ?_
  unfold fn_X4_init at hf
  refine wk_aload_n C 0 rfl dX4_init_0 ?_
  refine wk_aload_n C 1 rfl dX4_init_1 ?_
  obtain ⟨σ1, h_σ1, hf⟩ := ho_b hf
  refine wk_putR C px_X4_3 (Or.inl ⟨_, rfl⟩) (fun _ => rfl) h_σ1 dX4_init_2 ?_
  refine wk_aload_n C 0 rfl dX4_init_5 ?_
  obtain ⟨b2, h_b2, hf⟩ := ho_b hf
  refine wk_objI C h_b2 q2698 q179 q180 (Nat.le_of_ble_eq_true rfl) (Nat.le_of_ble_eq_true rfl) dX4_init_6 ?_
  refine wk_aload_n C 0 rfl dX4_init_9 ?_
  obtain ⟨v3, σ4, h_σ4, hf⟩ := ho_e2 hf
  refine wk_new C nx_X4_15 h_σ4 dX4_init_10 ?_
  refine wk_dup C rfl dX4_init_13 ?_
  obtain ⟨b5, h_b5, hf⟩ := ho_b hf
  obtain ⟨σ6, h_σ6, hf⟩ := ho_b hf
  refine wk_callI (av := []) (rest := [vR v3, vR p0]) C cx_X4_17 h_b5 (mt_X2_init (wk_C.tr C) h_σ6) rfl (Nat.le_of_ble_eq_true rfl) (Nat.le_of_ble_eq_true rfl) (Nat.le_of_ble_eq_true rfl) dX4_init_14 ?_
  obtain ⟨σ7, h_σ7, hf⟩ := ho_b hf
  refine wk_putR C px_X4_18 (Or.inl ⟨_, rfl⟩) (fun q => by cases q) h_σ7 dX4_init_17 ?_
  refine wk_aload_n C 0 rfl dX4_init_20 ?_
  refine wk_iload_n C 2 rfl dX4_init_21 ?_
  obtain ⟨σ8, h_σ8, hf⟩ := ho_b hf
  refine wk_putI C px_X4_22 (fun _ => rfl) h_σ8 dX4_init_22 ?_
  obtain rfl := Option.some.inj hf
  exact wk_vret C rfl rfl dX4_init_25
set_option maxHeartbeats 4000000 in
theorem wb_X4_read_b68 {E : Ev} {K : Kx} (C : wk_C E K yX4_read cX4_read 3 (Option.some (FieldType.object "ElasticTruss$Truss")) 50 19093 []) {r : Option Nat ⊕ Nat} {σ' : Hs} : ∀ (n : Nat) (l0 : Option Nat) (σ : Hs), fn_X4_read_b68 E.2.2.1 n l0 σ = some (r, σ') → wk_V E K (ot_R r) σ' σ 68 [(0, vR l0)] [] := by
  intro n
  induction n with
  | zero =>
    intro l0 σ hf
    rw [fn_X4_read_b68] at hf
    cases hf
  | succ n ih =>
    intro l0 σ hf
    rw [fn_X4_read_b68] at hf
    refine wk_aload_n C 0 rfl dX4_read_68 ?_
    obtain ⟨b1, h_b1, hf⟩ := ho_b hf
    obtain ⟨v3, σ2, h_σ2, hf⟩ := ho_e2 hf
    refine wk_callV (av := []) (rest := []) (rv := some (vI v3)) C h_b1 rx_3 cx_X4_49 (mt_X4_skipSpaces (wk_C.tr C) h_σ2) rfl rfl (Nat.le_of_ble_eq_true rfl) (Nat.le_of_ble_eq_true rfl) (Nat.le_of_ble_eq_true rfl) dX4_read_69 ?_
    refine wk_iconst (v := -1) C dX4_read_72 rfl ?_
    refine wk_icmp_eq C 83 (by decide) dX4_read_73 (fun c_ => ?_) (fun c_ => ?_)
    · rw [if_pos c_] at hf
      refine wk_aload_n C 0 rfl dX4_read_83 ?_
      obtain ⟨v4, h_v4, hf⟩ := ho_b hf
      refine wk_getR C fx_X4_18 h_v4 dX4_read_84 ?_
      obtain ⟨rfl, rfl⟩ := Prod.mk.inj (Option.some.inj hf)
      exact wk_aret C (Or.inl ⟨_, rfl⟩) rfl rfl dX4_read_87
    · rw [if_neg c_] at hf
      refine wk_aload_n C 0 rfl dX4_read_76 ?_
      obtain ⟨b5, h_b5, hf⟩ := ho_b hf
      obtain ⟨v7, σ6, h_σ6, hf⟩ := ho_e2 hf
      rcases ho_xe hf with ⟨x8, rfl, hf⟩ | ⟨q9, rfl, hf⟩
      · refine wk_callV (av := []) (rest := []) (rv := none) C h_b5 rx_3 cx_X4_272 (mt_X4_statement (wk_C.tr C) h_σ6) rfl rfl (Nat.le_of_ble_eq_true rfl) (Nat.le_of_ble_eq_true rfl) (Nat.le_of_ble_eq_true rfl) dX4_read_77 ?_
        refine wk_goto C 68 (by decide) dX4_read_80 ?_
        exact ih _ _ hf
      · refine wk_callVT (av := []) (rest := []) C h_b5 rx_3 cx_X4_272 (mt_X4_statement (wk_C.tr C) h_σ6) rfl (Nat.le_of_ble_eq_true rfl) (Nat.le_of_ble_eq_true rfl) (Nat.le_of_ble_eq_true rfl) dX4_read_77 ?_
        obtain ⟨rfl, rfl⟩ := Prod.mk.inj (Option.some.inj hf)
        exact wk_out C (by decide +kernel) rfl rfl
set_option maxHeartbeats 4000000 in
theorem mt_X4_read {E : Ev} {l : Launch} (hl : l.stackTraces = false) {p0 : Option Nat} {σ : Hs} {r : Option Nat ⊕ Nat} {σ' : Hs} (hf : fn_X4_read E.2.2.1 p0 σ = some (r, σ')) : wk_M E l yX4_read (ws_ yX4_read cX4_read 3 (Option.some (FieldType.object "ElasticTruss$Truss"))) 50 19093 [vR p0] σ (ot_R r) σ' := by
  refine wk_start (by decide +kernel) hl (Nat.le_of_ble_eq_true rfl) (fun K C hK => ?_)
  subst hK
  refine wk_L (L' := [(0, vR p0)]) rfl ?_
  unfold fn_X4_read at hf
  refine wk_aload_n C 0 rfl dX4_read_0 ?_
  refine wk_ldcSw (q := ("ElasticTruss$SetupReader", 268, "truss", 3)) C (by decide +kernel) rfl rfl dX4_read_1 ?_
  obtain ⟨b10, h_b10, hf⟩ := ho_b hf
  obtain ⟨v12, σ11, h_σ11, hf⟩ := ho_e2 hf
  refine wk_callV (av := [vR (E.2.2.1 103)]) (rest := []) (rv := some (vI v12)) C h_b10 rx_3 cx_X4_96 (mt_X4_takeWord (wk_C.tr C) h_σ11) rfl rfl (Nat.le_of_ble_eq_true rfl) (Nat.le_of_ble_eq_true rfl) (Nat.le_of_ble_eq_true rfl) dX4_read_4 ?_
  refine wk_if_ne C 24 (by decide) dX4_read_7 (fun c_ => ?_) (fun c_ => ?_)
  · rw [if_neg c_] at hf
    refine wk_aload_n C 0 rfl dX4_read_24 ?_
    refine wk_iconst (v := 1) C dX4_read_25 rfl ?_
    refine wk_sipush (v := 9999) C dX4_read_26 rfl ?_
    obtain ⟨b13, h_b13, hf⟩ := ho_b hf
    obtain ⟨v15, σ14, h_σ14, hf⟩ := ho_e2 hf
    rcases ho_xe hf with ⟨x16, rfl, hf⟩ | ⟨q17, rfl, hf⟩
    · refine wk_callV (av := [vI (1 : Int32), vI (9999 : Int32)]) (rest := []) (rv := some (vI x16)) C h_b13 rx_3 cx_X4_91 (mt_X4_number (wk_C.tr C) h_σ14) rfl rfl (Nat.le_of_ble_eq_true rfl) (Nat.le_of_ble_eq_true rfl) (Nat.le_of_ble_eq_true rfl) dX4_read_29 ?_
      refine wk_istore_n (L' := [(0, vR p0), (1, vI x16)]) C (by decide) rfl dX4_read_32 ?_
      refine wk_aload_n C 0 rfl dX4_read_33 ?_
      refine wk_iconst (v := 1) C dX4_read_34 rfl ?_
      refine wk_sipush (v := 9999) C dX4_read_35 rfl ?_
      obtain ⟨b18, h_b18, hf⟩ := ho_b hf
      obtain ⟨v20, σ19, h_σ19, hf⟩ := ho_e2 hf
      rcases ho_xe hf with ⟨x21, rfl, hf⟩ | ⟨q22, rfl, hf⟩
      · refine wk_callV (av := [vI (1 : Int32), vI (9999 : Int32)]) (rest := []) (rv := some (vI x21)) C h_b18 rx_3 cx_X4_91 (mt_X4_number (wk_C.tr C) h_σ19) rfl rfl (Nat.le_of_ble_eq_true rfl) (Nat.le_of_ble_eq_true rfl) (Nat.le_of_ble_eq_true rfl) dX4_read_38 ?_
        refine wk_istore_n (L' := [(0, vR p0), (1, vI x16), (2, vI x21)]) C (by decide) rfl dX4_read_41 ?_
        refine wk_aload_n C 0 rfl dX4_read_42 ?_
        obtain ⟨v23, σ24, h_σ24, hf⟩ := ho_e2 hf
        refine wk_new C nx_X4_15 h_σ24 dX4_read_43 ?_
        refine wk_dup C rfl dX4_read_46 ?_
        refine wk_iload_n C 1 rfl dX4_read_47 ?_
        refine wk_iload_n C 2 rfl dX4_read_48 ?_
        refine wk_aload_n C 0 rfl dX4_read_49 ?_
        refine wk_iconst (v := 1) C dX4_read_50 rfl ?_
        refine wk_bipush (v := 40) C dX4_read_51 rfl ?_
        obtain ⟨b25, h_b25, hf⟩ := ho_b hf
        obtain ⟨v27, σ26, h_σ26, hf⟩ := ho_e2 hf
        rcases ho_xe hf with ⟨x28, rfl, hf⟩ | ⟨q29, rfl, hf⟩
        · refine wk_callV (av := [vI (1 : Int32), vI (40 : Int32)]) (rest := [vI x21, vI x16, vR v23, vR v23, vR p0]) (rv := some (vI x28)) C h_b25 rx_3 cx_X4_91 (mt_X4_number (wk_C.tr C) h_σ26) rfl rfl (Nat.le_of_ble_eq_true rfl) (Nat.le_of_ble_eq_true rfl) (Nat.le_of_ble_eq_true rfl) dX4_read_53 ?_
          obtain ⟨b30, h_b30, hf⟩ := ho_b hf
          obtain ⟨σ31, h_σ31, hf⟩ := ho_b hf
          refine wk_callI (av := [vI x16, vI x21, vI x28]) (rest := [vR v23, vR p0]) C cx_X4_270 h_b30 (mt_X2_init_2 (wk_C.tr C) h_σ31) rfl (Nat.le_of_ble_eq_true rfl) (Nat.le_of_ble_eq_true rfl) (Nat.le_of_ble_eq_true rfl) dX4_read_56 ?_
          obtain ⟨σ32, h_σ32, hf⟩ := ho_b hf
          refine wk_putR C px_X4_18 (Or.inl ⟨_, rfl⟩) (fun q => by cases q) h_σ32 dX4_read_59 ?_
          refine wk_aload_n C 0 rfl dX4_read_62 ?_
          refine wk_bipush (v := 59) C dX4_read_63 rfl ?_
          obtain ⟨b33, h_b33, hf⟩ := ho_b hf
          obtain ⟨v35, σ34, h_σ34, hf⟩ := ho_e2 hf
          rcases ho_xe hf with ⟨x36, rfl, hf⟩ | ⟨q37, rfl, hf⟩
          · refine wk_callV (av := [vI (59 : Int32)]) (rest := []) (rv := none) C h_b33 rx_3 cx_X4_115 (mt_X4_needSign (wk_C.tr C) h_σ34) rfl rfl (Nat.le_of_ble_eq_true rfl) (Nat.le_of_ble_eq_true rfl) (Nat.le_of_ble_eq_true rfl) dX4_read_65 ?_
            refine wk_sub (L' := [(0, vR p0)]) [0] rfl ?_
            exact wb_X4_read_b68 C  _ _ _ hf
          · refine wk_callVT (av := [vI (59 : Int32)]) (rest := []) C h_b33 rx_3 cx_X4_115 (mt_X4_needSign (wk_C.tr C) h_σ34) rfl (Nat.le_of_ble_eq_true rfl) (Nat.le_of_ble_eq_true rfl) (Nat.le_of_ble_eq_true rfl) dX4_read_65 ?_
            obtain ⟨rfl, rfl⟩ := Prod.mk.inj (Option.some.inj hf)
            exact wk_out C (by decide +kernel) rfl rfl
        · refine wk_callVT (av := [vI (1 : Int32), vI (40 : Int32)]) (rest := [vI x21, vI x16, vR v23, vR v23, vR p0]) C h_b25 rx_3 cx_X4_91 (mt_X4_number (wk_C.tr C) h_σ26) rfl (Nat.le_of_ble_eq_true rfl) (Nat.le_of_ble_eq_true rfl) (Nat.le_of_ble_eq_true rfl) dX4_read_53 ?_
          obtain ⟨rfl, rfl⟩ := Prod.mk.inj (Option.some.inj hf)
          exact wk_out C (by decide +kernel) rfl rfl
      · refine wk_callVT (av := [vI (1 : Int32), vI (9999 : Int32)]) (rest := []) C h_b18 rx_3 cx_X4_91 (mt_X4_number (wk_C.tr C) h_σ19) rfl (Nat.le_of_ble_eq_true rfl) (Nat.le_of_ble_eq_true rfl) (Nat.le_of_ble_eq_true rfl) dX4_read_38 ?_
        obtain ⟨rfl, rfl⟩ := Prod.mk.inj (Option.some.inj hf)
        exact wk_out C (by decide +kernel) rfl rfl
    · refine wk_callVT (av := [vI (1 : Int32), vI (9999 : Int32)]) (rest := []) C h_b13 rx_3 cx_X4_91 (mt_X4_number (wk_C.tr C) h_σ14) rfl (Nat.le_of_ble_eq_true rfl) (Nat.le_of_ble_eq_true rfl) (Nat.le_of_ble_eq_true rfl) dX4_read_29 ?_
      obtain ⟨rfl, rfl⟩ := Prod.mk.inj (Option.some.inj hf)
      exact wk_out C (by decide +kernel) rfl rfl
  · rw [if_pos c_] at hf
    obtain ⟨v38, σ39, h_σ39, hf⟩ := ho_e2 hf
    refine wk_new C nx_X4_69 h_σ39 dX4_read_10 ?_
    refine wk_dup C rfl dX4_read_13 ?_
    refine wk_bipush (v := -2) C dX4_read_14 rfl ?_
    refine wk_aload_n C 0 rfl dX4_read_16 ?_
    obtain ⟨v40, h_v40, hf⟩ := ho_b hf
    refine wk_getI C fx_X4_30 h_v40 dX4_read_17 ?_
    obtain ⟨b41, h_b41, hf⟩ := ho_b hf
    obtain ⟨σ42, h_σ42, hf⟩ := ho_b hf
    refine wk_callI (av := [vI (-2 : Int32), vI v40]) (rest := [vR v38]) C cx_X4_71 h_b41 (mt_X5_init (wk_C.tr C) h_σ42) rfl (Nat.le_of_ble_eq_true rfl) (Nat.le_of_ble_eq_true rfl) (Nat.le_of_ble_eq_true rfl) dX4_read_20 ?_
    obtain ⟨q43, h_q43, hf⟩ := ho_b hf
    obtain ⟨rfl, rfl⟩ := Prod.mk.inj (Option.some.inj hf)
    exact wk_athrow C h_q43 (by decide +kernel) rfl rfl dX4_read_23
