def fn_X2_init_2 (ev : Nat → Option Nat) (p0 : Option Nat) (p1 : Int32) (p2 : Int32) (p3 : Int32) (σ : Hs) : Option Hs := p0.bind fun b1 => ho_b2 (ho_new σ (.inr (13, [.int 0, .null, .int 0])) 3) fun v2 σ3 => v2.bind fun b4 => (fn_J2_init ev v2 (8 : Int32) σ3).bind fun σ5 => (ho_pR σ5 p0 [1] 3 v2).bind fun σ6 => ho_b2 (ho_new σ6 (.inr (13, [.int 0, .null, .int 0])) 3) fun v7 σ8 => v7.bind fun b9 => (fn_J2_init ev v7 (4 : Int32) σ8).bind fun σ10 => (ho_pR σ10 p0 [1] 4 v7).bind fun σ11 => ho_b2 (ho_nI σ11 0 (5 : Int32)) fun v12 σ13 => (ho_pR σ13 p0 [1] 6 v12).bind fun σ14 => ho_b2 (ho_new σ14 (.inr (15, [.null, .null, .int 0, .int 0, .int 0, .float 0, .null, .null, .null, .null, .int 0, .int 0])) 12) fun v15 σ16 => v15.bind fun b17 => (fn_J19_init v15 σ16).bind fun σ18 => (ho_pR σ18 p0 [1] 8 v15).bind fun σ19 => (ho_pR σ19 p0 [1] 5 (ev 110)).bind fun σ20 => (ho_pI σ20 p0 [1] 0 p1).bind fun σ21 => (ho_pI σ21 p0 [1] 1 p2).bind fun σ22 => (ho_pI σ22 p0 [1] 2 p3).bind fun σ23 => some σ23
def fn_X2_init (ev : Nat → Option Nat) (p0 : Option Nat) (σ : Hs) : Option Hs := p0.bind fun b1 => (fn_X2_init_2 ev p0 (0 : Int32) (0 : Int32) (0 : Int32) σ).bind fun σ2 => some σ2
def fn_X2_join (ev : Nat → Option Nat) (p0 : Option Nat) (p1 : Int32) (p2 : Int32) (p3 : Int32) (σ : Hs) : Option Hs := (ho_fR σ p0 [1] 3).bind fun v1 => (ho_is σ v1 [13]).bind fun b2 => ho_b2 (fn_J2_get v1 p1 σ) fun v4 σ3 => (ho_in σ3 v4 [5]).bind fun _ => (ho_fR σ3 p0 [1] 3).bind fun v6 => (ho_is σ3 v6 [13]).bind fun b7 => ho_b2 (fn_J2_get v6 p2 σ3) fun v9 σ8 => (ho_in σ8 v9 [5]).bind fun _ => (ho_fR σ8 p0 [1] 8).bind fun v11 => ho_b2 (ho_new σ8 (.inr (6, [.int 0, .int 0])) 2) fun v12 σ13 => v12.bind fun b14 => (fn_X7_init v12 p1 p2 σ13).bind fun σ15 => ho_b2 (ho_new σ15 (.inr (7, [.int 0, .int 0, .int 0, .int 0, .int 0, .int 0])) 6) fun v16 σ17 => (ho_fI σ17 v9 [5] 0).bind fun v18 => (ho_fI σ17 v4 [5] 0).bind fun v19 => (ho_fI σ17 v9 [5] 1).bind fun v20 => (ho_fI σ17 v4 [5] 1).bind fun v21 => v16.bind fun b22 => (fn_X8_init ev v16 p1 p2 p3 (v18 - v19) (v20 - v21) σ17).bind fun σ23 => (ho_is σ23 v11 [15]).bind fun b24 => ho_b2 (fn_J18_put v11 v12 v16 σ23) fun v26 σ25 => some σ25
def fn_X2_isJoined (p0 : Option Nat) (p1 : Int32) (p2 : Int32) (σ : Hs) : Option (Int32 × Hs) := (ho_fR σ p0 [1] 8).bind fun v1 => ho_b2 (ho_new σ (.inr (6, [.int 0, .int 0])) 2) fun v2 σ3 => v2.bind fun b4 => (fn_X7_init v2 p1 p2 σ3).bind fun σ5 => (ho_is σ5 v1 [15]).bind fun b6 => ho_b2 (fn_J18_containsKey v1 v2 σ5) fun v8 σ7 => (ho_bool v8).bind fun v9 => some (v9, σ7)
def fn_X2_row_b30  : Nat → Option Nat → Int32 → Option Nat → Hs → Option (Option Nat × Hs)
  | 0, _, _, _, _ => none
  | n + 1, l1, l2, l3, σ => (ho_is σ l3 [22]).bind fun b1 => ho_b2 (fn_J35_hasNext l3 σ) fun v3 σ2 => if v3 = 0 then some (l1, σ2) else (ho_is σ2 l3 [22]).bind fun b4 => ho_b2 (fn_J38_next l3 σ2) fun v6 σ5 => (ho_in σ5 v6 [7]).bind fun _ => (ho_tO σ5 l1 4 [7] l2 v6).bind fun σ8 => fn_X2_row_b30 n l1 (l2 + 1) l3 σ8
def fn_X2_row (p0 : Option Nat) (σ : Hs) : Option (Option Nat × Hs) := (ho_fR σ p0 [1] 8).bind fun v9 => (ho_is σ v9 [15]).bind fun b10 => ho_b2 (fn_J18_size v9 σ) fun v12 σ11 => ho_b2 (ho_nR σ11 4 v12) fun v13 σ14 => (ho_fR σ14 p0 [1] 8).bind fun v15 => (ho_is σ14 v15 [15]).bind fun b16 => ho_b2 (fn_J19_values v15 σ14) fun v18 σ17 => (ho_is σ17 v18 [18]).bind fun b19 => ho_b2 (fn_J31_iterator v18 σ17) fun v21 σ20 => fn_X2_row_b30 fu_el v13 (0 : Int32) v21 σ20
def fn_X2_remove (p0 : Option Nat) (p1 : Option Nat) (σ : Hs) : Option Hs := (ho_fR σ p0 [1] 8).bind fun v1 => ho_b2 (ho_new σ (.inr (6, [.int 0, .int 0])) 2) fun v2 σ3 => (ho_fI σ3 p1 [7] 0).bind fun v4 => (ho_fI σ3 p1 [7] 1).bind fun v5 => v2.bind fun b6 => (fn_X7_init v2 v4 v5 σ3).bind fun σ7 => (ho_is σ7 v1 [15]).bind fun b8 => ho_b2 (fn_J18_remove v1 v2 σ7) fun v10 σ9 => some σ9
def fn_X2_countStages_b12  : Nat → Int32 → Option Nat → Hs → Option (Int32 × Hs)
  | 0, _, _, _ => none
  | n + 1, l1, l2, σ => (ho_is σ l2 [14]).bind fun b1 => ho_b2 (fn_J21_hasNext l2 σ) fun v3 σ2 => if v3 = 0 then some (l1, σ2) else (ho_is σ2 l2 [14]).bind fun b4 => ho_b2 (fn_J21_next l2 σ2) fun v6 σ5 => (ho_in σ5 v6 [8]).bind fun _ => (ho_is σ5 v6 [8]).bind fun b8 => ho_b2 (fn_X9_stage v6 σ5) fun v10 σ9 => ho_b2 (fn_J12_max l1 (v10 + (1 : Int32)) σ9) fun v12 σ11 => fn_X2_countStages_b12 n v12 l2 σ11
def fn_X2_countStages (p0 : Option Nat) (σ : Hs) : Option (Int32 × Hs) := (ho_fR σ p0 [1] 4).bind fun v13 => (ho_is σ v13 [13]).bind fun b14 => ho_b2 (fn_J2_iterator v13 σ) fun v16 σ15 => fn_X2_countStages_b12 fu_el (0 : Int32) v16 σ15
def fn_X2_areaOf (p0 : Option Nat) (p1 : Option Nat) (σ : Hs) : Option (Int32 × Hs) := (ho_fR σ p0 [1] 6).bind fun v1 => (ho_fI σ p1 [7] 2).bind fun v2 => (ho_aI σ v1 [0, 90] v2).bind fun v3 => some (v3, σ)
def fn_X2_weightOf_b17  : Nat → Option Nat → Int32 → Option Nat → Hs → Option (Int32 × Hs)
  | 0, _, _, _, _ => none
  | n + 1, l0, l1, l2, σ => (ho_is σ l2 [22]).bind fun b1 => ho_b2 (fn_J35_hasNext l2 σ) fun v3 σ2 => if v3 = 0 then some (l1, σ2) else (ho_is σ2 l2 [22]).bind fun b4 => ho_b2 (fn_J38_next l2 σ2) fun v6 σ5 => (ho_in σ5 v6 [7]).bind fun _ => (ho_is σ5 l0 [1]).bind fun b8 => ho_b2 (fn_X2_areaOf l0 v6 σ5) fun v10 σ9 => (ho_fI σ9 v6 [7] 5).bind fun v11 => (some (l1 + (v10 * v11))).bind fun v12 => fn_X2_weightOf_b17 n l0 v12 l2 σ9
def fn_X2_weightOf (p0 : Option Nat) (σ : Hs) : Option (Int32 × Hs) := (ho_fR σ p0 [1] 8).bind fun v13 => (ho_is σ v13 [15]).bind fun b14 => ho_b2 (fn_J19_values v13 σ) fun v16 σ15 => (ho_is σ15 v16 [18]).bind fun b17 => ho_b2 (fn_J31_iterator v16 σ15) fun v19 σ18 => fn_X2_weightOf_b17 fu_el p0 (0 : Int32) v19 σ18
def fn_X2_copy (ev : Nat → Option Nat) (p0 : Option Nat) (σ : Hs) : Option (Option Nat × Hs) := ho_b2 (ho_new σ (.inr (1, [.int 0, .int 0, .int 0, .null, .null, .null, .null, .int 0, .null])) 9) fun v1 σ2 => (ho_fI σ2 p0 [1] 0).bind fun v3 => (ho_fI σ2 p0 [1] 1).bind fun v4 => (ho_fI σ2 p0 [1] 2).bind fun v5 => v1.bind fun b6 => (fn_X2_init_2 ev v1 v3 v4 v5 σ2).bind fun σ7 => (ho_fR σ7 p0 [1] 3).bind fun v8 => (ho_pR σ7 v1 [1] 3 v8).bind fun σ9 => (ho_fR σ9 p0 [1] 4).bind fun v10 => (ho_pR σ9 v1 [1] 4 v10).bind fun σ11 => (ho_fR σ11 p0 [1] 5).bind fun v12 => (ho_pR σ11 v1 [1] 5 v12).bind fun σ13 => (ho_fR σ13 p0 [1] 6).bind fun v14 => ho_b2 (ho_clone σ13 v14) fun v15 σ16 => (ho_ar σ16 v15).bind fun x17 => if x17.1 = 0 then (ho_pR σ16 v1 [1] 6 v15).bind fun σ18 => (ho_fI σ18 p0 [1] 7).bind fun v19 => (ho_pI σ18 v1 [1] 7 v19).bind fun σ20 => (ho_fR σ20 v1 [1] 8).bind fun v21 => (ho_fR σ20 p0 [1] 8).bind fun v22 => (ho_is σ20 v21 [15]).bind fun b23 => (fn_J18_putAll v21 v22 σ20).bind fun σ24 => some (v1, σ24) else none
theorem nx_X2_14 : nx "ElasticTruss$Truss" 14 13 3 [.int 0, .null, .int 0] := ⟨(Nat.le_of_ble_eq_true rfl), rfl, RJ2, TJ2, tyJ2, rfl, rfl, q190, q191, q106, by
  intro j hj
  match j, hj with
  | 0, _ => rfl
  | 1, _ => rfl
  | 2, _ => rfl
  | j + 3, hj => omega⟩
theorem cx_X2_16 : cxI "ElasticTruss$Truss" 16 yJ2_init cJ2_init 2 1 := ⟨q192, q193, q106, q194, ⟨by decide +kernel, by decide +kernel⟩, rfl, fun sig h => by have e := (show (parseMethodDescriptor (yJ2_init).desc).map (fun d => d.parameters.length) = some 1 by decide +kernel); rw [h] at e; exact (Option.some.inj e).symm⟩
theorem px_X2_19 : px "ElasticTruss$Truss" 19 [1] 3 (.object "java/util/List") false := ⟨"ElasticTruss$Truss", "ElasticTruss$Truss", "nodes", "Ljava/util/List;", ⟨Or.inl q616, Or.inl rfl⟩, px_c (r := (RX2, TX2, 9)) (Nat.le_of_ble_eq_true rfl) rfl (Nat.le_of_ble_eq_true rfl) rfl (px_0), by decide +kernel, fun h => by cases h⟩
theorem px_X2_23 : px "ElasticTruss$Truss" 23 [1] 4 (.object "java/util/List") false := ⟨"ElasticTruss$Truss", "ElasticTruss$Truss", "loads", "Ljava/util/List;", ⟨Or.inl q619, Or.inl rfl⟩, px_c (r := (RX2, TX2, 9)) (Nat.le_of_ble_eq_true rfl) rfl (Nat.le_of_ble_eq_true rfl) rfl (px_0), by decide +kernel, fun h => by cases h⟩
theorem px_X2_26 : px "ElasticTruss$Truss" 26 [1] 6 (.array (.int)) false := ⟨"ElasticTruss$Truss", "ElasticTruss$Truss", "areas", "[I", ⟨Or.inl q624, Or.inl rfl⟩, px_c (r := (RX2, TX2, 9)) (Nat.le_of_ble_eq_true rfl) rfl (Nat.le_of_ble_eq_true rfl) rfl (px_0), by decide +kernel, fun h => by cases h⟩
theorem nx_X2_30 : nx "ElasticTruss$Truss" 30 15 12 [.null, .null, .int 0, .int 0, .int 0, .float 0, .null, .null, .null, .null, .int 0, .int 0] := ⟨(Nat.le_of_ble_eq_true rfl), rfl, RJ19, TJ19, tyJ19, rfl, rfl, q539, q540, q125, by
  intro j hj
  match j, hj with
  | 0, _ => rfl
  | 1, _ => rfl
  | 2, _ => rfl
  | 3, _ => rfl
  | 4, _ => rfl
  | 5, _ => rfl
  | 6, _ => rfl
  | 7, _ => rfl
  | 8, _ => rfl
  | 9, _ => rfl
  | 10, _ => rfl
  | 11, _ => rfl
  | j + 12, hj => omega⟩
theorem cx_X2_32 : cxI "ElasticTruss$Truss" 32 yJ19_init cJ19_init 1 0 := ⟨q541, q542, q125, q543, ⟨by decide +kernel, by decide +kernel⟩, rfl, fun sig h => by have e := (show (parseMethodDescriptor (yJ19_init).desc).map (fun d => d.parameters.length) = some 0 by decide +kernel); rw [h] at e; exact (Option.some.inj e).symm⟩
theorem px_X2_33 : px "ElasticTruss$Truss" 33 [1] 8 (.object "java/util/Map") true := ⟨"ElasticTruss$Truss", "ElasticTruss$Truss", "members", "Ljava/util/Map;", ⟨Or.inl q630, Or.inl rfl⟩, px_c (r := (RX2, TX2, 9)) (Nat.le_of_ble_eq_true rfl) rfl (Nat.le_of_ble_eq_true rfl) rfl (px_0), by decide +kernel, fun _ => ⟨rfl, q630⟩⟩
theorem px_X2_41 : px "ElasticTruss$Truss" 41 [1] 5 (.object "ElasticTruss$Quantity") false := ⟨"ElasticTruss$Truss", "ElasticTruss$Truss", "buckling", "LElasticTruss$Quantity;", ⟨Or.inl q622, Or.inl rfl⟩, px_c (r := (RX2, TX2, 9)) (Nat.le_of_ble_eq_true rfl) rfl (Nat.le_of_ble_eq_true rfl) rfl (px_0), by decide +kernel, fun h => by cases h⟩
theorem px_X2_45 : px "ElasticTruss$Truss" 45 [1] 0 (.int) true := ⟨"ElasticTruss$Truss", "ElasticTruss$Truss", "modulus", "I", ⟨Or.inl q610, Or.inl rfl⟩, px_c (r := (RX2, TX2, 9)) (Nat.le_of_ble_eq_true rfl) rfl (Nat.le_of_ble_eq_true rfl) rfl (px_0), by decide +kernel, fun _ => ⟨rfl, q610⟩⟩
theorem px_X2_49 : px "ElasticTruss$Truss" 49 [1] 1 (.int) true := ⟨"ElasticTruss$Truss", "ElasticTruss$Truss", "strength", "I", ⟨Or.inl q612, Or.inl rfl⟩, px_c (r := (RX2, TX2, 9)) (Nat.le_of_ble_eq_true rfl) rfl (Nat.le_of_ble_eq_true rfl) rfl (px_0), by decide +kernel, fun _ => ⟨rfl, q612⟩⟩
theorem px_X2_52 : px "ElasticTruss$Truss" 52 [1] 2 (.int) true := ⟨"ElasticTruss$Truss", "ElasticTruss$Truss", "sweeps", "I", ⟨Or.inl q613, Or.inl rfl⟩, px_c (r := (RX2, TX2, 9)) (Nat.le_of_ble_eq_true rfl) rfl (Nat.le_of_ble_eq_true rfl) rfl (px_0), by decide +kernel, fun _ => ⟨rfl, q613⟩⟩
theorem cx_X2_3 : cxI "ElasticTruss$Truss" 3 yX2_init_2 cX2_init_2 4 3 := ⟨q186, q187, q103, q188, ⟨by decide +kernel, by decide +kernel⟩, rfl, fun sig h => by have e := (show (parseMethodDescriptor (yX2_init_2).desc).map (fun d => d.parameters.length) = some 3 by decide +kernel); rw [h] at e; exact (Option.some.inj e).symm⟩
theorem fx_X2_19 : fx "ElasticTruss$Truss" 19 [1] 3 := ⟨"ElasticTruss$Truss", "ElasticTruss$Truss", "nodes", "Ljava/util/List;", ⟨Or.inl q616, Or.inl rfl⟩, fx_c (r := (RX2, TX2, 9)) (Nat.le_of_ble_eq_true rfl) rfl (Nat.le_of_ble_eq_true rfl) rfl rfl rfl (fx_0)⟩
theorem cx_X2_69_13 : cxF "ElasticTruss$Truss" "java/util/ArrayList" 69 ⟨"java/util/List", "get", "(I)Ljava/lang/Object;"⟩ yJ2_get cJ2_get 2 (Option.some (FieldType.object "java/lang/Object")) 1 := ⟨q2934, by decide +kernel, q1190, q1192, q106, q1194, fun sig h => by have e := (show (parseMethodDescriptor (⟨"java/util/List", "get", "(I)Ljava/lang/Object;"⟩ : MethodName).desc).map (fun d => d.parameters.length) = some 1 by decide +kernel); rw [h] at e; exact (Option.some.inj e).symm⟩
theorem fx_X2_33 : fx "ElasticTruss$Truss" 33 [1] 8 := ⟨"ElasticTruss$Truss", "ElasticTruss$Truss", "members", "Ljava/util/Map;", ⟨Or.inl q630, Or.inl rfl⟩, fx_c (r := (RX2, TX2, 9)) (Nat.le_of_ble_eq_true rfl) rfl (Nat.le_of_ble_eq_true rfl) rfl rfl rfl (fx_0)⟩
theorem nx_X2_77 : nx "ElasticTruss$Truss" 77 6 2 [.int 0, .int 0] := ⟨(Nat.le_of_ble_eq_true rfl), rfl, RX7, TX7, tyX7, rfl, rfl, q2896, q2897, q132, by
  intro j hj
  match j, hj with
  | 0, _ => rfl
  | 1, _ => rfl
  | j + 2, hj => omega⟩
theorem cx_X2_79 : cxI "ElasticTruss$Truss" 79 yX7_init cX7_init 3 2 := ⟨q2898, q2899, q132, q2900, ⟨by decide +kernel, by decide +kernel⟩, rfl, fun sig h => by have e := (show (parseMethodDescriptor (yX7_init).desc).map (fun d => d.parameters.length) = some 2 by decide +kernel); rw [h] at e; exact (Option.some.inj e).symm⟩
theorem nx_X2_82 : nx "ElasticTruss$Truss" 82 7 6 [.int 0, .int 0, .int 0, .int 0, .int 0, .int 0] := ⟨(Nat.le_of_ble_eq_true rfl), rfl, RX8, TX8, tyX8, rfl, rfl, q1099, q2936, q137, by
  intro j hj
  match j, hj with
  | 0, _ => rfl
  | 1, _ => rfl
  | 2, _ => rfl
  | 3, _ => rfl
  | 4, _ => rfl
  | 5, _ => rfl
  | j + 6, hj => omega⟩
theorem fx_X2_84 : fx "ElasticTruss$Truss" 84 [5] 0 := ⟨"ElasticTruss$Node", "ElasticTruss$Node", "x", "I", ⟨Or.inr ⟨_, lw_n q2832 rfl⟩, Or.inl rfl⟩, fx_c (r := (RX6, TX6, 4)) (Nat.le_of_ble_eq_true rfl) rfl (Nat.le_of_ble_eq_true rfl) rfl rfl rfl (fx_0)⟩
theorem fx_X2_87 : fx "ElasticTruss$Truss" 87 [5] 1 := ⟨"ElasticTruss$Node", "ElasticTruss$Node", "y", "I", ⟨Or.inr ⟨_, lw_n q2835 rfl⟩, Or.inl rfl⟩, fx_c (r := (RX6, TX6, 4)) (Nat.le_of_ble_eq_true rfl) rfl (Nat.le_of_ble_eq_true rfl) rfl rfl rfl (fx_0)⟩
theorem cx_X2_90 : cxI "ElasticTruss$Truss" 90 yX8_init cX8_init 6 5 := ⟨q2937, q2938, q137, q2939, ⟨by decide +kernel, by decide +kernel⟩, rfl, fun sig h => by have e := (show (parseMethodDescriptor (yX8_init).desc).map (fun d => d.parameters.length) = some 5 by decide +kernel); rw [h] at e; exact (Option.some.inj e).symm⟩
theorem cx_X2_93_15 : cxF "ElasticTruss$Truss" "java/util/LinkedHashMap" 93 ⟨"java/util/Map", "put", "(Ljava/lang/Object;Ljava/lang/Object;)Ljava/lang/Object;"⟩ yJ18_put cJ18_put 3 (Option.some (FieldType.object "java/lang/Object")) 2 := ⟨q2980, by decide +kernel, q2983, q1865, q124, q1868, fun sig h => by have e := (show (parseMethodDescriptor (⟨"java/util/Map", "put", "(Ljava/lang/Object;Ljava/lang/Object;)Ljava/lang/Object;"⟩ : MethodName).desc).map (fun d => d.parameters.length) = some 2 by decide +kernel); rw [h] at e; exact (Option.some.inj e).symm⟩
theorem cx_X2_97_15 : cxF "ElasticTruss$Truss" "java/util/LinkedHashMap" 97 ⟨"java/util/Map", "containsKey", "(Ljava/lang/Object;)Z"⟩ yJ18_containsKey cJ18_containsKey 2 (Option.some FieldType.boolean) 1 := ⟨q2912, by decide +kernel, q2915, q2917, q124, q2919, fun sig h => by have e := (show (parseMethodDescriptor (⟨"java/util/Map", "containsKey", "(Ljava/lang/Object;)Z"⟩ : MethodName).desc).map (fun d => d.parameters.length) = some 1 by decide +kernel); rw [h] at e; exact (Option.some.inj e).symm⟩
theorem cx_X2_115_22 : cxF "ElasticTruss$Truss" "java/util/LinkedHashMap$LinkedValueIterator" 115 ⟨"java/util/Iterator", "hasNext", "()Z"⟩ yJ35_hasNext cJ35_hasNext 1 (Option.some FieldType.boolean) 0 := ⟨q770, by decide +kernel, q801, q794, q152, q796, fun sig h => by have e := (show (parseMethodDescriptor (⟨"java/util/Iterator", "hasNext", "()Z"⟩ : MethodName).desc).map (fun d => d.parameters.length) = some 0 by decide +kernel); rw [h] at e; exact (Option.some.inj e).symm⟩
theorem cx_X2_121_22 : cxF "ElasticTruss$Truss" "java/util/LinkedHashMap$LinkedValueIterator" 121 ⟨"java/util/Iterator", "next", "()Ljava/lang/Object;"⟩ yJ38_next cJ38_next 1 (Option.some (FieldType.object "java/lang/Object")) 0 := ⟨q804, by decide +kernel, q868, q870, q155, q872, fun sig h => by have e := (show (parseMethodDescriptor (⟨"java/util/Iterator", "next", "()Ljava/lang/Object;"⟩ : MethodName).desc).map (fun d => d.parameters.length) = some 0 by decide +kernel); rw [h] at e; exact (Option.some.inj e).symm⟩
theorem rx_7 : rx 7 "ElasticTruss$Member" := Or.inl ⟨(Nat.le_of_ble_eq_true rfl), (RX8, TX8, 6), rfl, rfl⟩
theorem cx_X2_101_15 : cxF "ElasticTruss$Truss" "java/util/LinkedHashMap" 101 ⟨"java/util/Map", "size", "()I"⟩ yJ18_size cJ18_size 1 (Option.some FieldType.int) 0 := ⟨q1132, by decide +kernel, q728, q730, q124, q732, fun sig h => by have e := (show (parseMethodDescriptor (⟨"java/util/Map", "size", "()I"⟩ : MethodName).desc).map (fun d => d.parameters.length) = some 0 by decide +kernel); rw [h] at e; exact (Option.some.inj e).symm⟩
theorem cx_X2_105_15 : cxF "ElasticTruss$Truss" "java/util/LinkedHashMap" 105 ⟨"java/util/Map", "values", "()Ljava/util/Collection;"⟩ yJ19_values cJ19_values 1 (Option.some (FieldType.object "java/util/Collection")) 0 := ⟨q891, by decide +kernel, q894, q896, q125, q898, fun sig h => by have e := (show (parseMethodDescriptor (⟨"java/util/Map", "values", "()Ljava/util/Collection;"⟩ : MethodName).desc).map (fun d => d.parameters.length) = some 0 by decide +kernel); rw [h] at e; exact (Option.some.inj e).symm⟩
theorem cx_X2_109_18 : cxF "ElasticTruss$Truss" "java/util/LinkedHashMap$LinkedValues" 109 ⟨"java/util/Collection", "iterator", "()Ljava/util/Iterator;"⟩ yJ31_iterator cJ31_iterator 1 (Option.some (FieldType.object "java/util/Iterator")) 0 := ⟨q918, by decide +kernel, q1036, q1038, q148, q1040, fun sig h => by have e := (show (parseMethodDescriptor (⟨"java/util/Collection", "iterator", "()Ljava/util/Iterator;"⟩ : MethodName).desc).map (fun d => d.parameters.length) = some 0 by decide +kernel); rw [h] at e; exact (Option.some.inj e).symm⟩
theorem fx_X2_124 : fx "ElasticTruss$Truss" 124 [7] 0 := ⟨"ElasticTruss$Member", "ElasticTruss$Member", "first", "I", ⟨Or.inr ⟨_, lw_n q2948 rfl⟩, Or.inl rfl⟩, fx_c (r := (RX8, TX8, 6)) (Nat.le_of_ble_eq_true rfl) rfl (Nat.le_of_ble_eq_true rfl) rfl rfl rfl (fx_0)⟩
theorem fx_X2_127 : fx "ElasticTruss$Truss" 127 [7] 1 := ⟨"ElasticTruss$Member", "ElasticTruss$Member", "second", "I", ⟨Or.inr ⟨_, lw_n q2952 rfl⟩, Or.inl rfl⟩, fx_c (r := (RX8, TX8, 6)) (Nat.le_of_ble_eq_true rfl) rfl (Nat.le_of_ble_eq_true rfl) rfl rfl rfl (fx_0)⟩
theorem cx_X2_130_15 : cxF "ElasticTruss$Truss" "java/util/LinkedHashMap" 130 ⟨"java/util/Map", "remove", "(Ljava/lang/Object;)Ljava/lang/Object;"⟩ yJ18_remove cJ18_remove 3 (Option.some (FieldType.object "java/lang/Object")) 1 := ⟨q3259, by decide +kernel, q3262, q3264, q124, q3266, fun sig h => by have e := (show (parseMethodDescriptor (⟨"java/util/Map", "remove", "(Ljava/lang/Object;)Ljava/lang/Object;"⟩ : MethodName).desc).map (fun d => d.parameters.length) = some 1 by decide +kernel); rw [h] at e; exact (Option.some.inj e).symm⟩
theorem cx_X2_115_14 : cxF "ElasticTruss$Truss" "java/util/ArrayList$Itr" 115 ⟨"java/util/Iterator", "hasNext", "()Z"⟩ yJ21_hasNext cJ21_hasNext 1 (Option.some FieldType.boolean) 0 := ⟨q770, by decide +kernel, q780, q782, q130, q784, fun sig h => by have e := (show (parseMethodDescriptor (⟨"java/util/Iterator", "hasNext", "()Z"⟩ : MethodName).desc).map (fun d => d.parameters.length) = some 0 by decide +kernel); rw [h] at e; exact (Option.some.inj e).symm⟩
theorem cx_X2_121_14 : cxF "ElasticTruss$Truss" "java/util/ArrayList$Itr" 121 ⟨"java/util/Iterator", "next", "()Ljava/lang/Object;"⟩ yJ21_next cJ21_next 3 (Option.some (FieldType.object "java/lang/Object")) 0 := ⟨q804, by decide +kernel, q818, q820, q130, q822, fun sig h => by have e := (show (parseMethodDescriptor (⟨"java/util/Iterator", "next", "()Ljava/lang/Object;"⟩ : MethodName).desc).map (fun d => d.parameters.length) = some 0 by decide +kernel); rw [h] at e; exact (Option.some.inj e).symm⟩
theorem cx_X2_137 : cxV "ElasticTruss$Truss" "ElasticTruss$Load" 137 yX9_stage cX9_stage 1 (Option.some FieldType.int) 0 := ⟨q877, q878, q879, q142, q880, ⟨by decide +kernel, by decide +kernel⟩, fun sig h => by have e := (show (parseMethodDescriptor (yX9_stage).desc).map (fun d => d.parameters.length) = some 0 by decide +kernel); rw [h] at e; exact (Option.some.inj e).symm⟩
theorem cx_X2_140 : cxS "ElasticTruss$Truss" 140 yJ12_max cJ12_max 2 (Option.some FieldType.int) 2 := ⟨q881, q307, q116, q308, ⟨by decide +kernel, by decide +kernel⟩, fun sig h => by have e := (show (parseMethodDescriptor (yJ12_max).desc).map (fun d => d.parameters.length) = some 2 by decide +kernel); rw [h] at e; exact (Option.some.inj e).symm⟩
theorem fx_X2_23 : fx "ElasticTruss$Truss" 23 [1] 4 := ⟨"ElasticTruss$Truss", "ElasticTruss$Truss", "loads", "Ljava/util/List;", ⟨Or.inl q619, Or.inl rfl⟩, fx_c (r := (RX2, TX2, 9)) (Nat.le_of_ble_eq_true rfl) rfl (Nat.le_of_ble_eq_true rfl) rfl rfl rfl (fx_0)⟩
theorem cx_X2_134_13 : cxF "ElasticTruss$Truss" "java/util/ArrayList" 134 ⟨"java/util/List", "iterator", "()Ljava/util/Iterator;"⟩ yJ2_iterator cJ2_iterator 1 (Option.some (FieldType.object "java/util/Iterator")) 0 := ⟨q742, by decide +kernel, q745, q747, q106, q749, fun sig h => by have e := (show (parseMethodDescriptor (⟨"java/util/List", "iterator", "()Ljava/util/Iterator;"⟩ : MethodName).desc).map (fun d => d.parameters.length) = some 0 by decide +kernel); rw [h] at e; exact (Option.some.inj e).symm⟩
theorem fx_X2_26 : fx "ElasticTruss$Truss" 26 [1] 6 := ⟨"ElasticTruss$Truss", "ElasticTruss$Truss", "areas", "[I", ⟨Or.inl q624, Or.inl rfl⟩, fx_c (r := (RX2, TX2, 9)) (Nat.le_of_ble_eq_true rfl) rfl (Nat.le_of_ble_eq_true rfl) rfl rfl rfl (fx_0)⟩
theorem fx_X2_146 : fx "ElasticTruss$Truss" 146 [7] 2 := ⟨"ElasticTruss$Member", "ElasticTruss$Member", "group", "I", ⟨Or.inr ⟨_, lw_n q2955 rfl⟩, Or.inl rfl⟩, fx_c (r := (RX8, TX8, 6)) (Nat.le_of_ble_eq_true rfl) rfl (Nat.le_of_ble_eq_true rfl) rfl rfl rfl (fx_0)⟩
theorem cx_X2_149 : cxV "ElasticTruss$Truss" "ElasticTruss$Truss" 149 yX2_areaOf cX2_areaOf 2 (Option.some FieldType.int) 1 := ⟨q1100, q1101, q1102, q103, q1103, ⟨by decide +kernel, by decide +kernel⟩, fun sig h => by have e := (show (parseMethodDescriptor (yX2_areaOf).desc).map (fun d => d.parameters.length) = some 1 by decide +kernel); rw [h] at e; exact (Option.some.inj e).symm⟩
theorem fx_X2_153 : fx "ElasticTruss$Truss" 153 [7] 5 := ⟨"ElasticTruss$Member", "ElasticTruss$Member", "length", "I", ⟨Or.inr ⟨_, lw_n q2963 rfl⟩, Or.inl rfl⟩, fx_c (r := (RX8, TX8, 6)) (Nat.le_of_ble_eq_true rfl) rfl (Nat.le_of_ble_eq_true rfl) rfl rfl rfl (fx_0)⟩
theorem nx_X2_4 : nx "ElasticTruss$Truss" 4 1 9 [.int 0, .int 0, .int 0, .null, .null, .null, .null, .int 0, .null] := ⟨(Nat.le_of_ble_eq_true rfl), rfl, RX2, TX2, tyX2, rfl, rfl, q2469, q182, q103, by
  intro j hj
  match j, hj with
  | 0, _ => rfl
  | 1, _ => rfl
  | 2, _ => rfl
  | 3, _ => rfl
  | 4, _ => rfl
  | 5, _ => rfl
  | 6, _ => rfl
  | 7, _ => rfl
  | 8, _ => rfl
  | j + 9, hj => omega⟩
theorem fx_X2_45 : fx "ElasticTruss$Truss" 45 [1] 0 := ⟨"ElasticTruss$Truss", "ElasticTruss$Truss", "modulus", "I", ⟨Or.inl q610, Or.inl rfl⟩, fx_c (r := (RX2, TX2, 9)) (Nat.le_of_ble_eq_true rfl) rfl (Nat.le_of_ble_eq_true rfl) rfl rfl rfl (fx_0)⟩
theorem fx_X2_49 : fx "ElasticTruss$Truss" 49 [1] 1 := ⟨"ElasticTruss$Truss", "ElasticTruss$Truss", "strength", "I", ⟨Or.inl q612, Or.inl rfl⟩, fx_c (r := (RX2, TX2, 9)) (Nat.le_of_ble_eq_true rfl) rfl (Nat.le_of_ble_eq_true rfl) rfl rfl rfl (fx_0)⟩
theorem fx_X2_52 : fx "ElasticTruss$Truss" 52 [1] 2 := ⟨"ElasticTruss$Truss", "ElasticTruss$Truss", "sweeps", "I", ⟨Or.inl q613, Or.inl rfl⟩, fx_c (r := (RX2, TX2, 9)) (Nat.le_of_ble_eq_true rfl) rfl (Nat.le_of_ble_eq_true rfl) rfl rfl rfl (fx_0)⟩
theorem fx_X2_41 : fx "ElasticTruss$Truss" 41 [1] 5 := ⟨"ElasticTruss$Truss", "ElasticTruss$Truss", "buckling", "LElasticTruss$Quantity;", ⟨Or.inl q622, Or.inl rfl⟩, fx_c (r := (RX2, TX2, 9)) (Nat.le_of_ble_eq_true rfl) rfl (Nat.le_of_ble_eq_true rfl) rfl rfl rfl (fx_0)⟩
theorem fx_X2_60 : fx "ElasticTruss$Truss" 60 [1] 7 := ⟨"ElasticTruss$Truss", "ElasticTruss$Truss", "groupCount", "I", ⟨Or.inl q627, Or.inl rfl⟩, fx_c (r := (RX2, TX2, 9)) (Nat.le_of_ble_eq_true rfl) rfl (Nat.le_of_ble_eq_true rfl) rfl rfl rfl (fx_0)⟩
theorem px_X2_60 : px "ElasticTruss$Truss" 60 [1] 7 (.int) false := ⟨"ElasticTruss$Truss", "ElasticTruss$Truss", "groupCount", "I", ⟨Or.inl q627, Or.inl rfl⟩, px_c (r := (RX2, TX2, 9)) (Nat.le_of_ble_eq_true rfl) rfl (Nat.le_of_ble_eq_true rfl) rfl (px_0), by decide +kernel, fun h => by cases h⟩
theorem cx_X2_63_15 : cxF "ElasticTruss$Truss" "java/util/LinkedHashMap" 63 ⟨"java/util/Map", "putAll", "(Ljava/util/Map;)V"⟩ yJ18_putAll cJ18_putAll 2 (Option.none : Option FieldType) 1 := ⟨q2476, by decide +kernel, q2479, q2481, q124, q2483, fun sig h => by have e := (show (parseMethodDescriptor (⟨"java/util/Map", "putAll", "(Ljava/util/Map;)V"⟩ : MethodName).desc).map (fun d => d.parameters.length) = some 1 by decide +kernel); rw [h] at e; exact (Option.some.inj e).symm⟩
set_option maxHeartbeats 4000000 in
theorem mt_X2_init_2 {E : Ev} {l : Launch} (hl : l.stackTraces = false) {p0 : Option Nat} {p1 : Int32} {p2 : Int32} {p3 : Int32} {σ : Hs} {σ' : Hs} (hf : fn_X2_init_2 E.2.2.1 p0 p1 p2 p3 σ = some σ') : wk_M E l yX2_init_2 (ws_ yX2_init_2 cX2_init_2 4 (Option.none : Option FieldType)) 4 3132 [vR p0, vI p1, vI p2, vI p3] σ (.inl none) σ' := by
  refine wk_start (by decide +kernel) hl (Nat.le_of_ble_eq_true rfl) (fun K C hK => ?_)
  subst hK
  refine wk_L (L' := [(0, vR p0), (1, vI p1), (2, vI p2), (3, vI p3)]) rfl ?_
  unfold fn_X2_init_2 at hf
  refine wk_aload_n C 0 rfl dX2_init_2_0 ?_
  obtain ⟨b1, h_b1, hf⟩ := ho_b hf
  refine wk_objI C h_b1 q189 q179 q180 (Nat.le_of_ble_eq_true rfl) (Nat.le_of_ble_eq_true rfl) dX2_init_2_1 ?_
  refine wk_aload_n C 0 rfl dX2_init_2_4 ?_
  obtain ⟨v2, σ3, h_σ3, hf⟩ := ho_e2 hf
  refine wk_new C nx_X2_14 h_σ3 dX2_init_2_5 ?_
  refine wk_dup C rfl dX2_init_2_8 ?_
  refine wk_bipush (v := 8) C dX2_init_2_9 rfl ?_
  obtain ⟨b4, h_b4, hf⟩ := ho_b hf
  obtain ⟨σ5, h_σ5, hf⟩ := ho_b hf
  refine wk_callI (av := [vI (8 : Int32)]) (rest := [vR v2, vR p0]) C cx_X2_16 h_b4 (mt_J2_init (wk_C.tr C) h_σ5) rfl (Nat.le_of_ble_eq_true rfl) (Nat.le_of_ble_eq_true rfl) (Nat.le_of_ble_eq_true rfl) dX2_init_2_11 ?_
  obtain ⟨σ6, h_σ6, hf⟩ := ho_b hf
  refine wk_putR C px_X2_19 (Or.inl ⟨_, rfl⟩) (fun q => by cases q) h_σ6 dX2_init_2_14 ?_
  refine wk_aload_n C 0 rfl dX2_init_2_17 ?_
  obtain ⟨v7, σ8, h_σ8, hf⟩ := ho_e2 hf
  refine wk_new C nx_X2_14 h_σ8 dX2_init_2_18 ?_
  refine wk_dup C rfl dX2_init_2_21 ?_
  refine wk_iconst (v := 4) C dX2_init_2_22 rfl ?_
  obtain ⟨b9, h_b9, hf⟩ := ho_b hf
  obtain ⟨σ10, h_σ10, hf⟩ := ho_b hf
  refine wk_callI (av := [vI (4 : Int32)]) (rest := [vR v7, vR p0]) C cx_X2_16 h_b9 (mt_J2_init (wk_C.tr C) h_σ10) rfl (Nat.le_of_ble_eq_true rfl) (Nat.le_of_ble_eq_true rfl) (Nat.le_of_ble_eq_true rfl) dX2_init_2_23 ?_
  obtain ⟨σ11, h_σ11, hf⟩ := ho_b hf
  refine wk_putR C px_X2_23 (Or.inl ⟨_, rfl⟩) (fun q => by cases q) h_σ11 dX2_init_2_26 ?_
  refine wk_aload_n C 0 rfl dX2_init_2_29 ?_
  refine wk_iconst (v := 5) C dX2_init_2_30 rfl ?_
  obtain ⟨v12, σ13, h_σ13, hf⟩ := ho_e2 hf
  refine wk_newaI C q606 h_σ13 dX2_init_2_31 ?_
  obtain ⟨σ14, h_σ14, hf⟩ := ho_b hf
  refine wk_putR C px_X2_26 (Or.inr ⟨_, rfl⟩) (fun q => by cases q) h_σ14 dX2_init_2_33 ?_
  refine wk_aload_n C 0 rfl dX2_init_2_36 ?_
  obtain ⟨v15, σ16, h_σ16, hf⟩ := ho_e2 hf
  refine wk_new C nx_X2_30 h_σ16 dX2_init_2_37 ?_
  refine wk_dup C rfl dX2_init_2_40 ?_
  obtain ⟨b17, h_b17, hf⟩ := ho_b hf
  obtain ⟨σ18, h_σ18, hf⟩ := ho_b hf
  refine wk_callI (av := []) (rest := [vR v15, vR p0]) C cx_X2_32 h_b17 (mt_J19_init (wk_C.tr C) h_σ18) rfl (Nat.le_of_ble_eq_true rfl) (Nat.le_of_ble_eq_true rfl) (Nat.le_of_ble_eq_true rfl) dX2_init_2_41 ?_
  obtain ⟨σ19, h_σ19, hf⟩ := ho_b hf
  refine wk_putR C px_X2_33 (Or.inl ⟨_, rfl⟩) (fun _ => rfl) h_σ19 dX2_init_2_44 ?_
  refine wk_aload_n C 0 rfl dX2_init_2_47 ?_
  refine wk_lamC C (i := 0) (j := 110) rfl rfl rfl rfl rfl (show 1 + 3072 ≤ 3132 from by omega) dX2_init_2_48 ?_
  obtain ⟨σ20, h_σ20, hf⟩ := ho_b hf
  refine wk_putR C px_X2_41 (Or.inl ⟨_, rfl⟩) (fun q => by cases q) h_σ20 dX2_init_2_53 ?_
  refine wk_aload_n C 0 rfl dX2_init_2_56 ?_
  refine wk_iload_n C 1 rfl dX2_init_2_57 ?_
  obtain ⟨σ21, h_σ21, hf⟩ := ho_b hf
  refine wk_putI C px_X2_45 (fun _ => rfl) h_σ21 dX2_init_2_58 ?_
  refine wk_aload_n C 0 rfl dX2_init_2_61 ?_
  refine wk_iload_n C 2 rfl dX2_init_2_62 ?_
  obtain ⟨σ22, h_σ22, hf⟩ := ho_b hf
  refine wk_putI C px_X2_49 (fun _ => rfl) h_σ22 dX2_init_2_63 ?_
  refine wk_aload_n C 0 rfl dX2_init_2_66 ?_
  refine wk_iload_n C 3 rfl dX2_init_2_67 ?_
  obtain ⟨σ23, h_σ23, hf⟩ := ho_b hf
  refine wk_putI C px_X2_52 (fun _ => rfl) h_σ23 dX2_init_2_68 ?_
  obtain rfl := Option.some.inj hf
  exact wk_vret C rfl rfl dX2_init_2_71
set_option maxHeartbeats 4000000 in
theorem mt_X2_init {E : Ev} {l : Launch} (hl : l.stackTraces = false) {p0 : Option Nat} {σ : Hs} {σ' : Hs} (hf : fn_X2_init E.2.2.1 p0 σ = some σ') : wk_M E l yX2_init (ws_ yX2_init cX2_init 1 (Option.none : Option FieldType)) 5 3155 [vR p0] σ (.inl none) σ' := by
  refine wk_start (by decide +kernel) hl (Nat.le_of_ble_eq_true rfl) (fun K C hK => ?_)
  subst hK
  refine wk_L (L' := [(0, vR p0)]) rfl ?_
  unfold fn_X2_init at hf
  refine wk_aload_n C 0 rfl dX2_init_0 ?_
  refine wk_iconst (v := 0) C dX2_init_1 rfl ?_
  refine wk_iconst (v := 0) C dX2_init_2 rfl ?_
  refine wk_iconst (v := 0) C dX2_init_3 rfl ?_
  obtain ⟨b1, h_b1, hf⟩ := ho_b hf
  obtain ⟨σ2, h_σ2, hf⟩ := ho_b hf
  refine wk_callI (av := [vI (0 : Int32), vI (0 : Int32), vI (0 : Int32)]) (rest := []) C cx_X2_3 h_b1 (mt_X2_init_2 (wk_C.tr C) h_σ2) rfl (Nat.le_of_ble_eq_true rfl) (Nat.le_of_ble_eq_true rfl) (Nat.le_of_ble_eq_true rfl) dX2_init_4 ?_
  obtain rfl := Option.some.inj hf
  exact wk_vret C rfl rfl dX2_init_7
set_option maxHeartbeats 4000000 in
theorem mt_X2_join {E : Ev} {l : Launch} (hl : l.stackTraces = false) {p0 : Option Nat} {p1 : Int32} {p2 : Int32} {p3 : Int32} {σ : Hs} {σ' : Hs} (hf : fn_X2_join E.2.2.1 p0 p1 p2 p3 σ = some σ') : wk_M E l yX2_join (ws_ yX2_join cX2_join 6 (Option.none : Option FieldType)) 6 139 [vR p0, vI p1, vI p2, vI p3] σ (.inl none) σ' := by
  refine wk_start (by decide +kernel) hl (Nat.le_of_ble_eq_true rfl) (fun K C hK => ?_)
  subst hK
  refine wk_L (L' := [(0, vR p0), (1, vI p1), (2, vI p2), (3, vI p3)]) rfl ?_
  unfold fn_X2_join at hf
  refine wk_aload_n C 0 rfl dX2_join_0 ?_
  obtain ⟨v1, h_v1, hf⟩ := ho_b hf
  refine wk_getR C fx_X2_19 h_v1 dX2_join_1 ?_
  refine wk_iload_n C 1 rfl dX2_join_4 ?_
  obtain ⟨b2, h_b2, hf⟩ := ho_b hf
  obtain ⟨v4, σ3, h_σ3, hf⟩ := ho_e2 hf
  refine wk_callF (av := [vI p1]) (rest := []) (rv := some (vR v4)) C h_b2 rx_13 cx_X2_69_13 (mt_J2_get (wk_C.tr C) h_σ3) rfl rfl (Nat.le_of_ble_eq_true rfl) (Nat.le_of_ble_eq_true rfl) (Nat.le_of_ble_eq_true rfl) dX2_join_5 ?_
  obtain ⟨u5, h_u5, hf⟩ := ho_b hf
  refine wk_cast C q2935 (List.forall_mem_cons.mpr ⟨ax_same rx_5 (Nat.le_of_ble_eq_true rfl), (List.forall_mem_nil _)⟩) h_u5 dX2_join_10 ?_
  refine wk_astore (L' := [(0, vR p0), (1, vI p1), (2, vI p2), (3, vI p3), (4, vR v4)]) C (by decide) rfl dX2_join_13 ?_
  refine wk_aload_n C 0 rfl dX2_join_15 ?_
  obtain ⟨v6, h_v6, hf⟩ := ho_b hf
  refine wk_getR C fx_X2_19 h_v6 dX2_join_16 ?_
  refine wk_iload_n C 2 rfl dX2_join_19 ?_
  obtain ⟨b7, h_b7, hf⟩ := ho_b hf
  obtain ⟨v9, σ8, h_σ8, hf⟩ := ho_e2 hf
  refine wk_callF (av := [vI p2]) (rest := []) (rv := some (vR v9)) C h_b7 rx_13 cx_X2_69_13 (mt_J2_get (wk_C.tr C) h_σ8) rfl rfl (Nat.le_of_ble_eq_true rfl) (Nat.le_of_ble_eq_true rfl) (Nat.le_of_ble_eq_true rfl) dX2_join_20 ?_
  obtain ⟨u10, h_u10, hf⟩ := ho_b hf
  refine wk_cast C q2935 (List.forall_mem_cons.mpr ⟨ax_same rx_5 (Nat.le_of_ble_eq_true rfl), (List.forall_mem_nil _)⟩) h_u10 dX2_join_25 ?_
  refine wk_astore (L' := [(0, vR p0), (1, vI p1), (2, vI p2), (3, vI p3), (4, vR v4), (5, vR v9)]) C (by decide) rfl dX2_join_28 ?_
  refine wk_aload_n C 0 rfl dX2_join_30 ?_
  obtain ⟨v11, h_v11, hf⟩ := ho_b hf
  refine wk_getR C fx_X2_33 h_v11 dX2_join_31 ?_
  obtain ⟨v12, σ13, h_σ13, hf⟩ := ho_e2 hf
  refine wk_new C nx_X2_77 h_σ13 dX2_join_34 ?_
  refine wk_dup C rfl dX2_join_37 ?_
  refine wk_iload_n C 1 rfl dX2_join_38 ?_
  refine wk_iload_n C 2 rfl dX2_join_39 ?_
  obtain ⟨b14, h_b14, hf⟩ := ho_b hf
  obtain ⟨σ15, h_σ15, hf⟩ := ho_b hf
  refine wk_callI (av := [vI p1, vI p2]) (rest := [vR v12, vR v11]) C cx_X2_79 h_b14 (mt_X7_init (wk_C.tr C) h_σ15) rfl (Nat.le_of_ble_eq_true rfl) (Nat.le_of_ble_eq_true rfl) (Nat.le_of_ble_eq_true rfl) dX2_join_40 ?_
  obtain ⟨v16, σ17, h_σ17, hf⟩ := ho_e2 hf
  refine wk_new C nx_X2_82 h_σ17 dX2_join_43 ?_
  refine wk_dup C rfl dX2_join_46 ?_
  refine wk_iload_n C 1 rfl dX2_join_47 ?_
  refine wk_iload_n C 2 rfl dX2_join_48 ?_
  refine wk_iload_n C 3 rfl dX2_join_49 ?_
  refine wk_aload C 5 rfl dX2_join_50 ?_
  obtain ⟨v18, h_v18, hf⟩ := ho_b hf
  refine wk_getI C fx_X2_84 h_v18 dX2_join_52 ?_
  refine wk_aload C 4 rfl dX2_join_55 ?_
  obtain ⟨v19, h_v19, hf⟩ := ho_b hf
  refine wk_getI C fx_X2_84 h_v19 dX2_join_57 ?_
  refine wk_isub C dX2_join_60 ?_
  refine wk_aload C 5 rfl dX2_join_61 ?_
  obtain ⟨v20, h_v20, hf⟩ := ho_b hf
  refine wk_getI C fx_X2_87 h_v20 dX2_join_63 ?_
  refine wk_aload C 4 rfl dX2_join_66 ?_
  obtain ⟨v21, h_v21, hf⟩ := ho_b hf
  refine wk_getI C fx_X2_87 h_v21 dX2_join_68 ?_
  refine wk_isub C dX2_join_71 ?_
  obtain ⟨b22, h_b22, hf⟩ := ho_b hf
  obtain ⟨σ23, h_σ23, hf⟩ := ho_b hf
  refine wk_callI (av := [vI p1, vI p2, vI p3, vI (v18 - v19), vI (v20 - v21)]) (rest := [vR v16, vR v12, vR v11]) C cx_X2_90 h_b22 (mt_X8_init (wk_C.tr C) h_σ23) rfl (Nat.le_of_ble_eq_true rfl) (Nat.le_of_ble_eq_true rfl) (Nat.le_of_ble_eq_true rfl) dX2_join_72 ?_
  obtain ⟨b24, h_b24, hf⟩ := ho_b hf
  obtain ⟨v26, σ25, h_σ25, hf⟩ := ho_e2 hf
  refine wk_callF (av := [vR v12, vR v16]) (rest := []) (rv := some (vR v26)) C h_b24 rx_15 cx_X2_93_15 (mt_J18_put (wk_C.tr C) h_σ25) rfl rfl (Nat.le_of_ble_eq_true rfl) (Nat.le_of_ble_eq_true rfl) (Nat.le_of_ble_eq_true rfl) dX2_join_75 ?_
  refine wk_pop C rfl dX2_join_80 ?_
  obtain rfl := Option.some.inj hf
  exact wk_vret C rfl rfl dX2_join_81
set_option maxHeartbeats 4000000 in
theorem mt_X2_isJoined {E : Ev} {l : Launch} (hl : l.stackTraces = false) {p0 : Option Nat} {p1 : Int32} {p2 : Int32} {σ : Hs} {r : Int32} {σ' : Hs} (hf : fn_X2_isJoined p0 p1 p2 σ = some (r, σ')) : wk_M E l yX2_isJoined (ws_ yX2_isJoined cX2_isJoined 3 (Option.some FieldType.boolean)) 4 89 [vR p0, vI p1, vI p2] σ (.inl (some (.int r))) σ' := by
  refine wk_start (by decide +kernel) hl (Nat.le_of_ble_eq_true rfl) (fun K C hK => ?_)
  subst hK
  refine wk_L (L' := [(0, vR p0), (1, vI p1), (2, vI p2)]) rfl ?_
  unfold fn_X2_isJoined at hf
  refine wk_aload_n C 0 rfl dX2_isJoined_0 ?_
  obtain ⟨v1, h_v1, hf⟩ := ho_b hf
  refine wk_getR C fx_X2_33 h_v1 dX2_isJoined_1 ?_
  obtain ⟨v2, σ3, h_σ3, hf⟩ := ho_e2 hf
  refine wk_new C nx_X2_77 h_σ3 dX2_isJoined_4 ?_
  refine wk_dup C rfl dX2_isJoined_7 ?_
  refine wk_iload_n C 1 rfl dX2_isJoined_8 ?_
  refine wk_iload_n C 2 rfl dX2_isJoined_9 ?_
  obtain ⟨b4, h_b4, hf⟩ := ho_b hf
  obtain ⟨σ5, h_σ5, hf⟩ := ho_b hf
  refine wk_callI (av := [vI p1, vI p2]) (rest := [vR v2, vR v1]) C cx_X2_79 h_b4 (mt_X7_init (wk_C.tr C) h_σ5) rfl (Nat.le_of_ble_eq_true rfl) (Nat.le_of_ble_eq_true rfl) (Nat.le_of_ble_eq_true rfl) dX2_isJoined_10 ?_
  obtain ⟨b6, h_b6, hf⟩ := ho_b hf
  obtain ⟨v8, σ7, h_σ7, hf⟩ := ho_e2 hf
  refine wk_callF (av := [vR v2]) (rest := []) (rv := some (vI v8)) C h_b6 rx_15 cx_X2_97_15 (mt_J18_containsKey (wk_C.tr C) h_σ7) rfl rfl (Nat.le_of_ble_eq_true rfl) (Nat.le_of_ble_eq_true rfl) (Nat.le_of_ble_eq_true rfl) dX2_isJoined_13 ?_
  obtain ⟨v9, h_v9, hf⟩ := ho_b hf
  obtain ⟨rfl, rfl⟩ := Prod.mk.inj (Option.some.inj hf)
  exact wk_zret C h_v9 rfl rfl dX2_isJoined_18
set_option maxHeartbeats 4000000 in
theorem wb_X2_row_b30 {E : Ev} {K : Kx} (C : wk_C E K yX2_row cX2_row 5 (Option.some (FieldType.array (FieldType.object "ElasticTruss$Member"))) 5 96 []) {r : Option Nat} {σ' : Hs} : ∀ (n : Nat) (l1 : Option Nat) (l2 : Int32) (l3 : Option Nat) (σ : Hs), fn_X2_row_b30 n l1 l2 l3 σ = some (r, σ') → wk_V E K (.inl (some (va_rf r))) σ' σ 30 [(1, vR l1), (2, vI l2), (3, vR l3)] [] := by
  intro n
  induction n with
  | zero =>
    intro l1 l2 l3 σ hf
    rw [fn_X2_row_b30] at hf
    cases hf
  | succ n ih =>
    intro l1 l2 l3 σ hf
    rw [fn_X2_row_b30] at hf
    refine wk_aload_n C 2 rfl dX2_row_30 ?_
    obtain ⟨b1, h_b1, hf⟩ := ho_b hf
    obtain ⟨v3, σ2, h_σ2, hf⟩ := ho_e2 hf
    refine wk_callF (av := []) (rest := []) (rv := some (vI v3)) C h_b1 rx_22 cx_X2_115_22 (mt_J35_hasNext (wk_C.tr C) h_σ2) rfl rfl (Nat.le_of_ble_eq_true rfl) (Nat.le_of_ble_eq_true rfl) (Nat.le_of_ble_eq_true rfl) dX2_row_31 ?_
    refine wk_if_eq C 61 (by decide) dX2_row_36 (fun c_ => ?_) (fun c_ => ?_)
    · rw [if_pos c_] at hf
      refine wk_aload_n C 0 rfl dX2_row_61 ?_
      obtain ⟨rfl, rfl⟩ := Prod.mk.inj (Option.some.inj hf)
      exact wk_aret C (Or.inr ⟨_, rfl⟩) rfl rfl dX2_row_62
    · rw [if_neg c_] at hf
      refine wk_aload_n C 2 rfl dX2_row_39 ?_
      obtain ⟨b4, h_b4, hf⟩ := ho_b hf
      obtain ⟨v6, σ5, h_σ5, hf⟩ := ho_e2 hf
      refine wk_callF (av := []) (rest := []) (rv := some (vR v6)) C h_b4 rx_22 cx_X2_121_22 (mt_J38_next (wk_C.tr C) h_σ5) rfl rfl (Nat.le_of_ble_eq_true rfl) (Nat.le_of_ble_eq_true rfl) (Nat.le_of_ble_eq_true rfl) dX2_row_40 ?_
      obtain ⟨u7, h_u7, hf⟩ := ho_b hf
      refine wk_cast C q1099 (List.forall_mem_cons.mpr ⟨ax_same rx_7 (Nat.le_of_ble_eq_true rfl), (List.forall_mem_nil _)⟩) h_u7 dX2_row_45 ?_
      refine wk_astore (L' := [(1, vR l1), (2, vI l2), (3, vR l3), (4, vR v6)]) C (by decide) rfl dX2_row_48 ?_
      refine wk_aload_n C 0 rfl dX2_row_50 ?_
      refine wk_iload_n C 1 rfl dX2_row_51 ?_
      refine wk_aload C 3 rfl dX2_row_52 ?_
      obtain ⟨σ8, h_σ8, hf⟩ := ho_b hf
      refine wk_aast C (Nat.le_of_ble_eq_true rfl) rfl (List.forall_mem_cons.mpr ⟨ax_same rx_7 (Nat.le_of_ble_eq_true rfl), (List.forall_mem_nil _)⟩) h_σ8 dX2_row_54 ?_
      refine wk_iinc (v := l2 + 1) (L' := [(1, vR l1), (2, vI (l2 + 1)), (3, vR l3), (4, vR v6)]) C 1 rfl (by decide) rfl rfl dX2_row_55 ?_
      refine wk_goto C 30 (by decide) dX2_row_58 ?_
      refine wk_sub (L' := [(1, vR l1), (2, vI (l2 + 1)), (3, vR l3)]) [0, 1, 2] rfl ?_
      exact ih _ _ _ _ hf
set_option maxHeartbeats 4000000 in
theorem mt_X2_row {E : Ev} {l : Launch} (hl : l.stackTraces = false) {p0 : Option Nat} {σ : Hs} {r : Option Nat} {σ' : Hs} (hf : fn_X2_row p0 σ = some (r, σ')) : wk_M E l yX2_row (ws_ yX2_row cX2_row 5 (Option.some (FieldType.array (FieldType.object "ElasticTruss$Member")))) 5 96 [vR p0] σ (.inl (some (va_rf r))) σ' := by
  refine wk_start (by decide +kernel) hl (Nat.le_of_ble_eq_true rfl) (fun K C hK => ?_)
  subst hK
  refine wk_L (L' := [(0, vR p0)]) rfl ?_
  unfold fn_X2_row at hf
  refine wk_aload_n C 0 rfl dX2_row_0 ?_
  obtain ⟨v9, h_v9, hf⟩ := ho_b hf
  refine wk_getR C fx_X2_33 h_v9 dX2_row_1 ?_
  obtain ⟨b10, h_b10, hf⟩ := ho_b hf
  obtain ⟨v12, σ11, h_σ11, hf⟩ := ho_e2 hf
  refine wk_callF (av := []) (rest := []) (rv := some (vI v12)) C h_b10 rx_15 cx_X2_101_15 (mt_J18_size (wk_C.tr C) h_σ11) rfl rfl (Nat.le_of_ble_eq_true rfl) (Nat.le_of_ble_eq_true rfl) (Nat.le_of_ble_eq_true rfl) dX2_row_4 ?_
  obtain ⟨v13, σ14, h_σ14, hf⟩ := ho_e2 hf
  refine wk_anew C (k := 4) (Nat.le_of_ble_eq_true rfl) rfl q1099 (by decide +kernel) h_σ14 dX2_row_9 ?_
  refine wk_astore_n (L' := [(0, vR p0), (1, vR v13)]) C (by decide) rfl dX2_row_12 ?_
  refine wk_iconst (v := 0) C dX2_row_13 rfl ?_
  refine wk_istore_n (L' := [(0, vR p0), (1, vR v13), (2, vI (0 : Int32))]) C (by decide) rfl dX2_row_14 ?_
  refine wk_aload_n C 0 rfl dX2_row_15 ?_
  obtain ⟨v15, h_v15, hf⟩ := ho_b hf
  refine wk_getR C fx_X2_33 h_v15 dX2_row_16 ?_
  obtain ⟨b16, h_b16, hf⟩ := ho_b hf
  obtain ⟨v18, σ17, h_σ17, hf⟩ := ho_e2 hf
  refine wk_callF (av := []) (rest := []) (rv := some (vR v18)) C h_b16 rx_15 cx_X2_105_15 (mt_J19_values (wk_C.tr C) h_σ17) rfl rfl (Nat.le_of_ble_eq_true rfl) (Nat.le_of_ble_eq_true rfl) (Nat.le_of_ble_eq_true rfl) dX2_row_19 ?_
  obtain ⟨b19, h_b19, hf⟩ := ho_b hf
  obtain ⟨v21, σ20, h_σ20, hf⟩ := ho_e2 hf
  refine wk_callF (av := []) (rest := []) (rv := some (vR v21)) C h_b19 rx_18 cx_X2_109_18 (mt_J31_iterator (wk_C.tr C) h_σ20) rfl rfl (Nat.le_of_ble_eq_true rfl) (Nat.le_of_ble_eq_true rfl) (Nat.le_of_ble_eq_true rfl) dX2_row_24 ?_
  refine wk_astore_n (L' := [(0, vR p0), (1, vR v13), (2, vI (0 : Int32)), (3, vR v21)]) C (by decide) rfl dX2_row_29 ?_
  refine wk_sub (L' := [(1, vR v13), (2, vI (0 : Int32)), (3, vR v21)]) [1, 2, 3] rfl ?_
  exact wb_X2_row_b30 C  _ _ _ _ _ hf
set_option maxHeartbeats 4000000 in
theorem mt_X2_remove {E : Ev} {l : Launch} (hl : l.stackTraces = false) {p0 : Option Nat} {p1 : Option Nat} {σ : Hs} {σ' : Hs} (hf : fn_X2_remove p0 p1 σ = some σ') : wk_M E l yX2_remove (ws_ yX2_remove cX2_remove 2 (Option.none : Option FieldType)) 3 79 [vR p0, vR p1] σ (.inl none) σ' := by
  refine wk_start (by decide +kernel) hl (Nat.le_of_ble_eq_true rfl) (fun K C hK => ?_)
  subst hK
  refine wk_L (L' := [(0, vR p0), (1, vR p1)]) rfl ?_
  unfold fn_X2_remove at hf
  refine wk_aload_n C 0 rfl dX2_remove_0 ?_
  obtain ⟨v1, h_v1, hf⟩ := ho_b hf
  refine wk_getR C fx_X2_33 h_v1 dX2_remove_1 ?_
  obtain ⟨v2, σ3, h_σ3, hf⟩ := ho_e2 hf
  refine wk_new C nx_X2_77 h_σ3 dX2_remove_4 ?_
  refine wk_dup C rfl dX2_remove_7 ?_
  refine wk_aload_n C 1 rfl dX2_remove_8 ?_
  obtain ⟨v4, h_v4, hf⟩ := ho_b hf
  refine wk_getI C fx_X2_124 h_v4 dX2_remove_9 ?_
  refine wk_aload_n C 1 rfl dX2_remove_12 ?_
  obtain ⟨v5, h_v5, hf⟩ := ho_b hf
  refine wk_getI C fx_X2_127 h_v5 dX2_remove_13 ?_
  obtain ⟨b6, h_b6, hf⟩ := ho_b hf
  obtain ⟨σ7, h_σ7, hf⟩ := ho_b hf
  refine wk_callI (av := [vI v4, vI v5]) (rest := [vR v2, vR v1]) C cx_X2_79 h_b6 (mt_X7_init (wk_C.tr C) h_σ7) rfl (Nat.le_of_ble_eq_true rfl) (Nat.le_of_ble_eq_true rfl) (Nat.le_of_ble_eq_true rfl) dX2_remove_16 ?_
  obtain ⟨b8, h_b8, hf⟩ := ho_b hf
  obtain ⟨v10, σ9, h_σ9, hf⟩ := ho_e2 hf
  refine wk_callF (av := [vR v2]) (rest := []) (rv := some (vR v10)) C h_b8 rx_15 cx_X2_130_15 (mt_J18_remove (wk_C.tr C) h_σ9) rfl rfl (Nat.le_of_ble_eq_true rfl) (Nat.le_of_ble_eq_true rfl) (Nat.le_of_ble_eq_true rfl) dX2_remove_19 ?_
  refine wk_pop C rfl dX2_remove_24 ?_
  obtain rfl := Option.some.inj hf
  exact wk_vret C rfl rfl dX2_remove_25
set_option maxHeartbeats 4000000 in
theorem wb_X2_countStages_b12 {E : Ev} {K : Kx} (C : wk_C E K yX2_countStages cX2_countStages 4 (Option.some FieldType.int) 3 53 []) {r : Int32} {σ' : Hs} : ∀ (n : Nat) (l1 : Int32) (l2 : Option Nat) (σ : Hs), fn_X2_countStages_b12 n l1 l2 σ = some (r, σ') → wk_V E K (.inl (some (.int r))) σ' σ 12 [(1, vI l1), (2, vR l2)] [] := by
  intro n
  induction n with
  | zero =>
    intro l1 l2 σ hf
    rw [fn_X2_countStages_b12] at hf
    cases hf
  | succ n ih =>
    intro l1 l2 σ hf
    rw [fn_X2_countStages_b12] at hf
    refine wk_aload_n C 1 rfl dX2_countStages_12 ?_
    obtain ⟨b1, h_b1, hf⟩ := ho_b hf
    obtain ⟨v3, σ2, h_σ2, hf⟩ := ho_e2 hf
    refine wk_callF (av := []) (rest := []) (rv := some (vI v3)) C h_b1 rx_14 cx_X2_115_14 (mt_J21_hasNext (wk_C.tr C) h_σ2) rfl rfl (Nat.le_of_ble_eq_true rfl) (Nat.le_of_ble_eq_true rfl) (Nat.le_of_ble_eq_true rfl) dX2_countStages_13 ?_
    refine wk_if_eq C 45 (by decide) dX2_countStages_18 (fun c_ => ?_) (fun c_ => ?_)
    · rw [if_pos c_] at hf
      refine wk_iload_n C 0 rfl dX2_countStages_45 ?_
      obtain ⟨rfl, rfl⟩ := Prod.mk.inj (Option.some.inj hf)
      exact wk_iret C rfl rfl dX2_countStages_46
    · rw [if_neg c_] at hf
      refine wk_aload_n C 1 rfl dX2_countStages_21 ?_
      obtain ⟨b4, h_b4, hf⟩ := ho_b hf
      obtain ⟨v6, σ5, h_σ5, hf⟩ := ho_e2 hf
      refine wk_callF (av := []) (rest := []) (rv := some (vR v6)) C h_b4 rx_14 cx_X2_121_14 (mt_J21_next (wk_C.tr C) h_σ5) rfl rfl (Nat.le_of_ble_eq_true rfl) (Nat.le_of_ble_eq_true rfl) (Nat.le_of_ble_eq_true rfl) dX2_countStages_22 ?_
      obtain ⟨u7, h_u7, hf⟩ := ho_b hf
      refine wk_cast C q876 (List.forall_mem_cons.mpr ⟨ax_same rx_8 (Nat.le_of_ble_eq_true rfl), (List.forall_mem_nil _)⟩) h_u7 dX2_countStages_27 ?_
      refine wk_astore_n (L' := [(1, vI l1), (2, vR l2), (3, vR v6)]) C (by decide) rfl dX2_countStages_30 ?_
      refine wk_iload_n C 0 rfl dX2_countStages_31 ?_
      refine wk_aload_n C 2 rfl dX2_countStages_32 ?_
      obtain ⟨b8, h_b8, hf⟩ := ho_b hf
      obtain ⟨v10, σ9, h_σ9, hf⟩ := ho_e2 hf
      refine wk_callV (av := []) (rest := [vI l1]) (rv := some (vI v10)) C h_b8 rx_8 cx_X2_137 (mt_X9_stage (wk_C.tr C) h_σ9) rfl rfl (Nat.le_of_ble_eq_true rfl) (Nat.le_of_ble_eq_true rfl) (Nat.le_of_ble_eq_true rfl) dX2_countStages_33 ?_
      refine wk_iconst (v := 1) C dX2_countStages_36 rfl ?_
      refine wk_iadd C dX2_countStages_37 ?_
      obtain ⟨v12, σ11, h_σ11, hf⟩ := ho_e2 hf
      refine wk_callS (av := [vI l1, vI (v10 + (1 : Int32))]) (rest := []) (rv := some (vI v12)) C cx_X2_140 (mt_J12_max (wk_C.tr C) h_σ11) rfl rfl (Nat.le_of_ble_eq_true rfl) (Nat.le_of_ble_eq_true rfl) (Nat.le_of_ble_eq_true rfl) dX2_countStages_38 ?_
      refine wk_istore_n (L' := [(1, vI v12), (2, vR l2), (3, vR v6)]) C (by decide) rfl dX2_countStages_41 ?_
      refine wk_goto C 12 (by decide) dX2_countStages_42 ?_
      refine wk_sub (L' := [(1, vI v12), (2, vR l2)]) [0, 1] rfl ?_
      exact ih _ _ _ hf
set_option maxHeartbeats 4000000 in
theorem mt_X2_countStages {E : Ev} {l : Launch} (hl : l.stackTraces = false) {p0 : Option Nat} {σ : Hs} {r : Int32} {σ' : Hs} (hf : fn_X2_countStages p0 σ = some (r, σ')) : wk_M E l yX2_countStages (ws_ yX2_countStages cX2_countStages 4 (Option.some FieldType.int)) 3 53 [vR p0] σ (.inl (some (.int r))) σ' := by
  refine wk_start (by decide +kernel) hl (Nat.le_of_ble_eq_true rfl) (fun K C hK => ?_)
  subst hK
  refine wk_L (L' := [(0, vR p0)]) rfl ?_
  unfold fn_X2_countStages at hf
  refine wk_iconst (v := 0) C dX2_countStages_0 rfl ?_
  refine wk_istore_n (L' := [(0, vR p0), (1, vI (0 : Int32))]) C (by decide) rfl dX2_countStages_1 ?_
  refine wk_aload_n C 0 rfl dX2_countStages_2 ?_
  obtain ⟨v13, h_v13, hf⟩ := ho_b hf
  refine wk_getR C fx_X2_23 h_v13 dX2_countStages_3 ?_
  obtain ⟨b14, h_b14, hf⟩ := ho_b hf
  obtain ⟨v16, σ15, h_σ15, hf⟩ := ho_e2 hf
  refine wk_callF (av := []) (rest := []) (rv := some (vR v16)) C h_b14 rx_13 cx_X2_134_13 (mt_J2_iterator (wk_C.tr C) h_σ15) rfl rfl (Nat.le_of_ble_eq_true rfl) (Nat.le_of_ble_eq_true rfl) (Nat.le_of_ble_eq_true rfl) dX2_countStages_6 ?_
  refine wk_astore_n (L' := [(0, vR p0), (1, vI (0 : Int32)), (2, vR v16)]) C (by decide) rfl dX2_countStages_11 ?_
  refine wk_sub (L' := [(1, vI (0 : Int32)), (2, vR v16)]) [1, 2] rfl ?_
  exact wb_X2_countStages_b12 C  _ _ _ _ hf
set_option maxHeartbeats 4000000 in
theorem mt_X2_areaOf {E : Ev} {l : Launch} (hl : l.stackTraces = false) {p0 : Option Nat} {p1 : Option Nat} {σ : Hs} {r : Int32} {σ' : Hs} (hf : fn_X2_areaOf p0 p1 σ = some (r, σ')) : wk_M E l yX2_areaOf (ws_ yX2_areaOf cX2_areaOf 2 (Option.some FieldType.int)) 0 0 [vR p0, vR p1] σ (.inl (some (.int r))) σ' := by
  refine wk_start (by decide +kernel) hl (Nat.le_of_ble_eq_true rfl) (fun K C hK => ?_)
  subst hK
  refine wk_L (L' := [(0, vR p0), (1, vR p1)]) rfl ?_
  unfold fn_X2_areaOf at hf
  refine wk_aload_n C 0 rfl dX2_areaOf_0 ?_
  obtain ⟨v1, h_v1, hf⟩ := ho_b hf
  refine wk_getR C fx_X2_26 h_v1 dX2_areaOf_1 ?_
  refine wk_aload_n C 1 rfl dX2_areaOf_4 ?_
  obtain ⟨v2, h_v2, hf⟩ := ho_b hf
  refine wk_getI C fx_X2_146 h_v2 dX2_areaOf_5 ?_
  obtain ⟨v3, h_v3, hf⟩ := ho_b hf
  refine wk_iald C h_v3 dX2_areaOf_8 ?_
  obtain ⟨rfl, rfl⟩ := Prod.mk.inj (Option.some.inj hf)
  exact wk_iret C rfl rfl dX2_areaOf_9
set_option maxHeartbeats 4000000 in
theorem wb_X2_weightOf_b17 {E : Ev} {K : Kx} (C : wk_C E K yX2_weightOf cX2_weightOf 4 (Option.some FieldType.int) 5 96 []) {r : Int32} {σ' : Hs} : ∀ (n : Nat) (l0 : Option Nat) (l1 : Int32) (l2 : Option Nat) (σ : Hs), fn_X2_weightOf_b17 n l0 l1 l2 σ = some (r, σ') → wk_V E K (.inl (some (.int r))) σ' σ 17 [(0, vR l0), (1, vI l1), (2, vR l2)] [] := by
  intro n
  induction n with
  | zero =>
    intro l0 l1 l2 σ hf
    rw [fn_X2_weightOf_b17] at hf
    cases hf
  | succ n ih =>
    intro l0 l1 l2 σ hf
    rw [fn_X2_weightOf_b17] at hf
    refine wk_aload_n C 2 rfl dX2_weightOf_17 ?_
    obtain ⟨b1, h_b1, hf⟩ := ho_b hf
    obtain ⟨v3, σ2, h_σ2, hf⟩ := ho_e2 hf
    refine wk_callF (av := []) (rest := []) (rv := some (vI v3)) C h_b1 rx_22 cx_X2_115_22 (mt_J35_hasNext (wk_C.tr C) h_σ2) rfl rfl (Nat.le_of_ble_eq_true rfl) (Nat.le_of_ble_eq_true rfl) (Nat.le_of_ble_eq_true rfl) dX2_weightOf_18 ?_
    refine wk_if_eq C 52 (by decide) dX2_weightOf_23 (fun c_ => ?_) (fun c_ => ?_)
    · rw [if_pos c_] at hf
      refine wk_iload_n C 1 rfl dX2_weightOf_52 ?_
      obtain ⟨rfl, rfl⟩ := Prod.mk.inj (Option.some.inj hf)
      exact wk_iret C rfl rfl dX2_weightOf_53
    · rw [if_neg c_] at hf
      refine wk_aload_n C 2 rfl dX2_weightOf_26 ?_
      obtain ⟨b4, h_b4, hf⟩ := ho_b hf
      obtain ⟨v6, σ5, h_σ5, hf⟩ := ho_e2 hf
      refine wk_callF (av := []) (rest := []) (rv := some (vR v6)) C h_b4 rx_22 cx_X2_121_22 (mt_J38_next (wk_C.tr C) h_σ5) rfl rfl (Nat.le_of_ble_eq_true rfl) (Nat.le_of_ble_eq_true rfl) (Nat.le_of_ble_eq_true rfl) dX2_weightOf_27 ?_
      obtain ⟨u7, h_u7, hf⟩ := ho_b hf
      refine wk_cast C q1099 (List.forall_mem_cons.mpr ⟨ax_same rx_7 (Nat.le_of_ble_eq_true rfl), (List.forall_mem_nil _)⟩) h_u7 dX2_weightOf_32 ?_
      refine wk_astore_n (L' := [(0, vR l0), (1, vI l1), (2, vR l2), (3, vR v6)]) C (by decide) rfl dX2_weightOf_35 ?_
      refine wk_iload_n C 1 rfl dX2_weightOf_36 ?_
      refine wk_aload_n C 0 rfl dX2_weightOf_37 ?_
      refine wk_aload_n C 3 rfl dX2_weightOf_38 ?_
      obtain ⟨b8, h_b8, hf⟩ := ho_b hf
      obtain ⟨v10, σ9, h_σ9, hf⟩ := ho_e2 hf
      refine wk_callV (av := [vR v6]) (rest := [vI l1]) (rv := some (vI v10)) C h_b8 rx_1 cx_X2_149 (mt_X2_areaOf (wk_C.tr C) h_σ9) rfl rfl (Nat.le_of_ble_eq_true rfl) (Nat.le_of_ble_eq_true rfl) (Nat.le_of_ble_eq_true rfl) dX2_weightOf_39 ?_
      refine wk_aload_n C 3 rfl dX2_weightOf_42 ?_
      obtain ⟨v11, h_v11, hf⟩ := ho_b hf
      refine wk_getI C fx_X2_153 h_v11 dX2_weightOf_43 ?_
      refine wk_imul C dX2_weightOf_46 ?_
      refine wk_iadd C dX2_weightOf_47 ?_
      obtain ⟨v12, e_v12, hf⟩ := ho_b hf
      refine wk_tI (Option.some.inj e_v12) ?_
      refine wk_istore_n (L' := [(0, vR l0), (1, vI v12), (2, vR l2), (3, vR v6)]) C (by decide) rfl dX2_weightOf_48 ?_
      refine wk_goto C 17 (by decide) dX2_weightOf_49 ?_
      refine wk_sub (L' := [(0, vR l0), (1, vI v12), (2, vR l2)]) [0, 1, 2] rfl ?_
      exact ih _ _ _ _ hf
set_option maxHeartbeats 4000000 in
theorem mt_X2_weightOf {E : Ev} {l : Launch} (hl : l.stackTraces = false) {p0 : Option Nat} {σ : Hs} {r : Int32} {σ' : Hs} (hf : fn_X2_weightOf p0 σ = some (r, σ')) : wk_M E l yX2_weightOf (ws_ yX2_weightOf cX2_weightOf 4 (Option.some FieldType.int)) 5 96 [vR p0] σ (.inl (some (.int r))) σ' := by
  refine wk_start (by decide +kernel) hl (Nat.le_of_ble_eq_true rfl) (fun K C hK => ?_)
  subst hK
  refine wk_L (L' := [(0, vR p0)]) rfl ?_
  unfold fn_X2_weightOf at hf
  refine wk_iconst (v := 0) C dX2_weightOf_0 rfl ?_
  refine wk_istore_n (L' := [(0, vR p0), (1, vI (0 : Int32))]) C (by decide) rfl dX2_weightOf_1 ?_
  refine wk_aload_n C 0 rfl dX2_weightOf_2 ?_
  obtain ⟨v13, h_v13, hf⟩ := ho_b hf
  refine wk_getR C fx_X2_33 h_v13 dX2_weightOf_3 ?_
  obtain ⟨b14, h_b14, hf⟩ := ho_b hf
  obtain ⟨v16, σ15, h_σ15, hf⟩ := ho_e2 hf
  refine wk_callF (av := []) (rest := []) (rv := some (vR v16)) C h_b14 rx_15 cx_X2_105_15 (mt_J19_values (wk_C.tr C) h_σ15) rfl rfl (Nat.le_of_ble_eq_true rfl) (Nat.le_of_ble_eq_true rfl) (Nat.le_of_ble_eq_true rfl) dX2_weightOf_6 ?_
  obtain ⟨b17, h_b17, hf⟩ := ho_b hf
  obtain ⟨v19, σ18, h_σ18, hf⟩ := ho_e2 hf
  refine wk_callF (av := []) (rest := []) (rv := some (vR v19)) C h_b17 rx_18 cx_X2_109_18 (mt_J31_iterator (wk_C.tr C) h_σ18) rfl rfl (Nat.le_of_ble_eq_true rfl) (Nat.le_of_ble_eq_true rfl) (Nat.le_of_ble_eq_true rfl) dX2_weightOf_11 ?_
  refine wk_astore_n (L' := [(0, vR p0), (1, vI (0 : Int32)), (2, vR v19)]) C (by decide) rfl dX2_weightOf_16 ?_
  exact wb_X2_weightOf_b17 C  _ _ _ _ _ hf
set_option maxHeartbeats 4000000 in
theorem mt_X2_copy {E : Ev} {l : Launch} (hl : l.stackTraces = false) {p0 : Option Nat} {σ : Hs} {r : Option Nat} {σ' : Hs} (hf : fn_X2_copy E.2.2.1 p0 σ = some (r, σ')) : wk_M E l yX2_copy (ws_ yX2_copy cX2_copy 2 (Option.some (FieldType.object "ElasticTruss$Truss"))) 8 3155 [vR p0] σ (.inl (some (va_rf r))) σ' := by
  refine wk_start (by decide +kernel) hl (Nat.le_of_ble_eq_true rfl) (fun K C hK => ?_)
  subst hK
  refine wk_L (L' := [(0, vR p0)]) rfl ?_
  unfold fn_X2_copy at hf
  obtain ⟨v1, σ2, h_σ2, hf⟩ := ho_e2 hf
  refine wk_new C nx_X2_4 h_σ2 dX2_copy_0 ?_
  refine wk_dup C rfl dX2_copy_3 ?_
  refine wk_aload_n C 0 rfl dX2_copy_4 ?_
  obtain ⟨v3, h_v3, hf⟩ := ho_b hf
  refine wk_getI C fx_X2_45 h_v3 dX2_copy_5 ?_
  refine wk_aload_n C 0 rfl dX2_copy_8 ?_
  obtain ⟨v4, h_v4, hf⟩ := ho_b hf
  refine wk_getI C fx_X2_49 h_v4 dX2_copy_9 ?_
  refine wk_aload_n C 0 rfl dX2_copy_12 ?_
  obtain ⟨v5, h_v5, hf⟩ := ho_b hf
  refine wk_getI C fx_X2_52 h_v5 dX2_copy_13 ?_
  obtain ⟨b6, h_b6, hf⟩ := ho_b hf
  obtain ⟨σ7, h_σ7, hf⟩ := ho_b hf
  refine wk_callI (av := [vI v3, vI v4, vI v5]) (rest := [vR v1]) C cx_X2_3 h_b6 (mt_X2_init_2 (wk_C.tr C) h_σ7) rfl (Nat.le_of_ble_eq_true rfl) (Nat.le_of_ble_eq_true rfl) (Nat.le_of_ble_eq_true rfl) dX2_copy_16 ?_
  refine wk_astore_n (L' := [(0, vR p0), (1, vR v1)]) C (by decide) rfl dX2_copy_19 ?_
  refine wk_aload_n C 1 rfl dX2_copy_20 ?_
  refine wk_aload_n C 0 rfl dX2_copy_21 ?_
  obtain ⟨v8, h_v8, hf⟩ := ho_b hf
  refine wk_getR C fx_X2_19 h_v8 dX2_copy_22 ?_
  obtain ⟨σ9, h_σ9, hf⟩ := ho_b hf
  refine wk_putR C px_X2_19 (Or.inl ⟨_, rfl⟩) (fun q => by cases q) h_σ9 dX2_copy_25 ?_
  refine wk_aload_n C 1 rfl dX2_copy_28 ?_
  refine wk_aload_n C 0 rfl dX2_copy_29 ?_
  obtain ⟨v10, h_v10, hf⟩ := ho_b hf
  refine wk_getR C fx_X2_23 h_v10 dX2_copy_30 ?_
  obtain ⟨σ11, h_σ11, hf⟩ := ho_b hf
  refine wk_putR C px_X2_23 (Or.inl ⟨_, rfl⟩) (fun q => by cases q) h_σ11 dX2_copy_33 ?_
  refine wk_aload_n C 1 rfl dX2_copy_36 ?_
  refine wk_aload_n C 0 rfl dX2_copy_37 ?_
  obtain ⟨v12, h_v12, hf⟩ := ho_b hf
  refine wk_getR C fx_X2_41 h_v12 dX2_copy_38 ?_
  obtain ⟨σ13, h_σ13, hf⟩ := ho_b hf
  refine wk_putR C px_X2_41 (Or.inl ⟨_, rfl⟩) (fun q => by cases q) h_σ13 dX2_copy_41 ?_
  refine wk_aload_n C 1 rfl dX2_copy_44 ?_
  refine wk_aload_n C 0 rfl dX2_copy_45 ?_
  obtain ⟨v14, h_v14, hf⟩ := ho_b hf
  refine wk_getR C fx_X2_26 h_v14 dX2_copy_46 ?_
  obtain ⟨v15, σ16, h_σ16, hf⟩ := ho_e2 hf
  refine wk_clone C h_σ16 q2470 q2471 q319 q320 q2472 (lw_n q2473 rfl) (Nat.le_of_ble_eq_true rfl) (Nat.le_of_ble_eq_true rfl) dX2_copy_49 ?_
  obtain ⟨x17, h_x17, hf⟩ := ho_b hf
  by_cases c_ : x17.1 = 0
  · rw [if_pos c_] at hf
    refine wk_castA C q2474 (Nat.le_of_ble_eq_true rfl) rfl h_x17 c_ dX2_copy_52 ?_
    obtain ⟨σ18, h_σ18, hf⟩ := ho_b hf
    refine wk_putR C px_X2_26 (Or.inr ⟨_, rfl⟩) (fun q => by cases q) h_σ18 dX2_copy_55 ?_
    refine wk_aload_n C 1 rfl dX2_copy_58 ?_
    refine wk_aload_n C 0 rfl dX2_copy_59 ?_
    obtain ⟨v19, h_v19, hf⟩ := ho_b hf
    refine wk_getI C fx_X2_60 h_v19 dX2_copy_60 ?_
    obtain ⟨σ20, h_σ20, hf⟩ := ho_b hf
    refine wk_putI C px_X2_60 (fun q => by cases q) h_σ20 dX2_copy_63 ?_
    refine wk_aload_n C 1 rfl dX2_copy_66 ?_
    obtain ⟨v21, h_v21, hf⟩ := ho_b hf
    refine wk_getR C fx_X2_33 h_v21 dX2_copy_67 ?_
    refine wk_aload_n C 0 rfl dX2_copy_70 ?_
    obtain ⟨v22, h_v22, hf⟩ := ho_b hf
    refine wk_getR C fx_X2_33 h_v22 dX2_copy_71 ?_
    obtain ⟨b23, h_b23, hf⟩ := ho_b hf
    obtain ⟨σ24, h_σ24, hf⟩ := ho_b hf
    refine wk_callF (av := [vR v22]) (rest := []) (rv := none) C h_b23 rx_15 cx_X2_63_15 (mt_J18_putAll (wk_C.tr C) h_σ24) rfl rfl (Nat.le_of_ble_eq_true rfl) (Nat.le_of_ble_eq_true rfl) (Nat.le_of_ble_eq_true rfl) dX2_copy_74 ?_
    refine wk_aload_n C 1 rfl dX2_copy_79 ?_
    obtain ⟨rfl, rfl⟩ := Prod.mk.inj (Option.some.inj hf)
    exact wk_aret C (Or.inl ⟨_, rfl⟩) rfl rfl dX2_copy_80
  · rw [if_neg c_] at hf
    cases hf
