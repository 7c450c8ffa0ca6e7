def fn_X1_init (ev : Nat → Option Nat) (p0 : Option Nat) (σ : Hs) : Option Hs := p0.bind fun b1 => ho_b2 (ho_nI σ 2 (800 : Int32)) fun v2 σ3 => (ho_pR σ3 p0 [0] 0 v2).bind fun σ4 => (ho_pI σ4 p0 [0] 2 (-1 : Int32)).bind fun σ5 => ho_b2 (ho_new σ5 (.inr (1, [.int 0, .int 0, .int 0, .null, .null, .null, .null, .int 0, .null])) 9) fun v6 σ7 => v6.bind fun b8 => (fn_X2_init ev v6 σ7).bind fun σ9 => (ho_pR σ9 p0 [0] 3 v6).bind fun σ10 => ho_b2 (ho_new σ10 (.inr (17, [.null, .int 0, .int 0])) 3) fun v11 σ12 => v11.bind fun b13 => (fn_J20_init v11 (9 : Int32) σ12).bind fun σ14 => (ho_pR σ14 p0 [0] 4 v11).bind fun σ15 => some σ15
def fn_X1_put_b60  (k8 : Option Nat → Option Nat → Int32 → Int32 → Hs → Option Hs) (l0 : Option Nat) (l2 : Option Nat) (l3 : Int32) (l4 : Int32) (σ : Hs) : Option Hs := k8 l0 l2 l3 (l4 + 1) σ
def fn_X1_put_b24  (k8 : Option Nat → Option Nat → Int32 → Int32 → Hs → Option Hs) : Nat → Option Nat → Option Nat → Int32 → Int32 → Int32 → Int32 → Hs → Option Hs
  | 0, _, _, _, _, _, _, _ => none
  | n + 1, l0, l2, l3, l4, l5, l6, σ => if l6 < 0 then fn_X1_put_b60 k8 l0 l2 l3 l4 σ else (ho_fR σ l0 [0] 0).bind fun v1 => (ho_fI σ l0 [0] 1).bind fun v2 => (ho_tI σ v1 2 v2 (vp_nar .byte ((l5 >>> (l6 &&& 31)).toInt8.toInt32))).bind fun σ3 => (ho_fI σ3 l0 [0] 1).bind fun v4 => (ho_pI σ3 l0 [0] 1 (v4 + (1 : Int32))).bind fun σ5 => fn_X1_put_b24 k8 n l0 l2 l3 l4 l5 (l6 + (-8)) σ5
def fn_X1_put_b8  : Nat → Option Nat → Option Nat → Int32 → Int32 → Hs → Option Hs
  | 0, _, _, _, _, _ => none
  | n + 1, l0, l2, l3, l4, σ => if l3 ≤ l4 then some σ else (ho_aI σ l2 [0, 90] l4).bind fun v6 => fn_X1_put_b24 (fn_X1_put_b8 n) fu_el l0 l2 l3 l4 v6 (24 : Int32) σ
def fn_X1_put (p0 : Option Nat) (p1 : Option Nat) (σ : Hs) : Option Hs := (ho_len σ p1).bind fun v7 => fn_X1_put_b8 fu_el p0 p1 v7 (0 : Int32) σ
def fn_X1_append (p0 : Option Nat) (p1 : Int32) (p2 : Int32) (p3 : Int32) (p4 : Int32) (p5 : Int32) (σ : Hs) : Option (Int32 × Hs) := (ho_fI σ p0 [0] 1).bind fun v1 => if (v1 + (20 : Int32)) ≤ (800 : Int32) then ho_b2 (ho_nI σ 0 (5 : Int32)) fun v2 σ3 => (ho_tI σ3 v2 0 (0 : Int32) p1).bind fun σ4 => (ho_tI σ4 v2 0 (1 : Int32) p2).bind fun σ5 => (ho_tI σ5 v2 0 (2 : Int32) p3).bind fun σ6 => (ho_tI σ6 v2 0 (3 : Int32) p4).bind fun σ7 => (ho_tI σ7 v2 0 (4 : Int32) p5).bind fun σ8 => (ho_is σ8 p0 [0]).bind fun b9 => (fn_X1_put p0 v2 σ8).bind fun σ10 => (ho_fI σ10 p0 [0] 1).bind fun v11 => some (v11, σ10) else some ((-1 : Int32), σ)
def fn_X1_replaceBy_b31  (l0 : Option Nat) (l1 : Option Nat) (σ : Hs) : Option Hs := (ho_pR σ l0 [0] 3 l1).bind fun σ1 => some σ1
def fn_X1_replaceBy (p0 : Option Nat) (p1 : Option Nat) (σ : Hs) : Option Hs := (ho_fR σ p0 [0] 4).bind fun v2 => (ho_fR σ p0 [0] 3).bind fun v3 => (ho_is σ v2 [17]).bind fun b4 => (fn_J20_addLast v2 v3 σ).bind fun σ5 => (ho_fR σ5 p0 [0] 4).bind fun v6 => (ho_is σ5 v6 [17]).bind fun b7 => ho_b2 (fn_J20_size v6 σ5) fun v9 σ8 => if v9 ≤ (8 : Int32) then fn_X1_replaceBy_b31 p0 p1 σ8 else (ho_fR σ8 p0 [0] 4).bind fun v10 => (ho_is σ8 v10 [17]).bind fun b11 => ho_b2 (fn_J20_removeFirst v10 σ8) fun v13 σ12 => fn_X1_replaceBy_b31 p0 p1 σ12
def fn_X1_checkGroup (p0 : Option Nat) (p1 : Int32) (σ : Hs) : Option ((Unit ⊕ Nat) × Hs) := (ho_fR σ p0 [0] 3).bind fun v1 => (ho_fI σ v1 [1] 7).bind fun v2 => ho_b2 (fn_X1_isIn (0 : Int64) (v2.toInt64 - (1 : Int64)) p1.toInt64 σ) fun v4 σ3 => ho_b2 (fn_X1_checkIndex v4 σ3) fun v6 σ5 => ho_x v6 (fun _ => some (.inl (), σ5)) (fun q8 => some (.inr q8, σ5))
def fn_X1_memberAt (p0 : Option Nat) (p1 : Int32) (σ : Hs) : Option ((Option Nat ⊕ Nat) × Hs) := (ho_fR σ p0 [0] 3).bind fun v1 => (ho_fR σ v1 [1] 8).bind fun v2 => (ho_is σ v2 [15]).bind fun b3 => ho_b2 (fn_J18_size v2 σ) fun v5 σ4 => ho_b2 (fn_X1_isIn (0 : Int64) (v5.toInt64 - (1 : Int64)) p1.toInt64 σ4) fun v7 σ6 => ho_b2 (fn_X1_checkIndex v7 σ6) fun v9 σ8 => ho_x v9 (fun _ => (ho_fR σ8 p0 [0] 3).bind fun v12 => (ho_is σ8 v12 [1]).bind fun b13 => ho_b2 (fn_X2_row v12 σ8) fun v15 σ14 => (ho_aR σ14 v15 [3, 4, 5, 6, 7, 8] p1).bind fun v16 => some (.inl v16, σ14)) (fun q11 => some (.inr q11, σ8))
def fn_X1_checkNodes_b8  : Nat → Option Nat → Option Nat → Int32 → Int32 → Hs → Option ((Unit ⊕ Nat) × Hs)
  | 0, _, _, _, _, _ => none
  | n + 1, l0, l2, l3, l4, σ => if l3 ≤ l4 then some (.inl (), σ) else (ho_aI σ l2 [0, 90] l4).bind fun v1 => (ho_fR σ l0 [0] 3).bind fun v2 => (ho_fR σ v2 [1] 3).bind fun v3 => (ho_is σ v3 [13]).bind fun b4 => ho_b2 (fn_J2_size v3 σ) fun v6 σ5 => ho_b2 (fn_X1_isIn (0 : Int64) (v6.toInt64 - (1 : Int64)) v1.toInt64 σ5) fun v8 σ7 => ho_b2 (fn_X1_checkIndex v8 σ7) fun v10 σ9 => ho_x v10 (fun _ => fn_X1_checkNodes_b8 n l0 l2 l3 (l4 + 1) σ9) (fun q12 => some (.inr q12, σ9))
def fn_X1_checkNodes (p0 : Option Nat) (p1 : Option Nat) (σ : Hs) : Option ((Unit ⊕ Nat) × Hs) := (ho_len σ p1).bind fun v13 => fn_X1_checkNodes_b8 fu_el p0 p1 v13 (0 : Int32) σ
def fn_X1_checkStage (p0 : Option Nat) (p1 : Int32) (σ : Hs) : Option ((Unit ⊕ Nat) × Hs) := (ho_fR σ p0 [0] 3).bind fun v1 => (ho_is σ v1 [1]).bind fun b2 => ho_b2 (fn_X2_countStages v1 σ) fun v4 σ3 => ho_b2 (fn_X1_isIn (0 : Int64) (v4.toInt64 - (1 : Int64)) p1.toInt64 σ3) fun v6 σ5 => ho_b2 (fn_X1_checkIndex v6 σ5) fun v8 σ7 => ho_x v8 (fun _ => some (.inl (), σ7)) (fun q10 => some (.inr q10, σ7))
def fn_X1_relaxed (p0 : Option Nat) (p1 : Int32) (σ : Hs) : Option ((Option Nat ⊕ Nat) × Hs) := (ho_is σ p0 [0]).bind fun b1 => ho_b2 (fn_X1_checkStage p0 p1 σ) fun v3 σ2 => ho_x v3 (fun _ => ho_b2 (ho_new σ2 (.inr (11, [.null, .null, .int 0, .null, .null, .null, .null, .null])) 8) fun v6 σ7 => (ho_fR σ7 p0 [0] 3).bind fun v8 => v6.bind fun b9 => (fn_X12_init v6 v8 σ7).bind fun σ10 => (ho_is σ10 v6 [11]).bind fun b11 => (fn_X12_relax v6 p1 σ10).bind fun σ12 => some (.inl v6, σ12)) (fun q5 => some (.inr q5, σ2))
def fn_X1_load_b53 (ev : Nat → Option Nat)  (l0 : Option Nat) (t0 : Option Nat) (σ : Hs) : Option ((Int32 ⊕ Nat) × Hs) := (ho_fI σ t0 [4] 7).bind fun v1 => (ho_pI σ l0 [0] 2 v1).bind fun σ2 => (ho_fI σ2 t0 [4] 6).bind fun v3 => some (.inl v3, σ2)
def fn_X1_load (ev : Nat → Option Nat) (p0 : Option Nat) (p1 : Int32) (σ : Hs) : Option ((Int32 ⊕ Nat) × Hs) := (ho_fI σ p0 [0] 1).bind fun v4 => ho_b2 (fn_X1_isIn (0 : Int64) v4.toInt64 p1.toInt64 σ) fun v6 σ5 => ho_b2 (fn_X1_checkArgument v6 σ5) fun v8 σ7 => ho_x v8 (fun _ => (ho_pI σ7 p0 [0] 1 (0 : Int32)).bind fun σ11 => ho_b2 (ho_new σ11 (.inr (3, [.int 0, .null, .int 0, .int 0, .int 0, .int 0, .null])) 7) fun v12 σ13 => v12.bind fun b14 => (fn_X4_init ev v12 p0 p1 σ13).bind fun σ15 => (ho_is σ15 v12 [3]).bind fun b16 => ho_b2 (fn_X4_read ev v12 σ15) fun v18 σ17 => ho_x v18 (fun x19 => (ho_is σ17 p0 [0]).bind fun b21 => (fn_X1_replaceBy p0 x19 σ17).bind fun σ22 => (ho_pI σ22 p0 [0] 2 (-1 : Int32)).bind fun σ23 => (ho_fR σ23 p0 [0] 3).bind fun v24 => (ho_fR σ23 v24 [1] 8).bind fun v25 => (ho_is σ23 v25 [15]).bind fun b26 => ho_b2 (fn_J18_size v25 σ23) fun v28 σ27 => some (.inl v28, σ27)) (fun q20 => if ho_k σ17 (some q20) = some 4 then fn_X1_load_b53 ev p0 (some q20) σ17 else none)) (fun q10 => some (.inr q10, σ7))
def fn_X1_errorOffset (p0 : Option Nat) (σ : Hs) : Option (Int32 × Hs) := (ho_fI σ p0 [0] 2).bind fun v1 => some (v1, σ)
def fn_X1_nodeCount (p0 : Option Nat) (σ : Hs) : Option (Int32 × Hs) := (ho_fR σ p0 [0] 3).bind fun v1 => (ho_fR σ v1 [1] 3).bind fun v2 => (ho_is σ v2 [13]).bind fun b3 => ho_b2 (fn_J2_size v2 σ) fun v5 σ4 => some (v5, σ4)
def fn_X1_groupCount (p0 : Option Nat) (σ : Hs) : Option (Int32 × Hs) := (ho_fR σ p0 [0] 3).bind fun v1 => (ho_fI σ v1 [1] 7).bind fun v2 => some (v2, σ)
def fn_X1_memberCount (p0 : Option Nat) (σ : Hs) : Option (Int32 × Hs) := (ho_fR σ p0 [0] 3).bind fun v1 => (ho_fR σ v1 [1] 8).bind fun v2 => (ho_is σ v2 [15]).bind fun b3 => ho_b2 (fn_J18_size v2 σ) fun v5 σ4 => some (v5, σ4)
def fn_X1_stageCount (p0 : Option Nat) (σ : Hs) : Option (Int32 × Hs) := (ho_fR σ p0 [0] 3).bind fun v1 => (ho_is σ v1 [1]).bind fun b2 => ho_b2 (fn_X2_countStages v1 σ) fun v4 σ3 => some (v4, σ3)
def fn_X1_weight (p0 : Option Nat) (σ : Hs) : Option (Int32 × Hs) := (ho_fR σ p0 [0] 3).bind fun v1 => (ho_is σ v1 [1]).bind fun b2 => ho_b2 (fn_X2_weightOf v1 σ) fun v4 σ3 => some (v4, σ3)
def fn_X1_area (p0 : Option Nat) (p1 : Int32) (σ : Hs) : Option ((Int32 ⊕ Nat) × Hs) := (ho_is σ p0 [0]).bind fun b1 => ho_b2 (fn_X1_checkGroup p0 p1 σ) fun v3 σ2 => ho_x v3 (fun _ => (ho_fR σ2 p0 [0] 3).bind fun v6 => (ho_fR σ2 v6 [1] 6).bind fun v7 => (ho_aI σ2 v7 [0, 90] p1).bind fun v8 => some (.inl v8, σ2)) (fun q5 => some (.inr q5, σ2))
def fn_X1_member_b57  (t0 : Int32) (σ : Hs) : Option ((Int32 ⊕ Nat) × Hs) := some (.inl t0, σ)
def fn_X1_member (p0 : Option Nat) (p1 : Int32) (p2 : Int32) (σ : Hs) : Option ((Int32 ⊕ Nat) × Hs) := (ho_is σ p0 [0]).bind fun b1 => ho_b2 (fn_X1_memberAt p0 p1 σ) fun v3 σ2 => ho_x v3 (fun x4 => ho_b2 (fn_X1_isIn (0 : Int64) (3 : Int64) p2.toInt64 σ2) fun v7 σ6 => ho_b2 (fn_X1_checkArgument v7 σ6) fun v9 σ8 => ho_x v9 (fun _ => if p2 = 0 then (ho_fI σ8 x4 [7] 0).bind fun v15 => fn_X1_member_b57 v15 σ8 else if p2 = (1 : Int32) then (ho_fI σ8 x4 [7] 1).bind fun v14 => fn_X1_member_b57 v14 σ8 else if p2 = (2 : Int32) then (ho_fI σ8 x4 [7] 2).bind fun v13 => fn_X1_member_b57 v13 σ8 else (ho_fI σ8 x4 [7] 5).bind fun v12 => fn_X1_member_b57 v12 σ8) (fun q11 => some (.inr q11, σ8))) (fun q5 => some (.inr q5, σ2))
def fn_X1_between_b105  (l4 : Int32) (σ : Hs) : Option ((Int32 ⊕ Nat) × Hs) := some (.inl l4, σ)
def fn_X1_between_b96  (l4 : Int32) (σ : Hs) : Option ((Int32 ⊕ Nat) × Hs) := fn_X1_between_b105 l4 σ
def fn_X1_between_b65  : Nat → Option Nat → Int32 → Option Nat → Hs → Option ((Int32 ⊕ Nat) × Hs)
  | 0, _, _, _, _ => none
  | n + 1, l3, l4, l5, σ => (ho_is σ l5 [21]).bind fun b1 => ho_b2 (fn_J35_hasNext l5 σ) fun v3 σ2 => if v3 = 0 then fn_X1_between_b105 l4 σ2 else (ho_is σ2 l5 [21]).bind fun b4 => ho_b2 (fn_J37_next l5 σ2) fun v6 σ5 => (ho_in σ5 v6 [6]).bind fun _ => (ho_is σ5 v6 [6]).bind fun b8 => ho_b2 (fn_X7_equals v6 l3 σ5) fun v10 σ9 => if v10 = 0 then fn_X1_between_b65 n l3 (l4 + 1) l5 σ9 else fn_X1_between_b96 l4 σ9
def fn_X1_between (p0 : Option Nat) (p1 : Int32) (p2 : Int32) (σ : Hs) : Option ((Int32 ⊕ Nat) × Hs) := ho_b2 (ho_nI σ 0 (2 : Int32)) fun v11 σ12 => (ho_tI σ12 v11 0 (0 : Int32) p1).bind fun σ13 => (ho_tI σ13 v11 0 (1 : Int32) p2).bind fun σ14 => (ho_is σ14 p0 [0]).bind fun b15 => ho_b2 (fn_X1_checkNodes p0 v11 σ14) fun v17 σ16 => ho_x v17 (fun _ => ho_b2 (ho_new σ16 (.inr (6, [.int 0, .int 0])) 2) fun v20 σ21 => v20.bind fun b22 => (fn_X7_init v20 p1 p2 σ21).bind fun σ23 => (ho_fR σ23 p0 [0] 3).bind fun v24 => (ho_fR σ23 v24 [1] 8).bind fun v25 => (ho_is σ23 v25 [15]).bind fun b26 => ho_b2 (fn_J18_containsKey v25 v20 σ23) fun v28 σ27 => if v28 = 0 then some (.inl (-1 : Int32), σ27) else (ho_fR σ27 p0 [0] 3).bind fun v29 => (ho_fR σ27 v29 [1] 8).bind fun v30 => (ho_is σ27 v30 [15]).bind fun b31 => ho_b2 (fn_J19_keySet v30 σ27) fun v33 σ32 => (ho_is σ32 v33 [19]).bind fun b34 => ho_b2 (fn_J41_iterator v33 σ32) fun v36 σ35 => fn_X1_between_b65 fu_el v20 (0 : Int32) v36 σ35) (fun q19 => some (.inr q19, σ16))
def fn_X1_degree (p0 : Option Nat) (p1 : Int32) (σ : Hs) : Option ((Int32 ⊕ Nat) × Hs) := ho_b2 (ho_nI σ 0 (1 : Int32)) fun v1 σ2 => (ho_tI σ2 v1 0 (0 : Int32) p1).bind fun σ3 => (ho_is σ3 p0 [0]).bind fun b4 => ho_b2 (fn_X1_checkNodes p0 v1 σ3) fun v6 σ5 => ho_x v6 (fun _ => ho_b2 (ho_new σ5 (.inr (11, [.null, .null, .int 0, .null, .null, .null, .null, .null])) 8) fun v9 σ10 => (ho_fR σ10 p0 [0] 3).bind fun v11 => v9.bind fun b12 => (fn_X12_init v9 v11 σ10).bind fun σ13 => (ho_fR σ13 v9 [11] 3).bind fun v14 => (ho_aR σ13 v14 [3, 4, 5, 6, 7, 8] p1).bind fun v15 => (ho_len σ13 v15).bind fun v16 => some (.inl v16, σ13)) (fun q8 => some (.inr q8, σ5))
def fn_X1_parts_b136  (k54 : Option Nat → Int32 → Option Nat → Hs → Option (Int32 × Hs)) (l1 : Option Nat) (l2 : Int32) (l3 : Option Nat) (σ : Hs) : Option (Int32 × Hs) := k54 l1 l2 l3 σ
def fn_X1_parts_b130  (k108 : Option Nat → Int32 → Option Nat → Int32 → Int32 → Int32 → Hs → Option (Int32 × Hs)) (l1 : Option Nat) (l2 : Int32) (l3 : Option Nat) (l5 : Int32) (l6 : Int32) (l7 : Int32) (σ : Hs) : Option (Int32 × Hs) := k108 l1 l2 l3 l5 l6 (l7 + 1) σ
def fn_X1_parts_b108  (k54 : Option Nat → Int32 → Option Nat → Hs → Option (Int32 × Hs)) : Nat → Option Nat → Int32 → Option Nat → Int32 → Int32 → Int32 → Hs → Option (Int32 × Hs)
  | 0, _, _, _, _, _, _, _ => none
  | n + 1, l1, l2, l3, l5, l6, l7, σ => (ho_len σ l1).bind fun v1 => if v1 ≤ l7 then fn_X1_parts_b136 k54 l1 l2 l3 σ else (ho_aI σ l1 [0, 90] l7).bind fun v2 => if v2 = l5 then (ho_tI σ l1 0 l7 l6).bind fun σ3 => fn_X1_parts_b130 (fn_X1_parts_b108 k54 n) l1 l2 l3 l5 l6 l7 σ3 else fn_X1_parts_b130 (fn_X1_parts_b108 k54 n) l1 l2 l3 l5 l6 l7 σ
def fn_X1_parts_b54  : Nat → Option Nat → Int32 → Option Nat → Hs → Option (Int32 × Hs)
  | 0, _, _, _, _ => none
  | n + 1, l1, l2, l3, σ => (ho_is σ l3 [22]).bind fun b4 => ho_b2 (fn_J35_hasNext l3 σ) fun v6 σ5 => if v6 = 0 then some (l2, σ5) else (ho_is σ5 l3 [22]).bind fun b7 => ho_b2 (fn_J38_next l3 σ5) fun v9 σ8 => (ho_in σ8 v9 [7]).bind fun _ => (ho_fI σ8 v9 [7] 0).bind fun v11 => (ho_aI σ8 l1 [0, 90] v11).bind fun v12 => (ho_fI σ8 v9 [7] 1).bind fun v13 => (ho_aI σ8 l1 [0, 90] v13).bind fun v14 => if v12 = v14 then fn_X1_parts_b54 n l1 l2 l3 σ8 else fn_X1_parts_b108 (fn_X1_parts_b54 n) fu_el l1 (l2 + (-1)) l3 v12 v14 (0 : Int32) σ8
def fn_X1_parts_b36  (l0 : Option Nat) (l1 : Option Nat) (l2 : Int32) (σ : Hs) : Option (Int32 × Hs) := (ho_fR σ l0 [0] 3).bind fun v15 => (ho_fR σ v15 [1] 8).bind fun v16 => (ho_is σ v16 [15]).bind fun b17 => ho_b2 (fn_J19_values v16 σ) fun v19 σ18 => (ho_is σ18 v19 [18]).bind fun b20 => ho_b2 (fn_J31_iterator v19 σ18) fun v22 σ21 => fn_X1_parts_b54 fu_el l1 l2 v22 σ21
def fn_X1_parts_b20  : Nat → Option Nat → Option Nat → Int32 → Int32 → Hs → Option (Int32 × Hs)
  | 0, _, _, _, _, _ => none
  | n + 1, l0, l1, l2, l3, σ => (ho_len σ l1).bind fun v23 => if v23 ≤ l3 then fn_X1_parts_b36 l0 l1 l2 σ else (ho_tI σ l1 0 l3 l3).bind fun σ24 => fn_X1_parts_b20 n l0 l1 l2 (l3 + 1) σ24
def fn_X1_parts (p0 : Option Nat) (σ : Hs) : Option (Int32 × Hs) := (ho_fR σ p0 [0] 3).bind fun v25 => (ho_fR σ v25 [1] 3).bind fun v26 => (ho_is σ v26 [13]).bind fun b27 => ho_b2 (fn_J2_size v26 σ) fun v29 σ28 => ho_b2 (ho_nI σ28 0 v29) fun v30 σ31 => (ho_len σ31 v30).bind fun v32 => fn_X1_parts_b20 fu_el p0 v30 v32 (0 : Int32) σ31
def fn_X1_displacement_b39  (t0 : Int64) (σ : Hs) : Option ((Int32 ⊕ Nat) × Hs) := some (.inl t0.toInt32, σ)
def fn_X1_displacement (p0 : Option Nat) (p1 : Int32) (p2 : Int32) (p3 : Int32) (σ : Hs) : Option ((Int32 ⊕ Nat) × Hs) := ho_b2 (ho_nI σ 0 (1 : Int32)) fun v1 σ2 => (ho_tI σ2 v1 0 (0 : Int32) p1).bind fun σ3 => (ho_is σ3 p0 [0]).bind fun b4 => ho_b2 (fn_X1_checkNodes p0 v1 σ3) fun v6 σ5 => ho_x v6 (fun _ => (ho_is σ5 p0 [0]).bind fun b9 => ho_b2 (fn_X1_relaxed p0 p2 σ5) fun v11 σ10 => ho_x v11 (fun x12 => if p3 = 0 then (ho_fR σ10 x12 [11] 5).bind fun v14 => (ho_aJ σ10 v14 [1] p1).bind fun v15 => fn_X1_displacement_b39 v15 σ10 else (ho_fR σ10 x12 [11] 4).bind fun v16 => (ho_aJ σ10 v16 [1] p1).bind fun v17 => fn_X1_displacement_b39 v17 σ10) (fun q13 => some (.inr q13, σ10))) (fun q8 => some (.inr q8, σ5))
def fn_X1_force (p0 : Option Nat) (p1 : Int32) (p2 : Int32) (σ : Hs) : Option ((Int32 ⊕ Nat) × Hs) := (ho_is σ p0 [0]).bind fun b1 => ho_b2 (fn_X1_memberAt p0 p1 σ) fun v3 σ2 => ho_x v3 (fun x4 => (ho_is σ2 p0 [0]).bind fun b6 => ho_b2 (fn_X1_relaxed p0 p2 σ2) fun v8 σ7 => ho_x v8 (fun x9 => (ho_is σ7 x9 [11]).bind fun b11 => ho_b2 (fn_X12_forceIn x9 x4 σ7) fun v13 σ12 => some (.inl v13, σ12)) (fun q10 => some (.inr q10, σ7))) (fun q5 => some (.inr q5, σ2))
def fn_X1_residual_b46  (t0 : Int64) (σ : Hs) : Option ((Int32 ⊕ Nat) × Hs) := some (.inl t0.toInt32, σ)
def fn_X1_residual (p0 : Option Nat) (p1 : Int32) (p2 : Int32) (p3 : Int32) (σ : Hs) : Option ((Int32 ⊕ Nat) × Hs) := ho_b2 (ho_nI σ 0 (1 : Int32)) fun v1 σ2 => (ho_tI σ2 v1 0 (0 : Int32) p1).bind fun σ3 => (ho_is σ3 p0 [0]).bind fun b4 => ho_b2 (fn_X1_checkNodes p0 v1 σ3) fun v6 σ5 => ho_x v6 (fun _ => (ho_is σ5 p0 [0]).bind fun b9 => ho_b2 (fn_X1_relaxed p0 p2 σ5) fun v11 σ10 => ho_x v11 (fun x12 => (ho_is σ10 x12 [11]).bind fun b14 => (fn_X12_balance x12 p1 p2 σ10).bind fun σ15 => if p3 = 0 then (ho_fR σ15 x12 [11] 7).bind fun v16 => (ho_aJ σ15 v16 [1] p1).bind fun v17 => fn_X1_residual_b46 v17 σ15 else (ho_fR σ15 x12 [11] 6).bind fun v18 => (ho_aJ σ15 v18 [1] p1).bind fun v19 => fn_X1_residual_b46 v19 σ15) (fun q13 => some (.inr q13, σ10))) (fun q8 => some (.inr q8, σ5))
def fn_X1_buckling (p0 : Option Nat) (p1 : Int32) (σ : Hs) : Option ((Int32 ⊕ Nat) × Hs) := (ho_fR σ p0 [0] 3).bind fun v1 => (ho_is σ p0 [0]).bind fun b2 => ho_b2 (fn_X1_memberAt p0 p1 σ) fun v4 σ3 => ho_x v4 (fun x5 => (ho_is σ3 v1 [1]).bind fun b7 => ho_b2 (fn_X2_bucklingOf v1 x5 σ3) fun v9 σ8 => some (.inl v9, σ8)) (fun q6 => some (.inr q6, σ3))
def fn_X1_capacity (p0 : Option Nat) (p1 : Int32) (p2 : Int32) (σ : Hs) : Option ((Int32 ⊕ Nat) × Hs) := (ho_fR σ p0 [0] 3).bind fun v1 => (ho_is σ p0 [0]).bind fun b2 => ho_b2 (fn_X1_memberAt p0 p1 σ) fun v4 σ3 => ho_x v4 (fun x5 => (ho_is σ3 v1 [1]).bind fun b7 => ho_b2 (fn_X2_capacityOf v1 x5 p2 σ3) fun v9 σ8 => some (.inl v9, σ8)) (fun q6 => some (.inr q6, σ3))
def fn_X1_use (p0 : Option Nat) (p1 : Int32) (p2 : Int32) (σ : Hs) : Option ((Int32 ⊕ Nat) × Hs) := (ho_is σ p0 [0]).bind fun b1 => ho_b2 (fn_X1_memberAt p0 p1 σ) fun v3 σ2 => ho_x v3 (fun x4 => (ho_fR σ2 p0 [0] 3).bind fun v6 => (ho_is σ2 p0 [0]).bind fun b7 => ho_b2 (fn_X1_relaxed p0 p2 σ2) fun v9 σ8 => ho_x v9 (fun x10 => (ho_is σ8 x10 [11]).bind fun b12 => ho_b2 (fn_X12_forceIn x10 x4 σ8) fun v14 σ13 => (ho_is σ13 v6 [1]).bind fun b15 => ho_b2 (fn_X2_useOf v6 x4 v14 σ13) fun v17 σ16 => some (.inl v17, σ16)) (fun q11 => some (.inr q11, σ8))) (fun q5 => some (.inr q5, σ2))
def fn_X1_greatestUse_b91  (k25 : Option Nat → Option Nat → Int32 → Int32 → Int32 → Hs → Option (Int32 × Hs)) (l0 : Option Nat) (l1 : Option Nat) (l2 : Int32) (l3 : Int32) (l4 : Int32) (σ : Hs) : Option (Int32 × Hs) := k25 l0 l1 l2 l3 (l4 + 1) σ
def fn_X1_greatestUse_b51  (k25 : Option Nat → Option Nat → Int32 → Int32 → Int32 → Hs → Option (Int32 × Hs)) : Nat → Option Nat → Option Nat → Int32 → Int32 → Int32 → Option Nat → Int32 → Int32 → Hs → Option (Int32 × Hs)
  | 0, _, _, _, _, _, _, _, _, _ => none
  | n + 1, l0, l1, l2, l3, l4, l5, l6, l7, σ => if l6 ≤ l7 then fn_X1_greatestUse_b91 k25 l0 l1 l2 l3 l4 σ else (ho_aR σ l5 [3, 4, 5, 6, 7, 8] l7).bind fun v1 => (ho_fR σ l0 [0] 3).bind fun v2 => (ho_is σ l1 [11]).bind fun b3 => ho_b2 (fn_X12_forceIn l1 v1 σ) fun v5 σ4 => (ho_is σ4 v2 [1]).bind fun b6 => ho_b2 (fn_X2_useOf v2 v1 v5 σ4) fun v8 σ7 => ho_b2 (fn_J12_max l2 v8 σ7) fun v10 σ9 => fn_X1_greatestUse_b51 k25 n l0 l1 v10 l3 l4 l5 l6 (l7 + 1) σ9
def fn_X1_greatestUse_b25  : Nat → Option Nat → Option Nat → Int32 → Int32 → Int32 → Hs → Option (Int32 × Hs)
  | 0, _, _, _, _, _, _ => none
  | n + 1, l0, l1, l2, l3, l4, σ => if l3 ≤ l4 then some (l2, σ) else (ho_is σ l1 [11]).bind fun b11 => (fn_X12_relax l1 l4 σ).bind fun σ12 => (ho_fR σ12 l1 [11] 1).bind fun v13 => (ho_len σ12 v13).bind fun v14 => fn_X1_greatestUse_b51 (fn_X1_greatestUse_b25 n) fu_el l0 l1 l2 l3 l4 v13 v14 (0 : Int32) σ12
def fn_X1_greatestUse (p0 : Option Nat) (σ : Hs) : Option (Int32 × Hs) := ho_b2 (ho_new σ (.inr (11, [.null, .null, .int 0, .null, .null, .null, .null, .null])) 8) fun v15 σ16 => (ho_fR σ16 p0 [0] 3).bind fun v17 => v15.bind fun b18 => (fn_X12_init v15 v17 σ16).bind fun σ19 => (ho_fR σ19 p0 [0] 3).bind fun v20 => (ho_is σ19 v20 [1]).bind fun b21 => ho_b2 (fn_X2_countStages v20 σ19) fun v23 σ22 => fn_X1_greatestUse_b25 fu_el p0 v15 (0 : Int32) v23 (0 : Int32) σ22
def fn_X1_failureCount (ev : Nat → Option Nat) (p0 : Option Nat) (σ : Hs) : Option (Int32 × Hs) := ho_b2 (ho_new σ (.inr (11, [.null, .null, .int 0, .null, .null, .null, .null, .null])) 8) fun v1 σ2 => (ho_fR σ2 p0 [0] 3).bind fun v3 => v1.bind fun b4 => (fn_X12_init v1 v3 σ2).bind fun σ5 => (ho_is σ5 v1 [11]).bind fun b6 => ho_b2 (fn_X12_failures ev v1 σ5) fun v8 σ7 => (ho_is σ7 v8 [24]).bind fun b9 => ho_b2 (fn_J44_size v8 σ7) fun v11 σ10 => some (v11, σ10)
def fn_X1_failure_b95 (ev : Nat → Option Nat)  (σ : Hs) : Option ((Int32 ⊕ Nat) × Hs) := ho_b2 (ho_new σ (.inr (220, [])) 6) fun v1 σ3 => v1.bind fun q2 => some (.inr q2, σ3)
def fn_X1_failure_b88 (ev : Nat → Option Nat)  (t0 : Int32) (σ : Hs) : Option ((Int32 ⊕ Nat) × Hs) := some (.inl t0, σ)
def fn_X1_failure_b71 (ev : Nat → Option Nat)  (l2 : Int32) (l6 : Option Nat) (σ : Hs) : Option ((Int32 ⊕ Nat) × Hs) := if l2 = 0 then (ho_fI σ l6 [12] 0).bind fun v4 => fn_X1_failure_b88 ev v4 σ else (ho_fI σ l6 [12] 1).bind fun v5 => fn_X1_failure_b88 ev v5 σ
def fn_X1_failure_b44 (ev : Nat → Option Nat)  : Nat → Int32 → Int32 → Option Nat → Hs → Option ((Int32 ⊕ Nat) × Hs)
  | 0, _, _, _, _ => none
  | n + 1, l2, l4, l5, σ => (ho_is σ l5 [21]).bind fun b6 => ho_b2 (fn_J35_hasNext l5 σ) fun v8 σ7 => if v8 = 0 then fn_X1_failure_b95 ev  σ7 else (ho_is σ7 l5 [21]).bind fun b9 => ho_b2 (fn_J37_next l5 σ7) fun v11 σ10 => (ho_in σ10 v11 [12]).bind fun _ => if l4 = 0 then fn_X1_failure_b71 ev l2 v11 σ10 else fn_X1_failure_b44 ev n l2 (l4 + (-1)) l5 σ10
def fn_X1_failure (ev : Nat → Option Nat) (p0 : Option Nat) (p1 : Int32) (p2 : Int32) (σ : Hs) : Option ((Int32 ⊕ Nat) × Hs) := ho_b2 (ho_new σ (.inr (11, [.null, .null, .int 0, .null, .null, .null, .null, .null])) 8) fun v13 σ14 => (ho_fR σ14 p0 [0] 3).bind fun v15 => v13.bind fun b16 => (fn_X12_init v13 v15 σ14).bind fun σ17 => (ho_is σ17 v13 [11]).bind fun b18 => ho_b2 (fn_X12_failures ev v13 σ17) fun v20 σ19 => (ho_is σ19 v20 [24]).bind fun b21 => ho_b2 (fn_J44_size v20 σ19) fun v23 σ22 => ho_b2 (fn_X1_isIn (0 : Int64) (v23.toInt64 - (1 : Int64)) p1.toInt64 σ22) fun v25 σ24 => ho_b2 (fn_X1_checkIndex v25 σ24) fun v27 σ26 => ho_x v27 (fun _ => (ho_is σ26 v20 [24]).bind fun b30 => ho_b2 (fn_J44_iterator v20 σ26) fun v32 σ31 => fn_X1_failure_b44 ev fu_el p2 p1 v32 σ31) (fun q29 => some (.inr q29, σ26))
def fn_X1_isRemovable (ev : Nat → Option Nat) (p0 : Option Nat) (p1 : Int32) (σ : Hs) : Option ((Int32 ⊕ Nat) × Hs) := (ho_is σ p0 [0]).bind fun b1 => ho_b2 (fn_X1_memberAt p0 p1 σ) fun v3 σ2 => ho_x v3 (fun x4 => (ho_fR σ2 p0 [0] 3).bind fun v6 => (ho_is σ2 v6 [1]).bind fun b7 => ho_b2 (fn_X2_copy ev v6 σ2) fun v9 σ8 => (ho_is σ8 v9 [1]).bind fun b10 => (fn_X2_remove v9 x4 σ8).bind fun σ11 => (ho_is σ11 v9 [1]).bind fun b12 => ho_b2 (fn_X2_bearsLoads v9 σ11) fun v14 σ13 => (ho_bool v14).bind fun v15 => some (.inl v15, σ13)) (fun q5 => some (.inr q5, σ2))
def fn_X1_smallestArea (ev : Nat → Option Nat) (p0 : Option Nat) (p1 : Int32) (σ : Hs) : Option ((Int32 ⊕ Nat) × Hs) := (ho_is σ p0 [0]).bind fun b1 => ho_b2 (fn_X1_checkGroup p0 p1 σ) fun v3 σ2 => ho_x v3 (fun _ => (ho_fR σ2 p0 [0] 3).bind fun v6 => (ho_is σ2 v6 [1]).bind fun b7 => ho_b2 (fn_X2_copy ev v6 σ2) fun v9 σ8 => (ho_is σ8 v9 [1]).bind fun b10 => ho_b2 (fn_X2_leastArea v9 p1 σ8) fun v12 σ11 => some (.inl v12, σ11)) (fun q5 => some (.inr q5, σ2))
def fn_X1_setArea (ev : Nat → Option Nat) (p0 : Option Nat) (p1 : Int32) (p2 : Int32) (σ : Hs) : Option ((Int32 ⊕ Nat) × Hs) := (ho_is σ p0 [0]).bind fun b1 => ho_b2 (fn_X1_checkGroup p0 p1 σ) fun v3 σ2 => ho_x v3 (fun _ => ho_b2 (fn_X1_isIn (1 : Int64) (50 : Int64) p2.toInt64 σ2) fun v7 σ6 => ho_b2 (fn_X1_checkArgument v7 σ6) fun v9 σ8 => ho_x v9 (fun _ => (ho_fR σ8 p0 [0] 3).bind fun v12 => (ho_is σ8 v12 [1]).bind fun b13 => ho_b2 (fn_X2_copy ev v12 σ8) fun v15 σ14 => (ho_is σ14 p0 [0]).bind fun b16 => (fn_X1_replaceBy p0 v15 σ14).bind fun σ17 => (ho_fR σ17 p0 [0] 3).bind fun v18 => (ho_fR σ17 v18 [1] 6).bind fun v19 => (ho_tI σ17 v19 0 p1 p2).bind fun σ20 => (ho_fR σ20 p0 [0] 3).bind fun v21 => (ho_is σ20 v21 [1]).bind fun b22 => ho_b2 (fn_X2_weightOf v21 σ20) fun v24 σ23 => some (.inl v24, σ23)) (fun q11 => some (.inr q11, σ8))) (fun q5 => some (.inr q5, σ2))
def fn_X1_addMember_b67 (ev : Nat → Option Nat)  (l0 : Option Nat) (l1 : Int32) (l2 : Int32) (l3 : Int32) (t0 : Int32) (σ : Hs) : Option ((Int32 ⊕ Nat) × Hs) := ho_b2 (fn_X1_checkState t0 σ) fun v2 σ1 => ho_x v2 (fun _ => (ho_fR σ1 l0 [0] 3).bind fun v5 => (ho_is σ1 v5 [1]).bind fun b6 => ho_b2 (fn_X2_copy ev v5 σ1) fun v8 σ7 => (ho_is σ7 l0 [0]).bind fun b9 => (fn_X1_replaceBy l0 v8 σ7).bind fun σ10 => (ho_fR σ10 l0 [0] 3).bind fun v11 => (ho_is σ10 v11 [1]).bind fun b12 => (fn_X2_join ev v11 l1 l2 l3 σ10).bind fun σ13 => (ho_fR σ13 l0 [0] 3).bind fun v14 => (ho_fR σ13 v14 [1] 8).bind fun v15 => (ho_is σ13 v15 [15]).bind fun b16 => ho_b2 (fn_J18_size v15 σ13) fun v18 σ17 => some (.inl (v18 - (1 : Int32)), σ17)) (fun q4 => some (.inr q4, σ1))
def fn_X1_addMember_b66 (ev : Nat → Option Nat)  (l0 : Option Nat) (l1 : Int32) (l2 : Int32) (l3 : Int32) (σ : Hs) : Option ((Int32 ⊕ Nat) × Hs) := fn_X1_addMember_b67 ev l0 l1 l2 l3 (0 : Int32) σ
def fn_X1_addMember_b30 (ev : Nat → Option Nat)  (l0 : Option Nat) (l1 : Int32) (l2 : Int32) (l3 : Int32) (t0 : Int32) (σ : Hs) : Option ((Int32 ⊕ Nat) × Hs) := ho_b2 (fn_X1_checkArgument t0 σ) fun v20 σ19 => ho_x v20 (fun _ => (ho_fR σ19 l0 [0] 3).bind fun v23 => (ho_is σ19 v23 [1]).bind fun b24 => ho_b2 (fn_X2_isJoined v23 l1 l2 σ19) fun v26 σ25 => if v26 = 0 then (ho_fR σ25 l0 [0] 3).bind fun v27 => (ho_fR σ25 v27 [1] 8).bind fun v28 => (ho_is σ25 v28 [15]).bind fun b29 => ho_b2 (fn_J18_size v28 σ25) fun v31 σ30 => if (16 : Int32) ≤ v31 then fn_X1_addMember_b66 ev l0 l1 l2 l3 σ30 else fn_X1_addMember_b67 ev l0 l1 l2 l3 (1 : Int32) σ30 else fn_X1_addMember_b66 ev l0 l1 l2 l3 σ25) (fun q22 => some (.inr q22, σ19))
def fn_X1_addMember (ev : Nat → Option Nat) (p0 : Option Nat) (p1 : Int32) (p2 : Int32) (p3 : Int32) (σ : Hs) : Option ((Int32 ⊕ Nat) × Hs) := ho_b2 (ho_nI σ 0 (2 : Int32)) fun v32 σ33 => (ho_tI σ33 v32 0 (0 : Int32) p1).bind fun σ34 => (ho_tI σ34 v32 0 (1 : Int32) p2).bind fun σ35 => (ho_is σ35 p0 [0]).bind fun b36 => ho_b2 (fn_X1_checkNodes p0 v32 σ35) fun v38 σ37 => ho_x v38 (fun _ => (ho_is σ37 p0 [0]).bind fun b41 => ho_b2 (fn_X1_checkGroup p0 p3 σ37) fun v43 σ42 => ho_x v43 (fun _ => if p1 = p2 then fn_X1_addMember_b30 ev p0 p1 p2 p3 (0 : Int32) σ42 else fn_X1_addMember_b30 ev p0 p1 p2 p3 (1 : Int32) σ42) (fun q45 => some (.inr q45, σ42))) (fun q40 => some (.inr q40, σ37))
def fn_X1_removeMember (ev : Nat → Option Nat) (p0 : Option Nat) (p1 : Int32) (σ : Hs) : Option ((Int32 ⊕ Nat) × Hs) := (ho_is σ p0 [0]).bind fun b1 => ho_b2 (fn_X1_memberAt p0 p1 σ) fun v3 σ2 => ho_x v3 (fun x4 => (ho_fR σ2 p0 [0] 3).bind fun v6 => (ho_is σ2 v6 [1]).bind fun b7 => ho_b2 (fn_X2_copy ev v6 σ2) fun v9 σ8 => (ho_is σ8 p0 [0]).bind fun b10 => (fn_X1_replaceBy p0 v9 σ8).bind fun σ11 => (ho_fR σ11 p0 [0] 3).bind fun v12 => (ho_is σ11 v12 [1]).bind fun b13 => (fn_X2_remove v12 x4 σ11).bind fun σ14 => (ho_fR σ14 p0 [0] 3).bind fun v15 => (ho_fR σ14 v15 [1] 8).bind fun v16 => (ho_is σ14 v16 [15]).bind fun b17 => ho_b2 (fn_J18_size v16 σ14) fun v19 σ18 => some (.inl v19, σ18)) (fun q5 => some (.inr q5, σ2))
def fn_X1_prune_b74 (ev : Nat → Option Nat)  (l0 : Option Nat) (l1 : Option Nat) (l3 : Int32) (σ : Hs) : Option ((Int32 ⊕ Nat) × Hs) := (ho_is σ l0 [0]).bind fun b1 => (fn_X1_replaceBy l0 l1 σ).bind fun σ2 => some (.inl l3, σ2)
def fn_X1_prune_b68 (ev : Nat → Option Nat)  (k31 : Option Nat → Option Nat → Option Nat → Int32 → Int32 → Hs → Option ((Int32 ⊕ Nat) × Hs)) (l0 : Option Nat) (l1 : Option Nat) (l2 : Option Nat) (l3 : Int32) (l4 : Int32) (σ : Hs) : Option ((Int32 ⊕ Nat) × Hs) := k31 l0 l1 l2 l3 (l4 + (-1)) σ
def fn_X1_prune_b31 (ev : Nat → Option Nat)  : Nat → Option Nat → Option Nat → Option Nat → Int32 → Int32 → Hs → Option ((Int32 ⊕ Nat) × Hs)
  | 0, _, _, _, _, _, _ => none
  | n + 1, l0, l1, l2, l3, l4, σ => if l4 < 0 then fn_X1_prune_b74 ev l0 l1 l3 σ else (ho_is σ l1 [1]).bind fun b3 => ho_b2 (fn_X2_copy ev l1 σ) fun v5 σ4 => (ho_aR σ4 l2 [3, 4, 5, 6, 7, 8] l4).bind fun v6 => (ho_is σ4 v5 [1]).bind fun b7 => (fn_X2_remove v5 v6 σ4).bind fun σ8 => (ho_is σ8 v5 [1]).bind fun b9 => ho_b2 (fn_X2_bearsLoads v5 σ8) fun v11 σ10 => if v11 = 0 then fn_X1_prune_b68 ev (fn_X1_prune_b31 ev n) l0 l1 l2 l3 l4 σ10 else fn_X1_prune_b68 ev (fn_X1_prune_b31 ev n) l0 v5 l2 (l3 + 1) l4 σ10
def fn_X1_prune (ev : Nat → Option Nat) (p0 : Option Nat) (σ : Hs) : Option ((Int32 ⊕ Nat) × Hs) := (ho_fR σ p0 [0] 3).bind fun v12 => (ho_is σ v12 [1]).bind fun b13 => ho_b2 (fn_X2_bearsLoads v12 σ) fun v15 σ14 => ho_b2 (fn_X1_checkState v15 σ14) fun v17 σ16 => ho_x v17 (fun _ => (ho_fR σ16 p0 [0] 3).bind fun v20 => (ho_is σ16 v20 [1]).bind fun b21 => ho_b2 (fn_X2_copy ev v20 σ16) fun v23 σ22 => (ho_is σ22 v23 [1]).bind fun b24 => ho_b2 (fn_X2_row v23 σ22) fun v26 σ25 => (ho_len σ25 v26).bind fun v27 => (some (v27 - (1 : Int32))).bind fun v28 => fn_X1_prune_b31 ev fu_el p0 v23 v26 (0 : Int32) v28 σ25) (fun q19 => some (.inr q19, σ16))
def fn_X1_shrink_b15 (ev : Nat → Option Nat)  (l0 : Option Nat) (l1 : Int32) (l2 : Int32) (t0 : Int32) (σ : Hs) : Option ((Int32 ⊕ Nat) × Hs) := ho_b2 (fn_X1_checkState t0 σ) fun v2 σ1 => ho_x v2 (fun _ => (ho_fR σ1 l0 [0] 3).bind fun v5 => (ho_fR σ1 v5 [1] 6).bind fun v6 => (ho_aI σ1 v6 [0, 90] l1).bind fun v7 => (ho_fR σ1 l0 [0] 3).bind fun v8 => (ho_is σ1 v8 [1]).bind fun b9 => ho_b2 (fn_X2_copy ev v8 σ1) fun v11 σ10 => (ho_is σ10 l0 [0]).bind fun b12 => (fn_X1_replaceBy l0 v11 σ10).bind fun σ13 => (ho_fR σ13 l0 [0] 3).bind fun v14 => (ho_fR σ13 v14 [1] 6).bind fun v15 => (ho_tI σ13 v15 0 l1 l2).bind fun σ16 => some (.inl v7, σ16)) (fun q4 => some (.inr q4, σ1))
def fn_X1_shrink (ev : Nat → Option Nat) (p0 : Option Nat) (p1 : Int32) (σ : Hs) : Option ((Int32 ⊕ Nat) × Hs) := (ho_is σ p0 [0]).bind fun b17 => ho_b2 (fn_X1_smallestArea ev p0 p1 σ) fun v19 σ18 => ho_x v19 (fun x20 => if x20 ≤ 0 then fn_X1_shrink_b15 ev p0 p1 x20 (0 : Int32) σ18 else fn_X1_shrink_b15 ev p0 p1 x20 (1 : Int32) σ18) (fun q21 => some (.inr q21, σ18))
def fn_X1_shrinkAll_b53 (ev : Nat → Option Nat)  (l0 : Option Nat) (σ : Hs) : Option (Int32 × Hs) := (ho_fR σ l0 [0] 3).bind fun v1 => (ho_is σ v1 [1]).bind fun b2 => ho_b2 (fn_X2_weightOf v1 σ) fun v4 σ3 => some (v4, σ3)
def fn_X1_shrinkAll_b47 (ev : Nat → Option Nat)  (k13 : Option Nat → Int32 → Hs → Option (Int32 × Hs)) (l0 : Option Nat) (l1 : Int32) (σ : Hs) : Option (Int32 × Hs) := k13 l0 (l1 + 1) σ
def fn_X1_shrinkAll_b13 (ev : Nat → Option Nat)  : Nat → Option Nat → Int32 → Hs → Option (Int32 × Hs)
  | 0, _, _, _ => none
  | n + 1, l0, l1, σ => (ho_fR σ l0 [0] 3).bind fun v5 => (ho_fI σ v5 [1] 7).bind fun v6 => if v6 ≤ l1 then fn_X1_shrinkAll_b53 ev l0 σ else (ho_fR σ l0 [0] 3).bind fun v7 => (ho_is σ v7 [1]).bind fun b8 => ho_b2 (fn_X2_leastArea v7 l1 σ) fun v10 σ9 => if v10 ≤ 0 then fn_X1_shrinkAll_b47 ev (fn_X1_shrinkAll_b13 ev n) l0 l1 σ9 else (ho_fR σ9 l0 [0] 3).bind fun v11 => (ho_fR σ9 v11 [1] 6).bind fun v12 => (ho_tI σ9 v12 0 l1 v10).bind fun σ13 => fn_X1_shrinkAll_b47 ev (fn_X1_shrinkAll_b13 ev n) l0 l1 σ13
def fn_X1_shrinkAll (ev : Nat → Option Nat) (p0 : Option Nat) (σ : Hs) : Option (Int32 × Hs) := (ho_fR σ p0 [0] 3).bind fun v14 => (ho_is σ v14 [1]).bind fun b15 => ho_b2 (fn_X2_copy ev v14 σ) fun v17 σ16 => (ho_is σ16 p0 [0]).bind fun b18 => (fn_X1_replaceBy p0 v17 σ16).bind fun σ19 => fn_X1_shrinkAll_b13 ev fu_el p0 (0 : Int32) σ19
def fn_X1_undo (p0 : Option Nat) (σ : Hs) : Option (Int32 × Hs) := (ho_fR σ p0 [0] 4).bind fun v1 => (ho_is σ v1 [17]).bind fun b2 => ho_b2 (fn_J20_isEmpty v1 σ) fun v4 σ3 => if v4 = 0 then (ho_fR σ3 p0 [0] 4).bind fun v5 => (ho_is σ3 v5 [17]).bind fun b6 => ho_b2 (fn_J20_removeLast v5 σ3) fun v8 σ7 => (ho_in σ7 v8 [1]).bind fun _ => (ho_pR σ7 p0 [0] 3 v8).bind fun σ10 => (ho_fR σ10 p0 [0] 4).bind fun v11 => (ho_is σ10 v11 [17]).bind fun b12 => ho_b2 (fn_J20_size v11 σ10) fun v14 σ13 => some (v14, σ13) else some ((-1 : Int32), σ3)
def fn_X1_checksum_b41  (l0 : Option Nat) (σ : Hs) : Option (Int64 × Hs) := ho_b2 (ho_new σ (.inr (11, [.null, .null, .int 0, .null, .null, .null, .null, .null])) 8) fun v1 σ2 => (ho_fR σ2 l0 [0] 3).bind fun v3 => v1.bind fun b4 => (fn_X12_init v1 v3 σ2).bind fun σ5 => (ho_fR σ5 l0 [0] 3).bind fun v6 => (ho_is σ5 v6 [1]).bind fun b7 => ho_b2 (fn_X2_countStages v6 σ5) fun v9 σ8 => (ho_fR σ8 v1 [11] 1).bind fun v10 => (ho_len σ8 v10).bind fun v11 => none
def fn_X1_checksum_b4  : Nat → Option Nat → Int64 → Int32 → Hs → Option (Int64 × Hs)
  | 0, _, _, _, _ => none
  | n + 1, l0, l1, l3, σ => (ho_fR σ l0 [0] 3).bind fun v12 => (ho_fI σ v12 [1] 7).bind fun v13 => if v13 ≤ l3 then fn_X1_checksum_b41 l0 σ else ho_b2 (ho_nI σ 0 (1 : Int32)) fun v14 σ15 => (ho_fR σ15 l0 [0] 3).bind fun v16 => (ho_fR σ15 v16 [1] 6).bind fun v17 => (ho_aI σ15 v17 [0, 90] l3).bind fun v18 => (ho_tI σ15 v14 0 (0 : Int32) v18).bind fun σ19 => ho_b2 (fn_X1_mixed l1 v14 σ19) fun v21 σ20 => fn_X1_checksum_b4 n l0 v21 (l3 + 1) σ20
def fn_X1_checksum (p0 : Option Nat) (σ : Hs) : Option (Int64 × Hs) := fn_X1_checksum_b4 fu_el p0 (0 : Int64) (0 : Int32) σ
theorem px_X1_26 : px "ElasticTruss" 26 [0] 0 (.array (.byte)) true := ⟨"ElasticTruss", "ElasticTruss", "buffer", "[B", ⟨Or.inl q673, Or.inl rfl⟩, px_c (r := (RX1, TX1, 5)) (Nat.le_of_ble_eq_true rfl) rfl (Nat.le_of_ble_eq_true rfl) rfl (px_0), by decide +kernel, fun _ => ⟨rfl, q673⟩⟩
theorem px_X1_30 : px "ElasticTruss" 30 [0] 2 (.int) false := ⟨"ElasticTruss", "ElasticTruss", "errorOffset", "I", ⟨Or.inl q675, Or.inl rfl⟩, px_c (r := (RX1, TX1, 5)) (Nat.le_of_ble_eq_true rfl) rfl (Nat.le_of_ble_eq_true rfl) rfl (px_0), by decide +kernel, fun h => by cases h⟩
theorem nx_X1_34 : nx "ElasticTruss" 34 1 9 [.int 0, .int 0, .int 0, .null, .null, .null, .null, .int 0, .null] := ⟨(Nat.le_of_ble_eq_true rfl), rfl, RX2, TX2, tyX2, rfl, rfl, q181, q182, q103, by
  intro j hj
  match j, hj with
  | 0, _ => rfl
  | 1, _ => rfl
  | 2, _ => rfl
  | 3, _ => rfl
  | 4, _ => rfl
  | 5, _ => rfl
  | 6, _ => rfl
  | 7, _ => rfl
  | 8, _ => rfl
  | j + 9, hj => omega⟩
theorem cx_X1_36 : cxI "ElasticTruss" 36 yX2_init cX2_init 1 0 := ⟨q183, q184, q103, q185, ⟨by decide +kernel, by decide +kernel⟩, rfl, fun sig h => by have e := (show (parseMethodDescriptor (yX2_init).desc).map (fun d => d.parameters.length) = some 0 by decide +kernel); rw [h] at e; exact (Option.some.inj e).symm⟩
theorem px_X1_37 : px "ElasticTruss" 37 [0] 3 (.object "ElasticTruss$Truss") false := ⟨"ElasticTruss", "ElasticTruss", "truss", "LElasticTruss$Truss;", ⟨Or.inl q676, Or.inl rfl⟩, px_c (r := (RX1, TX1, 5)) (Nat.le_of_ble_eq_true rfl) rfl (Nat.le_of_ble_eq_true rfl) rfl (px_0), by decide +kernel, fun h => by cases h⟩
theorem nx_X1_41 : nx "ElasticTruss" 41 17 3 [.null, .int 0, .int 0] := ⟨(Nat.le_of_ble_eq_true rfl), rfl, RJ20, TJ20, tyJ20, rfl, rfl, q652, q653, q126, by
  intro j hj
  match j, hj with
  | 0, _ => rfl
  | 1, _ => rfl
  | 2, _ => rfl
  | j + 3, hj => omega⟩
theorem cx_X1_43 : cxI "ElasticTruss" 43 yJ20_init cJ20_init 2 1 := ⟨q654, q655, q126, q656, ⟨by decide +kernel, by decide +kernel⟩, rfl, fun sig h => by have e := (show (parseMethodDescriptor (yJ20_init).desc).map (fun d => d.parameters.length) = some 1 by decide +kernel); rw [h] at e; exact (Option.some.inj e).symm⟩
theorem px_X1_46 : px "ElasticTruss" 46 [0] 4 (.object "java/util/ArrayDeque") true := ⟨"ElasticTruss", "ElasticTruss", "history", "Ljava/util/ArrayDeque;", ⟨Or.inl q677, Or.inl rfl⟩, px_c (r := (RX1, TX1, 5)) (Nat.le_of_ble_eq_true rfl) rfl (Nat.le_of_ble_eq_true rfl) rfl (px_0), by decide +kernel, fun _ => ⟨rfl, q677⟩⟩
theorem fx_X1_26 : fx "ElasticTruss" 26 [0] 0 := ⟨"ElasticTruss", "ElasticTruss", "buffer", "[B", ⟨Or.inl q673, Or.inl rfl⟩, fx_c (r := (RX1, TX1, 5)) (Nat.le_of_ble_eq_true rfl) rfl (Nat.le_of_ble_eq_true rfl) rfl rfl rfl (fx_0)⟩
theorem fx_X1_50 : fx "ElasticTruss" 50 [0] 1 := ⟨"ElasticTruss", "ElasticTruss", "bufferLength", "I", ⟨Or.inl q674, Or.inl rfl⟩, fx_c (r := (RX1, TX1, 5)) (Nat.le_of_ble_eq_true rfl) rfl (Nat.le_of_ble_eq_true rfl) rfl rfl rfl (fx_0)⟩
theorem px_X1_50 : px "ElasticTruss" 50 [0] 1 (.int) false := ⟨"ElasticTruss", "ElasticTruss", "bufferLength", "I", ⟨Or.inl q674, Or.inl rfl⟩, px_c (r := (RX1, TX1, 5)) (Nat.le_of_ble_eq_true rfl) rfl (Nat.le_of_ble_eq_true rfl) rfl (px_0), by decide +kernel, fun h => by cases h⟩
theorem cx_X1_53 : cxV "ElasticTruss" "ElasticTruss" 53 yX1_put cX1_put 7 (Option.none : Option FieldType) 1 := ⟨q693, q695, qs1, q102, q696, ⟨by decide +kernel, by decide +kernel⟩, fun sig h => by have e := (show (parseMethodDescriptor (yX1_put).desc).map (fun d => d.parameters.length) = some 1 by decide +kernel); rw [h] at e; exact (Option.some.inj e).symm⟩
theorem rx_0 : rx 0 "ElasticTruss" := Or.inl ⟨(Nat.le_of_ble_eq_true rfl), (RX1, TX1, 5), rfl, rfl⟩
theorem fx_X1_46 : fx "ElasticTruss" 46 [0] 4 := ⟨"ElasticTruss", "ElasticTruss", "history", "Ljava/util/ArrayDeque;", ⟨Or.inl q677, Or.inl rfl⟩, fx_c (r := (RX1, TX1, 5)) (Nat.le_of_ble_eq_true rfl) rfl (Nat.le_of_ble_eq_true rfl) rfl rfl rfl (fx_0)⟩
theorem fx_X1_37 : fx "ElasticTruss" 37 [0] 3 := ⟨"ElasticTruss", "ElasticTruss", "truss", "LElasticTruss$Truss;", ⟨Or.inl q676, Or.inl rfl⟩, fx_c (r := (RX1, TX1, 5)) (Nat.le_of_ble_eq_true rfl) rfl (Nat.le_of_ble_eq_true rfl) rfl rfl rfl (fx_0)⟩
theorem cx_X1_112 : cxV "ElasticTruss" "java/util/ArrayDeque" 112 yJ20_addLast cJ20_addLast 3 (Option.none : Option FieldType) 1 := ⟨q2582, q2583, q2584, q126, q2585, ⟨by decide +kernel, by decide +kernel⟩, fun sig h => by have e := (show (parseMethodDescriptor (yJ20_addLast).desc).map (fun d => d.parameters.length) = some 1 by decide +kernel); rw [h] at e; exact (Option.some.inj e).symm⟩
theorem cx_X1_116 : cxV "ElasticTruss" "java/util/ArrayDeque" 116 yJ20_size cJ20_size 1 (Option.some FieldType.int) 0 := ⟨q2612, q934, q935, q126, q936, ⟨by decide +kernel, by decide +kernel⟩, fun sig h => by have e := (show (parseMethodDescriptor (yJ20_size).desc).map (fun d => d.parameters.length) = some 0 by decide +kernel); rw [h] at e; exact (Option.some.inj e).symm⟩
theorem cx_X1_117 : cxV "ElasticTruss" "java/util/ArrayDeque" 117 yJ20_removeFirst cJ20_removeFirst 2 (Option.some (FieldType.object "java/lang/Object")) 0 := ⟨q2613, q2614, q2615, q126, q2616, ⟨by decide +kernel, by decide +kernel⟩, fun sig h => by have e := (show (parseMethodDescriptor (yJ20_removeFirst).desc).map (fun d => d.parameters.length) = some 0 by decide +kernel); rw [h] at e; exact (Option.some.inj e).symm⟩
theorem fx_X1_84 : fx "ElasticTruss" 84 [1] 7 := ⟨"ElasticTruss$Truss", "ElasticTruss$Truss", "groupCount", "I", ⟨Or.inr ⟨_, lw_n q628 rfl⟩, Or.inl rfl⟩, fx_c (r := (RX2, TX2, 9)) (Nat.le_of_ble_eq_true rfl) rfl (Nat.le_of_ble_eq_true rfl) rfl rfl rfl (fx_0)⟩
theorem cx_X1_76 : cxS "ElasticTruss" 76 yX1_isIn cX1_isIn 6 (Option.some FieldType.boolean) 3 := ⟨q2676, q2677, q102, q2678, ⟨by decide +kernel, by decide +kernel⟩, fun sig h => by have e := (show (parseMethodDescriptor (yX1_isIn).desc).map (fun d => d.parameters.length) = some 3 by decide +kernel); rw [h] at e; exact (Option.some.inj e).symm⟩
theorem cx_X1_80 : cxS "ElasticTruss" 80 yX1_checkIndex cX1_checkIndex 1 (Option.none : Option FieldType) 1 := ⟨q3123, q3124, q102, q3125, ⟨by decide +kernel, by decide +kernel⟩, fun sig h => by have e := (show (parseMethodDescriptor (yX1_checkIndex).desc).map (fun d => d.parameters.length) = some 1 by decide +kernel); rw [h] at e; exact (Option.some.inj e).symm⟩
theorem fx_X1_90 : fx "ElasticTruss" 90 [1] 8 := ⟨"ElasticTruss$Truss", "ElasticTruss$Truss", "members", "Ljava/util/Map;", ⟨Or.inr ⟨_, lw_n q631 rfl⟩, Or.inl rfl⟩, fx_c (r := (RX2, TX2, 9)) (Nat.le_of_ble_eq_true rfl) rfl (Nat.le_of_ble_eq_true rfl) rfl rfl rfl (fx_0)⟩
theorem cx_X1_94_15 : cxF "ElasticTruss" "java/util/LinkedHashMap" 94 ⟨"java/util/Map", "size", "()I"⟩ yJ18_size cJ18_size 1 (Option.some FieldType.int) 0 := ⟨q724, by decide +kernel, q728, q730, q124, q732, fun sig h => by have e := (show (parseMethodDescriptor (⟨"java/util/Map", "size", "()I"⟩ : MethodName).desc).map (fun d => d.parameters.length) = some 0 by decide +kernel); rw [h] at e; exact (Option.some.inj e).symm⟩
theorem cx_X1_97 : cxV "ElasticTruss" "ElasticTruss$Truss" 97 yX2_row cX2_row 5 (Option.some (FieldType.array (FieldType.object "ElasticTruss$Member"))) 0 := ⟨q3152, q1128, q1129, q103, q1130, ⟨by decide +kernel, by decide +kernel⟩, fun sig h => by have e := (show (parseMethodDescriptor (yX2_row).desc).map (fun d => d.parameters.length) = some 0 by decide +kernel); rw [h] at e; exact (Option.some.inj e).symm⟩
theorem fx_X1_66 : fx "ElasticTruss" 66 [1] 3 := ⟨"ElasticTruss$Truss", "ElasticTruss$Truss", "nodes", "Ljava/util/List;", ⟨Or.inr ⟨_, lw_n q617 rfl⟩, Or.inl rfl⟩, fx_c (r := (RX2, TX2, 9)) (Nat.le_of_ble_eq_true rfl) rfl (Nat.le_of_ble_eq_true rfl) rfl rfl rfl (fx_0)⟩
theorem cx_X1_70_13 : cxF "ElasticTruss" "java/util/ArrayList" 70 ⟨"java/util/List", "size", "()I"⟩ yJ2_size cJ2_size 1 (Option.some FieldType.int) 0 := ⟨q706, by decide +kernel, q710, q712, q106, q714, fun sig h => by have e := (show (parseMethodDescriptor (⟨"java/util/List", "size", "()I"⟩ : MethodName).desc).map (fun d => d.parameters.length) = some 0 by decide +kernel); rw [h] at e; exact (Option.some.inj e).symm⟩
theorem cx_X1_87 : cxV "ElasticTruss" "ElasticTruss$Truss" 87 yX2_countStages cX2_countStages 4 (Option.some FieldType.int) 0 := ⟨q737, q738, q739, q103, q740, ⟨by decide +kernel, by decide +kernel⟩, fun sig h => by have e := (show (parseMethodDescriptor (yX2_countStages).desc).map (fun d => d.parameters.length) = some 0 by decide +kernel); rw [h] at e; exact (Option.some.inj e).symm⟩
theorem cx_X1_101 : cxV "ElasticTruss" "ElasticTruss" 101 yX1_checkStage cX1_checkStage 2 (Option.none : Option FieldType) 1 := ⟨q3197, q3199, qs50, q102, q3200, ⟨by decide +kernel, by decide +kernel⟩, fun sig h => by have e := (show (parseMethodDescriptor (yX1_checkStage).desc).map (fun d => d.parameters.length) = some 1 by decide +kernel); rw [h] at e; exact (Option.some.inj e).symm⟩
theorem nx_X1_104 : nx "ElasticTruss" 104 11 8 [.null, .null, .int 0, .null, .null, .null, .null, .null] := ⟨(Nat.le_of_ble_eq_true rfl), rfl, RX12, TX12, tyX12, rfl, rfl, q1121, q1122, q161, by
  intro j hj
  match j, hj with
  | 0, _ => rfl
  | 1, _ => rfl
  | 2, _ => rfl
  | 3, _ => rfl
  | 4, _ => rfl
  | 5, _ => rfl
  | 6, _ => rfl
  | 7, _ => rfl
  | j + 8, hj => omega⟩
theorem cx_X1_106 : cxI "ElasticTruss" 106 yX12_init cX12_init 3 1 := ⟨q1123, q1124, q161, q1125, ⟨by decide +kernel, by decide +kernel⟩, rfl, fun sig h => by have e := (show (parseMethodDescriptor (yX12_init).desc).map (fun d => d.parameters.length) = some 1 by decide +kernel); rw [h] at e; exact (Option.some.inj e).symm⟩
theorem cx_X1_109 : cxV "ElasticTruss" "ElasticTruss$Relaxation" 109 yX12_relax cX12_relax 7 (Option.none : Option FieldType) 1 := ⟨q1179, q1180, q1181, q161, q1182, ⟨by decide +kernel, by decide +kernel⟩, fun sig h => by have e := (show (parseMethodDescriptor (yX12_relax).desc).map (fun d => d.parameters.length) = some 1 by decide +kernel); rw [h] at e; exact (Option.some.inj e).symm⟩
theorem fx_X1_138 : fx "ElasticTruss" 138 [4] 7 := ⟨"ElasticTruss$SetupException", "ElasticTruss$SetupException", "offset", "I", ⟨Or.inr ⟨_, lw_n q2770 rfl⟩, Or.inl rfl⟩, fx_c (r := (RX5, TX5, 8)) (Nat.le_of_ble_eq_true rfl) rfl (Nat.le_of_ble_eq_true rfl) rfl rfl rfl (fx_0)⟩
theorem fx_X1_141 : fx "ElasticTruss" 141 [4] 6 := ⟨"ElasticTruss$SetupException", "ElasticTruss$SetupException", "code", "I", ⟨Or.inr ⟨_, lw_n q2768 rfl⟩, Or.inl rfl⟩, fx_c (r := (RX5, TX5, 8)) (Nat.le_of_ble_eq_true rfl) rfl (Nat.le_of_ble_eq_true rfl) rfl rfl rfl (fx_0)⟩
theorem cx_X1_121 : cxS "ElasticTruss" 121 yX1_checkArgument cX1_checkArgument 1 (Option.none : Option FieldType) 1 := ⟨q2679, q2680, q102, q2681, ⟨by decide +kernel, by decide +kernel⟩, fun sig h => by have e := (show (parseMethodDescriptor (yX1_checkArgument).desc).map (fun d => d.parameters.length) = some 1 by decide +kernel); rw [h] at e; exact (Option.some.inj e).symm⟩
theorem nx_X1_124 : nx "ElasticTruss" 124 3 7 [.int 0, .null, .int 0, .int 0, .int 0, .int 0, .null] := ⟨(Nat.le_of_ble_eq_true rfl), rfl, RX4, TX4, tyX4, rfl, rfl, q2693, q2694, q128, by
  intro j hj
  match j, hj with
  | 0, _ => rfl
  | 1, _ => rfl
  | 2, _ => rfl
  | 3, _ => rfl
  | 4, _ => rfl
  | 5, _ => rfl
  | 6, _ => rfl
  | j + 7, hj => omega⟩
theorem cx_X1_126 : cxI "ElasticTruss" 126 yX4_init cX4_init 3 2 := ⟨q2695, q2696, q128, q2697, ⟨by decide +kernel, by decide +kernel⟩, rfl, fun sig h => by have e := (show (parseMethodDescriptor (yX4_init).desc).map (fun d => d.parameters.length) = some 2 by decide +kernel); rw [h] at e; exact (Option.some.inj e).symm⟩
theorem cx_X1_129 : cxV "ElasticTruss" "ElasticTruss$SetupReader" 129 yX4_read cX4_read 3 (Option.some (FieldType.object "ElasticTruss$Truss")) 0 := ⟨q2723, q2724, q2725, q128, q2726, ⟨by decide +kernel, by decide +kernel⟩, fun sig h => by have e := (show (parseMethodDescriptor (yX4_read).desc).map (fun d => d.parameters.length) = some 0 by decide +kernel); rw [h] at e; exact (Option.some.inj e).symm⟩
theorem cx_X1_133 : cxV "ElasticTruss" "ElasticTruss" 133 yX1_replaceBy cX1_replaceBy 2 (Option.none : Option FieldType) 1 := ⟨q2578, q2580, qs19, q102, q2581, ⟨by decide +kernel, by decide +kernel⟩, fun sig h => by have e := (show (parseMethodDescriptor (yX1_replaceBy).desc).map (fun d => d.parameters.length) = some 1 by decide +kernel); rw [h] at e; exact (Option.some.inj e).symm⟩
theorem rx_4 : rx 4 "ElasticTruss$SetupException" := Or.inl ⟨(Nat.le_of_ble_eq_true rfl), (RX5, TX5, 8), rfl, rfl⟩
theorem fx_X1_30 : fx "ElasticTruss" 30 [0] 2 := ⟨"ElasticTruss", "ElasticTruss", "errorOffset", "I", ⟨Or.inl q675, Or.inl rfl⟩, fx_c (r := (RX1, TX1, 5)) (Nat.le_of_ble_eq_true rfl) rfl (Nat.le_of_ble_eq_true rfl) rfl rfl rfl (fx_0)⟩
theorem cx_X1_144 : cxV "ElasticTruss" "ElasticTruss$Truss" 144 yX2_weightOf cX2_weightOf 4 (Option.some FieldType.int) 0 := ⟨q886, q887, q888, q103, q889, ⟨by decide +kernel, by decide +kernel⟩, fun sig h => by have e := (show (parseMethodDescriptor (yX2_weightOf).desc).map (fun d => d.parameters.length) = some 0 by decide +kernel); rw [h] at e; exact (Option.some.inj e).symm⟩
theorem cx_X1_147 : cxV "ElasticTruss" "ElasticTruss" 147 yX1_checkGroup cX1_checkGroup 2 (Option.none : Option FieldType) 1 := ⟨q3119, q3121, qs46, q102, q3122, ⟨by decide +kernel, by decide +kernel⟩, fun sig h => by have e := (show (parseMethodDescriptor (yX1_checkGroup).desc).map (fun d => d.parameters.length) = some 1 by decide +kernel); rw [h] at e; exact (Option.some.inj e).symm⟩
theorem fx_X1_150 : fx "ElasticTruss" 150 [1] 6 := ⟨"ElasticTruss$Truss", "ElasticTruss$Truss", "areas", "[I", ⟨Or.inr ⟨_, lw_n q626 rfl⟩, Or.inl rfl⟩, fx_c (r := (RX2, TX2, 9)) (Nat.le_of_ble_eq_true rfl) rfl (Nat.le_of_ble_eq_true rfl) rfl rfl rfl (fx_0)⟩
theorem cx_X1_153 : cxV "ElasticTruss" "ElasticTruss" 153 yX1_memberAt cX1_memberAt 2 (Option.some (FieldType.object "ElasticTruss$Member")) 1 := ⟨q3148, q3150, qs47, q102, q3151, ⟨by decide +kernel, by decide +kernel⟩, fun sig h => by have e := (show (parseMethodDescriptor (yX1_memberAt).desc).map (fun d => d.parameters.length) = some 1 by decide +kernel); rw [h] at e; exact (Option.some.inj e).symm⟩
theorem fx_X1_170 : fx "ElasticTruss" 170 [7] 5 := ⟨"ElasticTruss$Member", "ElasticTruss$Member", "length", "I", ⟨Or.inr ⟨_, lw_n q2964 rfl⟩, Or.inl rfl⟩, fx_c (r := (RX8, TX8, 6)) (Nat.le_of_ble_eq_true rfl) rfl (Nat.le_of_ble_eq_true rfl) rfl rfl rfl (fx_0)⟩
theorem fx_X1_167 : fx "ElasticTruss" 167 [7] 2 := ⟨"ElasticTruss$Member", "ElasticTruss$Member", "group", "I", ⟨Or.inr ⟨_, lw_n q2956 rfl⟩, Or.inl rfl⟩, fx_c (r := (RX8, TX8, 6)) (Nat.le_of_ble_eq_true rfl) rfl (Nat.le_of_ble_eq_true rfl) rfl rfl rfl (fx_0)⟩
theorem fx_X1_164 : fx "ElasticTruss" 164 [7] 1 := ⟨"ElasticTruss$Member", "ElasticTruss$Member", "second", "I", ⟨Or.inr ⟨_, lw_n q2953 rfl⟩, Or.inl rfl⟩, fx_c (r := (RX8, TX8, 6)) (Nat.le_of_ble_eq_true rfl) rfl (Nat.le_of_ble_eq_true rfl) rfl rfl rfl (fx_0)⟩
theorem fx_X1_159 : fx "ElasticTruss" 159 [7] 0 := ⟨"ElasticTruss$Member", "ElasticTruss$Member", "first", "I", ⟨Or.inr ⟨_, lw_n q2949 rfl⟩, Or.inl rfl⟩, fx_c (r := (RX8, TX8, 6)) (Nat.le_of_ble_eq_true rfl) rfl (Nat.le_of_ble_eq_true rfl) rfl rfl rfl (fx_0)⟩
theorem cx_X1_195_21 : cxF "ElasticTruss" "java/util/LinkedHashMap$LinkedKeyIterator" 195 ⟨"java/util/Iterator", "hasNext", "()Z"⟩ yJ35_hasNext cJ35_hasNext 1 (Option.some FieldType.boolean) 0 := ⟨q1113, by decide +kernel, q798, q794, q152, q796, fun sig h => by have e := (show (parseMethodDescriptor (⟨"java/util/Iterator", "hasNext", "()Z"⟩ : MethodName).desc).map (fun d => d.parameters.length) = some 0 by decide +kernel); rw [h] at e; exact (Option.some.inj e).symm⟩
theorem cx_X1_201_21 : cxF "ElasticTruss" "java/util/LinkedHashMap$LinkedKeyIterator" 201 ⟨"java/util/Iterator", "next", "()Ljava/lang/Object;"⟩ yJ37_next cJ37_next 1 (Option.some (FieldType.object "java/lang/Object")) 0 := ⟨q1115, by decide +kernel, q853, q855, q154, q857, fun sig h => by have e := (show (parseMethodDescriptor (⟨"java/util/Iterator", "next", "()Ljava/lang/Object;"⟩ : MethodName).desc).map (fun d => d.parameters.length) = some 0 by decide +kernel); rw [h] at e; exact (Option.some.inj e).symm⟩
theorem cx_X1_204 : cxV "ElasticTruss" "ElasticTruss$PairKey" 204 yX7_equals cX7_equals 3 (Option.some FieldType.boolean) 1 := ⟨q3178, q2332, q3820, q132, q2333, ⟨by decide +kernel, by decide +kernel⟩, fun sig h => by have e := (show (parseMethodDescriptor (yX7_equals).desc).map (fun d => d.parameters.length) = some 1 by decide +kernel); rw [h] at e; exact (Option.some.inj e).symm⟩
theorem cx_X1_173 : cxV "ElasticTruss" "ElasticTruss" 173 yX1_checkNodes cX1_checkNodes 6 (Option.none : Option FieldType) 1 := ⟨q3161, q3163, qs48, q102, q3164, ⟨by decide +kernel, by decide +kernel⟩, fun sig h => by have e := (show (parseMethodDescriptor (yX1_checkNodes).desc).map (fun d => d.parameters.length) = some 1 by decide +kernel); rw [h] at e; exact (Option.some.inj e).symm⟩
theorem nx_X1_176 : nx "ElasticTruss" 176 6 2 [.int 0, .int 0] := ⟨(Nat.le_of_ble_eq_true rfl), rfl, RX7, TX7, tyX7, rfl, rfl, q3165, q2897, q132, by
  intro j hj
  match j, hj with
  | 0, _ => rfl
  | 1, _ => rfl
  | j + 2, hj => omega⟩
theorem cx_X1_178 : cxI "ElasticTruss" 178 yX7_init cX7_init 3 2 := ⟨q3166, q2899, q132, q2900, ⟨by decide +kernel, by decide +kernel⟩, rfl, fun sig h => by have e := (show (parseMethodDescriptor (yX7_init).desc).map (fun d => d.parameters.length) = some 2 by decide +kernel); rw [h] at e; exact (Option.some.inj e).symm⟩
theorem cx_X1_181_15 : cxF "ElasticTruss" "java/util/LinkedHashMap" 181 ⟨"java/util/Map", "containsKey", "(Ljava/lang/Object;)Z"⟩ yJ18_containsKey cJ18_containsKey 2 (Option.some FieldType.boolean) 1 := ⟨q3168, by decide +kernel, q2915, q2917, q124, q2919, fun sig h => by have e := (show (parseMethodDescriptor (⟨"java/util/Map", "containsKey", "(Ljava/lang/Object;)Z"⟩ : MethodName).desc).map (fun d => d.parameters.length) = some 1 by decide +kernel); rw [h] at e; exact (Option.some.inj e).symm⟩
theorem cx_X1_185_15 : cxF "ElasticTruss" "java/util/LinkedHashMap" 185 ⟨"java/util/Map", "keySet", "()Ljava/util/Set;"⟩ yJ19_keySet cJ19_keySet 1 (Option.some (FieldType.object "java/util/Set")) 0 := ⟨q3170, by decide +kernel, q3173, q1063, q125, q1064, fun sig h => by have e := (show (parseMethodDescriptor (⟨"java/util/Map", "keySet", "()Ljava/util/Set;"⟩ : MethodName).desc).map (fun d => d.parameters.length) = some 0 by decide +kernel); rw [h] at e; exact (Option.some.inj e).symm⟩
theorem cx_X1_189_19 : cxF "ElasticTruss" "java/util/LinkedHashMap$LinkedKeySet" 189 ⟨"java/util/Set", "iterator", "()Ljava/util/Iterator;"⟩ yJ41_iterator cJ41_iterator 1 (Option.some (FieldType.object "java/util/Iterator")) 0 := ⟨q3177, by decide +kernel, q1096, q1020, q158, q1022, fun sig h => by have e := (show (parseMethodDescriptor (⟨"java/util/Set", "iterator", "()Ljava/util/Iterator;"⟩ : MethodName).desc).map (fun d => d.parameters.length) = some 0 by decide +kernel); rw [h] at e; exact (Option.some.inj e).symm⟩
theorem fx_X1_207 : fx "ElasticTruss" 207 [11] 3 := ⟨"ElasticTruss$Relaxation", "ElasticTruss$Relaxation", "joined", "[[LElasticTruss$Member;", ⟨Or.inr ⟨_, lw_n q1152 rfl⟩, Or.inl rfl⟩, fx_c (r := (RX12, TX12, 8)) (Nat.le_of_ble_eq_true rfl) rfl (Nat.le_of_ble_eq_true rfl) rfl rfl rfl (fx_0)⟩
theorem cx_X1_195_22 : cxF "ElasticTruss" "java/util/LinkedHashMap$LinkedValueIterator" 195 ⟨"java/util/Iterator", "hasNext", "()Z"⟩ yJ35_hasNext cJ35_hasNext 1 (Option.some FieldType.boolean) 0 := ⟨q1113, by decide +kernel, q801, q794, q152, q796, fun sig h => by have e := (show (parseMethodDescriptor (⟨"java/util/Iterator", "hasNext", "()Z"⟩ : MethodName).desc).map (fun d => d.parameters.length) = some 0 by decide +kernel); rw [h] at e; exact (Option.some.inj e).symm⟩
theorem cx_X1_201_22 : cxF "ElasticTruss" "java/util/LinkedHashMap$LinkedValueIterator" 201 ⟨"java/util/Iterator", "next", "()Ljava/lang/Object;"⟩ yJ38_next cJ38_next 1 (Option.some (FieldType.object "java/lang/Object")) 0 := ⟨q1115, by decide +kernel, q868, q870, q155, q872, fun sig h => by have e := (show (parseMethodDescriptor (⟨"java/util/Iterator", "next", "()Ljava/lang/Object;"⟩ : MethodName).desc).map (fun d => d.parameters.length) = some 0 by decide +kernel); rw [h] at e; exact (Option.some.inj e).symm⟩
theorem cx_X1_211_15 : cxF "ElasticTruss" "java/util/LinkedHashMap" 211 ⟨"java/util/Map", "values", "()Ljava/util/Collection;"⟩ yJ19_values cJ19_values 1 (Option.some (FieldType.object "java/util/Collection")) 0 := ⟨q1109, by decide +kernel, q894, q896, q125, q898, fun sig h => by have e := (show (parseMethodDescriptor (⟨"java/util/Map", "values", "()Ljava/util/Collection;"⟩ : MethodName).desc).map (fun d => d.parameters.length) = some 0 by decide +kernel); rw [h] at e; exact (Option.some.inj e).symm⟩
theorem cx_X1_215_18 : cxF "ElasticTruss" "java/util/LinkedHashMap$LinkedValues" 215 ⟨"java/util/Collection", "iterator", "()Ljava/util/Iterator;"⟩ yJ31_iterator cJ31_iterator 1 (Option.some (FieldType.object "java/util/Iterator")) 0 := ⟨q1111, by decide +kernel, q1036, q1038, q148, q1040, fun sig h => by have e := (show (parseMethodDescriptor (⟨"java/util/Collection", "iterator", "()Ljava/util/Iterator;"⟩ : MethodName).desc).map (fun d => d.parameters.length) = some 0 by decide +kernel); rw [h] at e; exact (Option.some.inj e).symm⟩
theorem cx_X1_218 : cxV "ElasticTruss" "ElasticTruss" 218 yX1_relaxed cX1_relaxed 3 (Option.some (FieldType.object "ElasticTruss$Relaxation")) 1 := ⟨q3193, q3195, qs49, q102, q3196, ⟨by decide +kernel, by decide +kernel⟩, fun sig h => by have e := (show (parseMethodDescriptor (yX1_relaxed).desc).map (fun d => d.parameters.length) = some 1 by decide +kernel); rw [h] at e; exact (Option.some.inj e).symm⟩
theorem fx_X1_226 : fx "ElasticTruss" 226 [11] 5 := ⟨"ElasticTruss$Relaxation", "ElasticTruss$Relaxation", "uy", "[J", ⟨Or.inr ⟨_, lw_n q1156 rfl⟩, Or.inl rfl⟩, fx_c (r := (RX12, TX12, 8)) (Nat.le_of_ble_eq_true rfl) rfl (Nat.le_of_ble_eq_true rfl) rfl rfl rfl (fx_0)⟩
theorem fx_X1_222 : fx "ElasticTruss" 222 [11] 4 := ⟨"ElasticTruss$Relaxation", "ElasticTruss$Relaxation", "ux", "[J", ⟨Or.inr ⟨_, lw_n q1154 rfl⟩, Or.inl rfl⟩, fx_c (r := (RX12, TX12, 8)) (Nat.le_of_ble_eq_true rfl) rfl (Nat.le_of_ble_eq_true rfl) rfl rfl rfl (fx_0)⟩
theorem cx_X1_229 : cxV "ElasticTruss" "ElasticTruss$Relaxation" 229 yX12_forceIn cX12_forceIn 6 (Option.some FieldType.int) 1 := ⟨q1246, q1225, q1226, q161, q1227, ⟨by decide +kernel, by decide +kernel⟩, fun sig h => by have e := (show (parseMethodDescriptor (yX12_forceIn).desc).map (fun d => d.parameters.length) = some 1 by decide +kernel); rw [h] at e; exact (Option.some.inj e).symm⟩
theorem cx_X1_233 : cxV "ElasticTruss" "ElasticTruss$Relaxation" 233 yX12_balance cX12_balance 14 (Option.none : Option FieldType) 2 := ⟨q3215, q1207, q1208, q161, q1209, ⟨by decide +kernel, by decide +kernel⟩, fun sig h => by have e := (show (parseMethodDescriptor (yX12_balance).desc).map (fun d => d.parameters.length) = some 2 by decide +kernel); rw [h] at e; exact (Option.some.inj e).symm⟩
theorem fx_X1_239 : fx "ElasticTruss" 239 [11] 7 := ⟨"ElasticTruss$Relaxation", "ElasticTruss$Relaxation", "ry", "[J", ⟨Or.inr ⟨_, lw_n q1160 rfl⟩, Or.inl rfl⟩, fx_c (r := (RX12, TX12, 8)) (Nat.le_of_ble_eq_true rfl) rfl (Nat.le_of_ble_eq_true rfl) rfl rfl rfl (fx_0)⟩
theorem fx_X1_236 : fx "ElasticTruss" 236 [11] 6 := ⟨"ElasticTruss$Relaxation", "ElasticTruss$Relaxation", "rx", "[J", ⟨Or.inr ⟨_, lw_n q1158 rfl⟩, Or.inl rfl⟩, fx_c (r := (RX12, TX12, 8)) (Nat.le_of_ble_eq_true rfl) rfl (Nat.le_of_ble_eq_true rfl) rfl rfl rfl (fx_0)⟩
theorem cx_X1_242 : cxV "ElasticTruss" "ElasticTruss$Truss" 242 yX2_bucklingOf cX2_bucklingOf 2 (Option.some FieldType.int) 1 := ⟨q3223, q1256, q1257, q103, q1258, ⟨by decide +kernel, by decide +kernel⟩, fun sig h => by have e := (show (parseMethodDescriptor (yX2_bucklingOf).desc).map (fun d => d.parameters.length) = some 1 by decide +kernel); rw [h] at e; exact (Option.some.inj e).symm⟩
theorem cx_X1_245 : cxV "ElasticTruss" "ElasticTruss$Truss" 245 yX2_capacityOf cX2_capacityOf 4 (Option.some FieldType.int) 2 := ⟨q3231, q1252, q1253, q103, q1254, ⟨by decide +kernel, by decide +kernel⟩, fun sig h => by have e := (show (parseMethodDescriptor (yX2_capacityOf).desc).map (fun d => d.parameters.length) = some 2 by decide +kernel); rw [h] at e; exact (Option.some.inj e).symm⟩
theorem cx_X1_249 : cxV "ElasticTruss" "ElasticTruss$Truss" 249 yX2_useOf cX2_useOf 4 (Option.some FieldType.int) 2 := ⟨q1247, q1248, q1249, q103, q1250, ⟨by decide +kernel, by decide +kernel⟩, fun sig h => by have e := (show (parseMethodDescriptor (yX2_useOf).desc).map (fun d => d.parameters.length) = some 2 by decide +kernel); rw [h] at e; exact (Option.some.inj e).symm⟩
theorem cx_X1_256 : cxS "ElasticTruss" 256 yJ12_max cJ12_max 2 (Option.some FieldType.int) 2 := ⟨q1295, q307, q116, q308, ⟨by decide +kernel, by decide +kernel⟩, fun sig h => by have e := (show (parseMethodDescriptor (yJ12_max).desc).map (fun d => d.parameters.length) = some 2 by decide +kernel); rw [h] at e; exact (Option.some.inj e).symm⟩
theorem fx_X1_253 : fx "ElasticTruss" 253 [11] 1 := ⟨"ElasticTruss$Relaxation", "ElasticTruss$Relaxation", "members", "[LElasticTruss$Member;", ⟨Or.inr ⟨_, lw_n q1149 rfl⟩, Or.inl rfl⟩, fx_c (r := (RX12, TX12, 8)) (Nat.le_of_ble_eq_true rfl) rfl (Nat.le_of_ble_eq_true rfl) rfl rfl rfl (fx_0)⟩
theorem cx_X1_259 : cxV "ElasticTruss" "ElasticTruss$Relaxation" 259 yX12_failures cX12_failures 5 (Option.some (FieldType.object "java/util/Set")) 0 := ⟨q1300, q1301, q1302, q161, q1303, ⟨by decide +kernel, by decide +kernel⟩, fun sig h => by have e := (show (parseMethodDescriptor (yX12_failures).desc).map (fun d => d.parameters.length) = some 0 by decide +kernel); rw [h] at e; exact (Option.some.inj e).symm⟩
theorem cx_X1_262_24 : cxF "ElasticTruss" "java/util/LinkedHashSet" 262 ⟨"java/util/Set", "size", "()I"⟩ yJ44_size cJ44_size 1 (Option.some FieldType.int) 0 := ⟨q2437, by decide +kernel, q2455, q2457, q162, q2459, fun sig h => by have e := (show (parseMethodDescriptor (⟨"java/util/Set", "size", "()I"⟩ : MethodName).desc).map (fun d => d.parameters.length) = some 0 by decide +kernel); rw [h] at e; exact (Option.some.inj e).symm⟩
theorem fx_X1_268 : fx "ElasticTruss" 268 [12] 0 := ⟨"ElasticTruss$Failure", "ElasticTruss$Failure", "stage", "I", ⟨Or.inr ⟨_, lw_n q1836 rfl⟩, Or.inl rfl⟩, fx_c (r := (RX13, TX13, 2)) (Nat.le_of_ble_eq_true rfl) rfl (Nat.le_of_ble_eq_true rfl) rfl rfl rfl (fx_0)⟩
theorem fx_X1_265 : fx "ElasticTruss" 265 [12] 1 := ⟨"ElasticTruss$Failure", "ElasticTruss$Failure", "member", "I", ⟨Or.inr ⟨_, lw_n q1838 rfl⟩, Or.inl rfl⟩, fx_c (r := (RX13, TX13, 2)) (Nat.le_of_ble_eq_true rfl) rfl (Nat.le_of_ble_eq_true rfl) rfl rfl rfl (fx_0)⟩
theorem cx_X1_189_24 : cxF "ElasticTruss" "java/util/LinkedHashSet" 189 ⟨"java/util/Set", "iterator", "()Ljava/util/Iterator;"⟩ yJ44_iterator cJ44_iterator 1 (Option.some (FieldType.object "java/util/Iterator")) 0 := ⟨q3177, by decide +kernel, q1098, q1056, q162, q1058, fun sig h => by have e := (show (parseMethodDescriptor (⟨"java/util/Set", "iterator", "()Ljava/util/Iterator;"⟩ : MethodName).desc).map (fun d => d.parameters.length) = some 0 by decide +kernel); rw [h] at e; exact (Option.some.inj e).symm⟩
theorem cx_X1_271 : cxV "ElasticTruss" "ElasticTruss$Truss" 271 yX2_copy cX2_copy 2 (Option.some (FieldType.object "ElasticTruss$Truss")) 0 := ⟨q2465, q2466, q2467, q103, q2468, ⟨by decide +kernel, by decide +kernel⟩, fun sig h => by have e := (show (parseMethodDescriptor (yX2_copy).desc).map (fun d => d.parameters.length) = some 0 by decide +kernel); rw [h] at e; exact (Option.some.inj e).symm⟩
theorem cx_X1_274 : cxV "ElasticTruss" "ElasticTruss$Truss" 274 yX2_remove cX2_remove 2 (Option.none : Option FieldType) 1 := ⟨q3254, q3255, q3256, q103, q3257, ⟨by decide +kernel, by decide +kernel⟩, fun sig h => by have e := (show (parseMethodDescriptor (yX2_remove).desc).map (fun d => d.parameters.length) = some 1 by decide +kernel); rw [h] at e; exact (Option.some.inj e).symm⟩
theorem cx_X1_278 : cxV "ElasticTruss" "ElasticTruss$Truss" 278 yX2_bearsLoads cX2_bearsLoads 1 (Option.some FieldType.boolean) 0 := ⟨q3286, q3287, q3288, q103, q3289, ⟨by decide +kernel, by decide +kernel⟩, fun sig h => by have e := (show (parseMethodDescriptor (yX2_bearsLoads).desc).map (fun d => d.parameters.length) = some 0 by decide +kernel); rw [h] at e; exact (Option.some.inj e).symm⟩
theorem cx_X1_281 : cxV "ElasticTruss" "ElasticTruss$Truss" 281 yX2_leastArea cX2_leastArea 6 (Option.some FieldType.int) 1 := ⟨q2624, q2625, q2626, q103, q2627, ⟨by decide +kernel, by decide +kernel⟩, fun sig h => by have e := (show (parseMethodDescriptor (yX2_leastArea).desc).map (fun d => d.parameters.length) = some 1 by decide +kernel); rw [h] at e; exact (Option.some.inj e).symm⟩
theorem cx_X1_291 : cxS "ElasticTruss" 291 yX1_checkState cX1_checkState 1 (Option.none : Option FieldType) 1 := ⟨q3314, q3315, q102, q3316, ⟨by decide +kernel, by decide +kernel⟩, fun sig h => by have e := (show (parseMethodDescriptor (yX1_checkState).desc).map (fun d => d.parameters.length) = some 1 by decide +kernel); rw [h] at e; exact (Option.some.inj e).symm⟩
theorem cx_X1_294 : cxV "ElasticTruss" "ElasticTruss$Truss" 294 yX2_join cX2_join 6 (Option.none : Option FieldType) 3 := ⟨q3322, q2930, q2931, q103, q2932, ⟨by decide +kernel, by decide +kernel⟩, fun sig h => by have e := (show (parseMethodDescriptor (yX2_join).desc).map (fun d => d.parameters.length) = some 3 by decide +kernel); rw [h] at e; exact (Option.some.inj e).symm⟩
theorem cx_X1_287 : cxV "ElasticTruss" "ElasticTruss$Truss" 287 yX2_isJoined cX2_isJoined 3 (Option.some FieldType.boolean) 2 := ⟨q3313, q2893, q2894, q103, q2895, ⟨by decide +kernel, by decide +kernel⟩, fun sig h => by have e := (show (parseMethodDescriptor (yX2_isJoined).desc).map (fun d => d.parameters.length) = some 2 by decide +kernel); rw [h] at e; exact (Option.some.inj e).symm⟩
theorem cx_X1_298 : cxV "ElasticTruss" "ElasticTruss" 298 yX1_smallestArea cX1_smallestArea 2 (Option.some FieldType.int) 1 := ⟨q3344, q3294, q3295, q102, q3296, ⟨by decide +kernel, by decide +kernel⟩, fun sig h => by have e := (show (parseMethodDescriptor (yX1_smallestArea).desc).map (fun d => d.parameters.length) = some 1 by decide +kernel); rw [h] at e; exact (Option.some.inj e).symm⟩
theorem cx_X1_301 : cxV "ElasticTruss" "java/util/ArrayDeque" 301 yJ20_isEmpty cJ20_isEmpty 1 (Option.some FieldType.boolean) 0 := ⟨q2642, q2643, q2644, q126, q2645, ⟨by decide +kernel, by decide +kernel⟩, fun sig h => by have e := (show (parseMethodDescriptor (yJ20_isEmpty).desc).map (fun d => d.parameters.length) = some 0 by decide +kernel); rw [h] at e; exact (Option.some.inj e).symm⟩
theorem cx_X1_304 : cxV "ElasticTruss" "java/util/ArrayDeque" 304 yJ20_removeLast cJ20_removeLast 2 (Option.some (FieldType.object "java/lang/Object")) 0 := ⟨q2646, q2647, q2648, q126, q2649, ⟨by decide +kernel, by decide +kernel⟩, fun sig h => by have e := (show (parseMethodDescriptor (yJ20_removeLast).desc).map (fun d => d.parameters.length) = some 0 by decide +kernel); rw [h] at e; exact (Option.some.inj e).symm⟩
theorem cx_X1_309 : cxS "ElasticTruss" 309 yX1_mixed cX1_mixed 9 (Option.some FieldType.long) 2 := ⟨q2661, q2662, q102, q2663, ⟨by decide +kernel, by decide +kernel⟩, fun sig h => by have e := (show (parseMethodDescriptor (yX1_mixed).desc).map (fun d => d.parameters.length) = some 2 by decide +kernel); rw [h] at e; exact (Option.some.inj e).symm⟩
set_option maxHeartbeats 4000000 in
theorem mt_X1_init {E : Ev} {l : Launch} (hl : l.stackTraces = false) {p0 : Option Nat} {σ : Hs} {σ' : Hs} (hf : fn_X1_init E.2.2.1 p0 σ = some σ') : wk_M E l yX1_init (ws_ yX1_init cX1_init 1 (Option.none : Option FieldType)) 6 3175 [vR p0] σ (.inl none) σ' := by
  refine wk_start (by decide +kernel) hl (Nat.le_of_ble_eq_true rfl) (fun K C hK => ?_)
  subst hK
  refine wk_L (L' := [(0, vR p0)]) rfl ?_
  unfold fn_X1_init at hf
  refine wk_aload_n C 0 rfl dX1_init_0 ?_
  obtain ⟨b1, h_b1, hf⟩ := ho_b hf
  refine wk_objI C h_b1 q178 q179 q180 (Nat.le_of_ble_eq_true rfl) (Nat.le_of_ble_eq_true rfl) dX1_init_1 ?_
  refine wk_aload_n C 0 rfl dX1_init_4 ?_
  refine wk_sipush (v := 800) C dX1_init_5 rfl ?_
  obtain ⟨v2, σ3, h_σ3, hf⟩ := ho_e2 hf
  refine wk_newaB C q282 h_σ3 dX1_init_8 ?_
  obtain ⟨σ4, h_σ4, hf⟩ := ho_b hf
  refine wk_putR C px_X1_26 (Or.inr ⟨_, rfl⟩) (fun _ => rfl) h_σ4 dX1_init_10 ?_
  refine wk_aload_n C 0 rfl dX1_init_13 ?_
  refine wk_iconst (v := -1) C dX1_init_14 rfl ?_
  obtain ⟨σ5, h_σ5, hf⟩ := ho_b hf
  refine wk_putI C px_X1_30 (fun q => by cases q) h_σ5 dX1_init_15 ?_
  refine wk_aload_n C 0 rfl dX1_init_18 ?_
  obtain ⟨v6, σ7, h_σ7, hf⟩ := ho_e2 hf
  refine wk_new C nx_X1_34 h_σ7 dX1_init_19 ?_
  refine wk_dup C rfl dX1_init_22 ?_
  obtain ⟨b8, h_b8, hf⟩ := ho_b hf
  obtain ⟨σ9, h_σ9, hf⟩ := ho_b hf
  refine wk_callI (av := []) (rest := [vR v6, vR p0]) C cx_X1_36 h_b8 (mt_X2_init (wk_C.tr C) h_σ9) rfl (Nat.le_of_ble_eq_true rfl) (Nat.le_of_ble_eq_true rfl) (Nat.le_of_ble_eq_true rfl) dX1_init_23 ?_
  obtain ⟨σ10, h_σ10, hf⟩ := ho_b hf
  refine wk_putR C px_X1_37 (Or.inl ⟨_, rfl⟩) (fun q => by cases q) h_σ10 dX1_init_26 ?_
  refine wk_aload_n C 0 rfl dX1_init_29 ?_
  obtain ⟨v11, σ12, h_σ12, hf⟩ := ho_e2 hf
  refine wk_new C nx_X1_41 h_σ12 dX1_init_30 ?_
  refine wk_dup C rfl dX1_init_33 ?_
  refine wk_bipush (v := 9) C dX1_init_34 rfl ?_
  obtain ⟨b13, h_b13, hf⟩ := ho_b hf
  obtain ⟨σ14, h_σ14, hf⟩ := ho_b hf
  refine wk_callI (av := [vI (9 : Int32)]) (rest := [vR v11, vR p0]) C cx_X1_43 h_b13 (mt_J20_init (wk_C.tr C) h_σ14) rfl (Nat.le_of_ble_eq_true rfl) (Nat.le_of_ble_eq_true rfl) (Nat.le_of_ble_eq_true rfl) dX1_init_36 ?_
  obtain ⟨σ15, h_σ15, hf⟩ := ho_b hf
  refine wk_putR C px_X1_46 (Or.inl ⟨_, rfl⟩) (fun _ => rfl) h_σ15 dX1_init_39 ?_
  obtain rfl := Option.some.inj hf
  exact wk_vret C rfl rfl dX1_init_42
set_option maxHeartbeats 4000000 in
theorem wb_X1_put_b60 {E : Ev} {K : Kx} (C : wk_C E K yX1_put cX1_put 7 (Option.none : Option FieldType) 0 0 []) {k8 : Option Nat → Option Nat → Int32 → Int32 → Hs → Option Hs} {σ' : Hs} (hk8 : ∀ (l0 : Option Nat) (l2 : Option Nat) (l3 : Int32) (l4 : Int32) (σ : Hs), k8 l0 l2 l3 l4 σ = some σ' → wk_V E K (.inl none) σ' σ 8 [(0, vR l0), (2, vR l2), (3, vI l3), (4, vI l4)] []) (l0 : Option Nat) (l2 : Option Nat) (l3 : Int32) (l4 : Int32) (σ : Hs) (hf : fn_X1_put_b60 k8 l0 l2 l3 l4 σ = some σ') : wk_V E K (.inl none) σ' σ 60 [(0, vR l0), (2, vR l2), (3, vI l3), (4, vI l4)] [] := by
  unfold fn_X1_put_b60 at hf
  refine wk_iinc (v := l4 + 1) (L' := [(0, vR l0), (2, vR l2), (3, vI l3), (4, vI (l4 + 1))]) C 3 rfl (by decide) rfl rfl dX1_put_60 ?_
  refine wk_goto C 8 (by decide) dX1_put_63 ?_
  exact hk8 _ _ _ _ _ hf
set_option maxHeartbeats 4000000 in
theorem wb_X1_put_b24 {E : Ev} {K : Kx} (C : wk_C E K yX1_put cX1_put 7 (Option.none : Option FieldType) 0 0 []) {k8 : Option Nat → Option Nat → Int32 → Int32 → Hs → Option Hs} {σ' : Hs} (hk8 : ∀ (l0 : Option Nat) (l2 : Option Nat) (l3 : Int32) (l4 : Int32) (σ : Hs), k8 l0 l2 l3 l4 σ = some σ' → wk_V E K (.inl none) σ' σ 8 [(0, vR l0), (2, vR l2), (3, vI l3), (4, vI l4)] []) : ∀ (n : Nat) (l0 : Option Nat) (l2 : Option Nat) (l3 : Int32) (l4 : Int32) (l5 : Int32) (l6 : Int32) (σ : Hs), fn_X1_put_b24 k8 n l0 l2 l3 l4 l5 l6 σ = some σ' → wk_V E K (.inl none) σ' σ 24 [(0, vR l0), (2, vR l2), (3, vI l3), (4, vI l4), (5, vI l5), (6, vI l6)] [] := by
  intro n
  induction n with
  | zero =>
    intro l0 l2 l3 l4 l5 l6 σ hf
    rw [fn_X1_put_b24] at hf
    cases hf
  | succ n ih =>
    intro l0 l2 l3 l4 l5 l6 σ hf
    rw [fn_X1_put_b24] at hf
    refine wk_iload C 5 rfl dX1_put_24 ?_
    refine wk_if_lt C 60 (by decide) dX1_put_26 (fun c_ => ?_) (fun c_ => ?_)
    · rw [if_pos c_] at hf
      refine wk_sub (L' := [(0, vR l0), (2, vR l2), (3, vI l3), (4, vI l4)]) [0, 1, 2, 3] rfl ?_
      exact wb_X1_put_b60 C hk8 _ _ _ _ _ hf
    · rw [if_neg c_] at hf
      refine wk_aload_n C 0 rfl dX1_put_29 ?_
      obtain ⟨v1, h_v1, hf⟩ := ho_b hf
      refine wk_getR C fx_X1_26 h_v1 dX1_put_30 ?_
      refine wk_aload_n C 0 rfl dX1_put_33 ?_
      obtain ⟨v2, h_v2, hf⟩ := ho_b hf
      refine wk_getI C fx_X1_50 h_v2 dX1_put_34 ?_
      refine wk_iload C 4 rfl dX1_put_37 ?_
      refine wk_iload C 5 rfl dX1_put_39 ?_
      refine wk_ishr C dX1_put_41 ?_
      refine wk_i2b C dX1_put_42 ?_
      obtain ⟨σ3, h_σ3, hf⟩ := ho_b hf
      refine wk_bast C h_σ3 dX1_put_43 ?_
      refine wk_aload_n C 0 rfl dX1_put_44 ?_
      refine wk_dup C rfl dX1_put_45 ?_
      obtain ⟨v4, h_v4, hf⟩ := ho_b hf
      refine wk_getI C fx_X1_50 h_v4 dX1_put_46 ?_
      refine wk_iconst (v := 1) C dX1_put_49 rfl ?_
      refine wk_iadd C dX1_put_50 ?_
      obtain ⟨σ5, h_σ5, hf⟩ := ho_b hf
      refine wk_putI C px_X1_50 (fun q => by cases q) h_σ5 dX1_put_51 ?_
      refine wk_iinc (v := l6 + (-8)) (L' := [(0, vR l0), (2, vR l2), (3, vI l3), (4, vI l4), (5, vI l5), (6, vI (l6 + (-8)))]) C 5 rfl (by decide) (by rw [show Int32.ofInt (-8) = (-8 : Int32) from by decide]) rfl dX1_put_54 ?_
      refine wk_goto C 24 (by decide) dX1_put_57 ?_
      exact ih _ _ _ _ _ _ _ hf
set_option maxHeartbeats 4000000 in
theorem wb_X1_put_b8 {E : Ev} {K : Kx} (C : wk_C E K yX1_put cX1_put 7 (Option.none : Option FieldType) 0 0 []) {σ' : Hs} : ∀ (n : Nat) (l0 : Option Nat) (l2 : Option Nat) (l3 : Int32) (l4 : Int32) (σ : Hs), fn_X1_put_b8 n l0 l2 l3 l4 σ = some σ' → wk_V E K (.inl none) σ' σ 8 [(0, vR l0), (2, vR l2), (3, vI l3), (4, vI l4)] [] := by
  intro n
  induction n with
  | zero =>
    intro l0 l2 l3 l4 σ hf
    rw [fn_X1_put_b8] at hf
    cases hf
  | succ n ih =>
    intro l0 l2 l3 l4 σ hf
    rw [fn_X1_put_b8] at hf
    refine wk_iload C 3 rfl dX1_put_8 ?_
    refine wk_iload_n C 2 rfl dX1_put_10 ?_
    refine wk_icmp_ge C 66 (by decide) dX1_put_11 (fun c_ => ?_) (fun c_ => ?_)
    · rw [if_pos c_] at hf
      obtain rfl := Option.some.inj hf
      exact wk_vret C rfl rfl dX1_put_66
    · rw [if_neg c_] at hf
      refine wk_aload_n C 1 rfl dX1_put_14 ?_
      refine wk_iload C 3 rfl dX1_put_15 ?_
      obtain ⟨v6, h_v6, hf⟩ := ho_b hf
      refine wk_iald C h_v6 dX1_put_17 ?_
      refine wk_istore (L' := [(0, vR l0), (2, vR l2), (3, vI l3), (4, vI l4), (5, vI v6)]) C (by decide) rfl dX1_put_18 ?_
      refine wk_bipush (v := 24) C dX1_put_20 rfl ?_
      refine wk_istore (L' := [(0, vR l0), (2, vR l2), (3, vI l3), (4, vI l4), (5, vI v6), (6, vI (24 : Int32))]) C (by decide) rfl dX1_put_22 ?_
      exact wb_X1_put_b24 C ih _ _ _ _ _ _ _ _ hf
set_option maxHeartbeats 4000000 in
theorem mt_X1_put {E : Ev} {l : Launch} (hl : l.stackTraces = false) {p0 : Option Nat} {p1 : Option Nat} {σ : Hs} {σ' : Hs} (hf : fn_X1_put p0 p1 σ = some σ') : wk_M E l yX1_put (ws_ yX1_put cX1_put 7 (Option.none : Option FieldType)) 0 0 [vR p0, vR p1] σ (.inl none) σ' := by
  refine wk_start (by decide +kernel) hl (Nat.le_of_ble_eq_true rfl) (fun K C hK => ?_)
  subst hK
  refine wk_L (L' := [(0, vR p0), (1, vR p1)]) rfl ?_
  unfold fn_X1_put at hf
  refine wk_aload_n C 1 rfl dX1_put_0 ?_
  refine wk_astore_n (L' := [(0, vR p0), (1, vR p1), (2, vR p1)]) C (by decide) rfl dX1_put_1 ?_
  refine wk_aload_n C 2 rfl dX1_put_2 ?_
  obtain ⟨v7, h_v7, hf⟩ := ho_b hf
  refine wk_alen C h_v7 dX1_put_3 ?_
  refine wk_istore_n (L' := [(0, vR p0), (1, vR p1), (2, vR p1), (3, vI v7)]) C (by decide) rfl dX1_put_4 ?_
  refine wk_iconst (v := 0) C dX1_put_5 rfl ?_
  refine wk_istore (L' := [(0, vR p0), (1, vR p1), (2, vR p1), (3, vI v7), (4, vI (0 : Int32))]) C (by decide) rfl dX1_put_6 ?_
  refine wk_sub (L' := [(0, vR p0), (2, vR p1), (3, vI v7), (4, vI (0 : Int32))]) [0, 2, 3, 4] rfl ?_
  exact wb_X1_put_b8 C  _ _ _ _ _ _ hf
set_option maxHeartbeats 4000000 in
theorem mt_X1_append {E : Ev} {l : Launch} (hl : l.stackTraces = false) {p0 : Option Nat} {p1 : Int32} {p2 : Int32} {p3 : Int32} {p4 : Int32} {p5 : Int32} {σ : Hs} {r : Int32} {σ' : Hs} (hf : fn_X1_append p0 p1 p2 p3 p4 p5 σ = some (r, σ')) : wk_M E l yX1_append (ws_ yX1_append cX1_append 6 (Option.some FieldType.int)) 1 26 [vR p0, vI p1, vI p2, vI p3, vI p4, vI p5] σ (.inl (some (.int r))) σ' := by
  refine wk_start (by decide +kernel) hl (Nat.le_of_ble_eq_true rfl) (fun K C hK => ?_)
  subst hK
  refine wk_L (L' := [(0, vR p0), (1, vI p1), (2, vI p2), (3, vI p3), (4, vI p4), (5, vI p5)]) rfl ?_
  unfold fn_X1_append at hf
  refine wk_aload_n C 0 rfl dX1_append_0 ?_
  obtain ⟨v1, h_v1, hf⟩ := ho_b hf
  refine wk_getI C fx_X1_50 h_v1 dX1_append_1 ?_
  refine wk_bipush (v := 20) C dX1_append_4 rfl ?_
  refine wk_iadd C dX1_append_6 ?_
  refine wk_sipush (v := 800) C dX1_append_7 rfl ?_
  refine wk_icmp_le C 15 (by decide) dX1_append_10 (fun c_ => ?_) (fun c_ => ?_)
  · rw [if_pos c_] at hf
    refine wk_aload_n C 0 rfl dX1_append_15 ?_
    refine wk_iconst (v := 5) C dX1_append_16 rfl ?_
    obtain ⟨v2, σ3, h_σ3, hf⟩ := ho_e2 hf
    refine wk_newaI C q606 h_σ3 dX1_append_17 ?_
    refine wk_dup C rfl dX1_append_19 ?_
    refine wk_iconst (v := 0) C dX1_append_20 rfl ?_
    refine wk_iload_n C 1 rfl dX1_append_21 ?_
    obtain ⟨σ4, h_σ4, hf⟩ := ho_b hf
    refine wk_iast C h_σ4 dX1_append_22 ?_
    refine wk_dup C rfl dX1_append_23 ?_
    refine wk_iconst (v := 1) C dX1_append_24 rfl ?_
    refine wk_iload_n C 2 rfl dX1_append_25 ?_
    obtain ⟨σ5, h_σ5, hf⟩ := ho_b hf
    refine wk_iast C h_σ5 dX1_append_26 ?_
    refine wk_dup C rfl dX1_append_27 ?_
    refine wk_iconst (v := 2) C dX1_append_28 rfl ?_
    refine wk_iload_n C 3 rfl dX1_append_29 ?_
    obtain ⟨σ6, h_σ6, hf⟩ := ho_b hf
    refine wk_iast C h_σ6 dX1_append_30 ?_
    refine wk_dup C rfl dX1_append_31 ?_
    refine wk_iconst (v := 3) C dX1_append_32 rfl ?_
    refine wk_iload C 4 rfl dX1_append_33 ?_
    obtain ⟨σ7, h_σ7, hf⟩ := ho_b hf
    refine wk_iast C h_σ7 dX1_append_35 ?_
    refine wk_dup C rfl dX1_append_36 ?_
    refine wk_iconst (v := 4) C dX1_append_37 rfl ?_
    refine wk_iload C 5 rfl dX1_append_38 ?_
    obtain ⟨σ8, h_σ8, hf⟩ := ho_b hf
    refine wk_iast C h_σ8 dX1_append_40 ?_
    obtain ⟨b9, h_b9, hf⟩ := ho_b hf
    obtain ⟨σ10, h_σ10, hf⟩ := ho_b hf
    refine wk_callV (av := [vR v2]) (rest := []) (rv := none) C h_b9 rx_0 cx_X1_53 (mt_X1_put (wk_C.tr C) h_σ10) rfl rfl (Nat.le_of_ble_eq_true rfl) (Nat.le_of_ble_eq_true rfl) (Nat.le_of_ble_eq_true rfl) dX1_append_41 ?_
    refine wk_aload_n C 0 rfl dX1_append_44 ?_
    obtain ⟨v11, h_v11, hf⟩ := ho_b hf
    refine wk_getI C fx_X1_50 h_v11 dX1_append_45 ?_
    obtain ⟨rfl, rfl⟩ := Prod.mk.inj (Option.some.inj hf)
    exact wk_iret C rfl rfl dX1_append_48
  · rw [if_neg c_] at hf
    refine wk_iconst (v := -1) C dX1_append_13 rfl ?_
    obtain ⟨rfl, rfl⟩ := Prod.mk.inj (Option.some.inj hf)
    exact wk_iret C rfl rfl dX1_append_14
set_option maxHeartbeats 4000000 in
theorem wb_X1_replaceBy_b31 {E : Ev} {K : Kx} (C : wk_C E K yX1_replaceBy cX1_replaceBy 2 (Option.none : Option FieldType) 3 65 []) {σ' : Hs} (l0 : Option Nat) (l1 : Option Nat) (σ : Hs) (hf : fn_X1_replaceBy_b31 l0 l1 σ = some σ') : wk_V E K (.inl none) σ' σ 31 [(0, vR l0), (1, vR l1)] [] := by
  unfold fn_X1_replaceBy_b31 at hf
  refine wk_aload_n C 0 rfl dX1_replaceBy_31 ?_
  refine wk_aload_n C 1 rfl dX1_replaceBy_32 ?_
  obtain ⟨σ1, h_σ1, hf⟩ := ho_b hf
  refine wk_putR C px_X1_37 (Or.inl ⟨_, rfl⟩) (fun q => by cases q) h_σ1 dX1_replaceBy_33 ?_
  obtain rfl := Option.some.inj hf
  exact wk_vret C rfl rfl dX1_replaceBy_36
set_option maxHeartbeats 4000000 in
theorem mt_X1_replaceBy {E : Ev} {l : Launch} (hl : l.stackTraces = false) {p0 : Option Nat} {p1 : Option Nat} {σ : Hs} {σ' : Hs} (hf : fn_X1_replaceBy p0 p1 σ = some σ') : wk_M E l yX1_replaceBy (ws_ yX1_replaceBy cX1_replaceBy 2 (Option.none : Option FieldType)) 3 65 [vR p0, vR p1] σ (.inl none) σ' := by
  refine wk_start (by decide +kernel) hl (Nat.le_of_ble_eq_true rfl) (fun K C hK => ?_)
  subst hK
  refine wk_L (L' := [(0, vR p0), (1, vR p1)]) rfl ?_
  unfold fn_X1_replaceBy at hf
  refine wk_aload_n C 0 rfl dX1_replaceBy_0 ?_
  obtain ⟨v2, h_v2, hf⟩ := ho_b hf
  refine wk_getR C fx_X1_46 h_v2 dX1_replaceBy_1 ?_
  refine wk_aload_n C 0 rfl dX1_replaceBy_4 ?_
  obtain ⟨v3, h_v3, hf⟩ := ho_b hf
  refine wk_getR C fx_X1_37 h_v3 dX1_replaceBy_5 ?_
  obtain ⟨b4, h_b4, hf⟩ := ho_b hf
  obtain ⟨σ5, h_σ5, hf⟩ := ho_b hf
  refine wk_callV (av := [vR v3]) (rest := []) (rv := none) C h_b4 rx_17 cx_X1_112 (mt_J20_addLast (wk_C.tr C) h_σ5) rfl rfl (Nat.le_of_ble_eq_true rfl) (Nat.le_of_ble_eq_true rfl) (Nat.le_of_ble_eq_true rfl) dX1_replaceBy_8 ?_
  refine wk_aload_n C 0 rfl dX1_replaceBy_11 ?_
  obtain ⟨v6, h_v6, hf⟩ := ho_b hf
  refine wk_getR C fx_X1_46 h_v6 dX1_replaceBy_12 ?_
  obtain ⟨b7, h_b7, hf⟩ := ho_b hf
  obtain ⟨v9, σ8, h_σ8, hf⟩ := ho_e2 hf
  refine wk_callV (av := []) (rest := []) (rv := some (vI v9)) C h_b7 rx_17 cx_X1_116 (mt_J20_size (wk_C.tr C) h_σ8) rfl rfl (Nat.le_of_ble_eq_true rfl) (Nat.le_of_ble_eq_true rfl) (Nat.le_of_ble_eq_true rfl) dX1_replaceBy_15 ?_
  refine wk_bipush (v := 8) C dX1_replaceBy_18 rfl ?_
  refine wk_icmp_le C 31 (by decide) dX1_replaceBy_20 (fun c_ => ?_) (fun c_ => ?_)
  · rw [if_pos c_] at hf
    exact wb_X1_replaceBy_b31 C  _ _ _ hf
  · rw [if_neg c_] at hf
    refine wk_aload_n C 0 rfl dX1_replaceBy_23 ?_
    obtain ⟨v10, h_v10, hf⟩ := ho_b hf
    refine wk_getR C fx_X1_46 h_v10 dX1_replaceBy_24 ?_
    obtain ⟨b11, h_b11, hf⟩ := ho_b hf
    obtain ⟨v13, σ12, h_σ12, hf⟩ := ho_e2 hf
    refine wk_callV (av := []) (rest := []) (rv := some (vR v13)) C h_b11 rx_17 cx_X1_117 (mt_J20_removeFirst (wk_C.tr C) h_σ12) rfl rfl (Nat.le_of_ble_eq_true rfl) (Nat.le_of_ble_eq_true rfl) (Nat.le_of_ble_eq_true rfl) dX1_replaceBy_27 ?_
    refine wk_pop C rfl dX1_replaceBy_30 ?_
    exact wb_X1_replaceBy_b31 C  _ _ _ hf
set_option maxHeartbeats 4000000 in
theorem mt_X1_checkGroup {E : Ev} {l : Launch} (hl : l.stackTraces = false) {p0 : Option Nat} {p1 : Int32} {σ : Hs} {r : Unit ⊕ Nat} {σ' : Hs} (hf : fn_X1_checkGroup p0 p1 σ = some (r, σ')) : wk_M E l yX1_checkGroup (ws_ yX1_checkGroup cX1_checkGroup 2 (Option.none : Option FieldType)) 7 101 [vR p0, vI p1] σ (ot_V r) σ' := by
  refine wk_start (by decide +kernel) hl (Nat.le_of_ble_eq_true rfl) (fun K C hK => ?_)
  subst hK
  refine wk_L (L' := [(0, vR p0), (1, vI p1)]) rfl ?_
  unfold fn_X1_checkGroup at hf
  refine wk_lconst (v := 0) C dX1_checkGroup_0 rfl ?_
  refine wk_aload_n C 0 rfl dX1_checkGroup_1 ?_
  obtain ⟨v1, h_v1, hf⟩ := ho_b hf
  refine wk_getR C fx_X1_37 h_v1 dX1_checkGroup_2 ?_
  obtain ⟨v2, h_v2, hf⟩ := ho_b hf
  refine wk_getI C fx_X1_84 h_v2 dX1_checkGroup_5 ?_
  refine wk_i2l C dX1_checkGroup_8 ?_
  refine wk_lconst (v := 1) C dX1_checkGroup_9 rfl ?_
  refine wk_lsub C dX1_checkGroup_10 ?_
  refine wk_iload_n C 1 rfl dX1_checkGroup_11 ?_
  refine wk_i2l C dX1_checkGroup_12 ?_
  obtain ⟨v4, σ3, h_σ3, hf⟩ := ho_e2 hf
  refine wk_callS (av := [vJ (0 : Int64), vJ (v2.toInt64 - (1 : Int64)), vJ p1.toInt64]) (rest := []) (rv := some (vI v4)) C cx_X1_76 (mt_X1_isIn (wk_C.tr C) h_σ3) rfl rfl (Nat.le_of_ble_eq_true rfl) (Nat.le_of_ble_eq_true rfl) (Nat.le_of_ble_eq_true rfl) dX1_checkGroup_13 ?_
  obtain ⟨v6, σ5, h_σ5, hf⟩ := ho_e2 hf
  rcases ho_xe hf with ⟨x7, rfl, hf⟩ | ⟨q8, rfl, hf⟩
  · refine wk_callS (av := [vI v4]) (rest := []) (rv := none) C cx_X1_80 (mt_X1_checkIndex (wk_C.tr C) h_σ5) rfl rfl (Nat.le_of_ble_eq_true rfl) (Nat.le_of_ble_eq_true rfl) (Nat.le_of_ble_eq_true rfl) dX1_checkGroup_16 ?_
    obtain ⟨rfl, rfl⟩ := Prod.mk.inj (Option.some.inj hf)
    exact wk_vret C rfl rfl dX1_checkGroup_19
  · refine wk_callST (av := [vI v4]) (rest := []) C cx_X1_80 (mt_X1_checkIndex (wk_C.tr C) h_σ5) rfl (Nat.le_of_ble_eq_true rfl) (Nat.le_of_ble_eq_true rfl) (Nat.le_of_ble_eq_true rfl) dX1_checkGroup_16 ?_
    obtain ⟨rfl, rfl⟩ := Prod.mk.inj (Option.some.inj hf)
    exact wk_out C (by decide +kernel) rfl rfl
set_option maxHeartbeats 4000000 in
theorem mt_X1_memberAt {E : Ev} {l : Launch} (hl : l.stackTraces = false) {p0 : Option Nat} {p1 : Int32} {σ : Hs} {r : Option Nat ⊕ Nat} {σ' : Hs} (hf : fn_X1_memberAt p0 p1 σ = some (r, σ')) : wk_M E l yX1_memberAt (ws_ yX1_memberAt cX1_memberAt 2 (Option.some (FieldType.object "ElasticTruss$Member"))) 7 120 [vR p0, vI p1] σ (ot_R r) σ' := by
  refine wk_start (by decide +kernel) hl (Nat.le_of_ble_eq_true rfl) (fun K C hK => ?_)
  subst hK
  refine wk_L (L' := [(0, vR p0), (1, vI p1)]) rfl ?_
  unfold fn_X1_memberAt at hf
  refine wk_lconst (v := 0) C dX1_memberAt_0 rfl ?_
  refine wk_aload_n C 0 rfl dX1_memberAt_1 ?_
  obtain ⟨v1, h_v1, hf⟩ := ho_b hf
  refine wk_getR C fx_X1_37 h_v1 dX1_memberAt_2 ?_
  obtain ⟨v2, h_v2, hf⟩ := ho_b hf
  refine wk_getR C fx_X1_90 h_v2 dX1_memberAt_5 ?_
  obtain ⟨b3, h_b3, hf⟩ := ho_b hf
  obtain ⟨v5, σ4, h_σ4, hf⟩ := ho_e2 hf
  refine wk_callF (av := []) (rest := [vJ (0 : Int64)]) (rv := some (vI v5)) C h_b3 rx_15 cx_X1_94_15 (mt_J18_size (wk_C.tr C) h_σ4) rfl rfl (Nat.le_of_ble_eq_true rfl) (Nat.le_of_ble_eq_true rfl) (Nat.le_of_ble_eq_true rfl) dX1_memberAt_8 ?_
  refine wk_i2l C dX1_memberAt_13 ?_
  refine wk_lconst (v := 1) C dX1_memberAt_14 rfl ?_
  refine wk_lsub C dX1_memberAt_15 ?_
  refine wk_iload_n C 1 rfl dX1_memberAt_16 ?_
  refine wk_i2l C dX1_memberAt_17 ?_
  obtain ⟨v7, σ6, h_σ6, hf⟩ := ho_e2 hf
  refine wk_callS (av := [vJ (0 : Int64), vJ (v5.toInt64 - (1 : Int64)), vJ p1.toInt64]) (rest := []) (rv := some (vI v7)) C cx_X1_76 (mt_X1_isIn (wk_C.tr C) h_σ6) rfl rfl (Nat.le_of_ble_eq_true rfl) (Nat.le_of_ble_eq_true rfl) (Nat.le_of_ble_eq_true rfl) dX1_memberAt_18 ?_
  obtain ⟨v9, σ8, h_σ8, hf⟩ := ho_e2 hf
  rcases ho_xe hf with ⟨x10, rfl, hf⟩ | ⟨q11, rfl, hf⟩
  · refine wk_callS (av := [vI v7]) (rest := []) (rv := none) C cx_X1_80 (mt_X1_checkIndex (wk_C.tr C) h_σ8) rfl rfl (Nat.le_of_ble_eq_true rfl) (Nat.le_of_ble_eq_true rfl) (Nat.le_of_ble_eq_true rfl) dX1_memberAt_21 ?_
    refine wk_aload_n C 0 rfl dX1_memberAt_24 ?_
    obtain ⟨v12, h_v12, hf⟩ := ho_b hf
    refine wk_getR C fx_X1_37 h_v12 dX1_memberAt_25 ?_
    obtain ⟨b13, h_b13, hf⟩ := ho_b hf
    obtain ⟨v15, σ14, h_σ14, hf⟩ := ho_e2 hf
    refine wk_callV (av := []) (rest := []) (rv := some (vR v15)) C h_b13 rx_1 cx_X1_97 (mt_X2_row (wk_C.tr C) h_σ14) rfl rfl (Nat.le_of_ble_eq_true rfl) (Nat.le_of_ble_eq_true rfl) (Nat.le_of_ble_eq_true rfl) dX1_memberAt_28 ?_
    refine wk_iload_n C 1 rfl dX1_memberAt_31 ?_
    obtain ⟨v16, h_v16, hf⟩ := ho_b hf
    refine wk_aald C h_v16 dX1_memberAt_32 ?_
    obtain ⟨rfl, rfl⟩ := Prod.mk.inj (Option.some.inj hf)
    exact wk_aret C (Or.inl ⟨_, rfl⟩) rfl rfl dX1_memberAt_33
  · refine wk_callST (av := [vI v7]) (rest := []) C cx_X1_80 (mt_X1_checkIndex (wk_C.tr C) h_σ8) rfl (Nat.le_of_ble_eq_true rfl) (Nat.le_of_ble_eq_true rfl) (Nat.le_of_ble_eq_true rfl) dX1_memberAt_21 ?_
    obtain ⟨rfl, rfl⟩ := Prod.mk.inj (Option.some.inj hf)
    exact wk_out C (by decide +kernel) rfl rfl
set_option maxHeartbeats 4000000 in
theorem wb_X1_checkNodes_b8 {E : Ev} {K : Kx} (C : wk_C E K yX1_checkNodes cX1_checkNodes 6 (Option.none : Option FieldType) 7 101 []) {r : Unit ⊕ Nat} {σ' : Hs} : ∀ (n : Nat) (l0 : Option Nat) (l2 : Option Nat) (l3 : Int32) (l4 : Int32) (σ : Hs), fn_X1_checkNodes_b8 n l0 l2 l3 l4 σ = some (r, σ') → wk_V E K (ot_V r) σ' σ 8 [(0, vR l0), (2, vR l2), (3, vI l3), (4, vI l4)] [] := by
  intro n
  induction n with
  | zero =>
    intro l0 l2 l3 l4 σ hf
    rw [fn_X1_checkNodes_b8] at hf
    cases hf
  | succ n ih =>
    intro l0 l2 l3 l4 σ hf
    rw [fn_X1_checkNodes_b8] at hf
    refine wk_iload C 3 rfl dX1_checkNodes_8 ?_
    refine wk_iload_n C 2 rfl dX1_checkNodes_10 ?_
    refine wk_icmp_ge C 51 (by decide) dX1_checkNodes_11 (fun c_ => ?_) (fun c_ => ?_)
    · rw [if_pos c_] at hf
      obtain ⟨rfl, rfl⟩ := Prod.mk.inj (Option.some.inj hf)
      exact wk_vret C rfl rfl dX1_checkNodes_51
    · rw [if_neg c_] at hf
      refine wk_aload_n C 1 rfl dX1_checkNodes_14 ?_
      refine wk_iload C 3 rfl dX1_checkNodes_15 ?_
      obtain ⟨v1, h_v1, hf⟩ := ho_b hf
      refine wk_iald C h_v1 dX1_checkNodes_17 ?_
      refine wk_istore (L' := [(0, vR l0), (2, vR l2), (3, vI l3), (4, vI l4), (5, vI v1)]) C (by decide) rfl dX1_checkNodes_18 ?_
      refine wk_lconst (v := 0) C dX1_checkNodes_20 rfl ?_
      refine wk_aload_n C 0 rfl dX1_checkNodes_21 ?_
      obtain ⟨v2, h_v2, hf⟩ := ho_b hf
      refine wk_getR C fx_X1_37 h_v2 dX1_checkNodes_22 ?_
      obtain ⟨v3, h_v3, hf⟩ := ho_b hf
      refine wk_getR C fx_X1_66 h_v3 dX1_checkNodes_25 ?_
      obtain ⟨b4, h_b4, hf⟩ := ho_b hf
      obtain ⟨v6, σ5, h_σ5, hf⟩ := ho_e2 hf
      refine wk_callF (av := []) (rest := [vJ (0 : Int64)]) (rv := some (vI v6)) C h_b4 rx_13 cx_X1_70_13 (mt_J2_size (wk_C.tr C) h_σ5) rfl rfl (Nat.le_of_ble_eq_true rfl) (Nat.le_of_ble_eq_true rfl) (Nat.le_of_ble_eq_true rfl) dX1_checkNodes_28 ?_
      refine wk_i2l C dX1_checkNodes_33 ?_
      refine wk_lconst (v := 1) C dX1_checkNodes_34 rfl ?_
      refine wk_lsub C dX1_checkNodes_35 ?_
      refine wk_iload C 4 rfl dX1_checkNodes_36 ?_
      refine wk_i2l C dX1_checkNodes_38 ?_
      obtain ⟨v8, σ7, h_σ7, hf⟩ := ho_e2 hf
      refine wk_callS (av := [vJ (0 : Int64), vJ (v6.toInt64 - (1 : Int64)), vJ v1.toInt64]) (rest := []) (rv := some (vI v8)) C cx_X1_76 (mt_X1_isIn (wk_C.tr C) h_σ7) rfl rfl (Nat.le_of_ble_eq_true rfl) (Nat.le_of_ble_eq_true rfl) (Nat.le_of_ble_eq_true rfl) dX1_checkNodes_39 ?_
      obtain ⟨v10, σ9, h_σ9, hf⟩ := ho_e2 hf
      rcases ho_xe hf with ⟨x11, rfl, hf⟩ | ⟨q12, rfl, hf⟩
      · refine wk_callS (av := [vI v8]) (rest := []) (rv := none) C cx_X1_80 (mt_X1_checkIndex (wk_C.tr C) h_σ9) rfl rfl (Nat.le_of_ble_eq_true rfl) (Nat.le_of_ble_eq_true rfl) (Nat.le_of_ble_eq_true rfl) dX1_checkNodes_42 ?_
        refine wk_iinc (v := l4 + 1) (L' := [(0, vR l0), (2, vR l2), (3, vI l3), (4, vI (l4 + 1)), (5, vI v1)]) C 3 rfl (by decide) rfl rfl dX1_checkNodes_45 ?_
        refine wk_goto C 8 (by decide) dX1_checkNodes_48 ?_
        refine wk_sub (L' := [(0, vR l0), (2, vR l2), (3, vI l3), (4, vI (l4 + 1))]) [0, 1, 2, 3] rfl ?_
        exact ih _ _ _ _ _ hf
      · refine wk_callST (av := [vI v8]) (rest := []) C cx_X1_80 (mt_X1_checkIndex (wk_C.tr C) h_σ9) rfl (Nat.le_of_ble_eq_true rfl) (Nat.le_of_ble_eq_true rfl) (Nat.le_of_ble_eq_true rfl) dX1_checkNodes_42 ?_
        obtain ⟨rfl, rfl⟩ := Prod.mk.inj (Option.some.inj hf)
        exact wk_out C (by decide +kernel) rfl rfl
set_option maxHeartbeats 4000000 in
theorem mt_X1_checkNodes {E : Ev} {l : Launch} (hl : l.stackTraces = false) {p0 : Option Nat} {p1 : Option Nat} {σ : Hs} {r : Unit ⊕ Nat} {σ' : Hs} (hf : fn_X1_checkNodes p0 p1 σ = some (r, σ')) : wk_M E l yX1_checkNodes (ws_ yX1_checkNodes cX1_checkNodes 6 (Option.none : Option FieldType)) 7 101 [vR p0, vR p1] σ (ot_V r) σ' := by
  refine wk_start (by decide +kernel) hl (Nat.le_of_ble_eq_true rfl) (fun K C hK => ?_)
  subst hK
  refine wk_L (L' := [(0, vR p0), (1, vR p1)]) rfl ?_
  unfold fn_X1_checkNodes at hf
  refine wk_aload_n C 1 rfl dX1_checkNodes_0 ?_
  refine wk_astore_n (L' := [(0, vR p0), (1, vR p1), (2, vR p1)]) C (by decide) rfl dX1_checkNodes_1 ?_
  refine wk_aload_n C 2 rfl dX1_checkNodes_2 ?_
  obtain ⟨v13, h_v13, hf⟩ := ho_b hf
  refine wk_alen C h_v13 dX1_checkNodes_3 ?_
  refine wk_istore_n (L' := [(0, vR p0), (1, vR p1), (2, vR p1), (3, vI v13)]) C (by decide) rfl dX1_checkNodes_4 ?_
  refine wk_iconst (v := 0) C dX1_checkNodes_5 rfl ?_
  refine wk_istore (L' := [(0, vR p0), (1, vR p1), (2, vR p1), (3, vI v13), (4, vI (0 : Int32))]) C (by decide) rfl dX1_checkNodes_6 ?_
  refine wk_sub (L' := [(0, vR p0), (2, vR p1), (3, vI v13), (4, vI (0 : Int32))]) [0, 2, 3, 4] rfl ?_
  exact wb_X1_checkNodes_b8 C  _ _ _ _ _ _ hf
set_option maxHeartbeats 4000000 in
theorem mt_X1_checkStage {E : Ev} {l : Launch} (hl : l.stackTraces = false) {p0 : Option Nat} {p1 : Int32} {σ : Hs} {r : Unit ⊕ Nat} {σ' : Hs} (hf : fn_X1_checkStage p0 p1 σ = some (r, σ')) : wk_M E l yX1_checkStage (ws_ yX1_checkStage cX1_checkStage 2 (Option.none : Option FieldType)) 7 101 [vR p0, vI p1] σ (ot_V r) σ' := by
  refine wk_start (by decide +kernel) hl (Nat.le_of_ble_eq_true rfl) (fun K C hK => ?_)
  subst hK
  refine wk_L (L' := [(0, vR p0), (1, vI p1)]) rfl ?_
  unfold fn_X1_checkStage at hf
  refine wk_lconst (v := 0) C dX1_checkStage_0 rfl ?_
  refine wk_aload_n C 0 rfl dX1_checkStage_1 ?_
  obtain ⟨v1, h_v1, hf⟩ := ho_b hf
  refine wk_getR C fx_X1_37 h_v1 dX1_checkStage_2 ?_
  obtain ⟨b2, h_b2, hf⟩ := ho_b hf
  obtain ⟨v4, σ3, h_σ3, hf⟩ := ho_e2 hf
  refine wk_callV (av := []) (rest := [vJ (0 : Int64)]) (rv := some (vI v4)) C h_b2 rx_1 cx_X1_87 (mt_X2_countStages (wk_C.tr C) h_σ3) rfl rfl (Nat.le_of_ble_eq_true rfl) (Nat.le_of_ble_eq_true rfl) (Nat.le_of_ble_eq_true rfl) dX1_checkStage_5 ?_
  refine wk_i2l C dX1_checkStage_8 ?_
  refine wk_lconst (v := 1) C dX1_checkStage_9 rfl ?_
  refine wk_lsub C dX1_checkStage_10 ?_
  refine wk_iload_n C 1 rfl dX1_checkStage_11 ?_
  refine wk_i2l C dX1_checkStage_12 ?_
  obtain ⟨v6, σ5, h_σ5, hf⟩ := ho_e2 hf
  refine wk_callS (av := [vJ (0 : Int64), vJ (v4.toInt64 - (1 : Int64)), vJ p1.toInt64]) (rest := []) (rv := some (vI v6)) C cx_X1_76 (mt_X1_isIn (wk_C.tr C) h_σ5) rfl rfl (Nat.le_of_ble_eq_true rfl) (Nat.le_of_ble_eq_true rfl) (Nat.le_of_ble_eq_true rfl) dX1_checkStage_13 ?_
  obtain ⟨v8, σ7, h_σ7, hf⟩ := ho_e2 hf
  rcases ho_xe hf with ⟨x9, rfl, hf⟩ | ⟨q10, rfl, hf⟩
  · refine wk_callS (av := [vI v6]) (rest := []) (rv := none) C cx_X1_80 (mt_X1_checkIndex (wk_C.tr C) h_σ7) rfl rfl (Nat.le_of_ble_eq_true rfl) (Nat.le_of_ble_eq_true rfl) (Nat.le_of_ble_eq_true rfl) dX1_checkStage_16 ?_
    obtain ⟨rfl, rfl⟩ := Prod.mk.inj (Option.some.inj hf)
    exact wk_vret C rfl rfl dX1_checkStage_19
  · refine wk_callST (av := [vI v6]) (rest := []) C cx_X1_80 (mt_X1_checkIndex (wk_C.tr C) h_σ7) rfl (Nat.le_of_ble_eq_true rfl) (Nat.le_of_ble_eq_true rfl) (Nat.le_of_ble_eq_true rfl) dX1_checkStage_16 ?_
    obtain ⟨rfl, rfl⟩ := Prod.mk.inj (Option.some.inj hf)
    exact wk_out C (by decide +kernel) rfl rfl
set_option maxHeartbeats 4000000 in
theorem mt_X1_relaxed {E : Ev} {l : Launch} (hl : l.stackTraces = false) {p0 : Option Nat} {p1 : Int32} {σ : Hs} {r : Option Nat ⊕ Nat} {σ' : Hs} (hf : fn_X1_relaxed p0 p1 σ = some (r, σ')) : wk_M E l yX1_relaxed (ws_ yX1_relaxed cX1_relaxed 3 (Option.some (FieldType.object "ElasticTruss$Relaxation"))) 8 142 [vR p0, vI p1] σ (ot_R r) σ' := by
  refine wk_start (by decide +kernel) hl (Nat.le_of_ble_eq_true rfl) (fun K C hK => ?_)
  subst hK
  refine wk_L (L' := [(0, vR p0), (1, vI p1)]) rfl ?_
  unfold fn_X1_relaxed at hf
  refine wk_aload_n C 0 rfl dX1_relaxed_0 ?_
  refine wk_iload_n C 1 rfl dX1_relaxed_1 ?_
  obtain ⟨b1, h_b1, hf⟩ := ho_b hf
  obtain ⟨v3, σ2, h_σ2, hf⟩ := ho_e2 hf
  rcases ho_xe hf with ⟨x4, rfl, hf⟩ | ⟨q5, rfl, hf⟩
  · refine wk_callV (av := [vI p1]) (rest := []) (rv := none) C h_b1 rx_0 cx_X1_101 (mt_X1_checkStage (wk_C.tr C) h_σ2) rfl rfl (Nat.le_of_ble_eq_true rfl) (Nat.le_of_ble_eq_true rfl) (Nat.le_of_ble_eq_true rfl) dX1_relaxed_2 ?_
    obtain ⟨v6, σ7, h_σ7, hf⟩ := ho_e2 hf
    refine wk_new C nx_X1_104 h_σ7 dX1_relaxed_5 ?_
    refine wk_dup C rfl dX1_relaxed_8 ?_
    refine wk_aload_n C 0 rfl dX1_relaxed_9 ?_
    obtain ⟨v8, h_v8, hf⟩ := ho_b hf
    refine wk_getR C fx_X1_37 h_v8 dX1_relaxed_10 ?_
    obtain ⟨b9, h_b9, hf⟩ := ho_b hf
    obtain ⟨σ10, h_σ10, hf⟩ := ho_b hf
    refine wk_callI (av := [vR v8]) (rest := [vR v6]) C cx_X1_106 h_b9 (mt_X12_init (wk_C.tr C) h_σ10) rfl (Nat.le_of_ble_eq_true rfl) (Nat.le_of_ble_eq_true rfl) (Nat.le_of_ble_eq_true rfl) dX1_relaxed_13 ?_
    refine wk_astore_n (L' := [(0, vR p0), (1, vI p1), (2, vR v6)]) C (by decide) rfl dX1_relaxed_16 ?_
    refine wk_aload_n C 2 rfl dX1_relaxed_17 ?_
    refine wk_iload_n C 1 rfl dX1_relaxed_18 ?_
    obtain ⟨b11, h_b11, hf⟩ := ho_b hf
    obtain ⟨σ12, h_σ12, hf⟩ := ho_b hf
    refine wk_callV (av := [vI p1]) (rest := []) (rv := none) C h_b11 rx_11 cx_X1_109 (mt_X12_relax (wk_C.tr C) h_σ12) rfl rfl (Nat.le_of_ble_eq_true rfl) (Nat.le_of_ble_eq_true rfl) (Nat.le_of_ble_eq_true rfl) dX1_relaxed_19 ?_
    refine wk_aload_n C 2 rfl dX1_relaxed_22 ?_
    obtain ⟨rfl, rfl⟩ := Prod.mk.inj (Option.some.inj hf)
    exact wk_aret C (Or.inl ⟨_, rfl⟩) rfl rfl dX1_relaxed_23
  · refine wk_callVT (av := [vI p1]) (rest := []) C h_b1 rx_0 cx_X1_101 (mt_X1_checkStage (wk_C.tr C) h_σ2) rfl (Nat.le_of_ble_eq_true rfl) (Nat.le_of_ble_eq_true rfl) (Nat.le_of_ble_eq_true rfl) dX1_relaxed_2 ?_
    obtain ⟨rfl, rfl⟩ := Prod.mk.inj (Option.some.inj hf)
    exact wk_out C (by decide +kernel) rfl rfl
set_option maxHeartbeats 4000000 in
theorem wb_X1_load_b53 {E : Ev} {K : Kx} (C : wk_C E K yX1_load cX1_load 3 (Option.some FieldType.int) 51 19115 (tableOf [(19, 52, 53, 136)])) {r : Int32 ⊕ Nat} {σ' : Hs} (l0 : Option Nat) (t0 : Option Nat) (σ : Hs) (hf : fn_X1_load_b53 E.2.2.1 l0 t0 σ = some (r, σ')) : wk_V E K (ot_I r) σ' σ 53 [(0, vR l0)] [vR t0] := by
  unfold fn_X1_load_b53 at hf
  refine wk_astore_n (L' := [(0, vR l0), (2, vR t0)]) C (by decide) rfl dX1_load_53 ?_
  refine wk_aload_n C 0 rfl dX1_load_54 ?_
  refine wk_aload_n C 1 rfl dX1_load_55 ?_
  obtain ⟨v1, h_v1, hf⟩ := ho_b hf
  refine wk_getI C fx_X1_138 h_v1 dX1_load_56 ?_
  obtain ⟨σ2, h_σ2, hf⟩ := ho_b hf
  refine wk_putI C px_X1_30 (fun q => by cases q) h_σ2 dX1_load_59 ?_
  refine wk_aload_n C 1 rfl dX1_load_62 ?_
  obtain ⟨v3, h_v3, hf⟩ := ho_b hf
  refine wk_getI C fx_X1_141 h_v3 dX1_load_63 ?_
  obtain ⟨rfl, rfl⟩ := Prod.mk.inj (Option.some.inj hf)
  exact wk_iret C rfl rfl dX1_load_66
set_option maxHeartbeats 4000000 in
theorem mt_X1_load {E : Ev} {l : Launch} (hl : l.stackTraces = false) {p0 : Option Nat} {p1 : Int32} {σ : Hs} {r : Int32 ⊕ Nat} {σ' : Hs} (hf : fn_X1_load E.2.2.1 p0 p1 σ = some (r, σ')) : wk_M E l yX1_load (wsW_ yX1_load cX1_load 3 (Option.some FieldType.int) [(19, 52, 53, 136)]) 51 19115 [vR p0, vI p1] σ (ot_I r) σ' := by
  refine wk_startW (by decide +kernel) hl (Nat.le_of_ble_eq_true rfl) (fun K C hK => ?_)
  subst hK
  refine wk_L (L' := [(0, vR p0), (1, vI p1)]) rfl ?_
  unfold fn_X1_load at hf
  refine wk_lconst (v := 0) C dX1_load_0 rfl ?_
  refine wk_aload_n C 0 rfl dX1_load_1 ?_
  obtain ⟨v4, h_v4, hf⟩ := ho_b hf
  refine wk_getI C fx_X1_50 h_v4 dX1_load_2 ?_
  refine wk_i2l C dX1_load_5 ?_
  refine wk_iload_n C 1 rfl dX1_load_6 ?_
  refine wk_i2l C dX1_load_7 ?_
  obtain ⟨v6, σ5, h_σ5, hf⟩ := ho_e2 hf
  refine wk_callS (av := [vJ (0 : Int64), vJ v4.toInt64, vJ p1.toInt64]) (rest := []) (rv := some (vI v6)) C cx_X1_76 (mt_X1_isIn (wk_C.tr C) h_σ5) rfl rfl (Nat.le_of_ble_eq_true rfl) (Nat.le_of_ble_eq_true rfl) (Nat.le_of_ble_eq_true rfl) dX1_load_8 ?_
  obtain ⟨v8, σ7, h_σ7, hf⟩ := ho_e2 hf
  rcases ho_xe hf with ⟨x9, rfl, hf⟩ | ⟨q10, rfl, hf⟩
  · refine wk_callS (av := [vI v6]) (rest := []) (rv := none) C cx_X1_121 (mt_X1_checkArgument (wk_C.tr C) h_σ7) rfl rfl (Nat.le_of_ble_eq_true rfl) (Nat.le_of_ble_eq_true rfl) (Nat.le_of_ble_eq_true rfl) dX1_load_11 ?_
    refine wk_aload_n C 0 rfl dX1_load_14 ?_
    refine wk_iconst (v := 0) C dX1_load_15 rfl ?_
    obtain ⟨σ11, h_σ11, hf⟩ := ho_b hf
    refine wk_putI C px_X1_50 (fun q => by cases q) h_σ11 dX1_load_16 ?_
    refine wk_aload_n C 0 rfl dX1_load_19 ?_
    obtain ⟨v12, σ13, h_σ13, hf⟩ := ho_e2 hf
    refine wk_new C nx_X1_124 h_σ13 dX1_load_20 ?_
    refine wk_dup C rfl dX1_load_23 ?_
    refine wk_aload_n C 0 rfl dX1_load_24 ?_
    refine wk_iload_n C 1 rfl dX1_load_25 ?_
    obtain ⟨b14, h_b14, hf⟩ := ho_b hf
    obtain ⟨σ15, h_σ15, hf⟩ := ho_b hf
    refine wk_callI (av := [vR p0, vI p1]) (rest := [vR v12, vR p0]) C cx_X1_126 h_b14 (mt_X4_init (wk_C.tr C) h_σ15) rfl (Nat.le_of_ble_eq_true rfl) (Nat.le_of_ble_eq_true rfl) (Nat.le_of_ble_eq_true rfl) dX1_load_26 ?_
    obtain ⟨b16, h_b16, hf⟩ := ho_b hf
    obtain ⟨v18, σ17, h_σ17, hf⟩ := ho_e2 hf
    rcases ho_xe hf with ⟨x19, rfl, hf⟩ | ⟨q20, rfl, hf⟩
    · refine wk_callV (av := []) (rest := [vR p0]) (rv := some (vR x19)) C h_b16 rx_3 cx_X1_129 (mt_X4_read (wk_C.tr C) h_σ17) rfl rfl (Nat.le_of_ble_eq_true rfl) (Nat.le_of_ble_eq_true rfl) (Nat.le_of_ble_eq_true rfl) dX1_load_29 ?_
      obtain ⟨b21, h_b21, hf⟩ := ho_b hf
      obtain ⟨σ22, h_σ22, hf⟩ := ho_b hf
      refine wk_callV (av := [vR x19]) (rest := []) (rv := none) C h_b21 rx_0 cx_X1_133 (mt_X1_replaceBy (wk_C.tr C) h_σ22) rfl rfl (Nat.le_of_ble_eq_true rfl) (Nat.le_of_ble_eq_true rfl) (Nat.le_of_ble_eq_true rfl) dX1_load_32 ?_
      refine wk_aload_n C 0 rfl dX1_load_35 ?_
      refine wk_iconst (v := -1) C dX1_load_36 rfl ?_
      obtain ⟨σ23, h_σ23, hf⟩ := ho_b hf
      refine wk_putI C px_X1_30 (fun q => by cases q) h_σ23 dX1_load_37 ?_
      refine wk_aload_n C 0 rfl dX1_load_40 ?_
      obtain ⟨v24, h_v24, hf⟩ := ho_b hf
      refine wk_getR C fx_X1_37 h_v24 dX1_load_41 ?_
      obtain ⟨v25, h_v25, hf⟩ := ho_b hf
      refine wk_getR C fx_X1_90 h_v25 dX1_load_44 ?_
      obtain ⟨b26, h_b26, hf⟩ := ho_b hf
      obtain ⟨v28, σ27, h_σ27, hf⟩ := ho_e2 hf
      refine wk_callF (av := []) (rest := []) (rv := some (vI v28)) C h_b26 rx_15 cx_X1_94_15 (mt_J18_size (wk_C.tr C) h_σ27) rfl rfl (Nat.le_of_ble_eq_true rfl) (Nat.le_of_ble_eq_true rfl) (Nat.le_of_ble_eq_true rfl) dX1_load_47 ?_
      obtain ⟨rfl, rfl⟩ := Prod.mk.inj (Option.some.inj hf)
      exact wk_iret C rfl rfl dX1_load_52
    · refine wk_callVT (av := []) (rest := [vR p0]) C h_b16 rx_3 cx_X1_129 (mt_X4_read (wk_C.tr C) h_σ17) rfl (Nat.le_of_ble_eq_true rfl) (Nat.le_of_ble_eq_true rfl) (Nat.le_of_ble_eq_true rfl) dX1_load_29 ?_
      by_cases c_ : ho_k σ17 (some q20) = some 4
      · rw [if_pos c_] at hf
        refine wk_catchK C c_ rx_4 [] ⟨19, 52, 53, 136⟩ [] rfl ((List.forall_mem_nil _)) (by decide +kernel) (by decide) q2675 q2751 rfl ?_
        refine wk_sub (L' := [(0, vR p0)]) [0] rfl ?_
        exact wb_X1_load_b53 C  _ _ _ hf
      rw [if_neg c_] at hf
      clear c_
      cases hf
  · refine wk_callST (av := [vI v6]) (rest := []) C cx_X1_121 (mt_X1_checkArgument (wk_C.tr C) h_σ7) rfl (Nat.le_of_ble_eq_true rfl) (Nat.le_of_ble_eq_true rfl) (Nat.le_of_ble_eq_true rfl) dX1_load_11 ?_
    obtain ⟨rfl, rfl⟩ := Prod.mk.inj (Option.some.inj hf)
    exact wk_out C (by decide +kernel) rfl rfl
set_option maxHeartbeats 4000000 in
theorem mt_X1_errorOffset {E : Ev} {l : Launch} (hl : l.stackTraces = false) {p0 : Option Nat} {σ : Hs} {r : Int32} {σ' : Hs} (hf : fn_X1_errorOffset p0 σ = some (r, σ')) : wk_M E l yX1_errorOffset (ws_ yX1_errorOffset cX1_errorOffset 1 (Option.some FieldType.int)) 0 0 [vR p0] σ (.inl (some (.int r))) σ' := by
  refine wk_start (by decide +kernel) hl (Nat.le_of_ble_eq_true rfl) (fun K C hK => ?_)
  subst hK
  refine wk_L (L' := [(0, vR p0)]) rfl ?_
  unfold fn_X1_errorOffset at hf
  refine wk_aload_n C 0 rfl dX1_errorOffset_0 ?_
  obtain ⟨v1, h_v1, hf⟩ := ho_b hf
  refine wk_getI C fx_X1_30 h_v1 dX1_errorOffset_1 ?_
  obtain ⟨rfl, rfl⟩ := Prod.mk.inj (Option.some.inj hf)
  exact wk_iret C rfl rfl dX1_errorOffset_4
set_option maxHeartbeats 4000000 in
theorem mt_X1_nodeCount {E : Ev} {l : Launch} (hl : l.stackTraces = false) {p0 : Option Nat} {σ : Hs} {r : Int32} {σ' : Hs} (hf : fn_X1_nodeCount p0 σ = some (r, σ')) : wk_M E l yX1_nodeCount (ws_ yX1_nodeCount cX1_nodeCount 1 (Option.some FieldType.int)) 1 20 [vR p0] σ (.inl (some (.int r))) σ' := by
  refine wk_start (by decide +kernel) hl (Nat.le_of_ble_eq_true rfl) (fun K C hK => ?_)
  subst hK
  refine wk_L (L' := [(0, vR p0)]) rfl ?_
  unfold fn_X1_nodeCount at hf
  refine wk_aload_n C 0 rfl dX1_nodeCount_0 ?_
  obtain ⟨v1, h_v1, hf⟩ := ho_b hf
  refine wk_getR C fx_X1_37 h_v1 dX1_nodeCount_1 ?_
  obtain ⟨v2, h_v2, hf⟩ := ho_b hf
  refine wk_getR C fx_X1_66 h_v2 dX1_nodeCount_4 ?_
  obtain ⟨b3, h_b3, hf⟩ := ho_b hf
  obtain ⟨v5, σ4, h_σ4, hf⟩ := ho_e2 hf
  refine wk_callF (av := []) (rest := []) (rv := some (vI v5)) C h_b3 rx_13 cx_X1_70_13 (mt_J2_size (wk_C.tr C) h_σ4) rfl rfl (Nat.le_of_ble_eq_true rfl) (Nat.le_of_ble_eq_true rfl) (Nat.le_of_ble_eq_true rfl) dX1_nodeCount_7 ?_
  obtain ⟨rfl, rfl⟩ := Prod.mk.inj (Option.some.inj hf)
  exact wk_iret C rfl rfl dX1_nodeCount_12
set_option maxHeartbeats 4000000 in
theorem mt_X1_groupCount {E : Ev} {l : Launch} (hl : l.stackTraces = false) {p0 : Option Nat} {σ : Hs} {r : Int32} {σ' : Hs} (hf : fn_X1_groupCount p0 σ = some (r, σ')) : wk_M E l yX1_groupCount (ws_ yX1_groupCount cX1_groupCount 1 (Option.some FieldType.int)) 0 0 [vR p0] σ (.inl (some (.int r))) σ' := by
  refine wk_start (by decide +kernel) hl (Nat.le_of_ble_eq_true rfl) (fun K C hK => ?_)
  subst hK
  refine wk_L (L' := [(0, vR p0)]) rfl ?_
  unfold fn_X1_groupCount at hf
  refine wk_aload_n C 0 rfl dX1_groupCount_0 ?_
  obtain ⟨v1, h_v1, hf⟩ := ho_b hf
  refine wk_getR C fx_X1_37 h_v1 dX1_groupCount_1 ?_
  obtain ⟨v2, h_v2, hf⟩ := ho_b hf
  refine wk_getI C fx_X1_84 h_v2 dX1_groupCount_4 ?_
  obtain ⟨rfl, rfl⟩ := Prod.mk.inj (Option.some.inj hf)
  exact wk_iret C rfl rfl dX1_groupCount_7
set_option maxHeartbeats 4000000 in
theorem mt_X1_memberCount {E : Ev} {l : Launch} (hl : l.stackTraces = false) {p0 : Option Nat} {σ : Hs} {r : Int32} {σ' : Hs} (hf : fn_X1_memberCount p0 σ = some (r, σ')) : wk_M E l yX1_memberCount (ws_ yX1_memberCount cX1_memberCount 1 (Option.some FieldType.int)) 1 20 [vR p0] σ (.inl (some (.int r))) σ' := by
  refine wk_start (by decide +kernel) hl (Nat.le_of_ble_eq_true rfl) (fun K C hK => ?_)
  subst hK
  refine wk_L (L' := [(0, vR p0)]) rfl ?_
  unfold fn_X1_memberCount at hf
  refine wk_aload_n C 0 rfl dX1_memberCount_0 ?_
  obtain ⟨v1, h_v1, hf⟩ := ho_b hf
  refine wk_getR C fx_X1_37 h_v1 dX1_memberCount_1 ?_
  obtain ⟨v2, h_v2, hf⟩ := ho_b hf
  refine wk_getR C fx_X1_90 h_v2 dX1_memberCount_4 ?_
  obtain ⟨b3, h_b3, hf⟩ := ho_b hf
  obtain ⟨v5, σ4, h_σ4, hf⟩ := ho_e2 hf
  refine wk_callF (av := []) (rest := []) (rv := some (vI v5)) C h_b3 rx_15 cx_X1_94_15 (mt_J18_size (wk_C.tr C) h_σ4) rfl rfl (Nat.le_of_ble_eq_true rfl) (Nat.le_of_ble_eq_true rfl) (Nat.le_of_ble_eq_true rfl) dX1_memberCount_7 ?_
  obtain ⟨rfl, rfl⟩ := Prod.mk.inj (Option.some.inj hf)
  exact wk_iret C rfl rfl dX1_memberCount_12
set_option maxHeartbeats 4000000 in
theorem mt_X1_stageCount {E : Ev} {l : Launch} (hl : l.stackTraces = false) {p0 : Option Nat} {σ : Hs} {r : Int32} {σ' : Hs} (hf : fn_X1_stageCount p0 σ = some (r, σ')) : wk_M E l yX1_stageCount (ws_ yX1_stageCount cX1_stageCount 1 (Option.some FieldType.int)) 4 76 [vR p0] σ (.inl (some (.int r))) σ' := by
  refine wk_start (by decide +kernel) hl (Nat.le_of_ble_eq_true rfl) (fun K C hK => ?_)
  subst hK
  refine wk_L (L' := [(0, vR p0)]) rfl ?_
  unfold fn_X1_stageCount at hf
  refine wk_aload_n C 0 rfl dX1_stageCount_0 ?_
  obtain ⟨v1, h_v1, hf⟩ := ho_b hf
  refine wk_getR C fx_X1_37 h_v1 dX1_stageCount_1 ?_
  obtain ⟨b2, h_b2, hf⟩ := ho_b hf
  obtain ⟨v4, σ3, h_σ3, hf⟩ := ho_e2 hf
  refine wk_callV (av := []) (rest := []) (rv := some (vI v4)) C h_b2 rx_1 cx_X1_87 (mt_X2_countStages (wk_C.tr C) h_σ3) rfl rfl (Nat.le_of_ble_eq_true rfl) (Nat.le_of_ble_eq_true rfl) (Nat.le_of_ble_eq_true rfl) dX1_stageCount_4 ?_
  obtain ⟨rfl, rfl⟩ := Prod.mk.inj (Option.some.inj hf)
  exact wk_iret C rfl rfl dX1_stageCount_7
set_option maxHeartbeats 4000000 in
theorem mt_X1_weight {E : Ev} {l : Launch} (hl : l.stackTraces = false) {p0 : Option Nat} {σ : Hs} {r : Int32} {σ' : Hs} (hf : fn_X1_weight p0 σ = some (r, σ')) : wk_M E l yX1_weight (ws_ yX1_weight cX1_weight 1 (Option.some FieldType.int)) 6 119 [vR p0] σ (.inl (some (.int r))) σ' := by
  refine wk_start (by decide +kernel) hl (Nat.le_of_ble_eq_true rfl) (fun K C hK => ?_)
  subst hK
  refine wk_L (L' := [(0, vR p0)]) rfl ?_
  unfold fn_X1_weight at hf
  refine wk_aload_n C 0 rfl dX1_weight_0 ?_
  obtain ⟨v1, h_v1, hf⟩ := ho_b hf
  refine wk_getR C fx_X1_37 h_v1 dX1_weight_1 ?_
  obtain ⟨b2, h_b2, hf⟩ := ho_b hf
  obtain ⟨v4, σ3, h_σ3, hf⟩ := ho_e2 hf
  refine wk_callV (av := []) (rest := []) (rv := some (vI v4)) C h_b2 rx_1 cx_X1_144 (mt_X2_weightOf (wk_C.tr C) h_σ3) rfl rfl (Nat.le_of_ble_eq_true rfl) (Nat.le_of_ble_eq_true rfl) (Nat.le_of_ble_eq_true rfl) dX1_weight_4 ?_
  obtain ⟨rfl, rfl⟩ := Prod.mk.inj (Option.some.inj hf)
  exact wk_iret C rfl rfl dX1_weight_7
set_option maxHeartbeats 4000000 in
theorem mt_X1_area {E : Ev} {l : Launch} (hl : l.stackTraces = false) {p0 : Option Nat} {p1 : Int32} {σ : Hs} {r : Int32 ⊕ Nat} {σ' : Hs} (hf : fn_X1_area p0 p1 σ = some (r, σ')) : wk_M E l yX1_area (ws_ yX1_area cX1_area 2 (Option.some FieldType.int)) 8 122 [vR p0, vI p1] σ (ot_I r) σ' := by
  refine wk_start (by decide +kernel) hl (Nat.le_of_ble_eq_true rfl) (fun K C hK => ?_)
  subst hK
  refine wk_L (L' := [(0, vR p0), (1, vI p1)]) rfl ?_
  unfold fn_X1_area at hf
  refine wk_aload_n C 0 rfl dX1_area_0 ?_
  refine wk_iload_n C 1 rfl dX1_area_1 ?_
  obtain ⟨b1, h_b1, hf⟩ := ho_b hf
  obtain ⟨v3, σ2, h_σ2, hf⟩ := ho_e2 hf
  rcases ho_xe hf with ⟨x4, rfl, hf⟩ | ⟨q5, rfl, hf⟩
  · refine wk_callV (av := [vI p1]) (rest := []) (rv := none) C h_b1 rx_0 cx_X1_147 (mt_X1_checkGroup (wk_C.tr C) h_σ2) rfl rfl (Nat.le_of_ble_eq_true rfl) (Nat.le_of_ble_eq_true rfl) (Nat.le_of_ble_eq_true rfl) dX1_area_2 ?_
    refine wk_aload_n C 0 rfl dX1_area_5 ?_
    obtain ⟨v6, h_v6, hf⟩ := ho_b hf
    refine wk_getR C fx_X1_37 h_v6 dX1_area_6 ?_
    obtain ⟨v7, h_v7, hf⟩ := ho_b hf
    refine wk_getR C fx_X1_150 h_v7 dX1_area_9 ?_
    refine wk_iload_n C 1 rfl dX1_area_12 ?_
    obtain ⟨v8, h_v8, hf⟩ := ho_b hf
    refine wk_iald C h_v8 dX1_area_13 ?_
    obtain ⟨rfl, rfl⟩ := Prod.mk.inj (Option.some.inj hf)
    exact wk_iret C rfl rfl dX1_area_14
  · refine wk_callVT (av := [vI p1]) (rest := []) C h_b1 rx_0 cx_X1_147 (mt_X1_checkGroup (wk_C.tr C) h_σ2) rfl (Nat.le_of_ble_eq_true rfl) (Nat.le_of_ble_eq_true rfl) (Nat.le_of_ble_eq_true rfl) dX1_area_2 ?_
    obtain ⟨rfl, rfl⟩ := Prod.mk.inj (Option.some.inj hf)
    exact wk_out C (by decide +kernel) rfl rfl
set_option maxHeartbeats 4000000 in
theorem wb_X1_member_b57 {E : Ev} {K : Kx} (C : wk_C E K yX1_member cX1_member 4 (Option.some FieldType.int) 8 141 []) {r : Int32 ⊕ Nat} {σ' : Hs} (t0 : Int32) (σ : Hs) (hf : fn_X1_member_b57 t0 σ = some (r, σ')) : wk_V E K (ot_I r) σ' σ 57 [] [vI t0] := by
  unfold fn_X1_member_b57 at hf
  obtain ⟨rfl, rfl⟩ := Prod.mk.inj (Option.some.inj hf)
  exact wk_iret C rfl rfl dX1_member_57
set_option maxHeartbeats 4000000 in
theorem mt_X1_member {E : Ev} {l : Launch} (hl : l.stackTraces = false) {p0 : Option Nat} {p1 : Int32} {p2 : Int32} {σ : Hs} {r : Int32 ⊕ Nat} {σ' : Hs} (hf : fn_X1_member p0 p1 p2 σ = some (r, σ')) : wk_M E l yX1_member (ws_ yX1_member cX1_member 4 (Option.some FieldType.int)) 8 141 [vR p0, vI p1, vI p2] σ (ot_I r) σ' := by
  refine wk_start (by decide +kernel) hl (Nat.le_of_ble_eq_true rfl) (fun K C hK => ?_)
  subst hK
  refine wk_L (L' := [(0, vR p0), (1, vI p1), (2, vI p2)]) rfl ?_
  unfold fn_X1_member at hf
  refine wk_aload_n C 0 rfl dX1_member_0 ?_
  refine wk_iload_n C 1 rfl dX1_member_1 ?_
  obtain ⟨b1, h_b1, hf⟩ := ho_b hf
  obtain ⟨v3, σ2, h_σ2, hf⟩ := ho_e2 hf
  rcases ho_xe hf with ⟨x4, rfl, hf⟩ | ⟨q5, rfl, hf⟩
  · refine wk_callV (av := [vI p1]) (rest := []) (rv := some (vR x4)) C h_b1 rx_0 cx_X1_153 (mt_X1_memberAt (wk_C.tr C) h_σ2) rfl rfl (Nat.le_of_ble_eq_true rfl) (Nat.le_of_ble_eq_true rfl) (Nat.le_of_ble_eq_true rfl) dX1_member_2 ?_
    refine wk_astore_n (L' := [(0, vR p0), (1, vI p1), (2, vI p2), (3, vR x4)]) C (by decide) rfl dX1_member_5 ?_
    refine wk_lconst (v := 0) C dX1_member_6 rfl ?_
    refine wk_ldc2 C q3153 dX1_member_7 ?_
    refine wk_iload_n C 2 rfl dX1_member_10 ?_
    refine wk_i2l C dX1_member_11 ?_
    obtain ⟨v7, σ6, h_σ6, hf⟩ := ho_e2 hf
    refine wk_callS (av := [vJ (0 : Int64), vJ (3 : Int64), vJ p2.toInt64]) (rest := []) (rv := some (vI v7)) C cx_X1_76 (mt_X1_isIn (wk_C.tr C) h_σ6) rfl rfl (Nat.le_of_ble_eq_true rfl) (Nat.le_of_ble_eq_true rfl) (Nat.le_of_ble_eq_true rfl) dX1_member_12 ?_
    obtain ⟨v9, σ8, h_σ8, hf⟩ := ho_e2 hf
    rcases ho_xe hf with ⟨x10, rfl, hf⟩ | ⟨q11, rfl, hf⟩
    · refine wk_callS (av := [vI v7]) (rest := []) (rv := none) C cx_X1_121 (mt_X1_checkArgument (wk_C.tr C) h_σ8) rfl rfl (Nat.le_of_ble_eq_true rfl) (Nat.le_of_ble_eq_true rfl) (Nat.le_of_ble_eq_true rfl) dX1_member_15 ?_
      refine wk_iload_n C 2 rfl dX1_member_18 ?_
      refine wk_if_ne C 29 (by decide) dX1_member_19 (fun c_ => ?_) (fun c_ => ?_)
      · rw [if_neg c_] at hf
        refine wk_iload_n C 2 rfl dX1_member_29 ?_
        refine wk_iconst (v := 1) C dX1_member_30 rfl ?_
        refine wk_icmp_ne C 41 (by decide) dX1_member_31 (fun c_ => ?_) (fun c_ => ?_)
        · rw [if_neg c_] at hf
          refine wk_iload_n C 2 rfl dX1_member_41 ?_
          refine wk_iconst (v := 2) C dX1_member_42 rfl ?_
          refine wk_icmp_ne C 53 (by decide) dX1_member_43 (fun c_ => ?_) (fun c_ => ?_)
          · rw [if_neg c_] at hf
            refine wk_aload_n C 3 rfl dX1_member_53 ?_
            obtain ⟨v12, h_v12, hf⟩ := ho_b hf
            refine wk_getI C fx_X1_170 h_v12 dX1_member_54 ?_
            refine wk_sub (L' := []) [] rfl ?_
            exact wb_X1_member_b57 C  _ _ hf
          · rw [if_pos c_] at hf
            refine wk_aload_n C 3 rfl dX1_member_46 ?_
            obtain ⟨v13, h_v13, hf⟩ := ho_b hf
            refine wk_getI C fx_X1_167 h_v13 dX1_member_47 ?_
            refine wk_goto C 57 (by decide) dX1_member_50 ?_
            refine wk_sub (L' := []) [] rfl ?_
            exact wb_X1_member_b57 C  _ _ hf
        · rw [if_pos c_] at hf
          refine wk_aload_n C 3 rfl dX1_member_34 ?_
          obtain ⟨v14, h_v14, hf⟩ := ho_b hf
          refine wk_getI C fx_X1_164 h_v14 dX1_member_35 ?_
          refine wk_goto C 57 (by decide) dX1_member_38 ?_
          refine wk_sub (L' := []) [] rfl ?_
          exact wb_X1_member_b57 C  _ _ hf
      · rw [if_pos c_] at hf
        refine wk_aload_n C 3 rfl dX1_member_22 ?_
        obtain ⟨v15, h_v15, hf⟩ := ho_b hf
        refine wk_getI C fx_X1_159 h_v15 dX1_member_23 ?_
        refine wk_goto C 57 (by decide) dX1_member_26 ?_
        refine wk_sub (L' := []) [] rfl ?_
        exact wb_X1_member_b57 C  _ _ hf
    · refine wk_callST (av := [vI v7]) (rest := []) C cx_X1_121 (mt_X1_checkArgument (wk_C.tr C) h_σ8) rfl (Nat.le_of_ble_eq_true rfl) (Nat.le_of_ble_eq_true rfl) (Nat.le_of_ble_eq_true rfl) dX1_member_15 ?_
      obtain ⟨rfl, rfl⟩ := Prod.mk.inj (Option.some.inj hf)
      exact wk_out C (by decide +kernel) rfl rfl
  · refine wk_callVT (av := [vI p1]) (rest := []) C h_b1 rx_0 cx_X1_153 (mt_X1_memberAt (wk_C.tr C) h_σ2) rfl (Nat.le_of_ble_eq_true rfl) (Nat.le_of_ble_eq_true rfl) (Nat.le_of_ble_eq_true rfl) dX1_member_2 ?_
    obtain ⟨rfl, rfl⟩ := Prod.mk.inj (Option.some.inj hf)
    exact wk_out C (by decide +kernel) rfl rfl
set_option maxHeartbeats 4000000 in
theorem wb_X1_between_b105 {E : Ev} {K : Kx} (C : wk_C E K yX1_between cX1_between 7 (Option.some FieldType.int) 8 126 []) {r : Int32 ⊕ Nat} {σ' : Hs} (l4 : Int32) (σ : Hs) (hf : fn_X1_between_b105 l4 σ = some (r, σ')) : wk_V E K (ot_I r) σ' σ 105 [(4, vI l4)] [] := by
  unfold fn_X1_between_b105 at hf
  refine wk_iload C 0 rfl dX1_between_105 ?_
  obtain ⟨rfl, rfl⟩ := Prod.mk.inj (Option.some.inj hf)
  exact wk_iret C rfl rfl dX1_between_107
set_option maxHeartbeats 4000000 in
theorem wb_X1_between_b96 {E : Ev} {K : Kx} (C : wk_C E K yX1_between cX1_between 7 (Option.some FieldType.int) 8 126 []) {r : Int32 ⊕ Nat} {σ' : Hs} (l4 : Int32) (σ : Hs) (hf : fn_X1_between_b96 l4 σ = some (r, σ')) : wk_V E K (ot_I r) σ' σ 96 [(4, vI l4)] [] := by
  unfold fn_X1_between_b96 at hf
  refine wk_goto C 105 (by decide) dX1_between_96 ?_
  exact wb_X1_between_b105 C  _ _ hf
set_option maxHeartbeats 4000000 in
theorem wb_X1_between_b65 {E : Ev} {K : Kx} (C : wk_C E K yX1_between cX1_between 7 (Option.some FieldType.int) 8 126 []) {r : Int32 ⊕ Nat} {σ' : Hs} : ∀ (n : Nat) (l3 : Option Nat) (l4 : Int32) (l5 : Option Nat) (σ : Hs), fn_X1_between_b65 n l3 l4 l5 σ = some (r, σ') → wk_V E K (ot_I r) σ' σ 65 [(3, vR l3), (4, vI l4), (5, vR l5)] [] := by
  intro n
  induction n with
  | zero =>
    intro l3 l4 l5 σ hf
    rw [fn_X1_between_b65] at hf
    cases hf
  | succ n ih =>
    intro l3 l4 l5 σ hf
    rw [fn_X1_between_b65] at hf
    refine wk_aload C 2 rfl dX1_between_65 ?_
    obtain ⟨b1, h_b1, hf⟩ := ho_b hf
    obtain ⟨v3, σ2, h_σ2, hf⟩ := ho_e2 hf
    refine wk_callF (av := []) (rest := []) (rv := some (vI v3)) C h_b1 rx_21 cx_X1_195_21 (mt_J35_hasNext (wk_C.tr C) h_σ2) rfl rfl (Nat.le_of_ble_eq_true rfl) (Nat.le_of_ble_eq_true rfl) (Nat.le_of_ble_eq_true rfl) dX1_between_67 ?_
    refine wk_if_eq C 105 (by decide) dX1_between_72 (fun c_ => ?_) (fun c_ => ?_)
    · rw [if_pos c_] at hf
      refine wk_sub (L' := [(4, vI l4)]) [1] rfl ?_
      exact wb_X1_between_b105 C  _ _ hf
    · rw [if_neg c_] at hf
      refine wk_aload C 2 rfl dX1_between_75 ?_
      obtain ⟨b4, h_b4, hf⟩ := ho_b hf
      obtain ⟨v6, σ5, h_σ5, hf⟩ := ho_e2 hf
      refine wk_callF (av := []) (rest := []) (rv := some (vR v6)) C h_b4 rx_21 cx_X1_201_21 (mt_J37_next (wk_C.tr C) h_σ5) rfl rfl (Nat.le_of_ble_eq_true rfl) (Nat.le_of_ble_eq_true rfl) (Nat.le_of_ble_eq_true rfl) dX1_between_77 ?_
      obtain ⟨u7, h_u7, hf⟩ := ho_b hf
      refine wk_cast C q3165 (List.forall_mem_cons.mpr ⟨ax_same rx_6 (Nat.le_of_ble_eq_true rfl), (List.forall_mem_nil _)⟩) h_u7 dX1_between_82 ?_
      refine wk_astore (L' := [(3, vR l3), (4, vI l4), (5, vR l5), (6, vR v6)]) C (by decide) rfl dX1_between_85 ?_
      refine wk_aload C 3 rfl dX1_between_87 ?_
      refine wk_aload_n C 0 rfl dX1_between_89 ?_
      obtain ⟨b8, h_b8, hf⟩ := ho_b hf
      obtain ⟨v10, σ9, h_σ9, hf⟩ := ho_e2 hf
      refine wk_callV (av := [vR l3]) (rest := []) (rv := some (vI v10)) C h_b8 rx_6 cx_X1_204 (mt_X7_equals (wk_C.tr C) h_σ9) rfl rfl (Nat.le_of_ble_eq_true rfl) (Nat.le_of_ble_eq_true rfl) (Nat.le_of_ble_eq_true rfl) dX1_between_90 ?_
      refine wk_if_eq C 99 (by decide) dX1_between_93 (fun c_ => ?_) (fun c_ => ?_)
      · rw [if_pos c_] at hf
        refine wk_iinc (v := l4 + 1) (L' := [(3, vR l3), (4, vI (l4 + 1)), (5, vR l5), (6, vR v6)]) C 1 rfl (by decide) rfl rfl dX1_between_99 ?_
        refine wk_goto C 65 (by decide) dX1_between_102 ?_
        refine wk_sub (L' := [(3, vR l3), (4, vI (l4 + 1)), (5, vR l5)]) [0, 1, 2] rfl ?_
        exact ih _ _ _ _ hf
      · rw [if_neg c_] at hf
        refine wk_sub (L' := [(4, vI l4)]) [1] rfl ?_
        exact wb_X1_between_b96 C  _ _ hf
set_option maxHeartbeats 4000000 in
theorem mt_X1_between {E : Ev} {l : Launch} (hl : l.stackTraces = false) {p0 : Option Nat} {p1 : Int32} {p2 : Int32} {σ : Hs} {r : Int32 ⊕ Nat} {σ' : Hs} (hf : fn_X1_between p0 p1 p2 σ = some (r, σ')) : wk_M E l yX1_between (ws_ yX1_between cX1_between 7 (Option.some FieldType.int)) 8 126 [vR p0, vI p1, vI p2] σ (ot_I r) σ' := by
  refine wk_start (by decide +kernel) hl (Nat.le_of_ble_eq_true rfl) (fun K C hK => ?_)
  subst hK
  refine wk_L (L' := [(0, vR p0), (1, vI p1), (2, vI p2)]) rfl ?_
  unfold fn_X1_between at hf
  refine wk_aload_n C 0 rfl dX1_between_0 ?_
  refine wk_iconst (v := 2) C dX1_between_1 rfl ?_
  obtain ⟨v11, σ12, h_σ12, hf⟩ := ho_e2 hf
  refine wk_newaI C q606 h_σ12 dX1_between_2 ?_
  refine wk_dup C rfl dX1_between_4 ?_
  refine wk_iconst (v := 0) C dX1_between_5 rfl ?_
  refine wk_iload_n C 1 rfl dX1_between_6 ?_
  obtain ⟨σ13, h_σ13, hf⟩ := ho_b hf
  refine wk_iast C h_σ13 dX1_between_7 ?_
  refine wk_dup C rfl dX1_between_8 ?_
  refine wk_iconst (v := 1) C dX1_between_9 rfl ?_
  refine wk_iload_n C 2 rfl dX1_between_10 ?_
  obtain ⟨σ14, h_σ14, hf⟩ := ho_b hf
  refine wk_iast C h_σ14 dX1_between_11 ?_
  obtain ⟨b15, h_b15, hf⟩ := ho_b hf
  obtain ⟨v17, σ16, h_σ16, hf⟩ := ho_e2 hf
  rcases ho_xe hf with ⟨x18, rfl, hf⟩ | ⟨q19, rfl, hf⟩
  · refine wk_callV (av := [vR v11]) (rest := []) (rv := none) C h_b15 rx_0 cx_X1_173 (mt_X1_checkNodes (wk_C.tr C) h_σ16) rfl rfl (Nat.le_of_ble_eq_true rfl) (Nat.le_of_ble_eq_true rfl) (Nat.le_of_ble_eq_true rfl) dX1_between_12 ?_
    obtain ⟨v20, σ21, h_σ21, hf⟩ := ho_e2 hf
    refine wk_new C nx_X1_176 h_σ21 dX1_between_15 ?_
    refine wk_dup C rfl dX1_between_18 ?_
    refine wk_iload_n C 1 rfl dX1_between_19 ?_
    refine wk_iload_n C 2 rfl dX1_between_20 ?_
    obtain ⟨b22, h_b22, hf⟩ := ho_b hf
    obtain ⟨σ23, h_σ23, hf⟩ := ho_b hf
    refine wk_callI (av := [vI p1, vI p2]) (rest := [vR v20]) C cx_X1_178 h_b22 (mt_X7_init (wk_C.tr C) h_σ23) rfl (Nat.le_of_ble_eq_true rfl) (Nat.le_of_ble_eq_true rfl) (Nat.le_of_ble_eq_true rfl) dX1_between_21 ?_
    refine wk_astore_n (L' := [(0, vR p0), (1, vI p1), (2, vI p2), (3, vR v20)]) C (by decide) rfl dX1_between_24 ?_
    refine wk_aload_n C 0 rfl dX1_between_25 ?_
    obtain ⟨v24, h_v24, hf⟩ := ho_b hf
    refine wk_getR C fx_X1_37 h_v24 dX1_between_26 ?_
    obtain ⟨v25, h_v25, hf⟩ := ho_b hf
    refine wk_getR C fx_X1_90 h_v25 dX1_between_29 ?_
    refine wk_aload_n C 3 rfl dX1_between_32 ?_
    obtain ⟨b26, h_b26, hf⟩ := ho_b hf
    obtain ⟨v28, σ27, h_σ27, hf⟩ := ho_e2 hf
    refine wk_callF (av := [vR v20]) (rest := []) (rv := some (vI v28)) C h_b26 rx_15 cx_X1_181_15 (mt_J18_containsKey (wk_C.tr C) h_σ27) rfl rfl (Nat.le_of_ble_eq_true rfl) (Nat.le_of_ble_eq_true rfl) (Nat.le_of_ble_eq_true rfl) dX1_between_33 ?_
    refine wk_if_ne C 43 (by decide) dX1_between_38 (fun c_ => ?_) (fun c_ => ?_)
    · rw [if_neg c_] at hf
      refine wk_iconst (v := 0) C dX1_between_43 rfl ?_
      refine wk_istore (L' := [(0, vR p0), (1, vI p1), (2, vI p2), (3, vR v20), (4, vI (0 : Int32))]) C (by decide) rfl dX1_between_44 ?_
      refine wk_aload_n C 0 rfl dX1_between_46 ?_
      obtain ⟨v29, h_v29, hf⟩ := ho_b hf
      refine wk_getR C fx_X1_37 h_v29 dX1_between_47 ?_
      obtain ⟨v30, h_v30, hf⟩ := ho_b hf
      refine wk_getR C fx_X1_90 h_v30 dX1_between_50 ?_
      obtain ⟨b31, h_b31, hf⟩ := ho_b hf
      obtain ⟨v33, σ32, h_σ32, hf⟩ := ho_e2 hf
      refine wk_callF (av := []) (rest := []) (rv := some (vR v33)) C h_b31 rx_15 cx_X1_185_15 (mt_J19_keySet (wk_C.tr C) h_σ32) rfl rfl (Nat.le_of_ble_eq_true rfl) (Nat.le_of_ble_eq_true rfl) (Nat.le_of_ble_eq_true rfl) dX1_between_53 ?_
      obtain ⟨b34, h_b34, hf⟩ := ho_b hf
      obtain ⟨v36, σ35, h_σ35, hf⟩ := ho_e2 hf
      refine wk_callF (av := []) (rest := []) (rv := some (vR v36)) C h_b34 rx_19 cx_X1_189_19 (mt_J41_iterator (wk_C.tr C) h_σ35) rfl rfl (Nat.le_of_ble_eq_true rfl) (Nat.le_of_ble_eq_true rfl) (Nat.le_of_ble_eq_true rfl) dX1_between_58 ?_
      refine wk_astore (L' := [(0, vR p0), (1, vI p1), (2, vI p2), (3, vR v20), (4, vI (0 : Int32)), (5, vR v36)]) C (by decide) rfl dX1_between_63 ?_
      refine wk_sub (L' := [(3, vR v20), (4, vI (0 : Int32)), (5, vR v36)]) [3, 4, 5] rfl ?_
      exact wb_X1_between_b65 C  _ _ _ _ _ hf
    · rw [if_pos c_] at hf
      refine wk_iconst (v := -1) C dX1_between_41 rfl ?_
      obtain ⟨rfl, rfl⟩ := Prod.mk.inj (Option.some.inj hf)
      exact wk_iret C rfl rfl dX1_between_42
  · refine wk_callVT (av := [vR v11]) (rest := []) C h_b15 rx_0 cx_X1_173 (mt_X1_checkNodes (wk_C.tr C) h_σ16) rfl (Nat.le_of_ble_eq_true rfl) (Nat.le_of_ble_eq_true rfl) (Nat.le_of_ble_eq_true rfl) dX1_between_12 ?_
    obtain ⟨rfl, rfl⟩ := Prod.mk.inj (Option.some.inj hf)
    exact wk_out C (by decide +kernel) rfl rfl
set_option maxHeartbeats 4000000 in
theorem mt_X1_degree {E : Ev} {l : Launch} (hl : l.stackTraces = false) {p0 : Option Nat} {p1 : Int32} {σ : Hs} {r : Int32 ⊕ Nat} {σ' : Hs} (hf : fn_X1_degree p0 p1 σ = some (r, σ')) : wk_M E l yX1_degree (ws_ yX1_degree cX1_degree 2 (Option.some FieldType.int)) 8 142 [vR p0, vI p1] σ (ot_I r) σ' := by
  refine wk_start (by decide +kernel) hl (Nat.le_of_ble_eq_true rfl) (fun K C hK => ?_)
  subst hK
  refine wk_L (L' := [(0, vR p0), (1, vI p1)]) rfl ?_
  unfold fn_X1_degree at hf
  refine wk_aload_n C 0 rfl dX1_degree_0 ?_
  refine wk_iconst (v := 1) C dX1_degree_1 rfl ?_
  obtain ⟨v1, σ2, h_σ2, hf⟩ := ho_e2 hf
  refine wk_newaI C q606 h_σ2 dX1_degree_2 ?_
  refine wk_dup C rfl dX1_degree_4 ?_
  refine wk_iconst (v := 0) C dX1_degree_5 rfl ?_
  refine wk_iload_n C 1 rfl dX1_degree_6 ?_
  obtain ⟨σ3, h_σ3, hf⟩ := ho_b hf
  refine wk_iast C h_σ3 dX1_degree_7 ?_
  obtain ⟨b4, h_b4, hf⟩ := ho_b hf
  obtain ⟨v6, σ5, h_σ5, hf⟩ := ho_e2 hf
  rcases ho_xe hf with ⟨x7, rfl, hf⟩ | ⟨q8, rfl, hf⟩
  · refine wk_callV (av := [vR v1]) (rest := []) (rv := none) C h_b4 rx_0 cx_X1_173 (mt_X1_checkNodes (wk_C.tr C) h_σ5) rfl rfl (Nat.le_of_ble_eq_true rfl) (Nat.le_of_ble_eq_true rfl) (Nat.le_of_ble_eq_true rfl) dX1_degree_8 ?_
    obtain ⟨v9, σ10, h_σ10, hf⟩ := ho_e2 hf
    refine wk_new C nx_X1_104 h_σ10 dX1_degree_11 ?_
    refine wk_dup C rfl dX1_degree_14 ?_
    refine wk_aload_n C 0 rfl dX1_degree_15 ?_
    obtain ⟨v11, h_v11, hf⟩ := ho_b hf
    refine wk_getR C fx_X1_37 h_v11 dX1_degree_16 ?_
    obtain ⟨b12, h_b12, hf⟩ := ho_b hf
    obtain ⟨σ13, h_σ13, hf⟩ := ho_b hf
    refine wk_callI (av := [vR v11]) (rest := [vR v9]) C cx_X1_106 h_b12 (mt_X12_init (wk_C.tr C) h_σ13) rfl (Nat.le_of_ble_eq_true rfl) (Nat.le_of_ble_eq_true rfl) (Nat.le_of_ble_eq_true rfl) dX1_degree_19 ?_
    obtain ⟨v14, h_v14, hf⟩ := ho_b hf
    refine wk_getR C fx_X1_207 h_v14 dX1_degree_22 ?_
    refine wk_iload_n C 1 rfl dX1_degree_25 ?_
    obtain ⟨v15, h_v15, hf⟩ := ho_b hf
    refine wk_aald C h_v15 dX1_degree_26 ?_
    obtain ⟨v16, h_v16, hf⟩ := ho_b hf
    refine wk_alen C h_v16 dX1_degree_27 ?_
    obtain ⟨rfl, rfl⟩ := Prod.mk.inj (Option.some.inj hf)
    exact wk_iret C rfl rfl dX1_degree_28
  · refine wk_callVT (av := [vR v1]) (rest := []) C h_b4 rx_0 cx_X1_173 (mt_X1_checkNodes (wk_C.tr C) h_σ5) rfl (Nat.le_of_ble_eq_true rfl) (Nat.le_of_ble_eq_true rfl) (Nat.le_of_ble_eq_true rfl) dX1_degree_8 ?_
    obtain ⟨rfl, rfl⟩ := Prod.mk.inj (Option.some.inj hf)
    exact wk_out C (by decide +kernel) rfl rfl
set_option maxHeartbeats 4000000 in
theorem wb_X1_parts_b136 {E : Ev} {K : Kx} (C : wk_C E K yX1_parts cX1_parts 8 (Option.some FieldType.int) 5 96 []) {k54 : Option Nat → Int32 → Option Nat → Hs → Option (Int32 × Hs)} {r : Int32} {σ' : Hs} (hk54 : ∀ (l1 : Option Nat) (l2 : Int32) (l3 : Option Nat) (σ : Hs), k54 l1 l2 l3 σ = some (r, σ') → wk_V E K (.inl (some (.int r))) σ' σ 54 [(1, vR l1), (2, vI l2), (3, vR l3)] []) (l1 : Option Nat) (l2 : Int32) (l3 : Option Nat) (σ : Hs) (hf : fn_X1_parts_b136 k54 l1 l2 l3 σ = some (r, σ')) : wk_V E K (.inl (some (.int r))) σ' σ 136 [(1, vR l1), (2, vI l2), (3, vR l3)] [] := by
  unfold fn_X1_parts_b136 at hf
  refine wk_goto C 54 (by decide) dX1_parts_136 ?_
  exact hk54 _ _ _ _ hf
set_option maxHeartbeats 4000000 in
theorem wb_X1_parts_b130 {E : Ev} {K : Kx} (C : wk_C E K yX1_parts cX1_parts 8 (Option.some FieldType.int) 5 96 []) {k108 : Option Nat → Int32 → Option Nat → Int32 → Int32 → Int32 → Hs → Option (Int32 × Hs)} {r : Int32} {σ' : Hs} (hk108 : ∀ (l1 : Option Nat) (l2 : Int32) (l3 : Option Nat) (l5 : Int32) (l6 : Int32) (l7 : Int32) (σ : Hs), k108 l1 l2 l3 l5 l6 l7 σ = some (r, σ') → wk_V E K (.inl (some (.int r))) σ' σ 108 [(1, vR l1), (2, vI l2), (3, vR l3), (5, vI l5), (6, vI l6), (7, vI l7)] []) (l1 : Option Nat) (l2 : Int32) (l3 : Option Nat) (l5 : Int32) (l6 : Int32) (l7 : Int32) (σ : Hs) (hf : fn_X1_parts_b130 k108 l1 l2 l3 l5 l6 l7 σ = some (r, σ')) : wk_V E K (.inl (some (.int r))) σ' σ 130 [(1, vR l1), (2, vI l2), (3, vR l3), (5, vI l5), (6, vI l6), (7, vI l7)] [] := by
  unfold fn_X1_parts_b130 at hf
  refine wk_iinc (v := l7 + 1) (L' := [(1, vR l1), (2, vI l2), (3, vR l3), (5, vI l5), (6, vI l6), (7, vI (l7 + 1))]) C 5 rfl (by decide) rfl rfl dX1_parts_130 ?_
  refine wk_goto C 108 (by decide) dX1_parts_133 ?_
  exact hk108 _ _ _ _ _ _ _ hf
set_option maxHeartbeats 4000000 in
theorem wb_X1_parts_b108 {E : Ev} {K : Kx} (C : wk_C E K yX1_parts cX1_parts 8 (Option.some FieldType.int) 5 96 []) {k54 : Option Nat → Int32 → Option Nat → Hs → Option (Int32 × Hs)} {r : Int32} {σ' : Hs} (hk54 : ∀ (l1 : Option Nat) (l2 : Int32) (l3 : Option Nat) (σ : Hs), k54 l1 l2 l3 σ = some (r, σ') → wk_V E K (.inl (some (.int r))) σ' σ 54 [(1, vR l1), (2, vI l2), (3, vR l3)] []) : ∀ (n : Nat) (l1 : Option Nat) (l2 : Int32) (l3 : Option Nat) (l5 : Int32) (l6 : Int32) (l7 : Int32) (σ : Hs), fn_X1_parts_b108 k54 n l1 l2 l3 l5 l6 l7 σ = some (r, σ') → wk_V E K (.inl (some (.int r))) σ' σ 108 [(1, vR l1), (2, vI l2), (3, vR l3), (5, vI l5), (6, vI l6), (7, vI l7)] [] := by
  intro n
  induction n with
  | zero =>
    intro l1 l2 l3 l5 l6 l7 σ hf
    rw [fn_X1_parts_b108] at hf
    cases hf
  | succ n ih =>
    intro l1 l2 l3 l5 l6 l7 σ hf
    rw [fn_X1_parts_b108] at hf
    refine wk_iload C 5 rfl dX1_parts_108 ?_
    refine wk_aload_n C 0 rfl dX1_parts_110 ?_
    obtain ⟨v1, h_v1, hf⟩ := ho_b hf
    refine wk_alen C h_v1 dX1_parts_111 ?_
    refine wk_icmp_ge C 136 (by decide) dX1_parts_112 (fun c_ => ?_) (fun c_ => ?_)
    · rw [if_pos c_] at hf
      refine wk_sub (L' := [(1, vR l1), (2, vI l2), (3, vR l3)]) [0, 1, 2] rfl ?_
      exact wb_X1_parts_b136 C hk54 _ _ _ _ hf
    · rw [if_neg c_] at hf
      refine wk_aload_n C 0 rfl dX1_parts_115 ?_
      refine wk_iload C 5 rfl dX1_parts_116 ?_
      obtain ⟨v2, h_v2, hf⟩ := ho_b hf
      refine wk_iald C h_v2 dX1_parts_118 ?_
      refine wk_iload C 3 rfl dX1_parts_119 ?_
      refine wk_icmp_ne C 130 (by decide) dX1_parts_121 (fun c_ => ?_) (fun c_ => ?_)
      · rw [if_neg c_] at hf
        exact wb_X1_parts_b130 C ih _ _ _ _ _ _ _ hf
      · rw [if_pos c_] at hf
        refine wk_aload_n C 0 rfl dX1_parts_124 ?_
        refine wk_iload C 5 rfl dX1_parts_125 ?_
        refine wk_iload C 4 rfl dX1_parts_127 ?_
        obtain ⟨σ3, h_σ3, hf⟩ := ho_b hf
        refine wk_iast C h_σ3 dX1_parts_129 ?_
        exact wb_X1_parts_b130 C ih _ _ _ _ _ _ _ hf
set_option maxHeartbeats 4000000 in
theorem wb_X1_parts_b54 {E : Ev} {K : Kx} (C : wk_C E K yX1_parts cX1_parts 8 (Option.some FieldType.int) 5 96 []) {r : Int32} {σ' : Hs} : ∀ (n : Nat) (l1 : Option Nat) (l2 : Int32) (l3 : Option Nat) (σ : Hs), fn_X1_parts_b54 n l1 l2 l3 σ = some (r, σ') → wk_V E K (.inl (some (.int r))) σ' σ 54 [(1, vR l1), (2, vI l2), (3, vR l3)] [] := by
  intro n
  induction n with
  | zero =>
    intro l1 l2 l3 σ hf
    rw [fn_X1_parts_b54] at hf
    cases hf
  | succ n ih =>
    intro l1 l2 l3 σ hf
    rw [fn_X1_parts_b54] at hf
    refine wk_aload_n C 2 rfl dX1_parts_54 ?_
    obtain ⟨b4, h_b4, hf⟩ := ho_b hf
    obtain ⟨v6, σ5, h_σ5, hf⟩ := ho_e2 hf
    refine wk_callF (av := []) (rest := []) (rv := some (vI v6)) C h_b4 rx_22 cx_X1_195_22 (mt_J35_hasNext (wk_C.tr C) h_σ5) rfl rfl (Nat.le_of_ble_eq_true rfl) (Nat.le_of_ble_eq_true rfl) (Nat.le_of_ble_eq_true rfl) dX1_parts_55 ?_
    refine wk_if_eq C 139 (by decide) dX1_parts_60 (fun c_ => ?_) (fun c_ => ?_)
    · rw [if_pos c_] at hf
      refine wk_iload_n C 1 rfl dX1_parts_139 ?_
      obtain ⟨rfl, rfl⟩ := Prod.mk.inj (Option.some.inj hf)
      exact wk_iret C rfl rfl dX1_parts_140
    · rw [if_neg c_] at hf
      refine wk_aload_n C 2 rfl dX1_parts_63 ?_
      obtain ⟨b7, h_b7, hf⟩ := ho_b hf
      obtain ⟨v9, σ8, h_σ8, hf⟩ := ho_e2 hf
      refine wk_callF (av := []) (rest := []) (rv := some (vR v9)) C h_b7 rx_22 cx_X1_201_22 (mt_J38_next (wk_C.tr C) h_σ8) rfl rfl (Nat.le_of_ble_eq_true rfl) (Nat.le_of_ble_eq_true rfl) (Nat.le_of_ble_eq_true rfl) dX1_parts_64 ?_
      obtain ⟨u10, h_u10, hf⟩ := ho_b hf
      refine wk_cast C q1116 (List.forall_mem_cons.mpr ⟨ax_same rx_7 (Nat.le_of_ble_eq_true rfl), (List.forall_mem_nil _)⟩) h_u10 dX1_parts_69 ?_
      refine wk_astore (L' := [(1, vR l1), (2, vI l2), (3, vR l3), (4, vR v9)]) C (by decide) rfl dX1_parts_72 ?_
      refine wk_aload_n C 0 rfl dX1_parts_74 ?_
      refine wk_aload C 3 rfl dX1_parts_75 ?_
      obtain ⟨v11, h_v11, hf⟩ := ho_b hf
      refine wk_getI C fx_X1_159 h_v11 dX1_parts_77 ?_
      obtain ⟨v12, h_v12, hf⟩ := ho_b hf
      refine wk_iald C h_v12 dX1_parts_80 ?_
      refine wk_istore (L' := [(1, vR l1), (2, vI l2), (3, vR l3), (4, vR v9), (5, vI v12)]) C (by decide) rfl dX1_parts_81 ?_
      refine wk_aload_n C 0 rfl dX1_parts_83 ?_
      refine wk_aload C 3 rfl dX1_parts_84 ?_
      obtain ⟨v13, h_v13, hf⟩ := ho_b hf
      refine wk_getI C fx_X1_164 h_v13 dX1_parts_86 ?_
      obtain ⟨v14, h_v14, hf⟩ := ho_b hf
      refine wk_iald C h_v14 dX1_parts_89 ?_
      refine wk_istore (L' := [(1, vR l1), (2, vI l2), (3, vR l3), (4, vR v9), (5, vI v12), (6, vI v14)]) C (by decide) rfl dX1_parts_90 ?_
      refine wk_iload C 4 rfl dX1_parts_92 ?_
      refine wk_iload C 5 rfl dX1_parts_94 ?_
      refine wk_icmp_ne C 102 (by decide) dX1_parts_96 (fun c_ => ?_) (fun c_ => ?_)
      · rw [if_neg c_] at hf
        refine wk_iinc (v := l2 + (-1)) (L' := [(1, vR l1), (2, vI (l2 + (-1))), (3, vR l3), (4, vR v9), (5, vI v12), (6, vI v14)]) C 1 rfl (by decide) (by rw [show Int32.ofInt (-1) = (-1 : Int32) from by decide]) rfl dX1_parts_102 ?_
        refine wk_iconst (v := 0) C dX1_parts_105 rfl ?_
        refine wk_istore (L' := [(1, vR l1), (2, vI (l2 + (-1))), (3, vR l3), (4, vR v9), (5, vI v12), (6, vI v14), (7, vI (0 : Int32))]) C (by decide) rfl dX1_parts_106 ?_
        refine wk_sub (L' := [(1, vR l1), (2, vI (l2 + (-1))), (3, vR l3), (5, vI v12), (6, vI v14), (7, vI (0 : Int32))]) [0, 1, 2, 4, 5, 6] rfl ?_
        exact wb_X1_parts_b108 C ih _ _ _ _ _ _ _ _ hf
      · rw [if_pos c_] at hf
        refine wk_goto C 54 (by decide) dX1_parts_99 ?_
        refine wk_sub (L' := [(1, vR l1), (2, vI l2), (3, vR l3)]) [0, 1, 2] rfl ?_
        exact ih _ _ _ _ hf
set_option maxHeartbeats 4000000 in
theorem wb_X1_parts_b36 {E : Ev} {K : Kx} (C : wk_C E K yX1_parts cX1_parts 8 (Option.some FieldType.int) 5 96 []) {r : Int32} {σ' : Hs} (l0 : Option Nat) (l1 : Option Nat) (l2 : Int32) (σ : Hs) (hf : fn_X1_parts_b36 l0 l1 l2 σ = some (r, σ')) : wk_V E K (.inl (some (.int r))) σ' σ 36 [(0, vR l0), (1, vR l1), (2, vI l2)] [] := by
  unfold fn_X1_parts_b36 at hf
  refine wk_aload_n C 0 rfl dX1_parts_36 ?_
  obtain ⟨v15, h_v15, hf⟩ := ho_b hf
  refine wk_getR C fx_X1_37 h_v15 dX1_parts_37 ?_
  obtain ⟨v16, h_v16, hf⟩ := ho_b hf
  refine wk_getR C fx_X1_90 h_v16 dX1_parts_40 ?_
  obtain ⟨b17, h_b17, hf⟩ := ho_b hf
  obtain ⟨v19, σ18, h_σ18, hf⟩ := ho_e2 hf
  refine wk_callF (av := []) (rest := []) (rv := some (vR v19)) C h_b17 rx_15 cx_X1_211_15 (mt_J19_values (wk_C.tr C) h_σ18) rfl rfl (Nat.le_of_ble_eq_true rfl) (Nat.le_of_ble_eq_true rfl) (Nat.le_of_ble_eq_true rfl) dX1_parts_43 ?_
  obtain ⟨b20, h_b20, hf⟩ := ho_b hf
  obtain ⟨v22, σ21, h_σ21, hf⟩ := ho_e2 hf
  refine wk_callF (av := []) (rest := []) (rv := some (vR v22)) C h_b20 rx_18 cx_X1_215_18 (mt_J31_iterator (wk_C.tr C) h_σ21) rfl rfl (Nat.le_of_ble_eq_true rfl) (Nat.le_of_ble_eq_true rfl) (Nat.le_of_ble_eq_true rfl) dX1_parts_48 ?_
  refine wk_astore_n (L' := [(0, vR l0), (1, vR l1), (2, vI l2), (3, vR v22)]) C (by decide) rfl dX1_parts_53 ?_
  refine wk_sub (L' := [(1, vR l1), (2, vI l2), (3, vR v22)]) [1, 2, 3] rfl ?_
  exact wb_X1_parts_b54 C  _ _ _ _ _ hf
set_option maxHeartbeats 4000000 in
theorem wb_X1_parts_b20 {E : Ev} {K : Kx} (C : wk_C E K yX1_parts cX1_parts 8 (Option.some FieldType.int) 5 96 []) {r : Int32} {σ' : Hs} : ∀ (n : Nat) (l0 : Option Nat) (l1 : Option Nat) (l2 : Int32) (l3 : Int32) (σ : Hs), fn_X1_parts_b20 n l0 l1 l2 l3 σ = some (r, σ') → wk_V E K (.inl (some (.int r))) σ' σ 20 [(0, vR l0), (1, vR l1), (2, vI l2), (3, vI l3)] [] := by
  intro n
  induction n with
  | zero =>
    intro l0 l1 l2 l3 σ hf
    rw [fn_X1_parts_b20] at hf
    cases hf
  | succ n ih =>
    intro l0 l1 l2 l3 σ hf
    rw [fn_X1_parts_b20] at hf
    refine wk_iload_n C 3 rfl dX1_parts_20 ?_
    refine wk_aload_n C 1 rfl dX1_parts_21 ?_
    obtain ⟨v23, h_v23, hf⟩ := ho_b hf
    refine wk_alen C h_v23 dX1_parts_22 ?_
    refine wk_icmp_ge C 36 (by decide) dX1_parts_23 (fun c_ => ?_) (fun c_ => ?_)
    · rw [if_pos c_] at hf
      refine wk_sub (L' := [(0, vR l0), (1, vR l1), (2, vI l2)]) [0, 1, 2] rfl ?_
      exact wb_X1_parts_b36 C  _ _ _ _ hf
    · rw [if_neg c_] at hf
      refine wk_aload_n C 1 rfl dX1_parts_26 ?_
      refine wk_iload_n C 3 rfl dX1_parts_27 ?_
      refine wk_iload_n C 3 rfl dX1_parts_28 ?_
      obtain ⟨σ24, h_σ24, hf⟩ := ho_b hf
      refine wk_iast C h_σ24 dX1_parts_29 ?_
      refine wk_iinc (v := l3 + 1) (L' := [(0, vR l0), (1, vR l1), (2, vI l2), (3, vI (l3 + 1))]) C 3 rfl (by decide) rfl rfl dX1_parts_30 ?_
      refine wk_goto C 20 (by decide) dX1_parts_33 ?_
      exact ih _ _ _ _ _ hf
set_option maxHeartbeats 4000000 in
theorem mt_X1_parts {E : Ev} {l : Launch} (hl : l.stackTraces = false) {p0 : Option Nat} {σ : Hs} {r : Int32} {σ' : Hs} (hf : fn_X1_parts p0 σ = some (r, σ')) : wk_M E l yX1_parts (ws_ yX1_parts cX1_parts 8 (Option.some FieldType.int)) 5 96 [vR p0] σ (.inl (some (.int r))) σ' := by
  refine wk_start (by decide +kernel) hl (Nat.le_of_ble_eq_true rfl) (fun K C hK => ?_)
  subst hK
  refine wk_L (L' := [(0, vR p0)]) rfl ?_
  unfold fn_X1_parts at hf
  refine wk_aload_n C 0 rfl dX1_parts_0 ?_
  obtain ⟨v25, h_v25, hf⟩ := ho_b hf
  refine wk_getR C fx_X1_37 h_v25 dX1_parts_1 ?_
  obtain ⟨v26, h_v26, hf⟩ := ho_b hf
  refine wk_getR C fx_X1_66 h_v26 dX1_parts_4 ?_
  obtain ⟨b27, h_b27, hf⟩ := ho_b hf
  obtain ⟨v29, σ28, h_σ28, hf⟩ := ho_e2 hf
  refine wk_callF (av := []) (rest := []) (rv := some (vI v29)) C h_b27 rx_13 cx_X1_70_13 (mt_J2_size (wk_C.tr C) h_σ28) rfl rfl (Nat.le_of_ble_eq_true rfl) (Nat.le_of_ble_eq_true rfl) (Nat.le_of_ble_eq_true rfl) dX1_parts_7 ?_
  obtain ⟨v30, σ31, h_σ31, hf⟩ := ho_e2 hf
  refine wk_newaI C q606 h_σ31 dX1_parts_12 ?_
  refine wk_astore_n (L' := [(0, vR p0), (1, vR v30)]) C (by decide) rfl dX1_parts_14 ?_
  refine wk_aload_n C 1 rfl dX1_parts_15 ?_
  obtain ⟨v32, h_v32, hf⟩ := ho_b hf
  refine wk_alen C h_v32 dX1_parts_16 ?_
  refine wk_istore_n (L' := [(0, vR p0), (1, vR v30), (2, vI v32)]) C (by decide) rfl dX1_parts_17 ?_
  refine wk_iconst (v := 0) C dX1_parts_18 rfl ?_
  refine wk_istore_n (L' := [(0, vR p0), (1, vR v30), (2, vI v32), (3, vI (0 : Int32))]) C (by decide) rfl dX1_parts_19 ?_
  exact wb_X1_parts_b20 C  _ _ _ _ _ _ hf
set_option maxHeartbeats 4000000 in
theorem wb_X1_displacement_b39 {E : Ev} {K : Kx} (C : wk_C E K yX1_displacement cX1_displacement 5 (Option.some FieldType.int) 9 164 []) {r : Int32 ⊕ Nat} {σ' : Hs} (t0 : Int64) (σ : Hs) (hf : fn_X1_displacement_b39 t0 σ = some (r, σ')) : wk_V E K (ot_I r) σ' σ 39 [] [vJ t0] := by
  unfold fn_X1_displacement_b39 at hf
  refine wk_l2i C dX1_displacement_39 ?_
  obtain ⟨rfl, rfl⟩ := Prod.mk.inj (Option.some.inj hf)
  exact wk_iret C rfl rfl dX1_displacement_40
set_option maxHeartbeats 4000000 in
theorem mt_X1_displacement {E : Ev} {l : Launch} (hl : l.stackTraces = false) {p0 : Option Nat} {p1 : Int32} {p2 : Int32} {p3 : Int32} {σ : Hs} {r : Int32 ⊕ Nat} {σ' : Hs} (hf : fn_X1_displacement p0 p1 p2 p3 σ = some (r, σ')) : wk_M E l yX1_displacement (ws_ yX1_displacement cX1_displacement 5 (Option.some FieldType.int)) 9 164 [vR p0, vI p1, vI p2, vI p3] σ (ot_I r) σ' := by
  refine wk_start (by decide +kernel) hl (Nat.le_of_ble_eq_true rfl) (fun K C hK => ?_)
  subst hK
  refine wk_L (L' := [(0, vR p0), (1, vI p1), (2, vI p2), (3, vI p3)]) rfl ?_
  unfold fn_X1_displacement at hf
  refine wk_aload_n C 0 rfl dX1_displacement_0 ?_
  refine wk_iconst (v := 1) C dX1_displacement_1 rfl ?_
  obtain ⟨v1, σ2, h_σ2, hf⟩ := ho_e2 hf
  refine wk_newaI C q606 h_σ2 dX1_displacement_2 ?_
  refine wk_dup C rfl dX1_displacement_4 ?_
  refine wk_iconst (v := 0) C dX1_displacement_5 rfl ?_
  refine wk_iload_n C 1 rfl dX1_displacement_6 ?_
  obtain ⟨σ3, h_σ3, hf⟩ := ho_b hf
  refine wk_iast C h_σ3 dX1_displacement_7 ?_
  obtain ⟨b4, h_b4, hf⟩ := ho_b hf
  obtain ⟨v6, σ5, h_σ5, hf⟩ := ho_e2 hf
  rcases ho_xe hf with ⟨x7, rfl, hf⟩ | ⟨q8, rfl, hf⟩
  · refine wk_callV (av := [vR v1]) (rest := []) (rv := none) C h_b4 rx_0 cx_X1_173 (mt_X1_checkNodes (wk_C.tr C) h_σ5) rfl rfl (Nat.le_of_ble_eq_true rfl) (Nat.le_of_ble_eq_true rfl) (Nat.le_of_ble_eq_true rfl) dX1_displacement_8 ?_
    refine wk_aload_n C 0 rfl dX1_displacement_11 ?_
    refine wk_iload_n C 2 rfl dX1_displacement_12 ?_
    obtain ⟨b9, h_b9, hf⟩ := ho_b hf
    obtain ⟨v11, σ10, h_σ10, hf⟩ := ho_e2 hf
    rcases ho_xe hf with ⟨x12, rfl, hf⟩ | ⟨q13, rfl, hf⟩
    · refine wk_callV (av := [vI p2]) (rest := []) (rv := some (vR x12)) C h_b9 rx_0 cx_X1_218 (mt_X1_relaxed (wk_C.tr C) h_σ10) rfl rfl (Nat.le_of_ble_eq_true rfl) (Nat.le_of_ble_eq_true rfl) (Nat.le_of_ble_eq_true rfl) dX1_displacement_13 ?_
      refine wk_astore (L' := [(0, vR p0), (1, vI p1), (2, vI p2), (3, vI p3), (4, vR x12)]) C (by decide) rfl dX1_displacement_16 ?_
      refine wk_iload_n C 3 rfl dX1_displacement_18 ?_
      refine wk_if_eq C 32 (by decide) dX1_displacement_19 (fun c_ => ?_) (fun c_ => ?_)
      · rw [if_pos c_] at hf
        refine wk_aload C 4 rfl dX1_displacement_32 ?_
        obtain ⟨v14, h_v14, hf⟩ := ho_b hf
        refine wk_getR C fx_X1_226 h_v14 dX1_displacement_34 ?_
        refine wk_iload_n C 1 rfl dX1_displacement_37 ?_
        obtain ⟨v15, h_v15, hf⟩ := ho_b hf
        refine wk_lald C h_v15 dX1_displacement_38 ?_
        refine wk_sub (L' := []) [] rfl ?_
        exact wb_X1_displacement_b39 C  _ _ hf
      · rw [if_neg c_] at hf
        refine wk_aload C 4 rfl dX1_displacement_22 ?_
        obtain ⟨v16, h_v16, hf⟩ := ho_b hf
        refine wk_getR C fx_X1_222 h_v16 dX1_displacement_24 ?_
        refine wk_iload_n C 1 rfl dX1_displacement_27 ?_
        obtain ⟨v17, h_v17, hf⟩ := ho_b hf
        refine wk_lald C h_v17 dX1_displacement_28 ?_
        refine wk_goto C 39 (by decide) dX1_displacement_29 ?_
        refine wk_sub (L' := []) [] rfl ?_
        exact wb_X1_displacement_b39 C  _ _ hf
    · refine wk_callVT (av := [vI p2]) (rest := []) C h_b9 rx_0 cx_X1_218 (mt_X1_relaxed (wk_C.tr C) h_σ10) rfl (Nat.le_of_ble_eq_true rfl) (Nat.le_of_ble_eq_true rfl) (Nat.le_of_ble_eq_true rfl) dX1_displacement_13 ?_
      obtain ⟨rfl, rfl⟩ := Prod.mk.inj (Option.some.inj hf)
      exact wk_out C (by decide +kernel) rfl rfl
  · refine wk_callVT (av := [vR v1]) (rest := []) C h_b4 rx_0 cx_X1_173 (mt_X1_checkNodes (wk_C.tr C) h_σ5) rfl (Nat.le_of_ble_eq_true rfl) (Nat.le_of_ble_eq_true rfl) (Nat.le_of_ble_eq_true rfl) dX1_displacement_8 ?_
    obtain ⟨rfl, rfl⟩ := Prod.mk.inj (Option.some.inj hf)
    exact wk_out C (by decide +kernel) rfl rfl
set_option maxHeartbeats 4000000 in
theorem mt_X1_force {E : Ev} {l : Launch} (hl : l.stackTraces = false) {p0 : Option Nat} {p1 : Int32} {p2 : Int32} {σ : Hs} {r : Int32 ⊕ Nat} {σ' : Hs} (hf : fn_X1_force p0 p1 p2 σ = some (r, σ')) : wk_M E l yX1_force (ws_ yX1_force cX1_force 4 (Option.some FieldType.int)) 9 164 [vR p0, vI p1, vI p2] σ (ot_I r) σ' := by
  refine wk_start (by decide +kernel) hl (Nat.le_of_ble_eq_true rfl) (fun K C hK => ?_)
  subst hK
  refine wk_L (L' := [(0, vR p0), (1, vI p1), (2, vI p2)]) rfl ?_
  unfold fn_X1_force at hf
  refine wk_aload_n C 0 rfl dX1_force_0 ?_
  refine wk_iload_n C 1 rfl dX1_force_1 ?_
  obtain ⟨b1, h_b1, hf⟩ := ho_b hf
  obtain ⟨v3, σ2, h_σ2, hf⟩ := ho_e2 hf
  rcases ho_xe hf with ⟨x4, rfl, hf⟩ | ⟨q5, rfl, hf⟩
  · refine wk_callV (av := [vI p1]) (rest := []) (rv := some (vR x4)) C h_b1 rx_0 cx_X1_153 (mt_X1_memberAt (wk_C.tr C) h_σ2) rfl rfl (Nat.le_of_ble_eq_true rfl) (Nat.le_of_ble_eq_true rfl) (Nat.le_of_ble_eq_true rfl) dX1_force_2 ?_
    refine wk_astore_n (L' := [(0, vR p0), (1, vI p1), (2, vI p2), (3, vR x4)]) C (by decide) rfl dX1_force_5 ?_
    refine wk_aload_n C 0 rfl dX1_force_6 ?_
    refine wk_iload_n C 2 rfl dX1_force_7 ?_
    obtain ⟨b6, h_b6, hf⟩ := ho_b hf
    obtain ⟨v8, σ7, h_σ7, hf⟩ := ho_e2 hf
    rcases ho_xe hf with ⟨x9, rfl, hf⟩ | ⟨q10, rfl, hf⟩
    · refine wk_callV (av := [vI p2]) (rest := []) (rv := some (vR x9)) C h_b6 rx_0 cx_X1_218 (mt_X1_relaxed (wk_C.tr C) h_σ7) rfl rfl (Nat.le_of_ble_eq_true rfl) (Nat.le_of_ble_eq_true rfl) (Nat.le_of_ble_eq_true rfl) dX1_force_8 ?_
      refine wk_aload_n C 3 rfl dX1_force_11 ?_
      obtain ⟨b11, h_b11, hf⟩ := ho_b hf
      obtain ⟨v13, σ12, h_σ12, hf⟩ := ho_e2 hf
      refine wk_callV (av := [vR x4]) (rest := []) (rv := some (vI v13)) C h_b11 rx_11 cx_X1_229 (mt_X12_forceIn (wk_C.tr C) h_σ12) rfl rfl (Nat.le_of_ble_eq_true rfl) (Nat.le_of_ble_eq_true rfl) (Nat.le_of_ble_eq_true rfl) dX1_force_12 ?_
      obtain ⟨rfl, rfl⟩ := Prod.mk.inj (Option.some.inj hf)
      exact wk_iret C rfl rfl dX1_force_15
    · refine wk_callVT (av := [vI p2]) (rest := []) C h_b6 rx_0 cx_X1_218 (mt_X1_relaxed (wk_C.tr C) h_σ7) rfl (Nat.le_of_ble_eq_true rfl) (Nat.le_of_ble_eq_true rfl) (Nat.le_of_ble_eq_true rfl) dX1_force_8 ?_
      obtain ⟨rfl, rfl⟩ := Prod.mk.inj (Option.some.inj hf)
      exact wk_out C (by decide +kernel) rfl rfl
  · refine wk_callVT (av := [vI p1]) (rest := []) C h_b1 rx_0 cx_X1_153 (mt_X1_memberAt (wk_C.tr C) h_σ2) rfl (Nat.le_of_ble_eq_true rfl) (Nat.le_of_ble_eq_true rfl) (Nat.le_of_ble_eq_true rfl) dX1_force_2 ?_
    obtain ⟨rfl, rfl⟩ := Prod.mk.inj (Option.some.inj hf)
    exact wk_out C (by decide +kernel) rfl rfl
set_option maxHeartbeats 4000000 in
theorem wb_X1_residual_b46 {E : Ev} {K : Kx} (C : wk_C E K yX1_residual cX1_residual 5 (Option.some FieldType.int) 9 164 []) {r : Int32 ⊕ Nat} {σ' : Hs} (t0 : Int64) (σ : Hs) (hf : fn_X1_residual_b46 t0 σ = some (r, σ')) : wk_V E K (ot_I r) σ' σ 46 [] [vJ t0] := by
  unfold fn_X1_residual_b46 at hf
  refine wk_l2i C dX1_residual_46 ?_
  obtain ⟨rfl, rfl⟩ := Prod.mk.inj (Option.some.inj hf)
  exact wk_iret C rfl rfl dX1_residual_47
set_option maxHeartbeats 4000000 in
theorem mt_X1_residual {E : Ev} {l : Launch} (hl : l.stackTraces = false) {p0 : Option Nat} {p1 : Int32} {p2 : Int32} {p3 : Int32} {σ : Hs} {r : Int32 ⊕ Nat} {σ' : Hs} (hf : fn_X1_residual p0 p1 p2 p3 σ = some (r, σ')) : wk_M E l yX1_residual (ws_ yX1_residual cX1_residual 5 (Option.some FieldType.int)) 9 164 [vR p0, vI p1, vI p2, vI p3] σ (ot_I r) σ' := by
  refine wk_start (by decide +kernel) hl (Nat.le_of_ble_eq_true rfl) (fun K C hK => ?_)
  subst hK
  refine wk_L (L' := [(0, vR p0), (1, vI p1), (2, vI p2), (3, vI p3)]) rfl ?_
  unfold fn_X1_residual at hf
  refine wk_aload_n C 0 rfl dX1_residual_0 ?_
  refine wk_iconst (v := 1) C dX1_residual_1 rfl ?_
  obtain ⟨v1, σ2, h_σ2, hf⟩ := ho_e2 hf
  refine wk_newaI C q606 h_σ2 dX1_residual_2 ?_
  refine wk_dup C rfl dX1_residual_4 ?_
  refine wk_iconst (v := 0) C dX1_residual_5 rfl ?_
  refine wk_iload_n C 1 rfl dX1_residual_6 ?_
  obtain ⟨σ3, h_σ3, hf⟩ := ho_b hf
  refine wk_iast C h_σ3 dX1_residual_7 ?_
  obtain ⟨b4, h_b4, hf⟩ := ho_b hf
  obtain ⟨v6, σ5, h_σ5, hf⟩ := ho_e2 hf
  rcases ho_xe hf with ⟨x7, rfl, hf⟩ | ⟨q8, rfl, hf⟩
  · refine wk_callV (av := [vR v1]) (rest := []) (rv := none) C h_b4 rx_0 cx_X1_173 (mt_X1_checkNodes (wk_C.tr C) h_σ5) rfl rfl (Nat.le_of_ble_eq_true rfl) (Nat.le_of_ble_eq_true rfl) (Nat.le_of_ble_eq_true rfl) dX1_residual_8 ?_
    refine wk_aload_n C 0 rfl dX1_residual_11 ?_
    refine wk_iload_n C 2 rfl dX1_residual_12 ?_
    obtain ⟨b9, h_b9, hf⟩ := ho_b hf
    obtain ⟨v11, σ10, h_σ10, hf⟩ := ho_e2 hf
    rcases ho_xe hf with ⟨x12, rfl, hf⟩ | ⟨q13, rfl, hf⟩
    · refine wk_callV (av := [vI p2]) (rest := []) (rv := some (vR x12)) C h_b9 rx_0 cx_X1_218 (mt_X1_relaxed (wk_C.tr C) h_σ10) rfl rfl (Nat.le_of_ble_eq_true rfl) (Nat.le_of_ble_eq_true rfl) (Nat.le_of_ble_eq_true rfl) dX1_residual_13 ?_
      refine wk_astore (L' := [(0, vR p0), (1, vI p1), (2, vI p2), (3, vI p3), (4, vR x12)]) C (by decide) rfl dX1_residual_16 ?_
      refine wk_aload C 4 rfl dX1_residual_18 ?_
      refine wk_iload_n C 1 rfl dX1_residual_20 ?_
      refine wk_iload_n C 2 rfl dX1_residual_21 ?_
      obtain ⟨b14, h_b14, hf⟩ := ho_b hf
      obtain ⟨σ15, h_σ15, hf⟩ := ho_b hf
      refine wk_callV (av := [vI p1, vI p2]) (rest := []) (rv := none) C h_b14 rx_11 cx_X1_233 (mt_X12_balance (wk_C.tr C) h_σ15) rfl rfl (Nat.le_of_ble_eq_true rfl) (Nat.le_of_ble_eq_true rfl) (Nat.le_of_ble_eq_true rfl) dX1_residual_22 ?_
      refine wk_iload_n C 3 rfl dX1_residual_25 ?_
      refine wk_if_eq C 39 (by decide) dX1_residual_26 (fun c_ => ?_) (fun c_ => ?_)
      · rw [if_pos c_] at hf
        refine wk_aload C 4 rfl dX1_residual_39 ?_
        obtain ⟨v16, h_v16, hf⟩ := ho_b hf
        refine wk_getR C fx_X1_239 h_v16 dX1_residual_41 ?_
        refine wk_iload_n C 1 rfl dX1_residual_44 ?_
        obtain ⟨v17, h_v17, hf⟩ := ho_b hf
        refine wk_lald C h_v17 dX1_residual_45 ?_
        refine wk_sub (L' := []) [] rfl ?_
        exact wb_X1_residual_b46 C  _ _ hf
      · rw [if_neg c_] at hf
        refine wk_aload C 4 rfl dX1_residual_29 ?_
        obtain ⟨v18, h_v18, hf⟩ := ho_b hf
        refine wk_getR C fx_X1_236 h_v18 dX1_residual_31 ?_
        refine wk_iload_n C 1 rfl dX1_residual_34 ?_
        obtain ⟨v19, h_v19, hf⟩ := ho_b hf
        refine wk_lald C h_v19 dX1_residual_35 ?_
        refine wk_goto C 46 (by decide) dX1_residual_36 ?_
        refine wk_sub (L' := []) [] rfl ?_
        exact wb_X1_residual_b46 C  _ _ hf
    · refine wk_callVT (av := [vI p2]) (rest := []) C h_b9 rx_0 cx_X1_218 (mt_X1_relaxed (wk_C.tr C) h_σ10) rfl (Nat.le_of_ble_eq_true rfl) (Nat.le_of_ble_eq_true rfl) (Nat.le_of_ble_eq_true rfl) dX1_residual_13 ?_
      obtain ⟨rfl, rfl⟩ := Prod.mk.inj (Option.some.inj hf)
      exact wk_out C (by decide +kernel) rfl rfl
  · refine wk_callVT (av := [vR v1]) (rest := []) C h_b4 rx_0 cx_X1_173 (mt_X1_checkNodes (wk_C.tr C) h_σ5) rfl (Nat.le_of_ble_eq_true rfl) (Nat.le_of_ble_eq_true rfl) (Nat.le_of_ble_eq_true rfl) dX1_residual_8 ?_
    obtain ⟨rfl, rfl⟩ := Prod.mk.inj (Option.some.inj hf)
    exact wk_out C (by decide +kernel) rfl rfl
set_option maxHeartbeats 4000000 in
theorem mt_X1_buckling {E : Ev} {l : Launch} (hl : l.stackTraces = false) {p0 : Option Nat} {p1 : Int32} {σ : Hs} {r : Int32 ⊕ Nat} {σ' : Hs} (hf : fn_X1_buckling p0 p1 σ = some (r, σ')) : wk_M E l yX1_buckling (ws_ yX1_buckling cX1_buckling 2 (Option.some FieldType.int)) 8 141 [vR p0, vI p1] σ (ot_I r) σ' := by
  refine wk_start (by decide +kernel) hl (Nat.le_of_ble_eq_true rfl) (fun K C hK => ?_)
  subst hK
  refine wk_L (L' := [(0, vR p0), (1, vI p1)]) rfl ?_
  unfold fn_X1_buckling at hf
  refine wk_aload_n C 0 rfl dX1_buckling_0 ?_
  obtain ⟨v1, h_v1, hf⟩ := ho_b hf
  refine wk_getR C fx_X1_37 h_v1 dX1_buckling_1 ?_
  refine wk_aload_n C 0 rfl dX1_buckling_4 ?_
  refine wk_iload_n C 1 rfl dX1_buckling_5 ?_
  obtain ⟨b2, h_b2, hf⟩ := ho_b hf
  obtain ⟨v4, σ3, h_σ3, hf⟩ := ho_e2 hf
  rcases ho_xe hf with ⟨x5, rfl, hf⟩ | ⟨q6, rfl, hf⟩
  · refine wk_callV (av := [vI p1]) (rest := [vR v1]) (rv := some (vR x5)) C h_b2 rx_0 cx_X1_153 (mt_X1_memberAt (wk_C.tr C) h_σ3) rfl rfl (Nat.le_of_ble_eq_true rfl) (Nat.le_of_ble_eq_true rfl) (Nat.le_of_ble_eq_true rfl) dX1_buckling_6 ?_
    obtain ⟨b7, h_b7, hf⟩ := ho_b hf
    obtain ⟨v9, σ8, h_σ8, hf⟩ := ho_e2 hf
    refine wk_callV (av := [vR x5]) (rest := []) (rv := some (vI v9)) C h_b7 rx_1 cx_X1_242 (mt_X2_bucklingOf (wk_C.tr C) h_σ8) rfl rfl (Nat.le_of_ble_eq_true rfl) (Nat.le_of_ble_eq_true rfl) (Nat.le_of_ble_eq_true rfl) dX1_buckling_9 ?_
    obtain ⟨rfl, rfl⟩ := Prod.mk.inj (Option.some.inj hf)
    exact wk_iret C rfl rfl dX1_buckling_12
  · refine wk_callVT (av := [vI p1]) (rest := [vR v1]) C h_b2 rx_0 cx_X1_153 (mt_X1_memberAt (wk_C.tr C) h_σ3) rfl (Nat.le_of_ble_eq_true rfl) (Nat.le_of_ble_eq_true rfl) (Nat.le_of_ble_eq_true rfl) dX1_buckling_6 ?_
    obtain ⟨rfl, rfl⟩ := Prod.mk.inj (Option.some.inj hf)
    exact wk_out C (by decide +kernel) rfl rfl
set_option maxHeartbeats 4000000 in
theorem mt_X1_capacity {E : Ev} {l : Launch} (hl : l.stackTraces = false) {p0 : Option Nat} {p1 : Int32} {p2 : Int32} {σ : Hs} {r : Int32 ⊕ Nat} {σ' : Hs} (hf : fn_X1_capacity p0 p1 p2 σ = some (r, σ')) : wk_M E l yX1_capacity (ws_ yX1_capacity cX1_capacity 3 (Option.some FieldType.int)) 8 141 [vR p0, vI p1, vI p2] σ (ot_I r) σ' := by
  refine wk_start (by decide +kernel) hl (Nat.le_of_ble_eq_true rfl) (fun K C hK => ?_)
  subst hK
  refine wk_L (L' := [(0, vR p0), (1, vI p1), (2, vI p2)]) rfl ?_
  unfold fn_X1_capacity at hf
  refine wk_aload_n C 0 rfl dX1_capacity_0 ?_
  obtain ⟨v1, h_v1, hf⟩ := ho_b hf
  refine wk_getR C fx_X1_37 h_v1 dX1_capacity_1 ?_
  refine wk_aload_n C 0 rfl dX1_capacity_4 ?_
  refine wk_iload_n C 1 rfl dX1_capacity_5 ?_
  obtain ⟨b2, h_b2, hf⟩ := ho_b hf
  obtain ⟨v4, σ3, h_σ3, hf⟩ := ho_e2 hf
  rcases ho_xe hf with ⟨x5, rfl, hf⟩ | ⟨q6, rfl, hf⟩
  · refine wk_callV (av := [vI p1]) (rest := [vR v1]) (rv := some (vR x5)) C h_b2 rx_0 cx_X1_153 (mt_X1_memberAt (wk_C.tr C) h_σ3) rfl rfl (Nat.le_of_ble_eq_true rfl) (Nat.le_of_ble_eq_true rfl) (Nat.le_of_ble_eq_true rfl) dX1_capacity_6 ?_
    refine wk_iload_n C 2 rfl dX1_capacity_9 ?_
    obtain ⟨b7, h_b7, hf⟩ := ho_b hf
    obtain ⟨v9, σ8, h_σ8, hf⟩ := ho_e2 hf
    refine wk_callV (av := [vR x5, vI p2]) (rest := []) (rv := some (vI v9)) C h_b7 rx_1 cx_X1_245 (mt_X2_capacityOf (wk_C.tr C) h_σ8) rfl rfl (Nat.le_of_ble_eq_true rfl) (Nat.le_of_ble_eq_true rfl) (Nat.le_of_ble_eq_true rfl) dX1_capacity_10 ?_
    obtain ⟨rfl, rfl⟩ := Prod.mk.inj (Option.some.inj hf)
    exact wk_iret C rfl rfl dX1_capacity_13
  · refine wk_callVT (av := [vI p1]) (rest := [vR v1]) C h_b2 rx_0 cx_X1_153 (mt_X1_memberAt (wk_C.tr C) h_σ3) rfl (Nat.le_of_ble_eq_true rfl) (Nat.le_of_ble_eq_true rfl) (Nat.le_of_ble_eq_true rfl) dX1_capacity_6 ?_
    obtain ⟨rfl, rfl⟩ := Prod.mk.inj (Option.some.inj hf)
    exact wk_out C (by decide +kernel) rfl rfl
set_option maxHeartbeats 4000000 in
theorem mt_X1_use {E : Ev} {l : Launch} (hl : l.stackTraces = false) {p0 : Option Nat} {p1 : Int32} {p2 : Int32} {σ : Hs} {r : Int32 ⊕ Nat} {σ' : Hs} (hf : fn_X1_use p0 p1 p2 σ = some (r, σ')) : wk_M E l yX1_use (ws_ yX1_use cX1_use 4 (Option.some FieldType.int)) 9 164 [vR p0, vI p1, vI p2] σ (ot_I r) σ' := by
  refine wk_start (by decide +kernel) hl (Nat.le_of_ble_eq_true rfl) (fun K C hK => ?_)
  subst hK
  refine wk_L (L' := [(0, vR p0), (1, vI p1), (2, vI p2)]) rfl ?_
  unfold fn_X1_use at hf
  refine wk_aload_n C 0 rfl dX1_use_0 ?_
  refine wk_iload_n C 1 rfl dX1_use_1 ?_
  obtain ⟨b1, h_b1, hf⟩ := ho_b hf
  obtain ⟨v3, σ2, h_σ2, hf⟩ := ho_e2 hf
  rcases ho_xe hf with ⟨x4, rfl, hf⟩ | ⟨q5, rfl, hf⟩
  · refine wk_callV (av := [vI p1]) (rest := []) (rv := some (vR x4)) C h_b1 rx_0 cx_X1_153 (mt_X1_memberAt (wk_C.tr C) h_σ2) rfl rfl (Nat.le_of_ble_eq_true rfl) (Nat.le_of_ble_eq_true rfl) (Nat.le_of_ble_eq_true rfl) dX1_use_2 ?_
    refine wk_astore_n (L' := [(0, vR p0), (1, vI p1), (2, vI p2), (3, vR x4)]) C (by decide) rfl dX1_use_5 ?_
    refine wk_aload_n C 0 rfl dX1_use_6 ?_
    obtain ⟨v6, h_v6, hf⟩ := ho_b hf
    refine wk_getR C fx_X1_37 h_v6 dX1_use_7 ?_
    refine wk_aload_n C 3 rfl dX1_use_10 ?_
    refine wk_aload_n C 0 rfl dX1_use_11 ?_
    refine wk_iload_n C 2 rfl dX1_use_12 ?_
    obtain ⟨b7, h_b7, hf⟩ := ho_b hf
    obtain ⟨v9, σ8, h_σ8, hf⟩ := ho_e2 hf
    rcases ho_xe hf with ⟨x10, rfl, hf⟩ | ⟨q11, rfl, hf⟩
    · refine wk_callV (av := [vI p2]) (rest := [vR x4, vR v6]) (rv := some (vR x10)) C h_b7 rx_0 cx_X1_218 (mt_X1_relaxed (wk_C.tr C) h_σ8) rfl rfl (Nat.le_of_ble_eq_true rfl) (Nat.le_of_ble_eq_true rfl) (Nat.le_of_ble_eq_true rfl) dX1_use_13 ?_
      refine wk_aload_n C 3 rfl dX1_use_16 ?_
      obtain ⟨b12, h_b12, hf⟩ := ho_b hf
      obtain ⟨v14, σ13, h_σ13, hf⟩ := ho_e2 hf
      refine wk_callV (av := [vR x4]) (rest := [vR x4, vR v6]) (rv := some (vI v14)) C h_b12 rx_11 cx_X1_229 (mt_X12_forceIn (wk_C.tr C) h_σ13) rfl rfl (Nat.le_of_ble_eq_true rfl) (Nat.le_of_ble_eq_true rfl) (Nat.le_of_ble_eq_true rfl) dX1_use_17 ?_
      obtain ⟨b15, h_b15, hf⟩ := ho_b hf
      obtain ⟨v17, σ16, h_σ16, hf⟩ := ho_e2 hf
      refine wk_callV (av := [vR x4, vI v14]) (rest := []) (rv := some (vI v17)) C h_b15 rx_1 cx_X1_249 (mt_X2_useOf (wk_C.tr C) h_σ16) rfl rfl (Nat.le_of_ble_eq_true rfl) (Nat.le_of_ble_eq_true rfl) (Nat.le_of_ble_eq_true rfl) dX1_use_20 ?_
      obtain ⟨rfl, rfl⟩ := Prod.mk.inj (Option.some.inj hf)
      exact wk_iret C rfl rfl dX1_use_23
    · refine wk_callVT (av := [vI p2]) (rest := [vR x4, vR v6]) C h_b7 rx_0 cx_X1_218 (mt_X1_relaxed (wk_C.tr C) h_σ8) rfl (Nat.le_of_ble_eq_true rfl) (Nat.le_of_ble_eq_true rfl) (Nat.le_of_ble_eq_true rfl) dX1_use_13 ?_
      obtain ⟨rfl, rfl⟩ := Prod.mk.inj (Option.some.inj hf)
      exact wk_out C (by decide +kernel) rfl rfl
  · refine wk_callVT (av := [vI p1]) (rest := []) C h_b1 rx_0 cx_X1_153 (mt_X1_memberAt (wk_C.tr C) h_σ2) rfl (Nat.le_of_ble_eq_true rfl) (Nat.le_of_ble_eq_true rfl) (Nat.le_of_ble_eq_true rfl) dX1_use_2 ?_
    obtain ⟨rfl, rfl⟩ := Prod.mk.inj (Option.some.inj hf)
    exact wk_out C (by decide +kernel) rfl rfl
set_option maxHeartbeats 4000000 in
theorem wb_X1_greatestUse_b91 {E : Ev} {K : Kx} (C : wk_C E K yX1_greatestUse cX1_greatestUse 9 (Option.some FieldType.int) 7 142 []) {k25 : Option Nat → Option Nat → Int32 → Int32 → Int32 → Hs → Option (Int32 × Hs)} {r : Int32} {σ' : Hs} (hk25 : ∀ (l0 : Option Nat) (l1 : Option Nat) (l2 : Int32) (l3 : Int32) (l4 : Int32) (σ : Hs), k25 l0 l1 l2 l3 l4 σ = some (r, σ') → wk_V E K (.inl (some (.int r))) σ' σ 25 [(0, vR l0), (1, vR l1), (2, vI l2), (3, vI l3), (4, vI l4)] []) (l0 : Option Nat) (l1 : Option Nat) (l2 : Int32) (l3 : Int32) (l4 : Int32) (σ : Hs) (hf : fn_X1_greatestUse_b91 k25 l0 l1 l2 l3 l4 σ = some (r, σ')) : wk_V E K (.inl (some (.int r))) σ' σ 91 [(0, vR l0), (1, vR l1), (2, vI l2), (3, vI l3), (4, vI l4)] [] := by
  unfold fn_X1_greatestUse_b91 at hf
  refine wk_iinc (v := l4 + 1) (L' := [(0, vR l0), (1, vR l1), (2, vI l2), (3, vI l3), (4, vI (l4 + 1))]) C 4 rfl (by decide) rfl rfl dX1_greatestUse_91 ?_
  refine wk_goto C 25 (by decide) dX1_greatestUse_94 ?_
  exact hk25 _ _ _ _ _ _ hf
set_option maxHeartbeats 4000000 in
theorem wb_X1_greatestUse_b51 {E : Ev} {K : Kx} (C : wk_C E K yX1_greatestUse cX1_greatestUse 9 (Option.some FieldType.int) 7 142 []) {k25 : Option Nat → Option Nat → Int32 → Int32 → Int32 → Hs → Option (Int32 × Hs)} {r : Int32} {σ' : Hs} (hk25 : ∀ (l0 : Option Nat) (l1 : Option Nat) (l2 : Int32) (l3 : Int32) (l4 : Int32) (σ : Hs), k25 l0 l1 l2 l3 l4 σ = some (r, σ') → wk_V E K (.inl (some (.int r))) σ' σ 25 [(0, vR l0), (1, vR l1), (2, vI l2), (3, vI l3), (4, vI l4)] []) : ∀ (n : Nat) (l0 : Option Nat) (l1 : Option Nat) (l2 : Int32) (l3 : Int32) (l4 : Int32) (l5 : Option Nat) (l6 : Int32) (l7 : Int32) (σ : Hs), fn_X1_greatestUse_b51 k25 n l0 l1 l2 l3 l4 l5 l6 l7 σ = some (r, σ') → wk_V E K (.inl (some (.int r))) σ' σ 51 [(0, vR l0), (1, vR l1), (2, vI l2), (3, vI l3), (4, vI l4), (5, vR l5), (6, vI l6), (7, vI l7)] [] := by
  intro n
  induction n with
  | zero =>
    intro l0 l1 l2 l3 l4 l5 l6 l7 σ hf
    rw [fn_X1_greatestUse_b51] at hf
    cases hf
  | succ n ih =>
    intro l0 l1 l2 l3 l4 l5 l6 l7 σ hf
    rw [fn_X1_greatestUse_b51] at hf
    refine wk_iload C 7 rfl dX1_greatestUse_51 ?_
    refine wk_iload C 6 rfl dX1_greatestUse_53 ?_
    refine wk_icmp_ge C 91 (by decide) dX1_greatestUse_55 (fun c_ => ?_) (fun c_ => ?_)
    · rw [if_pos c_] at hf
      refine wk_sub (L' := [(0, vR l0), (1, vR l1), (2, vI l2), (3, vI l3), (4, vI l4)]) [0, 1, 2, 3, 4] rfl ?_
      exact wb_X1_greatestUse_b91 C hk25 _ _ _ _ _ _ hf
    · rw [if_neg c_] at hf
      refine wk_aload C 5 rfl dX1_greatestUse_58 ?_
      refine wk_iload C 7 rfl dX1_greatestUse_60 ?_
      obtain ⟨v1, h_v1, hf⟩ := ho_b hf
      refine wk_aald C h_v1 dX1_greatestUse_62 ?_
      refine wk_astore (L' := [(0, vR l0), (1, vR l1), (2, vI l2), (3, vI l3), (4, vI l4), (5, vR l5), (6, vI l6), (7, vI l7), (8, vR v1)]) C (by decide) rfl dX1_greatestUse_63 ?_
      refine wk_iload_n C 2 rfl dX1_greatestUse_65 ?_
      refine wk_aload_n C 0 rfl dX1_greatestUse_66 ?_
      obtain ⟨v2, h_v2, hf⟩ := ho_b hf
      refine wk_getR C fx_X1_37 h_v2 dX1_greatestUse_67 ?_
      refine wk_aload C 8 rfl dX1_greatestUse_70 ?_
      refine wk_aload_n C 1 rfl dX1_greatestUse_72 ?_
      refine wk_aload C 8 rfl dX1_greatestUse_73 ?_
      obtain ⟨b3, h_b3, hf⟩ := ho_b hf
      obtain ⟨v5, σ4, h_σ4, hf⟩ := ho_e2 hf
      refine wk_callV (av := [vR v1]) (rest := [vR v1, vR v2, vI l2]) (rv := some (vI v5)) C h_b3 rx_11 cx_X1_229 (mt_X12_forceIn (wk_C.tr C) h_σ4) rfl rfl (Nat.le_of_ble_eq_true rfl) (Nat.le_of_ble_eq_true rfl) (Nat.le_of_ble_eq_true rfl) dX1_greatestUse_75 ?_
      obtain ⟨b6, h_b6, hf⟩ := ho_b hf
      obtain ⟨v8, σ7, h_σ7, hf⟩ := ho_e2 hf
      refine wk_callV (av := [vR v1, vI v5]) (rest := [vI l2]) (rv := some (vI v8)) C h_b6 rx_1 cx_X1_249 (mt_X2_useOf (wk_C.tr C) h_σ7) rfl rfl (Nat.le_of_ble_eq_true rfl) (Nat.le_of_ble_eq_true rfl) (Nat.le_of_ble_eq_true rfl) dX1_greatestUse_78 ?_
      obtain ⟨v10, σ9, h_σ9, hf⟩ := ho_e2 hf
      refine wk_callS (av := [vI l2, vI v8]) (rest := []) (rv := some (vI v10)) C cx_X1_256 (mt_J12_max (wk_C.tr C) h_σ9) rfl rfl (Nat.le_of_ble_eq_true rfl) (Nat.le_of_ble_eq_true rfl) (Nat.le_of_ble_eq_true rfl) dX1_greatestUse_81 ?_
      refine wk_istore_n (L' := [(0, vR l0), (1, vR l1), (2, vI v10), (3, vI l3), (4, vI l4), (5, vR l5), (6, vI l6), (7, vI l7), (8, vR v1)]) C (by decide) rfl dX1_greatestUse_84 ?_
      refine wk_iinc (v := l7 + 1) (L' := [(0, vR l0), (1, vR l1), (2, vI v10), (3, vI l3), (4, vI l4), (5, vR l5), (6, vI l6), (7, vI (l7 + 1)), (8, vR v1)]) C 7 rfl (by decide) rfl rfl dX1_greatestUse_85 ?_
      refine wk_goto C 51 (by decide) dX1_greatestUse_88 ?_
      refine wk_sub (L' := [(0, vR l0), (1, vR l1), (2, vI v10), (3, vI l3), (4, vI l4), (5, vR l5), (6, vI l6), (7, vI (l7 + 1))]) [0, 1, 2, 3, 4, 5, 6, 7] rfl ?_
      exact ih _ _ _ _ _ _ _ _ _ hf
set_option maxHeartbeats 4000000 in
theorem wb_X1_greatestUse_b25 {E : Ev} {K : Kx} (C : wk_C E K yX1_greatestUse cX1_greatestUse 9 (Option.some FieldType.int) 7 142 []) {r : Int32} {σ' : Hs} : ∀ (n : Nat) (l0 : Option Nat) (l1 : Option Nat) (l2 : Int32) (l3 : Int32) (l4 : Int32) (σ : Hs), fn_X1_greatestUse_b25 n l0 l1 l2 l3 l4 σ = some (r, σ') → wk_V E K (.inl (some (.int r))) σ' σ 25 [(0, vR l0), (1, vR l1), (2, vI l2), (3, vI l3), (4, vI l4)] [] := by
  intro n
  induction n with
  | zero =>
    intro l0 l1 l2 l3 l4 σ hf
    rw [fn_X1_greatestUse_b25] at hf
    cases hf
  | succ n ih =>
    intro l0 l1 l2 l3 l4 σ hf
    rw [fn_X1_greatestUse_b25] at hf
    refine wk_iload C 4 rfl dX1_greatestUse_25 ?_
    refine wk_iload_n C 3 rfl dX1_greatestUse_27 ?_
    refine wk_icmp_ge C 97 (by decide) dX1_greatestUse_28 (fun c_ => ?_) (fun c_ => ?_)
    · rw [if_pos c_] at hf
      refine wk_iload_n C 2 rfl dX1_greatestUse_97 ?_
      obtain ⟨rfl, rfl⟩ := Prod.mk.inj (Option.some.inj hf)
      exact wk_iret C rfl rfl dX1_greatestUse_98
    · rw [if_neg c_] at hf
      refine wk_aload_n C 1 rfl dX1_greatestUse_31 ?_
      refine wk_iload C 4 rfl dX1_greatestUse_32 ?_
      obtain ⟨b11, h_b11, hf⟩ := ho_b hf
      obtain ⟨σ12, h_σ12, hf⟩ := ho_b hf
      refine wk_callV (av := [vI l4]) (rest := []) (rv := none) C h_b11 rx_11 cx_X1_109 (mt_X12_relax (wk_C.tr C) h_σ12) rfl rfl (Nat.le_of_ble_eq_true rfl) (Nat.le_of_ble_eq_true rfl) (Nat.le_of_ble_eq_true rfl) dX1_greatestUse_34 ?_
      refine wk_aload_n C 1 rfl dX1_greatestUse_37 ?_
      obtain ⟨v13, h_v13, hf⟩ := ho_b hf
      refine wk_getR C fx_X1_253 h_v13 dX1_greatestUse_38 ?_
      refine wk_astore (L' := [(0, vR l0), (1, vR l1), (2, vI l2), (3, vI l3), (4, vI l4), (5, vR v13)]) C (by decide) rfl dX1_greatestUse_41 ?_
      refine wk_aload C 5 rfl dX1_greatestUse_43 ?_
      obtain ⟨v14, h_v14, hf⟩ := ho_b hf
      refine wk_alen C h_v14 dX1_greatestUse_45 ?_
      refine wk_istore (L' := [(0, vR l0), (1, vR l1), (2, vI l2), (3, vI l3), (4, vI l4), (5, vR v13), (6, vI v14)]) C (by decide) rfl dX1_greatestUse_46 ?_
      refine wk_iconst (v := 0) C dX1_greatestUse_48 rfl ?_
      refine wk_istore (L' := [(0, vR l0), (1, vR l1), (2, vI l2), (3, vI l3), (4, vI l4), (5, vR v13), (6, vI v14), (7, vI (0 : Int32))]) C (by decide) rfl dX1_greatestUse_49 ?_
      exact wb_X1_greatestUse_b51 C ih _ _ _ _ _ _ _ _ _ _ hf
set_option maxHeartbeats 4000000 in
theorem mt_X1_greatestUse {E : Ev} {l : Launch} (hl : l.stackTraces = false) {p0 : Option Nat} {σ : Hs} {r : Int32} {σ' : Hs} (hf : fn_X1_greatestUse p0 σ = some (r, σ')) : wk_M E l yX1_greatestUse (ws_ yX1_greatestUse cX1_greatestUse 9 (Option.some FieldType.int)) 7 142 [vR p0] σ (.inl (some (.int r))) σ' := by
  refine wk_start (by decide +kernel) hl (Nat.le_of_ble_eq_true rfl) (fun K C hK => ?_)
  subst hK
  refine wk_L (L' := [(0, vR p0)]) rfl ?_
  unfold fn_X1_greatestUse at hf
  obtain ⟨v15, σ16, h_σ16, hf⟩ := ho_e2 hf
  refine wk_new C nx_X1_104 h_σ16 dX1_greatestUse_0 ?_
  refine wk_dup C rfl dX1_greatestUse_3 ?_
  refine wk_aload_n C 0 rfl dX1_greatestUse_4 ?_
  obtain ⟨v17, h_v17, hf⟩ := ho_b hf
  refine wk_getR C fx_X1_37 h_v17 dX1_greatestUse_5 ?_
  obtain ⟨b18, h_b18, hf⟩ := ho_b hf
  obtain ⟨σ19, h_σ19, hf⟩ := ho_b hf
  refine wk_callI (av := [vR v17]) (rest := [vR v15]) C cx_X1_106 h_b18 (mt_X12_init (wk_C.tr C) h_σ19) rfl (Nat.le_of_ble_eq_true rfl) (Nat.le_of_ble_eq_true rfl) (Nat.le_of_ble_eq_true rfl) dX1_greatestUse_8 ?_
  refine wk_astore_n (L' := [(0, vR p0), (1, vR v15)]) C (by decide) rfl dX1_greatestUse_11 ?_
  refine wk_iconst (v := 0) C dX1_greatestUse_12 rfl ?_
  refine wk_istore_n (L' := [(0, vR p0), (1, vR v15), (2, vI (0 : Int32))]) C (by decide) rfl dX1_greatestUse_13 ?_
  refine wk_aload_n C 0 rfl dX1_greatestUse_14 ?_
  obtain ⟨v20, h_v20, hf⟩ := ho_b hf
  refine wk_getR C fx_X1_37 h_v20 dX1_greatestUse_15 ?_
  obtain ⟨b21, h_b21, hf⟩ := ho_b hf
  obtain ⟨v23, σ22, h_σ22, hf⟩ := ho_e2 hf
  refine wk_callV (av := []) (rest := []) (rv := some (vI v23)) C h_b21 rx_1 cx_X1_87 (mt_X2_countStages (wk_C.tr C) h_σ22) rfl rfl (Nat.le_of_ble_eq_true rfl) (Nat.le_of_ble_eq_true rfl) (Nat.le_of_ble_eq_true rfl) dX1_greatestUse_18 ?_
  refine wk_istore_n (L' := [(0, vR p0), (1, vR v15), (2, vI (0 : Int32)), (3, vI v23)]) C (by decide) rfl dX1_greatestUse_21 ?_
  refine wk_iconst (v := 0) C dX1_greatestUse_22 rfl ?_
  refine wk_istore (L' := [(0, vR p0), (1, vR v15), (2, vI (0 : Int32)), (3, vI v23), (4, vI (0 : Int32))]) C (by decide) rfl dX1_greatestUse_23 ?_
  exact wb_X1_greatestUse_b25 C  _ _ _ _ _ _ _ hf
set_option maxHeartbeats 4000000 in
theorem mt_X1_failureCount {E : Ev} {l : Launch} (hl : l.stackTraces = false) {p0 : Option Nat} {σ : Hs} {r : Int32} {σ' : Hs} (hf : fn_X1_failureCount E.2.2.1 p0 σ = some (r, σ')) : wk_M E l yX1_failureCount (ws_ yX1_failureCount cX1_failureCount 1 (Option.some FieldType.int)) 8 184 [vR p0] σ (.inl (some (.int r))) σ' := by
  refine wk_start (by decide +kernel) hl (Nat.le_of_ble_eq_true rfl) (fun K C hK => ?_)
  subst hK
  refine wk_L (L' := [(0, vR p0)]) rfl ?_
  unfold fn_X1_failureCount at hf
  obtain ⟨v1, σ2, h_σ2, hf⟩ := ho_e2 hf
  refine wk_new C nx_X1_104 h_σ2 dX1_failureCount_0 ?_
  refine wk_dup C rfl dX1_failureCount_3 ?_
  refine wk_aload_n C 0 rfl dX1_failureCount_4 ?_
  obtain ⟨v3, h_v3, hf⟩ := ho_b hf
  refine wk_getR C fx_X1_37 h_v3 dX1_failureCount_5 ?_
  obtain ⟨b4, h_b4, hf⟩ := ho_b hf
  obtain ⟨σ5, h_σ5, hf⟩ := ho_b hf
  refine wk_callI (av := [vR v3]) (rest := [vR v1]) C cx_X1_106 h_b4 (mt_X12_init (wk_C.tr C) h_σ5) rfl (Nat.le_of_ble_eq_true rfl) (Nat.le_of_ble_eq_true rfl) (Nat.le_of_ble_eq_true rfl) dX1_failureCount_8 ?_
  obtain ⟨b6, h_b6, hf⟩ := ho_b hf
  obtain ⟨v8, σ7, h_σ7, hf⟩ := ho_e2 hf
  refine wk_callV (av := []) (rest := []) (rv := some (vR v8)) C h_b6 rx_11 cx_X1_259 (mt_X12_failures (wk_C.tr C) h_σ7) rfl rfl (Nat.le_of_ble_eq_true rfl) (Nat.le_of_ble_eq_true rfl) (Nat.le_of_ble_eq_true rfl) dX1_failureCount_11 ?_
  obtain ⟨b9, h_b9, hf⟩ := ho_b hf
  obtain ⟨v11, σ10, h_σ10, hf⟩ := ho_e2 hf
  refine wk_callF (av := []) (rest := []) (rv := some (vI v11)) C h_b9 rx_24 cx_X1_262_24 (mt_J44_size (wk_C.tr C) h_σ10) rfl rfl (Nat.le_of_ble_eq_true rfl) (Nat.le_of_ble_eq_true rfl) (Nat.le_of_ble_eq_true rfl) dX1_failureCount_14 ?_
  obtain ⟨rfl, rfl⟩ := Prod.mk.inj (Option.some.inj hf)
  exact wk_iret C rfl rfl dX1_failureCount_19
set_option maxHeartbeats 4000000 in
theorem wb_X1_failure_b95 {E : Ev} {K : Kx} (C : wk_C E K yX1_failure cX1_failure 7 (Option.some FieldType.int) 8 184 []) {r : Int32 ⊕ Nat} {σ' : Hs}  (σ : Hs) (hf : fn_X1_failure_b95 E.2.2.1  σ = some (r, σ')) : wk_V E K (ot_I r) σ' σ 95 [] [] := by
  unfold fn_X1_failure_b95 at hf
  obtain ⟨v1, σ3, h_σ3, hf⟩ := ho_e2 hf
  obtain ⟨q2, h_q2, hf⟩ := ho_b hf
  obtain ⟨rfl, rfl⟩ := Prod.mk.inj (Option.some.inj hf)
  exact wk_throw0 C tx_X1_57 h_σ3 h_q2 rfl rfl dX1_failure_95 dX1_failure_98 dX1_failure_99 dX1_failure_102 (by decide +kernel) (Nat.le_of_ble_eq_true rfl) (Nat.le_of_ble_eq_true rfl)
set_option maxHeartbeats 4000000 in
theorem wb_X1_failure_b88 {E : Ev} {K : Kx} (C : wk_C E K yX1_failure cX1_failure 7 (Option.some FieldType.int) 8 184 []) {r : Int32 ⊕ Nat} {σ' : Hs} (t0 : Int32) (σ : Hs) (hf : fn_X1_failure_b88 E.2.2.1 t0 σ = some (r, σ')) : wk_V E K (ot_I r) σ' σ 88 [] [vI t0] := by
  unfold fn_X1_failure_b88 at hf
  obtain ⟨rfl, rfl⟩ := Prod.mk.inj (Option.some.inj hf)
  exact wk_iret C rfl rfl dX1_failure_88
set_option maxHeartbeats 4000000 in
theorem wb_X1_failure_b71 {E : Ev} {K : Kx} (C : wk_C E K yX1_failure cX1_failure 7 (Option.some FieldType.int) 8 184 []) {r : Int32 ⊕ Nat} {σ' : Hs} (l2 : Int32) (l6 : Option Nat) (σ : Hs) (hf : fn_X1_failure_b71 E.2.2.1 l2 l6 σ = some (r, σ')) : wk_V E K (ot_I r) σ' σ 71 [(2, vI l2), (6, vR l6)] [] := by
  unfold fn_X1_failure_b71 at hf
  refine wk_iload_n C 0 rfl dX1_failure_71 ?_
  refine wk_if_eq C 83 (by decide) dX1_failure_72 (fun c_ => ?_) (fun c_ => ?_)
  · rw [if_pos c_] at hf
    refine wk_aload C 1 rfl dX1_failure_83 ?_
    obtain ⟨v4, h_v4, hf⟩ := ho_b hf
    refine wk_getI C fx_X1_268 h_v4 dX1_failure_85 ?_
    refine wk_sub (L' := []) [] rfl ?_
    exact wb_X1_failure_b88 C  _ _ hf
  · rw [if_neg c_] at hf
    refine wk_aload C 1 rfl dX1_failure_75 ?_
    obtain ⟨v5, h_v5, hf⟩ := ho_b hf
    refine wk_getI C fx_X1_265 h_v5 dX1_failure_77 ?_
    refine wk_goto C 88 (by decide) dX1_failure_80 ?_
    refine wk_sub (L' := []) [] rfl ?_
    exact wb_X1_failure_b88 C  _ _ hf
set_option maxHeartbeats 4000000 in
theorem wb_X1_failure_b44 {E : Ev} {K : Kx} (C : wk_C E K yX1_failure cX1_failure 7 (Option.some FieldType.int) 8 184 []) {r : Int32 ⊕ Nat} {σ' : Hs} : ∀ (n : Nat) (l2 : Int32) (l4 : Int32) (l5 : Option Nat) (σ : Hs), fn_X1_failure_b44 E.2.2.1 n l2 l4 l5 σ = some (r, σ') → wk_V E K (ot_I r) σ' σ 44 [(2, vI l2), (4, vI l4), (5, vR l5)] [] := by
  intro n
  induction n with
  | zero =>
    intro l2 l4 l5 σ hf
    rw [fn_X1_failure_b44] at hf
    cases hf
  | succ n ih =>
    intro l2 l4 l5 σ hf
    rw [fn_X1_failure_b44] at hf
    refine wk_aload C 2 rfl dX1_failure_44 ?_
    obtain ⟨b6, h_b6, hf⟩ := ho_b hf
    obtain ⟨v8, σ7, h_σ7, hf⟩ := ho_e2 hf
    refine wk_callF (av := []) (rest := []) (rv := some (vI v8)) C h_b6 rx_21 cx_X1_195_21 (mt_J35_hasNext (wk_C.tr C) h_σ7) rfl rfl (Nat.le_of_ble_eq_true rfl) (Nat.le_of_ble_eq_true rfl) (Nat.le_of_ble_eq_true rfl) dX1_failure_46 ?_
    refine wk_if_eq C 95 (by decide) dX1_failure_51 (fun c_ => ?_) (fun c_ => ?_)
    · rw [if_pos c_] at hf
      refine wk_sub (L' := []) [] rfl ?_
      exact wb_X1_failure_b95 C   _ hf
    · rw [if_neg c_] at hf
      refine wk_aload C 2 rfl dX1_failure_54 ?_
      obtain ⟨b9, h_b9, hf⟩ := ho_b hf
      obtain ⟨v11, σ10, h_σ10, hf⟩ := ho_e2 hf
      refine wk_callF (av := []) (rest := []) (rv := some (vR v11)) C h_b9 rx_21 cx_X1_201_21 (mt_J37_next (wk_C.tr C) h_σ10) rfl rfl (Nat.le_of_ble_eq_true rfl) (Nat.le_of_ble_eq_true rfl) (Nat.le_of_ble_eq_true rfl) dX1_failure_56 ?_
      obtain ⟨u12, h_u12, hf⟩ := ho_b hf
      refine wk_cast C q3246 (List.forall_mem_cons.mpr ⟨ax_same rx_12 (Nat.le_of_ble_eq_true rfl), (List.forall_mem_nil _)⟩) h_u12 dX1_failure_61 ?_
      refine wk_astore (L' := [(2, vI l2), (4, vI l4), (5, vR l5), (6, vR v11)]) C (by decide) rfl dX1_failure_64 ?_
      refine wk_iload C 1 rfl dX1_failure_66 ?_
      refine wk_if_ne C 89 (by decide) dX1_failure_68 (fun c_ => ?_) (fun c_ => ?_)
      · rw [if_neg c_] at hf
        refine wk_iinc (v := l4 + (-1)) (L' := [(2, vI l2), (4, vI (l4 + (-1))), (5, vR l5), (6, vR v11)]) C 1 rfl (by decide) (by rw [show Int32.ofInt (-1) = (-1 : Int32) from by decide]) rfl dX1_failure_89 ?_
        refine wk_goto C 44 (by decide) dX1_failure_92 ?_
        refine wk_sub (L' := [(2, vI l2), (4, vI (l4 + (-1))), (5, vR l5)]) [0, 1, 2] rfl ?_
        exact ih _ _ _ _ hf
      · rw [if_pos c_] at hf
        refine wk_sub (L' := [(2, vI l2), (6, vR v11)]) [0, 3] rfl ?_
        exact wb_X1_failure_b71 C  _ _ _ hf
set_option maxHeartbeats 4000000 in
theorem mt_X1_failure {E : Ev} {l : Launch} (hl : l.stackTraces = false) {p0 : Option Nat} {p1 : Int32} {p2 : Int32} {σ : Hs} {r : Int32 ⊕ Nat} {σ' : Hs} (hf : fn_X1_failure E.2.2.1 p0 p1 p2 σ = some (r, σ')) : wk_M E l yX1_failure (ws_ yX1_failure cX1_failure 7 (Option.some FieldType.int)) 8 184 [vR p0, vI p1, vI p2] σ (ot_I r) σ' := by
  refine wk_start (by decide +kernel) hl (Nat.le_of_ble_eq_true rfl) (fun K C hK => ?_)
  subst hK
  refine wk_L (L' := [(0, vR p0), (1, vI p1), (2, vI p2)]) rfl ?_
  unfold fn_X1_failure at hf
  obtain ⟨v13, σ14, h_σ14, hf⟩ := ho_e2 hf
  refine wk_new C nx_X1_104 h_σ14 dX1_failure_0 ?_
  refine wk_dup C rfl dX1_failure_3 ?_
  refine wk_aload_n C 0 rfl dX1_failure_4 ?_
  obtain ⟨v15, h_v15, hf⟩ := ho_b hf
  refine wk_getR C fx_X1_37 h_v15 dX1_failure_5 ?_
  obtain ⟨b16, h_b16, hf⟩ := ho_b hf
  obtain ⟨σ17, h_σ17, hf⟩ := ho_b hf
  refine wk_callI (av := [vR v15]) (rest := [vR v13]) C cx_X1_106 h_b16 (mt_X12_init (wk_C.tr C) h_σ17) rfl (Nat.le_of_ble_eq_true rfl) (Nat.le_of_ble_eq_true rfl) (Nat.le_of_ble_eq_true rfl) dX1_failure_8 ?_
  obtain ⟨b18, h_b18, hf⟩ := ho_b hf
  obtain ⟨v20, σ19, h_σ19, hf⟩ := ho_e2 hf
  refine wk_callV (av := []) (rest := []) (rv := some (vR v20)) C h_b18 rx_11 cx_X1_259 (mt_X12_failures (wk_C.tr C) h_σ19) rfl rfl (Nat.le_of_ble_eq_true rfl) (Nat.le_of_ble_eq_true rfl) (Nat.le_of_ble_eq_true rfl) dX1_failure_11 ?_
  refine wk_astore_n (L' := [(0, vR p0), (1, vI p1), (2, vI p2), (3, vR v20)]) C (by decide) rfl dX1_failure_14 ?_
  refine wk_lconst (v := 0) C dX1_failure_15 rfl ?_
  refine wk_aload_n C 3 rfl dX1_failure_16 ?_
  obtain ⟨b21, h_b21, hf⟩ := ho_b hf
  obtain ⟨v23, σ22, h_σ22, hf⟩ := ho_e2 hf
  refine wk_callF (av := []) (rest := [vJ (0 : Int64)]) (rv := some (vI v23)) C h_b21 rx_24 cx_X1_262_24 (mt_J44_size (wk_C.tr C) h_σ22) rfl rfl (Nat.le_of_ble_eq_true rfl) (Nat.le_of_ble_eq_true rfl) (Nat.le_of_ble_eq_true rfl) dX1_failure_17 ?_
  refine wk_i2l C dX1_failure_22 ?_
  refine wk_lconst (v := 1) C dX1_failure_23 rfl ?_
  refine wk_lsub C dX1_failure_24 ?_
  refine wk_iload_n C 1 rfl dX1_failure_25 ?_
  refine wk_i2l C dX1_failure_26 ?_
  obtain ⟨v25, σ24, h_σ24, hf⟩ := ho_e2 hf
  refine wk_callS (av := [vJ (0 : Int64), vJ (v23.toInt64 - (1 : Int64)), vJ p1.toInt64]) (rest := []) (rv := some (vI v25)) C cx_X1_76 (mt_X1_isIn (wk_C.tr C) h_σ24) rfl rfl (Nat.le_of_ble_eq_true rfl) (Nat.le_of_ble_eq_true rfl) (Nat.le_of_ble_eq_true rfl) dX1_failure_27 ?_
  obtain ⟨v27, σ26, h_σ26, hf⟩ := ho_e2 hf
  rcases ho_xe hf with ⟨x28, rfl, hf⟩ | ⟨q29, rfl, hf⟩
  · refine wk_callS (av := [vI v25]) (rest := []) (rv := none) C cx_X1_80 (mt_X1_checkIndex (wk_C.tr C) h_σ26) rfl rfl (Nat.le_of_ble_eq_true rfl) (Nat.le_of_ble_eq_true rfl) (Nat.le_of_ble_eq_true rfl) dX1_failure_30 ?_
    refine wk_iload_n C 1 rfl dX1_failure_33 ?_
    refine wk_istore (L' := [(0, vR p0), (1, vI p1), (2, vI p2), (3, vR v20), (4, vI p1)]) C (by decide) rfl dX1_failure_34 ?_
    refine wk_aload_n C 3 rfl dX1_failure_36 ?_
    obtain ⟨b30, h_b30, hf⟩ := ho_b hf
    obtain ⟨v32, σ31, h_σ31, hf⟩ := ho_e2 hf
    refine wk_callF (av := []) (rest := []) (rv := some (vR v32)) C h_b30 rx_24 cx_X1_189_24 (mt_J44_iterator (wk_C.tr C) h_σ31) rfl rfl (Nat.le_of_ble_eq_true rfl) (Nat.le_of_ble_eq_true rfl) (Nat.le_of_ble_eq_true rfl) dX1_failure_37 ?_
    refine wk_astore (L' := [(0, vR p0), (1, vI p1), (2, vI p2), (3, vR v20), (4, vI p1), (5, vR v32)]) C (by decide) rfl dX1_failure_42 ?_
    refine wk_sub (L' := [(2, vI p2), (4, vI p1), (5, vR v32)]) [2, 4, 5] rfl ?_
    exact wb_X1_failure_b44 C  _ _ _ _ _ hf
  · refine wk_callST (av := [vI v25]) (rest := []) C cx_X1_80 (mt_X1_checkIndex (wk_C.tr C) h_σ26) rfl (Nat.le_of_ble_eq_true rfl) (Nat.le_of_ble_eq_true rfl) (Nat.le_of_ble_eq_true rfl) dX1_failure_30 ?_
    obtain ⟨rfl, rfl⟩ := Prod.mk.inj (Option.some.inj hf)
    exact wk_out C (by decide +kernel) rfl rfl
set_option maxHeartbeats 4000000 in
theorem mt_X1_isRemovable {E : Ev} {l : Launch} (hl : l.stackTraces = false) {p0 : Option Nat} {p1 : Int32} {σ : Hs} {r : Int32 ⊕ Nat} {σ' : Hs} (hf : fn_X1_isRemovable E.2.2.1 p0 p1 σ = some (r, σ')) : wk_M E l yX1_isRemovable (ws_ yX1_isRemovable cX1_isRemovable 4 (Option.some FieldType.boolean)) 9 3176 [vR p0, vI p1] σ (ot_I r) σ' := by
  refine wk_start (by decide +kernel) hl (Nat.le_of_ble_eq_true rfl) (fun K C hK => ?_)
  subst hK
  refine wk_L (L' := [(0, vR p0), (1, vI p1)]) rfl ?_
  unfold fn_X1_isRemovable at hf
  refine wk_aload_n C 0 rfl dX1_isRemovable_0 ?_
  refine wk_iload_n C 1 rfl dX1_isRemovable_1 ?_
  obtain ⟨b1, h_b1, hf⟩ := ho_b hf
  obtain ⟨v3, σ2, h_σ2, hf⟩ := ho_e2 hf
  rcases ho_xe hf with ⟨x4, rfl, hf⟩ | ⟨q5, rfl, hf⟩
  · refine wk_callV (av := [vI p1]) (rest := []) (rv := some (vR x4)) C h_b1 rx_0 cx_X1_153 (mt_X1_memberAt (wk_C.tr C) h_σ2) rfl rfl (Nat.le_of_ble_eq_true rfl) (Nat.le_of_ble_eq_true rfl) (Nat.le_of_ble_eq_true rfl) dX1_isRemovable_2 ?_
    refine wk_astore_n (L' := [(0, vR p0), (1, vI p1), (2, vR x4)]) C (by decide) rfl dX1_isRemovable_5 ?_
    refine wk_aload_n C 0 rfl dX1_isRemovable_6 ?_
    obtain ⟨v6, h_v6, hf⟩ := ho_b hf
    refine wk_getR C fx_X1_37 h_v6 dX1_isRemovable_7 ?_
    obtain ⟨b7, h_b7, hf⟩ := ho_b hf
    obtain ⟨v9, σ8, h_σ8, hf⟩ := ho_e2 hf
    refine wk_callV (av := []) (rest := []) (rv := some (vR v9)) C h_b7 rx_1 cx_X1_271 (mt_X2_copy (wk_C.tr C) h_σ8) rfl rfl (Nat.le_of_ble_eq_true rfl) (Nat.le_of_ble_eq_true rfl) (Nat.le_of_ble_eq_true rfl) dX1_isRemovable_10 ?_
    refine wk_astore_n (L' := [(0, vR p0), (1, vI p1), (2, vR x4), (3, vR v9)]) C (by decide) rfl dX1_isRemovable_13 ?_
    refine wk_aload_n C 3 rfl dX1_isRemovable_14 ?_
    refine wk_aload_n C 2 rfl dX1_isRemovable_15 ?_
    obtain ⟨b10, h_b10, hf⟩ := ho_b hf
    obtain ⟨σ11, h_σ11, hf⟩ := ho_b hf
    refine wk_callV (av := [vR x4]) (rest := []) (rv := none) C h_b10 rx_1 cx_X1_274 (mt_X2_remove (wk_C.tr C) h_σ11) rfl rfl (Nat.le_of_ble_eq_true rfl) (Nat.le_of_ble_eq_true rfl) (Nat.le_of_ble_eq_true rfl) dX1_isRemovable_16 ?_
    refine wk_aload_n C 3 rfl dX1_isRemovable_19 ?_
    obtain ⟨b12, h_b12, hf⟩ := ho_b hf
    obtain ⟨v14, σ13, h_σ13, hf⟩ := ho_e2 hf
    refine wk_callV (av := []) (rest := []) (rv := some (vI v14)) C h_b12 rx_1 cx_X1_278 (mt_X2_bearsLoads (wk_C.tr C) h_σ13) rfl rfl (Nat.le_of_ble_eq_true rfl) (Nat.le_of_ble_eq_true rfl) (Nat.le_of_ble_eq_true rfl) dX1_isRemovable_20 ?_
    obtain ⟨v15, h_v15, hf⟩ := ho_b hf
    obtain ⟨rfl, rfl⟩ := Prod.mk.inj (Option.some.inj hf)
    exact wk_zret C h_v15 rfl rfl dX1_isRemovable_23
  · refine wk_callVT (av := [vI p1]) (rest := []) C h_b1 rx_0 cx_X1_153 (mt_X1_memberAt (wk_C.tr C) h_σ2) rfl (Nat.le_of_ble_eq_true rfl) (Nat.le_of_ble_eq_true rfl) (Nat.le_of_ble_eq_true rfl) dX1_isRemovable_2 ?_
    obtain ⟨rfl, rfl⟩ := Prod.mk.inj (Option.some.inj hf)
    exact wk_out C (by decide +kernel) rfl rfl
set_option maxHeartbeats 4000000 in
theorem mt_X1_smallestArea {E : Ev} {l : Launch} (hl : l.stackTraces = false) {p0 : Option Nat} {p1 : Int32} {σ : Hs} {r : Int32 ⊕ Nat} {σ' : Hs} (hf : fn_X1_smallestArea E.2.2.1 p0 p1 σ = some (r, σ')) : wk_M E l yX1_smallestArea (ws_ yX1_smallestArea cX1_smallestArea 2 (Option.some FieldType.int)) 9 3176 [vR p0, vI p1] σ (ot_I r) σ' := by
  refine wk_start (by decide +kernel) hl (Nat.le_of_ble_eq_true rfl) (fun K C hK => ?_)
  subst hK
  refine wk_L (L' := [(0, vR p0), (1, vI p1)]) rfl ?_
  unfold fn_X1_smallestArea at hf
  refine wk_aload_n C 0 rfl dX1_smallestArea_0 ?_
  refine wk_iload_n C 1 rfl dX1_smallestArea_1 ?_
  obtain ⟨b1, h_b1, hf⟩ := ho_b hf
  obtain ⟨v3, σ2, h_σ2, hf⟩ := ho_e2 hf
  rcases ho_xe hf with ⟨x4, rfl, hf⟩ | ⟨q5, rfl, hf⟩
  · refine wk_callV (av := [vI p1]) (rest := []) (rv := none) C h_b1 rx_0 cx_X1_147 (mt_X1_checkGroup (wk_C.tr C) h_σ2) rfl rfl (Nat.le_of_ble_eq_true rfl) (Nat.le_of_ble_eq_true rfl) (Nat.le_of_ble_eq_true rfl) dX1_smallestArea_2 ?_
    refine wk_aload_n C 0 rfl dX1_smallestArea_5 ?_
    obtain ⟨v6, h_v6, hf⟩ := ho_b hf
    refine wk_getR C fx_X1_37 h_v6 dX1_smallestArea_6 ?_
    obtain ⟨b7, h_b7, hf⟩ := ho_b hf
    obtain ⟨v9, σ8, h_σ8, hf⟩ := ho_e2 hf
    refine wk_callV (av := []) (rest := []) (rv := some (vR v9)) C h_b7 rx_1 cx_X1_271 (mt_X2_copy (wk_C.tr C) h_σ8) rfl rfl (Nat.le_of_ble_eq_true rfl) (Nat.le_of_ble_eq_true rfl) (Nat.le_of_ble_eq_true rfl) dX1_smallestArea_9 ?_
    refine wk_iload_n C 1 rfl dX1_smallestArea_12 ?_
    obtain ⟨b10, h_b10, hf⟩ := ho_b hf
    obtain ⟨v12, σ11, h_σ11, hf⟩ := ho_e2 hf
    refine wk_callV (av := [vI p1]) (rest := []) (rv := some (vI v12)) C h_b10 rx_1 cx_X1_281 (mt_X2_leastArea (wk_C.tr C) h_σ11) rfl rfl (Nat.le_of_ble_eq_true rfl) (Nat.le_of_ble_eq_true rfl) (Nat.le_of_ble_eq_true rfl) dX1_smallestArea_13 ?_
    obtain ⟨rfl, rfl⟩ := Prod.mk.inj (Option.some.inj hf)
    exact wk_iret C rfl rfl dX1_smallestArea_16
  · refine wk_callVT (av := [vI p1]) (rest := []) C h_b1 rx_0 cx_X1_147 (mt_X1_checkGroup (wk_C.tr C) h_σ2) rfl (Nat.le_of_ble_eq_true rfl) (Nat.le_of_ble_eq_true rfl) (Nat.le_of_ble_eq_true rfl) dX1_smallestArea_2 ?_
    obtain ⟨rfl, rfl⟩ := Prod.mk.inj (Option.some.inj hf)
    exact wk_out C (by decide +kernel) rfl rfl
set_option maxHeartbeats 4000000 in
theorem mt_X1_setArea {E : Ev} {l : Launch} (hl : l.stackTraces = false) {p0 : Option Nat} {p1 : Int32} {p2 : Int32} {σ : Hs} {r : Int32 ⊕ Nat} {σ' : Hs} (hf : fn_X1_setArea E.2.2.1 p0 p1 p2 σ = some (r, σ')) : wk_M E l yX1_setArea (ws_ yX1_setArea cX1_setArea 3 (Option.some FieldType.int)) 9 3176 [vR p0, vI p1, vI p2] σ (ot_I r) σ' := by
  refine wk_start (by decide +kernel) hl (Nat.le_of_ble_eq_true rfl) (fun K C hK => ?_)
  subst hK
  refine wk_L (L' := [(0, vR p0), (1, vI p1), (2, vI p2)]) rfl ?_
  unfold fn_X1_setArea at hf
  refine wk_aload_n C 0 rfl dX1_setArea_0 ?_
  refine wk_iload_n C 1 rfl dX1_setArea_1 ?_
  obtain ⟨b1, h_b1, hf⟩ := ho_b hf
  obtain ⟨v3, σ2, h_σ2, hf⟩ := ho_e2 hf
  rcases ho_xe hf with ⟨x4, rfl, hf⟩ | ⟨q5, rfl, hf⟩
  · refine wk_callV (av := [vI p1]) (rest := []) (rv := none) C h_b1 rx_0 cx_X1_147 (mt_X1_checkGroup (wk_C.tr C) h_σ2) rfl rfl (Nat.le_of_ble_eq_true rfl) (Nat.le_of_ble_eq_true rfl) (Nat.le_of_ble_eq_true rfl) dX1_setArea_2 ?_
    refine wk_lconst (v := 1) C dX1_setArea_5 rfl ?_
    refine wk_ldc2 C q3304 dX1_setArea_6 ?_
    refine wk_iload_n C 2 rfl dX1_setArea_9 ?_
    refine wk_i2l C dX1_setArea_10 ?_
    obtain ⟨v7, σ6, h_σ6, hf⟩ := ho_e2 hf
    refine wk_callS (av := [vJ (1 : Int64), vJ (50 : Int64), vJ p2.toInt64]) (rest := []) (rv := some (vI v7)) C cx_X1_76 (mt_X1_isIn (wk_C.tr C) h_σ6) rfl rfl (Nat.le_of_ble_eq_true rfl) (Nat.le_of_ble_eq_true rfl) (Nat.le_of_ble_eq_true rfl) dX1_setArea_11 ?_
    obtain ⟨v9, σ8, h_σ8, hf⟩ := ho_e2 hf
    rcases ho_xe hf with ⟨x10, rfl, hf⟩ | ⟨q11, rfl, hf⟩
    · refine wk_callS (av := [vI v7]) (rest := []) (rv := none) C cx_X1_121 (mt_X1_checkArgument (wk_C.tr C) h_σ8) rfl rfl (Nat.le_of_ble_eq_true rfl) (Nat.le_of_ble_eq_true rfl) (Nat.le_of_ble_eq_true rfl) dX1_setArea_14 ?_
      refine wk_aload_n C 0 rfl dX1_setArea_17 ?_
      refine wk_aload_n C 0 rfl dX1_setArea_18 ?_
      obtain ⟨v12, h_v12, hf⟩ := ho_b hf
      refine wk_getR C fx_X1_37 h_v12 dX1_setArea_19 ?_
      obtain ⟨b13, h_b13, hf⟩ := ho_b hf
      obtain ⟨v15, σ14, h_σ14, hf⟩ := ho_e2 hf
      refine wk_callV (av := []) (rest := [vR p0]) (rv := some (vR v15)) C h_b13 rx_1 cx_X1_271 (mt_X2_copy (wk_C.tr C) h_σ14) rfl rfl (Nat.le_of_ble_eq_true rfl) (Nat.le_of_ble_eq_true rfl) (Nat.le_of_ble_eq_true rfl) dX1_setArea_22 ?_
      obtain ⟨b16, h_b16, hf⟩ := ho_b hf
      obtain ⟨σ17, h_σ17, hf⟩ := ho_b hf
      refine wk_callV (av := [vR v15]) (rest := []) (rv := none) C h_b16 rx_0 cx_X1_133 (mt_X1_replaceBy (wk_C.tr C) h_σ17) rfl rfl (Nat.le_of_ble_eq_true rfl) (Nat.le_of_ble_eq_true rfl) (Nat.le_of_ble_eq_true rfl) dX1_setArea_25 ?_
      refine wk_aload_n C 0 rfl dX1_setArea_28 ?_
      obtain ⟨v18, h_v18, hf⟩ := ho_b hf
      refine wk_getR C fx_X1_37 h_v18 dX1_setArea_29 ?_
      obtain ⟨v19, h_v19, hf⟩ := ho_b hf
      refine wk_getR C fx_X1_150 h_v19 dX1_setArea_32 ?_
      refine wk_iload_n C 1 rfl dX1_setArea_35 ?_
      refine wk_iload_n C 2 rfl dX1_setArea_36 ?_
      obtain ⟨σ20, h_σ20, hf⟩ := ho_b hf
      refine wk_iast C h_σ20 dX1_setArea_37 ?_
      refine wk_aload_n C 0 rfl dX1_setArea_38 ?_
      obtain ⟨v21, h_v21, hf⟩ := ho_b hf
      refine wk_getR C fx_X1_37 h_v21 dX1_setArea_39 ?_
      obtain ⟨b22, h_b22, hf⟩ := ho_b hf
      obtain ⟨v24, σ23, h_σ23, hf⟩ := ho_e2 hf
      refine wk_callV (av := []) (rest := []) (rv := some (vI v24)) C h_b22 rx_1 cx_X1_144 (mt_X2_weightOf (wk_C.tr C) h_σ23) rfl rfl (Nat.le_of_ble_eq_true rfl) (Nat.le_of_ble_eq_true rfl) (Nat.le_of_ble_eq_true rfl) dX1_setArea_42 ?_
      obtain ⟨rfl, rfl⟩ := Prod.mk.inj (Option.some.inj hf)
      exact wk_iret C rfl rfl dX1_setArea_45
    · refine wk_callST (av := [vI v7]) (rest := []) C cx_X1_121 (mt_X1_checkArgument (wk_C.tr C) h_σ8) rfl (Nat.le_of_ble_eq_true rfl) (Nat.le_of_ble_eq_true rfl) (Nat.le_of_ble_eq_true rfl) dX1_setArea_14 ?_
      obtain ⟨rfl, rfl⟩ := Prod.mk.inj (Option.some.inj hf)
      exact wk_out C (by decide +kernel) rfl rfl
  · refine wk_callVT (av := [vI p1]) (rest := []) C h_b1 rx_0 cx_X1_147 (mt_X1_checkGroup (wk_C.tr C) h_σ2) rfl (Nat.le_of_ble_eq_true rfl) (Nat.le_of_ble_eq_true rfl) (Nat.le_of_ble_eq_true rfl) dX1_setArea_2 ?_
    obtain ⟨rfl, rfl⟩ := Prod.mk.inj (Option.some.inj hf)
    exact wk_out C (by decide +kernel) rfl rfl
set_option maxHeartbeats 4000000 in
theorem wb_X1_addMember_b67 {E : Ev} {K : Kx} (C : wk_C E K yX1_addMember cX1_addMember 4 (Option.some FieldType.int) 9 3176 []) {r : Int32 ⊕ Nat} {σ' : Hs} (l0 : Option Nat) (l1 : Int32) (l2 : Int32) (l3 : Int32) (t0 : Int32) (σ : Hs) (hf : fn_X1_addMember_b67 E.2.2.1 l0 l1 l2 l3 t0 σ = some (r, σ')) : wk_V E K (ot_I r) σ' σ 67 [(0, vR l0), (1, vI l1), (2, vI l2), (3, vI l3)] [vI t0] := by
  unfold fn_X1_addMember_b67 at hf
  obtain ⟨v2, σ1, h_σ1, hf⟩ := ho_e2 hf
  rcases ho_xe hf with ⟨x3, rfl, hf⟩ | ⟨q4, rfl, hf⟩
  · refine wk_callS (av := [vI t0]) (rest := []) (rv := none) C cx_X1_291 (mt_X1_checkState (wk_C.tr C) h_σ1) rfl rfl (Nat.le_of_ble_eq_true rfl) (Nat.le_of_ble_eq_true rfl) (Nat.le_of_ble_eq_true rfl) dX1_addMember_67 ?_
    refine wk_aload_n C 0 rfl dX1_addMember_70 ?_
    refine wk_aload_n C 0 rfl dX1_addMember_71 ?_
    obtain ⟨v5, h_v5, hf⟩ := ho_b hf
    refine wk_getR C fx_X1_37 h_v5 dX1_addMember_72 ?_
    obtain ⟨b6, h_b6, hf⟩ := ho_b hf
    obtain ⟨v8, σ7, h_σ7, hf⟩ := ho_e2 hf
    refine wk_callV (av := []) (rest := [vR l0]) (rv := some (vR v8)) C h_b6 rx_1 cx_X1_271 (mt_X2_copy (wk_C.tr C) h_σ7) rfl rfl (Nat.le_of_ble_eq_true rfl) (Nat.le_of_ble_eq_true rfl) (Nat.le_of_ble_eq_true rfl) dX1_addMember_75 ?_
    obtain ⟨b9, h_b9, hf⟩ := ho_b hf
    obtain ⟨σ10, h_σ10, hf⟩ := ho_b hf
    refine wk_callV (av := [vR v8]) (rest := []) (rv := none) C h_b9 rx_0 cx_X1_133 (mt_X1_replaceBy (wk_C.tr C) h_σ10) rfl rfl (Nat.le_of_ble_eq_true rfl) (Nat.le_of_ble_eq_true rfl) (Nat.le_of_ble_eq_true rfl) dX1_addMember_78 ?_
    refine wk_aload_n C 0 rfl dX1_addMember_81 ?_
    obtain ⟨v11, h_v11, hf⟩ := ho_b hf
    refine wk_getR C fx_X1_37 h_v11 dX1_addMember_82 ?_
    refine wk_iload_n C 1 rfl dX1_addMember_85 ?_
    refine wk_iload_n C 2 rfl dX1_addMember_86 ?_
    refine wk_iload_n C 3 rfl dX1_addMember_87 ?_
    obtain ⟨b12, h_b12, hf⟩ := ho_b hf
    obtain ⟨σ13, h_σ13, hf⟩ := ho_b hf
    refine wk_callV (av := [vI l1, vI l2, vI l3]) (rest := []) (rv := none) C h_b12 rx_1 cx_X1_294 (mt_X2_join (wk_C.tr C) h_σ13) rfl rfl (Nat.le_of_ble_eq_true rfl) (Nat.le_of_ble_eq_true rfl) (Nat.le_of_ble_eq_true rfl) dX1_addMember_88 ?_
    refine wk_aload_n C 0 rfl dX1_addMember_91 ?_
    obtain ⟨v14, h_v14, hf⟩ := ho_b hf
    refine wk_getR C fx_X1_37 h_v14 dX1_addMember_92 ?_
    obtain ⟨v15, h_v15, hf⟩ := ho_b hf
    refine wk_getR C fx_X1_90 h_v15 dX1_addMember_95 ?_
    obtain ⟨b16, h_b16, hf⟩ := ho_b hf
    obtain ⟨v18, σ17, h_σ17, hf⟩ := ho_e2 hf
    refine wk_callF (av := []) (rest := []) (rv := some (vI v18)) C h_b16 rx_15 cx_X1_94_15 (mt_J18_size (wk_C.tr C) h_σ17) rfl rfl (Nat.le_of_ble_eq_true rfl) (Nat.le_of_ble_eq_true rfl) (Nat.le_of_ble_eq_true rfl) dX1_addMember_98 ?_
    refine wk_iconst (v := 1) C dX1_addMember_103 rfl ?_
    refine wk_isub C dX1_addMember_104 ?_
    obtain ⟨rfl, rfl⟩ := Prod.mk.inj (Option.some.inj hf)
    exact wk_iret C rfl rfl dX1_addMember_105
  · refine wk_callST (av := [vI t0]) (rest := []) C cx_X1_291 (mt_X1_checkState (wk_C.tr C) h_σ1) rfl (Nat.le_of_ble_eq_true rfl) (Nat.le_of_ble_eq_true rfl) (Nat.le_of_ble_eq_true rfl) dX1_addMember_67 ?_
    obtain ⟨rfl, rfl⟩ := Prod.mk.inj (Option.some.inj hf)
    exact wk_out C (by decide +kernel) rfl rfl
set_option maxHeartbeats 4000000 in
theorem wb_X1_addMember_b66 {E : Ev} {K : Kx} (C : wk_C E K yX1_addMember cX1_addMember 4 (Option.some FieldType.int) 9 3176 []) {r : Int32 ⊕ Nat} {σ' : Hs} (l0 : Option Nat) (l1 : Int32) (l2 : Int32) (l3 : Int32) (σ : Hs) (hf : fn_X1_addMember_b66 E.2.2.1 l0 l1 l2 l3 σ = some (r, σ')) : wk_V E K (ot_I r) σ' σ 66 [(0, vR l0), (1, vI l1), (2, vI l2), (3, vI l3)] [] := by
  unfold fn_X1_addMember_b66 at hf
  refine wk_iconst (v := 0) C dX1_addMember_66 rfl ?_
  exact wb_X1_addMember_b67 C  _ _ _ _ _ _ hf
set_option maxHeartbeats 4000000 in
theorem wb_X1_addMember_b30 {E : Ev} {K : Kx} (C : wk_C E K yX1_addMember cX1_addMember 4 (Option.some FieldType.int) 9 3176 []) {r : Int32 ⊕ Nat} {σ' : Hs} (l0 : Option Nat) (l1 : Int32) (l2 : Int32) (l3 : Int32) (t0 : Int32) (σ : Hs) (hf : fn_X1_addMember_b30 E.2.2.1 l0 l1 l2 l3 t0 σ = some (r, σ')) : wk_V E K (ot_I r) σ' σ 30 [(0, vR l0), (1, vI l1), (2, vI l2), (3, vI l3)] [vI t0] := by
  unfold fn_X1_addMember_b30 at hf
  obtain ⟨v20, σ19, h_σ19, hf⟩ := ho_e2 hf
  rcases ho_xe hf with ⟨x21, rfl, hf⟩ | ⟨q22, rfl, hf⟩
  · refine wk_callS (av := [vI t0]) (rest := []) (rv := none) C cx_X1_121 (mt_X1_checkArgument (wk_C.tr C) h_σ19) rfl rfl (Nat.le_of_ble_eq_true rfl) (Nat.le_of_ble_eq_true rfl) (Nat.le_of_ble_eq_true rfl) dX1_addMember_30 ?_
    refine wk_aload_n C 0 rfl dX1_addMember_33 ?_
    obtain ⟨v23, h_v23, hf⟩ := ho_b hf
    refine wk_getR C fx_X1_37 h_v23 dX1_addMember_34 ?_
    refine wk_iload_n C 1 rfl dX1_addMember_37 ?_
    refine wk_iload_n C 2 rfl dX1_addMember_38 ?_
    obtain ⟨b24, h_b24, hf⟩ := ho_b hf
    obtain ⟨v26, σ25, h_σ25, hf⟩ := ho_e2 hf
    refine wk_callV (av := [vI l1, vI l2]) (rest := []) (rv := some (vI v26)) C h_b24 rx_1 cx_X1_287 (mt_X2_isJoined (wk_C.tr C) h_σ25) rfl rfl (Nat.le_of_ble_eq_true rfl) (Nat.le_of_ble_eq_true rfl) (Nat.le_of_ble_eq_true rfl) dX1_addMember_39 ?_
    refine wk_if_ne C 66 (by decide) dX1_addMember_42 (fun c_ => ?_) (fun c_ => ?_)
    · rw [if_neg c_] at hf
      exact wb_X1_addMember_b66 C  _ _ _ _ _ hf
    · rw [if_pos c_] at hf
      refine wk_aload_n C 0 rfl dX1_addMember_45 ?_
      obtain ⟨v27, h_v27, hf⟩ := ho_b hf
      refine wk_getR C fx_X1_37 h_v27 dX1_addMember_46 ?_
      obtain ⟨v28, h_v28, hf⟩ := ho_b hf
      refine wk_getR C fx_X1_90 h_v28 dX1_addMember_49 ?_
      obtain ⟨b29, h_b29, hf⟩ := ho_b hf
      obtain ⟨v31, σ30, h_σ30, hf⟩ := ho_e2 hf
      refine wk_callF (av := []) (rest := []) (rv := some (vI v31)) C h_b29 rx_15 cx_X1_94_15 (mt_J18_size (wk_C.tr C) h_σ30) rfl rfl (Nat.le_of_ble_eq_true rfl) (Nat.le_of_ble_eq_true rfl) (Nat.le_of_ble_eq_true rfl) dX1_addMember_52 ?_
      refine wk_bipush (v := 16) C dX1_addMember_57 rfl ?_
      refine wk_icmp_ge C 66 (by decide) dX1_addMember_59 (fun c_ => ?_) (fun c_ => ?_)
      · rw [if_pos c_] at hf
        exact wb_X1_addMember_b66 C  _ _ _ _ _ hf
      · rw [if_neg c_] at hf
        refine wk_iconst (v := 1) C dX1_addMember_62 rfl ?_
        refine wk_goto C 67 (by decide) dX1_addMember_63 ?_
        exact wb_X1_addMember_b67 C  _ _ _ _ _ _ hf
  · refine wk_callST (av := [vI t0]) (rest := []) C cx_X1_121 (mt_X1_checkArgument (wk_C.tr C) h_σ19) rfl (Nat.le_of_ble_eq_true rfl) (Nat.le_of_ble_eq_true rfl) (Nat.le_of_ble_eq_true rfl) dX1_addMember_30 ?_
    obtain ⟨rfl, rfl⟩ := Prod.mk.inj (Option.some.inj hf)
    exact wk_out C (by decide +kernel) rfl rfl
set_option maxHeartbeats 4000000 in
theorem mt_X1_addMember {E : Ev} {l : Launch} (hl : l.stackTraces = false) {p0 : Option Nat} {p1 : Int32} {p2 : Int32} {p3 : Int32} {σ : Hs} {r : Int32 ⊕ Nat} {σ' : Hs} (hf : fn_X1_addMember E.2.2.1 p0 p1 p2 p3 σ = some (r, σ')) : wk_M E l yX1_addMember (ws_ yX1_addMember cX1_addMember 4 (Option.some FieldType.int)) 9 3176 [vR p0, vI p1, vI p2, vI p3] σ (ot_I r) σ' := by
  refine wk_start (by decide +kernel) hl (Nat.le_of_ble_eq_true rfl) (fun K C hK => ?_)
  subst hK
  refine wk_L (L' := [(0, vR p0), (1, vI p1), (2, vI p2), (3, vI p3)]) rfl ?_
  unfold fn_X1_addMember at hf
  refine wk_aload_n C 0 rfl dX1_addMember_0 ?_
  refine wk_iconst (v := 2) C dX1_addMember_1 rfl ?_
  obtain ⟨v32, σ33, h_σ33, hf⟩ := ho_e2 hf
  refine wk_newaI C q606 h_σ33 dX1_addMember_2 ?_
  refine wk_dup C rfl dX1_addMember_4 ?_
  refine wk_iconst (v := 0) C dX1_addMember_5 rfl ?_
  refine wk_iload_n C 1 rfl dX1_addMember_6 ?_
  obtain ⟨σ34, h_σ34, hf⟩ := ho_b hf
  refine wk_iast C h_σ34 dX1_addMember_7 ?_
  refine wk_dup C rfl dX1_addMember_8 ?_
  refine wk_iconst (v := 1) C dX1_addMember_9 rfl ?_
  refine wk_iload_n C 2 rfl dX1_addMember_10 ?_
  obtain ⟨σ35, h_σ35, hf⟩ := ho_b hf
  refine wk_iast C h_σ35 dX1_addMember_11 ?_
  obtain ⟨b36, h_b36, hf⟩ := ho_b hf
  obtain ⟨v38, σ37, h_σ37, hf⟩ := ho_e2 hf
  rcases ho_xe hf with ⟨x39, rfl, hf⟩ | ⟨q40, rfl, hf⟩
  · refine wk_callV (av := [vR v32]) (rest := []) (rv := none) C h_b36 rx_0 cx_X1_173 (mt_X1_checkNodes (wk_C.tr C) h_σ37) rfl rfl (Nat.le_of_ble_eq_true rfl) (Nat.le_of_ble_eq_true rfl) (Nat.le_of_ble_eq_true rfl) dX1_addMember_12 ?_
    refine wk_aload_n C 0 rfl dX1_addMember_15 ?_
    refine wk_iload_n C 3 rfl dX1_addMember_16 ?_
    obtain ⟨b41, h_b41, hf⟩ := ho_b hf
    obtain ⟨v43, σ42, h_σ42, hf⟩ := ho_e2 hf
    rcases ho_xe hf with ⟨x44, rfl, hf⟩ | ⟨q45, rfl, hf⟩
    · refine wk_callV (av := [vI p3]) (rest := []) (rv := none) C h_b41 rx_0 cx_X1_147 (mt_X1_checkGroup (wk_C.tr C) h_σ42) rfl rfl (Nat.le_of_ble_eq_true rfl) (Nat.le_of_ble_eq_true rfl) (Nat.le_of_ble_eq_true rfl) dX1_addMember_17 ?_
      refine wk_iload_n C 1 rfl dX1_addMember_20 ?_
      refine wk_iload_n C 2 rfl dX1_addMember_21 ?_
      refine wk_icmp_eq C 29 (by decide) dX1_addMember_22 (fun c_ => ?_) (fun c_ => ?_)
      · rw [if_pos c_] at hf
        refine wk_iconst (v := 0) C dX1_addMember_29 rfl ?_
        exact wb_X1_addMember_b30 C  _ _ _ _ _ _ hf
      · rw [if_neg c_] at hf
        refine wk_iconst (v := 1) C dX1_addMember_25 rfl ?_
        refine wk_goto C 30 (by decide) dX1_addMember_26 ?_
        exact wb_X1_addMember_b30 C  _ _ _ _ _ _ hf
    · refine wk_callVT (av := [vI p3]) (rest := []) C h_b41 rx_0 cx_X1_147 (mt_X1_checkGroup (wk_C.tr C) h_σ42) rfl (Nat.le_of_ble_eq_true rfl) (Nat.le_of_ble_eq_true rfl) (Nat.le_of_ble_eq_true rfl) dX1_addMember_17 ?_
      obtain ⟨rfl, rfl⟩ := Prod.mk.inj (Option.some.inj hf)
      exact wk_out C (by decide +kernel) rfl rfl
  · refine wk_callVT (av := [vR v32]) (rest := []) C h_b36 rx_0 cx_X1_173 (mt_X1_checkNodes (wk_C.tr C) h_σ37) rfl (Nat.le_of_ble_eq_true rfl) (Nat.le_of_ble_eq_true rfl) (Nat.le_of_ble_eq_true rfl) dX1_addMember_12 ?_
    obtain ⟨rfl, rfl⟩ := Prod.mk.inj (Option.some.inj hf)
    exact wk_out C (by decide +kernel) rfl rfl
set_option maxHeartbeats 4000000 in
theorem mt_X1_removeMember {E : Ev} {l : Launch} (hl : l.stackTraces = false) {p0 : Option Nat} {p1 : Int32} {σ : Hs} {r : Int32 ⊕ Nat} {σ' : Hs} (hf : fn_X1_removeMember E.2.2.1 p0 p1 σ = some (r, σ')) : wk_M E l yX1_removeMember (ws_ yX1_removeMember cX1_removeMember 3 (Option.some FieldType.int)) 9 3176 [vR p0, vI p1] σ (ot_I r) σ' := by
  refine wk_start (by decide +kernel) hl (Nat.le_of_ble_eq_true rfl) (fun K C hK => ?_)
  subst hK
  refine wk_L (L' := [(0, vR p0), (1, vI p1)]) rfl ?_
  unfold fn_X1_removeMember at hf
  refine wk_aload_n C 0 rfl dX1_removeMember_0 ?_
  refine wk_iload_n C 1 rfl dX1_removeMember_1 ?_
  obtain ⟨b1, h_b1, hf⟩ := ho_b hf
  obtain ⟨v3, σ2, h_σ2, hf⟩ := ho_e2 hf
  rcases ho_xe hf with ⟨x4, rfl, hf⟩ | ⟨q5, rfl, hf⟩
  · refine wk_callV (av := [vI p1]) (rest := []) (rv := some (vR x4)) C h_b1 rx_0 cx_X1_153 (mt_X1_memberAt (wk_C.tr C) h_σ2) rfl rfl (Nat.le_of_ble_eq_true rfl) (Nat.le_of_ble_eq_true rfl) (Nat.le_of_ble_eq_true rfl) dX1_removeMember_2 ?_
    refine wk_astore_n (L' := [(0, vR p0), (1, vI p1), (2, vR x4)]) C (by decide) rfl dX1_removeMember_5 ?_
    refine wk_aload_n C 0 rfl dX1_removeMember_6 ?_
    refine wk_aload_n C 0 rfl dX1_removeMember_7 ?_
    obtain ⟨v6, h_v6, hf⟩ := ho_b hf
    refine wk_getR C fx_X1_37 h_v6 dX1_removeMember_8 ?_
    obtain ⟨b7, h_b7, hf⟩ := ho_b hf
    obtain ⟨v9, σ8, h_σ8, hf⟩ := ho_e2 hf
    refine wk_callV (av := []) (rest := [vR p0]) (rv := some (vR v9)) C h_b7 rx_1 cx_X1_271 (mt_X2_copy (wk_C.tr C) h_σ8) rfl rfl (Nat.le_of_ble_eq_true rfl) (Nat.le_of_ble_eq_true rfl) (Nat.le_of_ble_eq_true rfl) dX1_removeMember_11 ?_
    obtain ⟨b10, h_b10, hf⟩ := ho_b hf
    obtain ⟨σ11, h_σ11, hf⟩ := ho_b hf
    refine wk_callV (av := [vR v9]) (rest := []) (rv := none) C h_b10 rx_0 cx_X1_133 (mt_X1_replaceBy (wk_C.tr C) h_σ11) rfl rfl (Nat.le_of_ble_eq_true rfl) (Nat.le_of_ble_eq_true rfl) (Nat.le_of_ble_eq_true rfl) dX1_removeMember_14 ?_
    refine wk_aload_n C 0 rfl dX1_removeMember_17 ?_
    obtain ⟨v12, h_v12, hf⟩ := ho_b hf
    refine wk_getR C fx_X1_37 h_v12 dX1_removeMember_18 ?_
    refine wk_aload_n C 2 rfl dX1_removeMember_21 ?_
    obtain ⟨b13, h_b13, hf⟩ := ho_b hf
    obtain ⟨σ14, h_σ14, hf⟩ := ho_b hf
    refine wk_callV (av := [vR x4]) (rest := []) (rv := none) C h_b13 rx_1 cx_X1_274 (mt_X2_remove (wk_C.tr C) h_σ14) rfl rfl (Nat.le_of_ble_eq_true rfl) (Nat.le_of_ble_eq_true rfl) (Nat.le_of_ble_eq_true rfl) dX1_removeMember_22 ?_
    refine wk_aload_n C 0 rfl dX1_removeMember_25 ?_
    obtain ⟨v15, h_v15, hf⟩ := ho_b hf
    refine wk_getR C fx_X1_37 h_v15 dX1_removeMember_26 ?_
    obtain ⟨v16, h_v16, hf⟩ := ho_b hf
    refine wk_getR C fx_X1_90 h_v16 dX1_removeMember_29 ?_
    obtain ⟨b17, h_b17, hf⟩ := ho_b hf
    obtain ⟨v19, σ18, h_σ18, hf⟩ := ho_e2 hf
    refine wk_callF (av := []) (rest := []) (rv := some (vI v19)) C h_b17 rx_15 cx_X1_94_15 (mt_J18_size (wk_C.tr C) h_σ18) rfl rfl (Nat.le_of_ble_eq_true rfl) (Nat.le_of_ble_eq_true rfl) (Nat.le_of_ble_eq_true rfl) dX1_removeMember_32 ?_
    obtain ⟨rfl, rfl⟩ := Prod.mk.inj (Option.some.inj hf)
    exact wk_iret C rfl rfl dX1_removeMember_37
  · refine wk_callVT (av := [vI p1]) (rest := []) C h_b1 rx_0 cx_X1_153 (mt_X1_memberAt (wk_C.tr C) h_σ2) rfl (Nat.le_of_ble_eq_true rfl) (Nat.le_of_ble_eq_true rfl) (Nat.le_of_ble_eq_true rfl) dX1_removeMember_2 ?_
    obtain ⟨rfl, rfl⟩ := Prod.mk.inj (Option.some.inj hf)
    exact wk_out C (by decide +kernel) rfl rfl
set_option maxHeartbeats 4000000 in
theorem wb_X1_prune_b74 {E : Ev} {K : Kx} (C : wk_C E K yX1_prune cX1_prune 6 (Option.some FieldType.int) 9 3176 []) {r : Int32 ⊕ Nat} {σ' : Hs} (l0 : Option Nat) (l1 : Option Nat) (l3 : Int32) (σ : Hs) (hf : fn_X1_prune_b74 E.2.2.1 l0 l1 l3 σ = some (r, σ')) : wk_V E K (ot_I r) σ' σ 74 [(0, vR l0), (1, vR l1), (3, vI l3)] [] := by
  unfold fn_X1_prune_b74 at hf
  refine wk_aload_n C 0 rfl dX1_prune_74 ?_
  refine wk_aload_n C 1 rfl dX1_prune_75 ?_
  obtain ⟨b1, h_b1, hf⟩ := ho_b hf
  obtain ⟨σ2, h_σ2, hf⟩ := ho_b hf
  refine wk_callV (av := [vR l1]) (rest := []) (rv := none) C h_b1 rx_0 cx_X1_133 (mt_X1_replaceBy (wk_C.tr C) h_σ2) rfl rfl (Nat.le_of_ble_eq_true rfl) (Nat.le_of_ble_eq_true rfl) (Nat.le_of_ble_eq_true rfl) dX1_prune_76 ?_
  refine wk_iload_n C 2 rfl dX1_prune_79 ?_
  obtain ⟨rfl, rfl⟩ := Prod.mk.inj (Option.some.inj hf)
  exact wk_iret C rfl rfl dX1_prune_80
set_option maxHeartbeats 4000000 in
theorem wb_X1_prune_b68 {E : Ev} {K : Kx} (C : wk_C E K yX1_prune cX1_prune 6 (Option.some FieldType.int) 9 3176 []) {k31 : Option Nat → Option Nat → Option Nat → Int32 → Int32 → Hs → Option ((Int32 ⊕ Nat) × Hs)} {r : Int32 ⊕ Nat} {σ' : Hs} (hk31 : ∀ (l0 : Option Nat) (l1 : Option Nat) (l2 : Option Nat) (l3 : Int32) (l4 : Int32) (σ : Hs), k31 l0 l1 l2 l3 l4 σ = some (r, σ') → wk_V E K (ot_I r) σ' σ 31 [(0, vR l0), (1, vR l1), (2, vR l2), (3, vI l3), (4, vI l4)] []) (l0 : Option Nat) (l1 : Option Nat) (l2 : Option Nat) (l3 : Int32) (l4 : Int32) (σ : Hs) (hf : fn_X1_prune_b68 E.2.2.1 k31 l0 l1 l2 l3 l4 σ = some (r, σ')) : wk_V E K (ot_I r) σ' σ 68 [(0, vR l0), (1, vR l1), (2, vR l2), (3, vI l3), (4, vI l4)] [] := by
  unfold fn_X1_prune_b68 at hf
  refine wk_iinc (v := l4 + (-1)) (L' := [(0, vR l0), (1, vR l1), (2, vR l2), (3, vI l3), (4, vI (l4 + (-1)))]) C 4 rfl (by decide) (by rw [show Int32.ofInt (-1) = (-1 : Int32) from by decide]) rfl dX1_prune_68 ?_
  refine wk_goto C 31 (by decide) dX1_prune_71 ?_
  exact hk31 _ _ _ _ _ _ hf
set_option maxHeartbeats 4000000 in
theorem wb_X1_prune_b31 {E : Ev} {K : Kx} (C : wk_C E K yX1_prune cX1_prune 6 (Option.some FieldType.int) 9 3176 []) {r : Int32 ⊕ Nat} {σ' : Hs} : ∀ (n : Nat) (l0 : Option Nat) (l1 : Option Nat) (l2 : Option Nat) (l3 : Int32) (l4 : Int32) (σ : Hs), fn_X1_prune_b31 E.2.2.1 n l0 l1 l2 l3 l4 σ = some (r, σ') → wk_V E K (ot_I r) σ' σ 31 [(0, vR l0), (1, vR l1), (2, vR l2), (3, vI l3), (4, vI l4)] [] := by
  intro n
  induction n with
  | zero =>
    intro l0 l1 l2 l3 l4 σ hf
    rw [fn_X1_prune_b31] at hf
    cases hf
  | succ n ih =>
    intro l0 l1 l2 l3 l4 σ hf
    rw [fn_X1_prune_b31] at hf
    refine wk_iload C 4 rfl dX1_prune_31 ?_
    refine wk_if_lt C 74 (by decide) dX1_prune_33 (fun c_ => ?_) (fun c_ => ?_)
    · rw [if_pos c_] at hf
      refine wk_sub (L' := [(0, vR l0), (1, vR l1), (3, vI l3)]) [0, 1, 3] rfl ?_
      exact wb_X1_prune_b74 C  _ _ _ _ hf
    · rw [if_neg c_] at hf
      refine wk_aload_n C 1 rfl dX1_prune_36 ?_
      obtain ⟨b3, h_b3, hf⟩ := ho_b hf
      obtain ⟨v5, σ4, h_σ4, hf⟩ := ho_e2 hf
      refine wk_callV (av := []) (rest := []) (rv := some (vR v5)) C h_b3 rx_1 cx_X1_271 (mt_X2_copy (wk_C.tr C) h_σ4) rfl rfl (Nat.le_of_ble_eq_true rfl) (Nat.le_of_ble_eq_true rfl) (Nat.le_of_ble_eq_true rfl) dX1_prune_37 ?_
      refine wk_astore (L' := [(0, vR l0), (1, vR l1), (2, vR l2), (3, vI l3), (4, vI l4), (5, vR v5)]) C (by decide) rfl dX1_prune_40 ?_
      refine wk_aload C 5 rfl dX1_prune_42 ?_
      refine wk_aload_n C 2 rfl dX1_prune_44 ?_
      refine wk_iload C 4 rfl dX1_prune_45 ?_
      obtain ⟨v6, h_v6, hf⟩ := ho_b hf
      refine wk_aald C h_v6 dX1_prune_47 ?_
      obtain ⟨b7, h_b7, hf⟩ := ho_b hf
      obtain ⟨σ8, h_σ8, hf⟩ := ho_b hf
      refine wk_callV (av := [vR v6]) (rest := []) (rv := none) C h_b7 rx_1 cx_X1_274 (mt_X2_remove (wk_C.tr C) h_σ8) rfl rfl (Nat.le_of_ble_eq_true rfl) (Nat.le_of_ble_eq_true rfl) (Nat.le_of_ble_eq_true rfl) dX1_prune_48 ?_
      refine wk_aload C 5 rfl dX1_prune_51 ?_
      obtain ⟨b9, h_b9, hf⟩ := ho_b hf
      obtain ⟨v11, σ10, h_σ10, hf⟩ := ho_e2 hf
      refine wk_callV (av := []) (rest := []) (rv := some (vI v11)) C h_b9 rx_1 cx_X1_278 (mt_X2_bearsLoads (wk_C.tr C) h_σ10) rfl rfl (Nat.le_of_ble_eq_true rfl) (Nat.le_of_ble_eq_true rfl) (Nat.le_of_ble_eq_true rfl) dX1_prune_53 ?_
      refine wk_if_ne C 62 (by decide) dX1_prune_56 (fun c_ => ?_) (fun c_ => ?_)
      · rw [if_neg c_] at hf
        refine wk_aload C 5 rfl dX1_prune_62 ?_
        refine wk_astore_n (L' := [(0, vR l0), (1, vR v5), (2, vR l2), (3, vI l3), (4, vI l4), (5, vR v5)]) C (by decide) rfl dX1_prune_64 ?_
        refine wk_iinc (v := l3 + 1) (L' := [(0, vR l0), (1, vR v5), (2, vR l2), (3, vI (l3 + 1)), (4, vI l4), (5, vR v5)]) C 3 rfl (by decide) rfl rfl dX1_prune_65 ?_
        refine wk_sub (L' := [(0, vR l0), (1, vR v5), (2, vR l2), (3, vI (l3 + 1)), (4, vI l4)]) [0, 1, 2, 3, 4] rfl ?_
        exact wb_X1_prune_b68 C ih _ _ _ _ _ _ hf
      · rw [if_pos c_] at hf
        refine wk_goto C 68 (by decide) dX1_prune_59 ?_
        refine wk_sub (L' := [(0, vR l0), (1, vR l1), (2, vR l2), (3, vI l3), (4, vI l4)]) [0, 1, 2, 3, 4] rfl ?_
        exact wb_X1_prune_b68 C ih _ _ _ _ _ _ hf
set_option maxHeartbeats 4000000 in
theorem mt_X1_prune {E : Ev} {l : Launch} (hl : l.stackTraces = false) {p0 : Option Nat} {σ : Hs} {r : Int32 ⊕ Nat} {σ' : Hs} (hf : fn_X1_prune E.2.2.1 p0 σ = some (r, σ')) : wk_M E l yX1_prune (ws_ yX1_prune cX1_prune 6 (Option.some FieldType.int)) 9 3176 [vR p0] σ (ot_I r) σ' := by
  refine wk_start (by decide +kernel) hl (Nat.le_of_ble_eq_true rfl) (fun K C hK => ?_)
  subst hK
  refine wk_L (L' := [(0, vR p0)]) rfl ?_
  unfold fn_X1_prune at hf
  refine wk_aload_n C 0 rfl dX1_prune_0 ?_
  obtain ⟨v12, h_v12, hf⟩ := ho_b hf
  refine wk_getR C fx_X1_37 h_v12 dX1_prune_1 ?_
  obtain ⟨b13, h_b13, hf⟩ := ho_b hf
  obtain ⟨v15, σ14, h_σ14, hf⟩ := ho_e2 hf
  refine wk_callV (av := []) (rest := []) (rv := some (vI v15)) C h_b13 rx_1 cx_X1_278 (mt_X2_bearsLoads (wk_C.tr C) h_σ14) rfl rfl (Nat.le_of_ble_eq_true rfl) (Nat.le_of_ble_eq_true rfl) (Nat.le_of_ble_eq_true rfl) dX1_prune_4 ?_
  obtain ⟨v17, σ16, h_σ16, hf⟩ := ho_e2 hf
  rcases ho_xe hf with ⟨x18, rfl, hf⟩ | ⟨q19, rfl, hf⟩
  · refine wk_callS (av := [vI v15]) (rest := []) (rv := none) C cx_X1_291 (mt_X1_checkState (wk_C.tr C) h_σ16) rfl rfl (Nat.le_of_ble_eq_true rfl) (Nat.le_of_ble_eq_true rfl) (Nat.le_of_ble_eq_true rfl) dX1_prune_7 ?_
    refine wk_aload_n C 0 rfl dX1_prune_10 ?_
    obtain ⟨v20, h_v20, hf⟩ := ho_b hf
    refine wk_getR C fx_X1_37 h_v20 dX1_prune_11 ?_
    obtain ⟨b21, h_b21, hf⟩ := ho_b hf
    obtain ⟨v23, σ22, h_σ22, hf⟩ := ho_e2 hf
    refine wk_callV (av := []) (rest := []) (rv := some (vR v23)) C h_b21 rx_1 cx_X1_271 (mt_X2_copy (wk_C.tr C) h_σ22) rfl rfl (Nat.le_of_ble_eq_true rfl) (Nat.le_of_ble_eq_true rfl) (Nat.le_of_ble_eq_true rfl) dX1_prune_14 ?_
    refine wk_astore_n (L' := [(0, vR p0), (1, vR v23)]) C (by decide) rfl dX1_prune_17 ?_
    refine wk_aload_n C 1 rfl dX1_prune_18 ?_
    obtain ⟨b24, h_b24, hf⟩ := ho_b hf
    obtain ⟨v26, σ25, h_σ25, hf⟩ := ho_e2 hf
    refine wk_callV (av := []) (rest := []) (rv := some (vR v26)) C h_b24 rx_1 cx_X1_97 (mt_X2_row (wk_C.tr C) h_σ25) rfl rfl (Nat.le_of_ble_eq_true rfl) (Nat.le_of_ble_eq_true rfl) (Nat.le_of_ble_eq_true rfl) dX1_prune_19 ?_
    refine wk_astore_n (L' := [(0, vR p0), (1, vR v23), (2, vR v26)]) C (by decide) rfl dX1_prune_22 ?_
    refine wk_iconst (v := 0) C dX1_prune_23 rfl ?_
    refine wk_istore_n (L' := [(0, vR p0), (1, vR v23), (2, vR v26), (3, vI (0 : Int32))]) C (by decide) rfl dX1_prune_24 ?_
    refine wk_aload_n C 2 rfl dX1_prune_25 ?_
    obtain ⟨v27, h_v27, hf⟩ := ho_b hf
    refine wk_alen C h_v27 dX1_prune_26 ?_
    refine wk_iconst (v := 1) C dX1_prune_27 rfl ?_
    refine wk_isub C dX1_prune_28 ?_
    obtain ⟨v28, e_v28, hf⟩ := ho_b hf
    refine wk_tI (Option.some.inj e_v28) ?_
    refine wk_istore (L' := [(0, vR p0), (1, vR v23), (2, vR v26), (3, vI (0 : Int32)), (4, vI v28)]) C (by decide) rfl dX1_prune_29 ?_
    exact wb_X1_prune_b31 C  _ _ _ _ _ _ _ hf
  · refine wk_callST (av := [vI v15]) (rest := []) C cx_X1_291 (mt_X1_checkState (wk_C.tr C) h_σ16) rfl (Nat.le_of_ble_eq_true rfl) (Nat.le_of_ble_eq_true rfl) (Nat.le_of_ble_eq_true rfl) dX1_prune_7 ?_
    obtain ⟨rfl, rfl⟩ := Prod.mk.inj (Option.some.inj hf)
    exact wk_out C (by decide +kernel) rfl rfl
set_option maxHeartbeats 4000000 in
theorem wb_X1_shrink_b15 {E : Ev} {K : Kx} (C : wk_C E K yX1_shrink cX1_shrink 4 (Option.some FieldType.int) 10 3197 []) {r : Int32 ⊕ Nat} {σ' : Hs} (l0 : Option Nat) (l1 : Int32) (l2 : Int32) (t0 : Int32) (σ : Hs) (hf : fn_X1_shrink_b15 E.2.2.1 l0 l1 l2 t0 σ = some (r, σ')) : wk_V E K (ot_I r) σ' σ 15 [(0, vR l0), (1, vI l1), (2, vI l2)] [vI t0] := by
  unfold fn_X1_shrink_b15 at hf
  obtain ⟨v2, σ1, h_σ1, hf⟩ := ho_e2 hf
  rcases ho_xe hf with ⟨x3, rfl, hf⟩ | ⟨q4, rfl, hf⟩
  · refine wk_callS (av := [vI t0]) (rest := []) (rv := none) C cx_X1_291 (mt_X1_checkState (wk_C.tr C) h_σ1) rfl rfl (Nat.le_of_ble_eq_true rfl) (Nat.le_of_ble_eq_true rfl) (Nat.le_of_ble_eq_true rfl) dX1_shrink_15 ?_
    refine wk_aload_n C 0 rfl dX1_shrink_18 ?_
    obtain ⟨v5, h_v5, hf⟩ := ho_b hf
    refine wk_getR C fx_X1_37 h_v5 dX1_shrink_19 ?_
    obtain ⟨v6, h_v6, hf⟩ := ho_b hf
    refine wk_getR C fx_X1_150 h_v6 dX1_shrink_22 ?_
    refine wk_iload_n C 1 rfl dX1_shrink_25 ?_
    obtain ⟨v7, h_v7, hf⟩ := ho_b hf
    refine wk_iald C h_v7 dX1_shrink_26 ?_
    refine wk_istore_n (L' := [(0, vR l0), (1, vI l1), (2, vI l2), (3, vI v7)]) C (by decide) rfl dX1_shrink_27 ?_
    refine wk_aload_n C 0 rfl dX1_shrink_28 ?_
    refine wk_aload_n C 0 rfl dX1_shrink_29 ?_
    obtain ⟨v8, h_v8, hf⟩ := ho_b hf
    refine wk_getR C fx_X1_37 h_v8 dX1_shrink_30 ?_
    obtain ⟨b9, h_b9, hf⟩ := ho_b hf
    obtain ⟨v11, σ10, h_σ10, hf⟩ := ho_e2 hf
    refine wk_callV (av := []) (rest := [vR l0]) (rv := some (vR v11)) C h_b9 rx_1 cx_X1_271 (mt_X2_copy (wk_C.tr C) h_σ10) rfl rfl (Nat.le_of_ble_eq_true rfl) (Nat.le_of_ble_eq_true rfl) (Nat.le_of_ble_eq_true rfl) dX1_shrink_33 ?_
    obtain ⟨b12, h_b12, hf⟩ := ho_b hf
    obtain ⟨σ13, h_σ13, hf⟩ := ho_b hf
    refine wk_callV (av := [vR v11]) (rest := []) (rv := none) C h_b12 rx_0 cx_X1_133 (mt_X1_replaceBy (wk_C.tr C) h_σ13) rfl rfl (Nat.le_of_ble_eq_true rfl) (Nat.le_of_ble_eq_true rfl) (Nat.le_of_ble_eq_true rfl) dX1_shrink_36 ?_
    refine wk_aload_n C 0 rfl dX1_shrink_39 ?_
    obtain ⟨v14, h_v14, hf⟩ := ho_b hf
    refine wk_getR C fx_X1_37 h_v14 dX1_shrink_40 ?_
    obtain ⟨v15, h_v15, hf⟩ := ho_b hf
    refine wk_getR C fx_X1_150 h_v15 dX1_shrink_43 ?_
    refine wk_iload_n C 1 rfl dX1_shrink_46 ?_
    refine wk_iload_n C 2 rfl dX1_shrink_47 ?_
    obtain ⟨σ16, h_σ16, hf⟩ := ho_b hf
    refine wk_iast C h_σ16 dX1_shrink_48 ?_
    refine wk_iload_n C 3 rfl dX1_shrink_49 ?_
    obtain ⟨rfl, rfl⟩ := Prod.mk.inj (Option.some.inj hf)
    exact wk_iret C rfl rfl dX1_shrink_50
  · refine wk_callST (av := [vI t0]) (rest := []) C cx_X1_291 (mt_X1_checkState (wk_C.tr C) h_σ1) rfl (Nat.le_of_ble_eq_true rfl) (Nat.le_of_ble_eq_true rfl) (Nat.le_of_ble_eq_true rfl) dX1_shrink_15 ?_
    obtain ⟨rfl, rfl⟩ := Prod.mk.inj (Option.some.inj hf)
    exact wk_out C (by decide +kernel) rfl rfl
set_option maxHeartbeats 4000000 in
theorem mt_X1_shrink {E : Ev} {l : Launch} (hl : l.stackTraces = false) {p0 : Option Nat} {p1 : Int32} {σ : Hs} {r : Int32 ⊕ Nat} {σ' : Hs} (hf : fn_X1_shrink E.2.2.1 p0 p1 σ = some (r, σ')) : wk_M E l yX1_shrink (ws_ yX1_shrink cX1_shrink 4 (Option.some FieldType.int)) 10 3197 [vR p0, vI p1] σ (ot_I r) σ' := by
  refine wk_start (by decide +kernel) hl (Nat.le_of_ble_eq_true rfl) (fun K C hK => ?_)
  subst hK
  refine wk_L (L' := [(0, vR p0), (1, vI p1)]) rfl ?_
  unfold fn_X1_shrink at hf
  refine wk_aload_n C 0 rfl dX1_shrink_0 ?_
  refine wk_iload_n C 1 rfl dX1_shrink_1 ?_
  obtain ⟨b17, h_b17, hf⟩ := ho_b hf
  obtain ⟨v19, σ18, h_σ18, hf⟩ := ho_e2 hf
  rcases ho_xe hf with ⟨x20, rfl, hf⟩ | ⟨q21, rfl, hf⟩
  · refine wk_callV (av := [vI p1]) (rest := []) (rv := some (vI x20)) C h_b17 rx_0 cx_X1_298 (mt_X1_smallestArea (wk_C.tr C) h_σ18) rfl rfl (Nat.le_of_ble_eq_true rfl) (Nat.le_of_ble_eq_true rfl) (Nat.le_of_ble_eq_true rfl) dX1_shrink_2 ?_
    refine wk_istore_n (L' := [(0, vR p0), (1, vI p1), (2, vI x20)]) C (by decide) rfl dX1_shrink_5 ?_
    refine wk_iload_n C 2 rfl dX1_shrink_6 ?_
    refine wk_if_le C 14 (by decide) dX1_shrink_7 (fun c_ => ?_) (fun c_ => ?_)
    · rw [if_pos c_] at hf
      refine wk_iconst (v := 0) C dX1_shrink_14 rfl ?_
      exact wb_X1_shrink_b15 C  _ _ _ _ _ hf
    · rw [if_neg c_] at hf
      refine wk_iconst (v := 1) C dX1_shrink_10 rfl ?_
      refine wk_goto C 15 (by decide) dX1_shrink_11 ?_
      exact wb_X1_shrink_b15 C  _ _ _ _ _ hf
  · refine wk_callVT (av := [vI p1]) (rest := []) C h_b17 rx_0 cx_X1_298 (mt_X1_smallestArea (wk_C.tr C) h_σ18) rfl (Nat.le_of_ble_eq_true rfl) (Nat.le_of_ble_eq_true rfl) (Nat.le_of_ble_eq_true rfl) dX1_shrink_2 ?_
    obtain ⟨rfl, rfl⟩ := Prod.mk.inj (Option.some.inj hf)
    exact wk_out C (by decide +kernel) rfl rfl
set_option maxHeartbeats 4000000 in
theorem wb_X1_shrinkAll_b53 {E : Ev} {K : Kx} (C : wk_C E K yX1_shrinkAll cX1_shrinkAll 3 (Option.some FieldType.int) 9 3176 []) {r : Int32} {σ' : Hs} (l0 : Option Nat) (σ : Hs) (hf : fn_X1_shrinkAll_b53 E.2.2.1 l0 σ = some (r, σ')) : wk_V E K (.inl (some (.int r))) σ' σ 53 [(0, vR l0)] [] := by
  unfold fn_X1_shrinkAll_b53 at hf
  refine wk_aload_n C 0 rfl dX1_shrinkAll_53 ?_
  obtain ⟨v1, h_v1, hf⟩ := ho_b hf
  refine wk_getR C fx_X1_37 h_v1 dX1_shrinkAll_54 ?_
  obtain ⟨b2, h_b2, hf⟩ := ho_b hf
  obtain ⟨v4, σ3, h_σ3, hf⟩ := ho_e2 hf
  refine wk_callV (av := []) (rest := []) (rv := some (vI v4)) C h_b2 rx_1 cx_X1_144 (mt_X2_weightOf (wk_C.tr C) h_σ3) rfl rfl (Nat.le_of_ble_eq_true rfl) (Nat.le_of_ble_eq_true rfl) (Nat.le_of_ble_eq_true rfl) dX1_shrinkAll_57 ?_
  obtain ⟨rfl, rfl⟩ := Prod.mk.inj (Option.some.inj hf)
  exact wk_iret C rfl rfl dX1_shrinkAll_60
set_option maxHeartbeats 4000000 in
theorem wb_X1_shrinkAll_b47 {E : Ev} {K : Kx} (C : wk_C E K yX1_shrinkAll cX1_shrinkAll 3 (Option.some FieldType.int) 9 3176 []) {k13 : Option Nat → Int32 → Hs → Option (Int32 × Hs)} {r : Int32} {σ' : Hs} (hk13 : ∀ (l0 : Option Nat) (l1 : Int32) (σ : Hs), k13 l0 l1 σ = some (r, σ') → wk_V E K (.inl (some (.int r))) σ' σ 13 [(0, vR l0), (1, vI l1)] []) (l0 : Option Nat) (l1 : Int32) (σ : Hs) (hf : fn_X1_shrinkAll_b47 E.2.2.1 k13 l0 l1 σ = some (r, σ')) : wk_V E K (.inl (some (.int r))) σ' σ 47 [(0, vR l0), (1, vI l1)] [] := by
  unfold fn_X1_shrinkAll_b47 at hf
  refine wk_iinc (v := l1 + 1) (L' := [(0, vR l0), (1, vI (l1 + 1))]) C 1 rfl (by decide) rfl rfl dX1_shrinkAll_47 ?_
  refine wk_goto C 13 (by decide) dX1_shrinkAll_50 ?_
  exact hk13 _ _ _ hf
set_option maxHeartbeats 4000000 in
theorem wb_X1_shrinkAll_b13 {E : Ev} {K : Kx} (C : wk_C E K yX1_shrinkAll cX1_shrinkAll 3 (Option.some FieldType.int) 9 3176 []) {r : Int32} {σ' : Hs} : ∀ (n : Nat) (l0 : Option Nat) (l1 : Int32) (σ : Hs), fn_X1_shrinkAll_b13 E.2.2.1 n l0 l1 σ = some (r, σ') → wk_V E K (.inl (some (.int r))) σ' σ 13 [(0, vR l0), (1, vI l1)] [] := by
  intro n
  induction n with
  | zero =>
    intro l0 l1 σ hf
    rw [fn_X1_shrinkAll_b13] at hf
    cases hf
  | succ n ih =>
    intro l0 l1 σ hf
    rw [fn_X1_shrinkAll_b13] at hf
    refine wk_iload_n C 1 rfl dX1_shrinkAll_13 ?_
    refine wk_aload_n C 0 rfl dX1_shrinkAll_14 ?_
    obtain ⟨v5, h_v5, hf⟩ := ho_b hf
    refine wk_getR C fx_X1_37 h_v5 dX1_shrinkAll_15 ?_
    obtain ⟨v6, h_v6, hf⟩ := ho_b hf
    refine wk_getI C fx_X1_84 h_v6 dX1_shrinkAll_18 ?_
    refine wk_icmp_ge C 53 (by decide) dX1_shrinkAll_21 (fun c_ => ?_) (fun c_ => ?_)
    · rw [if_pos c_] at hf
      refine wk_sub (L' := [(0, vR l0)]) [0] rfl ?_
      exact wb_X1_shrinkAll_b53 C  _ _ hf
    · rw [if_neg c_] at hf
      refine wk_aload_n C 0 rfl dX1_shrinkAll_24 ?_
      obtain ⟨v7, h_v7, hf⟩ := ho_b hf
      refine wk_getR C fx_X1_37 h_v7 dX1_shrinkAll_25 ?_
      refine wk_iload_n C 1 rfl dX1_shrinkAll_28 ?_
      obtain ⟨b8, h_b8, hf⟩ := ho_b hf
      obtain ⟨v10, σ9, h_σ9, hf⟩ := ho_e2 hf
      refine wk_callV (av := [vI l1]) (rest := []) (rv := some (vI v10)) C h_b8 rx_1 cx_X1_281 (mt_X2_leastArea (wk_C.tr C) h_σ9) rfl rfl (Nat.le_of_ble_eq_true rfl) (Nat.le_of_ble_eq_true rfl) (Nat.le_of_ble_eq_true rfl) dX1_shrinkAll_29 ?_
      refine wk_istore_n (L' := [(0, vR l0), (1, vI l1), (2, vI v10)]) C (by decide) rfl dX1_shrinkAll_32 ?_
      refine wk_iload_n C 2 rfl dX1_shrinkAll_33 ?_
      refine wk_if_le C 47 (by decide) dX1_shrinkAll_34 (fun c_ => ?_) (fun c_ => ?_)
      · rw [if_pos c_] at hf
        refine wk_sub (L' := [(0, vR l0), (1, vI l1)]) [0, 1] rfl ?_
        exact wb_X1_shrinkAll_b47 C ih _ _ _ hf
      · rw [if_neg c_] at hf
        refine wk_aload_n C 0 rfl dX1_shrinkAll_37 ?_
        obtain ⟨v11, h_v11, hf⟩ := ho_b hf
        refine wk_getR C fx_X1_37 h_v11 dX1_shrinkAll_38 ?_
        obtain ⟨v12, h_v12, hf⟩ := ho_b hf
        refine wk_getR C fx_X1_150 h_v12 dX1_shrinkAll_41 ?_
        refine wk_iload_n C 1 rfl dX1_shrinkAll_44 ?_
        refine wk_iload_n C 2 rfl dX1_shrinkAll_45 ?_
        obtain ⟨σ13, h_σ13, hf⟩ := ho_b hf
        refine wk_iast C h_σ13 dX1_shrinkAll_46 ?_
        refine wk_sub (L' := [(0, vR l0), (1, vI l1)]) [0, 1] rfl ?_
        exact wb_X1_shrinkAll_b47 C ih _ _ _ hf
set_option maxHeartbeats 4000000 in
theorem mt_X1_shrinkAll {E : Ev} {l : Launch} (hl : l.stackTraces = false) {p0 : Option Nat} {σ : Hs} {r : Int32} {σ' : Hs} (hf : fn_X1_shrinkAll E.2.2.1 p0 σ = some (r, σ')) : wk_M E l yX1_shrinkAll (ws_ yX1_shrinkAll cX1_shrinkAll 3 (Option.some FieldType.int)) 9 3176 [vR p0] σ (.inl (some (.int r))) σ' := by
  refine wk_start (by decide +kernel) hl (Nat.le_of_ble_eq_true rfl) (fun K C hK => ?_)
  subst hK
  refine wk_L (L' := [(0, vR p0)]) rfl ?_
  unfold fn_X1_shrinkAll at hf
  refine wk_aload_n C 0 rfl dX1_shrinkAll_0 ?_
  refine wk_aload_n C 0 rfl dX1_shrinkAll_1 ?_
  obtain ⟨v14, h_v14, hf⟩ := ho_b hf
  refine wk_getR C fx_X1_37 h_v14 dX1_shrinkAll_2 ?_
  obtain ⟨b15, h_b15, hf⟩ := ho_b hf
  obtain ⟨v17, σ16, h_σ16, hf⟩ := ho_e2 hf
  refine wk_callV (av := []) (rest := [vR p0]) (rv := some (vR v17)) C h_b15 rx_1 cx_X1_271 (mt_X2_copy (wk_C.tr C) h_σ16) rfl rfl (Nat.le_of_ble_eq_true rfl) (Nat.le_of_ble_eq_true rfl) (Nat.le_of_ble_eq_true rfl) dX1_shrinkAll_5 ?_
  obtain ⟨b18, h_b18, hf⟩ := ho_b hf
  obtain ⟨σ19, h_σ19, hf⟩ := ho_b hf
  refine wk_callV (av := [vR v17]) (rest := []) (rv := none) C h_b18 rx_0 cx_X1_133 (mt_X1_replaceBy (wk_C.tr C) h_σ19) rfl rfl (Nat.le_of_ble_eq_true rfl) (Nat.le_of_ble_eq_true rfl) (Nat.le_of_ble_eq_true rfl) dX1_shrinkAll_8 ?_
  refine wk_iconst (v := 0) C dX1_shrinkAll_11 rfl ?_
  refine wk_istore_n (L' := [(0, vR p0), (1, vI (0 : Int32))]) C (by decide) rfl dX1_shrinkAll_12 ?_
  exact wb_X1_shrinkAll_b13 C  _ _ _ _ hf
set_option maxHeartbeats 4000000 in
theorem mt_X1_undo {E : Ev} {l : Launch} (hl : l.stackTraces = false) {p0 : Option Nat} {σ : Hs} {r : Int32} {σ' : Hs} (hf : fn_X1_undo p0 σ = some (r, σ')) : wk_M E l yX1_undo (ws_ yX1_undo cX1_undo 1 (Option.some FieldType.int)) 3 65 [vR p0] σ (.inl (some (.int r))) σ' := by
  refine wk_start (by decide +kernel) hl (Nat.le_of_ble_eq_true rfl) (fun K C hK => ?_)
  subst hK
  refine wk_L (L' := [(0, vR p0)]) rfl ?_
  unfold fn_X1_undo at hf
  refine wk_aload_n C 0 rfl dX1_undo_0 ?_
  obtain ⟨v1, h_v1, hf⟩ := ho_b hf
  refine wk_getR C fx_X1_46 h_v1 dX1_undo_1 ?_
  obtain ⟨b2, h_b2, hf⟩ := ho_b hf
  obtain ⟨v4, σ3, h_σ3, hf⟩ := ho_e2 hf
  refine wk_callV (av := []) (rest := []) (rv := some (vI v4)) C h_b2 rx_17 cx_X1_301 (mt_J20_isEmpty (wk_C.tr C) h_σ3) rfl rfl (Nat.le_of_ble_eq_true rfl) (Nat.le_of_ble_eq_true rfl) (Nat.le_of_ble_eq_true rfl) dX1_undo_4 ?_
  refine wk_if_eq C 12 (by decide) dX1_undo_7 (fun c_ => ?_) (fun c_ => ?_)
  · rw [if_pos c_] at hf
    refine wk_aload_n C 0 rfl dX1_undo_12 ?_
    refine wk_aload_n C 0 rfl dX1_undo_13 ?_
    obtain ⟨v5, h_v5, hf⟩ := ho_b hf
    refine wk_getR C fx_X1_46 h_v5 dX1_undo_14 ?_
    obtain ⟨b6, h_b6, hf⟩ := ho_b hf
    obtain ⟨v8, σ7, h_σ7, hf⟩ := ho_e2 hf
    refine wk_callV (av := []) (rest := [vR p0]) (rv := some (vR v8)) C h_b6 rx_17 cx_X1_304 (mt_J20_removeLast (wk_C.tr C) h_σ7) rfl rfl (Nat.le_of_ble_eq_true rfl) (Nat.le_of_ble_eq_true rfl) (Nat.le_of_ble_eq_true rfl) dX1_undo_17 ?_
    obtain ⟨u9, h_u9, hf⟩ := ho_b hf
    refine wk_cast C q181 (List.forall_mem_cons.mpr ⟨ax_same rx_1 (Nat.le_of_ble_eq_true rfl), (List.forall_mem_nil _)⟩) h_u9 dX1_undo_20 ?_
    obtain ⟨σ10, h_σ10, hf⟩ := ho_b hf
    refine wk_putR C px_X1_37 (Or.inl ⟨_, rfl⟩) (fun q => by cases q) h_σ10 dX1_undo_23 ?_
    refine wk_aload_n C 0 rfl dX1_undo_26 ?_
    obtain ⟨v11, h_v11, hf⟩ := ho_b hf
    refine wk_getR C fx_X1_46 h_v11 dX1_undo_27 ?_
    obtain ⟨b12, h_b12, hf⟩ := ho_b hf
    obtain ⟨v14, σ13, h_σ13, hf⟩ := ho_e2 hf
    refine wk_callV (av := []) (rest := []) (rv := some (vI v14)) C h_b12 rx_17 cx_X1_116 (mt_J20_size (wk_C.tr C) h_σ13) rfl rfl (Nat.le_of_ble_eq_true rfl) (Nat.le_of_ble_eq_true rfl) (Nat.le_of_ble_eq_true rfl) dX1_undo_30 ?_
    obtain ⟨rfl, rfl⟩ := Prod.mk.inj (Option.some.inj hf)
    exact wk_iret C rfl rfl dX1_undo_33
  · rw [if_neg c_] at hf
    refine wk_iconst (v := -1) C dX1_undo_10 rfl ?_
    obtain ⟨rfl, rfl⟩ := Prod.mk.inj (Option.some.inj hf)
    exact wk_iret C rfl rfl dX1_undo_11
set_option maxHeartbeats 4000000 in
theorem wb_X1_checksum_b41 {E : Ev} {K : Kx} (C : wk_C E K yX1_checksum cX1_checksum 9 (Option.some FieldType.long) 7 142 []) {r : Int64} {σ' : Hs} (l0 : Option Nat) (σ : Hs) (hf : fn_X1_checksum_b41 l0 σ = some (r, σ')) : wk_V E K (.inl (some (.long r))) σ' σ 41 [(0, vR l0)] [] := by
  unfold fn_X1_checksum_b41 at hf
  obtain ⟨v1, σ2, h_σ2, hf⟩ := ho_e2 hf
  refine wk_new C nx_X1_104 h_σ2 dX1_checksum_41 ?_
  refine wk_dup C rfl dX1_checksum_44 ?_
  refine wk_aload_n C 0 rfl dX1_checksum_45 ?_
  obtain ⟨v3, h_v3, hf⟩ := ho_b hf
  refine wk_getR C fx_X1_37 h_v3 dX1_checksum_46 ?_
  obtain ⟨b4, h_b4, hf⟩ := ho_b hf
  obtain ⟨σ5, h_σ5, hf⟩ := ho_b hf
  refine wk_callI (av := [vR v3]) (rest := [vR v1]) C cx_X1_106 h_b4 (mt_X12_init (wk_C.tr C) h_σ5) rfl (Nat.le_of_ble_eq_true rfl) (Nat.le_of_ble_eq_true rfl) (Nat.le_of_ble_eq_true rfl) dX1_checksum_49 ?_
  refine wk_astore_n (L' := [(0, vR l0), (3, vR v1)]) C (by decide) rfl dX1_checksum_52 ?_
  refine wk_aload_n C 0 rfl dX1_checksum_53 ?_
  obtain ⟨v6, h_v6, hf⟩ := ho_b hf
  refine wk_getR C fx_X1_37 h_v6 dX1_checksum_54 ?_
  obtain ⟨b7, h_b7, hf⟩ := ho_b hf
  obtain ⟨v9, σ8, h_σ8, hf⟩ := ho_e2 hf
  refine wk_callV (av := []) (rest := []) (rv := some (vI v9)) C h_b7 rx_1 cx_X1_87 (mt_X2_countStages (wk_C.tr C) h_σ8) rfl rfl (Nat.le_of_ble_eq_true rfl) (Nat.le_of_ble_eq_true rfl) (Nat.le_of_ble_eq_true rfl) dX1_checksum_57 ?_
  refine wk_istore (L' := [(0, vR l0), (3, vR v1), (4, vI v9)]) C (by decide) rfl dX1_checksum_60 ?_
  refine wk_iload C 2 rfl dX1_checksum_62 ?_
  refine wk_aload_n C 1 rfl dX1_checksum_64 ?_
  obtain ⟨v10, h_v10, hf⟩ := ho_b hf
  refine wk_getR C fx_X1_253 h_v10 dX1_checksum_65 ?_
  obtain ⟨v11, h_v11, hf⟩ := ho_b hf
  refine wk_alen C h_v11 dX1_checksum_68 ?_
  cases hf
set_option maxHeartbeats 4000000 in
theorem wb_X1_checksum_b4 {E : Ev} {K : Kx} (C : wk_C E K yX1_checksum cX1_checksum 9 (Option.some FieldType.long) 7 142 []) {r : Int64} {σ' : Hs} : ∀ (n : Nat) (l0 : Option Nat) (l1 : Int64) (l3 : Int32) (σ : Hs), fn_X1_checksum_b4 n l0 l1 l3 σ = some (r, σ') → wk_V E K (.inl (some (.long r))) σ' σ 4 [(0, vR l0), (1, vJ l1), (3, vI l3)] [] := by
  intro n
  induction n with
  | zero =>
    intro l0 l1 l3 σ hf
    rw [fn_X1_checksum_b4] at hf
    cases hf
  | succ n ih =>
    intro l0 l1 l3 σ hf
    rw [fn_X1_checksum_b4] at hf
    refine wk_iload_n C 2 rfl dX1_checksum_4 ?_
    refine wk_aload_n C 0 rfl dX1_checksum_5 ?_
    obtain ⟨v12, h_v12, hf⟩ := ho_b hf
    refine wk_getR C fx_X1_37 h_v12 dX1_checksum_6 ?_
    obtain ⟨v13, h_v13, hf⟩ := ho_b hf
    refine wk_getI C fx_X1_84 h_v13 dX1_checksum_9 ?_
    refine wk_icmp_ge C 41 (by decide) dX1_checksum_12 (fun c_ => ?_) (fun c_ => ?_)
    · rw [if_pos c_] at hf
      refine wk_sub (L' := [(0, vR l0)]) [0] rfl ?_
      exact wb_X1_checksum_b41 C  _ _ hf
    · rw [if_neg c_] at hf
      refine wk_lload_n C 1 rfl dX1_checksum_15 ?_
      refine wk_iconst (v := 1) C dX1_checksum_16 rfl ?_
      obtain ⟨v14, σ15, h_σ15, hf⟩ := ho_e2 hf
      refine wk_newaI C q606 h_σ15 dX1_checksum_17 ?_
      refine wk_dup C rfl dX1_checksum_19 ?_
      refine wk_iconst (v := 0) C dX1_checksum_20 rfl ?_
      refine wk_aload_n C 0 rfl dX1_checksum_21 ?_
      obtain ⟨v16, h_v16, hf⟩ := ho_b hf
      refine wk_getR C fx_X1_37 h_v16 dX1_checksum_22 ?_
      obtain ⟨v17, h_v17, hf⟩ := ho_b hf
      refine wk_getR C fx_X1_150 h_v17 dX1_checksum_25 ?_
      refine wk_iload_n C 2 rfl dX1_checksum_28 ?_
      obtain ⟨v18, h_v18, hf⟩ := ho_b hf
      refine wk_iald C h_v18 dX1_checksum_29 ?_
      obtain ⟨σ19, h_σ19, hf⟩ := ho_b hf
      refine wk_iast C h_σ19 dX1_checksum_30 ?_
      obtain ⟨v21, σ20, h_σ20, hf⟩ := ho_e2 hf
      refine wk_callS (av := [vJ l1, vR v14]) (rest := []) (rv := some (vJ v21)) C cx_X1_309 (mt_X1_mixed (wk_C.tr C) h_σ20) rfl rfl (Nat.le_of_ble_eq_true rfl) (Nat.le_of_ble_eq_true rfl) (Nat.le_of_ble_eq_true rfl) dX1_checksum_31 ?_
      refine wk_lstore_n (L' := [(0, vR l0), (1, vJ v21), (3, vI l3)]) C (by decide) rfl dX1_checksum_34 ?_
      refine wk_iinc (v := l3 + 1) (L' := [(0, vR l0), (1, vJ v21), (3, vI (l3 + 1))]) C 2 rfl (by decide) rfl rfl dX1_checksum_35 ?_
      refine wk_goto C 4 (by decide) dX1_checksum_38 ?_
      exact ih _ _ _ _ hf
set_option maxHeartbeats 4000000 in
theorem mt_X1_checksum {E : Ev} {l : Launch} (hl : l.stackTraces = false) {p0 : Option Nat} {σ : Hs} {r : Int64} {σ' : Hs} (hf : fn_X1_checksum p0 σ = some (r, σ')) : wk_M E l yX1_checksum (ws_ yX1_checksum cX1_checksum 9 (Option.some FieldType.long)) 7 142 [vR p0] σ (.inl (some (.long r))) σ' := by
  refine wk_start (by decide +kernel) hl (Nat.le_of_ble_eq_true rfl) (fun K C hK => ?_)
  subst hK
  refine wk_L (L' := [(0, vR p0)]) rfl ?_
  unfold fn_X1_checksum at hf
  refine wk_lconst (v := 0) C dX1_checksum_0 rfl ?_
  refine wk_lstore_n (L' := [(0, vR p0), (1, vJ (0 : Int64))]) C (by decide) rfl dX1_checksum_1 ?_
  refine wk_iconst (v := 0) C dX1_checksum_2 rfl ?_
  refine wk_istore_n (L' := [(0, vR p0), (1, vJ (0 : Int64)), (3, vI (0 : Int32))]) C (by decide) rfl dX1_checksum_3 ?_
  exact wb_X1_checksum_b4 C  _ _ _ _ _ hf
