def fn_X2_bucklingOf (p0 : Option Nat) (p1 : Option Nat) (σ : Hs) : Option (Int32 × Hs) := (ho_fR σ p0 [1] 5).bind fun v1 => (ho_is σ p0 [1]).bind fun b2 => ho_b2 (fn_X2_areaOf p0 p1 σ) fun v4 σ3 => (ho_fI σ3 p0 [1] 0).bind fun v5 => none
def fn_X2_capacityOf_b28  (t0 : Int32) (σ : Hs) : Option (Int32 × Hs) := some (t0, σ)
def fn_X2_capacityOf (p0 : Option Nat) (p1 : Option Nat) (p2 : Int32) (σ : Hs) : Option (Int32 × Hs) := (ho_fI σ p0 [1] 1).bind fun v1 => (ho_is σ p0 [1]).bind fun b2 => ho_b2 (fn_X2_areaOf p0 p1 σ) fun v4 σ3 => (some (v1 * v4)).bind fun v5 => if p2 = 0 then fn_X2_capacityOf_b28 v5 σ3 else (ho_is σ3 p0 [1]).bind fun b6 => ho_b2 (fn_X2_bucklingOf p0 p1 σ3) fun v8 σ7 => ho_b2 (fn_J12_min v5 v8 σ7) fun v10 σ9 => fn_X2_capacityOf_b28 v10 σ9
def fn_X2_useOf_b50  (t0 : Int32) (σ : Hs) : Option (Int32 × Hs) := some (t0, σ)
def fn_X2_useOf_b17  (l2 : Int32) (t0 : Option Nat) (t1 : Option Nat) (t2 : Int32) (σ : Hs) : Option (Int32 × Hs) := (ho_is σ t0 [1]).bind fun b1 => ho_b2 (fn_X2_capacityOf t0 t1 t2 σ) fun v3 σ2 => if v3 = 0 then fn_X2_useOf_b50 (9999 : Int32) σ2 else ho_b2 (fn_J12_abs l2 σ2) fun v5 σ4 => (ho_divJ ((1000 : Int64) * v5.toInt64) v3.toInt64).bind fun v6 => ho_b2 (fn_J12_min_2 (9999 : Int64) v6 σ4) fun v8 σ7 => fn_X2_useOf_b50 v8.toInt32 σ7
def fn_X2_useOf (p0 : Option Nat) (p1 : Option Nat) (p2 : Int32) (σ : Hs) : Option (Int32 × Hs) := if p2 = 0 then some ((0 : Int32), σ) else if 0 ≤ p2 then fn_X2_useOf_b17 p2 p0 p1 (0 : Int32) σ else fn_X2_useOf_b17 p2 p0 p1 (1 : Int32) σ
def fn_X2_bears_b26  (t0 : Int32) (σ : Hs) : Option (Int32 × Hs) := (ho_bool t0).bind fun v1 => some (v1, σ)
def fn_X2_bears_b15  (t0 : Int32) (t1 : Option Nat) (t2 : Option Nat) (t3 : Int32) (σ : Hs) : Option (Int32 × Hs) := (ho_is σ t1 [1]).bind fun b2 => ho_b2 (fn_X2_capacityOf t1 t2 t3 σ) fun v4 σ3 => if v4 < t0 then fn_X2_bears_b26 (0 : Int32) σ3 else fn_X2_bears_b26 (1 : Int32) σ3
def fn_X2_bears (p0 : Option Nat) (p1 : Option Nat) (p2 : Int32) (σ : Hs) : Option (Int32 × Hs) := ho_b2 (fn_J12_abs p2 σ) fun v6 σ5 => if 0 ≤ p2 then fn_X2_bears_b15 v6 p0 p1 (0 : Int32) σ5 else fn_X2_bears_b15 v6 p0 p1 (1 : Int32) σ5
def fn_X12_forceIn (p0 : Option Nat) (p1 : Option Nat) (σ : Hs) : Option (Int32 × Hs) := (ho_fR σ p0 [11] 4).bind fun v1 => (ho_fI σ p1 [7] 1).bind fun v2 => (ho_aJ σ v1 [1] v2).bind fun v3 => (ho_fR σ p0 [11] 4).bind fun v4 => (ho_fI σ p1 [7] 0).bind fun v5 => (ho_aJ σ v4 [1] v5).bind fun v6 => (ho_fI σ p1 [7] 3).bind fun v7 => (ho_fR σ p0 [11] 5).bind fun v8 => (ho_fI σ p1 [7] 1).bind fun v9 => (ho_aJ σ v8 [1] v9).bind fun v10 => (ho_fR σ p0 [11] 5).bind fun v11 => (ho_fI σ p1 [7] 0).bind fun v12 => (ho_aJ σ v11 [1] v12).bind fun v13 => (ho_fI σ p1 [7] 4).bind fun v14 => (some (((v3 - v6) * v7.toInt64) + ((v10 - v13) * v14.toInt64))).bind fun v15 => (ho_fI σ p1 [7] 5).bind fun v16 => (ho_divJ v15 v16.toInt64).bind fun v17 => (ho_fR σ p0 [11] 0).bind fun v18 => (ho_fI σ v18 [1] 0).bind fun v19 => (ho_fR σ p0 [11] 0).bind fun v20 => (ho_is σ v20 [1]).bind fun b21 => ho_b2 (fn_X2_areaOf v20 p1 σ) fun v23 σ22 => (ho_fI σ22 p1 [7] 5).bind fun v24 => (ho_divJ ((v19.toInt64 * v23.toInt64) * v17) ((1000 : Int64) * v24.toInt64)).bind fun v25 => ho_b2 (fn_X1_limited v25 σ22) fun v27 σ26 => some (v27.toInt32, σ26)
def fn_X12_stiffness_b65  (l2 : Int64) (σ : Hs) : Option (Int64 × Hs) := ho_b2 (fn_J12_max_2 (1 : Int64) l2 σ) fun v2 σ1 => some (v2, σ1)
def fn_X12_stiffness_b18  : Nat → Option Nat → Int64 → Option Nat → Int32 → Int32 → Hs → Option (Int64 × Hs)
  | 0, _, _, _, _, _, _ => none
  | n + 1, l0, l2, l4, l5, l6, σ => if l5 ≤ l6 then fn_X12_stiffness_b65 l2 σ else (ho_aR σ l4 [3, 4, 5, 6, 7, 8] l6).bind fun v3 => (ho_fR σ l0 [11] 0).bind fun v4 => (ho_fI σ v4 [1] 0).bind fun v5 => (ho_fR σ l0 [11] 0).bind fun v6 => (ho_is σ v6 [1]).bind fun b7 => ho_b2 (fn_X2_areaOf v6 v3 σ) fun v9 σ8 => (ho_fI σ8 v3 [7] 5).bind fun v10 => (ho_div (v5 * v9) v10).bind fun v11 => (some (l2 + v11.toInt64)).bind fun v12 => fn_X12_stiffness_b18 n l0 v12 l4 l5 (l6 + 1) σ8
def fn_X12_stiffness (p0 : Option Nat) (p1 : Int32) (σ : Hs) : Option (Int64 × Hs) := (ho_fR σ p0 [11] 3).bind fun v13 => (ho_aR σ v13 [3, 4, 5, 6, 7, 8] p1).bind fun v14 => (ho_len σ v14).bind fun v15 => fn_X12_stiffness_b18 fu_el p0 (0 : Int64) v14 v15 (0 : Int32) σ
def fn_X12_balance_b198  (l0 : Option Nat) (l1 : Int32) (l3 : Int64) (l5 : Int64) (σ : Hs) : Option Hs := (ho_fR σ l0 [11] 6).bind fun v1 => (ho_tJ σ v1 1 l1 l3).bind fun σ2 => (ho_fR σ2 l0 [11] 7).bind fun v3 => (ho_tJ σ2 v3 1 l1 l5).bind fun σ4 => some σ4
def fn_X12_balance_b135  (k107 : Option Nat → Int32 → Int64 → Int64 → Option Nat → Int32 → Int32 → Hs → Option Hs) (l0 : Option Nat) (l1 : Int32) (l3 : Int64) (l5 : Int64) (l7 : Option Nat) (l8 : Int32) (l9 : Int32) (l10 : Option Nat) (t0 : Int32) (σ : Hs) : Option Hs := (ho_is σ l0 [11]).bind fun b5 => ho_b2 (fn_X12_forceIn l0 l10 σ) fun v7 σ6 => (ho_fI σ6 l10 [7] 3).bind fun v8 => (ho_fI σ6 l10 [7] 5).bind fun v9 => (ho_divJ (v7.toInt64 * ((t0 * v8).toInt64)) v9.toInt64).bind fun v10 => (some (l3 + v10)).bind fun v11 => (ho_fI σ6 l10 [7] 4).bind fun v12 => (ho_fI σ6 l10 [7] 5).bind fun v13 => (ho_divJ (v7.toInt64 * ((t0 * v12).toInt64)) v13.toInt64).bind fun v14 => (some (l5 + v14)).bind fun v15 => k107 l0 l1 v11 v15 l7 l8 (l9 + 1) σ6
def fn_X12_balance_b107  : Nat → Option Nat → Int32 → Int64 → Int64 → Option Nat → Int32 → Int32 → Hs → Option Hs
  | 0, _, _, _, _, _, _, _, _ => none
  | n + 1, l0, l1, l3, l5, l7, l8, l9, σ => if l8 ≤ l9 then fn_X12_balance_b198 l0 l1 l3 l5 σ else (ho_aR σ l7 [3, 4, 5, 6, 7, 8] l9).bind fun v16 => (ho_fI σ v16 [7] 0).bind fun v17 => if v17 = l1 then fn_X12_balance_b135 (fn_X12_balance_b107 n) l0 l1 l3 l5 l7 l8 l9 v16 (1 : Int32) σ else fn_X12_balance_b135 (fn_X12_balance_b107 n) l0 l1 l3 l5 l7 l8 l9 v16 (-1 : Int32) σ
def fn_X12_balance_b91  (l0 : Option Nat) (l1 : Int32) (l3 : Int64) (l5 : Int64) (σ : Hs) : Option Hs := (ho_fR σ l0 [11] 3).bind fun v18 => (ho_aR σ v18 [3, 4, 5, 6, 7, 8] l1).bind fun v19 => (ho_len σ v19).bind fun v20 => fn_X12_balance_b107 fu_el l0 l1 l3 l5 v19 v20 (0 : Int32) σ
def fn_X12_balance_b85  (k8 : Option Nat → Int32 → Int32 → Int64 → Int64 → Int32 → Hs → Option Hs) (l0 : Option Nat) (l1 : Int32) (l2 : Int32) (l3 : Int64) (l5 : Int64) (l7 : Int32) (σ : Hs) : Option Hs := k8 l0 l1 l2 l3 l5 (l7 + 1) σ
def fn_X12_balance_b8  : Nat → Option Nat → Int32 → Int32 → Int64 → Int64 → Int32 → Hs → Option Hs
  | 0, _, _, _, _, _, _, _ => none
  | n + 1, l0, l1, l2, l3, l5, l7, σ => (ho_fR σ l0 [11] 0).bind fun v21 => (ho_fR σ v21 [1] 4).bind fun v22 => (ho_is σ v22 [13]).bind fun b23 => ho_b2 (fn_J2_size v22 σ) fun v25 σ24 => if v25 ≤ l7 then fn_X12_balance_b91 l0 l1 l3 l5 σ24 else (ho_fR σ24 l0 [11] 0).bind fun v26 => (ho_fR σ24 v26 [1] 4).bind fun v27 => (ho_is σ24 v27 [13]).bind fun b28 => ho_b2 (fn_J2_get v27 l7 σ24) fun v30 σ29 => (ho_in σ29 v30 [8]).bind fun _ => (ho_is σ29 v30 [8]).bind fun b32 => ho_b2 (fn_X9_node v30 σ29) fun v34 σ33 => if v34 = l1 then (ho_is σ33 v30 [8]).bind fun b35 => ho_b2 (fn_X9_stage v30 σ33) fun v37 σ36 => if v37 ≤ l2 then (ho_is σ36 v30 [8]).bind fun b38 => ho_b2 (fn_X9_fx v30 σ36) fun v40 σ39 => (some (l3 + v40.toInt64)).bind fun v41 => (ho_is σ39 v30 [8]).bind fun b42 => ho_b2 (fn_X9_fy v30 σ39) fun v44 σ43 => (some (l5 + v44.toInt64)).bind fun v45 => fn_X12_balance_b85 (fn_X12_balance_b8 n) l0 l1 l2 v41 v45 l7 σ43 else fn_X12_balance_b85 (fn_X12_balance_b8 n) l0 l1 l2 l3 l5 l7 σ36 else fn_X12_balance_b85 (fn_X12_balance_b8 n) l0 l1 l2 l3 l5 l7 σ33
def fn_X12_balance (p0 : Option Nat) (p1 : Int32) (p2 : Int32) (σ : Hs) : Option Hs := fn_X12_balance_b8 fu_el p0 p1 p2 (0 : Int64) (0 : Int64) (0 : Int32) σ
def fn_X12_relax_b153  (k18 : Option Nat → Int32 → Int32 → Hs → Option Hs) (l0 : Option Nat) (l1 : Int32) (l2 : Int32) (σ : Hs) : Option Hs := k18 l0 l1 (l2 + 1) σ
def fn_X12_relax_b147  (k31 : Option Nat → Int32 → Int32 → Int32 → Hs → Option Hs) (l0 : Option Nat) (l1 : Int32) (l2 : Int32) (l3 : Int32) (σ : Hs) : Option Hs := k31 l0 l1 l2 (l3 + 1) σ
def fn_X12_relax_b31  (k18 : Option Nat → Int32 → Int32 → Hs → Option Hs) : Nat → Option Nat → Int32 → Int32 → Int32 → Hs → Option Hs
  | 0, _, _, _, _, _ => none
  | n + 1, l0, l1, l2, l3, σ => (ho_fI σ l0 [11] 2).bind fun v1 => if v1 ≤ l3 then fn_X12_relax_b153 k18 l0 l1 l2 σ else (ho_fR σ l0 [11] 0).bind fun v2 => (ho_fR σ v2 [1] 3).bind fun v3 => (ho_is σ v3 [13]).bind fun b4 => ho_b2 (fn_J2_get v3 l3 σ) fun v6 σ5 => (ho_in σ5 v6 [5]).bind fun _ => (ho_fI σ5 v6 [5] 2).bind fun v8 => if v8 = 0 then (ho_is σ5 l0 [11]).bind fun b9 => (fn_X12_balance l0 l3 l1 σ5).bind fun σ10 => (ho_is σ10 l0 [11]).bind fun b11 => ho_b2 (fn_X12_stiffness l0 l3 σ10) fun v13 σ12 => (ho_fR σ12 l0 [11] 4).bind fun v14 => (ho_fR σ12 l0 [11] 4).bind fun v15 => (ho_aJ σ12 v15 [1] l3).bind fun v16 => (ho_fR σ12 l0 [11] 6).bind fun v17 => (ho_aJ σ12 v17 [1] l3).bind fun v18 => (ho_divJ ((1000 : Int64) * v18) v13).bind fun v19 => ho_b2 (fn_X1_limited (v16 + v19) σ12) fun v21 σ20 => (ho_tJ σ20 v14 1 l3 v21).bind fun σ22 => (ho_fI σ22 v6 [5] 3).bind fun v23 => if v23 = 0 then (ho_fR σ22 l0 [11] 5).bind fun v24 => (ho_fR σ22 l0 [11] 5).bind fun v25 => (ho_aJ σ22 v25 [1] l3).bind fun v26 => (ho_fR σ22 l0 [11] 7).bind fun v27 => (ho_aJ σ22 v27 [1] l3).bind fun v28 => (ho_divJ ((1000 : Int64) * v28) v13).bind fun v29 => ho_b2 (fn_X1_limited (v26 + v29) σ22) fun v31 σ30 => (ho_tJ σ30 v24 1 l3 v31).bind fun σ32 => fn_X12_relax_b147 (fn_X12_relax_b31 k18 n) l0 l1 l2 l3 σ32 else fn_X12_relax_b147 (fn_X12_relax_b31 k18 n) l0 l1 l2 l3 σ22 else fn_X12_relax_b147 (fn_X12_relax_b31 k18 n) l0 l1 l2 l3 σ5
def fn_X12_relax_b18  : Nat → Option Nat → Int32 → Int32 → Hs → Option Hs
  | 0, _, _, _, _ => none
  | n + 1, l0, l1, l2, σ => (ho_fR σ l0 [11] 0).bind fun v33 => (ho_fI σ v33 [1] 2).bind fun v34 => if v34 ≤ l2 then some σ else fn_X12_relax_b31 (fn_X12_relax_b18 n) fu_el l0 l1 l2 (0 : Int32) σ
def fn_X12_relax (p0 : Option Nat) (p1 : Int32) (σ : Hs) : Option Hs := (ho_fR σ p0 [11] 4).bind fun v35 => (fn_J13_fill v35 (0 : Int64) σ).bind fun σ36 => (ho_fR σ36 p0 [11] 5).bind fun v37 => (fn_J13_fill v37 (0 : Int64) σ36).bind fun σ38 => fn_X12_relax_b18 fu_el p0 p1 (0 : Int32) σ38
def fn_X12_membersAt_b98  (k64 : Int32 → Int32 → Option Nat → Option Nat → Int32 → Int32 → Hs → Option (Option Nat × Hs)) (l1 : Int32) (l2 : Int32) (l3 : Option Nat) (l4 : Option Nat) (l5 : Int32) (l6 : Int32) (σ : Hs) : Option (Option Nat × Hs) := k64 l1 l2 l3 l4 l5 (l6 + 1) σ
def fn_X12_membersAt_b64  : Nat → Int32 → Int32 → Option Nat → Option Nat → Int32 → Int32 → Hs → Option (Option Nat × Hs)
  | 0, _, _, _, _, _, _, _ => none
  | n + 1, l1, l2, l3, l4, l5, l6, σ => if l5 ≤ l6 then some (l3, σ) else (ho_aR σ l4 [3, 4, 5, 6, 7, 8] l6).bind fun v1 => (ho_is σ v1 [7]).bind fun b2 => ho_b2 (fn_X8_isAt v1 l1 σ) fun v4 σ3 => if v4 = 0 then fn_X12_membersAt_b98 (fn_X12_membersAt_b64 n) l1 l2 l3 l4 l5 l6 σ3 else (ho_tO σ3 l3 4 [7] (l2 + (-1)) v1).bind fun σ5 => fn_X12_membersAt_b98 (fn_X12_membersAt_b64 n) l1 (l2 + (-1)) l3 l4 l5 l6 σ5
def fn_X12_membersAt_b45  (l0 : Option Nat) (l1 : Int32) (l2 : Int32) (σ : Hs) : Option (Option Nat × Hs) := ho_b2 (ho_nR σ 4 l2) fun v6 σ7 => (ho_fR σ7 l0 [11] 1).bind fun v8 => (ho_len σ7 v8).bind fun v9 => fn_X12_membersAt_b64 fu_el l1 l2 v6 v8 v9 (0 : Int32) σ7
def fn_X12_membersAt_b39  (k14 : Option Nat → Int32 → Int32 → Option Nat → Int32 → Int32 → Hs → Option (Option Nat × Hs)) (l0 : Option Nat) (l1 : Int32) (l2 : Int32) (l3 : Option Nat) (l4 : Int32) (l5 : Int32) (σ : Hs) : Option (Option Nat × Hs) := k14 l0 l1 l2 l3 l4 (l5 + 1) σ
def fn_X12_membersAt_b14  : Nat → Option Nat → Int32 → Int32 → Option Nat → Int32 → Int32 → Hs → Option (Option Nat × Hs)
  | 0, _, _, _, _, _, _, _ => none
  | n + 1, l0, l1, l2, l3, l4, l5, σ => if l4 ≤ l5 then fn_X12_membersAt_b45 l0 l1 l2 σ else (ho_aR σ l3 [3, 4, 5, 6, 7, 8] l5).bind fun v10 => (ho_is σ v10 [7]).bind fun b11 => ho_b2 (fn_X8_isAt v10 l1 σ) fun v13 σ12 => if v13 = 0 then fn_X12_membersAt_b39 (fn_X12_membersAt_b14 n) l0 l1 l2 l3 l4 l5 σ12 else fn_X12_membersAt_b39 (fn_X12_membersAt_b14 n) l0 l1 (l2 + 1) l3 l4 l5 σ12
def fn_X12_membersAt (p0 : Option Nat) (p1 : Int32) (σ : Hs) : Option (Option Nat × Hs) := (ho_fR σ p0 [11] 1).bind fun v14 => (ho_len σ v14).bind fun v15 => fn_X12_membersAt_b14 fu_el p0 p1 (0 : Int32) v14 v15 (0 : Int32) σ
def fn_X12_init_b68  (l0 : Option Nat) (σ : Hs) : Option Hs := (ho_fI σ l0 [11] 2).bind fun v1 => ho_b2 (ho_nJ σ v1) fun v2 σ3 => (ho_pR σ3 l0 [11] 4 v2).bind fun σ4 => (ho_fI σ4 l0 [11] 2).bind fun v5 => ho_b2 (ho_nJ σ4 v5) fun v6 σ7 => (ho_pR σ7 l0 [11] 5 v6).bind fun σ8 => (ho_fI σ8 l0 [11] 2).bind fun v9 => ho_b2 (ho_nJ σ8 v9) fun v10 σ11 => (ho_pR σ11 l0 [11] 6 v10).bind fun σ12 => (ho_fI σ12 l0 [11] 2).bind fun v13 => ho_b2 (ho_nJ σ12 v13) fun v14 σ15 => (ho_pR σ15 l0 [11] 7 v14).bind fun σ16 => some σ16
def fn_X12_init_b43  : Nat → Option Nat → Int32 → Hs → Option Hs
  | 0, _, _, _ => none
  | n + 1, l0, l2, σ => (ho_fI σ l0 [11] 2).bind fun v17 => if v17 ≤ l2 then fn_X12_init_b68 l0 σ else (ho_fR σ l0 [11] 3).bind fun v18 => (ho_is σ l0 [11]).bind fun b19 => ho_b2 (fn_X12_membersAt l0 l2 σ) fun v21 σ20 => (ho_tA σ20 v18 5 4 l2 v21).bind fun σ22 => fn_X12_init_b43 n l0 (l2 + 1) σ22
def fn_X12_init (p0 : Option Nat) (p1 : Option Nat) (σ : Hs) : Option Hs := p0.bind fun b23 => (ho_pR σ p0 [11] 0 p1).bind fun σ24 => (ho_is σ24 p1 [1]).bind fun b25 => ho_b2 (fn_X2_row p1 σ24) fun v27 σ26 => (ho_pR σ26 p0 [11] 1 v27).bind fun σ28 => (ho_fR σ28 p1 [1] 3).bind fun v29 => (ho_is σ28 v29 [13]).bind fun b30 => ho_b2 (fn_J2_size v29 σ28) fun v32 σ31 => (ho_pI σ31 p0 [11] 2 v32).bind fun σ33 => (ho_fI σ33 p0 [11] 2).bind fun v34 => ho_b2 (ho_nR σ33 5 v34) fun v35 σ36 => (ho_pR σ36 p0 [11] 3 v35).bind fun σ37 => fn_X12_init_b43 fu_el p0 (0 : Int32) σ37
def fn_X12_bears_b16  : Nat → Option Nat → Option Nat → Int32 → Int32 → Hs → Option (Int32 × Hs)
  | 0, _, _, _, _, _ => none
  | n + 1, l0, l2, l3, l4, σ => if l3 ≤ l4 then some ((1 : Int32), σ) else (ho_aR σ l2 [3, 4, 5, 6, 7, 8] l4).bind fun v1 => (ho_fR σ l0 [11] 0).bind fun v2 => (ho_is σ l0 [11]).bind fun b3 => ho_b2 (fn_X12_forceIn l0 v1 σ) fun v5 σ4 => (ho_is σ4 v2 [1]).bind fun b6 => ho_b2 (fn_X2_bears v2 v1 v5 σ4) fun v8 σ7 => if v8 = 0 then some ((0 : Int32), σ7) else fn_X12_bears_b16 n l0 l2 l3 (l4 + 1) σ7
def fn_X12_bears (p0 : Option Nat) (p1 : Int32) (σ : Hs) : Option (Int32 × Hs) := (ho_is σ p0 [11]).bind fun b9 => (fn_X12_relax p0 p1 σ).bind fun σ10 => (ho_fR σ10 p0 [11] 1).bind fun v11 => (ho_len σ10 v11).bind fun v12 => fn_X12_bears_b16 fu_el p0 v11 v12 (0 : Int32) σ10
def fn_X12_bearsLoads_b10  : Nat → Option Nat → Int32 → Int32 → Hs → Option (Int32 × Hs)
  | 0, _, _, _, _ => none
  | n + 1, l0, l1, l2, σ => if l1 ≤ l2 then some ((1 : Int32), σ) else (ho_is σ l0 [11]).bind fun b1 => ho_b2 (fn_X12_bears l0 l2 σ) fun v3 σ2 => if v3 = 0 then some ((0 : Int32), σ2) else fn_X12_bearsLoads_b10 n l0 l1 (l2 + 1) σ2
def fn_X12_bearsLoads (p0 : Option Nat) (σ : Hs) : Option (Int32 × Hs) := (ho_fR σ p0 [11] 0).bind fun v4 => (ho_is σ v4 [1]).bind fun b5 => ho_b2 (fn_X2_countStages v4 σ) fun v7 σ6 => fn_X12_bearsLoads_b10 fu_el p0 v7 (0 : Int32) σ6
def fn_X12_failures_b92 (ev : Nat → Option Nat)  (k18 : Option Nat → Option Nat → Int32 → Int32 → Hs → Option (Option Nat × Hs)) (l0 : Option Nat) (l1 : Option Nat) (l2 : Int32) (l3 : Int32) (σ : Hs) : Option (Option Nat × Hs) := k18 l0 l1 l2 (l3 + 1) σ
def fn_X12_failures_b86 (ev : Nat → Option Nat)  (k31 : Option Nat → Option Nat → Int32 → Int32 → Int32 → Hs → Option (Option Nat × Hs)) (l0 : Option Nat) (l1 : Option Nat) (l2 : Int32) (l3 : Int32) (l4 : Int32) (σ : Hs) : Option (Option Nat × Hs) := k31 l0 l1 l2 l3 (l4 + 1) σ
def fn_X12_failures_b31 (ev : Nat → Option Nat)  (k18 : Option Nat → Option Nat → Int32 → Int32 → Hs → Option (Option Nat × Hs)) : Nat → Option Nat → Option Nat → Int32 → Int32 → Int32 → Hs → Option (Option Nat × Hs)
  | 0, _, _, _, _, _, _ => none
  | n + 1, l0, l1, l2, l3, l4, σ => (ho_fR σ l0 [11] 1).bind fun v1 => (ho_len σ v1).bind fun v2 => if v2 ≤ l4 then fn_X12_failures_b92 ev k18 l0 l1 l2 l3 σ else (ho_fR σ l0 [11] 0).bind fun v3 => (ho_fR σ l0 [11] 1).bind fun v4 => (ho_aR σ v4 [3, 4, 5, 6, 7, 8] l4).bind fun v5 => (ho_fR σ l0 [11] 1).bind fun v6 => (ho_aR σ v6 [3, 4, 5, 6, 7, 8] l4).bind fun v7 => (ho_is σ l0 [11]).bind fun b8 => ho_b2 (fn_X12_forceIn l0 v7 σ) fun v10 σ9 => (ho_is σ9 v3 [1]).bind fun b11 => ho_b2 (fn_X2_bears v3 v5 v10 σ9) fun v13 σ12 => if v13 = 0 then ho_b2 (ho_new σ12 (.inr (12, [.int 0, .int 0])) 2) fun v14 σ15 => v14.bind fun b16 => (fn_X13_init v14 l3 l4 σ15).bind fun σ17 => (ho_is σ17 l1 [24]).bind fun b18 => ho_b2 (fn_J44_add ev l1 v14 σ17) fun v20 σ19 => fn_X12_failures_b86 ev (fn_X12_failures_b31 ev k18 n) l0 l1 l2 l3 l4 σ19 else fn_X12_failures_b86 ev (fn_X12_failures_b31 ev k18 n) l0 l1 l2 l3 l4 σ12
def fn_X12_failures_b18 (ev : Nat → Option Nat)  : Nat → Option Nat → Option Nat → Int32 → Int32 → Hs → Option (Option Nat × Hs)
  | 0, _, _, _, _, _ => none
  | n + 1, l0, l1, l2, l3, σ => if l2 ≤ l3 then some (l1, σ) else (ho_is σ l0 [11]).bind fun b21 => (fn_X12_relax l0 l3 σ).bind fun σ22 => fn_X12_failures_b31 ev (fn_X12_failures_b18 ev n) fu_el l0 l1 l2 l3 (0 : Int32) σ22
def fn_X12_failures (ev : Nat → Option Nat) (p0 : Option Nat) (σ : Hs) : Option (Option Nat × Hs) := ho_b2 (ho_new σ (.inr (24, [.null])) 1) fun v23 σ24 => v23.bind fun b25 => (fn_J45_init v23 σ24).bind fun σ26 => (ho_fR σ26 p0 [11] 0).bind fun v27 => (ho_is σ26 v27 [1]).bind fun b28 => ho_b2 (fn_X2_countStages v27 σ26) fun v30 σ29 => fn_X12_failures_b18 ev fu_el p0 v23 v30 (0 : Int32) σ29
def fn_X2_bearsLoads (p0 : Option Nat) (σ : Hs) : Option (Int32 × Hs) := ho_b2 (ho_new σ (.inr (11, [.null, .null, .int 0, .null, .null, .null, .null, .null])) 8) fun v1 σ2 => v1.bind fun b3 => (fn_X12_init v1 p0 σ2).bind fun σ4 => (ho_is σ4 v1 [11]).bind fun b5 => ho_b2 (fn_X12_bearsLoads v1 σ4) fun v7 σ6 => (ho_bool v7).bind fun v8 => some (v8, σ6)
def fn_X2_leastArea_b59  (l0 : Option Nat) (l1 : Int32) (l2 : Int32) (l4 : Int32) (σ : Hs) : Option (Int32 × Hs) := (ho_fR σ l0 [1] 6).bind fun v1 => (ho_tI σ v1 0 l1 l2).bind fun σ2 => some (l4, σ2)
def fn_X2_leastArea_b53  (k22 : Option Nat → Int32 → Int32 → Option Nat → Int32 → Int32 → Hs → Option (Int32 × Hs)) (l0 : Option Nat) (l1 : Int32) (l2 : Int32) (l3 : Option Nat) (l4 : Int32) (l5 : Int32) (σ : Hs) : Option (Int32 × Hs) := k22 l0 l1 l2 l3 l4 (l5 + 1) σ
def fn_X2_leastArea_b22  : Nat → Option Nat → Int32 → Int32 → Option Nat → Int32 → Int32 → Hs → Option (Int32 × Hs)
  | 0, _, _, _, _, _, _, _ => none
  | n + 1, l0, l1, l2, l3, l4, l5, σ => if (50 : Int32) < l5 then fn_X2_leastArea_b59 l0 l1 l2 l4 σ else if 0 ≤ l4 then fn_X2_leastArea_b59 l0 l1 l2 l4 σ else (ho_fR σ l0 [1] 6).bind fun v3 => (ho_tI σ v3 0 l1 l5).bind fun σ4 => (ho_is σ4 l3 [11]).bind fun b5 => ho_b2 (fn_X12_bearsLoads l3 σ4) fun v7 σ6 => if v7 = 0 then fn_X2_leastArea_b53 (fn_X2_leastArea_b22 n) l0 l1 l2 l3 l4 l5 σ6 else fn_X2_leastArea_b53 (fn_X2_leastArea_b22 n) l0 l1 l2 l3 l5 l5 σ6
def fn_X2_leastArea (p0 : Option Nat) (p1 : Int32) (σ : Hs) : Option (Int32 × Hs) := (ho_fR σ p0 [1] 6).bind fun v8 => (ho_aI σ v8 [0, 90] p1).bind fun v9 => ho_b2 (ho_new σ (.inr (11, [.null, .null, .int 0, .null, .null, .null, .null, .null])) 8) fun v10 σ11 => v10.bind fun b12 => (fn_X12_init v10 p0 σ11).bind fun σ13 => fn_X2_leastArea_b22 fu_el p0 p1 v9 v10 (-1 : Int32) (1 : Int32) σ13
theorem cx_X2_169 : cxV "ElasticTruss$Truss" "ElasticTruss$Truss" 169 yX2_bucklingOf cX2_bucklingOf 2 (Option.some FieldType.int) 1 := ⟨q1255, q1256, q1257, q103, q1258, ⟨by decide +kernel, by decide +kernel⟩, fun sig h => by have e := (show (parseMethodDescriptor (yX2_bucklingOf).desc).map (fun d => d.parameters.length) = some 1 by decide +kernel); rw [h] at e; exact (Option.some.inj e).symm⟩
theorem cx_X2_172 : cxS "ElasticTruss$Truss" 172 yJ12_min cJ12_min 2 (Option.some FieldType.int) 2 := ⟨q1289, q325, q116, q326, ⟨by decide +kernel, by decide +kernel⟩, fun sig h => by have e := (show (parseMethodDescriptor (yJ12_min).desc).map (fun d => d.parameters.length) = some 2 by decide +kernel); rw [h] at e; exact (Option.some.inj e).symm⟩
theorem cx_X2_178 : cxV "ElasticTruss$Truss" "ElasticTruss$Truss" 178 yX2_capacityOf cX2_capacityOf 4 (Option.some FieldType.int) 2 := ⟨q1251, q1252, q1253, q103, q1254, ⟨by decide +kernel, by decide +kernel⟩, fun sig h => by have e := (show (parseMethodDescriptor (yX2_capacityOf).desc).map (fun d => d.parameters.length) = some 2 by decide +kernel); rw [h] at e; exact (Option.some.inj e).symm⟩
theorem cx_X2_174 : cxS "ElasticTruss$Truss" 174 yJ12_abs cJ12_abs 1 (Option.some FieldType.int) 1 := ⟨q1292, q1293, q116, q1294, ⟨by decide +kernel, by decide +kernel⟩, fun sig h => by have e := (show (parseMethodDescriptor (yJ12_abs).desc).map (fun d => d.parameters.length) = some 1 by decide +kernel); rw [h] at e; exact (Option.some.inj e).symm⟩
theorem cx_X2_163 : cxS "ElasticTruss$Truss" 163 yJ12_min_2 cJ12_min_2 4 (Option.some FieldType.long) 2 := ⟨q1287, q1236, q116, q1237, ⟨by decide +kernel, by decide +kernel⟩, fun sig h => by have e := (show (parseMethodDescriptor (yJ12_min_2).desc).map (fun d => d.parameters.length) = some 2 by decide +kernel); rw [h] at e; exact (Option.some.inj e).symm⟩
theorem fx_X12_46 : fx "ElasticTruss$Relaxation" 46 [11] 4 := ⟨"ElasticTruss$Relaxation", "ElasticTruss$Relaxation", "ux", "[J", ⟨Or.inl q1153, Or.inl rfl⟩, fx_c (r := (RX12, TX12, 8)) (Nat.le_of_ble_eq_true rfl) rfl (Nat.le_of_ble_eq_true rfl) rfl rfl rfl (fx_0)⟩
theorem fx_X12_65 : fx "ElasticTruss$Relaxation" 65 [7] 1 := ⟨"ElasticTruss$Member", "ElasticTruss$Member", "second", "I", ⟨Or.inr ⟨_, lw_n q2951 rfl⟩, Or.inl rfl⟩, fx_c (r := (RX8, TX8, 6)) (Nat.le_of_ble_eq_true rfl) rfl (Nat.le_of_ble_eq_true rfl) rfl rfl rfl (fx_0)⟩
theorem fx_X12_68 : fx "ElasticTruss$Relaxation" 68 [7] 0 := ⟨"ElasticTruss$Member", "ElasticTruss$Member", "first", "I", ⟨Or.inr ⟨_, lw_n q2947 rfl⟩, Or.inl rfl⟩, fx_c (r := (RX8, TX8, 6)) (Nat.le_of_ble_eq_true rfl) rfl (Nat.le_of_ble_eq_true rfl) rfl rfl rfl (fx_0)⟩
theorem fx_X12_71 : fx "ElasticTruss$Relaxation" 71 [7] 3 := ⟨"ElasticTruss$Member", "ElasticTruss$Member", "dx", "I", ⟨Or.inr ⟨_, lw_n q2958 rfl⟩, Or.inl rfl⟩, fx_c (r := (RX8, TX8, 6)) (Nat.le_of_ble_eq_true rfl) rfl (Nat.le_of_ble_eq_true rfl) rfl rfl rfl (fx_0)⟩
theorem fx_X12_50 : fx "ElasticTruss$Relaxation" 50 [11] 5 := ⟨"ElasticTruss$Relaxation", "ElasticTruss$Relaxation", "uy", "[J", ⟨Or.inl q1155, Or.inl rfl⟩, fx_c (r := (RX12, TX12, 8)) (Nat.le_of_ble_eq_true rfl) rfl (Nat.le_of_ble_eq_true rfl) rfl rfl rfl (fx_0)⟩
theorem fx_X12_74 : fx "ElasticTruss$Relaxation" 74 [7] 4 := ⟨"ElasticTruss$Member", "ElasticTruss$Member", "dy", "I", ⟨Or.inr ⟨_, lw_n q2960 rfl⟩, Or.inl rfl⟩, fx_c (r := (RX8, TX8, 6)) (Nat.le_of_ble_eq_true rfl) rfl (Nat.le_of_ble_eq_true rfl) rfl rfl rfl (fx_0)⟩
theorem fx_X12_77 : fx "ElasticTruss$Relaxation" 77 [7] 5 := ⟨"ElasticTruss$Member", "ElasticTruss$Member", "length", "I", ⟨Or.inr ⟨_, lw_n q2962 rfl⟩, Or.inl rfl⟩, fx_c (r := (RX8, TX8, 6)) (Nat.le_of_ble_eq_true rfl) rfl (Nat.le_of_ble_eq_true rfl) rfl rfl rfl (fx_0)⟩
theorem fx_X12_7 : fx "ElasticTruss$Relaxation" 7 [11] 0 := ⟨"ElasticTruss$Relaxation", "ElasticTruss$Relaxation", "truss", "LElasticTruss$Truss;", ⟨Or.inl q1147, Or.inl rfl⟩, fx_c (r := (RX12, TX12, 8)) (Nat.le_of_ble_eq_true rfl) rfl (Nat.le_of_ble_eq_true rfl) rfl rfl rfl (fx_0)⟩
theorem fx_X12_80 : fx "ElasticTruss$Relaxation" 80 [1] 0 := ⟨"ElasticTruss$Truss", "ElasticTruss$Truss", "modulus", "I", ⟨Or.inr ⟨_, lw_n q611 rfl⟩, Or.inl rfl⟩, fx_c (r := (RX2, TX2, 9)) (Nat.le_of_ble_eq_true rfl) rfl (Nat.le_of_ble_eq_true rfl) rfl rfl rfl (fx_0)⟩
theorem cx_X12_83 : cxV "ElasticTruss$Relaxation" "ElasticTruss$Truss" 83 yX2_areaOf cX2_areaOf 2 (Option.some FieldType.int) 1 := ⟨q1228, q1101, q1102, q103, q1103, ⟨by decide +kernel, by decide +kernel⟩, fun sig h => by have e := (show (parseMethodDescriptor (yX2_areaOf).desc).map (fun d => d.parameters.length) = some 1 by decide +kernel); rw [h] at e; exact (Option.some.inj e).symm⟩
theorem cx_X12_89 : cxSN "ElasticTruss$Relaxation" 89 "ElasticTruss" yX1_limited cX1_limited 2 (Option.some FieldType.long) 1 := ⟨lw_n q1230 rfl, q1231, q102, q1232, ⟨by decide +kernel, by decide +kernel⟩, fun sig h => by have e := (show (parseMethodDescriptor (yX1_limited).desc).map (fun d => d.parameters.length) = some 1 by decide +kernel); rw [h] at e; exact (Option.some.inj e).symm⟩
theorem cx_X12_95 : cxS "ElasticTruss$Relaxation" 95 yJ12_max_2 cJ12_max_2 4 (Option.some FieldType.long) 2 := ⟨q1245, q1239, q116, q1240, ⟨by decide +kernel, by decide +kernel⟩, fun sig h => by have e := (show (parseMethodDescriptor (yJ12_max_2).desc).map (fun d => d.parameters.length) = some 2 by decide +kernel); rw [h] at e; exact (Option.some.inj e).symm⟩
theorem fx_X12_38 : fx "ElasticTruss$Relaxation" 38 [11] 3 := ⟨"ElasticTruss$Relaxation", "ElasticTruss$Relaxation", "joined", "[[LElasticTruss$Member;", ⟨Or.inl q1151, Or.inl rfl⟩, fx_c (r := (RX12, TX12, 8)) (Nat.le_of_ble_eq_true rfl) rfl (Nat.le_of_ble_eq_true rfl) rfl rfl rfl (fx_0)⟩
theorem fx_X12_53 : fx "ElasticTruss$Relaxation" 53 [11] 6 := ⟨"ElasticTruss$Relaxation", "ElasticTruss$Relaxation", "rx", "[J", ⟨Or.inl q1157, Or.inl rfl⟩, fx_c (r := (RX12, TX12, 8)) (Nat.le_of_ble_eq_true rfl) rfl (Nat.le_of_ble_eq_true rfl) rfl rfl rfl (fx_0)⟩
theorem fx_X12_56 : fx "ElasticTruss$Relaxation" 56 [11] 7 := ⟨"ElasticTruss$Relaxation", "ElasticTruss$Relaxation", "ry", "[J", ⟨Or.inl q1159, Or.inl rfl⟩, fx_c (r := (RX12, TX12, 8)) (Nat.le_of_ble_eq_true rfl) rfl (Nat.le_of_ble_eq_true rfl) rfl rfl rfl (fx_0)⟩
theorem cx_X12_122 : cxV "ElasticTruss$Relaxation" "ElasticTruss$Relaxation" 122 yX12_forceIn cX12_forceIn 6 (Option.some FieldType.int) 1 := ⟨q1224, q1225, q1226, q161, q1227, ⟨by decide +kernel, by decide +kernel⟩, fun sig h => by have e := (show (parseMethodDescriptor (yX12_forceIn).desc).map (fun d => d.parameters.length) = some 1 by decide +kernel); rw [h] at e; exact (Option.some.inj e).symm⟩
theorem rx_11 : rx 11 "ElasticTruss$Relaxation" := Or.inl ⟨(Nat.le_of_ble_eq_true rfl), (RX12, TX12, 8), rfl, rfl⟩
theorem fx_X12_101 : fx "ElasticTruss$Relaxation" 101 [1] 4 := ⟨"ElasticTruss$Truss", "ElasticTruss$Truss", "loads", "Ljava/util/List;", ⟨Or.inr ⟨_, lw_n q620 rfl⟩, Or.inl rfl⟩, fx_c (r := (RX2, TX2, 9)) (Nat.le_of_ble_eq_true rfl) rfl (Nat.le_of_ble_eq_true rfl) rfl rfl rfl (fx_0)⟩
theorem cx_X12_27_13 : cxF "ElasticTruss$Relaxation" "java/util/ArrayList" 27 ⟨"java/util/List", "size", "()I"⟩ yJ2_size cJ2_size 1 (Option.some FieldType.int) 0 := ⟨q1135, by decide +kernel, q710, q712, q106, q714, fun sig h => by have e := (show (parseMethodDescriptor (⟨"java/util/List", "size", "()I"⟩ : MethodName).desc).map (fun d => d.parameters.length) = some 0 by decide +kernel); rw [h] at e; exact (Option.some.inj e).symm⟩
theorem cx_X12_104_13 : cxF "ElasticTruss$Relaxation" "java/util/ArrayList" 104 ⟨"java/util/List", "get", "(I)Ljava/lang/Object;"⟩ yJ2_get cJ2_get 2 (Option.some (FieldType.object "java/lang/Object")) 1 := ⟨q1187, by decide +kernel, q1190, q1192, q106, q1194, fun sig h => by have e := (show (parseMethodDescriptor (⟨"java/util/List", "get", "(I)Ljava/lang/Object;"⟩ : MethodName).desc).map (fun d => d.parameters.length) = some 1 by decide +kernel); rw [h] at e; exact (Option.some.inj e).symm⟩
theorem cx_X12_110 : cxV "ElasticTruss$Relaxation" "ElasticTruss$Load" 110 yX9_node cX9_node 1 (Option.some FieldType.int) 0 := ⟨q1211, q1212, q1213, q142, q1214, ⟨by decide +kernel, by decide +kernel⟩, fun sig h => by have e := (show (parseMethodDescriptor (yX9_node).desc).map (fun d => d.parameters.length) = some 0 by decide +kernel); rw [h] at e; exact (Option.some.inj e).symm⟩
theorem cx_X12_113 : cxV "ElasticTruss$Relaxation" "ElasticTruss$Load" 113 yX9_stage cX9_stage 1 (Option.some FieldType.int) 0 := ⟨q1215, q878, q879, q142, q880, ⟨by decide +kernel, by decide +kernel⟩, fun sig h => by have e := (show (parseMethodDescriptor (yX9_stage).desc).map (fun d => d.parameters.length) = some 0 by decide +kernel); rw [h] at e; exact (Option.some.inj e).symm⟩
theorem cx_X12_116 : cxV "ElasticTruss$Relaxation" "ElasticTruss$Load" 116 yX9_fx cX9_fx 1 (Option.some FieldType.int) 0 := ⟨q1216, q1217, q1218, q142, q1219, ⟨by decide +kernel, by decide +kernel⟩, fun sig h => by have e := (show (parseMethodDescriptor (yX9_fx).desc).map (fun d => d.parameters.length) = some 0 by decide +kernel); rw [h] at e; exact (Option.some.inj e).symm⟩
theorem cx_X12_119 : cxV "ElasticTruss$Relaxation" "ElasticTruss$Load" 119 yX9_fy cX9_fy 1 (Option.some FieldType.int) 0 := ⟨q1220, q1221, q1222, q142, q1223, ⟨by decide +kernel, by decide +kernel⟩, fun sig h => by have e := (show (parseMethodDescriptor (yX9_fy).desc).map (fun d => d.parameters.length) = some 0 by decide +kernel); rw [h] at e; exact (Option.some.inj e).symm⟩
theorem fx_X12_33 : fx "ElasticTruss$Relaxation" 33 [11] 2 := ⟨"ElasticTruss$Relaxation", "ElasticTruss$Relaxation", "nodeCount", "I", ⟨Or.inl q1150, Or.inl rfl⟩, fx_c (r := (RX12, TX12, 8)) (Nat.le_of_ble_eq_true rfl) rfl (Nat.le_of_ble_eq_true rfl) rfl rfl rfl (fx_0)⟩
theorem fx_X12_23 : fx "ElasticTruss$Relaxation" 23 [1] 3 := ⟨"ElasticTruss$Truss", "ElasticTruss$Truss", "nodes", "Ljava/util/List;", ⟨Or.inr ⟨_, lw_n q615 rfl⟩, Or.inl rfl⟩, fx_c (r := (RX2, TX2, 9)) (Nat.le_of_ble_eq_true rfl) rfl (Nat.le_of_ble_eq_true rfl) rfl rfl rfl (fx_0)⟩
theorem fx_X12_136 : fx "ElasticTruss$Relaxation" 136 [5] 2 := ⟨"ElasticTruss$Node", "ElasticTruss$Node", "isFixed", "Z", ⟨Or.inr ⟨_, lw_n q2838 rfl⟩, Or.inl rfl⟩, fx_c (r := (RX6, TX6, 4)) (Nat.le_of_ble_eq_true rfl) rfl (Nat.le_of_ble_eq_true rfl) rfl rfl rfl (fx_0)⟩
theorem cx_X12_140 : cxV "ElasticTruss$Relaxation" "ElasticTruss$Relaxation" 140 yX12_balance cX12_balance 14 (Option.none : Option FieldType) 2 := ⟨q1206, q1207, q1208, q161, q1209, ⟨by decide +kernel, by decide +kernel⟩, fun sig h => by have e := (show (parseMethodDescriptor (yX12_balance).desc).map (fun d => d.parameters.length) = some 2 by decide +kernel); rw [h] at e; exact (Option.some.inj e).symm⟩
theorem cx_X12_144 : cxV "ElasticTruss$Relaxation" "ElasticTruss$Relaxation" 144 yX12_stiffness cX12_stiffness 8 (Option.some FieldType.long) 1 := ⟨q1241, q1243, qs3, q161, q1244, ⟨by decide +kernel, by decide +kernel⟩, fun sig h => by have e := (show (parseMethodDescriptor (yX12_stiffness).desc).map (fun d => d.parameters.length) = some 1 by decide +kernel); rw [h] at e; exact (Option.some.inj e).symm⟩
theorem fx_X12_148 : fx "ElasticTruss$Relaxation" 148 [5] 3 := ⟨"ElasticTruss$Node", "ElasticTruss$Node", "isOnRoller", "Z", ⟨Or.inr ⟨_, lw_n q2840 rfl⟩, Or.inl rfl⟩, fx_c (r := (RX6, TX6, 4)) (Nat.le_of_ble_eq_true rfl) rfl (Nat.le_of_ble_eq_true rfl) rfl rfl rfl (fx_0)⟩
theorem fx_X12_131 : fx "ElasticTruss$Relaxation" 131 [1] 2 := ⟨"ElasticTruss$Truss", "ElasticTruss$Truss", "sweeps", "I", ⟨Or.inr ⟨_, lw_n q614 rfl⟩, Or.inl rfl⟩, fx_c (r := (RX2, TX2, 9)) (Nat.le_of_ble_eq_true rfl) rfl (Nat.le_of_ble_eq_true rfl) rfl rfl rfl (fx_0)⟩
theorem cx_X12_125 : cxS "ElasticTruss$Relaxation" 125 yJ13_fill cJ13_fill 5 (Option.none : Option FieldType) 2 := ⟨q1183, q1184, q117, q1185, ⟨by decide +kernel, by decide +kernel⟩, fun sig h => by have e := (show (parseMethodDescriptor (yJ13_fill).desc).map (fun d => d.parameters.length) = some 2 by decide +kernel); rw [h] at e; exact (Option.some.inj e).symm⟩
theorem cx_X12_59 : cxV "ElasticTruss$Relaxation" "ElasticTruss$Member" 59 yX8_isAt cX8_isAt 2 (Option.some FieldType.boolean) 1 := ⟨q1142, q1143, q1144, q137, q1145, ⟨by decide +kernel, by decide +kernel⟩, fun sig h => by have e := (show (parseMethodDescriptor (yX8_isAt).desc).map (fun d => d.parameters.length) = some 1 by decide +kernel); rw [h] at e; exact (Option.some.inj e).symm⟩
theorem fx_X12_19 : fx "ElasticTruss$Relaxation" 19 [11] 1 := ⟨"ElasticTruss$Relaxation", "ElasticTruss$Relaxation", "members", "[LElasticTruss$Member;", ⟨Or.inl q1148, Or.inl rfl⟩, fx_c (r := (RX12, TX12, 8)) (Nat.le_of_ble_eq_true rfl) rfl (Nat.le_of_ble_eq_true rfl) rfl rfl rfl (fx_0)⟩
theorem px_X12_46 : px "ElasticTruss$Relaxation" 46 [11] 4 (.array (.long)) true := ⟨"ElasticTruss$Relaxation", "ElasticTruss$Relaxation", "ux", "[J", ⟨Or.inl q1153, Or.inl rfl⟩, px_c (r := (RX12, TX12, 8)) (Nat.le_of_ble_eq_true rfl) rfl (Nat.le_of_ble_eq_true rfl) rfl (px_0), by decide +kernel, fun _ => ⟨rfl, q1153⟩⟩
theorem px_X12_50 : px "ElasticTruss$Relaxation" 50 [11] 5 (.array (.long)) true := ⟨"ElasticTruss$Relaxation", "ElasticTruss$Relaxation", "uy", "[J", ⟨Or.inl q1155, Or.inl rfl⟩, px_c (r := (RX12, TX12, 8)) (Nat.le_of_ble_eq_true rfl) rfl (Nat.le_of_ble_eq_true rfl) rfl (px_0), by decide +kernel, fun _ => ⟨rfl, q1155⟩⟩
theorem px_X12_53 : px "ElasticTruss$Relaxation" 53 [11] 6 (.array (.long)) true := ⟨"ElasticTruss$Relaxation", "ElasticTruss$Relaxation", "rx", "[J", ⟨Or.inl q1157, Or.inl rfl⟩, px_c (r := (RX12, TX12, 8)) (Nat.le_of_ble_eq_true rfl) rfl (Nat.le_of_ble_eq_true rfl) rfl (px_0), by decide +kernel, fun _ => ⟨rfl, q1157⟩⟩
theorem px_X12_56 : px "ElasticTruss$Relaxation" 56 [11] 7 (.array (.long)) true := ⟨"ElasticTruss$Relaxation", "ElasticTruss$Relaxation", "ry", "[J", ⟨Or.inl q1159, Or.inl rfl⟩, px_c (r := (RX12, TX12, 8)) (Nat.le_of_ble_eq_true rfl) rfl (Nat.le_of_ble_eq_true rfl) rfl (px_0), by decide +kernel, fun _ => ⟨rfl, q1159⟩⟩
theorem cx_X12_42 : cxV "ElasticTruss$Relaxation" "ElasticTruss$Relaxation" 42 yX12_membersAt cX12_membersAt 8 (Option.some (FieldType.array (FieldType.object "ElasticTruss$Member"))) 1 := ⟨q1138, q1140, qs2, q161, q1141, ⟨by decide +kernel, by decide +kernel⟩, fun sig h => by have e := (show (parseMethodDescriptor (yX12_membersAt).desc).map (fun d => d.parameters.length) = some 1 by decide +kernel); rw [h] at e; exact (Option.some.inj e).symm⟩
theorem px_X12_7 : px "ElasticTruss$Relaxation" 7 [11] 0 (.object "ElasticTruss$Truss") true := ⟨"ElasticTruss$Relaxation", "ElasticTruss$Relaxation", "truss", "LElasticTruss$Truss;", ⟨Or.inl q1147, Or.inl rfl⟩, px_c (r := (RX12, TX12, 8)) (Nat.le_of_ble_eq_true rfl) rfl (Nat.le_of_ble_eq_true rfl) rfl (px_0), by decide +kernel, fun _ => ⟨rfl, q1147⟩⟩
theorem cx_X12_13 : cxV "ElasticTruss$Relaxation" "ElasticTruss$Truss" 13 yX2_row cX2_row 5 (Option.some (FieldType.array (FieldType.object "ElasticTruss$Member"))) 0 := ⟨q1127, q1128, q1129, q103, q1130, ⟨by decide +kernel, by decide +kernel⟩, fun sig h => by have e := (show (parseMethodDescriptor (yX2_row).desc).map (fun d => d.parameters.length) = some 0 by decide +kernel); rw [h] at e; exact (Option.some.inj e).symm⟩
theorem px_X12_19 : px "ElasticTruss$Relaxation" 19 [11] 1 (.array (.object "ElasticTruss$Member")) true := ⟨"ElasticTruss$Relaxation", "ElasticTruss$Relaxation", "members", "[LElasticTruss$Member;", ⟨Or.inl q1148, Or.inl rfl⟩, px_c (r := (RX12, TX12, 8)) (Nat.le_of_ble_eq_true rfl) rfl (Nat.le_of_ble_eq_true rfl) rfl (px_0), by decide +kernel, fun _ => ⟨rfl, q1148⟩⟩
theorem px_X12_33 : px "ElasticTruss$Relaxation" 33 [11] 2 (.int) true := ⟨"ElasticTruss$Relaxation", "ElasticTruss$Relaxation", "nodeCount", "I", ⟨Or.inl q1150, Or.inl rfl⟩, px_c (r := (RX12, TX12, 8)) (Nat.le_of_ble_eq_true rfl) rfl (Nat.le_of_ble_eq_true rfl) rfl (px_0), by decide +kernel, fun _ => ⟨rfl, q1150⟩⟩
theorem px_X12_38 : px "ElasticTruss$Relaxation" 38 [11] 3 (.array (.array (.object "ElasticTruss$Member"))) true := ⟨"ElasticTruss$Relaxation", "ElasticTruss$Relaxation", "joined", "[[LElasticTruss$Member;", ⟨Or.inl q1151, Or.inl rfl⟩, px_c (r := (RX12, TX12, 8)) (Nat.le_of_ble_eq_true rfl) rfl (Nat.le_of_ble_eq_true rfl) rfl (px_0), by decide +kernel, fun _ => ⟨rfl, q1151⟩⟩
theorem cx_X12_155 : cxV "ElasticTruss$Relaxation" "ElasticTruss$Truss" 155 yX2_bears cX2_bears 3 (Option.some FieldType.boolean) 2 := ⟨q1825, q1826, q1827, q103, q1828, ⟨by decide +kernel, by decide +kernel⟩, fun sig h => by have e := (show (parseMethodDescriptor (yX2_bears).desc).map (fun d => d.parameters.length) = some 2 by decide +kernel); rw [h] at e; exact (Option.some.inj e).symm⟩
theorem cx_X12_151 : cxV "ElasticTruss$Relaxation" "ElasticTruss$Relaxation" 151 yX12_relax cX12_relax 7 (Option.none : Option FieldType) 1 := ⟨q1824, q1180, q1181, q161, q1182, ⟨by decide +kernel, by decide +kernel⟩, fun sig h => by have e := (show (parseMethodDescriptor (yX12_relax).desc).map (fun d => d.parameters.length) = some 1 by decide +kernel); rw [h] at e; exact (Option.some.inj e).symm⟩
theorem cx_X12_162 : cxV "ElasticTruss$Relaxation" "ElasticTruss$Relaxation" 162 yX12_bears cX12_bears 6 (Option.some FieldType.boolean) 1 := ⟨q2634, q2636, qs22, q161, q2637, ⟨by decide +kernel, by decide +kernel⟩, fun sig h => by have e := (show (parseMethodDescriptor (yX12_bears).desc).map (fun d => d.parameters.length) = some 1 by decide +kernel); rw [h] at e; exact (Option.some.inj e).symm⟩
theorem cx_X12_159 : cxV "ElasticTruss$Relaxation" "ElasticTruss$Truss" 159 yX2_countStages cX2_countStages 4 (Option.some FieldType.int) 0 := ⟨q1823, q738, q739, q103, q740, ⟨by decide +kernel, by decide +kernel⟩, fun sig h => by have e := (show (parseMethodDescriptor (yX2_countStages).desc).map (fun d => d.parameters.length) = some 0 by decide +kernel); rw [h] at e; exact (Option.some.inj e).symm⟩
theorem nx_X12_167 : nx "ElasticTruss$Relaxation" 167 12 2 [.int 0, .int 0] := ⟨(Nat.le_of_ble_eq_true rfl), rfl, RX13, TX13, tyX13, rfl, rfl, q1829, q1830, q169, by
  intro j hj
  match j, hj with
  | 0, _ => rfl
  | 1, _ => rfl
  | j + 2, hj => omega⟩
theorem cx_X12_169 : cxI "ElasticTruss$Relaxation" 169 yX13_init cX13_init 3 2 := ⟨q1831, q1832, q169, q1833, ⟨by decide +kernel, by decide +kernel⟩, rfl, fun sig h => by have e := (show (parseMethodDescriptor (yX13_init).desc).map (fun d => d.parameters.length) = some 2 by decide +kernel); rw [h] at e; exact (Option.some.inj e).symm⟩
theorem cx_X12_171_24 : cxF "ElasticTruss$Relaxation" "java/util/LinkedHashSet" 171 ⟨"java/util/Set", "add", "(Ljava/lang/Object;)Z"⟩ yJ44_add cJ44_add 2 (Option.some FieldType.boolean) 1 := ⟨q1845, by decide +kernel, q1857, q1859, q162, q1861, fun sig h => by have e := (show (parseMethodDescriptor (⟨"java/util/Set", "add", "(Ljava/lang/Object;)Z"⟩ : MethodName).desc).map (fun d => d.parameters.length) = some 1 by decide +kernel); rw [h] at e; exact (Option.some.inj e).symm⟩
theorem nx_X12_164 : nx "ElasticTruss$Relaxation" 164 24 1 [.null] := ⟨(Nat.le_of_ble_eq_true rfl), rfl, RJ45, TJ45, tyJ45, rfl, rfl, q1304, q1305, q163, by
  intro j hj
  match j, hj with
  | 0, _ => rfl
  | j + 1, hj => omega⟩
theorem cx_X12_166 : cxI "ElasticTruss$Relaxation" 166 yJ45_init cJ45_init 1 0 := ⟨q1306, q1307, q163, q1308, ⟨by decide +kernel, by decide +kernel⟩, rfl, fun sig h => by have e := (show (parseMethodDescriptor (yJ45_init).desc).map (fun d => d.parameters.length) = some 0 by decide +kernel); rw [h] at e; exact (Option.some.inj e).symm⟩
theorem nx_X2_186 : nx "ElasticTruss$Truss" 186 11 8 [.null, .null, .int 0, .null, .null, .null, .null, .null] := ⟨(Nat.le_of_ble_eq_true rfl), rfl, RX12, TX12, tyX12, rfl, rfl, q2628, q1122, q161, by
  intro j hj
  match j, hj with
  | 0, _ => rfl
  | 1, _ => rfl
  | 2, _ => rfl
  | 3, _ => rfl
  | 4, _ => rfl
  | 5, _ => rfl
  | 6, _ => rfl
  | 7, _ => rfl
  | j + 8, hj => omega⟩
theorem cx_X2_188 : cxI "ElasticTruss$Truss" 188 yX12_init cX12_init 3 1 := ⟨q2629, q1124, q161, q1125, ⟨by decide +kernel, by decide +kernel⟩, rfl, fun sig h => by have e := (show (parseMethodDescriptor (yX12_init).desc).map (fun d => d.parameters.length) = some 1 by decide +kernel); rw [h] at e; exact (Option.some.inj e).symm⟩
theorem cx_X2_191 : cxV "ElasticTruss$Truss" "ElasticTruss$Relaxation" 191 yX12_bearsLoads cX12_bearsLoads 3 (Option.some FieldType.boolean) 0 := ⟨q2630, q2631, q2632, q161, q2633, ⟨by decide +kernel, by decide +kernel⟩, fun sig h => by have e := (show (parseMethodDescriptor (yX12_bearsLoads).desc).map (fun d => d.parameters.length) = some 0 by decide +kernel); rw [h] at e; exact (Option.some.inj e).symm⟩
set_option maxHeartbeats 4000000 in
theorem mt_X2_bucklingOf {E : Ev} {l : Launch} (hl : l.stackTraces = false) {p0 : Option Nat} {p1 : Option Nat} {σ : Hs} {r : Int32} {σ' : Hs} (hf : fn_X2_bucklingOf p0 p1 σ = some (r, σ')) : wk_M E l yX2_bucklingOf (ws_ yX2_bucklingOf cX2_bucklingOf 2 (Option.some FieldType.int)) 1 21 [vR p0, vR p1] σ (.inl (some (.int r))) σ' := by
  refine wk_start (by decide +kernel) hl (Nat.le_of_ble_eq_true rfl) (fun K C hK => ?_)
  subst hK
  refine wk_L (L' := [(0, vR p0), (1, vR p1)]) rfl ?_
  unfold fn_X2_bucklingOf at hf
  refine wk_lconst (v := 0) C dX2_bucklingOf_0 rfl ?_
  refine wk_ldc2 C q609 dX2_bucklingOf_1 ?_
  refine wk_aload_n C 0 rfl dX2_bucklingOf_4 ?_
  obtain ⟨v1, h_v1, hf⟩ := ho_b hf
  refine wk_getR C fx_X2_41 h_v1 dX2_bucklingOf_5 ?_
  refine wk_aload_n C 1 rfl dX2_bucklingOf_8 ?_
  refine wk_aload_n C 0 rfl dX2_bucklingOf_9 ?_
  refine wk_aload_n C 1 rfl dX2_bucklingOf_10 ?_
  obtain ⟨b2, h_b2, hf⟩ := ho_b hf
  obtain ⟨v4, σ3, h_σ3, hf⟩ := ho_e2 hf
  refine wk_callV (av := [vR p1]) (rest := [vR p1, vR v1, vJ (1000000 : Int64), vJ (0 : Int64)]) (rv := some (vI v4)) C h_b2 rx_1 cx_X2_149 (mt_X2_areaOf (wk_C.tr C) h_σ3) rfl rfl (Nat.le_of_ble_eq_true rfl) (Nat.le_of_ble_eq_true rfl) (Nat.le_of_ble_eq_true rfl) dX2_bucklingOf_11 ?_
  refine wk_aload_n C 0 rfl dX2_bucklingOf_14 ?_
  obtain ⟨v5, h_v5, hf⟩ := ho_b hf
  refine wk_getI C fx_X2_45 h_v5 dX2_bucklingOf_15 ?_
  cases hf
set_option maxHeartbeats 4000000 in
theorem wb_X2_capacityOf_b28 {E : Ev} {K : Kx} (C : wk_C E K yX2_capacityOf cX2_capacityOf 4 (Option.some FieldType.int) 2 42 []) {r : Int32} {σ' : Hs} (t0 : Int32) (σ : Hs) (hf : fn_X2_capacityOf_b28 t0 σ = some (r, σ')) : wk_V E K (.inl (some (.int r))) σ' σ 28 [] [vI t0] := by
  unfold fn_X2_capacityOf_b28 at hf
  obtain ⟨rfl, rfl⟩ := Prod.mk.inj (Option.some.inj hf)
  exact wk_iret C rfl rfl dX2_capacityOf_28
set_option maxHeartbeats 4000000 in
theorem mt_X2_capacityOf {E : Ev} {l : Launch} (hl : l.stackTraces = false) {p0 : Option Nat} {p1 : Option Nat} {p2 : Int32} {σ : Hs} {r : Int32} {σ' : Hs} (hf : fn_X2_capacityOf p0 p1 p2 σ = some (r, σ')) : wk_M E l yX2_capacityOf (ws_ yX2_capacityOf cX2_capacityOf 4 (Option.some FieldType.int)) 2 42 [vR p0, vR p1, vI p2] σ (.inl (some (.int r))) σ' := by
  refine wk_start (by decide +kernel) hl (Nat.le_of_ble_eq_true rfl) (fun K C hK => ?_)
  subst hK
  refine wk_L (L' := [(0, vR p0), (1, vR p1), (2, vI p2)]) rfl ?_
  unfold fn_X2_capacityOf at hf
  refine wk_aload_n C 0 rfl dX2_capacityOf_0 ?_
  obtain ⟨v1, h_v1, hf⟩ := ho_b hf
  refine wk_getI C fx_X2_49 h_v1 dX2_capacityOf_1 ?_
  refine wk_aload_n C 0 rfl dX2_capacityOf_4 ?_
  refine wk_aload_n C 1 rfl dX2_capacityOf_5 ?_
  obtain ⟨b2, h_b2, hf⟩ := ho_b hf
  obtain ⟨v4, σ3, h_σ3, hf⟩ := ho_e2 hf
  refine wk_callV (av := [vR p1]) (rest := [vI v1]) (rv := some (vI v4)) C h_b2 rx_1 cx_X2_149 (mt_X2_areaOf (wk_C.tr C) h_σ3) rfl rfl (Nat.le_of_ble_eq_true rfl) (Nat.le_of_ble_eq_true rfl) (Nat.le_of_ble_eq_true rfl) dX2_capacityOf_6 ?_
  refine wk_imul C dX2_capacityOf_9 ?_
  obtain ⟨v5, e_v5, hf⟩ := ho_b hf
  refine wk_tI (Option.some.inj e_v5) ?_
  refine wk_istore_n (L' := [(0, vR p0), (1, vR p1), (2, vI p2), (3, vI v5)]) C (by decide) rfl dX2_capacityOf_10 ?_
  refine wk_iload_n C 2 rfl dX2_capacityOf_11 ?_
  refine wk_if_eq C 27 (by decide) dX2_capacityOf_12 (fun c_ => ?_) (fun c_ => ?_)
  · rw [if_pos c_] at hf
    refine wk_iload_n C 3 rfl dX2_capacityOf_27 ?_
    refine wk_sub (L' := []) [] rfl ?_
    exact wb_X2_capacityOf_b28 C  _ _ hf
  · rw [if_neg c_] at hf
    refine wk_iload_n C 3 rfl dX2_capacityOf_15 ?_
    refine wk_aload_n C 0 rfl dX2_capacityOf_16 ?_
    refine wk_aload_n C 1 rfl dX2_capacityOf_17 ?_
    obtain ⟨b6, h_b6, hf⟩ := ho_b hf
    obtain ⟨v8, σ7, h_σ7, hf⟩ := ho_e2 hf
    refine wk_callV (av := [vR p1]) (rest := [vI v5]) (rv := some (vI v8)) C h_b6 rx_1 cx_X2_169 (mt_X2_bucklingOf (wk_C.tr C) h_σ7) rfl rfl (Nat.le_of_ble_eq_true rfl) (Nat.le_of_ble_eq_true rfl) (Nat.le_of_ble_eq_true rfl) dX2_capacityOf_18 ?_
    obtain ⟨v10, σ9, h_σ9, hf⟩ := ho_e2 hf
    refine wk_callS (av := [vI v5, vI v8]) (rest := []) (rv := some (vI v10)) C cx_X2_172 (mt_J12_min (wk_C.tr C) h_σ9) rfl rfl (Nat.le_of_ble_eq_true rfl) (Nat.le_of_ble_eq_true rfl) (Nat.le_of_ble_eq_true rfl) dX2_capacityOf_21 ?_
    refine wk_goto C 28 (by decide) dX2_capacityOf_24 ?_
    refine wk_sub (L' := []) [] rfl ?_
    exact wb_X2_capacityOf_b28 C  _ _ hf
set_option maxHeartbeats 4000000 in
theorem wb_X2_useOf_b50 {E : Ev} {K : Kx} (C : wk_C E K yX2_useOf cX2_useOf 4 (Option.some FieldType.int) 3 65 []) {r : Int32} {σ' : Hs} (t0 : Int32) (σ : Hs) (hf : fn_X2_useOf_b50 t0 σ = some (r, σ')) : wk_V E K (.inl (some (.int r))) σ' σ 50 [] [vI t0] := by
  unfold fn_X2_useOf_b50 at hf
  obtain ⟨rfl, rfl⟩ := Prod.mk.inj (Option.some.inj hf)
  exact wk_iret C rfl rfl dX2_useOf_50
set_option maxHeartbeats 4000000 in
theorem wb_X2_useOf_b17 {E : Ev} {K : Kx} (C : wk_C E K yX2_useOf cX2_useOf 4 (Option.some FieldType.int) 3 65 []) {r : Int32} {σ' : Hs} (l2 : Int32) (t0 : Option Nat) (t1 : Option Nat) (t2 : Int32) (σ : Hs) (hf : fn_X2_useOf_b17 l2 t0 t1 t2 σ = some (r, σ')) : wk_V E K (.inl (some (.int r))) σ' σ 17 [(2, vI l2)] [vI t2, vR t1, vR t0] := by
  unfold fn_X2_useOf_b17 at hf
  obtain ⟨b1, h_b1, hf⟩ := ho_b hf
  obtain ⟨v3, σ2, h_σ2, hf⟩ := ho_e2 hf
  refine wk_callV (av := [vR t1, vI t2]) (rest := []) (rv := some (vI v3)) C h_b1 rx_1 cx_X2_178 (mt_X2_capacityOf (wk_C.tr C) h_σ2) rfl rfl (Nat.le_of_ble_eq_true rfl) (Nat.le_of_ble_eq_true rfl) (Nat.le_of_ble_eq_true rfl) dX2_useOf_17 ?_
  refine wk_istore_n (L' := [(2, vI l2), (3, vI v3)]) C (by decide) rfl dX2_useOf_20 ?_
  refine wk_iload_n C 1 rfl dX2_useOf_21 ?_
  refine wk_if_ne C 31 (by decide) dX2_useOf_22 (fun c_ => ?_) (fun c_ => ?_)
  · rw [if_neg c_] at hf
    refine wk_ldc2 C q1290 dX2_useOf_31 ?_
    refine wk_ldc2 C q1291 dX2_useOf_34 ?_
    refine wk_iload_n C 0 rfl dX2_useOf_37 ?_
    obtain ⟨v5, σ4, h_σ4, hf⟩ := ho_e2 hf
    refine wk_callS (av := [vI l2]) (rest := [vJ (1000 : Int64), vJ (9999 : Int64)]) (rv := some (vI v5)) C cx_X2_174 (mt_J12_abs (wk_C.tr C) h_σ4) rfl rfl (Nat.le_of_ble_eq_true rfl) (Nat.le_of_ble_eq_true rfl) (Nat.le_of_ble_eq_true rfl) dX2_useOf_38 ?_
    refine wk_i2l C dX2_useOf_41 ?_
    refine wk_lmul C dX2_useOf_42 ?_
    refine wk_iload_n C 1 rfl dX2_useOf_43 ?_
    refine wk_i2l C dX2_useOf_44 ?_
    obtain ⟨v6, h_v6, hf⟩ := ho_b hf
    refine wk_ldiv C dX2_useOf_45 h_v6 ?_
    obtain ⟨v8, σ7, h_σ7, hf⟩ := ho_e2 hf
    refine wk_callS (av := [vJ (9999 : Int64), vJ v6]) (rest := []) (rv := some (vJ v8)) C cx_X2_163 (mt_J12_min_2 (wk_C.tr C) h_σ7) rfl rfl (Nat.le_of_ble_eq_true rfl) (Nat.le_of_ble_eq_true rfl) (Nat.le_of_ble_eq_true rfl) dX2_useOf_46 ?_
    refine wk_l2i C dX2_useOf_49 ?_
    refine wk_sub (L' := []) [] rfl ?_
    exact wb_X2_useOf_b50 C  _ _ hf
  · rw [if_pos c_] at hf
    refine wk_sipush (v := 9999) C dX2_useOf_25 rfl ?_
    refine wk_goto C 50 (by decide) dX2_useOf_28 ?_
    refine wk_sub (L' := []) [] rfl ?_
    exact wb_X2_useOf_b50 C  _ _ hf
set_option maxHeartbeats 4000000 in
theorem mt_X2_useOf {E : Ev} {l : Launch} (hl : l.stackTraces = false) {p0 : Option Nat} {p1 : Option Nat} {p2 : Int32} {σ : Hs} {r : Int32} {σ' : Hs} (hf : fn_X2_useOf p0 p1 p2 σ = some (r, σ')) : wk_M E l yX2_useOf (ws_ yX2_useOf cX2_useOf 4 (Option.some FieldType.int)) 3 65 [vR p0, vR p1, vI p2] σ (.inl (some (.int r))) σ' := by
  refine wk_start (by decide +kernel) hl (Nat.le_of_ble_eq_true rfl) (fun K C hK => ?_)
  subst hK
  refine wk_L (L' := [(0, vR p0), (1, vR p1), (2, vI p2)]) rfl ?_
  unfold fn_X2_useOf at hf
  refine wk_iload_n C 2 rfl dX2_useOf_0 ?_
  refine wk_if_ne C 6 (by decide) dX2_useOf_1 (fun c_ => ?_) (fun c_ => ?_)
  · rw [if_neg c_] at hf
    refine wk_aload_n C 0 rfl dX2_useOf_6 ?_
    refine wk_aload_n C 1 rfl dX2_useOf_7 ?_
    refine wk_iload_n C 2 rfl dX2_useOf_8 ?_
    refine wk_if_ge C 16 (by decide) dX2_useOf_9 (fun c_ => ?_) (fun c_ => ?_)
    · rw [if_pos c_] at hf
      refine wk_iconst (v := 0) C dX2_useOf_16 rfl ?_
      refine wk_sub (L' := [(2, vI p2)]) [2] rfl ?_
      exact wb_X2_useOf_b17 C  _ _ _ _ _ hf
    · rw [if_neg c_] at hf
      refine wk_iconst (v := 1) C dX2_useOf_12 rfl ?_
      refine wk_goto C 17 (by decide) dX2_useOf_13 ?_
      refine wk_sub (L' := [(2, vI p2)]) [2] rfl ?_
      exact wb_X2_useOf_b17 C  _ _ _ _ _ hf
  · rw [if_pos c_] at hf
    refine wk_iconst (v := 0) C dX2_useOf_4 rfl ?_
    obtain ⟨rfl, rfl⟩ := Prod.mk.inj (Option.some.inj hf)
    exact wk_iret C rfl rfl dX2_useOf_5
set_option maxHeartbeats 4000000 in
theorem wb_X2_bears_b26 {E : Ev} {K : Kx} (C : wk_C E K yX2_bears cX2_bears 3 (Option.some FieldType.boolean) 3 65 []) {r : Int32} {σ' : Hs} (t0 : Int32) (σ : Hs) (hf : fn_X2_bears_b26 t0 σ = some (r, σ')) : wk_V E K (.inl (some (.int r))) σ' σ 26 [] [vI t0] := by
  unfold fn_X2_bears_b26 at hf
  obtain ⟨v1, h_v1, hf⟩ := ho_b hf
  obtain ⟨rfl, rfl⟩ := Prod.mk.inj (Option.some.inj hf)
  exact wk_zret C h_v1 rfl rfl dX2_bears_26
set_option maxHeartbeats 4000000 in
theorem wb_X2_bears_b15 {E : Ev} {K : Kx} (C : wk_C E K yX2_bears cX2_bears 3 (Option.some FieldType.boolean) 3 65 []) {r : Int32} {σ' : Hs} (t0 : Int32) (t1 : Option Nat) (t2 : Option Nat) (t3 : Int32) (σ : Hs) (hf : fn_X2_bears_b15 t0 t1 t2 t3 σ = some (r, σ')) : wk_V E K (.inl (some (.int r))) σ' σ 15 [] [vI t3, vR t2, vR t1, vI t0] := by
  unfold fn_X2_bears_b15 at hf
  obtain ⟨b2, h_b2, hf⟩ := ho_b hf
  obtain ⟨v4, σ3, h_σ3, hf⟩ := ho_e2 hf
  refine wk_callV (av := [vR t2, vI t3]) (rest := [vI t0]) (rv := some (vI v4)) C h_b2 rx_1 cx_X2_178 (mt_X2_capacityOf (wk_C.tr C) h_σ3) rfl rfl (Nat.le_of_ble_eq_true rfl) (Nat.le_of_ble_eq_true rfl) (Nat.le_of_ble_eq_true rfl) dX2_bears_15 ?_
  refine wk_icmp_gt C 25 (by decide) dX2_bears_18 (fun c_ => ?_) (fun c_ => ?_)
  · rw [if_pos c_] at hf
    refine wk_iconst (v := 0) C dX2_bears_25 rfl ?_
    exact wb_X2_bears_b26 C  _ _ hf
  · rw [if_neg c_] at hf
    refine wk_iconst (v := 1) C dX2_bears_21 rfl ?_
    refine wk_goto C 26 (by decide) dX2_bears_22 ?_
    exact wb_X2_bears_b26 C  _ _ hf
set_option maxHeartbeats 4000000 in
theorem mt_X2_bears {E : Ev} {l : Launch} (hl : l.stackTraces = false) {p0 : Option Nat} {p1 : Option Nat} {p2 : Int32} {σ : Hs} {r : Int32} {σ' : Hs} (hf : fn_X2_bears p0 p1 p2 σ = some (r, σ')) : wk_M E l yX2_bears (ws_ yX2_bears cX2_bears 3 (Option.some FieldType.boolean)) 3 65 [vR p0, vR p1, vI p2] σ (.inl (some (.int r))) σ' := by
  refine wk_start (by decide +kernel) hl (Nat.le_of_ble_eq_true rfl) (fun K C hK => ?_)
  subst hK
  refine wk_L (L' := [(0, vR p0), (1, vR p1), (2, vI p2)]) rfl ?_
  unfold fn_X2_bears at hf
  refine wk_iload_n C 2 rfl dX2_bears_0 ?_
  obtain ⟨v6, σ5, h_σ5, hf⟩ := ho_e2 hf
  refine wk_callS (av := [vI p2]) (rest := []) (rv := some (vI v6)) C cx_X2_174 (mt_J12_abs (wk_C.tr C) h_σ5) rfl rfl (Nat.le_of_ble_eq_true rfl) (Nat.le_of_ble_eq_true rfl) (Nat.le_of_ble_eq_true rfl) dX2_bears_1 ?_
  refine wk_aload_n C 0 rfl dX2_bears_4 ?_
  refine wk_aload_n C 1 rfl dX2_bears_5 ?_
  refine wk_iload_n C 2 rfl dX2_bears_6 ?_
  refine wk_if_ge C 14 (by decide) dX2_bears_7 (fun c_ => ?_) (fun c_ => ?_)
  · rw [if_pos c_] at hf
    refine wk_iconst (v := 0) C dX2_bears_14 rfl ?_
    refine wk_sub (L' := []) [] rfl ?_
    exact wb_X2_bears_b15 C  _ _ _ _ _ hf
  · rw [if_neg c_] at hf
    refine wk_iconst (v := 1) C dX2_bears_10 rfl ?_
    refine wk_goto C 15 (by decide) dX2_bears_11 ?_
    refine wk_sub (L' := []) [] rfl ?_
    exact wb_X2_bears_b15 C  _ _ _ _ _ hf
set_option maxHeartbeats 4000000 in
theorem mt_X12_forceIn {E : Ev} {l : Launch} (hl : l.stackTraces = false) {p0 : Option Nat} {p1 : Option Nat} {σ : Hs} {r : Int32} {σ' : Hs} (hf : fn_X12_forceIn p0 p1 σ = some (r, σ')) : wk_M E l yX12_forceIn (ws_ yX12_forceIn cX12_forceIn 6 (Option.some FieldType.int)) 2 44 [vR p0, vR p1] σ (.inl (some (.int r))) σ' := by
  refine wk_start (by decide +kernel) hl (Nat.le_of_ble_eq_true rfl) (fun K C hK => ?_)
  subst hK
  refine wk_L (L' := [(0, vR p0), (1, vR p1)]) rfl ?_
  unfold fn_X12_forceIn at hf
  refine wk_aload_n C 0 rfl dX12_forceIn_0 ?_
  obtain ⟨v1, h_v1, hf⟩ := ho_b hf
  refine wk_getR C fx_X12_46 h_v1 dX12_forceIn_1 ?_
  refine wk_aload_n C 1 rfl dX12_forceIn_4 ?_
  obtain ⟨v2, h_v2, hf⟩ := ho_b hf
  refine wk_getI C fx_X12_65 h_v2 dX12_forceIn_5 ?_
  obtain ⟨v3, h_v3, hf⟩ := ho_b hf
  refine wk_lald C h_v3 dX12_forceIn_8 ?_
  refine wk_aload_n C 0 rfl dX12_forceIn_9 ?_
  obtain ⟨v4, h_v4, hf⟩ := ho_b hf
  refine wk_getR C fx_X12_46 h_v4 dX12_forceIn_10 ?_
  refine wk_aload_n C 1 rfl dX12_forceIn_13 ?_
  obtain ⟨v5, h_v5, hf⟩ := ho_b hf
  refine wk_getI C fx_X12_68 h_v5 dX12_forceIn_14 ?_
  obtain ⟨v6, h_v6, hf⟩ := ho_b hf
  refine wk_lald C h_v6 dX12_forceIn_17 ?_
  refine wk_lsub C dX12_forceIn_18 ?_
  refine wk_aload_n C 1 rfl dX12_forceIn_19 ?_
  obtain ⟨v7, h_v7, hf⟩ := ho_b hf
  refine wk_getI C fx_X12_71 h_v7 dX12_forceIn_20 ?_
  refine wk_i2l C dX12_forceIn_23 ?_
  refine wk_lmul C dX12_forceIn_24 ?_
  refine wk_aload_n C 0 rfl dX12_forceIn_25 ?_
  obtain ⟨v8, h_v8, hf⟩ := ho_b hf
  refine wk_getR C fx_X12_50 h_v8 dX12_forceIn_26 ?_
  refine wk_aload_n C 1 rfl dX12_forceIn_29 ?_
  obtain ⟨v9, h_v9, hf⟩ := ho_b hf
  refine wk_getI C fx_X12_65 h_v9 dX12_forceIn_30 ?_
  obtain ⟨v10, h_v10, hf⟩ := ho_b hf
  refine wk_lald C h_v10 dX12_forceIn_33 ?_
  refine wk_aload_n C 0 rfl dX12_forceIn_34 ?_
  obtain ⟨v11, h_v11, hf⟩ := ho_b hf
  refine wk_getR C fx_X12_50 h_v11 dX12_forceIn_35 ?_
  refine wk_aload_n C 1 rfl dX12_forceIn_38 ?_
  obtain ⟨v12, h_v12, hf⟩ := ho_b hf
  refine wk_getI C fx_X12_68 h_v12 dX12_forceIn_39 ?_
  obtain ⟨v13, h_v13, hf⟩ := ho_b hf
  refine wk_lald C h_v13 dX12_forceIn_42 ?_
  refine wk_lsub C dX12_forceIn_43 ?_
  refine wk_aload_n C 1 rfl dX12_forceIn_44 ?_
  obtain ⟨v14, h_v14, hf⟩ := ho_b hf
  refine wk_getI C fx_X12_74 h_v14 dX12_forceIn_45 ?_
  refine wk_i2l C dX12_forceIn_48 ?_
  refine wk_lmul C dX12_forceIn_49 ?_
  refine wk_ladd C dX12_forceIn_50 ?_
  obtain ⟨v15, e_v15, hf⟩ := ho_b hf
  refine wk_tJ (Option.some.inj e_v15) ?_
  refine wk_lstore_n (L' := [(0, vR p0), (1, vR p1), (2, vJ v15)]) C (by decide) rfl dX12_forceIn_51 ?_
  refine wk_lload_n C 2 rfl dX12_forceIn_52 ?_
  refine wk_aload_n C 1 rfl dX12_forceIn_53 ?_
  obtain ⟨v16, h_v16, hf⟩ := ho_b hf
  refine wk_getI C fx_X12_77 h_v16 dX12_forceIn_54 ?_
  refine wk_i2l C dX12_forceIn_57 ?_
  obtain ⟨v17, h_v17, hf⟩ := ho_b hf
  refine wk_ldiv C dX12_forceIn_58 h_v17 ?_
  refine wk_lstore (L' := [(0, vR p0), (1, vR p1), (2, vJ v15), (4, vJ v17)]) C (by decide) rfl dX12_forceIn_59 ?_
  refine wk_aload_n C 0 rfl dX12_forceIn_61 ?_
  obtain ⟨v18, h_v18, hf⟩ := ho_b hf
  refine wk_getR C fx_X12_7 h_v18 dX12_forceIn_62 ?_
  obtain ⟨v19, h_v19, hf⟩ := ho_b hf
  refine wk_getI C fx_X12_80 h_v19 dX12_forceIn_65 ?_
  refine wk_i2l C dX12_forceIn_68 ?_
  refine wk_aload_n C 0 rfl dX12_forceIn_69 ?_
  obtain ⟨v20, h_v20, hf⟩ := ho_b hf
  refine wk_getR C fx_X12_7 h_v20 dX12_forceIn_70 ?_
  refine wk_aload_n C 1 rfl dX12_forceIn_73 ?_
  obtain ⟨b21, h_b21, hf⟩ := ho_b hf
  obtain ⟨v23, σ22, h_σ22, hf⟩ := ho_e2 hf
  refine wk_callV (av := [vR p1]) (rest := [vJ v19.toInt64]) (rv := some (vI v23)) C h_b21 rx_1 cx_X12_83 (mt_X2_areaOf (wk_C.tr C) h_σ22) rfl rfl (Nat.le_of_ble_eq_true rfl) (Nat.le_of_ble_eq_true rfl) (Nat.le_of_ble_eq_true rfl) dX12_forceIn_74 ?_
  refine wk_i2l C dX12_forceIn_77 ?_
  refine wk_lmul C dX12_forceIn_78 ?_
  refine wk_lload C 3 rfl dX12_forceIn_79 ?_
  refine wk_lmul C dX12_forceIn_81 ?_
  refine wk_ldc2 C q1229 dX12_forceIn_82 ?_
  refine wk_aload_n C 1 rfl dX12_forceIn_85 ?_
  obtain ⟨v24, h_v24, hf⟩ := ho_b hf
  refine wk_getI C fx_X12_77 h_v24 dX12_forceIn_86 ?_
  refine wk_i2l C dX12_forceIn_89 ?_
  refine wk_lmul C dX12_forceIn_90 ?_
  obtain ⟨v25, h_v25, hf⟩ := ho_b hf
  refine wk_ldiv C dX12_forceIn_91 h_v25 ?_
  obtain ⟨v27, σ26, h_σ26, hf⟩ := ho_e2 hf
  refine wk_callSN (av := [vJ v25]) (rest := []) (rv := some (vJ v27)) C cx_X12_89 (mt_X1_limited (wk_C.tr C) h_σ26) rfl rfl (Nat.le_of_ble_eq_true rfl) (Nat.le_of_ble_eq_true rfl) (Nat.le_of_ble_eq_true rfl) dX12_forceIn_92 ?_
  refine wk_l2i C dX12_forceIn_95 ?_
  obtain ⟨rfl, rfl⟩ := Prod.mk.inj (Option.some.inj hf)
  exact wk_iret C rfl rfl dX12_forceIn_96
set_option maxHeartbeats 4000000 in
theorem wb_X12_stiffness_b65 {E : Ev} {K : Kx} (C : wk_C E K yX12_stiffness cX12_stiffness 8 (Option.some FieldType.long) 1 23 []) {r : Int64} {σ' : Hs} (l2 : Int64) (σ : Hs) (hf : fn_X12_stiffness_b65 l2 σ = some (r, σ')) : wk_V E K (.inl (some (.long r))) σ' σ 65 [(2, vJ l2)] [] := by
  unfold fn_X12_stiffness_b65 at hf
  refine wk_lconst (v := 1) C dX12_stiffness_65 rfl ?_
  refine wk_lload_n C 0 rfl dX12_stiffness_66 ?_
  obtain ⟨v2, σ1, h_σ1, hf⟩ := ho_e2 hf
  refine wk_callS (av := [vJ (1 : Int64), vJ l2]) (rest := []) (rv := some (vJ v2)) C cx_X12_95 (mt_J12_max_2 (wk_C.tr C) h_σ1) rfl rfl (Nat.le_of_ble_eq_true rfl) (Nat.le_of_ble_eq_true rfl) (Nat.le_of_ble_eq_true rfl) dX12_stiffness_67 ?_
  obtain ⟨rfl, rfl⟩ := Prod.mk.inj (Option.some.inj hf)
  exact wk_lret C rfl rfl dX12_stiffness_70
set_option maxHeartbeats 4000000 in
theorem wb_X12_stiffness_b18 {E : Ev} {K : Kx} (C : wk_C E K yX12_stiffness cX12_stiffness 8 (Option.some FieldType.long) 1 23 []) {r : Int64} {σ' : Hs} : ∀ (n : Nat) (l0 : Option Nat) (l2 : Int64) (l4 : Option Nat) (l5 : Int32) (l6 : Int32) (σ : Hs), fn_X12_stiffness_b18 n l0 l2 l4 l5 l6 σ = some (r, σ') → wk_V E K (.inl (some (.long r))) σ' σ 18 [(0, vR l0), (2, vJ l2), (4, vR l4), (5, vI l5), (6, vI l6)] [] := by
  intro n
  induction n with
  | zero =>
    intro l0 l2 l4 l5 l6 σ hf
    rw [fn_X12_stiffness_b18] at hf
    cases hf
  | succ n ih =>
    intro l0 l2 l4 l5 l6 σ hf
    rw [fn_X12_stiffness_b18] at hf
    refine wk_iload C 4 rfl dX12_stiffness_18 ?_
    refine wk_iload C 3 rfl dX12_stiffness_20 ?_
    refine wk_icmp_ge C 65 (by decide) dX12_stiffness_22 (fun c_ => ?_) (fun c_ => ?_)
    · rw [if_pos c_] at hf
      refine wk_sub (L' := [(2, vJ l2)]) [1] rfl ?_
      exact wb_X12_stiffness_b65 C  _ _ hf
    · rw [if_neg c_] at hf
      refine wk_aload C 2 rfl dX12_stiffness_25 ?_
      refine wk_iload C 4 rfl dX12_stiffness_27 ?_
      obtain ⟨v3, h_v3, hf⟩ := ho_b hf
      refine wk_aald C h_v3 dX12_stiffness_29 ?_
      refine wk_astore (L' := [(0, vR l0), (2, vJ l2), (4, vR l4), (5, vI l5), (6, vI l6), (7, vR v3)]) C (by decide) rfl dX12_stiffness_30 ?_
      refine wk_lload_n C 1 rfl dX12_stiffness_32 ?_
      refine wk_aload_n C 0 rfl dX12_stiffness_33 ?_
      obtain ⟨v4, h_v4, hf⟩ := ho_b hf
      refine wk_getR C fx_X12_7 h_v4 dX12_stiffness_34 ?_
      obtain ⟨v5, h_v5, hf⟩ := ho_b hf
      refine wk_getI C fx_X12_80 h_v5 dX12_stiffness_37 ?_
      refine wk_aload_n C 0 rfl dX12_stiffness_40 ?_
      obtain ⟨v6, h_v6, hf⟩ := ho_b hf
      refine wk_getR C fx_X12_7 h_v6 dX12_stiffness_41 ?_
      refine wk_aload C 5 rfl dX12_stiffness_44 ?_
      obtain ⟨b7, h_b7, hf⟩ := ho_b hf
      obtain ⟨v9, σ8, h_σ8, hf⟩ := ho_e2 hf
      refine wk_callV (av := [vR v3]) (rest := [vI v5, vJ l2]) (rv := some (vI v9)) C h_b7 rx_1 cx_X12_83 (mt_X2_areaOf (wk_C.tr C) h_σ8) rfl rfl (Nat.le_of_ble_eq_true rfl) (Nat.le_of_ble_eq_true rfl) (Nat.le_of_ble_eq_true rfl) dX12_stiffness_46 ?_
      refine wk_imul C dX12_stiffness_49 ?_
      refine wk_aload C 5 rfl dX12_stiffness_50 ?_
      obtain ⟨v10, h_v10, hf⟩ := ho_b hf
      refine wk_getI C fx_X12_77 h_v10 dX12_stiffness_52 ?_
      obtain ⟨v11, h_v11, hf⟩ := ho_b hf
      refine wk_idiv C dX12_stiffness_55 h_v11 ?_
      refine wk_i2l C dX12_stiffness_56 ?_
      refine wk_ladd C dX12_stiffness_57 ?_
      obtain ⟨v12, e_v12, hf⟩ := ho_b hf
      refine wk_tJ (Option.some.inj e_v12) ?_
      refine wk_lstore_n (L' := [(0, vR l0), (2, vJ v12), (4, vR l4), (5, vI l5), (6, vI l6), (7, vR v3)]) C (by decide) rfl dX12_stiffness_58 ?_
      refine wk_iinc (v := l6 + 1) (L' := [(0, vR l0), (2, vJ v12), (4, vR l4), (5, vI l5), (6, vI (l6 + 1)), (7, vR v3)]) C 4 rfl (by decide) rfl rfl dX12_stiffness_59 ?_
      refine wk_goto C 18 (by decide) dX12_stiffness_62 ?_
      refine wk_sub (L' := [(0, vR l0), (2, vJ v12), (4, vR l4), (5, vI l5), (6, vI (l6 + 1))]) [0, 1, 2, 3, 4] rfl ?_
      exact ih _ _ _ _ _ _ hf
set_option maxHeartbeats 4000000 in
theorem mt_X12_stiffness {E : Ev} {l : Launch} (hl : l.stackTraces = false) {p0 : Option Nat} {p1 : Int32} {σ : Hs} {r : Int64} {σ' : Hs} (hf : fn_X12_stiffness p0 p1 σ = some (r, σ')) : wk_M E l yX12_stiffness (ws_ yX12_stiffness cX12_stiffness 8 (Option.some FieldType.long)) 1 23 [vR p0, vI p1] σ (.inl (some (.long r))) σ' := by
  refine wk_start (by decide +kernel) hl (Nat.le_of_ble_eq_true rfl) (fun K C hK => ?_)
  subst hK
  refine wk_L (L' := [(0, vR p0), (1, vI p1)]) rfl ?_
  unfold fn_X12_stiffness at hf
  refine wk_lconst (v := 0) C dX12_stiffness_0 rfl ?_
  refine wk_lstore_n (L' := [(0, vR p0), (1, vI p1), (2, vJ (0 : Int64))]) C (by decide) rfl dX12_stiffness_1 ?_
  refine wk_aload_n C 0 rfl dX12_stiffness_2 ?_
  obtain ⟨v13, h_v13, hf⟩ := ho_b hf
  refine wk_getR C fx_X12_38 h_v13 dX12_stiffness_3 ?_
  refine wk_iload_n C 1 rfl dX12_stiffness_6 ?_
  obtain ⟨v14, h_v14, hf⟩ := ho_b hf
  refine wk_aald C h_v14 dX12_stiffness_7 ?_
  refine wk_astore (L' := [(0, vR p0), (1, vI p1), (2, vJ (0 : Int64)), (4, vR v14)]) C (by decide) rfl dX12_stiffness_8 ?_
  refine wk_aload C 3 rfl dX12_stiffness_10 ?_
  obtain ⟨v15, h_v15, hf⟩ := ho_b hf
  refine wk_alen C h_v15 dX12_stiffness_12 ?_
  refine wk_istore (L' := [(0, vR p0), (1, vI p1), (2, vJ (0 : Int64)), (4, vR v14), (5, vI v15)]) C (by decide) rfl dX12_stiffness_13 ?_
  refine wk_iconst (v := 0) C dX12_stiffness_15 rfl ?_
  refine wk_istore (L' := [(0, vR p0), (1, vI p1), (2, vJ (0 : Int64)), (4, vR v14), (5, vI v15), (6, vI (0 : Int32))]) C (by decide) rfl dX12_stiffness_16 ?_
  refine wk_sub (L' := [(0, vR p0), (2, vJ (0 : Int64)), (4, vR v14), (5, vI v15), (6, vI (0 : Int32))]) [0, 2, 3, 4, 5] rfl ?_
  exact wb_X12_stiffness_b18 C  _ _ _ _ _ _ _ hf
set_option maxHeartbeats 4000000 in
theorem wb_X12_balance_b198 {E : Ev} {K : Kx} (C : wk_C E K yX12_balance cX12_balance 14 (Option.none : Option FieldType) 3 69 []) {σ' : Hs} (l0 : Option Nat) (l1 : Int32) (l3 : Int64) (l5 : Int64) (σ : Hs) (hf : fn_X12_balance_b198 l0 l1 l3 l5 σ = some σ') : wk_V E K (.inl none) σ' σ 198 [(0, vR l0), (1, vI l1), (3, vJ l3), (5, vJ l5)] [] := by
  unfold fn_X12_balance_b198 at hf
  refine wk_aload_n C 0 rfl dX12_balance_198 ?_
  obtain ⟨v1, h_v1, hf⟩ := ho_b hf
  refine wk_getR C fx_X12_53 h_v1 dX12_balance_199 ?_
  refine wk_iload_n C 1 rfl dX12_balance_202 ?_
  refine wk_lload_n C 2 rfl dX12_balance_203 ?_
  obtain ⟨σ2, h_σ2, hf⟩ := ho_b hf
  refine wk_last C h_σ2 dX12_balance_204 ?_
  refine wk_aload_n C 0 rfl dX12_balance_205 ?_
  obtain ⟨v3, h_v3, hf⟩ := ho_b hf
  refine wk_getR C fx_X12_56 h_v3 dX12_balance_206 ?_
  refine wk_iload_n C 1 rfl dX12_balance_209 ?_
  refine wk_lload C 3 rfl dX12_balance_210 ?_
  obtain ⟨σ4, h_σ4, hf⟩ := ho_b hf
  refine wk_last C h_σ4 dX12_balance_212 ?_
  obtain rfl := Option.some.inj hf
  exact wk_vret C rfl rfl dX12_balance_213
set_option maxHeartbeats 4000000 in
theorem wb_X12_balance_b135 {E : Ev} {K : Kx} (C : wk_C E K yX12_balance cX12_balance 14 (Option.none : Option FieldType) 3 69 []) {k107 : Option Nat → Int32 → Int64 → Int64 → Option Nat → Int32 → Int32 → Hs → Option Hs} {σ' : Hs} (hk107 : ∀ (l0 : Option Nat) (l1 : Int32) (l3 : Int64) (l5 : Int64) (l7 : Option Nat) (l8 : Int32) (l9 : Int32) (σ : Hs), k107 l0 l1 l3 l5 l7 l8 l9 σ = some σ' → wk_V E K (.inl none) σ' σ 107 [(0, vR l0), (1, vI l1), (3, vJ l3), (5, vJ l5), (7, vR l7), (8, vI l8), (9, vI l9)] []) (l0 : Option Nat) (l1 : Int32) (l3 : Int64) (l5 : Int64) (l7 : Option Nat) (l8 : Int32) (l9 : Int32) (l10 : Option Nat) (t0 : Int32) (σ : Hs) (hf : fn_X12_balance_b135 k107 l0 l1 l3 l5 l7 l8 l9 l10 t0 σ = some σ') : wk_V E K (.inl none) σ' σ 135 [(0, vR l0), (1, vI l1), (3, vJ l3), (5, vJ l5), (7, vR l7), (8, vI l8), (9, vI l9), (10, vR l10)] [vI t0] := by
  unfold fn_X12_balance_b135 at hf
  refine wk_istore (L' := [(0, vR l0), (1, vI l1), (3, vJ l3), (5, vJ l5), (7, vR l7), (8, vI l8), (9, vI l9), (10, vR l10), (11, vI t0)]) C (by decide) rfl dX12_balance_135 ?_
  refine wk_aload_n C 0 rfl dX12_balance_137 ?_
  refine wk_aload C 7 rfl dX12_balance_138 ?_
  obtain ⟨b5, h_b5, hf⟩ := ho_b hf
  obtain ⟨v7, σ6, h_σ6, hf⟩ := ho_e2 hf
  refine wk_callV (av := [vR l10]) (rest := []) (rv := some (vI v7)) C h_b5 rx_11 cx_X12_122 (mt_X12_forceIn (wk_C.tr C) h_σ6) rfl rfl (Nat.le_of_ble_eq_true rfl) (Nat.le_of_ble_eq_true rfl) (Nat.le_of_ble_eq_true rfl) dX12_balance_140 ?_
  refine wk_i2l C dX12_balance_143 ?_
  refine wk_lstore (L' := [(0, vR l0), (1, vI l1), (3, vJ l3), (5, vJ l5), (7, vR l7), (8, vI l8), (9, vI l9), (10, vR l10), (11, vI t0), (12, vJ v7.toInt64)]) C (by decide) rfl dX12_balance_144 ?_
  refine wk_lload_n C 2 rfl dX12_balance_146 ?_
  refine wk_lload C 9 rfl dX12_balance_147 ?_
  refine wk_iload C 8 rfl dX12_balance_149 ?_
  refine wk_aload C 7 rfl dX12_balance_151 ?_
  obtain ⟨v8, h_v8, hf⟩ := ho_b hf
  refine wk_getI C fx_X12_71 h_v8 dX12_balance_153 ?_
  refine wk_imul C dX12_balance_156 ?_
  refine wk_i2l C dX12_balance_157 ?_
  refine wk_lmul C dX12_balance_158 ?_
  refine wk_aload C 7 rfl dX12_balance_159 ?_
  obtain ⟨v9, h_v9, hf⟩ := ho_b hf
  refine wk_getI C fx_X12_77 h_v9 dX12_balance_161 ?_
  refine wk_i2l C dX12_balance_164 ?_
  obtain ⟨v10, h_v10, hf⟩ := ho_b hf
  refine wk_ldiv C dX12_balance_165 h_v10 ?_
  refine wk_ladd C dX12_balance_166 ?_
  obtain ⟨v11, e_v11, hf⟩ := ho_b hf
  refine wk_tJ (Option.some.inj e_v11) ?_
  refine wk_lstore_n (L' := [(0, vR l0), (1, vI l1), (3, vJ v11), (5, vJ l5), (7, vR l7), (8, vI l8), (9, vI l9), (10, vR l10), (11, vI t0), (12, vJ v7.toInt64)]) C (by decide) rfl dX12_balance_167 ?_
  refine wk_lload C 3 rfl dX12_balance_168 ?_
  refine wk_lload C 9 rfl dX12_balance_170 ?_
  refine wk_iload C 8 rfl dX12_balance_172 ?_
  refine wk_aload C 7 rfl dX12_balance_174 ?_
  obtain ⟨v12, h_v12, hf⟩ := ho_b hf
  refine wk_getI C fx_X12_74 h_v12 dX12_balance_176 ?_
  refine wk_imul C dX12_balance_179 ?_
  refine wk_i2l C dX12_balance_180 ?_
  refine wk_lmul C dX12_balance_181 ?_
  refine wk_aload C 7 rfl dX12_balance_182 ?_
  obtain ⟨v13, h_v13, hf⟩ := ho_b hf
  refine wk_getI C fx_X12_77 h_v13 dX12_balance_184 ?_
  refine wk_i2l C dX12_balance_187 ?_
  obtain ⟨v14, h_v14, hf⟩ := ho_b hf
  refine wk_ldiv C dX12_balance_188 h_v14 ?_
  refine wk_ladd C dX12_balance_189 ?_
  obtain ⟨v15, e_v15, hf⟩ := ho_b hf
  refine wk_tJ (Option.some.inj e_v15) ?_
  refine wk_lstore (L' := [(0, vR l0), (1, vI l1), (3, vJ v11), (5, vJ v15), (7, vR l7), (8, vI l8), (9, vI l9), (10, vR l10), (11, vI t0), (12, vJ v7.toInt64)]) C (by decide) rfl dX12_balance_190 ?_
  refine wk_iinc (v := l9 + 1) (L' := [(0, vR l0), (1, vI l1), (3, vJ v11), (5, vJ v15), (7, vR l7), (8, vI l8), (9, vI (l9 + 1)), (10, vR l10), (11, vI t0), (12, vJ v7.toInt64)]) C 6 rfl (by decide) rfl rfl dX12_balance_192 ?_
  refine wk_goto C 107 (by decide) dX12_balance_195 ?_
  refine wk_sub (L' := [(0, vR l0), (1, vI l1), (3, vJ v11), (5, vJ v15), (7, vR l7), (8, vI l8), (9, vI (l9 + 1))]) [0, 1, 2, 3, 4, 5, 6] rfl ?_
  exact hk107 _ _ _ _ _ _ _ _ hf
set_option maxHeartbeats 4000000 in
theorem wb_X12_balance_b107 {E : Ev} {K : Kx} (C : wk_C E K yX12_balance cX12_balance 14 (Option.none : Option FieldType) 3 69 []) {σ' : Hs} : ∀ (n : Nat) (l0 : Option Nat) (l1 : Int32) (l3 : Int64) (l5 : Int64) (l7 : Option Nat) (l8 : Int32) (l9 : Int32) (σ : Hs), fn_X12_balance_b107 n l0 l1 l3 l5 l7 l8 l9 σ = some σ' → wk_V E K (.inl none) σ' σ 107 [(0, vR l0), (1, vI l1), (3, vJ l3), (5, vJ l5), (7, vR l7), (8, vI l8), (9, vI l9)] [] := by
  intro n
  induction n with
  | zero =>
    intro l0 l1 l3 l5 l7 l8 l9 σ hf
    rw [fn_X12_balance_b107] at hf
    cases hf
  | succ n ih =>
    intro l0 l1 l3 l5 l7 l8 l9 σ hf
    rw [fn_X12_balance_b107] at hf
    refine wk_iload C 6 rfl dX12_balance_107 ?_
    refine wk_iload C 5 rfl dX12_balance_109 ?_
    refine wk_icmp_ge C 198 (by decide) dX12_balance_111 (fun c_ => ?_) (fun c_ => ?_)
    · rw [if_pos c_] at hf
      refine wk_sub (L' := [(0, vR l0), (1, vI l1), (3, vJ l3), (5, vJ l5)]) [0, 1, 2, 3] rfl ?_
      exact wb_X12_balance_b198 C  _ _ _ _ _ hf
    · rw [if_neg c_] at hf
      refine wk_aload C 4 rfl dX12_balance_114 ?_
      refine wk_iload C 6 rfl dX12_balance_116 ?_
      obtain ⟨v16, h_v16, hf⟩ := ho_b hf
      refine wk_aald C h_v16 dX12_balance_118 ?_
      refine wk_astore (L' := [(0, vR l0), (1, vI l1), (3, vJ l3), (5, vJ l5), (7, vR l7), (8, vI l8), (9, vI l9), (10, vR v16)]) C (by decide) rfl dX12_balance_119 ?_
      refine wk_aload C 7 rfl dX12_balance_121 ?_
      obtain ⟨v17, h_v17, hf⟩ := ho_b hf
      refine wk_getI C fx_X12_68 h_v17 dX12_balance_123 ?_
      refine wk_iload_n C 1 rfl dX12_balance_126 ?_
      refine wk_icmp_ne C 134 (by decide) dX12_balance_127 (fun c_ => ?_) (fun c_ => ?_)
      · rw [if_neg c_] at hf
        refine wk_iconst (v := -1) C dX12_balance_134 rfl ?_
        exact wb_X12_balance_b135 C ih _ _ _ _ _ _ _ _ _ _ hf
      · rw [if_pos c_] at hf
        refine wk_iconst (v := 1) C dX12_balance_130 rfl ?_
        refine wk_goto C 135 (by decide) dX12_balance_131 ?_
        exact wb_X12_balance_b135 C ih _ _ _ _ _ _ _ _ _ _ hf
set_option maxHeartbeats 4000000 in
theorem wb_X12_balance_b91 {E : Ev} {K : Kx} (C : wk_C E K yX12_balance cX12_balance 14 (Option.none : Option FieldType) 3 69 []) {σ' : Hs} (l0 : Option Nat) (l1 : Int32) (l3 : Int64) (l5 : Int64) (σ : Hs) (hf : fn_X12_balance_b91 l0 l1 l3 l5 σ = some σ') : wk_V E K (.inl none) σ' σ 91 [(0, vR l0), (1, vI l1), (3, vJ l3), (5, vJ l5)] [] := by
  unfold fn_X12_balance_b91 at hf
  refine wk_aload_n C 0 rfl dX12_balance_91 ?_
  obtain ⟨v18, h_v18, hf⟩ := ho_b hf
  refine wk_getR C fx_X12_38 h_v18 dX12_balance_92 ?_
  refine wk_iload_n C 1 rfl dX12_balance_95 ?_
  obtain ⟨v19, h_v19, hf⟩ := ho_b hf
  refine wk_aald C h_v19 dX12_balance_96 ?_
  refine wk_astore (L' := [(0, vR l0), (1, vI l1), (3, vJ l3), (5, vJ l5), (7, vR v19)]) C (by decide) rfl dX12_balance_97 ?_
  refine wk_aload C 4 rfl dX12_balance_99 ?_
  obtain ⟨v20, h_v20, hf⟩ := ho_b hf
  refine wk_alen C h_v20 dX12_balance_101 ?_
  refine wk_istore (L' := [(0, vR l0), (1, vI l1), (3, vJ l3), (5, vJ l5), (7, vR v19), (8, vI v20)]) C (by decide) rfl dX12_balance_102 ?_
  refine wk_iconst (v := 0) C dX12_balance_104 rfl ?_
  refine wk_istore (L' := [(0, vR l0), (1, vI l1), (3, vJ l3), (5, vJ l5), (7, vR v19), (8, vI v20), (9, vI (0 : Int32))]) C (by decide) rfl dX12_balance_105 ?_
  exact wb_X12_balance_b107 C  _ _ _ _ _ _ _ _ _ hf
set_option maxHeartbeats 4000000 in
theorem wb_X12_balance_b85 {E : Ev} {K : Kx} (C : wk_C E K yX12_balance cX12_balance 14 (Option.none : Option FieldType) 3 69 []) {k8 : Option Nat → Int32 → Int32 → Int64 → Int64 → Int32 → Hs → Option Hs} {σ' : Hs} (hk8 : ∀ (l0 : Option Nat) (l1 : Int32) (l2 : Int32) (l3 : Int64) (l5 : Int64) (l7 : Int32) (σ : Hs), k8 l0 l1 l2 l3 l5 l7 σ = some σ' → wk_V E K (.inl none) σ' σ 8 [(0, vR l0), (1, vI l1), (2, vI l2), (3, vJ l3), (5, vJ l5), (7, vI l7)] []) (l0 : Option Nat) (l1 : Int32) (l2 : Int32) (l3 : Int64) (l5 : Int64) (l7 : Int32) (σ : Hs) (hf : fn_X12_balance_b85 k8 l0 l1 l2 l3 l5 l7 σ = some σ') : wk_V E K (.inl none) σ' σ 85 [(0, vR l0), (1, vI l1), (2, vI l2), (3, vJ l3), (5, vJ l5), (7, vI l7)] [] := by
  unfold fn_X12_balance_b85 at hf
  refine wk_iinc (v := l7 + 1) (L' := [(0, vR l0), (1, vI l1), (2, vI l2), (3, vJ l3), (5, vJ l5), (7, vI (l7 + 1))]) C 5 rfl (by decide) rfl rfl dX12_balance_85 ?_
  refine wk_goto C 8 (by decide) dX12_balance_88 ?_
  exact hk8 _ _ _ _ _ _ _ hf
set_option maxHeartbeats 4000000 in
theorem wb_X12_balance_b8 {E : Ev} {K : Kx} (C : wk_C E K yX12_balance cX12_balance 14 (Option.none : Option FieldType) 3 69 []) {σ' : Hs} : ∀ (n : Nat) (l0 : Option Nat) (l1 : Int32) (l2 : Int32) (l3 : Int64) (l5 : Int64) (l7 : Int32) (σ : Hs), fn_X12_balance_b8 n l0 l1 l2 l3 l5 l7 σ = some σ' → wk_V E K (.inl none) σ' σ 8 [(0, vR l0), (1, vI l1), (2, vI l2), (3, vJ l3), (5, vJ l5), (7, vI l7)] [] := by
  intro n
  induction n with
  | zero =>
    intro l0 l1 l2 l3 l5 l7 σ hf
    rw [fn_X12_balance_b8] at hf
    cases hf
  | succ n ih =>
    intro l0 l1 l2 l3 l5 l7 σ hf
    rw [fn_X12_balance_b8] at hf
    refine wk_iload C 5 rfl dX12_balance_8 ?_
    refine wk_aload_n C 0 rfl dX12_balance_10 ?_
    obtain ⟨v21, h_v21, hf⟩ := ho_b hf
    refine wk_getR C fx_X12_7 h_v21 dX12_balance_11 ?_
    obtain ⟨v22, h_v22, hf⟩ := ho_b hf
    refine wk_getR C fx_X12_101 h_v22 dX12_balance_14 ?_
    obtain ⟨b23, h_b23, hf⟩ := ho_b hf
    obtain ⟨v25, σ24, h_σ24, hf⟩ := ho_e2 hf
    refine wk_callF (av := []) (rest := [vI l7]) (rv := some (vI v25)) C h_b23 rx_13 cx_X12_27_13 (mt_J2_size (wk_C.tr C) h_σ24) rfl rfl (Nat.le_of_ble_eq_true rfl) (Nat.le_of_ble_eq_true rfl) (Nat.le_of_ble_eq_true rfl) dX12_balance_17 ?_
    refine wk_icmp_ge C 91 (by decide) dX12_balance_22 (fun c_ => ?_) (fun c_ => ?_)
    · rw [if_pos c_] at hf
      refine wk_sub (L' := [(0, vR l0), (1, vI l1), (3, vJ l3), (5, vJ l5)]) [0, 1, 3, 4] rfl ?_
      exact wb_X12_balance_b91 C  _ _ _ _ _ hf
    · rw [if_neg c_] at hf
      refine wk_aload_n C 0 rfl dX12_balance_25 ?_
      obtain ⟨v26, h_v26, hf⟩ := ho_b hf
      refine wk_getR C fx_X12_7 h_v26 dX12_balance_26 ?_
      obtain ⟨v27, h_v27, hf⟩ := ho_b hf
      refine wk_getR C fx_X12_101 h_v27 dX12_balance_29 ?_
      refine wk_iload C 5 rfl dX12_balance_32 ?_
      obtain ⟨b28, h_b28, hf⟩ := ho_b hf
      obtain ⟨v30, σ29, h_σ29, hf⟩ := ho_e2 hf
      refine wk_callF (av := [vI l7]) (rest := []) (rv := some (vR v30)) C h_b28 rx_13 cx_X12_104_13 (mt_J2_get (wk_C.tr C) h_σ29) rfl rfl (Nat.le_of_ble_eq_true rfl) (Nat.le_of_ble_eq_true rfl) (Nat.le_of_ble_eq_true rfl) dX12_balance_34 ?_
      obtain ⟨u31, h_u31, hf⟩ := ho_b hf
      refine wk_cast C q1210 (List.forall_mem_cons.mpr ⟨ax_same rx_8 (Nat.le_of_ble_eq_true rfl), (List.forall_mem_nil _)⟩) h_u31 dX12_balance_39 ?_
      refine wk_astore (L' := [(0, vR l0), (1, vI l1), (2, vI l2), (3, vJ l3), (5, vJ l5), (7, vI l7), (8, vR v30)]) C (by decide) rfl dX12_balance_42 ?_
      refine wk_aload C 6 rfl dX12_balance_44 ?_
      obtain ⟨b32, h_b32, hf⟩ := ho_b hf
      obtain ⟨v34, σ33, h_σ33, hf⟩ := ho_e2 hf
      refine wk_callV (av := []) (rest := []) (rv := some (vI v34)) C h_b32 rx_8 cx_X12_110 (mt_X9_node (wk_C.tr C) h_σ33) rfl rfl (Nat.le_of_ble_eq_true rfl) (Nat.le_of_ble_eq_true rfl) (Nat.le_of_ble_eq_true rfl) dX12_balance_46 ?_
      refine wk_iload_n C 1 rfl dX12_balance_49 ?_
      refine wk_icmp_ne C 85 (by decide) dX12_balance_50 (fun c_ => ?_) (fun c_ => ?_)
      · rw [if_neg c_] at hf
        refine wk_sub (L' := [(0, vR l0), (1, vI l1), (2, vI l2), (3, vJ l3), (5, vJ l5), (7, vI l7)]) [0, 1, 2, 3, 4, 5] rfl ?_
        exact wb_X12_balance_b85 C ih _ _ _ _ _ _ _ hf
      · rw [if_pos c_] at hf
        refine wk_aload C 6 rfl dX12_balance_53 ?_
        obtain ⟨b35, h_b35, hf⟩ := ho_b hf
        obtain ⟨v37, σ36, h_σ36, hf⟩ := ho_e2 hf
        refine wk_callV (av := []) (rest := []) (rv := some (vI v37)) C h_b35 rx_8 cx_X12_113 (mt_X9_stage (wk_C.tr C) h_σ36) rfl rfl (Nat.le_of_ble_eq_true rfl) (Nat.le_of_ble_eq_true rfl) (Nat.le_of_ble_eq_true rfl) dX12_balance_55 ?_
        refine wk_iload_n C 2 rfl dX12_balance_58 ?_
        refine wk_icmp_le C 65 (by decide) dX12_balance_59 (fun c_ => ?_) (fun c_ => ?_)
        · rw [if_pos c_] at hf
          refine wk_lload_n C 3 rfl dX12_balance_65 ?_
          refine wk_aload C 6 rfl dX12_balance_66 ?_
          obtain ⟨b38, h_b38, hf⟩ := ho_b hf
          obtain ⟨v40, σ39, h_σ39, hf⟩ := ho_e2 hf
          refine wk_callV (av := []) (rest := [vJ l3]) (rv := some (vI v40)) C h_b38 rx_8 cx_X12_116 (mt_X9_fx (wk_C.tr C) h_σ39) rfl rfl (Nat.le_of_ble_eq_true rfl) (Nat.le_of_ble_eq_true rfl) (Nat.le_of_ble_eq_true rfl) dX12_balance_68 ?_
          refine wk_i2l C dX12_balance_71 ?_
          refine wk_ladd C dX12_balance_72 ?_
          obtain ⟨v41, e_v41, hf⟩ := ho_b hf
          refine wk_tJ (Option.some.inj e_v41) ?_
          refine wk_lstore_n (L' := [(0, vR l0), (1, vI l1), (2, vI l2), (3, vJ v41), (5, vJ l5), (7, vI l7), (8, vR v30)]) C (by decide) rfl dX12_balance_73 ?_
          refine wk_lload C 4 rfl dX12_balance_74 ?_
          refine wk_aload C 6 rfl dX12_balance_76 ?_
          obtain ⟨b42, h_b42, hf⟩ := ho_b hf
          obtain ⟨v44, σ43, h_σ43, hf⟩ := ho_e2 hf
          refine wk_callV (av := []) (rest := [vJ l5]) (rv := some (vI v44)) C h_b42 rx_8 cx_X12_119 (mt_X9_fy (wk_C.tr C) h_σ43) rfl rfl (Nat.le_of_ble_eq_true rfl) (Nat.le_of_ble_eq_true rfl) (Nat.le_of_ble_eq_true rfl) dX12_balance_78 ?_
          refine wk_i2l C dX12_balance_81 ?_
          refine wk_ladd C dX12_balance_82 ?_
          obtain ⟨v45, e_v45, hf⟩ := ho_b hf
          refine wk_tJ (Option.some.inj e_v45) ?_
          refine wk_lstore (L' := [(0, vR l0), (1, vI l1), (2, vI l2), (3, vJ v41), (5, vJ v45), (7, vI l7), (8, vR v30)]) C (by decide) rfl dX12_balance_83 ?_
          refine wk_sub (L' := [(0, vR l0), (1, vI l1), (2, vI l2), (3, vJ v41), (5, vJ v45), (7, vI l7)]) [0, 1, 2, 3, 4, 5] rfl ?_
          exact wb_X12_balance_b85 C ih _ _ _ _ _ _ _ hf
        · rw [if_neg c_] at hf
          refine wk_goto C 85 (by decide) dX12_balance_62 ?_
          refine wk_sub (L' := [(0, vR l0), (1, vI l1), (2, vI l2), (3, vJ l3), (5, vJ l5), (7, vI l7)]) [0, 1, 2, 3, 4, 5] rfl ?_
          exact wb_X12_balance_b85 C ih _ _ _ _ _ _ _ hf
set_option maxHeartbeats 4000000 in
theorem mt_X12_balance {E : Ev} {l : Launch} (hl : l.stackTraces = false) {p0 : Option Nat} {p1 : Int32} {p2 : Int32} {σ : Hs} {σ' : Hs} (hf : fn_X12_balance p0 p1 p2 σ = some σ') : wk_M E l yX12_balance (ws_ yX12_balance cX12_balance 14 (Option.none : Option FieldType)) 3 69 [vR p0, vI p1, vI p2] σ (.inl none) σ' := by
  refine wk_start (by decide +kernel) hl (Nat.le_of_ble_eq_true rfl) (fun K C hK => ?_)
  subst hK
  refine wk_L (L' := [(0, vR p0), (1, vI p1), (2, vI p2)]) rfl ?_
  unfold fn_X12_balance at hf
  refine wk_lconst (v := 0) C dX12_balance_0 rfl ?_
  refine wk_lstore_n (L' := [(0, vR p0), (1, vI p1), (2, vI p2), (3, vJ (0 : Int64))]) C (by decide) rfl dX12_balance_1 ?_
  refine wk_lconst (v := 0) C dX12_balance_2 rfl ?_
  refine wk_lstore (L' := [(0, vR p0), (1, vI p1), (2, vI p2), (3, vJ (0 : Int64)), (5, vJ (0 : Int64))]) C (by decide) rfl dX12_balance_3 ?_
  refine wk_iconst (v := 0) C dX12_balance_5 rfl ?_
  refine wk_istore (L' := [(0, vR p0), (1, vI p1), (2, vI p2), (3, vJ (0 : Int64)), (5, vJ (0 : Int64)), (7, vI (0 : Int32))]) C (by decide) rfl dX12_balance_6 ?_
  exact wb_X12_balance_b8 C  _ _ _ _ _ _ _ _ hf
set_option maxHeartbeats 4000000 in
theorem wb_X12_relax_b153 {E : Ev} {K : Kx} (C : wk_C E K yX12_relax cX12_relax 7 (Option.none : Option FieldType) 4 102 []) {k18 : Option Nat → Int32 → Int32 → Hs → Option Hs} {σ' : Hs} (hk18 : ∀ (l0 : Option Nat) (l1 : Int32) (l2 : Int32) (σ : Hs), k18 l0 l1 l2 σ = some σ' → wk_V E K (.inl none) σ' σ 18 [(0, vR l0), (1, vI l1), (2, vI l2)] []) (l0 : Option Nat) (l1 : Int32) (l2 : Int32) (σ : Hs) (hf : fn_X12_relax_b153 k18 l0 l1 l2 σ = some σ') : wk_V E K (.inl none) σ' σ 153 [(0, vR l0), (1, vI l1), (2, vI l2)] [] := by
  unfold fn_X12_relax_b153 at hf
  refine wk_iinc (v := l2 + 1) (L' := [(0, vR l0), (1, vI l1), (2, vI (l2 + 1))]) C 2 rfl (by decide) rfl rfl dX12_relax_153 ?_
  refine wk_goto C 18 (by decide) dX12_relax_156 ?_
  exact hk18 _ _ _ _ hf
set_option maxHeartbeats 4000000 in
theorem wb_X12_relax_b147 {E : Ev} {K : Kx} (C : wk_C E K yX12_relax cX12_relax 7 (Option.none : Option FieldType) 4 102 []) {k31 : Option Nat → Int32 → Int32 → Int32 → Hs → Option Hs} {σ' : Hs} (hk31 : ∀ (l0 : Option Nat) (l1 : Int32) (l2 : Int32) (l3 : Int32) (σ : Hs), k31 l0 l1 l2 l3 σ = some σ' → wk_V E K (.inl none) σ' σ 31 [(0, vR l0), (1, vI l1), (2, vI l2), (3, vI l3)] []) (l0 : Option Nat) (l1 : Int32) (l2 : Int32) (l3 : Int32) (σ : Hs) (hf : fn_X12_relax_b147 k31 l0 l1 l2 l3 σ = some σ') : wk_V E K (.inl none) σ' σ 147 [(0, vR l0), (1, vI l1), (2, vI l2), (3, vI l3)] [] := by
  unfold fn_X12_relax_b147 at hf
  refine wk_iinc (v := l3 + 1) (L' := [(0, vR l0), (1, vI l1), (2, vI l2), (3, vI (l3 + 1))]) C 3 rfl (by decide) rfl rfl dX12_relax_147 ?_
  refine wk_goto C 31 (by decide) dX12_relax_150 ?_
  exact hk31 _ _ _ _ _ hf
set_option maxHeartbeats 4000000 in
theorem wb_X12_relax_b31 {E : Ev} {K : Kx} (C : wk_C E K yX12_relax cX12_relax 7 (Option.none : Option FieldType) 4 102 []) {k18 : Option Nat → Int32 → Int32 → Hs → Option Hs} {σ' : Hs} (hk18 : ∀ (l0 : Option Nat) (l1 : Int32) (l2 : Int32) (σ : Hs), k18 l0 l1 l2 σ = some σ' → wk_V E K (.inl none) σ' σ 18 [(0, vR l0), (1, vI l1), (2, vI l2)] []) : ∀ (n : Nat) (l0 : Option Nat) (l1 : Int32) (l2 : Int32) (l3 : Int32) (σ : Hs), fn_X12_relax_b31 k18 n l0 l1 l2 l3 σ = some σ' → wk_V E K (.inl none) σ' σ 31 [(0, vR l0), (1, vI l1), (2, vI l2), (3, vI l3)] [] := by
  intro n
  induction n with
  | zero =>
    intro l0 l1 l2 l3 σ hf
    rw [fn_X12_relax_b31] at hf
    cases hf
  | succ n ih =>
    intro l0 l1 l2 l3 σ hf
    rw [fn_X12_relax_b31] at hf
    refine wk_iload_n C 3 rfl dX12_relax_31 ?_
    refine wk_aload_n C 0 rfl dX12_relax_32 ?_
    obtain ⟨v1, h_v1, hf⟩ := ho_b hf
    refine wk_getI C fx_X12_33 h_v1 dX12_relax_33 ?_
    refine wk_icmp_ge C 153 (by decide) dX12_relax_36 (fun c_ => ?_) (fun c_ => ?_)
    · rw [if_pos c_] at hf
      refine wk_sub (L' := [(0, vR l0), (1, vI l1), (2, vI l2)]) [0, 1, 2] rfl ?_
      exact wb_X12_relax_b153 C hk18 _ _ _ _ hf
    · rw [if_neg c_] at hf
      refine wk_aload_n C 0 rfl dX12_relax_39 ?_
      obtain ⟨v2, h_v2, hf⟩ := ho_b hf
      refine wk_getR C fx_X12_7 h_v2 dX12_relax_40 ?_
      obtain ⟨v3, h_v3, hf⟩ := ho_b hf
      refine wk_getR C fx_X12_23 h_v3 dX12_relax_43 ?_
      refine wk_iload_n C 3 rfl dX12_relax_46 ?_
      obtain ⟨b4, h_b4, hf⟩ := ho_b hf
      obtain ⟨v6, σ5, h_σ5, hf⟩ := ho_e2 hf
      refine wk_callF (av := [vI l3]) (rest := []) (rv := some (vR v6)) C h_b4 rx_13 cx_X12_104_13 (mt_J2_get (wk_C.tr C) h_σ5) rfl rfl (Nat.le_of_ble_eq_true rfl) (Nat.le_of_ble_eq_true rfl) (Nat.le_of_ble_eq_true rfl) dX12_relax_47 ?_
      obtain ⟨u7, h_u7, hf⟩ := ho_b hf
      refine wk_cast C q1205 (List.forall_mem_cons.mpr ⟨ax_same rx_5 (Nat.le_of_ble_eq_true rfl), (List.forall_mem_nil _)⟩) h_u7 dX12_relax_52 ?_
      refine wk_astore (L' := [(0, vR l0), (1, vI l1), (2, vI l2), (3, vI l3), (4, vR v6)]) C (by decide) rfl dX12_relax_55 ?_
      refine wk_aload C 4 rfl dX12_relax_57 ?_
      obtain ⟨v8, h_v8, hf⟩ := ho_b hf
      refine wk_getI C fx_X12_136 h_v8 dX12_relax_59 ?_
      refine wk_if_eq C 68 (by decide) dX12_relax_62 (fun c_ => ?_) (fun c_ => ?_)
      · rw [if_pos c_] at hf
        refine wk_aload_n C 0 rfl dX12_relax_68 ?_
        refine wk_iload_n C 3 rfl dX12_relax_69 ?_
        refine wk_iload_n C 1 rfl dX12_relax_70 ?_
        obtain ⟨b9, h_b9, hf⟩ := ho_b hf
        obtain ⟨σ10, h_σ10, hf⟩ := ho_b hf
        refine wk_callV (av := [vI l3, vI l1]) (rest := []) (rv := none) C h_b9 rx_11 cx_X12_140 (mt_X12_balance (wk_C.tr C) h_σ10) rfl rfl (Nat.le_of_ble_eq_true rfl) (Nat.le_of_ble_eq_true rfl) (Nat.le_of_ble_eq_true rfl) dX12_relax_71 ?_
        refine wk_aload_n C 0 rfl dX12_relax_74 ?_
        refine wk_iload_n C 3 rfl dX12_relax_75 ?_
        obtain ⟨b11, h_b11, hf⟩ := ho_b hf
        obtain ⟨v13, σ12, h_σ12, hf⟩ := ho_e2 hf
        refine wk_callV (av := [vI l3]) (rest := []) (rv := some (vJ v13)) C h_b11 rx_11 cx_X12_144 (mt_X12_stiffness (wk_C.tr C) h_σ12) rfl rfl (Nat.le_of_ble_eq_true rfl) (Nat.le_of_ble_eq_true rfl) (Nat.le_of_ble_eq_true rfl) dX12_relax_76 ?_
        refine wk_lstore (L' := [(0, vR l0), (1, vI l1), (2, vI l2), (3, vI l3), (4, vR v6), (5, vJ v13)]) C (by decide) rfl dX12_relax_79 ?_
        refine wk_aload_n C 0 rfl dX12_relax_81 ?_
        obtain ⟨v14, h_v14, hf⟩ := ho_b hf
        refine wk_getR C fx_X12_46 h_v14 dX12_relax_82 ?_
        refine wk_iload_n C 3 rfl dX12_relax_85 ?_
        refine wk_aload_n C 0 rfl dX12_relax_86 ?_
        obtain ⟨v15, h_v15, hf⟩ := ho_b hf
        refine wk_getR C fx_X12_46 h_v15 dX12_relax_87 ?_
        refine wk_iload_n C 3 rfl dX12_relax_90 ?_
        obtain ⟨v16, h_v16, hf⟩ := ho_b hf
        refine wk_lald C h_v16 dX12_relax_91 ?_
        refine wk_ldc2 C q1229 dX12_relax_92 ?_
        refine wk_aload_n C 0 rfl dX12_relax_95 ?_
        obtain ⟨v17, h_v17, hf⟩ := ho_b hf
        refine wk_getR C fx_X12_53 h_v17 dX12_relax_96 ?_
        refine wk_iload_n C 3 rfl dX12_relax_99 ?_
        obtain ⟨v18, h_v18, hf⟩ := ho_b hf
        refine wk_lald C h_v18 dX12_relax_100 ?_
        refine wk_lmul C dX12_relax_101 ?_
        refine wk_lload C 5 rfl dX12_relax_102 ?_
        obtain ⟨v19, h_v19, hf⟩ := ho_b hf
        refine wk_ldiv C dX12_relax_104 h_v19 ?_
        refine wk_ladd C dX12_relax_105 ?_
        obtain ⟨v21, σ20, h_σ20, hf⟩ := ho_e2 hf
        refine wk_callSN (av := [vJ (v16 + v19)]) (rest := [vI l3, vR v14]) (rv := some (vJ v21)) C cx_X12_89 (mt_X1_limited (wk_C.tr C) h_σ20) rfl rfl (Nat.le_of_ble_eq_true rfl) (Nat.le_of_ble_eq_true rfl) (Nat.le_of_ble_eq_true rfl) dX12_relax_106 ?_
        obtain ⟨σ22, h_σ22, hf⟩ := ho_b hf
        refine wk_last C h_σ22 dX12_relax_109 ?_
        refine wk_aload C 4 rfl dX12_relax_110 ?_
        obtain ⟨v23, h_v23, hf⟩ := ho_b hf
        refine wk_getI C fx_X12_148 h_v23 dX12_relax_112 ?_
        refine wk_if_ne C 147 (by decide) dX12_relax_115 (fun c_ => ?_) (fun c_ => ?_)
        · rw [if_neg c_] at hf
          refine wk_sub (L' := [(0, vR l0), (1, vI l1), (2, vI l2), (3, vI l3)]) [0, 1, 2, 3] rfl ?_
          exact wb_X12_relax_b147 C ih _ _ _ _ _ hf
        · rw [if_pos c_] at hf
          refine wk_aload_n C 0 rfl dX12_relax_118 ?_
          obtain ⟨v24, h_v24, hf⟩ := ho_b hf
          refine wk_getR C fx_X12_50 h_v24 dX12_relax_119 ?_
          refine wk_iload_n C 3 rfl dX12_relax_122 ?_
          refine wk_aload_n C 0 rfl dX12_relax_123 ?_
          obtain ⟨v25, h_v25, hf⟩ := ho_b hf
          refine wk_getR C fx_X12_50 h_v25 dX12_relax_124 ?_
          refine wk_iload_n C 3 rfl dX12_relax_127 ?_
          obtain ⟨v26, h_v26, hf⟩ := ho_b hf
          refine wk_lald C h_v26 dX12_relax_128 ?_
          refine wk_ldc2 C q1229 dX12_relax_129 ?_
          refine wk_aload_n C 0 rfl dX12_relax_132 ?_
          obtain ⟨v27, h_v27, hf⟩ := ho_b hf
          refine wk_getR C fx_X12_56 h_v27 dX12_relax_133 ?_
          refine wk_iload_n C 3 rfl dX12_relax_136 ?_
          obtain ⟨v28, h_v28, hf⟩ := ho_b hf
          refine wk_lald C h_v28 dX12_relax_137 ?_
          refine wk_lmul C dX12_relax_138 ?_
          refine wk_lload C 5 rfl dX12_relax_139 ?_
          obtain ⟨v29, h_v29, hf⟩ := ho_b hf
          refine wk_ldiv C dX12_relax_141 h_v29 ?_
          refine wk_ladd C dX12_relax_142 ?_
          obtain ⟨v31, σ30, h_σ30, hf⟩ := ho_e2 hf
          refine wk_callSN (av := [vJ (v26 + v29)]) (rest := [vI l3, vR v24]) (rv := some (vJ v31)) C cx_X12_89 (mt_X1_limited (wk_C.tr C) h_σ30) rfl rfl (Nat.le_of_ble_eq_true rfl) (Nat.le_of_ble_eq_true rfl) (Nat.le_of_ble_eq_true rfl) dX12_relax_143 ?_
          obtain ⟨σ32, h_σ32, hf⟩ := ho_b hf
          refine wk_last C h_σ32 dX12_relax_146 ?_
          refine wk_sub (L' := [(0, vR l0), (1, vI l1), (2, vI l2), (3, vI l3)]) [0, 1, 2, 3] rfl ?_
          exact wb_X12_relax_b147 C ih _ _ _ _ _ hf
      · rw [if_neg c_] at hf
        refine wk_goto C 147 (by decide) dX12_relax_65 ?_
        refine wk_sub (L' := [(0, vR l0), (1, vI l1), (2, vI l2), (3, vI l3)]) [0, 1, 2, 3] rfl ?_
        exact wb_X12_relax_b147 C ih _ _ _ _ _ hf
set_option maxHeartbeats 4000000 in
theorem wb_X12_relax_b18 {E : Ev} {K : Kx} (C : wk_C E K yX12_relax cX12_relax 7 (Option.none : Option FieldType) 4 102 []) {σ' : Hs} : ∀ (n : Nat) (l0 : Option Nat) (l1 : Int32) (l2 : Int32) (σ : Hs), fn_X12_relax_b18 n l0 l1 l2 σ = some σ' → wk_V E K (.inl none) σ' σ 18 [(0, vR l0), (1, vI l1), (2, vI l2)] [] := by
  intro n
  induction n with
  | zero =>
    intro l0 l1 l2 σ hf
    rw [fn_X12_relax_b18] at hf
    cases hf
  | succ n ih =>
    intro l0 l1 l2 σ hf
    rw [fn_X12_relax_b18] at hf
    refine wk_iload_n C 2 rfl dX12_relax_18 ?_
    refine wk_aload_n C 0 rfl dX12_relax_19 ?_
    obtain ⟨v33, h_v33, hf⟩ := ho_b hf
    refine wk_getR C fx_X12_7 h_v33 dX12_relax_20 ?_
    obtain ⟨v34, h_v34, hf⟩ := ho_b hf
    refine wk_getI C fx_X12_131 h_v34 dX12_relax_23 ?_
    refine wk_icmp_ge C 159 (by decide) dX12_relax_26 (fun c_ => ?_) (fun c_ => ?_)
    · rw [if_pos c_] at hf
      obtain rfl := Option.some.inj hf
      exact wk_vret C rfl rfl dX12_relax_159
    · rw [if_neg c_] at hf
      refine wk_iconst (v := 0) C dX12_relax_29 rfl ?_
      refine wk_istore_n (L' := [(0, vR l0), (1, vI l1), (2, vI l2), (3, vI (0 : Int32))]) C (by decide) rfl dX12_relax_30 ?_
      exact wb_X12_relax_b31 C ih _ _ _ _ _ _ hf
set_option maxHeartbeats 4000000 in
theorem mt_X12_relax {E : Ev} {l : Launch} (hl : l.stackTraces = false) {p0 : Option Nat} {p1 : Int32} {σ : Hs} {σ' : Hs} (hf : fn_X12_relax p0 p1 σ = some σ') : wk_M E l yX12_relax (ws_ yX12_relax cX12_relax 7 (Option.none : Option FieldType)) 4 102 [vR p0, vI p1] σ (.inl none) σ' := by
  refine wk_start (by decide +kernel) hl (Nat.le_of_ble_eq_true rfl) (fun K C hK => ?_)
  subst hK
  refine wk_L (L' := [(0, vR p0), (1, vI p1)]) rfl ?_
  unfold fn_X12_relax at hf
  refine wk_aload_n C 0 rfl dX12_relax_0 ?_
  obtain ⟨v35, h_v35, hf⟩ := ho_b hf
  refine wk_getR C fx_X12_46 h_v35 dX12_relax_1 ?_
  refine wk_lconst (v := 0) C dX12_relax_4 rfl ?_
  obtain ⟨σ36, h_σ36, hf⟩ := ho_b hf
  refine wk_callS (av := [vR v35, vJ (0 : Int64)]) (rest := []) (rv := none) C cx_X12_125 (mt_J13_fill (wk_C.tr C) h_σ36) rfl rfl (Nat.le_of_ble_eq_true rfl) (Nat.le_of_ble_eq_true rfl) (Nat.le_of_ble_eq_true rfl) dX12_relax_5 ?_
  refine wk_aload_n C 0 rfl dX12_relax_8 ?_
  obtain ⟨v37, h_v37, hf⟩ := ho_b hf
  refine wk_getR C fx_X12_50 h_v37 dX12_relax_9 ?_
  refine wk_lconst (v := 0) C dX12_relax_12 rfl ?_
  obtain ⟨σ38, h_σ38, hf⟩ := ho_b hf
  refine wk_callS (av := [vR v37, vJ (0 : Int64)]) (rest := []) (rv := none) C cx_X12_125 (mt_J13_fill (wk_C.tr C) h_σ38) rfl rfl (Nat.le_of_ble_eq_true rfl) (Nat.le_of_ble_eq_true rfl) (Nat.le_of_ble_eq_true rfl) dX12_relax_13 ?_
  refine wk_iconst (v := 0) C dX12_relax_16 rfl ?_
  refine wk_istore_n (L' := [(0, vR p0), (1, vI p1), (2, vI (0 : Int32))]) C (by decide) rfl dX12_relax_17 ?_
  exact wb_X12_relax_b18 C  _ _ _ _ _ hf
set_option maxHeartbeats 4000000 in
theorem wb_X12_membersAt_b98 {E : Ev} {K : Kx} (C : wk_C E K yX12_membersAt cX12_membersAt 8 (Option.some (FieldType.array (FieldType.object "ElasticTruss$Member"))) 1 21 []) {k64 : Int32 → Int32 → Option Nat → Option Nat → Int32 → Int32 → Hs → Option (Option Nat × Hs)} {r : Option Nat} {σ' : Hs} (hk64 : ∀ (l1 : Int32) (l2 : Int32) (l3 : Option Nat) (l4 : Option Nat) (l5 : Int32) (l6 : Int32) (σ : Hs), k64 l1 l2 l3 l4 l5 l6 σ = some (r, σ') → wk_V E K (.inl (some (va_rf r))) σ' σ 64 [(1, vI l1), (2, vI l2), (3, vR l3), (4, vR l4), (5, vI l5), (6, vI l6)] []) (l1 : Int32) (l2 : Int32) (l3 : Option Nat) (l4 : Option Nat) (l5 : Int32) (l6 : Int32) (σ : Hs) (hf : fn_X12_membersAt_b98 k64 l1 l2 l3 l4 l5 l6 σ = some (r, σ')) : wk_V E K (.inl (some (va_rf r))) σ' σ 98 [(1, vI l1), (2, vI l2), (3, vR l3), (4, vR l4), (5, vI l5), (6, vI l6)] [] := by
  unfold fn_X12_membersAt_b98 at hf
  refine wk_iinc (v := l6 + 1) (L' := [(1, vI l1), (2, vI l2), (3, vR l3), (4, vR l4), (5, vI l5), (6, vI (l6 + 1))]) C 5 rfl (by decide) rfl rfl dX12_membersAt_98 ?_
  refine wk_goto C 64 (by decide) dX12_membersAt_101 ?_
  exact hk64 _ _ _ _ _ _ _ hf
set_option maxHeartbeats 4000000 in
theorem wb_X12_membersAt_b64 {E : Ev} {K : Kx} (C : wk_C E K yX12_membersAt cX12_membersAt 8 (Option.some (FieldType.array (FieldType.object "ElasticTruss$Member"))) 1 21 []) {r : Option Nat} {σ' : Hs} : ∀ (n : Nat) (l1 : Int32) (l2 : Int32) (l3 : Option Nat) (l4 : Option Nat) (l5 : Int32) (l6 : Int32) (σ : Hs), fn_X12_membersAt_b64 n l1 l2 l3 l4 l5 l6 σ = some (r, σ') → wk_V E K (.inl (some (va_rf r))) σ' σ 64 [(1, vI l1), (2, vI l2), (3, vR l3), (4, vR l4), (5, vI l5), (6, vI l6)] [] := by
  intro n
  induction n with
  | zero =>
    intro l1 l2 l3 l4 l5 l6 σ hf
    rw [fn_X12_membersAt_b64] at hf
    cases hf
  | succ n ih =>
    intro l1 l2 l3 l4 l5 l6 σ hf
    rw [fn_X12_membersAt_b64] at hf
    refine wk_iload C 5 rfl dX12_membersAt_64 ?_
    refine wk_iload C 4 rfl dX12_membersAt_66 ?_
    refine wk_icmp_ge C 104 (by decide) dX12_membersAt_68 (fun c_ => ?_) (fun c_ => ?_)
    · rw [if_pos c_] at hf
      refine wk_aload_n C 2 rfl dX12_membersAt_104 ?_
      obtain ⟨rfl, rfl⟩ := Prod.mk.inj (Option.some.inj hf)
      exact wk_aret C (Or.inr ⟨_, rfl⟩) rfl rfl dX12_membersAt_105
    · rw [if_neg c_] at hf
      refine wk_aload C 3 rfl dX12_membersAt_71 ?_
      refine wk_iload C 5 rfl dX12_membersAt_73 ?_
      obtain ⟨v1, h_v1, hf⟩ := ho_b hf
      refine wk_aald C h_v1 dX12_membersAt_75 ?_
      refine wk_astore (L' := [(1, vI l1), (2, vI l2), (3, vR l3), (4, vR l4), (5, vI l5), (6, vI l6), (7, vR v1)]) C (by decide) rfl dX12_membersAt_76 ?_
      refine wk_aload C 6 rfl dX12_membersAt_78 ?_
      refine wk_iload_n C 0 rfl dX12_membersAt_80 ?_
      obtain ⟨b2, h_b2, hf⟩ := ho_b hf
      obtain ⟨v4, σ3, h_σ3, hf⟩ := ho_e2 hf
      refine wk_callV (av := [vI l1]) (rest := []) (rv := some (vI v4)) C h_b2 rx_7 cx_X12_59 (mt_X8_isAt (wk_C.tr C) h_σ3) rfl rfl (Nat.le_of_ble_eq_true rfl) (Nat.le_of_ble_eq_true rfl) (Nat.le_of_ble_eq_true rfl) dX12_membersAt_81 ?_
      refine wk_if_ne C 90 (by decide) dX12_membersAt_84 (fun c_ => ?_) (fun c_ => ?_)
      · rw [if_neg c_] at hf
        refine wk_iinc (v := l2 + (-1)) (L' := [(1, vI l1), (2, vI (l2 + (-1))), (3, vR l3), (4, vR l4), (5, vI l5), (6, vI l6), (7, vR v1)]) C 1 rfl (by decide) (by rw [show Int32.ofInt (-1) = (-1 : Int32) from by decide]) rfl dX12_membersAt_90 ?_
        refine wk_aload_n C 2 rfl dX12_membersAt_93 ?_
        refine wk_iload_n C 1 rfl dX12_membersAt_94 ?_
        refine wk_aload C 6 rfl dX12_membersAt_95 ?_
        obtain ⟨σ5, h_σ5, hf⟩ := ho_b hf
        refine wk_aast C (Nat.le_of_ble_eq_true rfl) rfl (List.forall_mem_cons.mpr ⟨ax_same rx_7 (Nat.le_of_ble_eq_true rfl), (List.forall_mem_nil _)⟩) h_σ5 dX12_membersAt_97 ?_
        refine wk_sub (L' := [(1, vI l1), (2, vI (l2 + (-1))), (3, vR l3), (4, vR l4), (5, vI l5), (6, vI l6)]) [0, 1, 2, 3, 4, 5] rfl ?_
        exact wb_X12_membersAt_b98 C ih _ _ _ _ _ _ _ hf
      · rw [if_pos c_] at hf
        refine wk_goto C 98 (by decide) dX12_membersAt_87 ?_
        refine wk_sub (L' := [(1, vI l1), (2, vI l2), (3, vR l3), (4, vR l4), (5, vI l5), (6, vI l6)]) [0, 1, 2, 3, 4, 5] rfl ?_
        exact wb_X12_membersAt_b98 C ih _ _ _ _ _ _ _ hf
set_option maxHeartbeats 4000000 in
theorem wb_X12_membersAt_b45 {E : Ev} {K : Kx} (C : wk_C E K yX12_membersAt cX12_membersAt 8 (Option.some (FieldType.array (FieldType.object "ElasticTruss$Member"))) 1 21 []) {r : Option Nat} {σ' : Hs} (l0 : Option Nat) (l1 : Int32) (l2 : Int32) (σ : Hs) (hf : fn_X12_membersAt_b45 l0 l1 l2 σ = some (r, σ')) : wk_V E K (.inl (some (va_rf r))) σ' σ 45 [(0, vR l0), (1, vI l1), (2, vI l2)] [] := by
  unfold fn_X12_membersAt_b45 at hf
  refine wk_iload_n C 2 rfl dX12_membersAt_45 ?_
  obtain ⟨v6, σ7, h_σ7, hf⟩ := ho_e2 hf
  refine wk_anew C (k := 4) (Nat.le_of_ble_eq_true rfl) rfl q1146 (by decide +kernel) h_σ7 dX12_membersAt_46 ?_
  refine wk_astore_n (L' := [(0, vR l0), (1, vI l1), (2, vI l2), (3, vR v6)]) C (by decide) rfl dX12_membersAt_49 ?_
  refine wk_aload_n C 0 rfl dX12_membersAt_50 ?_
  obtain ⟨v8, h_v8, hf⟩ := ho_b hf
  refine wk_getR C fx_X12_19 h_v8 dX12_membersAt_51 ?_
  refine wk_astore (L' := [(0, vR l0), (1, vI l1), (2, vI l2), (3, vR v6), (4, vR v8)]) C (by decide) rfl dX12_membersAt_54 ?_
  refine wk_aload C 4 rfl dX12_membersAt_56 ?_
  obtain ⟨v9, h_v9, hf⟩ := ho_b hf
  refine wk_alen C h_v9 dX12_membersAt_58 ?_
  refine wk_istore (L' := [(0, vR l0), (1, vI l1), (2, vI l2), (3, vR v6), (4, vR v8), (5, vI v9)]) C (by decide) rfl dX12_membersAt_59 ?_
  refine wk_iconst (v := 0) C dX12_membersAt_61 rfl ?_
  refine wk_istore (L' := [(0, vR l0), (1, vI l1), (2, vI l2), (3, vR v6), (4, vR v8), (5, vI v9), (6, vI (0 : Int32))]) C (by decide) rfl dX12_membersAt_62 ?_
  refine wk_sub (L' := [(1, vI l1), (2, vI l2), (3, vR v6), (4, vR v8), (5, vI v9), (6, vI (0 : Int32))]) [1, 2, 3, 4, 5, 6] rfl ?_
  exact wb_X12_membersAt_b64 C  _ _ _ _ _ _ _ _ hf
set_option maxHeartbeats 4000000 in
theorem wb_X12_membersAt_b39 {E : Ev} {K : Kx} (C : wk_C E K yX12_membersAt cX12_membersAt 8 (Option.some (FieldType.array (FieldType.object "ElasticTruss$Member"))) 1 21 []) {k14 : Option Nat → Int32 → Int32 → Option Nat → Int32 → Int32 → Hs → Option (Option Nat × Hs)} {r : Option Nat} {σ' : Hs} (hk14 : ∀ (l0 : Option Nat) (l1 : Int32) (l2 : Int32) (l3 : Option Nat) (l4 : Int32) (l5 : Int32) (σ : Hs), k14 l0 l1 l2 l3 l4 l5 σ = some (r, σ') → wk_V E K (.inl (some (va_rf r))) σ' σ 14 [(0, vR l0), (1, vI l1), (2, vI l2), (3, vR l3), (4, vI l4), (5, vI l5)] []) (l0 : Option Nat) (l1 : Int32) (l2 : Int32) (l3 : Option Nat) (l4 : Int32) (l5 : Int32) (σ : Hs) (hf : fn_X12_membersAt_b39 k14 l0 l1 l2 l3 l4 l5 σ = some (r, σ')) : wk_V E K (.inl (some (va_rf r))) σ' σ 39 [(0, vR l0), (1, vI l1), (2, vI l2), (3, vR l3), (4, vI l4), (5, vI l5)] [] := by
  unfold fn_X12_membersAt_b39 at hf
  refine wk_iinc (v := l5 + 1) (L' := [(0, vR l0), (1, vI l1), (2, vI l2), (3, vR l3), (4, vI l4), (5, vI (l5 + 1))]) C 5 rfl (by decide) rfl rfl dX12_membersAt_39 ?_
  refine wk_goto C 14 (by decide) dX12_membersAt_42 ?_
  exact hk14 _ _ _ _ _ _ _ hf
set_option maxHeartbeats 4000000 in
theorem wb_X12_membersAt_b14 {E : Ev} {K : Kx} (C : wk_C E K yX12_membersAt cX12_membersAt 8 (Option.some (FieldType.array (FieldType.object "ElasticTruss$Member"))) 1 21 []) {r : Option Nat} {σ' : Hs} : ∀ (n : Nat) (l0 : Option Nat) (l1 : Int32) (l2 : Int32) (l3 : Option Nat) (l4 : Int32) (l5 : Int32) (σ : Hs), fn_X12_membersAt_b14 n l0 l1 l2 l3 l4 l5 σ = some (r, σ') → wk_V E K (.inl (some (va_rf r))) σ' σ 14 [(0, vR l0), (1, vI l1), (2, vI l2), (3, vR l3), (4, vI l4), (5, vI l5)] [] := by
  intro n
  induction n with
  | zero =>
    intro l0 l1 l2 l3 l4 l5 σ hf
    rw [fn_X12_membersAt_b14] at hf
    cases hf
  | succ n ih =>
    intro l0 l1 l2 l3 l4 l5 σ hf
    rw [fn_X12_membersAt_b14] at hf
    refine wk_iload C 5 rfl dX12_membersAt_14 ?_
    refine wk_iload C 4 rfl dX12_membersAt_16 ?_
    refine wk_icmp_ge C 45 (by decide) dX12_membersAt_18 (fun c_ => ?_) (fun c_ => ?_)
    · rw [if_pos c_] at hf
      refine wk_sub (L' := [(0, vR l0), (1, vI l1), (2, vI l2)]) [0, 1, 2] rfl ?_
      exact wb_X12_membersAt_b45 C  _ _ _ _ hf
    · rw [if_neg c_] at hf
      refine wk_aload_n C 3 rfl dX12_membersAt_21 ?_
      refine wk_iload C 5 rfl dX12_membersAt_22 ?_
      obtain ⟨v10, h_v10, hf⟩ := ho_b hf
      refine wk_aald C h_v10 dX12_membersAt_24 ?_
      refine wk_astore (L' := [(0, vR l0), (1, vI l1), (2, vI l2), (3, vR l3), (4, vI l4), (5, vI l5), (6, vR v10)]) C (by decide) rfl dX12_membersAt_25 ?_
      refine wk_aload C 6 rfl dX12_membersAt_27 ?_
      refine wk_iload_n C 1 rfl dX12_membersAt_29 ?_
      obtain ⟨b11, h_b11, hf⟩ := ho_b hf
      obtain ⟨v13, σ12, h_σ12, hf⟩ := ho_e2 hf
      refine wk_callV (av := [vI l1]) (rest := []) (rv := some (vI v13)) C h_b11 rx_7 cx_X12_59 (mt_X8_isAt (wk_C.tr C) h_σ12) rfl rfl (Nat.le_of_ble_eq_true rfl) (Nat.le_of_ble_eq_true rfl) (Nat.le_of_ble_eq_true rfl) dX12_membersAt_30 ?_
      refine wk_if_eq C 39 (by decide) dX12_membersAt_33 (fun c_ => ?_) (fun c_ => ?_)
      · rw [if_pos c_] at hf
        refine wk_sub (L' := [(0, vR l0), (1, vI l1), (2, vI l2), (3, vR l3), (4, vI l4), (5, vI l5)]) [0, 1, 2, 3, 4, 5] rfl ?_
        exact wb_X12_membersAt_b39 C ih _ _ _ _ _ _ _ hf
      · rw [if_neg c_] at hf
        refine wk_iinc (v := l2 + 1) (L' := [(0, vR l0), (1, vI l1), (2, vI (l2 + 1)), (3, vR l3), (4, vI l4), (5, vI l5), (6, vR v10)]) C 2 rfl (by decide) rfl rfl dX12_membersAt_36 ?_
        refine wk_sub (L' := [(0, vR l0), (1, vI l1), (2, vI (l2 + 1)), (3, vR l3), (4, vI l4), (5, vI l5)]) [0, 1, 2, 3, 4, 5] rfl ?_
        exact wb_X12_membersAt_b39 C ih _ _ _ _ _ _ _ hf
set_option maxHeartbeats 4000000 in
theorem mt_X12_membersAt {E : Ev} {l : Launch} (hl : l.stackTraces = false) {p0 : Option Nat} {p1 : Int32} {σ : Hs} {r : Option Nat} {σ' : Hs} (hf : fn_X12_membersAt p0 p1 σ = some (r, σ')) : wk_M E l yX12_membersAt (ws_ yX12_membersAt cX12_membersAt 8 (Option.some (FieldType.array (FieldType.object "ElasticTruss$Member")))) 1 21 [vR p0, vI p1] σ (.inl (some (va_rf r))) σ' := by
  refine wk_start (by decide +kernel) hl (Nat.le_of_ble_eq_true rfl) (fun K C hK => ?_)
  subst hK
  refine wk_L (L' := [(0, vR p0), (1, vI p1)]) rfl ?_
  unfold fn_X12_membersAt at hf
  refine wk_iconst (v := 0) C dX12_membersAt_0 rfl ?_
  refine wk_istore_n (L' := [(0, vR p0), (1, vI p1), (2, vI (0 : Int32))]) C (by decide) rfl dX12_membersAt_1 ?_
  refine wk_aload_n C 0 rfl dX12_membersAt_2 ?_
  obtain ⟨v14, h_v14, hf⟩ := ho_b hf
  refine wk_getR C fx_X12_19 h_v14 dX12_membersAt_3 ?_
  refine wk_astore_n (L' := [(0, vR p0), (1, vI p1), (2, vI (0 : Int32)), (3, vR v14)]) C (by decide) rfl dX12_membersAt_6 ?_
  refine wk_aload_n C 3 rfl dX12_membersAt_7 ?_
  obtain ⟨v15, h_v15, hf⟩ := ho_b hf
  refine wk_alen C h_v15 dX12_membersAt_8 ?_
  refine wk_istore (L' := [(0, vR p0), (1, vI p1), (2, vI (0 : Int32)), (3, vR v14), (4, vI v15)]) C (by decide) rfl dX12_membersAt_9 ?_
  refine wk_iconst (v := 0) C dX12_membersAt_11 rfl ?_
  refine wk_istore (L' := [(0, vR p0), (1, vI p1), (2, vI (0 : Int32)), (3, vR v14), (4, vI v15), (5, vI (0 : Int32))]) C (by decide) rfl dX12_membersAt_12 ?_
  exact wb_X12_membersAt_b14 C  _ _ _ _ _ _ _ _ hf
set_option maxHeartbeats 4000000 in
theorem wb_X12_init_b68 {E : Ev} {K : Kx} (C : wk_C E K yX12_init cX12_init 3 (Option.none : Option FieldType) 6 120 []) {σ' : Hs} (l0 : Option Nat) (σ : Hs) (hf : fn_X12_init_b68 l0 σ = some σ') : wk_V E K (.inl none) σ' σ 68 [(0, vR l0)] [] := by
  unfold fn_X12_init_b68 at hf
  refine wk_aload_n C 0 rfl dX12_init_68 ?_
  refine wk_aload_n C 0 rfl dX12_init_69 ?_
  obtain ⟨v1, h_v1, hf⟩ := ho_b hf
  refine wk_getI C fx_X12_33 h_v1 dX12_init_70 ?_
  obtain ⟨v2, σ3, h_σ3, hf⟩ := ho_e2 hf
  refine wk_newaJ C q1178 h_σ3 dX12_init_73 ?_
  obtain ⟨σ4, h_σ4, hf⟩ := ho_b hf
  refine wk_putR C px_X12_46 (Or.inr ⟨_, rfl⟩) (fun _ => rfl) h_σ4 dX12_init_75 ?_
  refine wk_aload_n C 0 rfl dX12_init_78 ?_
  refine wk_aload_n C 0 rfl dX12_init_79 ?_
  obtain ⟨v5, h_v5, hf⟩ := ho_b hf
  refine wk_getI C fx_X12_33 h_v5 dX12_init_80 ?_
  obtain ⟨v6, σ7, h_σ7, hf⟩ := ho_e2 hf
  refine wk_newaJ C q1178 h_σ7 dX12_init_83 ?_
  obtain ⟨σ8, h_σ8, hf⟩ := ho_b hf
  refine wk_putR C px_X12_50 (Or.inr ⟨_, rfl⟩) (fun _ => rfl) h_σ8 dX12_init_85 ?_
  refine wk_aload_n C 0 rfl dX12_init_88 ?_
  refine wk_aload_n C 0 rfl dX12_init_89 ?_
  obtain ⟨v9, h_v9, hf⟩ := ho_b hf
  refine wk_getI C fx_X12_33 h_v9 dX12_init_90 ?_
  obtain ⟨v10, σ11, h_σ11, hf⟩ := ho_e2 hf
  refine wk_newaJ C q1178 h_σ11 dX12_init_93 ?_
  obtain ⟨σ12, h_σ12, hf⟩ := ho_b hf
  refine wk_putR C px_X12_53 (Or.inr ⟨_, rfl⟩) (fun _ => rfl) h_σ12 dX12_init_95 ?_
  refine wk_aload_n C 0 rfl dX12_init_98 ?_
  refine wk_aload_n C 0 rfl dX12_init_99 ?_
  obtain ⟨v13, h_v13, hf⟩ := ho_b hf
  refine wk_getI C fx_X12_33 h_v13 dX12_init_100 ?_
  obtain ⟨v14, σ15, h_σ15, hf⟩ := ho_e2 hf
  refine wk_newaJ C q1178 h_σ15 dX12_init_103 ?_
  obtain ⟨σ16, h_σ16, hf⟩ := ho_b hf
  refine wk_putR C px_X12_56 (Or.inr ⟨_, rfl⟩) (fun _ => rfl) h_σ16 dX12_init_105 ?_
  obtain rfl := Option.some.inj hf
  exact wk_vret C rfl rfl dX12_init_108
set_option maxHeartbeats 4000000 in
theorem wb_X12_init_b43 {E : Ev} {K : Kx} (C : wk_C E K yX12_init cX12_init 3 (Option.none : Option FieldType) 6 120 []) {σ' : Hs} : ∀ (n : Nat) (l0 : Option Nat) (l2 : Int32) (σ : Hs), fn_X12_init_b43 n l0 l2 σ = some σ' → wk_V E K (.inl none) σ' σ 43 [(0, vR l0), (2, vI l2)] [] := by
  intro n
  induction n with
  | zero =>
    intro l0 l2 σ hf
    rw [fn_X12_init_b43] at hf
    cases hf
  | succ n ih =>
    intro l0 l2 σ hf
    rw [fn_X12_init_b43] at hf
    refine wk_iload_n C 1 rfl dX12_init_43 ?_
    refine wk_aload_n C 0 rfl dX12_init_44 ?_
    obtain ⟨v17, h_v17, hf⟩ := ho_b hf
    refine wk_getI C fx_X12_33 h_v17 dX12_init_45 ?_
    refine wk_icmp_ge C 68 (by decide) dX12_init_48 (fun c_ => ?_) (fun c_ => ?_)
    · rw [if_pos c_] at hf
      refine wk_sub (L' := [(0, vR l0)]) [0] rfl ?_
      exact wb_X12_init_b68 C  _ _ hf
    · rw [if_neg c_] at hf
      refine wk_aload_n C 0 rfl dX12_init_51 ?_
      obtain ⟨v18, h_v18, hf⟩ := ho_b hf
      refine wk_getR C fx_X12_38 h_v18 dX12_init_52 ?_
      refine wk_iload_n C 1 rfl dX12_init_55 ?_
      refine wk_aload_n C 0 rfl dX12_init_56 ?_
      refine wk_iload_n C 1 rfl dX12_init_57 ?_
      obtain ⟨b19, h_b19, hf⟩ := ho_b hf
      obtain ⟨v21, σ20, h_σ20, hf⟩ := ho_e2 hf
      refine wk_callV (av := [vI l2]) (rest := [vI l2, vR v18]) (rv := some (vR v21)) C h_b19 rx_11 cx_X12_42 (mt_X12_membersAt (wk_C.tr C) h_σ20) rfl rfl (Nat.le_of_ble_eq_true rfl) (Nat.le_of_ble_eq_true rfl) (Nat.le_of_ble_eq_true rfl) dX12_init_58 ?_
      obtain ⟨σ22, h_σ22, hf⟩ := ho_b hf
      refine wk_aastA C (Nat.le_of_ble_eq_true rfl) (Nat.le_of_ble_eq_true rfl) rfl rfl h_σ22 dX12_init_61 ?_
      refine wk_iinc (v := l2 + 1) (L' := [(0, vR l0), (2, vI (l2 + 1))]) C 1 rfl (by decide) rfl rfl dX12_init_62 ?_
      refine wk_goto C 43 (by decide) dX12_init_65 ?_
      exact ih _ _ _ hf
set_option maxHeartbeats 4000000 in
theorem mt_X12_init {E : Ev} {l : Launch} (hl : l.stackTraces = false) {p0 : Option Nat} {p1 : Option Nat} {σ : Hs} {σ' : Hs} (hf : fn_X12_init p0 p1 σ = some σ') : wk_M E l yX12_init (ws_ yX12_init cX12_init 3 (Option.none : Option FieldType)) 6 120 [vR p0, vR p1] σ (.inl none) σ' := by
  refine wk_start (by decide +kernel) hl (Nat.le_of_ble_eq_true rfl) (fun K C hK => ?_)
  subst hK
  refine wk_L (L' := [(0, vR p0), (1, vR p1)]) rfl ?_
  unfold fn_X12_init at hf
  refine wk_aload_n C 0 rfl dX12_init_0 ?_
  obtain ⟨b23, h_b23, hf⟩ := ho_b hf
  refine wk_objI C h_b23 q1126 q179 q180 (Nat.le_of_ble_eq_true rfl) (Nat.le_of_ble_eq_true rfl) dX12_init_1 ?_
  refine wk_aload_n C 0 rfl dX12_init_4 ?_
  refine wk_aload_n C 1 rfl dX12_init_5 ?_
  obtain ⟨σ24, h_σ24, hf⟩ := ho_b hf
  refine wk_putR C px_X12_7 (Or.inl ⟨_, rfl⟩) (fun _ => rfl) h_σ24 dX12_init_6 ?_
  refine wk_aload_n C 0 rfl dX12_init_9 ?_
  refine wk_aload_n C 1 rfl dX12_init_10 ?_
  obtain ⟨b25, h_b25, hf⟩ := ho_b hf
  obtain ⟨v27, σ26, h_σ26, hf⟩ := ho_e2 hf
  refine wk_callV (av := []) (rest := [vR p0]) (rv := some (vR v27)) C h_b25 rx_1 cx_X12_13 (mt_X2_row (wk_C.tr C) h_σ26) rfl rfl (Nat.le_of_ble_eq_true rfl) (Nat.le_of_ble_eq_true rfl) (Nat.le_of_ble_eq_true rfl) dX12_init_11 ?_
  obtain ⟨σ28, h_σ28, hf⟩ := ho_b hf
  refine wk_putR C px_X12_19 (Or.inr ⟨_, rfl⟩) (fun _ => rfl) h_σ28 dX12_init_14 ?_
  refine wk_aload_n C 0 rfl dX12_init_17 ?_
  refine wk_aload_n C 1 rfl dX12_init_18 ?_
  obtain ⟨v29, h_v29, hf⟩ := ho_b hf
  refine wk_getR C fx_X12_23 h_v29 dX12_init_19 ?_
  obtain ⟨b30, h_b30, hf⟩ := ho_b hf
  obtain ⟨v32, σ31, h_σ31, hf⟩ := ho_e2 hf
  refine wk_callF (av := []) (rest := [vR p0]) (rv := some (vI v32)) C h_b30 rx_13 cx_X12_27_13 (mt_J2_size (wk_C.tr C) h_σ31) rfl rfl (Nat.le_of_ble_eq_true rfl) (Nat.le_of_ble_eq_true rfl) (Nat.le_of_ble_eq_true rfl) dX12_init_22 ?_
  obtain ⟨σ33, h_σ33, hf⟩ := ho_b hf
  refine wk_putI C px_X12_33 (fun _ => rfl) h_σ33 dX12_init_27 ?_
  refine wk_aload_n C 0 rfl dX12_init_30 ?_
  refine wk_aload_n C 0 rfl dX12_init_31 ?_
  obtain ⟨v34, h_v34, hf⟩ := ho_b hf
  refine wk_getI C fx_X12_33 h_v34 dX12_init_32 ?_
  obtain ⟨v35, σ36, h_σ36, hf⟩ := ho_e2 hf
  refine wk_anewA C (k := 5) (Nat.le_of_ble_eq_true rfl) rfl q1136 (by decide +kernel) h_σ36 dX12_init_35 ?_
  obtain ⟨σ37, h_σ37, hf⟩ := ho_b hf
  refine wk_putR C px_X12_38 (Or.inr ⟨_, rfl⟩) (fun _ => rfl) h_σ37 dX12_init_38 ?_
  refine wk_iconst (v := 0) C dX12_init_41 rfl ?_
  refine wk_istore_n (L' := [(0, vR p0), (1, vR p1), (2, vI (0 : Int32))]) C (by decide) rfl dX12_init_42 ?_
  refine wk_sub (L' := [(0, vR p0), (2, vI (0 : Int32))]) [0, 2] rfl ?_
  exact wb_X12_init_b43 C  _ _ _ _ hf
set_option maxHeartbeats 4000000 in
theorem wb_X12_bears_b16 {E : Ev} {K : Kx} (C : wk_C E K yX12_bears cX12_bears 6 (Option.some FieldType.boolean) 5 128 []) {r : Int32} {σ' : Hs} : ∀ (n : Nat) (l0 : Option Nat) (l2 : Option Nat) (l3 : Int32) (l4 : Int32) (σ : Hs), fn_X12_bears_b16 n l0 l2 l3 l4 σ = some (r, σ') → wk_V E K (.inl (some (.int r))) σ' σ 16 [(0, vR l0), (2, vR l2), (3, vI l3), (4, vI l4)] [] := by
  intro n
  induction n with
  | zero =>
    intro l0 l2 l3 l4 σ hf
    rw [fn_X12_bears_b16] at hf
    cases hf
  | succ n ih =>
    intro l0 l2 l3 l4 σ hf
    rw [fn_X12_bears_b16] at hf
    refine wk_iload C 3 rfl dX12_bears_16 ?_
    refine wk_iload_n C 2 rfl dX12_bears_18 ?_
    refine wk_icmp_ge C 54 (by decide) dX12_bears_19 (fun c_ => ?_) (fun c_ => ?_)
    · rw [if_pos c_] at hf
      refine wk_iconst (v := 1) C dX12_bears_54 rfl ?_
      obtain ⟨rfl, rfl⟩ := Prod.mk.inj (Option.some.inj hf)
      exact wk_zret C (v := (1 : Int32)) rfl rfl rfl dX12_bears_55
    · rw [if_neg c_] at hf
      refine wk_aload_n C 1 rfl dX12_bears_22 ?_
      refine wk_iload C 3 rfl dX12_bears_23 ?_
      obtain ⟨v1, h_v1, hf⟩ := ho_b hf
      refine wk_aald C h_v1 dX12_bears_25 ?_
      refine wk_astore (L' := [(0, vR l0), (2, vR l2), (3, vI l3), (4, vI l4), (5, vR v1)]) C (by decide) rfl dX12_bears_26 ?_
      refine wk_aload_n C 0 rfl dX12_bears_28 ?_
      obtain ⟨v2, h_v2, hf⟩ := ho_b hf
      refine wk_getR C fx_X12_7 h_v2 dX12_bears_29 ?_
      refine wk_aload C 4 rfl dX12_bears_32 ?_
      refine wk_aload_n C 0 rfl dX12_bears_34 ?_
      refine wk_aload C 4 rfl dX12_bears_35 ?_
      obtain ⟨b3, h_b3, hf⟩ := ho_b hf
      obtain ⟨v5, σ4, h_σ4, hf⟩ := ho_e2 hf
      refine wk_callV (av := [vR v1]) (rest := [vR v1, vR v2]) (rv := some (vI v5)) C h_b3 rx_11 cx_X12_122 (mt_X12_forceIn (wk_C.tr C) h_σ4) rfl rfl (Nat.le_of_ble_eq_true rfl) (Nat.le_of_ble_eq_true rfl) (Nat.le_of_ble_eq_true rfl) dX12_bears_37 ?_
      obtain ⟨b6, h_b6, hf⟩ := ho_b hf
      obtain ⟨v8, σ7, h_σ7, hf⟩ := ho_e2 hf
      refine wk_callV (av := [vR v1, vI v5]) (rest := []) (rv := some (vI v8)) C h_b6 rx_1 cx_X12_155 (mt_X2_bears (wk_C.tr C) h_σ7) rfl rfl (Nat.le_of_ble_eq_true rfl) (Nat.le_of_ble_eq_true rfl) (Nat.le_of_ble_eq_true rfl) dX12_bears_40 ?_
      refine wk_if_ne C 48 (by decide) dX12_bears_43 (fun c_ => ?_) (fun c_ => ?_)
      · rw [if_neg c_] at hf
        refine wk_iinc (v := l4 + 1) (L' := [(0, vR l0), (2, vR l2), (3, vI l3), (4, vI (l4 + 1)), (5, vR v1)]) C 3 rfl (by decide) rfl rfl dX12_bears_48 ?_
        refine wk_goto C 16 (by decide) dX12_bears_51 ?_
        refine wk_sub (L' := [(0, vR l0), (2, vR l2), (3, vI l3), (4, vI (l4 + 1))]) [0, 1, 2, 3] rfl ?_
        exact ih _ _ _ _ _ hf
      · rw [if_pos c_] at hf
        refine wk_iconst (v := 0) C dX12_bears_46 rfl ?_
        obtain ⟨rfl, rfl⟩ := Prod.mk.inj (Option.some.inj hf)
        exact wk_zret C (v := (0 : Int32)) rfl rfl rfl dX12_bears_47
set_option maxHeartbeats 4000000 in
theorem mt_X12_bears {E : Ev} {l : Launch} (hl : l.stackTraces = false) {p0 : Option Nat} {p1 : Int32} {σ : Hs} {r : Int32} {σ' : Hs} (hf : fn_X12_bears p0 p1 σ = some (r, σ')) : wk_M E l yX12_bears (ws_ yX12_bears cX12_bears 6 (Option.some FieldType.boolean)) 5 128 [vR p0, vI p1] σ (.inl (some (.int r))) σ' := by
  refine wk_start (by decide +kernel) hl (Nat.le_of_ble_eq_true rfl) (fun K C hK => ?_)
  subst hK
  refine wk_L (L' := [(0, vR p0), (1, vI p1)]) rfl ?_
  unfold fn_X12_bears at hf
  refine wk_aload_n C 0 rfl dX12_bears_0 ?_
  refine wk_iload_n C 1 rfl dX12_bears_1 ?_
  obtain ⟨b9, h_b9, hf⟩ := ho_b hf
  obtain ⟨σ10, h_σ10, hf⟩ := ho_b hf
  refine wk_callV (av := [vI p1]) (rest := []) (rv := none) C h_b9 rx_11 cx_X12_151 (mt_X12_relax (wk_C.tr C) h_σ10) rfl rfl (Nat.le_of_ble_eq_true rfl) (Nat.le_of_ble_eq_true rfl) (Nat.le_of_ble_eq_true rfl) dX12_bears_2 ?_
  refine wk_aload_n C 0 rfl dX12_bears_5 ?_
  obtain ⟨v11, h_v11, hf⟩ := ho_b hf
  refine wk_getR C fx_X12_19 h_v11 dX12_bears_6 ?_
  refine wk_astore_n (L' := [(0, vR p0), (1, vI p1), (2, vR v11)]) C (by decide) rfl dX12_bears_9 ?_
  refine wk_aload_n C 2 rfl dX12_bears_10 ?_
  obtain ⟨v12, h_v12, hf⟩ := ho_b hf
  refine wk_alen C h_v12 dX12_bears_11 ?_
  refine wk_istore_n (L' := [(0, vR p0), (1, vI p1), (2, vR v11), (3, vI v12)]) C (by decide) rfl dX12_bears_12 ?_
  refine wk_iconst (v := 0) C dX12_bears_13 rfl ?_
  refine wk_istore (L' := [(0, vR p0), (1, vI p1), (2, vR v11), (3, vI v12), (4, vI (0 : Int32))]) C (by decide) rfl dX12_bears_14 ?_
  refine wk_sub (L' := [(0, vR p0), (2, vR v11), (3, vI v12), (4, vI (0 : Int32))]) [0, 2, 3, 4] rfl ?_
  exact wb_X12_bears_b16 C  _ _ _ _ _ _ hf
set_option maxHeartbeats 4000000 in
theorem wb_X12_bearsLoads_b10 {E : Ev} {K : Kx} (C : wk_C E K yX12_bearsLoads cX12_bearsLoads 3 (Option.some FieldType.boolean) 6 153 []) {r : Int32} {σ' : Hs} : ∀ (n : Nat) (l0 : Option Nat) (l1 : Int32) (l2 : Int32) (σ : Hs), fn_X12_bearsLoads_b10 n l0 l1 l2 σ = some (r, σ') → wk_V E K (.inl (some (.int r))) σ' σ 10 [(0, vR l0), (1, vI l1), (2, vI l2)] [] := by
  intro n
  induction n with
  | zero =>
    intro l0 l1 l2 σ hf
    rw [fn_X12_bearsLoads_b10] at hf
    cases hf
  | succ n ih =>
    intro l0 l1 l2 σ hf
    rw [fn_X12_bearsLoads_b10] at hf
    refine wk_iload_n C 2 rfl dX12_bearsLoads_10 ?_
    refine wk_iload_n C 1 rfl dX12_bearsLoads_11 ?_
    refine wk_icmp_ge C 31 (by decide) dX12_bearsLoads_12 (fun c_ => ?_) (fun c_ => ?_)
    · rw [if_pos c_] at hf
      refine wk_iconst (v := 1) C dX12_bearsLoads_31 rfl ?_
      obtain ⟨rfl, rfl⟩ := Prod.mk.inj (Option.some.inj hf)
      exact wk_zret C (v := (1 : Int32)) rfl rfl rfl dX12_bearsLoads_32
    · rw [if_neg c_] at hf
      refine wk_aload_n C 0 rfl dX12_bearsLoads_15 ?_
      refine wk_iload_n C 2 rfl dX12_bearsLoads_16 ?_
      obtain ⟨b1, h_b1, hf⟩ := ho_b hf
      obtain ⟨v3, σ2, h_σ2, hf⟩ := ho_e2 hf
      refine wk_callV (av := [vI l2]) (rest := []) (rv := some (vI v3)) C h_b1 rx_11 cx_X12_162 (mt_X12_bears (wk_C.tr C) h_σ2) rfl rfl (Nat.le_of_ble_eq_true rfl) (Nat.le_of_ble_eq_true rfl) (Nat.le_of_ble_eq_true rfl) dX12_bearsLoads_17 ?_
      refine wk_if_ne C 25 (by decide) dX12_bearsLoads_20 (fun c_ => ?_) (fun c_ => ?_)
      · rw [if_neg c_] at hf
        refine wk_iinc (v := l2 + 1) (L' := [(0, vR l0), (1, vI l1), (2, vI (l2 + 1))]) C 2 rfl (by decide) rfl rfl dX12_bearsLoads_25 ?_
        refine wk_goto C 10 (by decide) dX12_bearsLoads_28 ?_
        exact ih _ _ _ _ hf
      · rw [if_pos c_] at hf
        refine wk_iconst (v := 0) C dX12_bearsLoads_23 rfl ?_
        obtain ⟨rfl, rfl⟩ := Prod.mk.inj (Option.some.inj hf)
        exact wk_zret C (v := (0 : Int32)) rfl rfl rfl dX12_bearsLoads_24
set_option maxHeartbeats 4000000 in
theorem mt_X12_bearsLoads {E : Ev} {l : Launch} (hl : l.stackTraces = false) {p0 : Option Nat} {σ : Hs} {r : Int32} {σ' : Hs} (hf : fn_X12_bearsLoads p0 σ = some (r, σ')) : wk_M E l yX12_bearsLoads (ws_ yX12_bearsLoads cX12_bearsLoads 3 (Option.some FieldType.boolean)) 6 153 [vR p0] σ (.inl (some (.int r))) σ' := by
  refine wk_start (by decide +kernel) hl (Nat.le_of_ble_eq_true rfl) (fun K C hK => ?_)
  subst hK
  refine wk_L (L' := [(0, vR p0)]) rfl ?_
  unfold fn_X12_bearsLoads at hf
  refine wk_aload_n C 0 rfl dX12_bearsLoads_0 ?_
  obtain ⟨v4, h_v4, hf⟩ := ho_b hf
  refine wk_getR C fx_X12_7 h_v4 dX12_bearsLoads_1 ?_
  obtain ⟨b5, h_b5, hf⟩ := ho_b hf
  obtain ⟨v7, σ6, h_σ6, hf⟩ := ho_e2 hf
  refine wk_callV (av := []) (rest := []) (rv := some (vI v7)) C h_b5 rx_1 cx_X12_159 (mt_X2_countStages (wk_C.tr C) h_σ6) rfl rfl (Nat.le_of_ble_eq_true rfl) (Nat.le_of_ble_eq_true rfl) (Nat.le_of_ble_eq_true rfl) dX12_bearsLoads_4 ?_
  refine wk_istore_n (L' := [(0, vR p0), (1, vI v7)]) C (by decide) rfl dX12_bearsLoads_7 ?_
  refine wk_iconst (v := 0) C dX12_bearsLoads_8 rfl ?_
  refine wk_istore_n (L' := [(0, vR p0), (1, vI v7), (2, vI (0 : Int32))]) C (by decide) rfl dX12_bearsLoads_9 ?_
  exact wb_X12_bearsLoads_b10 C  _ _ _ _ _ hf
set_option maxHeartbeats 4000000 in
theorem wb_X12_failures_b92 {E : Ev} {K : Kx} (C : wk_C E K yX12_failures cX12_failures 5 (Option.some (FieldType.object "java/util/Set")) 7 160 []) {k18 : Option Nat → Option Nat → Int32 → Int32 → Hs → Option (Option Nat × Hs)} {r : Option Nat} {σ' : Hs} (hk18 : ∀ (l0 : Option Nat) (l1 : Option Nat) (l2 : Int32) (l3 : Int32) (σ : Hs), k18 l0 l1 l2 l3 σ = some (r, σ') → wk_V E K (.inl (some (va_rf r))) σ' σ 18 [(0, vR l0), (1, vR l1), (2, vI l2), (3, vI l3)] []) (l0 : Option Nat) (l1 : Option Nat) (l2 : Int32) (l3 : Int32) (σ : Hs) (hf : fn_X12_failures_b92 E.2.2.1 k18 l0 l1 l2 l3 σ = some (r, σ')) : wk_V E K (.inl (some (va_rf r))) σ' σ 92 [(0, vR l0), (1, vR l1), (2, vI l2), (3, vI l3)] [] := by
  unfold fn_X12_failures_b92 at hf
  refine wk_iinc (v := l3 + 1) (L' := [(0, vR l0), (1, vR l1), (2, vI l2), (3, vI (l3 + 1))]) C 3 rfl (by decide) rfl rfl dX12_failures_92 ?_
  refine wk_goto C 18 (by decide) dX12_failures_95 ?_
  exact hk18 _ _ _ _ _ hf
set_option maxHeartbeats 4000000 in
theorem wb_X12_failures_b86 {E : Ev} {K : Kx} (C : wk_C E K yX12_failures cX12_failures 5 (Option.some (FieldType.object "java/util/Set")) 7 160 []) {k31 : Option Nat → Option Nat → Int32 → Int32 → Int32 → Hs → Option (Option Nat × Hs)} {r : Option Nat} {σ' : Hs} (hk31 : ∀ (l0 : Option Nat) (l1 : Option Nat) (l2 : Int32) (l3 : Int32) (l4 : Int32) (σ : Hs), k31 l0 l1 l2 l3 l4 σ = some (r, σ') → wk_V E K (.inl (some (va_rf r))) σ' σ 31 [(0, vR l0), (1, vR l1), (2, vI l2), (3, vI l3), (4, vI l4)] []) (l0 : Option Nat) (l1 : Option Nat) (l2 : Int32) (l3 : Int32) (l4 : Int32) (σ : Hs) (hf : fn_X12_failures_b86 E.2.2.1 k31 l0 l1 l2 l3 l4 σ = some (r, σ')) : wk_V E K (.inl (some (va_rf r))) σ' σ 86 [(0, vR l0), (1, vR l1), (2, vI l2), (3, vI l3), (4, vI l4)] [] := by
  unfold fn_X12_failures_b86 at hf
  refine wk_iinc (v := l4 + 1) (L' := [(0, vR l0), (1, vR l1), (2, vI l2), (3, vI l3), (4, vI (l4 + 1))]) C 4 rfl (by decide) rfl rfl dX12_failures_86 ?_
  refine wk_goto C 31 (by decide) dX12_failures_89 ?_
  exact hk31 _ _ _ _ _ _ hf
set_option maxHeartbeats 4000000 in
theorem wb_X12_failures_b31 {E : Ev} {K : Kx} (C : wk_C E K yX12_failures cX12_failures 5 (Option.some (FieldType.object "java/util/Set")) 7 160 []) {k18 : Option Nat → Option Nat → Int32 → Int32 → Hs → Option (Option Nat × Hs)} {r : Option Nat} {σ' : Hs} (hk18 : ∀ (l0 : Option Nat) (l1 : Option Nat) (l2 : Int32) (l3 : Int32) (σ : Hs), k18 l0 l1 l2 l3 σ = some (r, σ') → wk_V E K (.inl (some (va_rf r))) σ' σ 18 [(0, vR l0), (1, vR l1), (2, vI l2), (3, vI l3)] []) : ∀ (n : Nat) (l0 : Option Nat) (l1 : Option Nat) (l2 : Int32) (l3 : Int32) (l4 : Int32) (σ : Hs), fn_X12_failures_b31 E.2.2.1 k18 n l0 l1 l2 l3 l4 σ = some (r, σ') → wk_V E K (.inl (some (va_rf r))) σ' σ 31 [(0, vR l0), (1, vR l1), (2, vI l2), (3, vI l3), (4, vI l4)] [] := by
  intro n
  induction n with
  | zero =>
    intro l0 l1 l2 l3 l4 σ hf
    rw [fn_X12_failures_b31] at hf
    cases hf
  | succ n ih =>
    intro l0 l1 l2 l3 l4 σ hf
    rw [fn_X12_failures_b31] at hf
    refine wk_iload C 4 rfl dX12_failures_31 ?_
    refine wk_aload_n C 0 rfl dX12_failures_33 ?_
    obtain ⟨v1, h_v1, hf⟩ := ho_b hf
    refine wk_getR C fx_X12_19 h_v1 dX12_failures_34 ?_
    obtain ⟨v2, h_v2, hf⟩ := ho_b hf
    refine wk_alen C h_v2 dX12_failures_37 ?_
    refine wk_icmp_ge C 92 (by decide) dX12_failures_38 (fun c_ => ?_) (fun c_ => ?_)
    · rw [if_pos c_] at hf
      refine wk_sub (L' := [(0, vR l0), (1, vR l1), (2, vI l2), (3, vI l3)]) [0, 1, 2, 3] rfl ?_
      exact wb_X12_failures_b92 C hk18 _ _ _ _ _ hf
    · rw [if_neg c_] at hf
      refine wk_aload_n C 0 rfl dX12_failures_41 ?_
      obtain ⟨v3, h_v3, hf⟩ := ho_b hf
      refine wk_getR C fx_X12_7 h_v3 dX12_failures_42 ?_
      refine wk_aload_n C 0 rfl dX12_failures_45 ?_
      obtain ⟨v4, h_v4, hf⟩ := ho_b hf
      refine wk_getR C fx_X12_19 h_v4 dX12_failures_46 ?_
      refine wk_iload C 4 rfl dX12_failures_49 ?_
      obtain ⟨v5, h_v5, hf⟩ := ho_b hf
      refine wk_aald C h_v5 dX12_failures_51 ?_
      refine wk_aload_n C 0 rfl dX12_failures_52 ?_
      refine wk_aload_n C 0 rfl dX12_failures_53 ?_
      obtain ⟨v6, h_v6, hf⟩ := ho_b hf
      refine wk_getR C fx_X12_19 h_v6 dX12_failures_54 ?_
      refine wk_iload C 4 rfl dX12_failures_57 ?_
      obtain ⟨v7, h_v7, hf⟩ := ho_b hf
      refine wk_aald C h_v7 dX12_failures_59 ?_
      obtain ⟨b8, h_b8, hf⟩ := ho_b hf
      obtain ⟨v10, σ9, h_σ9, hf⟩ := ho_e2 hf
      refine wk_callV (av := [vR v7]) (rest := [vR v5, vR v3]) (rv := some (vI v10)) C h_b8 rx_11 cx_X12_122 (mt_X12_forceIn (wk_C.tr C) h_σ9) rfl rfl (Nat.le_of_ble_eq_true rfl) (Nat.le_of_ble_eq_true rfl) (Nat.le_of_ble_eq_true rfl) dX12_failures_60 ?_
      obtain ⟨b11, h_b11, hf⟩ := ho_b hf
      obtain ⟨v13, σ12, h_σ12, hf⟩ := ho_e2 hf
      refine wk_callV (av := [vR v5, vI v10]) (rest := []) (rv := some (vI v13)) C h_b11 rx_1 cx_X12_155 (mt_X2_bears (wk_C.tr C) h_σ12) rfl rfl (Nat.le_of_ble_eq_true rfl) (Nat.le_of_ble_eq_true rfl) (Nat.le_of_ble_eq_true rfl) dX12_failures_63 ?_
      refine wk_if_ne C 86 (by decide) dX12_failures_66 (fun c_ => ?_) (fun c_ => ?_)
      · rw [if_neg c_] at hf
        exact wb_X12_failures_b86 C ih _ _ _ _ _ _ hf
      · rw [if_pos c_] at hf
        refine wk_aload_n C 1 rfl dX12_failures_69 ?_
        obtain ⟨v14, σ15, h_σ15, hf⟩ := ho_e2 hf
        refine wk_new C nx_X12_167 h_σ15 dX12_failures_70 ?_
        refine wk_dup C rfl dX12_failures_73 ?_
        refine wk_iload_n C 3 rfl dX12_failures_74 ?_
        refine wk_iload C 4 rfl dX12_failures_75 ?_
        obtain ⟨b16, h_b16, hf⟩ := ho_b hf
        obtain ⟨σ17, h_σ17, hf⟩ := ho_b hf
        refine wk_callI (av := [vI l3, vI l4]) (rest := [vR v14, vR l1]) C cx_X12_169 h_b16 (mt_X13_init (wk_C.tr C) h_σ17) rfl (Nat.le_of_ble_eq_true rfl) (Nat.le_of_ble_eq_true rfl) (Nat.le_of_ble_eq_true rfl) dX12_failures_77 ?_
        obtain ⟨b18, h_b18, hf⟩ := ho_b hf
        obtain ⟨v20, σ19, h_σ19, hf⟩ := ho_e2 hf
        refine wk_callF (av := [vR v14]) (rest := []) (rv := some (vI v20)) C h_b18 rx_24 cx_X12_171_24 (mt_J44_add (wk_C.tr C) h_σ19) rfl rfl (Nat.le_of_ble_eq_true rfl) (Nat.le_of_ble_eq_true rfl) (Nat.le_of_ble_eq_true rfl) dX12_failures_80 ?_
        refine wk_pop C rfl dX12_failures_85 ?_
        exact wb_X12_failures_b86 C ih _ _ _ _ _ _ hf
set_option maxHeartbeats 4000000 in
theorem wb_X12_failures_b18 {E : Ev} {K : Kx} (C : wk_C E K yX12_failures cX12_failures 5 (Option.some (FieldType.object "java/util/Set")) 7 160 []) {r : Option Nat} {σ' : Hs} : ∀ (n : Nat) (l0 : Option Nat) (l1 : Option Nat) (l2 : Int32) (l3 : Int32) (σ : Hs), fn_X12_failures_b18 E.2.2.1 n l0 l1 l2 l3 σ = some (r, σ') → wk_V E K (.inl (some (va_rf r))) σ' σ 18 [(0, vR l0), (1, vR l1), (2, vI l2), (3, vI l3)] [] := by
  intro n
  induction n with
  | zero =>
    intro l0 l1 l2 l3 σ hf
    rw [fn_X12_failures_b18] at hf
    cases hf
  | succ n ih =>
    intro l0 l1 l2 l3 σ hf
    rw [fn_X12_failures_b18] at hf
    refine wk_iload_n C 3 rfl dX12_failures_18 ?_
    refine wk_iload_n C 2 rfl dX12_failures_19 ?_
    refine wk_icmp_ge C 98 (by decide) dX12_failures_20 (fun c_ => ?_) (fun c_ => ?_)
    · rw [if_pos c_] at hf
      refine wk_aload_n C 1 rfl dX12_failures_98 ?_
      obtain ⟨rfl, rfl⟩ := Prod.mk.inj (Option.some.inj hf)
      exact wk_aret C (Or.inl ⟨_, rfl⟩) rfl rfl dX12_failures_99
    · rw [if_neg c_] at hf
      refine wk_aload_n C 0 rfl dX12_failures_23 ?_
      refine wk_iload_n C 3 rfl dX12_failures_24 ?_
      obtain ⟨b21, h_b21, hf⟩ := ho_b hf
      obtain ⟨σ22, h_σ22, hf⟩ := ho_b hf
      refine wk_callV (av := [vI l3]) (rest := []) (rv := none) C h_b21 rx_11 cx_X12_151 (mt_X12_relax (wk_C.tr C) h_σ22) rfl rfl (Nat.le_of_ble_eq_true rfl) (Nat.le_of_ble_eq_true rfl) (Nat.le_of_ble_eq_true rfl) dX12_failures_25 ?_
      refine wk_iconst (v := 0) C dX12_failures_28 rfl ?_
      refine wk_istore (L' := [(0, vR l0), (1, vR l1), (2, vI l2), (3, vI l3), (4, vI (0 : Int32))]) C (by decide) rfl dX12_failures_29 ?_
      exact wb_X12_failures_b31 C ih _ _ _ _ _ _ _ hf
set_option maxHeartbeats 4000000 in
theorem mt_X12_failures {E : Ev} {l : Launch} (hl : l.stackTraces = false) {p0 : Option Nat} {σ : Hs} {r : Option Nat} {σ' : Hs} (hf : fn_X12_failures E.2.2.1 p0 σ = some (r, σ')) : wk_M E l yX12_failures (ws_ yX12_failures cX12_failures 5 (Option.some (FieldType.object "java/util/Set"))) 7 160 [vR p0] σ (.inl (some (va_rf r))) σ' := by
  refine wk_start (by decide +kernel) hl (Nat.le_of_ble_eq_true rfl) (fun K C hK => ?_)
  subst hK
  refine wk_L (L' := [(0, vR p0)]) rfl ?_
  unfold fn_X12_failures at hf
  obtain ⟨v23, σ24, h_σ24, hf⟩ := ho_e2 hf
  refine wk_new C nx_X12_164 h_σ24 dX12_failures_0 ?_
  refine wk_dup C rfl dX12_failures_3 ?_
  obtain ⟨b25, h_b25, hf⟩ := ho_b hf
  obtain ⟨σ26, h_σ26, hf⟩ := ho_b hf
  refine wk_callI (av := []) (rest := [vR v23]) C cx_X12_166 h_b25 (mt_J45_init (wk_C.tr C) h_σ26) rfl (Nat.le_of_ble_eq_true rfl) (Nat.le_of_ble_eq_true rfl) (Nat.le_of_ble_eq_true rfl) dX12_failures_4 ?_
  refine wk_astore_n (L' := [(0, vR p0), (1, vR v23)]) C (by decide) rfl dX12_failures_7 ?_
  refine wk_aload_n C 0 rfl dX12_failures_8 ?_
  obtain ⟨v27, h_v27, hf⟩ := ho_b hf
  refine wk_getR C fx_X12_7 h_v27 dX12_failures_9 ?_
  obtain ⟨b28, h_b28, hf⟩ := ho_b hf
  obtain ⟨v30, σ29, h_σ29, hf⟩ := ho_e2 hf
  refine wk_callV (av := []) (rest := []) (rv := some (vI v30)) C h_b28 rx_1 cx_X12_159 (mt_X2_countStages (wk_C.tr C) h_σ29) rfl rfl (Nat.le_of_ble_eq_true rfl) (Nat.le_of_ble_eq_true rfl) (Nat.le_of_ble_eq_true rfl) dX12_failures_12 ?_
  refine wk_istore_n (L' := [(0, vR p0), (1, vR v23), (2, vI v30)]) C (by decide) rfl dX12_failures_15 ?_
  refine wk_iconst (v := 0) C dX12_failures_16 rfl ?_
  refine wk_istore_n (L' := [(0, vR p0), (1, vR v23), (2, vI v30), (3, vI (0 : Int32))]) C (by decide) rfl dX12_failures_17 ?_
  exact wb_X12_failures_b18 C  _ _ _ _ _ _ hf
set_option maxHeartbeats 4000000 in
theorem mt_X2_bearsLoads {E : Ev} {l : Launch} (hl : l.stackTraces = false) {p0 : Option Nat} {σ : Hs} {r : Int32} {σ' : Hs} (hf : fn_X2_bearsLoads p0 σ = some (r, σ')) : wk_M E l yX2_bearsLoads (ws_ yX2_bearsLoads cX2_bearsLoads 1 (Option.some FieldType.boolean)) 7 175 [vR p0] σ (.inl (some (.int r))) σ' := by
  refine wk_start (by decide +kernel) hl (Nat.le_of_ble_eq_true rfl) (fun K C hK => ?_)
  subst hK
  refine wk_L (L' := [(0, vR p0)]) rfl ?_
  unfold fn_X2_bearsLoads at hf
  obtain ⟨v1, σ2, h_σ2, hf⟩ := ho_e2 hf
  refine wk_new C nx_X2_186 h_σ2 dX2_bearsLoads_0 ?_
  refine wk_dup C rfl dX2_bearsLoads_3 ?_
  refine wk_aload_n C 0 rfl dX2_bearsLoads_4 ?_
  obtain ⟨b3, h_b3, hf⟩ := ho_b hf
  obtain ⟨σ4, h_σ4, hf⟩ := ho_b hf
  refine wk_callI (av := [vR p0]) (rest := [vR v1]) C cx_X2_188 h_b3 (mt_X12_init (wk_C.tr C) h_σ4) rfl (Nat.le_of_ble_eq_true rfl) (Nat.le_of_ble_eq_true rfl) (Nat.le_of_ble_eq_true rfl) dX2_bearsLoads_5 ?_
  obtain ⟨b5, h_b5, hf⟩ := ho_b hf
  obtain ⟨v7, σ6, h_σ6, hf⟩ := ho_e2 hf
  refine wk_callV (av := []) (rest := []) (rv := some (vI v7)) C h_b5 rx_11 cx_X2_191 (mt_X12_bearsLoads (wk_C.tr C) h_σ6) rfl rfl (Nat.le_of_ble_eq_true rfl) (Nat.le_of_ble_eq_true rfl) (Nat.le_of_ble_eq_true rfl) dX2_bearsLoads_8 ?_
  obtain ⟨v8, h_v8, hf⟩ := ho_b hf
  obtain ⟨rfl, rfl⟩ := Prod.mk.inj (Option.some.inj hf)
  exact wk_zret C h_v8 rfl rfl dX2_bearsLoads_11
set_option maxHeartbeats 4000000 in
theorem wb_X2_leastArea_b59 {E : Ev} {K : Kx} (C : wk_C E K yX2_leastArea cX2_leastArea 6 (Option.some FieldType.int) 7 175 []) {r : Int32} {σ' : Hs} (l0 : Option Nat) (l1 : Int32) (l2 : Int32) (l4 : Int32) (σ : Hs) (hf : fn_X2_leastArea_b59 l0 l1 l2 l4 σ = some (r, σ')) : wk_V E K (.inl (some (.int r))) σ' σ 59 [(0, vR l0), (1, vI l1), (2, vI l2), (4, vI l4)] [] := by
  unfold fn_X2_leastArea_b59 at hf
  refine wk_aload_n C 0 rfl dX2_leastArea_59 ?_
  obtain ⟨v1, h_v1, hf⟩ := ho_b hf
  refine wk_getR C fx_X2_26 h_v1 dX2_leastArea_60 ?_
  refine wk_iload_n C 1 rfl dX2_leastArea_63 ?_
  refine wk_iload_n C 2 rfl dX2_leastArea_64 ?_
  obtain ⟨σ2, h_σ2, hf⟩ := ho_b hf
  refine wk_iast C h_σ2 dX2_leastArea_65 ?_
  refine wk_iload C 3 rfl dX2_leastArea_66 ?_
  obtain ⟨rfl, rfl⟩ := Prod.mk.inj (Option.some.inj hf)
  exact wk_iret C rfl rfl dX2_leastArea_68
set_option maxHeartbeats 4000000 in
theorem wb_X2_leastArea_b53 {E : Ev} {K : Kx} (C : wk_C E K yX2_leastArea cX2_leastArea 6 (Option.some FieldType.int) 7 175 []) {k22 : Option Nat → Int32 → Int32 → Option Nat → Int32 → Int32 → Hs → Option (Int32 × Hs)} {r : Int32} {σ' : Hs} (hk22 : ∀ (l0 : Option Nat) (l1 : Int32) (l2 : Int32) (l3 : Option Nat) (l4 : Int32) (l5 : Int32) (σ : Hs), k22 l0 l1 l2 l3 l4 l5 σ = some (r, σ') → wk_V E K (.inl (some (.int r))) σ' σ 22 [(0, vR l0), (1, vI l1), (2, vI l2), (3, vR l3), (4, vI l4), (5, vI l5)] []) (l0 : Option Nat) (l1 : Int32) (l2 : Int32) (l3 : Option Nat) (l4 : Int32) (l5 : Int32) (σ : Hs) (hf : fn_X2_leastArea_b53 k22 l0 l1 l2 l3 l4 l5 σ = some (r, σ')) : wk_V E K (.inl (some (.int r))) σ' σ 53 [(0, vR l0), (1, vI l1), (2, vI l2), (3, vR l3), (4, vI l4), (5, vI l5)] [] := by
  unfold fn_X2_leastArea_b53 at hf
  refine wk_iinc (v := l5 + 1) (L' := [(0, vR l0), (1, vI l1), (2, vI l2), (3, vR l3), (4, vI l4), (5, vI (l5 + 1))]) C 5 rfl (by decide) rfl rfl dX2_leastArea_53 ?_
  refine wk_goto C 22 (by decide) dX2_leastArea_56 ?_
  exact hk22 _ _ _ _ _ _ _ hf
set_option maxHeartbeats 4000000 in
theorem wb_X2_leastArea_b22 {E : Ev} {K : Kx} (C : wk_C E K yX2_leastArea cX2_leastArea 6 (Option.some FieldType.int) 7 175 []) {r : Int32} {σ' : Hs} : ∀ (n : Nat) (l0 : Option Nat) (l1 : Int32) (l2 : Int32) (l3 : Option Nat) (l4 : Int32) (l5 : Int32) (σ : Hs), fn_X2_leastArea_b22 n l0 l1 l2 l3 l4 l5 σ = some (r, σ') → wk_V E K (.inl (some (.int r))) σ' σ 22 [(0, vR l0), (1, vI l1), (2, vI l2), (3, vR l3), (4, vI l4), (5, vI l5)] [] := by
  intro n
  induction n with
  | zero =>
    intro l0 l1 l2 l3 l4 l5 σ hf
    rw [fn_X2_leastArea_b22] at hf
    cases hf
  | succ n ih =>
    intro l0 l1 l2 l3 l4 l5 σ hf
    rw [fn_X2_leastArea_b22] at hf
    refine wk_iload C 5 rfl dX2_leastArea_22 ?_
    refine wk_bipush (v := 50) C dX2_leastArea_24 rfl ?_
    refine wk_icmp_gt C 59 (by decide) dX2_leastArea_26 (fun c_ => ?_) (fun c_ => ?_)
    · rw [if_pos c_] at hf
      refine wk_sub (L' := [(0, vR l0), (1, vI l1), (2, vI l2), (4, vI l4)]) [0, 1, 2, 4] rfl ?_
      exact wb_X2_leastArea_b59 C  _ _ _ _ _ hf
    · rw [if_neg c_] at hf
      refine wk_iload C 4 rfl dX2_leastArea_29 ?_
      refine wk_if_ge C 59 (by decide) dX2_leastArea_31 (fun c_ => ?_) (fun c_ => ?_)
      · rw [if_pos c_] at hf
        refine wk_sub (L' := [(0, vR l0), (1, vI l1), (2, vI l2), (4, vI l4)]) [0, 1, 2, 4] rfl ?_
        exact wb_X2_leastArea_b59 C  _ _ _ _ _ hf
      · rw [if_neg c_] at hf
        refine wk_aload_n C 0 rfl dX2_leastArea_34 ?_
        obtain ⟨v3, h_v3, hf⟩ := ho_b hf
        refine wk_getR C fx_X2_26 h_v3 dX2_leastArea_35 ?_
        refine wk_iload_n C 1 rfl dX2_leastArea_38 ?_
        refine wk_iload C 5 rfl dX2_leastArea_39 ?_
        obtain ⟨σ4, h_σ4, hf⟩ := ho_b hf
        refine wk_iast C h_σ4 dX2_leastArea_41 ?_
        refine wk_aload_n C 3 rfl dX2_leastArea_42 ?_
        obtain ⟨b5, h_b5, hf⟩ := ho_b hf
        obtain ⟨v7, σ6, h_σ6, hf⟩ := ho_e2 hf
        refine wk_callV (av := []) (rest := []) (rv := some (vI v7)) C h_b5 rx_11 cx_X2_191 (mt_X12_bearsLoads (wk_C.tr C) h_σ6) rfl rfl (Nat.le_of_ble_eq_true rfl) (Nat.le_of_ble_eq_true rfl) (Nat.le_of_ble_eq_true rfl) dX2_leastArea_43 ?_
        refine wk_if_eq C 53 (by decide) dX2_leastArea_46 (fun c_ => ?_) (fun c_ => ?_)
        · rw [if_pos c_] at hf
          exact wb_X2_leastArea_b53 C ih _ _ _ _ _ _ _ hf
        · rw [if_neg c_] at hf
          refine wk_iload C 5 rfl dX2_leastArea_49 ?_
          refine wk_istore (L' := [(0, vR l0), (1, vI l1), (2, vI l2), (3, vR l3), (4, vI l5), (5, vI l5)]) C (by decide) rfl dX2_leastArea_51 ?_
          exact wb_X2_leastArea_b53 C ih _ _ _ _ _ _ _ hf
set_option maxHeartbeats 4000000 in
theorem mt_X2_leastArea {E : Ev} {l : Launch} (hl : l.stackTraces = false) {p0 : Option Nat} {p1 : Int32} {σ : Hs} {r : Int32} {σ' : Hs} (hf : fn_X2_leastArea p0 p1 σ = some (r, σ')) : wk_M E l yX2_leastArea (ws_ yX2_leastArea cX2_leastArea 6 (Option.some FieldType.int)) 7 175 [vR p0, vI p1] σ (.inl (some (.int r))) σ' := by
  refine wk_start (by decide +kernel) hl (Nat.le_of_ble_eq_true rfl) (fun K C hK => ?_)
  subst hK
  refine wk_L (L' := [(0, vR p0), (1, vI p1)]) rfl ?_
  unfold fn_X2_leastArea at hf
  refine wk_aload_n C 0 rfl dX2_leastArea_0 ?_
  obtain ⟨v8, h_v8, hf⟩ := ho_b hf
  refine wk_getR C fx_X2_26 h_v8 dX2_leastArea_1 ?_
  refine wk_iload_n C 1 rfl dX2_leastArea_4 ?_
  obtain ⟨v9, h_v9, hf⟩ := ho_b hf
  refine wk_iald C h_v9 dX2_leastArea_5 ?_
  refine wk_istore_n (L' := [(0, vR p0), (1, vI p1), (2, vI v9)]) C (by decide) rfl dX2_leastArea_6 ?_
  obtain ⟨v10, σ11, h_σ11, hf⟩ := ho_e2 hf
  refine wk_new C nx_X2_186 h_σ11 dX2_leastArea_7 ?_
  refine wk_dup C rfl dX2_leastArea_10 ?_
  refine wk_aload_n C 0 rfl dX2_leastArea_11 ?_
  obtain ⟨b12, h_b12, hf⟩ := ho_b hf
  obtain ⟨σ13, h_σ13, hf⟩ := ho_b hf
  refine wk_callI (av := [vR p0]) (rest := [vR v10]) C cx_X2_188 h_b12 (mt_X12_init (wk_C.tr C) h_σ13) rfl (Nat.le_of_ble_eq_true rfl) (Nat.le_of_ble_eq_true rfl) (Nat.le_of_ble_eq_true rfl) dX2_leastArea_12 ?_
  refine wk_astore_n (L' := [(0, vR p0), (1, vI p1), (2, vI v9), (3, vR v10)]) C (by decide) rfl dX2_leastArea_15 ?_
  refine wk_iconst (v := -1) C dX2_leastArea_16 rfl ?_
  refine wk_istore (L' := [(0, vR p0), (1, vI p1), (2, vI v9), (3, vR v10), (4, vI (-1 : Int32))]) C (by decide) rfl dX2_leastArea_17 ?_
  refine wk_iconst (v := 1) C dX2_leastArea_19 rfl ?_
  refine wk_istore (L' := [(0, vR p0), (1, vI p1), (2, vI v9), (3, vR v10), (4, vI (-1 : Int32)), (5, vI (1 : Int32))]) C (by decide) rfl dX2_leastArea_20 ?_
  exact wb_X2_leastArea_b22 C  _ _ _ _ _ _ _ _ hf
