def fn_X4_byteAt_b25  (t0 : Int32) (σ : Hs) : Option (Int32 × Hs) := some (t0, σ)
def fn_X4_byteAt (p0 : Option Nat) (p1 : Int32) (σ : Hs) : Option (Int32 × Hs) := (ho_fI σ p0 [3] 0).bind fun v1 => if v1 ≤ p1 then fn_X4_byteAt_b25 (-1 : Int32) σ else (ho_fR σ p0 [3] 6).bind fun v2 => (ho_fR σ v2 [0] 0).bind fun v3 => (ho_aI σ v3 [2, 91] p1).bind fun v4 => fn_X4_byteAt_b25 (v4 &&& (255 : Int32)) σ
def fn_X4_isLetter (p0 : Option Nat) (p1 : Int32) (σ : Hs) : Option (Int32 × Hs) := (ho_is σ p0 [3]).bind fun b1 => ho_b2 (fn_X4_byteAt p0 p1 σ) fun v3 σ2 => ho_b2 (fn_X1_isIn (97 : Int64) (122 : Int64) v3.toInt64 σ2) fun v5 σ4 => (ho_bool v5).bind fun v6 => some (v6, σ4)
def fn_X4_isDigit (p0 : Option Nat) (p1 : Int32) (σ : Hs) : Option (Int32 × Hs) := (ho_is σ p0 [3]).bind fun b1 => ho_b2 (fn_X4_byteAt p0 p1 σ) fun v3 σ2 => ho_b2 (fn_X1_isIn (48 : Int64) (57 : Int64) v3.toInt64 σ2) fun v5 σ4 => (ho_bool v5).bind fun v6 => some (v6, σ4)
def fn_X4_skipSpaces_b26  (l0 : Option Nat) (σ : Hs) : Option (Int32 × Hs) := (ho_fI σ l0 [3] 2).bind fun v1 => (ho_is σ l0 [3]).bind fun b2 => ho_b2 (fn_X4_byteAt l0 v1 σ) fun v4 σ3 => some (v4, σ3)
def fn_X4_skipSpaces_b0  : Nat → Option Nat → Hs → Option (Int32 × Hs)
  | 0, _, _ => none
  | n + 1, l0, σ => (ho_fI σ l0 [3] 2).bind fun v5 => (ho_is σ l0 [3]).bind fun b6 => ho_b2 (fn_X4_byteAt l0 v5 σ) fun v8 σ7 => if v8 = (32 : Int32) then (ho_fI σ7 l0 [3] 2).bind fun v9 => (ho_pI σ7 l0 [3] 2 (v9 + (1 : Int32))).bind fun σ10 => fn_X4_skipSpaces_b0 n l0 σ10 else fn_X4_skipSpaces_b26 l0 σ7
def fn_X4_skipSpaces (p0 : Option Nat) (σ : Hs) : Option (Int32 × Hs) := fn_X4_skipSpaces_b0 fu_el p0 σ
def fn_X4_takeWord_b75 (ev : Nat → Option Nat)  (l0 : Option Nat) (l2 : Int32) (σ : Hs) : Option (Int32 × Hs) := (ho_pI σ l0 [3] 2 l2).bind fun σ1 => some ((1 : Int32), σ1)
def fn_X4_takeWord_b41 (ev : Nat → Option Nat)  : Nat → Option Nat → Option Nat → Int32 → Int32 → Hs → Option (Int32 × Hs)
  | 0, _, _, _, _, _ => none
  | n + 1, l0, l1, l2, l3, σ => (ho_is σ l1 [210]).bind fun b2 => ho_b2 (fn_J9_length l1 σ) fun v4 σ3 => if v4 ≤ l3 then fn_X4_takeWord_b75 ev l0 l2 σ3 else (ho_fI σ3 l0 [3] 2).bind fun v5 => (ho_is σ3 l0 [3]).bind fun b6 => ho_b2 (fn_X4_byteAt l0 (v5 + l3) σ3) fun v8 σ7 => (ho_is σ7 l1 [210]).bind fun b9 => ho_b2 (fn_J9_charAt ev l1 l3 σ7) fun v11 σ10 => if v8 = v11 then fn_X4_takeWord_b41 ev n l0 l1 l2 (l3 + 1) σ10 else some ((0 : Int32), σ10)
def fn_X4_takeWord_b24 (ev : Nat → Option Nat)  (l0 : Option Nat) (l1 : Option Nat) (l2 : Int32) (σ : Hs) : Option (Int32 × Hs) := (ho_fI σ l0 [3] 2).bind fun v12 => (ho_is σ l1 [210]).bind fun b13 => ho_b2 (fn_J9_length l1 σ) fun v15 σ14 => if (l2 - v12) = v15 then fn_X4_takeWord_b41 ev fu_el l0 l1 l2 (0 : Int32) σ14 else some ((0 : Int32), σ14)
def fn_X4_takeWord_b10 (ev : Nat → Option Nat)  : Nat → Option Nat → Option Nat → Int32 → Hs → Option (Int32 × Hs)
  | 0, _, _, _, _ => none
  | n + 1, l0, l1, l2, σ => (ho_is σ l0 [3]).bind fun b16 => ho_b2 (fn_X4_isLetter l0 l2 σ) fun v18 σ17 => if v18 = 0 then fn_X4_takeWord_b24 ev l0 l1 l2 σ17 else fn_X4_takeWord_b10 ev n l0 l1 (l2 + 1) σ17
def fn_X4_takeWord (ev : Nat → Option Nat) (p0 : Option Nat) (p1 : Option Nat) (σ : Hs) : Option (Int32 × Hs) := (ho_is σ p0 [3]).bind fun b19 => ho_b2 (fn_X4_skipSpaces p0 σ) fun v21 σ20 => (ho_fI σ20 p0 [3] 2).bind fun v22 => fn_X4_takeWord_b10 ev fu_el p0 p1 v22 σ20
def fn_X4_need (ev : Nat → Option Nat) (p0 : Option Nat) (p1 : Int32) (σ : Hs) : Option ((Unit ⊕ Nat) × Hs) := if p1 = 0 then ho_b2 (ho_new σ (.inr (4, [.null, .null, .null, .null, .null, .int 0, .int 0, .int 0])) 8) fun v1 σ2 => (ho_fI σ2 p0 [3] 3).bind fun v3 => v1.bind fun b4 => (fn_X5_init ev v1 (-3 : Int32) v3 σ2).bind fun σ5 => v1.bind fun q6 => some (.inr q6, σ5) else some (.inl (), σ)
def fn_X4_number_b86 (ev : Nat → Option Nat)  (l0 : Option Nat) (l1 : Int32) (l2 : Int32) (l3 : Int32) (σ : Hs) : Option ((Int32 ⊕ Nat) × Hs) := ho_b2 (fn_X1_isIn l1.toInt64 l2.toInt64 l3.toInt64 σ) fun v2 σ1 => (ho_is σ1 l0 [3]).bind fun b3 => ho_b2 (fn_X4_need ev l0 v2 σ1) fun v5 σ4 => ho_x v5 (fun _ => some (.inl l3, σ4)) (fun q7 => some (.inr q7, σ4))
def fn_X4_number_b40 (ev : Nat → Option Nat)  : Nat → Option Nat → Int32 → Int32 → Int32 → Hs → Option ((Int32 ⊕ Nat) × Hs)
  | 0, _, _, _, _, _ => none
  | n + 1, l0, l1, l2, l3, σ => (ho_fI σ l0 [3] 2).bind fun v8 => (ho_is σ l0 [3]).bind fun b9 => ho_b2 (fn_X4_isDigit l0 v8 σ) fun v11 σ10 => if v11 = 0 then fn_X4_number_b86 ev l0 l1 l2 l3 σ10 else (ho_fI σ10 l0 [3] 2).bind fun v12 => (ho_is σ10 l0 [3]).bind fun b13 => ho_b2 (fn_X4_byteAt l0 v12 σ10) fun v15 σ14 => ho_b2 (fn_J12_min (1000000 : Int32) ((((10 : Int32) * l3) + v15) - (48 : Int32)) σ14) fun v17 σ16 => (ho_fI σ16 l0 [3] 2).bind fun v18 => (ho_pI σ16 l0 [3] 2 (v18 + (1 : Int32))).bind fun σ19 => fn_X4_number_b40 ev n l0 l1 l2 v17 σ19
def fn_X4_number (ev : Nat → Option Nat) (p0 : Option Nat) (p1 : Int32) (p2 : Int32) (σ : Hs) : Option ((Int32 ⊕ Nat) × Hs) := (ho_is σ p0 [3]).bind fun b20 => ho_b2 (fn_X4_skipSpaces p0 σ) fun v22 σ21 => (ho_fI σ21 p0 [3] 2).bind fun v23 => (ho_is σ21 p0 [3]).bind fun b24 => ho_b2 (fn_X4_isDigit p0 v23 σ21) fun v26 σ25 => if v26 = 0 then ho_b2 (ho_new σ25 (.inr (4, [.null, .null, .null, .null, .null, .int 0, .int 0, .int 0])) 8) fun v29 σ30 => (ho_fI σ30 p0 [3] 2).bind fun v31 => v29.bind fun b32 => (fn_X5_init ev v29 (-2 : Int32) v31 σ30).bind fun σ33 => v29.bind fun q34 => some (.inr q34, σ33) else (ho_fI σ25 p0 [3] 2).bind fun v27 => (ho_pI σ25 p0 [3] 3 v27).bind fun σ28 => fn_X4_number_b40 ev fu_el p0 p1 p2 (0 : Int32) σ28
def fn_X4_takeSign (p0 : Option Nat) (p1 : Int32) (σ : Hs) : Option (Int32 × Hs) := (ho_is σ p0 [3]).bind fun b1 => ho_b2 (fn_X4_skipSpaces p0 σ) fun v3 σ2 => if v3 = p1 then (ho_fI σ2 p0 [3] 2).bind fun v4 => (ho_pI σ2 p0 [3] 2 (v4 + (1 : Int32))).bind fun σ5 => some ((1 : Int32), σ5) else some ((0 : Int32), σ2)
def fn_X4_needSign (ev : Nat → Option Nat) (p0 : Option Nat) (p1 : Int32) (σ : Hs) : Option ((Unit ⊕ Nat) × Hs) := (ho_is σ p0 [3]).bind fun b1 => ho_b2 (fn_X4_takeSign p0 p1 σ) fun v3 σ2 => if v3 = 0 then ho_b2 (ho_new σ2 (.inr (4, [.null, .null, .null, .null, .null, .int 0, .int 0, .int 0])) 8) fun v4 σ5 => (ho_fI σ5 p0 [3] 2).bind fun v6 => v4.bind fun b7 => (fn_X5_init ev v4 (-2 : Int32) v6 σ5).bind fun σ8 => v4.bind fun q9 => some (.inr q9, σ8) else some (.inl (), σ2)
def fn_X4_needRoom (ev : Nat → Option Nat) (p0 : Option Nat) (p1 : Int32) (p2 : Int32) (σ : Hs) : Option ((Unit ⊕ Nat) × Hs) := if p1 = 0 then ho_b2 (ho_new σ (.inr (4, [.null, .null, .null, .null, .null, .int 0, .int 0, .int 0])) 8) fun v1 σ2 => v1.bind fun b3 => (fn_X5_init ev v1 (-4 : Int32) p2 σ2).bind fun σ4 => v1.bind fun q5 => some (.inr q5, σ4) else some (.inl (), σ)
def fn_X4_nodeIndex (ev : Nat → Option Nat) (p0 : Option Nat) (σ : Hs) : Option ((Int32 ⊕ Nat) × Hs) := (ho_fR σ p0 [3] 1).bind fun v1 => (ho_fR σ v1 [1] 3).bind fun v2 => (ho_is σ v2 [13]).bind fun b3 => ho_b2 (fn_J2_size v2 σ) fun v5 σ4 => (ho_is σ4 p0 [3]).bind fun b6 => ho_b2 (fn_X4_number ev p0 (0 : Int32) (v5 - (1 : Int32)) σ4) fun v8 σ7 => ho_x v8 (fun x9 => some (.inl x9, σ7)) (fun q10 => some (.inr q10, σ7))
def fn_X4_signed_b25 (ev : Nat → Option Nat)  (t0 : Int32) (σ : Hs) : Option ((Int32 ⊕ Nat) × Hs) := some (.inl t0, σ)
def fn_X4_signed (ev : Nat → Option Nat) (p0 : Option Nat) (p1 : Int32) (σ : Hs) : Option ((Int32 ⊕ Nat) × Hs) := (ho_is σ p0 [3]).bind fun b1 => ho_b2 (fn_X4_takeSign p0 (45 : Int32) σ) fun v3 σ2 => if v3 = 0 then (ho_is σ2 p0 [3]).bind fun b4 => ho_b2 (fn_X4_number ev p0 (0 : Int32) p1 σ2) fun v6 σ5 => ho_x v6 (fun x7 => fn_X4_signed_b25 ev x7 σ5) (fun q8 => some (.inr q8, σ5)) else (ho_is σ2 p0 [3]).bind fun b9 => ho_b2 (fn_X4_number ev p0 (0 : Int32) p1 σ2) fun v11 σ10 => ho_x v11 (fun x12 => fn_X4_signed_b25 ev (-x12) σ10) (fun q13 => some (.inr q13, σ10))
def fn_X4_node_b182 (ev : Nat → Option Nat)  (t0 : Option Nat) (t1 : Option Nat) (σ : Hs) : Option ((Unit ⊕ Nat) × Hs) := (ho_is σ t0 [13]).bind fun b1 => ho_b2 (fn_J2_add ev t0 t1 σ) fun v3 σ2 => some (.inl (), σ2)
def fn_X4_node_b157 (ev : Nat → Option Nat)  (l2 : Int32) (l3 : Int32) (l4 : Int32) (l5 : Int32) (t0 : Option Nat) (σ : Hs) : Option ((Unit ⊕ Nat) × Hs) := ho_b2 (ho_new σ (.inr (5, [.int 0, .int 0, .int 0, .int 0])) 4) fun v4 σ5 => v4.bind fun b6 => (fn_X6_init v4 l2 l3 l4 l5 σ5).bind fun σ7 => fn_X4_node_b182 ev t0 v4 σ7
def fn_X4_node_b138 (ev : Nat → Option Nat)  (l0 : Option Nat) (l2 : Int32) (l3 : Int32) (l4 : Int32) (t0 : Int32) (σ : Hs) : Option ((Unit ⊕ Nat) × Hs) := (ho_fR σ l0 [3] 1).bind fun v8 => (ho_fR σ v8 [1] 3).bind fun v9 => if l4 = 0 then if t0 = 0 then ho_b2 (ho_new σ (.inr (5, [.int 0, .int 0, .int 0, .int 0])) 4) fun v10 σ11 => v10.bind fun b12 => (fn_X6_init_2 v10 l2 l3 σ11).bind fun σ13 => fn_X4_node_b182 ev v9 v10 σ13 else fn_X4_node_b157 ev l2 l3 l4 t0 v9 σ else fn_X4_node_b157 ev l2 l3 l4 t0 v9 σ
def fn_X4_node_b137 (ev : Nat → Option Nat)  (l0 : Option Nat) (l2 : Int32) (l3 : Int32) (l4 : Int32) (σ : Hs) : Option ((Unit ⊕ Nat) × Hs) := fn_X4_node_b138 ev l0 l2 l3 l4 (0 : Int32) σ
def fn_X4_node_b111 (ev : Nat → Option Nat)  (l0 : Option Nat) (l2 : Int32) (l3 : Int32) (σ : Hs) : Option ((Unit ⊕ Nat) × Hs) := (ho_is σ l0 [3]).bind fun b14 => ho_b2 (fn_X4_takeWord ev l0 (ev 105) σ) fun v16 σ15 => if v16 = 0 then (ho_is σ15 l0 [3]).bind fun b17 => ho_b2 (fn_X4_takeWord ev l0 (ev 106) σ15) fun v19 σ18 => if v19 = 0 then fn_X4_node_b137 ev l0 l2 l3 v16 σ18 else fn_X4_node_b138 ev l0 l2 l3 v16 (1 : Int32) σ18 else fn_X4_node_b137 ev l0 l2 l3 v16 σ15
def fn_X4_node_b105 (ev : Nat → Option Nat)  (k59 : Option Nat → Int32 → Int32 → Option Nat → Hs → Option ((Unit ⊕ Nat) × Hs)) (l0 : Option Nat) (l2 : Int32) (l3 : Int32) (l4 : Option Nat) (t0 : Option Nat) (t1 : Int32) (σ : Hs) : Option ((Unit ⊕ Nat) × Hs) := (ho_is σ t0 [3]).bind fun b20 => ho_b2 (fn_X4_need ev t0 t1 σ) fun v22 σ21 => ho_x v22 (fun _ => k59 l0 l2 l3 l4 σ21) (fun q24 => some (.inr q24, σ21))
def fn_X4_node_b100 (ev : Nat → Option Nat)  (k59 : Option Nat → Int32 → Int32 → Option Nat → Hs → Option ((Unit ⊕ Nat) × Hs)) (l0 : Option Nat) (l2 : Int32) (l3 : Int32) (l4 : Option Nat) (t0 : Option Nat) (σ : Hs) : Option ((Unit ⊕ Nat) × Hs) := fn_X4_node_b105 ev k59 l0 l2 l3 l4 t0 (1 : Int32) σ
def fn_X4_node_b59 (ev : Nat → Option Nat)  : Nat → Option Nat → Int32 → Int32 → Option Nat → Hs → Option ((Unit ⊕ Nat) × Hs)
  | 0, _, _, _, _, _ => none
  | n + 1, l0, l2, l3, l4, σ => (ho_is σ l4 [14]).bind fun b25 => ho_b2 (fn_J21_hasNext l4 σ) fun v27 σ26 => if v27 = 0 then fn_X4_node_b111 ev l0 l2 l3 σ26 else (ho_is σ26 l4 [14]).bind fun b28 => ho_b2 (fn_J21_next l4 σ26) fun v30 σ29 => (ho_in σ29 v30 [5]).bind fun _ => (ho_fI σ29 v30 [5] 0).bind fun v32 => if v32 = l2 then (ho_fI σ29 v30 [5] 1).bind fun v33 => if v33 = l3 then fn_X4_node_b105 ev (fn_X4_node_b59 ev n) l0 l2 l3 l4 l0 (0 : Int32) σ29 else fn_X4_node_b100 ev (fn_X4_node_b59 ev n) l0 l2 l3 l4 l0 σ29 else fn_X4_node_b100 ev (fn_X4_node_b59 ev n) l0 l2 l3 l4 l0 σ29
def fn_X4_node_b23 (ev : Nat → Option Nat)  (l0 : Option Nat) (l1 : Int32) (t0 : Option Nat) (t1 : Int32) (σ : Hs) : Option ((Unit ⊕ Nat) × Hs) := (ho_is σ t0 [3]).bind fun b34 => ho_b2 (fn_X4_needRoom ev t0 t1 l1 σ) fun v36 σ35 => ho_x v36 (fun _ => (ho_is σ35 l0 [3]).bind fun b39 => ho_b2 (fn_X4_number ev l0 (0 : Int32) (999 : Int32) σ35) fun v41 σ40 => ho_x v41 (fun x42 => (ho_is σ40 l0 [3]).bind fun b44 => ho_b2 (fn_X4_number ev l0 (0 : Int32) (999 : Int32) σ40) fun v46 σ45 => ho_x v46 (fun x47 => (ho_fR σ45 l0 [3] 1).bind fun v49 => (ho_fR σ45 v49 [1] 3).bind fun v50 => (ho_is σ45 v50 [13]).bind fun b51 => ho_b2 (fn_J2_iterator v50 σ45) fun v53 σ52 => fn_X4_node_b59 ev fu_el l0 x42 x47 v53 σ52) (fun q48 => some (.inr q48, σ45))) (fun q43 => some (.inr q43, σ40))) (fun q38 => some (.inr q38, σ35))
def fn_X4_node (ev : Nat → Option Nat) (p0 : Option Nat) (p1 : Int32) (σ : Hs) : Option ((Unit ⊕ Nat) × Hs) := (ho_fR σ p0 [3] 1).bind fun v54 => (ho_fR σ v54 [1] 3).bind fun v55 => (ho_is σ v55 [13]).bind fun b56 => ho_b2 (fn_J2_size v55 σ) fun v58 σ57 => if (8 : Int32) ≤ v58 then fn_X4_node_b23 ev p0 p1 p0 (0 : Int32) σ57 else fn_X4_node_b23 ev p0 p1 p0 (1 : Int32) σ57
def fn_X4_readMember_b60 (ev : Nat → Option Nat)  (l0 : Option Nat) (l2 : Int32) (l3 : Int32) (t0 : Option Nat) (t1 : Int32) (σ : Hs) : Option ((Unit ⊕ Nat) × Hs) := (ho_is σ t0 [3]).bind fun b1 => ho_b2 (fn_X4_need ev t0 t1 σ) fun v3 σ2 => ho_x v3 (fun _ => (ho_fR σ2 l0 [3] 1).bind fun v6 => (ho_fR σ2 l0 [3] 1).bind fun v7 => (ho_fI σ2 v7 [1] 7).bind fun v8 => (ho_is σ2 l0 [3]).bind fun b9 => ho_b2 (fn_X4_number ev l0 (0 : Int32) (v8 - (1 : Int32)) σ2) fun v11 σ10 => ho_x v11 (fun x12 => (ho_is σ10 v6 [1]).bind fun b14 => (fn_X2_join ev v6 l2 l3 x12 σ10).bind fun σ15 => some (.inl (), σ15)) (fun q13 => some (.inr q13, σ10))) (fun q5 => some (.inr q5, σ2))
def fn_X4_readMember_b59 (ev : Nat → Option Nat)  (l0 : Option Nat) (l2 : Int32) (l3 : Int32) (t0 : Option Nat) (σ : Hs) : Option ((Unit ⊕ Nat) × Hs) := fn_X4_readMember_b60 ev l0 l2 l3 t0 (0 : Int32) σ
def fn_X4_readMember_b23 (ev : Nat → Option Nat)  (l0 : Option Nat) (l1 : Int32) (t0 : Option Nat) (t1 : Int32) (σ : Hs) : Option ((Unit ⊕ Nat) × Hs) := (ho_is σ t0 [3]).bind fun b16 => ho_b2 (fn_X4_needRoom ev t0 t1 l1 σ) fun v18 σ17 => ho_x v18 (fun _ => (ho_is σ17 l0 [3]).bind fun b21 => ho_b2 (fn_X4_nodeIndex ev l0 σ17) fun v23 σ22 => ho_x v23 (fun x24 => (ho_is σ22 l0 [3]).bind fun b26 => ho_b2 (fn_X4_nodeIndex ev l0 σ22) fun v28 σ27 => ho_x v28 (fun x29 => if x24 = x29 then fn_X4_readMember_b59 ev l0 x24 x29 l0 σ27 else (ho_fR σ27 l0 [3] 1).bind fun v31 => (ho_is σ27 v31 [1]).bind fun b32 => ho_b2 (fn_X2_isJoined v31 x24 x29 σ27) fun v34 σ33 => if v34 = 0 then fn_X4_readMember_b60 ev l0 x24 x29 l0 (1 : Int32) σ33 else fn_X4_readMember_b59 ev l0 x24 x29 l0 σ33) (fun q30 => some (.inr q30, σ27))) (fun q25 => some (.inr q25, σ22))) (fun q20 => some (.inr q20, σ17))
def fn_X4_readMember (ev : Nat → Option Nat) (p0 : Option Nat) (p1 : Int32) (σ : Hs) : Option ((Unit ⊕ Nat) × Hs) := (ho_fR σ p0 [3] 1).bind fun v35 => (ho_fR σ v35 [1] 8).bind fun v36 => (ho_is σ v36 [15]).bind fun b37 => ho_b2 (fn_J18_size v36 σ) fun v39 σ38 => if (16 : Int32) ≤ v39 then fn_X4_readMember_b23 ev p0 p1 p0 (0 : Int32) σ38 else fn_X4_readMember_b23 ev p0 p1 p0 (1 : Int32) σ38
def fn_X4_readLoad_b23 (ev : Nat → Option Nat)  (l0 : Option Nat) (l1 : Int32) (t0 : Option Nat) (t1 : Int32) (σ : Hs) : Option ((Unit ⊕ Nat) × Hs) := (ho_is σ t0 [3]).bind fun b1 => ho_b2 (fn_X4_needRoom ev t0 t1 l1 σ) fun v3 σ2 => ho_x v3 (fun _ => (ho_is σ2 l0 [3]).bind fun b6 => ho_b2 (fn_X4_number ev l0 (0 : Int32) (3 : Int32) σ2) fun v8 σ7 => ho_x v8 (fun x9 => (ho_is σ7 l0 [3]).bind fun b11 => ho_b2 (fn_X4_nodeIndex ev l0 σ7) fun v13 σ12 => ho_x v13 (fun x14 => (ho_is σ12 l0 [3]).bind fun b16 => ho_b2 (fn_X4_signed ev l0 (9999 : Int32) σ12) fun v18 σ17 => ho_x v18 (fun x19 => (ho_fR σ17 l0 [3] 1).bind fun v21 => (ho_fR σ17 v21 [1] 4).bind fun v22 => ho_b2 (ho_new σ17 (.inr (8, [.int 0, .int 0, .int 0, .int 0])) 4) fun v23 σ24 => (ho_is σ24 l0 [3]).bind fun b25 => ho_b2 (fn_X4_signed ev l0 (9999 : Int32) σ24) fun v27 σ26 => ho_x v27 (fun x28 => v23.bind fun b30 => (fn_X9_init v23 x9 x14 x19 x28 σ26).bind fun σ31 => (ho_is σ31 v22 [13]).bind fun b32 => ho_b2 (fn_J2_add ev v22 v23 σ31) fun v34 σ33 => some (.inl (), σ33)) (fun q29 => some (.inr q29, σ26))) (fun q20 => some (.inr q20, σ17))) (fun q15 => some (.inr q15, σ12))) (fun q10 => some (.inr q10, σ7))) (fun q5 => some (.inr q5, σ2))
def fn_X4_readLoad (ev : Nat → Option Nat) (p0 : Option Nat) (p1 : Int32) (σ : Hs) : Option ((Unit ⊕ Nat) × Hs) := (ho_fR σ p0 [3] 1).bind fun v35 => (ho_fR σ v35 [1] 4).bind fun v36 => (ho_is σ v36 [13]).bind fun b37 => ho_b2 (fn_J2_size v36 σ) fun v39 σ38 => if (12 : Int32) ≤ v39 then fn_X4_readLoad_b23 ev p0 p1 p0 (0 : Int32) σ38 else fn_X4_readLoad_b23 ev p0 p1 p0 (1 : Int32) σ38
def fn_X4_take_b8  : Nat → Option Nat → Option Nat → Int32 → Int32 → Hs → Option (Option Nat × Hs)
  | 0, _, _, _, _, _ => none
  | n + 1, l0, l2, l3, l4, σ => if l3 ≤ l4 then some (none, σ) else (ho_aR σ l2 [3, 4, 5, 6, 7, 8] l4).bind fun v1 => (ho_fI σ v1 [200, 201, 202, 203] 0).bind fun v2 => (ho_is σ l0 [3]).bind fun b3 => ho_b2 (fn_X4_takeSign l0 v2 σ) fun v5 σ4 => if v5 = 0 then fn_X4_take_b8 n l0 l2 l3 (l4 + 1) σ4 else some (v1, σ4)
def fn_X4_take (p0 : Option Nat) (p1 : Option Nat) (σ : Hs) : Option (Option Nat × Hs) := (ho_len σ p1).bind fun v6 => fn_X4_take_b8 fu_el p0 p1 v6 (0 : Int32) σ
theorem fx_X4_22 : fx "ElasticTruss$SetupReader" 22 [3] 0 := ⟨"ElasticTruss$SetupReader", "ElasticTruss$SetupReader", "length", "I", ⟨Or.inl q2701, Or.inl rfl⟩, fx_c (r := (RX4, TX4, 7)) (Nat.le_of_ble_eq_true rfl) rfl (Nat.le_of_ble_eq_true rfl) rfl rfl rfl (fx_0)⟩
theorem fx_X4_3 : fx "ElasticTruss$SetupReader" 3 [3] 6 := ⟨"ElasticTruss$SetupReader", "ElasticTruss$SetupReader", "this$0", "LElasticTruss;", ⟨Or.inl q2707, Or.inl rfl⟩, fx_c (r := (RX4, TX4, 7)) (Nat.le_of_ble_eq_true rfl) rfl (Nat.le_of_ble_eq_true rfl) rfl rfl rfl (fx_0)⟩
theorem fx_X4_26 : fx "ElasticTruss$SetupReader" 26 [0] 0 := ⟨"ElasticTruss", "ElasticTruss", "buffer", "[B", ⟨Or.inr ⟨_, lw_n q672 rfl⟩, Or.inl rfl⟩, fx_c (r := (RX1, TX1, 5)) (Nat.le_of_ble_eq_true rfl) rfl (Nat.le_of_ble_eq_true rfl) rfl rfl rfl (fx_0)⟩
theorem cx_X4_33 : cxV "ElasticTruss$SetupReader" "ElasticTruss$SetupReader" 33 yX4_byteAt cX4_byteAt 2 (Option.some FieldType.int) 1 := ⟨q2736, q2738, qs25, q128, q2739, ⟨by decide +kernel, by decide +kernel⟩, fun sig h => by have e := (show (parseMethodDescriptor (yX4_byteAt).desc).map (fun d => d.parameters.length) = some 1 by decide +kernel); rw [h] at e; exact (Option.some.inj e).symm⟩
theorem rx_3 : rx 3 "ElasticTruss$SetupReader" := Or.inl ⟨(Nat.le_of_ble_eq_true rfl), (RX4, TX4, 7), rfl, rfl⟩
theorem cx_X4_41 : cxSN "ElasticTruss$SetupReader" 41 "ElasticTruss" yX1_isIn cX1_isIn 6 (Option.some FieldType.boolean) 3 := ⟨lw_n q2746 rfl, q2677, q102, q2678, ⟨by decide +kernel, by decide +kernel⟩, fun sig h => by have e := (show (parseMethodDescriptor (yX1_isIn).desc).map (fun d => d.parameters.length) = some 3 by decide +kernel); rw [h] at e; exact (Option.some.inj e).symm⟩
theorem fx_X4_30 : fx "ElasticTruss$SetupReader" 30 [3] 2 := ⟨"ElasticTruss$SetupReader", "ElasticTruss$SetupReader", "position", "I", ⟨Or.inl q2703, Or.inl rfl⟩, fx_c (r := (RX4, TX4, 7)) (Nat.le_of_ble_eq_true rfl) rfl (Nat.le_of_ble_eq_true rfl) rfl rfl rfl (fx_0)⟩
theorem px_X4_30 : px "ElasticTruss$SetupReader" 30 [3] 2 (.int) false := ⟨"ElasticTruss$SetupReader", "ElasticTruss$SetupReader", "position", "I", ⟨Or.inl q2703, Or.inl rfl⟩, px_c (r := (RX4, TX4, 7)) (Nat.le_of_ble_eq_true rfl) rfl (Nat.le_of_ble_eq_true rfl) rfl (px_0), by decide +kernel, fun h => by cases h⟩
theorem cx_X4_57 : cxV "ElasticTruss$SetupReader" "java/lang/String" 57 yJ9_length cJ9_length 1 (Option.some FieldType.int) 0 := ⟨q2747, q362, q363, q113, q364, ⟨by decide +kernel, by decide +kernel⟩, fun sig h => by have e := (show (parseMethodDescriptor (yJ9_length).desc).map (fun d => d.parameters.length) = some 0 by decide +kernel); rw [h] at e; exact (Option.some.inj e).symm⟩
theorem cx_X4_61 : cxV "ElasticTruss$SetupReader" "java/lang/String" 61 yJ9_charAt cJ9_charAt 2 (Option.some FieldType.char) 1 := ⟨q2748, q1594, q1595, q113, q1596, ⟨by decide +kernel, by decide +kernel⟩, fun sig h => by have e := (show (parseMethodDescriptor (yJ9_charAt).desc).map (fun d => d.parameters.length) = some 1 by decide +kernel); rw [h] at e; exact (Option.some.inj e).symm⟩
theorem cx_X4_53 : cxV "ElasticTruss$SetupReader" "ElasticTruss$SetupReader" 53 yX4_isLetter cX4_isLetter 2 (Option.some FieldType.boolean) 1 := ⟨q2740, q2742, qs26, q128, q2743, ⟨by decide +kernel, by decide +kernel⟩, fun sig h => by have e := (show (parseMethodDescriptor (yX4_isLetter).desc).map (fun d => d.parameters.length) = some 1 by decide +kernel); rw [h] at e; exact (Option.some.inj e).symm⟩
theorem cx_X4_49 : cxV "ElasticTruss$SetupReader" "ElasticTruss$SetupReader" 49 yX4_skipSpaces cX4_skipSpaces 1 (Option.some FieldType.int) 0 := ⟨q2732, q2734, qs24, q128, q2735, ⟨by decide +kernel, by decide +kernel⟩, fun sig h => by have e := (show (parseMethodDescriptor (yX4_skipSpaces).desc).map (fun d => d.parameters.length) = some 0 by decide +kernel); rw [h] at e; exact (Option.some.inj e).symm⟩
theorem nx_X4_69 : nx "ElasticTruss$SetupReader" 69 4 8 [.null, .null, .null, .null, .null, .int 0, .int 0, .int 0] := ⟨(Nat.le_of_ble_eq_true rfl), rfl, RX5, TX5, tyX5, rfl, rfl, q2749, q2750, q129, by
  intro j hj
  match j, hj with
  | 0, _ => rfl
  | 1, _ => rfl
  | 2, _ => rfl
  | 3, _ => rfl
  | 4, _ => rfl
  | 5, _ => rfl
  | 6, _ => rfl
  | 7, _ => rfl
  | j + 8, hj => omega⟩
theorem fx_X4_74 : fx "ElasticTruss$SetupReader" 74 [3] 3 := ⟨"ElasticTruss$SetupReader", "ElasticTruss$SetupReader", "numberOffset", "I", ⟨Or.inl q2704, Or.inl rfl⟩, fx_c (r := (RX4, TX4, 7)) (Nat.le_of_ble_eq_true rfl) rfl (Nat.le_of_ble_eq_true rfl) rfl rfl rfl (fx_0)⟩
theorem cx_X4_71 : cxI "ElasticTruss$SetupReader" 71 yX5_init cX5_init 3 2 := ⟨q2758, q2759, q129, q2760, ⟨by decide +kernel, by decide +kernel⟩, rfl, fun sig h => by have e := (show (parseMethodDescriptor (yX5_init).desc).map (fun d => d.parameters.length) = some 2 by decide +kernel); rw [h] at e; exact (Option.some.inj e).symm⟩
theorem cx_X4_87 : cxV "ElasticTruss$SetupReader" "ElasticTruss$SetupReader" 87 yX4_need cX4_need 2 (Option.none : Option FieldType) 1 := ⟨q2789, q2791, qs29, q128, q2792, ⟨by decide +kernel, by decide +kernel⟩, fun sig h => by have e := (show (parseMethodDescriptor (yX4_need).desc).map (fun d => d.parameters.length) = some 1 by decide +kernel); rw [h] at e; exact (Option.some.inj e).symm⟩
theorem cx_X4_77 : cxV "ElasticTruss$SetupReader" "ElasticTruss$SetupReader" 77 yX4_isDigit cX4_isDigit 2 (Option.some FieldType.boolean) 1 := ⟨q2781, q2783, qs28, q128, q2784, ⟨by decide +kernel, by decide +kernel⟩, fun sig h => by have e := (show (parseMethodDescriptor (yX4_isDigit).desc).map (fun d => d.parameters.length) = some 1 by decide +kernel); rw [h] at e; exact (Option.some.inj e).symm⟩
theorem cx_X4_81 : cxS "ElasticTruss$SetupReader" 81 yJ12_min cJ12_min 2 (Option.some FieldType.int) 2 := ⟨q2788, q325, q116, q326, ⟨by decide +kernel, by decide +kernel⟩, fun sig h => by have e := (show (parseMethodDescriptor (yJ12_min).desc).map (fun d => d.parameters.length) = some 2 by decide +kernel); rw [h] at e; exact (Option.some.inj e).symm⟩
theorem px_X4_74 : px "ElasticTruss$SetupReader" 74 [3] 3 (.int) false := ⟨"ElasticTruss$SetupReader", "ElasticTruss$SetupReader", "numberOffset", "I", ⟨Or.inl q2704, Or.inl rfl⟩, px_c (r := (RX4, TX4, 7)) (Nat.le_of_ble_eq_true rfl) rfl (Nat.le_of_ble_eq_true rfl) rfl (px_0), by decide +kernel, fun h => by cases h⟩
theorem cx_X4_65 : cxV "ElasticTruss$SetupReader" "ElasticTruss$SetupReader" 65 yX4_takeSign cX4_takeSign 2 (Option.some FieldType.boolean) 1 := ⟨q2798, q2800, qs31, q128, q2801, ⟨by decide +kernel, by decide +kernel⟩, fun sig h => by have e := (show (parseMethodDescriptor (yX4_takeSign).desc).map (fun d => d.parameters.length) = some 1 by decide +kernel); rw [h] at e; exact (Option.some.inj e).symm⟩
theorem fx_X4_18 : fx "ElasticTruss$SetupReader" 18 [3] 1 := ⟨"ElasticTruss$SetupReader", "ElasticTruss$SetupReader", "read", "LElasticTruss$Truss;", ⟨Or.inl q2702, Or.inl rfl⟩, fx_c (r := (RX4, TX4, 7)) (Nat.le_of_ble_eq_true rfl) rfl (Nat.le_of_ble_eq_true rfl) rfl rfl rfl (fx_0)⟩
theorem fx_X4_160 : fx "ElasticTruss$SetupReader" 160 [1] 3 := ⟨"ElasticTruss$Truss", "ElasticTruss$Truss", "nodes", "Ljava/util/List;", ⟨Or.inr ⟨_, lw_n q618 rfl⟩, Or.inl rfl⟩, fx_c (r := (RX2, TX2, 9)) (Nat.le_of_ble_eq_true rfl) rfl (Nat.le_of_ble_eq_true rfl) rfl rfl rfl (fx_0)⟩
theorem cx_X4_164_13 : cxF "ElasticTruss$SetupReader" "java/util/ArrayList" 164 ⟨"java/util/List", "size", "()I"⟩ yJ2_size cJ2_size 1 (Option.some FieldType.int) 0 := ⟨q2812, by decide +kernel, q710, q712, q106, q714, fun sig h => by have e := (show (parseMethodDescriptor (⟨"java/util/List", "size", "()I"⟩ : MethodName).desc).map (fun d => d.parameters.length) = some 0 by decide +kernel); rw [h] at e; exact (Option.some.inj e).symm⟩
theorem cx_X4_91 : cxV "ElasticTruss$SetupReader" "ElasticTruss$SetupReader" 91 yX4_number cX4_number 4 (Option.some FieldType.int) 2 := ⟨q2777, q2779, qs27, q128, q2780, ⟨by decide +kernel, by decide +kernel⟩, fun sig h => by have e := (show (parseMethodDescriptor (yX4_number).desc).map (fun d => d.parameters.length) = some 2 by decide +kernel); rw [h] at e; exact (Option.some.inj e).symm⟩
theorem cx_X4_203_13 : cxF "ElasticTruss$SetupReader" "java/util/ArrayList" 203 ⟨"java/util/List", "add", "(Ljava/lang/Object;)Z"⟩ yJ2_add cJ2_add 2 (Option.some FieldType.boolean) 1 := ⟨q2855, by decide +kernel, q2858, q2860, q106, q2862, fun sig h => by have e := (show (parseMethodDescriptor (⟨"java/util/List", "add", "(Ljava/lang/Object;)Z"⟩ : MethodName).desc).map (fun d => d.parameters.length) = some 1 by decide +kernel); rw [h] at e; exact (Option.some.inj e).symm⟩
theorem nx_X4_187 : nx "ElasticTruss$SetupReader" 187 5 4 [.int 0, .int 0, .int 0, .int 0] := ⟨(Nat.le_of_ble_eq_true rfl), rfl, RX6, TX6, tyX6, rfl, rfl, q2823, q2826, q131, by
  intro j hj
  match j, hj with
  | 0, _ => rfl
  | 1, _ => rfl
  | 2, _ => rfl
  | 3, _ => rfl
  | j + 4, hj => omega⟩
theorem cx_X4_199 : cxI "ElasticTruss$SetupReader" 199 yX6_init cX6_init 5 4 := ⟨q2827, q2828, q131, q2829, ⟨by decide +kernel, by decide +kernel⟩, rfl, fun sig h => by have e := (show (parseMethodDescriptor (yX6_init).desc).map (fun d => d.parameters.length) = some 4 by decide +kernel); rw [h] at e; exact (Option.some.inj e).symm⟩
theorem cx_X4_202 : cxI "ElasticTruss$SetupReader" 202 yX6_init_2 cX6_init_2 3 2 := ⟨q2850, q2851, q131, q2852, ⟨by decide +kernel, by decide +kernel⟩, rfl, fun sig h => by have e := (show (parseMethodDescriptor (yX6_init_2).desc).map (fun d => d.parameters.length) = some 2 by decide +kernel); rw [h] at e; exact (Option.some.inj e).symm⟩
theorem cx_X4_96 : cxV "ElasticTruss$SetupReader" "ElasticTruss$SetupReader" 96 yX4_takeWord cX4_takeWord 4 (Option.some FieldType.boolean) 1 := ⟨q2728, q2730, qs23, q128, q2731, ⟨by decide +kernel, by decide +kernel⟩, fun sig h => by have e := (show (parseMethodDescriptor (yX4_takeWord).desc).map (fun d => d.parameters.length) = some 1 by decide +kernel); rw [h] at e; exact (Option.some.inj e).symm⟩
theorem cx_X4_177_14 : cxF "ElasticTruss$SetupReader" "java/util/ArrayList$Itr" 177 ⟨"java/util/Iterator", "hasNext", "()Z"⟩ yJ21_hasNext cJ21_hasNext 1 (Option.some FieldType.boolean) 0 := ⟨q2820, by decide +kernel, q780, q782, q130, q784, fun sig h => by have e := (show (parseMethodDescriptor (⟨"java/util/Iterator", "hasNext", "()Z"⟩ : MethodName).desc).map (fun d => d.parameters.length) = some 0 by decide +kernel); rw [h] at e; exact (Option.some.inj e).symm⟩
theorem cx_X4_183_14 : cxF "ElasticTruss$SetupReader" "java/util/ArrayList$Itr" 183 ⟨"java/util/Iterator", "next", "()Ljava/lang/Object;"⟩ yJ21_next cJ21_next 3 (Option.some (FieldType.object "java/lang/Object")) 0 := ⟨q2822, by decide +kernel, q818, q820, q130, q822, fun sig h => by have e := (show (parseMethodDescriptor (⟨"java/util/Iterator", "next", "()Ljava/lang/Object;"⟩ : MethodName).desc).map (fun d => d.parameters.length) = some 0 by decide +kernel); rw [h] at e; exact (Option.some.inj e).symm⟩
theorem fx_X4_189 : fx "ElasticTruss$SetupReader" 189 [5] 0 := ⟨"ElasticTruss$Node", "ElasticTruss$Node", "x", "I", ⟨Or.inr ⟨_, lw_n q2833 rfl⟩, Or.inl rfl⟩, fx_c (r := (RX6, TX6, 4)) (Nat.le_of_ble_eq_true rfl) rfl (Nat.le_of_ble_eq_true rfl) rfl rfl rfl (fx_0)⟩
theorem fx_X4_192 : fx "ElasticTruss$SetupReader" 192 [5] 1 := ⟨"ElasticTruss$Node", "ElasticTruss$Node", "y", "I", ⟨Or.inr ⟨_, lw_n q2836 rfl⟩, Or.inl rfl⟩, fx_c (r := (RX6, TX6, 4)) (Nat.le_of_ble_eq_true rfl) rfl (Nat.le_of_ble_eq_true rfl) rfl rfl rfl (fx_0)⟩
theorem cx_X4_169 : cxV "ElasticTruss$SetupReader" "ElasticTruss$SetupReader" 169 yX4_needRoom cX4_needRoom 3 (Option.none : Option FieldType) 2 := ⟨q2813, q2815, qs34, q128, q2816, ⟨by decide +kernel, by decide +kernel⟩, fun sig h => by have e := (show (parseMethodDescriptor (yX4_needRoom).desc).map (fun d => d.parameters.length) = some 2 by decide +kernel); rw [h] at e; exact (Option.some.inj e).symm⟩
theorem cx_X4_173_13 : cxF "ElasticTruss$SetupReader" "java/util/ArrayList" 173 ⟨"java/util/List", "iterator", "()Ljava/util/Iterator;"⟩ yJ2_iterator cJ2_iterator 1 (Option.some (FieldType.object "java/util/Iterator")) 0 := ⟨q2818, by decide +kernel, q745, q747, q106, q749, fun sig h => by have e := (show (parseMethodDescriptor (⟨"java/util/List", "iterator", "()Ljava/util/Iterator;"⟩ : MethodName).desc).map (fun d => d.parameters.length) = some 0 by decide +kernel); rw [h] at e; exact (Option.some.inj e).symm⟩
theorem fx_X4_220 : fx "ElasticTruss$SetupReader" 220 [1] 7 := ⟨"ElasticTruss$Truss", "ElasticTruss$Truss", "groupCount", "I", ⟨Or.inr ⟨_, lw_n q629 rfl⟩, Or.inl rfl⟩, fx_c (r := (RX2, TX2, 9)) (Nat.le_of_ble_eq_true rfl) rfl (Nat.le_of_ble_eq_true rfl) rfl rfl rfl (fx_0)⟩
theorem cx_X4_223 : cxV "ElasticTruss$SetupReader" "ElasticTruss$Truss" 223 yX2_join cX2_join 6 (Option.none : Option FieldType) 3 := ⟨q2929, q2930, q2931, q103, q2932, ⟨by decide +kernel, by decide +kernel⟩, fun sig h => by have e := (show (parseMethodDescriptor (yX2_join).desc).map (fun d => d.parameters.length) = some 3 by decide +kernel); rw [h] at e; exact (Option.some.inj e).symm⟩
theorem cx_X4_213 : cxV "ElasticTruss$SetupReader" "ElasticTruss$SetupReader" 213 yX4_nodeIndex cX4_nodeIndex 1 (Option.some FieldType.int) 0 := ⟨q2888, q2890, qs39, q128, q2891, ⟨by decide +kernel, by decide +kernel⟩, fun sig h => by have e := (show (parseMethodDescriptor (yX4_nodeIndex).desc).map (fun d => d.parameters.length) = some 0 by decide +kernel); rw [h] at e; exact (Option.some.inj e).symm⟩
theorem cx_X4_216 : cxV "ElasticTruss$SetupReader" "ElasticTruss$Truss" 216 yX2_isJoined cX2_isJoined 3 (Option.some FieldType.boolean) 2 := ⟨q2892, q2893, q2894, q103, q2895, ⟨by decide +kernel, by decide +kernel⟩, fun sig h => by have e := (show (parseMethodDescriptor (yX2_isJoined).desc).map (fun d => d.parameters.length) = some 2 by decide +kernel); rw [h] at e; exact (Option.some.inj e).symm⟩
theorem fx_X4_206 : fx "ElasticTruss$SetupReader" 206 [1] 8 := ⟨"ElasticTruss$Truss", "ElasticTruss$Truss", "members", "Ljava/util/Map;", ⟨Or.inr ⟨_, lw_n q632 rfl⟩, Or.inl rfl⟩, fx_c (r := (RX2, TX2, 9)) (Nat.le_of_ble_eq_true rfl) rfl (Nat.le_of_ble_eq_true rfl) rfl rfl rfl (fx_0)⟩
theorem cx_X4_210_15 : cxF "ElasticTruss$SetupReader" "java/util/LinkedHashMap" 210 ⟨"java/util/Map", "size", "()I"⟩ yJ18_size cJ18_size 1 (Option.some FieldType.int) 0 := ⟨q2887, by decide +kernel, q728, q730, q124, q732, fun sig h => by have e := (show (parseMethodDescriptor (⟨"java/util/Map", "size", "()I"⟩ : MethodName).desc).map (fun d => d.parameters.length) = some 0 by decide +kernel); rw [h] at e; exact (Option.some.inj e).symm⟩
theorem cx_X4_230 : cxV "ElasticTruss$SetupReader" "ElasticTruss$SetupReader" 230 yX4_signed cX4_signed 2 (Option.some FieldType.int) 1 := ⟨q2991, q2993, qs41, q128, q2994, ⟨by decide +kernel, by decide +kernel⟩, fun sig h => by have e := (show (parseMethodDescriptor (yX4_signed).desc).map (fun d => d.parameters.length) = some 1 by decide +kernel); rw [h] at e; exact (Option.some.inj e).symm⟩
theorem fx_X4_227 : fx "ElasticTruss$SetupReader" 227 [1] 4 := ⟨"ElasticTruss$Truss", "ElasticTruss$Truss", "loads", "Ljava/util/List;", ⟨Or.inr ⟨_, lw_n q621 rfl⟩, Or.inl rfl⟩, fx_c (r := (RX2, TX2, 9)) (Nat.le_of_ble_eq_true rfl) rfl (Nat.le_of_ble_eq_true rfl) rfl rfl rfl (fx_0)⟩
theorem nx_X4_233 : nx "ElasticTruss$SetupReader" 233 8 4 [.int 0, .int 0, .int 0, .int 0] := ⟨(Nat.le_of_ble_eq_true rfl), rfl, RX9, TX9, tyX9, rfl, rfl, q2995, q2996, q142, by
  intro j hj
  match j, hj with
  | 0, _ => rfl
  | 1, _ => rfl
  | 2, _ => rfl
  | 3, _ => rfl
  | j + 4, hj => omega⟩
theorem cx_X4_235 : cxIN "ElasticTruss$SetupReader" 235 "ElasticTruss" yX9_init cX9_init 5 4 := ⟨lw_n q2997 rfl, q2998, q142, q2999, ⟨by decide +kernel, by decide +kernel⟩, rfl, fun sig h => by have e := (show (parseMethodDescriptor (yX9_init).desc).map (fun d => d.parameters.length) = some 4 by decide +kernel); rw [h] at e; exact (Option.some.inj e).symm⟩
theorem fx_X4_122 : fx "ElasticTruss$SetupReader" 122 [200, 201, 202, 203] 0 := ⟨"ElasticTruss$Operator", "ElasticTruss$Operator", "sign", "C", ⟨Or.inl q3912, Or.inl rfl⟩, fx_s (Nat.le_of_ble_eq_true rfl) rfl (fx_s (Nat.le_of_ble_eq_true rfl) rfl (fx_s (Nat.le_of_ble_eq_true rfl) rfl (fx_s (Nat.le_of_ble_eq_true rfl) rfl (fx_0))))⟩
set_option maxHeartbeats 4000000 in
theorem wb_X4_byteAt_b25 {E : Ev} {K : Kx} (C : wk_C E K yX4_byteAt cX4_byteAt 2 (Option.some FieldType.int) 0 0 []) {r : Int32} {σ' : Hs} (t0 : Int32) (σ : Hs) (hf : fn_X4_byteAt_b25 t0 σ = some (r, σ')) : wk_V E K (.inl (some (.int r))) σ' σ 25 [] [vI t0] := by
  unfold fn_X4_byteAt_b25 at hf
  obtain ⟨rfl, rfl⟩ := Prod.mk.inj (Option.some.inj hf)
  exact wk_iret C rfl rfl dX4_byteAt_25
set_option maxHeartbeats 4000000 in
theorem mt_X4_byteAt {E : Ev} {l : Launch} (hl : l.stackTraces = false) {p0 : Option Nat} {p1 : Int32} {σ : Hs} {r : Int32} {σ' : Hs} (hf : fn_X4_byteAt p0 p1 σ = some (r, σ')) : wk_M E l yX4_byteAt (ws_ yX4_byteAt cX4_byteAt 2 (Option.some FieldType.int)) 0 0 [vR p0, vI p1] σ (.inl (some (.int r))) σ' := by
  refine wk_start (by decide +kernel) hl (Nat.le_of_ble_eq_true rfl) (fun K C hK => ?_)
  subst hK
  refine wk_L (L' := [(0, vR p0), (1, vI p1)]) rfl ?_
  unfold fn_X4_byteAt at hf
  refine wk_iload_n C 1 rfl dX4_byteAt_0 ?_
  refine wk_aload_n C 0 rfl dX4_byteAt_1 ?_
  obtain ⟨v1, h_v1, hf⟩ := ho_b hf
  refine wk_getI C fx_X4_22 h_v1 dX4_byteAt_2 ?_
  refine wk_icmp_ge C 24 (by decide) dX4_byteAt_5 (fun c_ => ?_) (fun c_ => ?_)
  · rw [if_pos c_] at hf
    refine wk_iconst (v := -1) C dX4_byteAt_24 rfl ?_
    refine wk_sub (L' := []) [] rfl ?_
    exact wb_X4_byteAt_b25 C  _ _ hf
  · rw [if_neg c_] at hf
    refine wk_aload_n C 0 rfl dX4_byteAt_8 ?_
    obtain ⟨v2, h_v2, hf⟩ := ho_b hf
    refine wk_getR C fx_X4_3 h_v2 dX4_byteAt_9 ?_
    obtain ⟨v3, h_v3, hf⟩ := ho_b hf
    refine wk_getR C fx_X4_26 h_v3 dX4_byteAt_12 ?_
    refine wk_iload_n C 1 rfl dX4_byteAt_15 ?_
    obtain ⟨v4, h_v4, hf⟩ := ho_b hf
    refine wk_bald C h_v4 dX4_byteAt_16 ?_
    refine wk_sipush (v := 255) C dX4_byteAt_17 rfl ?_
    refine wk_iand C dX4_byteAt_20 ?_
    refine wk_goto C 25 (by decide) dX4_byteAt_21 ?_
    refine wk_sub (L' := []) [] rfl ?_
    exact wb_X4_byteAt_b25 C  _ _ hf
set_option maxHeartbeats 4000000 in
theorem mt_X4_isLetter {E : Ev} {l : Launch} (hl : l.stackTraces = false) {p0 : Option Nat} {p1 : Int32} {σ : Hs} {r : Int32} {σ' : Hs} (hf : fn_X4_isLetter p0 p1 σ = some (r, σ')) : wk_M E l yX4_isLetter (ws_ yX4_isLetter cX4_isLetter 2 (Option.some FieldType.boolean)) 1 25 [vR p0, vI p1] σ (.inl (some (.int r))) σ' := by
  refine wk_start (by decide +kernel) hl (Nat.le_of_ble_eq_true rfl) (fun K C hK => ?_)
  subst hK
  refine wk_L (L' := [(0, vR p0), (1, vI p1)]) rfl ?_
  unfold fn_X4_isLetter at hf
  refine wk_ldc2 C q2744 dX4_isLetter_0 ?_
  refine wk_ldc2 C q2745 dX4_isLetter_3 ?_
  refine wk_aload_n C 0 rfl dX4_isLetter_6 ?_
  refine wk_iload_n C 1 rfl dX4_isLetter_7 ?_
  obtain ⟨b1, h_b1, hf⟩ := ho_b hf
  obtain ⟨v3, σ2, h_σ2, hf⟩ := ho_e2 hf
  refine wk_callV (av := [vI p1]) (rest := [vJ (122 : Int64), vJ (97 : Int64)]) (rv := some (vI v3)) C h_b1 rx_3 cx_X4_33 (mt_X4_byteAt (wk_C.tr C) h_σ2) rfl rfl (Nat.le_of_ble_eq_true rfl) (Nat.le_of_ble_eq_true rfl) (Nat.le_of_ble_eq_true rfl) dX4_isLetter_8 ?_
  refine wk_i2l C dX4_isLetter_11 ?_
  obtain ⟨v5, σ4, h_σ4, hf⟩ := ho_e2 hf
  refine wk_callSN (av := [vJ (97 : Int64), vJ (122 : Int64), vJ v3.toInt64]) (rest := []) (rv := some (vI v5)) C cx_X4_41 (mt_X1_isIn (wk_C.tr C) h_σ4) rfl rfl (Nat.le_of_ble_eq_true rfl) (Nat.le_of_ble_eq_true rfl) (Nat.le_of_ble_eq_true rfl) dX4_isLetter_12 ?_
  obtain ⟨v6, h_v6, hf⟩ := ho_b hf
  obtain ⟨rfl, rfl⟩ := Prod.mk.inj (Option.some.inj hf)
  exact wk_zret C h_v6 rfl rfl dX4_isLetter_15
set_option maxHeartbeats 4000000 in
theorem mt_X4_isDigit {E : Ev} {l : Launch} (hl : l.stackTraces = false) {p0 : Option Nat} {p1 : Int32} {σ : Hs} {r : Int32} {σ' : Hs} (hf : fn_X4_isDigit p0 p1 σ = some (r, σ')) : wk_M E l yX4_isDigit (ws_ yX4_isDigit cX4_isDigit 2 (Option.some FieldType.boolean)) 1 25 [vR p0, vI p1] σ (.inl (some (.int r))) σ' := by
  refine wk_start (by decide +kernel) hl (Nat.le_of_ble_eq_true rfl) (fun K C hK => ?_)
  subst hK
  refine wk_L (L' := [(0, vR p0), (1, vI p1)]) rfl ?_
  unfold fn_X4_isDigit at hf
  refine wk_ldc2 C q2785 dX4_isDigit_0 ?_
  refine wk_ldc2 C q2786 dX4_isDigit_3 ?_
  refine wk_aload_n C 0 rfl dX4_isDigit_6 ?_
  refine wk_iload_n C 1 rfl dX4_isDigit_7 ?_
  obtain ⟨b1, h_b1, hf⟩ := ho_b hf
  obtain ⟨v3, σ2, h_σ2, hf⟩ := ho_e2 hf
  refine wk_callV (av := [vI p1]) (rest := [vJ (57 : Int64), vJ (48 : Int64)]) (rv := some (vI v3)) C h_b1 rx_3 cx_X4_33 (mt_X4_byteAt (wk_C.tr C) h_σ2) rfl rfl (Nat.le_of_ble_eq_true rfl) (Nat.le_of_ble_eq_true rfl) (Nat.le_of_ble_eq_true rfl) dX4_isDigit_8 ?_
  refine wk_i2l C dX4_isDigit_11 ?_
  obtain ⟨v5, σ4, h_σ4, hf⟩ := ho_e2 hf
  refine wk_callSN (av := [vJ (48 : Int64), vJ (57 : Int64), vJ v3.toInt64]) (rest := []) (rv := some (vI v5)) C cx_X4_41 (mt_X1_isIn (wk_C.tr C) h_σ4) rfl rfl (Nat.le_of_ble_eq_true rfl) (Nat.le_of_ble_eq_true rfl) (Nat.le_of_ble_eq_true rfl) dX4_isDigit_12 ?_
  obtain ⟨v6, h_v6, hf⟩ := ho_b hf
  obtain ⟨rfl, rfl⟩ := Prod.mk.inj (Option.some.inj hf)
  exact wk_zret C h_v6 rfl rfl dX4_isDigit_15
set_option maxHeartbeats 4000000 in
theorem wb_X4_skipSpaces_b26 {E : Ev} {K : Kx} (C : wk_C E K yX4_skipSpaces cX4_skipSpaces 1 (Option.some FieldType.int) 1 21 []) {r : Int32} {σ' : Hs} (l0 : Option Nat) (σ : Hs) (hf : fn_X4_skipSpaces_b26 l0 σ = some (r, σ')) : wk_V E K (.inl (some (.int r))) σ' σ 26 [(0, vR l0)] [] := by
  unfold fn_X4_skipSpaces_b26 at hf
  refine wk_aload_n C 0 rfl dX4_skipSpaces_26 ?_
  refine wk_aload_n C 0 rfl dX4_skipSpaces_27 ?_
  obtain ⟨v1, h_v1, hf⟩ := ho_b hf
  refine wk_getI C fx_X4_30 h_v1 dX4_skipSpaces_28 ?_
  obtain ⟨b2, h_b2, hf⟩ := ho_b hf
  obtain ⟨v4, σ3, h_σ3, hf⟩ := ho_e2 hf
  refine wk_callV (av := [vI v1]) (rest := []) (rv := some (vI v4)) C h_b2 rx_3 cx_X4_33 (mt_X4_byteAt (wk_C.tr C) h_σ3) rfl rfl (Nat.le_of_ble_eq_true rfl) (Nat.le_of_ble_eq_true rfl) (Nat.le_of_ble_eq_true rfl) dX4_skipSpaces_31 ?_
  obtain ⟨rfl, rfl⟩ := Prod.mk.inj (Option.some.inj hf)
  exact wk_iret C rfl rfl dX4_skipSpaces_34
set_option maxHeartbeats 4000000 in
theorem wb_X4_skipSpaces_b0 {E : Ev} {K : Kx} (C : wk_C E K yX4_skipSpaces cX4_skipSpaces 1 (Option.some FieldType.int) 1 21 []) {r : Int32} {σ' : Hs} : ∀ (n : Nat) (l0 : Option Nat) (σ : Hs), fn_X4_skipSpaces_b0 n l0 σ = some (r, σ') → wk_V E K (.inl (some (.int r))) σ' σ 0 [(0, vR l0)] [] := by
  intro n
  induction n with
  | zero =>
    intro l0 σ hf
    rw [fn_X4_skipSpaces_b0] at hf
    cases hf
  | succ n ih =>
    intro l0 σ hf
    rw [fn_X4_skipSpaces_b0] at hf
    refine wk_aload_n C 0 rfl dX4_skipSpaces_0 ?_
    refine wk_aload_n C 0 rfl dX4_skipSpaces_1 ?_
    obtain ⟨v5, h_v5, hf⟩ := ho_b hf
    refine wk_getI C fx_X4_30 h_v5 dX4_skipSpaces_2 ?_
    obtain ⟨b6, h_b6, hf⟩ := ho_b hf
    obtain ⟨v8, σ7, h_σ7, hf⟩ := ho_e2 hf
    refine wk_callV (av := [vI v5]) (rest := []) (rv := some (vI v8)) C h_b6 rx_3 cx_X4_33 (mt_X4_byteAt (wk_C.tr C) h_σ7) rfl rfl (Nat.le_of_ble_eq_true rfl) (Nat.le_of_ble_eq_true rfl) (Nat.le_of_ble_eq_true rfl) dX4_skipSpaces_5 ?_
    refine wk_bipush (v := 32) C dX4_skipSpaces_8 rfl ?_
    refine wk_icmp_ne C 26 (by decide) dX4_skipSpaces_10 (fun c_ => ?_) (fun c_ => ?_)
    · rw [if_neg c_] at hf
      exact wb_X4_skipSpaces_b26 C  _ _ hf
    · rw [if_pos c_] at hf
      refine wk_aload_n C 0 rfl dX4_skipSpaces_13 ?_
      refine wk_dup C rfl dX4_skipSpaces_14 ?_
      obtain ⟨v9, h_v9, hf⟩ := ho_b hf
      refine wk_getI C fx_X4_30 h_v9 dX4_skipSpaces_15 ?_
      refine wk_iconst (v := 1) C dX4_skipSpaces_18 rfl ?_
      refine wk_iadd C dX4_skipSpaces_19 ?_
      obtain ⟨σ10, h_σ10, hf⟩ := ho_b hf
      refine wk_putI C px_X4_30 (fun q => by cases q) h_σ10 dX4_skipSpaces_20 ?_
      refine wk_goto C 0 (by decide) dX4_skipSpaces_23 ?_
      exact ih _ _ hf
set_option maxHeartbeats 4000000 in
theorem mt_X4_skipSpaces {E : Ev} {l : Launch} (hl : l.stackTraces = false) {p0 : Option Nat} {σ : Hs} {r : Int32} {σ' : Hs} (hf : fn_X4_skipSpaces p0 σ = some (r, σ')) : wk_M E l yX4_skipSpaces (ws_ yX4_skipSpaces cX4_skipSpaces 1 (Option.some FieldType.int)) 1 21 [vR p0] σ (.inl (some (.int r))) σ' := by
  refine wk_start (by decide +kernel) hl (Nat.le_of_ble_eq_true rfl) (fun K C hK => ?_)
  subst hK
  refine wk_L (L' := [(0, vR p0)]) rfl ?_
  unfold fn_X4_skipSpaces at hf
  exact wb_X4_skipSpaces_b0 C  _ _ _ hf
set_option maxHeartbeats 4000000 in
theorem wb_X4_takeWord_b75 {E : Ev} {K : Kx} (C : wk_C E K yX4_takeWord cX4_takeWord 4 (Option.some FieldType.boolean) 4 85 []) {r : Int32} {σ' : Hs} (l0 : Option Nat) (l2 : Int32) (σ : Hs) (hf : fn_X4_takeWord_b75 E.2.2.1 l0 l2 σ = some (r, σ')) : wk_V E K (.inl (some (.int r))) σ' σ 75 [(0, vR l0), (2, vI l2)] [] := by
  unfold fn_X4_takeWord_b75 at hf
  refine wk_aload_n C 0 rfl dX4_takeWord_75 ?_
  refine wk_iload_n C 1 rfl dX4_takeWord_76 ?_
  obtain ⟨σ1, h_σ1, hf⟩ := ho_b hf
  refine wk_putI C px_X4_30 (fun q => by cases q) h_σ1 dX4_takeWord_77 ?_
  refine wk_iconst (v := 1) C dX4_takeWord_80 rfl ?_
  obtain ⟨rfl, rfl⟩ := Prod.mk.inj (Option.some.inj hf)
  exact wk_zret C (v := (1 : Int32)) rfl rfl rfl dX4_takeWord_81
set_option maxHeartbeats 4000000 in
theorem wb_X4_takeWord_b41 {E : Ev} {K : Kx} (C : wk_C E K yX4_takeWord cX4_takeWord 4 (Option.some FieldType.boolean) 4 85 []) {r : Int32} {σ' : Hs} : ∀ (n : Nat) (l0 : Option Nat) (l1 : Option Nat) (l2 : Int32) (l3 : Int32) (σ : Hs), fn_X4_takeWord_b41 E.2.2.1 n l0 l1 l2 l3 σ = some (r, σ') → wk_V E K (.inl (some (.int r))) σ' σ 41 [(0, vR l0), (1, vR l1), (2, vI l2), (3, vI l3)] [] := by
  intro n
  induction n with
  | zero =>
    intro l0 l1 l2 l3 σ hf
    rw [fn_X4_takeWord_b41] at hf
    cases hf
  | succ n ih =>
    intro l0 l1 l2 l3 σ hf
    rw [fn_X4_takeWord_b41] at hf
    refine wk_iload_n C 3 rfl dX4_takeWord_41 ?_
    refine wk_aload_n C 1 rfl dX4_takeWord_42 ?_
    obtain ⟨b2, h_b2, hf⟩ := ho_b hf
    obtain ⟨v4, σ3, h_σ3, hf⟩ := ho_e2 hf
    refine wk_callV (av := []) (rest := [vI l3]) (rv := some (vI v4)) C h_b2 rx_210 cx_X4_57 (mt_J9_length (wk_C.tr C) h_σ3) rfl rfl (Nat.le_of_ble_eq_true rfl) (Nat.le_of_ble_eq_true rfl) (Nat.le_of_ble_eq_true rfl) dX4_takeWord_43 ?_
    refine wk_icmp_ge C 75 (by decide) dX4_takeWord_46 (fun c_ => ?_) (fun c_ => ?_)
    · rw [if_pos c_] at hf
      refine wk_sub (L' := [(0, vR l0), (2, vI l2)]) [0, 2] rfl ?_
      exact wb_X4_takeWord_b75 C  _ _ _ hf
    · rw [if_neg c_] at hf
      refine wk_aload_n C 0 rfl dX4_takeWord_49 ?_
      refine wk_aload_n C 0 rfl dX4_takeWord_50 ?_
      obtain ⟨v5, h_v5, hf⟩ := ho_b hf
      refine wk_getI C fx_X4_30 h_v5 dX4_takeWord_51 ?_
      refine wk_iload_n C 3 rfl dX4_takeWord_54 ?_
      refine wk_iadd C dX4_takeWord_55 ?_
      obtain ⟨b6, h_b6, hf⟩ := ho_b hf
      obtain ⟨v8, σ7, h_σ7, hf⟩ := ho_e2 hf
      refine wk_callV (av := [vI (v5 + l3)]) (rest := []) (rv := some (vI v8)) C h_b6 rx_3 cx_X4_33 (mt_X4_byteAt (wk_C.tr C) h_σ7) rfl rfl (Nat.le_of_ble_eq_true rfl) (Nat.le_of_ble_eq_true rfl) (Nat.le_of_ble_eq_true rfl) dX4_takeWord_56 ?_
      refine wk_aload_n C 1 rfl dX4_takeWord_59 ?_
      refine wk_iload_n C 3 rfl dX4_takeWord_60 ?_
      obtain ⟨b9, h_b9, hf⟩ := ho_b hf
      obtain ⟨v11, σ10, h_σ10, hf⟩ := ho_e2 hf
      refine wk_callV (av := [vI l3]) (rest := [vI v8]) (rv := some (vI v11)) C h_b9 rx_210 cx_X4_61 (mt_J9_charAt (wk_C.tr C) h_σ10) rfl rfl (Nat.le_of_ble_eq_true rfl) (Nat.le_of_ble_eq_true rfl) (Nat.le_of_ble_eq_true rfl) dX4_takeWord_61 ?_
      refine wk_icmp_eq C 69 (by decide) dX4_takeWord_64 (fun c_ => ?_) (fun c_ => ?_)
      · rw [if_pos c_] at hf
        refine wk_iinc (v := l3 + 1) (L' := [(0, vR l0), (1, vR l1), (2, vI l2), (3, vI (l3 + 1))]) C 3 rfl (by decide) rfl rfl dX4_takeWord_69 ?_
        refine wk_goto C 41 (by decide) dX4_takeWord_72 ?_
        exact ih _ _ _ _ _ hf
      · rw [if_neg c_] at hf
        refine wk_iconst (v := 0) C dX4_takeWord_67 rfl ?_
        obtain ⟨rfl, rfl⟩ := Prod.mk.inj (Option.some.inj hf)
        exact wk_zret C (v := (0 : Int32)) rfl rfl rfl dX4_takeWord_68
set_option maxHeartbeats 4000000 in
theorem wb_X4_takeWord_b24 {E : Ev} {K : Kx} (C : wk_C E K yX4_takeWord cX4_takeWord 4 (Option.some FieldType.boolean) 4 85 []) {r : Int32} {σ' : Hs} (l0 : Option Nat) (l1 : Option Nat) (l2 : Int32) (σ : Hs) (hf : fn_X4_takeWord_b24 E.2.2.1 l0 l1 l2 σ = some (r, σ')) : wk_V E K (.inl (some (.int r))) σ' σ 24 [(0, vR l0), (1, vR l1), (2, vI l2)] [] := by
  unfold fn_X4_takeWord_b24 at hf
  refine wk_iload_n C 2 rfl dX4_takeWord_24 ?_
  refine wk_aload_n C 0 rfl dX4_takeWord_25 ?_
  obtain ⟨v12, h_v12, hf⟩ := ho_b hf
  refine wk_getI C fx_X4_30 h_v12 dX4_takeWord_26 ?_
  refine wk_isub C dX4_takeWord_29 ?_
  refine wk_aload_n C 1 rfl dX4_takeWord_30 ?_
  obtain ⟨b13, h_b13, hf⟩ := ho_b hf
  obtain ⟨v15, σ14, h_σ14, hf⟩ := ho_e2 hf
  refine wk_callV (av := []) (rest := [vI (l2 - v12)]) (rv := some (vI v15)) C h_b13 rx_210 cx_X4_57 (mt_J9_length (wk_C.tr C) h_σ14) rfl rfl (Nat.le_of_ble_eq_true rfl) (Nat.le_of_ble_eq_true rfl) (Nat.le_of_ble_eq_true rfl) dX4_takeWord_31 ?_
  refine wk_icmp_eq C 39 (by decide) dX4_takeWord_34 (fun c_ => ?_) (fun c_ => ?_)
  · rw [if_pos c_] at hf
    refine wk_iconst (v := 0) C dX4_takeWord_39 rfl ?_
    refine wk_istore_n (L' := [(0, vR l0), (1, vR l1), (2, vI l2), (3, vI (0 : Int32))]) C (by decide) rfl dX4_takeWord_40 ?_
    exact wb_X4_takeWord_b41 C  _ _ _ _ _ _ hf
  · rw [if_neg c_] at hf
    refine wk_iconst (v := 0) C dX4_takeWord_37 rfl ?_
    obtain ⟨rfl, rfl⟩ := Prod.mk.inj (Option.some.inj hf)
    exact wk_zret C (v := (0 : Int32)) rfl rfl rfl dX4_takeWord_38
set_option maxHeartbeats 4000000 in
theorem wb_X4_takeWord_b10 {E : Ev} {K : Kx} (C : wk_C E K yX4_takeWord cX4_takeWord 4 (Option.some FieldType.boolean) 4 85 []) {r : Int32} {σ' : Hs} : ∀ (n : Nat) (l0 : Option Nat) (l1 : Option Nat) (l2 : Int32) (σ : Hs), fn_X4_takeWord_b10 E.2.2.1 n l0 l1 l2 σ = some (r, σ') → wk_V E K (.inl (some (.int r))) σ' σ 10 [(0, vR l0), (1, vR l1), (2, vI l2)] [] := by
  intro n
  induction n with
  | zero =>
    intro l0 l1 l2 σ hf
    rw [fn_X4_takeWord_b10] at hf
    cases hf
  | succ n ih =>
    intro l0 l1 l2 σ hf
    rw [fn_X4_takeWord_b10] at hf
    refine wk_aload_n C 0 rfl dX4_takeWord_10 ?_
    refine wk_iload_n C 2 rfl dX4_takeWord_11 ?_
    obtain ⟨b16, h_b16, hf⟩ := ho_b hf
    obtain ⟨v18, σ17, h_σ17, hf⟩ := ho_e2 hf
    refine wk_callV (av := [vI l2]) (rest := []) (rv := some (vI v18)) C h_b16 rx_3 cx_X4_53 (mt_X4_isLetter (wk_C.tr C) h_σ17) rfl rfl (Nat.le_of_ble_eq_true rfl) (Nat.le_of_ble_eq_true rfl) (Nat.le_of_ble_eq_true rfl) dX4_takeWord_12 ?_
    refine wk_if_eq C 24 (by decide) dX4_takeWord_15 (fun c_ => ?_) (fun c_ => ?_)
    · rw [if_pos c_] at hf
      exact wb_X4_takeWord_b24 C  _ _ _ _ hf
    · rw [if_neg c_] at hf
      refine wk_iinc (v := l2 + 1) (L' := [(0, vR l0), (1, vR l1), (2, vI (l2 + 1))]) C 2 rfl (by decide) rfl rfl dX4_takeWord_18 ?_
      refine wk_goto C 10 (by decide) dX4_takeWord_21 ?_
      exact ih _ _ _ _ hf
set_option maxHeartbeats 4000000 in
theorem mt_X4_takeWord {E : Ev} {l : Launch} (hl : l.stackTraces = false) {p0 : Option Nat} {p1 : Option Nat} {σ : Hs} {r : Int32} {σ' : Hs} (hf : fn_X4_takeWord E.2.2.1 p0 p1 σ = some (r, σ')) : wk_M E l yX4_takeWord (ws_ yX4_takeWord cX4_takeWord 4 (Option.some FieldType.boolean)) 4 85 [vR p0, vR p1] σ (.inl (some (.int r))) σ' := by
  refine wk_start (by decide +kernel) hl (Nat.le_of_ble_eq_true rfl) (fun K C hK => ?_)
  subst hK
  refine wk_L (L' := [(0, vR p0), (1, vR p1)]) rfl ?_
  unfold fn_X4_takeWord at hf
  refine wk_aload_n C 0 rfl dX4_takeWord_0 ?_
  obtain ⟨b19, h_b19, hf⟩ := ho_b hf
  obtain ⟨v21, σ20, h_σ20, hf⟩ := ho_e2 hf
  refine wk_callV (av := []) (rest := []) (rv := some (vI v21)) C h_b19 rx_3 cx_X4_49 (mt_X4_skipSpaces (wk_C.tr C) h_σ20) rfl rfl (Nat.le_of_ble_eq_true rfl) (Nat.le_of_ble_eq_true rfl) (Nat.le_of_ble_eq_true rfl) dX4_takeWord_1 ?_
  refine wk_pop C rfl dX4_takeWord_4 ?_
  refine wk_aload_n C 0 rfl dX4_takeWord_5 ?_
  obtain ⟨v22, h_v22, hf⟩ := ho_b hf
  refine wk_getI C fx_X4_30 h_v22 dX4_takeWord_6 ?_
  refine wk_istore_n (L' := [(0, vR p0), (1, vR p1), (2, vI v22)]) C (by decide) rfl dX4_takeWord_9 ?_
  exact wb_X4_takeWord_b10 C  _ _ _ _ _ hf
set_option maxHeartbeats 4000000 in
theorem mt_X4_need {E : Ev} {l : Launch} (hl : l.stackTraces = false) {p0 : Option Nat} {p1 : Int32} {σ : Hs} {r : Unit ⊕ Nat} {σ' : Hs} (hf : fn_X4_need E.2.2.1 p0 p1 σ = some (r, σ')) : wk_M E l yX4_need (ws_ yX4_need cX4_need 2 (Option.none : Option FieldType)) 4 82 [vR p0, vI p1] σ (ot_V r) σ' := by
  refine wk_start (by decide +kernel) hl (Nat.le_of_ble_eq_true rfl) (fun K C hK => ?_)
  subst hK
  refine wk_L (L' := [(0, vR p0), (1, vI p1)]) rfl ?_
  unfold fn_X4_need at hf
  refine wk_iload_n C 1 rfl dX4_need_0 ?_
  refine wk_if_ne C 18 (by decide) dX4_need_1 (fun c_ => ?_) (fun c_ => ?_)
  · rw [if_neg c_] at hf
    obtain ⟨rfl, rfl⟩ := Prod.mk.inj (Option.some.inj hf)
    exact wk_vret C rfl rfl dX4_need_18
  · rw [if_pos c_] at hf
    obtain ⟨v1, σ2, h_σ2, hf⟩ := ho_e2 hf
    refine wk_new C nx_X4_69 h_σ2 dX4_need_4 ?_
    refine wk_dup C rfl dX4_need_7 ?_
    refine wk_bipush (v := -3) C dX4_need_8 rfl ?_
    refine wk_aload_n C 0 rfl dX4_need_10 ?_
    obtain ⟨v3, h_v3, hf⟩ := ho_b hf
    refine wk_getI C fx_X4_74 h_v3 dX4_need_11 ?_
    obtain ⟨b4, h_b4, hf⟩ := ho_b hf
    obtain ⟨σ5, h_σ5, hf⟩ := ho_b hf
    refine wk_callI (av := [vI (-3 : Int32), vI v3]) (rest := [vR v1]) C cx_X4_71 h_b4 (mt_X5_init (wk_C.tr C) h_σ5) rfl (Nat.le_of_ble_eq_true rfl) (Nat.le_of_ble_eq_true rfl) (Nat.le_of_ble_eq_true rfl) dX4_need_14 ?_
    obtain ⟨q6, h_q6, hf⟩ := ho_b hf
    obtain ⟨rfl, rfl⟩ := Prod.mk.inj (Option.some.inj hf)
    exact wk_athrow C h_q6 (by decide +kernel) rfl rfl dX4_need_17
set_option maxHeartbeats 4000000 in
theorem wb_X4_number_b86 {E : Ev} {K : Kx} (C : wk_C E K yX4_number cX4_number 4 (Option.some FieldType.int) 5 103 []) {r : Int32 ⊕ Nat} {σ' : Hs} (l0 : Option Nat) (l1 : Int32) (l2 : Int32) (l3 : Int32) (σ : Hs) (hf : fn_X4_number_b86 E.2.2.1 l0 l1 l2 l3 σ = some (r, σ')) : wk_V E K (ot_I r) σ' σ 86 [(0, vR l0), (1, vI l1), (2, vI l2), (3, vI l3)] [] := by
  unfold fn_X4_number_b86 at hf
  refine wk_aload_n C 0 rfl dX4_number_86 ?_
  refine wk_iload_n C 1 rfl dX4_number_87 ?_
  refine wk_i2l C dX4_number_88 ?_
  refine wk_iload_n C 2 rfl dX4_number_89 ?_
  refine wk_i2l C dX4_number_90 ?_
  refine wk_iload_n C 3 rfl dX4_number_91 ?_
  refine wk_i2l C dX4_number_92 ?_
  obtain ⟨v2, σ1, h_σ1, hf⟩ := ho_e2 hf
  refine wk_callSN (av := [vJ l1.toInt64, vJ l2.toInt64, vJ l3.toInt64]) (rest := [vR l0]) (rv := some (vI v2)) C cx_X4_41 (mt_X1_isIn (wk_C.tr C) h_σ1) rfl rfl (Nat.le_of_ble_eq_true rfl) (Nat.le_of_ble_eq_true rfl) (Nat.le_of_ble_eq_true rfl) dX4_number_93 ?_
  obtain ⟨b3, h_b3, hf⟩ := ho_b hf
  obtain ⟨v5, σ4, h_σ4, hf⟩ := ho_e2 hf
  rcases ho_xe hf with ⟨x6, rfl, hf⟩ | ⟨q7, rfl, hf⟩
  · refine wk_callV (av := [vI v2]) (rest := []) (rv := none) C h_b3 rx_3 cx_X4_87 (mt_X4_need (wk_C.tr C) h_σ4) rfl rfl (Nat.le_of_ble_eq_true rfl) (Nat.le_of_ble_eq_true rfl) (Nat.le_of_ble_eq_true rfl) dX4_number_96 ?_
    refine wk_iload_n C 3 rfl dX4_number_99 ?_
    obtain ⟨rfl, rfl⟩ := Prod.mk.inj (Option.some.inj hf)
    exact wk_iret C rfl rfl dX4_number_100
  · refine wk_callVT (av := [vI v2]) (rest := []) C h_b3 rx_3 cx_X4_87 (mt_X4_need (wk_C.tr C) h_σ4) rfl (Nat.le_of_ble_eq_true rfl) (Nat.le_of_ble_eq_true rfl) (Nat.le_of_ble_eq_true rfl) dX4_number_96 ?_
    obtain ⟨rfl, rfl⟩ := Prod.mk.inj (Option.some.inj hf)
    exact wk_out C (by decide +kernel) rfl rfl
set_option maxHeartbeats 4000000 in
theorem wb_X4_number_b40 {E : Ev} {K : Kx} (C : wk_C E K yX4_number cX4_number 4 (Option.some FieldType.int) 5 103 []) {r : Int32 ⊕ Nat} {σ' : Hs} : ∀ (n : Nat) (l0 : Option Nat) (l1 : Int32) (l2 : Int32) (l3 : Int32) (σ : Hs), fn_X4_number_b40 E.2.2.1 n l0 l1 l2 l3 σ = some (r, σ') → wk_V E K (ot_I r) σ' σ 40 [(0, vR l0), (1, vI l1), (2, vI l2), (3, vI l3)] [] := by
  intro n
  induction n with
  | zero =>
    intro l0 l1 l2 l3 σ hf
    rw [fn_X4_number_b40] at hf
    cases hf
  | succ n ih =>
    intro l0 l1 l2 l3 σ hf
    rw [fn_X4_number_b40] at hf
    refine wk_aload_n C 0 rfl dX4_number_40 ?_
    refine wk_aload_n C 0 rfl dX4_number_41 ?_
    obtain ⟨v8, h_v8, hf⟩ := ho_b hf
    refine wk_getI C fx_X4_30 h_v8 dX4_number_42 ?_
    obtain ⟨b9, h_b9, hf⟩ := ho_b hf
    obtain ⟨v11, σ10, h_σ10, hf⟩ := ho_e2 hf
    refine wk_callV (av := [vI v8]) (rest := []) (rv := some (vI v11)) C h_b9 rx_3 cx_X4_77 (mt_X4_isDigit (wk_C.tr C) h_σ10) rfl rfl (Nat.le_of_ble_eq_true rfl) (Nat.le_of_ble_eq_true rfl) (Nat.le_of_ble_eq_true rfl) dX4_number_45 ?_
    refine wk_if_eq C 86 (by decide) dX4_number_48 (fun c_ => ?_) (fun c_ => ?_)
    · rw [if_pos c_] at hf
      exact wb_X4_number_b86 C  _ _ _ _ _ hf
    · rw [if_neg c_] at hf
      refine wk_ldc C q2787 dX4_number_51 ?_
      refine wk_bipush (v := 10) C dX4_number_53 rfl ?_
      refine wk_iload_n C 3 rfl dX4_number_55 ?_
      refine wk_imul C dX4_number_56 ?_
      refine wk_aload_n C 0 rfl dX4_number_57 ?_
      refine wk_aload_n C 0 rfl dX4_number_58 ?_
      obtain ⟨v12, h_v12, hf⟩ := ho_b hf
      refine wk_getI C fx_X4_30 h_v12 dX4_number_59 ?_
      obtain ⟨b13, h_b13, hf⟩ := ho_b hf
      obtain ⟨v15, σ14, h_σ14, hf⟩ := ho_e2 hf
      refine wk_callV (av := [vI v12]) (rest := [vI ((10 : Int32) * l3), vI (1000000 : Int32)]) (rv := some (vI v15)) C h_b13 rx_3 cx_X4_33 (mt_X4_byteAt (wk_C.tr C) h_σ14) rfl rfl (Nat.le_of_ble_eq_true rfl) (Nat.le_of_ble_eq_true rfl) (Nat.le_of_ble_eq_true rfl) dX4_number_62 ?_
      refine wk_iadd C dX4_number_65 ?_
      refine wk_bipush (v := 48) C dX4_number_66 rfl ?_
      refine wk_isub C dX4_number_68 ?_
      obtain ⟨v17, σ16, h_σ16, hf⟩ := ho_e2 hf
      refine wk_callS (av := [vI (1000000 : Int32), vI ((((10 : Int32) * l3) + v15) - (48 : Int32))]) (rest := []) (rv := some (vI v17)) C cx_X4_81 (mt_J12_min (wk_C.tr C) h_σ16) rfl rfl (Nat.le_of_ble_eq_true rfl) (Nat.le_of_ble_eq_true rfl) (Nat.le_of_ble_eq_true rfl) dX4_number_69 ?_
      refine wk_istore_n (L' := [(0, vR l0), (1, vI l1), (2, vI l2), (3, vI v17)]) C (by decide) rfl dX4_number_72 ?_
      refine wk_aload_n C 0 rfl dX4_number_73 ?_
      refine wk_dup C rfl dX4_number_74 ?_
      obtain ⟨v18, h_v18, hf⟩ := ho_b hf
      refine wk_getI C fx_X4_30 h_v18 dX4_number_75 ?_
      refine wk_iconst (v := 1) C dX4_number_78 rfl ?_
      refine wk_iadd C dX4_number_79 ?_
      obtain ⟨σ19, h_σ19, hf⟩ := ho_b hf
      refine wk_putI C px_X4_30 (fun q => by cases q) h_σ19 dX4_number_80 ?_
      refine wk_goto C 40 (by decide) dX4_number_83 ?_
      exact ih _ _ _ _ _ hf
set_option maxHeartbeats 4000000 in
theorem mt_X4_number {E : Ev} {l : Launch} (hl : l.stackTraces = false) {p0 : Option Nat} {p1 : Int32} {p2 : Int32} {σ : Hs} {r : Int32 ⊕ Nat} {σ' : Hs} (hf : fn_X4_number E.2.2.1 p0 p1 p2 σ = some (r, σ')) : wk_M E l yX4_number (ws_ yX4_number cX4_number 4 (Option.some FieldType.int)) 5 103 [vR p0, vI p1, vI p2] σ (ot_I r) σ' := by
  refine wk_start (by decide +kernel) hl (Nat.le_of_ble_eq_true rfl) (fun K C hK => ?_)
  subst hK
  refine wk_L (L' := [(0, vR p0), (1, vI p1), (2, vI p2)]) rfl ?_
  unfold fn_X4_number at hf
  refine wk_aload_n C 0 rfl dX4_number_0 ?_
  obtain ⟨b20, h_b20, hf⟩ := ho_b hf
  obtain ⟨v22, σ21, h_σ21, hf⟩ := ho_e2 hf
  refine wk_callV (av := []) (rest := []) (rv := some (vI v22)) C h_b20 rx_3 cx_X4_49 (mt_X4_skipSpaces (wk_C.tr C) h_σ21) rfl rfl (Nat.le_of_ble_eq_true rfl) (Nat.le_of_ble_eq_true rfl) (Nat.le_of_ble_eq_true rfl) dX4_number_1 ?_
  refine wk_pop C rfl dX4_number_4 ?_
  refine wk_aload_n C 0 rfl dX4_number_5 ?_
  refine wk_aload_n C 0 rfl dX4_number_6 ?_
  obtain ⟨v23, h_v23, hf⟩ := ho_b hf
  refine wk_getI C fx_X4_30 h_v23 dX4_number_7 ?_
  obtain ⟨b24, h_b24, hf⟩ := ho_b hf
  obtain ⟨v26, σ25, h_σ25, hf⟩ := ho_e2 hf
  refine wk_callV (av := [vI v23]) (rest := []) (rv := some (vI v26)) C h_b24 rx_3 cx_X4_77 (mt_X4_isDigit (wk_C.tr C) h_σ25) rfl rfl (Nat.le_of_ble_eq_true rfl) (Nat.le_of_ble_eq_true rfl) (Nat.le_of_ble_eq_true rfl) dX4_number_10 ?_
  refine wk_if_ne C 30 (by decide) dX4_number_13 (fun c_ => ?_) (fun c_ => ?_)
  · rw [if_neg c_] at hf
    refine wk_aload_n C 0 rfl dX4_number_30 ?_
    refine wk_aload_n C 0 rfl dX4_number_31 ?_
    obtain ⟨v27, h_v27, hf⟩ := ho_b hf
    refine wk_getI C fx_X4_30 h_v27 dX4_number_32 ?_
    obtain ⟨σ28, h_σ28, hf⟩ := ho_b hf
    refine wk_putI C px_X4_74 (fun q => by cases q) h_σ28 dX4_number_35 ?_
    refine wk_iconst (v := 0) C dX4_number_38 rfl ?_
    refine wk_istore_n (L' := [(0, vR p0), (1, vI p1), (2, vI p2), (3, vI (0 : Int32))]) C (by decide) rfl dX4_number_39 ?_
    exact wb_X4_number_b40 C  _ _ _ _ _ _ hf
  · rw [if_pos c_] at hf
    obtain ⟨v29, σ30, h_σ30, hf⟩ := ho_e2 hf
    refine wk_new C nx_X4_69 h_σ30 dX4_number_16 ?_
    refine wk_dup C rfl dX4_number_19 ?_
    refine wk_bipush (v := -2) C dX4_number_20 rfl ?_
    refine wk_aload_n C 0 rfl dX4_number_22 ?_
    obtain ⟨v31, h_v31, hf⟩ := ho_b hf
    refine wk_getI C fx_X4_30 h_v31 dX4_number_23 ?_
    obtain ⟨b32, h_b32, hf⟩ := ho_b hf
    obtain ⟨σ33, h_σ33, hf⟩ := ho_b hf
    refine wk_callI (av := [vI (-2 : Int32), vI v31]) (rest := [vR v29]) C cx_X4_71 h_b32 (mt_X5_init (wk_C.tr C) h_σ33) rfl (Nat.le_of_ble_eq_true rfl) (Nat.le_of_ble_eq_true rfl) (Nat.le_of_ble_eq_true rfl) dX4_number_26 ?_
    obtain ⟨q34, h_q34, hf⟩ := ho_b hf
    obtain ⟨rfl, rfl⟩ := Prod.mk.inj (Option.some.inj hf)
    exact wk_athrow C h_q34 (by decide +kernel) rfl rfl dX4_number_29
set_option maxHeartbeats 4000000 in
theorem mt_X4_takeSign {E : Ev} {l : Launch} (hl : l.stackTraces = false) {p0 : Option Nat} {p1 : Int32} {σ : Hs} {r : Int32} {σ' : Hs} (hf : fn_X4_takeSign p0 p1 σ = some (r, σ')) : wk_M E l yX4_takeSign (ws_ yX4_takeSign cX4_takeSign 2 (Option.some FieldType.boolean)) 2 41 [vR p0, vI p1] σ (.inl (some (.int r))) σ' := by
  refine wk_start (by decide +kernel) hl (Nat.le_of_ble_eq_true rfl) (fun K C hK => ?_)
  subst hK
  refine wk_L (L' := [(0, vR p0), (1, vI p1)]) rfl ?_
  unfold fn_X4_takeSign at hf
  refine wk_aload_n C 0 rfl dX4_takeSign_0 ?_
  obtain ⟨b1, h_b1, hf⟩ := ho_b hf
  obtain ⟨v3, σ2, h_σ2, hf⟩ := ho_e2 hf
  refine wk_callV (av := []) (rest := []) (rv := some (vI v3)) C h_b1 rx_3 cx_X4_49 (mt_X4_skipSpaces (wk_C.tr C) h_σ2) rfl rfl (Nat.le_of_ble_eq_true rfl) (Nat.le_of_ble_eq_true rfl) (Nat.le_of_ble_eq_true rfl) dX4_takeSign_1 ?_
  refine wk_iload_n C 1 rfl dX4_takeSign_4 ?_
  refine wk_icmp_eq C 10 (by decide) dX4_takeSign_5 (fun c_ => ?_) (fun c_ => ?_)
  · rw [if_pos c_] at hf
    refine wk_aload_n C 0 rfl dX4_takeSign_10 ?_
    refine wk_dup C rfl dX4_takeSign_11 ?_
    obtain ⟨v4, h_v4, hf⟩ := ho_b hf
    refine wk_getI C fx_X4_30 h_v4 dX4_takeSign_12 ?_
    refine wk_iconst (v := 1) C dX4_takeSign_15 rfl ?_
    refine wk_iadd C dX4_takeSign_16 ?_
    obtain ⟨σ5, h_σ5, hf⟩ := ho_b hf
    refine wk_putI C px_X4_30 (fun q => by cases q) h_σ5 dX4_takeSign_17 ?_
    refine wk_iconst (v := 1) C dX4_takeSign_20 rfl ?_
    obtain ⟨rfl, rfl⟩ := Prod.mk.inj (Option.some.inj hf)
    exact wk_zret C (v := (1 : Int32)) rfl rfl rfl dX4_takeSign_21
  · rw [if_neg c_] at hf
    refine wk_iconst (v := 0) C dX4_takeSign_8 rfl ?_
    obtain ⟨rfl, rfl⟩ := Prod.mk.inj (Option.some.inj hf)
    exact wk_zret C (v := (0 : Int32)) rfl rfl rfl dX4_takeSign_9
set_option maxHeartbeats 4000000 in
theorem mt_X4_needSign {E : Ev} {l : Launch} (hl : l.stackTraces = false) {p0 : Option Nat} {p1 : Int32} {σ : Hs} {r : Unit ⊕ Nat} {σ' : Hs} (hf : fn_X4_needSign E.2.2.1 p0 p1 σ = some (r, σ')) : wk_M E l yX4_needSign (ws_ yX4_needSign cX4_needSign 2 (Option.none : Option FieldType)) 4 82 [vR p0, vI p1] σ (ot_V r) σ' := by
  refine wk_start (by decide +kernel) hl (Nat.le_of_ble_eq_true rfl) (fun K C hK => ?_)
  subst hK
  refine wk_L (L' := [(0, vR p0), (1, vI p1)]) rfl ?_
  unfold fn_X4_needSign at hf
  refine wk_aload_n C 0 rfl dX4_needSign_0 ?_
  refine wk_iload_n C 1 rfl dX4_needSign_1 ?_
  obtain ⟨b1, h_b1, hf⟩ := ho_b hf
  obtain ⟨v3, σ2, h_σ2, hf⟩ := ho_e2 hf
  refine wk_callV (av := [vI p1]) (rest := []) (rv := some (vI v3)) C h_b1 rx_3 cx_X4_65 (mt_X4_takeSign (wk_C.tr C) h_σ2) rfl rfl (Nat.le_of_ble_eq_true rfl) (Nat.le_of_ble_eq_true rfl) (Nat.le_of_ble_eq_true rfl) dX4_needSign_2 ?_
  refine wk_if_ne C 22 (by decide) dX4_needSign_5 (fun c_ => ?_) (fun c_ => ?_)
  · rw [if_neg c_] at hf
    obtain ⟨rfl, rfl⟩ := Prod.mk.inj (Option.some.inj hf)
    exact wk_vret C rfl rfl dX4_needSign_22
  · rw [if_pos c_] at hf
    obtain ⟨v4, σ5, h_σ5, hf⟩ := ho_e2 hf
    refine wk_new C nx_X4_69 h_σ5 dX4_needSign_8 ?_
    refine wk_dup C rfl dX4_needSign_11 ?_
    refine wk_bipush (v := -2) C dX4_needSign_12 rfl ?_
    refine wk_aload_n C 0 rfl dX4_needSign_14 ?_
    obtain ⟨v6, h_v6, hf⟩ := ho_b hf
    refine wk_getI C fx_X4_30 h_v6 dX4_needSign_15 ?_
    obtain ⟨b7, h_b7, hf⟩ := ho_b hf
    obtain ⟨σ8, h_σ8, hf⟩ := ho_b hf
    refine wk_callI (av := [vI (-2 : Int32), vI v6]) (rest := [vR v4]) C cx_X4_71 h_b7 (mt_X5_init (wk_C.tr C) h_σ8) rfl (Nat.le_of_ble_eq_true rfl) (Nat.le_of_ble_eq_true rfl) (Nat.le_of_ble_eq_true rfl) dX4_needSign_18 ?_
    obtain ⟨q9, h_q9, hf⟩ := ho_b hf
    obtain ⟨rfl, rfl⟩ := Prod.mk.inj (Option.some.inj hf)
    exact wk_athrow C h_q9 (by decide +kernel) rfl rfl dX4_needSign_21
set_option maxHeartbeats 4000000 in
theorem mt_X4_needRoom {E : Ev} {l : Launch} (hl : l.stackTraces = false) {p0 : Option Nat} {p1 : Int32} {p2 : Int32} {σ : Hs} {r : Unit ⊕ Nat} {σ' : Hs} (hf : fn_X4_needRoom E.2.2.1 p0 p1 p2 σ = some (r, σ')) : wk_M E l yX4_needRoom (ws_ yX4_needRoom cX4_needRoom 3 (Option.none : Option FieldType)) 4 82 [vR p0, vI p1, vI p2] σ (ot_V r) σ' := by
  refine wk_start (by decide +kernel) hl (Nat.le_of_ble_eq_true rfl) (fun K C hK => ?_)
  subst hK
  refine wk_L (L' := [(0, vR p0), (1, vI p1), (2, vI p2)]) rfl ?_
  unfold fn_X4_needRoom at hf
  refine wk_iload_n C 1 rfl dX4_needRoom_0 ?_
  refine wk_if_ne C 15 (by decide) dX4_needRoom_1 (fun c_ => ?_) (fun c_ => ?_)
  · rw [if_neg c_] at hf
    obtain ⟨rfl, rfl⟩ := Prod.mk.inj (Option.some.inj hf)
    exact wk_vret C rfl rfl dX4_needRoom_15
  · rw [if_pos c_] at hf
    obtain ⟨v1, σ2, h_σ2, hf⟩ := ho_e2 hf
    refine wk_new C nx_X4_69 h_σ2 dX4_needRoom_4 ?_
    refine wk_dup C rfl dX4_needRoom_7 ?_
    refine wk_bipush (v := -4) C dX4_needRoom_8 rfl ?_
    refine wk_iload_n C 2 rfl dX4_needRoom_10 ?_
    obtain ⟨b3, h_b3, hf⟩ := ho_b hf
    obtain ⟨σ4, h_σ4, hf⟩ := ho_b hf
    refine wk_callI (av := [vI (-4 : Int32), vI p2]) (rest := [vR v1]) C cx_X4_71 h_b3 (mt_X5_init (wk_C.tr C) h_σ4) rfl (Nat.le_of_ble_eq_true rfl) (Nat.le_of_ble_eq_true rfl) (Nat.le_of_ble_eq_true rfl) dX4_needRoom_11 ?_
    obtain ⟨q5, h_q5, hf⟩ := ho_b hf
    obtain ⟨rfl, rfl⟩ := Prod.mk.inj (Option.some.inj hf)
    exact wk_athrow C h_q5 (by decide +kernel) rfl rfl dX4_needRoom_14
set_option maxHeartbeats 4000000 in
theorem mt_X4_nodeIndex {E : Ev} {l : Launch} (hl : l.stackTraces = false) {p0 : Option Nat} {σ : Hs} {r : Int32 ⊕ Nat} {σ' : Hs} (hf : fn_X4_nodeIndex E.2.2.1 p0 σ = some (r, σ')) : wk_M E l yX4_nodeIndex (ws_ yX4_nodeIndex cX4_nodeIndex 1 (Option.some FieldType.int)) 6 126 [vR p0] σ (ot_I r) σ' := by
  refine wk_start (by decide +kernel) hl (Nat.le_of_ble_eq_true rfl) (fun K C hK => ?_)
  subst hK
  refine wk_L (L' := [(0, vR p0)]) rfl ?_
  unfold fn_X4_nodeIndex at hf
  refine wk_aload_n C 0 rfl dX4_nodeIndex_0 ?_
  refine wk_iconst (v := 0) C dX4_nodeIndex_1 rfl ?_
  refine wk_aload_n C 0 rfl dX4_nodeIndex_2 ?_
  obtain ⟨v1, h_v1, hf⟩ := ho_b hf
  refine wk_getR C fx_X4_18 h_v1 dX4_nodeIndex_3 ?_
  obtain ⟨v2, h_v2, hf⟩ := ho_b hf
  refine wk_getR C fx_X4_160 h_v2 dX4_nodeIndex_6 ?_
  obtain ⟨b3, h_b3, hf⟩ := ho_b hf
  obtain ⟨v5, σ4, h_σ4, hf⟩ := ho_e2 hf
  refine wk_callF (av := []) (rest := [vI (0 : Int32), vR p0]) (rv := some (vI v5)) C h_b3 rx_13 cx_X4_164_13 (mt_J2_size (wk_C.tr C) h_σ4) rfl rfl (Nat.le_of_ble_eq_true rfl) (Nat.le_of_ble_eq_true rfl) (Nat.le_of_ble_eq_true rfl) dX4_nodeIndex_9 ?_
  refine wk_iconst (v := 1) C dX4_nodeIndex_14 rfl ?_
  refine wk_isub C dX4_nodeIndex_15 ?_
  obtain ⟨b6, h_b6, hf⟩ := ho_b hf
  obtain ⟨v8, σ7, h_σ7, hf⟩ := ho_e2 hf
  rcases ho_xe hf with ⟨x9, rfl, hf⟩ | ⟨q10, rfl, hf⟩
  · refine wk_callV (av := [vI (0 : Int32), vI (v5 - (1 : Int32))]) (rest := []) (rv := some (vI x9)) C h_b6 rx_3 cx_X4_91 (mt_X4_number (wk_C.tr C) h_σ7) rfl rfl (Nat.le_of_ble_eq_true rfl) (Nat.le_of_ble_eq_true rfl) (Nat.le_of_ble_eq_true rfl) dX4_nodeIndex_16 ?_
    obtain ⟨rfl, rfl⟩ := Prod.mk.inj (Option.some.inj hf)
    exact wk_iret C rfl rfl dX4_nodeIndex_19
  · refine wk_callVT (av := [vI (0 : Int32), vI (v5 - (1 : Int32))]) (rest := []) C h_b6 rx_3 cx_X4_91 (mt_X4_number (wk_C.tr C) h_σ7) rfl (Nat.le_of_ble_eq_true rfl) (Nat.le_of_ble_eq_true rfl) (Nat.le_of_ble_eq_true rfl) dX4_nodeIndex_16 ?_
    obtain ⟨rfl, rfl⟩ := Prod.mk.inj (Option.some.inj hf)
    exact wk_out C (by decide +kernel) rfl rfl
set_option maxHeartbeats 4000000 in
theorem wb_X4_signed_b25 {E : Ev} {K : Kx} (C : wk_C E K yX4_signed cX4_signed 2 (Option.some FieldType.int) 6 126 []) {r : Int32 ⊕ Nat} {σ' : Hs} (t0 : Int32) (σ : Hs) (hf : fn_X4_signed_b25 E.2.2.1 t0 σ = some (r, σ')) : wk_V E K (ot_I r) σ' σ 25 [] [vI t0] := by
  unfold fn_X4_signed_b25 at hf
  obtain ⟨rfl, rfl⟩ := Prod.mk.inj (Option.some.inj hf)
  exact wk_iret C rfl rfl dX4_signed_25
set_option maxHeartbeats 4000000 in
theorem mt_X4_signed {E : Ev} {l : Launch} (hl : l.stackTraces = false) {p0 : Option Nat} {p1 : Int32} {σ : Hs} {r : Int32 ⊕ Nat} {σ' : Hs} (hf : fn_X4_signed E.2.2.1 p0 p1 σ = some (r, σ')) : wk_M E l yX4_signed (ws_ yX4_signed cX4_signed 2 (Option.some FieldType.int)) 6 126 [vR p0, vI p1] σ (ot_I r) σ' := by
  refine wk_start (by decide +kernel) hl (Nat.le_of_ble_eq_true rfl) (fun K C hK => ?_)
  subst hK
  refine wk_L (L' := [(0, vR p0), (1, vI p1)]) rfl ?_
  unfold fn_X4_signed at hf
  refine wk_aload_n C 0 rfl dX4_signed_0 ?_
  refine wk_bipush (v := 45) C dX4_signed_1 rfl ?_
  obtain ⟨b1, h_b1, hf⟩ := ho_b hf
  obtain ⟨v3, σ2, h_σ2, hf⟩ := ho_e2 hf
  refine wk_callV (av := [vI (45 : Int32)]) (rest := []) (rv := some (vI v3)) C h_b1 rx_3 cx_X4_65 (mt_X4_takeSign (wk_C.tr C) h_σ2) rfl rfl (Nat.le_of_ble_eq_true rfl) (Nat.le_of_ble_eq_true rfl) (Nat.le_of_ble_eq_true rfl) dX4_signed_3 ?_
  refine wk_if_eq C 19 (by decide) dX4_signed_6 (fun c_ => ?_) (fun c_ => ?_)
  · rw [if_pos c_] at hf
    refine wk_aload_n C 0 rfl dX4_signed_19 ?_
    refine wk_iconst (v := 0) C dX4_signed_20 rfl ?_
    refine wk_iload_n C 1 rfl dX4_signed_21 ?_
    obtain ⟨b4, h_b4, hf⟩ := ho_b hf
    obtain ⟨v6, σ5, h_σ5, hf⟩ := ho_e2 hf
    rcases ho_xe hf with ⟨x7, rfl, hf⟩ | ⟨q8, rfl, hf⟩
    · refine wk_callV (av := [vI (0 : Int32), vI p1]) (rest := []) (rv := some (vI x7)) C h_b4 rx_3 cx_X4_91 (mt_X4_number (wk_C.tr C) h_σ5) rfl rfl (Nat.le_of_ble_eq_true rfl) (Nat.le_of_ble_eq_true rfl) (Nat.le_of_ble_eq_true rfl) dX4_signed_22 ?_
      refine wk_sub (L' := []) [] rfl ?_
      exact wb_X4_signed_b25 C  _ _ hf
    · refine wk_callVT (av := [vI (0 : Int32), vI p1]) (rest := []) C h_b4 rx_3 cx_X4_91 (mt_X4_number (wk_C.tr C) h_σ5) rfl (Nat.le_of_ble_eq_true rfl) (Nat.le_of_ble_eq_true rfl) (Nat.le_of_ble_eq_true rfl) dX4_signed_22 ?_
      obtain ⟨rfl, rfl⟩ := Prod.mk.inj (Option.some.inj hf)
      exact wk_out C (by decide +kernel) rfl rfl
  · rw [if_neg c_] at hf
    refine wk_aload_n C 0 rfl dX4_signed_9 ?_
    refine wk_iconst (v := 0) C dX4_signed_10 rfl ?_
    refine wk_iload_n C 1 rfl dX4_signed_11 ?_
    obtain ⟨b9, h_b9, hf⟩ := ho_b hf
    obtain ⟨v11, σ10, h_σ10, hf⟩ := ho_e2 hf
    rcases ho_xe hf with ⟨x12, rfl, hf⟩ | ⟨q13, rfl, hf⟩
    · refine wk_callV (av := [vI (0 : Int32), vI p1]) (rest := []) (rv := some (vI x12)) C h_b9 rx_3 cx_X4_91 (mt_X4_number (wk_C.tr C) h_σ10) rfl rfl (Nat.le_of_ble_eq_true rfl) (Nat.le_of_ble_eq_true rfl) (Nat.le_of_ble_eq_true rfl) dX4_signed_12 ?_
      refine wk_ineg C dX4_signed_15 ?_
      refine wk_goto C 25 (by decide) dX4_signed_16 ?_
      refine wk_sub (L' := []) [] rfl ?_
      exact wb_X4_signed_b25 C  _ _ hf
    · refine wk_callVT (av := [vI (0 : Int32), vI p1]) (rest := []) C h_b9 rx_3 cx_X4_91 (mt_X4_number (wk_C.tr C) h_σ10) rfl (Nat.le_of_ble_eq_true rfl) (Nat.le_of_ble_eq_true rfl) (Nat.le_of_ble_eq_true rfl) dX4_signed_12 ?_
      obtain ⟨rfl, rfl⟩ := Prod.mk.inj (Option.some.inj hf)
      exact wk_out C (by decide +kernel) rfl rfl
set_option maxHeartbeats 4000000 in
theorem wb_X4_node_b182 {E : Ev} {K : Kx} (C : wk_C E K yX4_node cX4_node 6 (Option.none : Option FieldType) 7 161 []) {r : Unit ⊕ Nat} {σ' : Hs} (t0 : Option Nat) (t1 : Option Nat) (σ : Hs) (hf : fn_X4_node_b182 E.2.2.1 t0 t1 σ = some (r, σ')) : wk_V E K (ot_V r) σ' σ 182 [] [vR t1, vR t0] := by
  unfold fn_X4_node_b182 at hf
  obtain ⟨b1, h_b1, hf⟩ := ho_b hf
  obtain ⟨v3, σ2, h_σ2, hf⟩ := ho_e2 hf
  refine wk_callF (av := [vR t1]) (rest := []) (rv := some (vI v3)) C h_b1 rx_13 cx_X4_203_13 (mt_J2_add (wk_C.tr C) h_σ2) rfl rfl (Nat.le_of_ble_eq_true rfl) (Nat.le_of_ble_eq_true rfl) (Nat.le_of_ble_eq_true rfl) dX4_node_182 ?_
  refine wk_pop C rfl dX4_node_187 ?_
  obtain ⟨rfl, rfl⟩ := Prod.mk.inj (Option.some.inj hf)
  exact wk_vret C rfl rfl dX4_node_188
set_option maxHeartbeats 4000000 in
theorem wb_X4_node_b157 {E : Ev} {K : Kx} (C : wk_C E K yX4_node cX4_node 6 (Option.none : Option FieldType) 7 161 []) {r : Unit ⊕ Nat} {σ' : Hs} (l2 : Int32) (l3 : Int32) (l4 : Int32) (l5 : Int32) (t0 : Option Nat) (σ : Hs) (hf : fn_X4_node_b157 E.2.2.1 l2 l3 l4 l5 t0 σ = some (r, σ')) : wk_V E K (ot_V r) σ' σ 157 [(2, vI l2), (3, vI l3), (4, vI l4), (5, vI l5)] [vR t0] := by
  unfold fn_X4_node_b157 at hf
  obtain ⟨v4, σ5, h_σ5, hf⟩ := ho_e2 hf
  refine wk_new C nx_X4_187 h_σ5 dX4_node_157 ?_
  refine wk_dup C rfl dX4_node_160 ?_
  refine wk_iload_n C 0 rfl dX4_node_161 ?_
  refine wk_iload_n C 1 rfl dX4_node_162 ?_
  refine wk_iload C 2 rfl dX4_node_163 ?_
  refine wk_iload C 3 rfl dX4_node_165 ?_
  obtain ⟨b6, h_b6, hf⟩ := ho_b hf
  obtain ⟨σ7, h_σ7, hf⟩ := ho_b hf
  refine wk_callI (av := [vI l2, vI l3, vI l4, vI l5]) (rest := [vR v4, vR t0]) C cx_X4_199 h_b6 (mt_X6_init (wk_C.tr C) h_σ7) rfl (Nat.le_of_ble_eq_true rfl) (Nat.le_of_ble_eq_true rfl) (Nat.le_of_ble_eq_true rfl) dX4_node_167 ?_
  refine wk_goto C 182 (by decide) dX4_node_170 ?_
  refine wk_sub (L' := []) [] rfl ?_
  exact wb_X4_node_b182 C  _ _ _ hf
set_option maxHeartbeats 4000000 in
theorem wb_X4_node_b138 {E : Ev} {K : Kx} (C : wk_C E K yX4_node cX4_node 6 (Option.none : Option FieldType) 7 161 []) {r : Unit ⊕ Nat} {σ' : Hs} (l0 : Option Nat) (l2 : Int32) (l3 : Int32) (l4 : Int32) (t0 : Int32) (σ : Hs) (hf : fn_X4_node_b138 E.2.2.1 l0 l2 l3 l4 t0 σ = some (r, σ')) : wk_V E K (ot_V r) σ' σ 138 [(0, vR l0), (2, vI l2), (3, vI l3), (4, vI l4)] [vI t0] := by
  unfold fn_X4_node_b138 at hf
  refine wk_istore (L' := [(0, vR l0), (2, vI l2), (3, vI l3), (4, vI l4), (5, vI t0)]) C (by decide) rfl dX4_node_138 ?_
  refine wk_aload_n C 0 rfl dX4_node_140 ?_
  obtain ⟨v8, h_v8, hf⟩ := ho_b hf
  refine wk_getR C fx_X4_18 h_v8 dX4_node_141 ?_
  obtain ⟨v9, h_v9, hf⟩ := ho_b hf
  refine wk_getR C fx_X4_160 h_v9 dX4_node_144 ?_
  refine wk_iload C 3 rfl dX4_node_147 ?_
  refine wk_if_ne C 157 (by decide) dX4_node_149 (fun c_ => ?_) (fun c_ => ?_)
  · rw [if_neg c_] at hf
    refine wk_sub (L' := [(2, vI l2), (3, vI l3), (4, vI l4), (5, vI t0)]) [1, 2, 3, 4] rfl ?_
    exact wb_X4_node_b157 C  _ _ _ _ _ _ hf
  · rw [if_pos c_] at hf
    refine wk_iload C 4 rfl dX4_node_152 ?_
    refine wk_if_eq C 173 (by decide) dX4_node_154 (fun c_ => ?_) (fun c_ => ?_)
    · rw [if_pos c_] at hf
      obtain ⟨v10, σ11, h_σ11, hf⟩ := ho_e2 hf
      refine wk_new C nx_X4_187 h_σ11 dX4_node_173 ?_
      refine wk_dup C rfl dX4_node_176 ?_
      refine wk_iload_n C 1 rfl dX4_node_177 ?_
      refine wk_iload_n C 2 rfl dX4_node_178 ?_
      obtain ⟨b12, h_b12, hf⟩ := ho_b hf
      obtain ⟨σ13, h_σ13, hf⟩ := ho_b hf
      refine wk_callI (av := [vI l2, vI l3]) (rest := [vR v10, vR v9]) C cx_X4_202 h_b12 (mt_X6_init_2 (wk_C.tr C) h_σ13) rfl (Nat.le_of_ble_eq_true rfl) (Nat.le_of_ble_eq_true rfl) (Nat.le_of_ble_eq_true rfl) dX4_node_179 ?_
      refine wk_sub (L' := []) [] rfl ?_
      exact wb_X4_node_b182 C  _ _ _ hf
    · rw [if_neg c_] at hf
      refine wk_sub (L' := [(2, vI l2), (3, vI l3), (4, vI l4), (5, vI t0)]) [1, 2, 3, 4] rfl ?_
      exact wb_X4_node_b157 C  _ _ _ _ _ _ hf
set_option maxHeartbeats 4000000 in
theorem wb_X4_node_b137 {E : Ev} {K : Kx} (C : wk_C E K yX4_node cX4_node 6 (Option.none : Option FieldType) 7 161 []) {r : Unit ⊕ Nat} {σ' : Hs} (l0 : Option Nat) (l2 : Int32) (l3 : Int32) (l4 : Int32) (σ : Hs) (hf : fn_X4_node_b137 E.2.2.1 l0 l2 l3 l4 σ = some (r, σ')) : wk_V E K (ot_V r) σ' σ 137 [(0, vR l0), (2, vI l2), (3, vI l3), (4, vI l4)] [] := by
  unfold fn_X4_node_b137 at hf
  refine wk_iconst (v := 0) C dX4_node_137 rfl ?_
  exact wb_X4_node_b138 C  _ _ _ _ _ _ hf
set_option maxHeartbeats 4000000 in
theorem wb_X4_node_b111 {E : Ev} {K : Kx} (C : wk_C E K yX4_node cX4_node 6 (Option.none : Option FieldType) 7 161 []) {r : Unit ⊕ Nat} {σ' : Hs} (l0 : Option Nat) (l2 : Int32) (l3 : Int32) (σ : Hs) (hf : fn_X4_node_b111 E.2.2.1 l0 l2 l3 σ = some (r, σ')) : wk_V E K (ot_V r) σ' σ 111 [(0, vR l0), (2, vI l2), (3, vI l3)] [] := by
  unfold fn_X4_node_b111 at hf
  refine wk_aload_n C 0 rfl dX4_node_111 ?_
  refine wk_ldcS (q := ("ElasticTruss$SetupReader", 195, "fixed", 5)) C (by decide +kernel) rfl rfl dX4_node_112 ?_
  obtain ⟨b14, h_b14, hf⟩ := ho_b hf
  obtain ⟨v16, σ15, h_σ15, hf⟩ := ho_e2 hf
  refine wk_callV (av := [vR (E.2.2.1 105)]) (rest := []) (rv := some (vI v16)) C h_b14 rx_3 cx_X4_96 (mt_X4_takeWord (wk_C.tr C) h_σ15) rfl rfl (Nat.le_of_ble_eq_true rfl) (Nat.le_of_ble_eq_true rfl) (Nat.le_of_ble_eq_true rfl) dX4_node_114 ?_
  refine wk_istore (L' := [(0, vR l0), (2, vI l2), (3, vI l3), (4, vI v16)]) C (by decide) rfl dX4_node_117 ?_
  refine wk_iload C 3 rfl dX4_node_119 ?_
  refine wk_if_ne C 137 (by decide) dX4_node_121 (fun c_ => ?_) (fun c_ => ?_)
  · rw [if_neg c_] at hf
    exact wb_X4_node_b137 C  _ _ _ _ _ hf
  · rw [if_pos c_] at hf
    refine wk_aload_n C 0 rfl dX4_node_124 ?_
    refine wk_ldcS (q := ("ElasticTruss$SetupReader", 197, "roller", 6)) C (by decide +kernel) rfl rfl dX4_node_125 ?_
    obtain ⟨b17, h_b17, hf⟩ := ho_b hf
    obtain ⟨v19, σ18, h_σ18, hf⟩ := ho_e2 hf
    refine wk_callV (av := [vR (E.2.2.1 106)]) (rest := []) (rv := some (vI v19)) C h_b17 rx_3 cx_X4_96 (mt_X4_takeWord (wk_C.tr C) h_σ18) rfl rfl (Nat.le_of_ble_eq_true rfl) (Nat.le_of_ble_eq_true rfl) (Nat.le_of_ble_eq_true rfl) dX4_node_127 ?_
    refine wk_if_eq C 137 (by decide) dX4_node_130 (fun c_ => ?_) (fun c_ => ?_)
    · rw [if_pos c_] at hf
      exact wb_X4_node_b137 C  _ _ _ _ _ hf
    · rw [if_neg c_] at hf
      refine wk_iconst (v := 1) C dX4_node_133 rfl ?_
      refine wk_goto C 138 (by decide) dX4_node_134 ?_
      exact wb_X4_node_b138 C  _ _ _ _ _ _ hf
set_option maxHeartbeats 4000000 in
theorem wb_X4_node_b105 {E : Ev} {K : Kx} (C : wk_C E K yX4_node cX4_node 6 (Option.none : Option FieldType) 7 161 []) {k59 : Option Nat → Int32 → Int32 → Option Nat → Hs → Option ((Unit ⊕ Nat) × Hs)} {r : Unit ⊕ Nat} {σ' : Hs} (hk59 : ∀ (l0 : Option Nat) (l2 : Int32) (l3 : Int32) (l4 : Option Nat) (σ : Hs), k59 l0 l2 l3 l4 σ = some (r, σ') → wk_V E K (ot_V r) σ' σ 59 [(0, vR l0), (2, vI l2), (3, vI l3), (4, vR l4)] []) (l0 : Option Nat) (l2 : Int32) (l3 : Int32) (l4 : Option Nat) (t0 : Option Nat) (t1 : Int32) (σ : Hs) (hf : fn_X4_node_b105 E.2.2.1 k59 l0 l2 l3 l4 t0 t1 σ = some (r, σ')) : wk_V E K (ot_V r) σ' σ 105 [(0, vR l0), (2, vI l2), (3, vI l3), (4, vR l4)] [vI t1, vR t0] := by
  unfold fn_X4_node_b105 at hf
  obtain ⟨b20, h_b20, hf⟩ := ho_b hf
  obtain ⟨v22, σ21, h_σ21, hf⟩ := ho_e2 hf
  rcases ho_xe hf with ⟨x23, rfl, hf⟩ | ⟨q24, rfl, hf⟩
  · refine wk_callV (av := [vI t1]) (rest := []) (rv := none) C h_b20 rx_3 cx_X4_87 (mt_X4_need (wk_C.tr C) h_σ21) rfl rfl (Nat.le_of_ble_eq_true rfl) (Nat.le_of_ble_eq_true rfl) (Nat.le_of_ble_eq_true rfl) dX4_node_105 ?_
    refine wk_goto C 59 (by decide) dX4_node_108 ?_
    exact hk59 _ _ _ _ _ hf
  · refine wk_callVT (av := [vI t1]) (rest := []) C h_b20 rx_3 cx_X4_87 (mt_X4_need (wk_C.tr C) h_σ21) rfl (Nat.le_of_ble_eq_true rfl) (Nat.le_of_ble_eq_true rfl) (Nat.le_of_ble_eq_true rfl) dX4_node_105 ?_
    obtain ⟨rfl, rfl⟩ := Prod.mk.inj (Option.some.inj hf)
    exact wk_out C (by decide +kernel) rfl rfl
set_option maxHeartbeats 4000000 in
theorem wb_X4_node_b100 {E : Ev} {K : Kx} (C : wk_C E K yX4_node cX4_node 6 (Option.none : Option FieldType) 7 161 []) {k59 : Option Nat → Int32 → Int32 → Option Nat → Hs → Option ((Unit ⊕ Nat) × Hs)} {r : Unit ⊕ Nat} {σ' : Hs} (hk59 : ∀ (l0 : Option Nat) (l2 : Int32) (l3 : Int32) (l4 : Option Nat) (σ : Hs), k59 l0 l2 l3 l4 σ = some (r, σ') → wk_V E K (ot_V r) σ' σ 59 [(0, vR l0), (2, vI l2), (3, vI l3), (4, vR l4)] []) (l0 : Option Nat) (l2 : Int32) (l3 : Int32) (l4 : Option Nat) (t0 : Option Nat) (σ : Hs) (hf : fn_X4_node_b100 E.2.2.1 k59 l0 l2 l3 l4 t0 σ = some (r, σ')) : wk_V E K (ot_V r) σ' σ 100 [(0, vR l0), (2, vI l2), (3, vI l3), (4, vR l4)] [vR t0] := by
  unfold fn_X4_node_b100 at hf
  refine wk_iconst (v := 1) C dX4_node_100 rfl ?_
  refine wk_goto C 105 (by decide) dX4_node_101 ?_
  exact wb_X4_node_b105 C hk59 _ _ _ _ _ _ _ hf
set_option maxHeartbeats 4000000 in
theorem wb_X4_node_b59 {E : Ev} {K : Kx} (C : wk_C E K yX4_node cX4_node 6 (Option.none : Option FieldType) 7 161 []) {r : Unit ⊕ Nat} {σ' : Hs} : ∀ (n : Nat) (l0 : Option Nat) (l2 : Int32) (l3 : Int32) (l4 : Option Nat) (σ : Hs), fn_X4_node_b59 E.2.2.1 n l0 l2 l3 l4 σ = some (r, σ') → wk_V E K (ot_V r) σ' σ 59 [(0, vR l0), (2, vI l2), (3, vI l3), (4, vR l4)] [] := by
  intro n
  induction n with
  | zero =>
    intro l0 l2 l3 l4 σ hf
    rw [fn_X4_node_b59] at hf
    cases hf
  | succ n ih =>
    intro l0 l2 l3 l4 σ hf
    rw [fn_X4_node_b59] at hf
    refine wk_aload C 3 rfl dX4_node_59 ?_
    obtain ⟨b25, h_b25, hf⟩ := ho_b hf
    obtain ⟨v27, σ26, h_σ26, hf⟩ := ho_e2 hf
    refine wk_callF (av := []) (rest := []) (rv := some (vI v27)) C h_b25 rx_14 cx_X4_177_14 (mt_J21_hasNext (wk_C.tr C) h_σ26) rfl rfl (Nat.le_of_ble_eq_true rfl) (Nat.le_of_ble_eq_true rfl) (Nat.le_of_ble_eq_true rfl) dX4_node_61 ?_
    refine wk_if_eq C 111 (by decide) dX4_node_66 (fun c_ => ?_) (fun c_ => ?_)
    · rw [if_pos c_] at hf
      refine wk_sub (L' := [(0, vR l0), (2, vI l2), (3, vI l3)]) [0, 1, 2] rfl ?_
      exact wb_X4_node_b111 C  _ _ _ _ hf
    · rw [if_neg c_] at hf
      refine wk_aload C 3 rfl dX4_node_69 ?_
      obtain ⟨b28, h_b28, hf⟩ := ho_b hf
      obtain ⟨v30, σ29, h_σ29, hf⟩ := ho_e2 hf
      refine wk_callF (av := []) (rest := []) (rv := some (vR v30)) C h_b28 rx_14 cx_X4_183_14 (mt_J21_next (wk_C.tr C) h_σ29) rfl rfl (Nat.le_of_ble_eq_true rfl) (Nat.le_of_ble_eq_true rfl) (Nat.le_of_ble_eq_true rfl) dX4_node_71 ?_
      obtain ⟨u31, h_u31, hf⟩ := ho_b hf
      refine wk_cast C q2823 (List.forall_mem_cons.mpr ⟨ax_same rx_5 (Nat.le_of_ble_eq_true rfl), (List.forall_mem_nil _)⟩) h_u31 dX4_node_76 ?_
      refine wk_astore (L' := [(0, vR l0), (2, vI l2), (3, vI l3), (4, vR l4), (5, vR v30)]) C (by decide) rfl dX4_node_79 ?_
      refine wk_aload_n C 0 rfl dX4_node_81 ?_
      refine wk_aload C 4 rfl dX4_node_82 ?_
      obtain ⟨v32, h_v32, hf⟩ := ho_b hf
      refine wk_getI C fx_X4_189 h_v32 dX4_node_84 ?_
      refine wk_iload_n C 1 rfl dX4_node_87 ?_
      refine wk_icmp_ne C 100 (by decide) dX4_node_88 (fun c_ => ?_) (fun c_ => ?_)
      · rw [if_neg c_] at hf
        refine wk_sub (L' := [(0, vR l0), (2, vI l2), (3, vI l3), (4, vR l4)]) [0, 1, 2, 3] rfl ?_
        exact wb_X4_node_b100 C ih _ _ _ _ _ _ hf
      · rw [if_pos c_] at hf
        refine wk_aload C 4 rfl dX4_node_91 ?_
        obtain ⟨v33, h_v33, hf⟩ := ho_b hf
        refine wk_getI C fx_X4_192 h_v33 dX4_node_93 ?_
        refine wk_iload_n C 2 rfl dX4_node_96 ?_
        refine wk_icmp_eq C 104 (by decide) dX4_node_97 (fun c_ => ?_) (fun c_ => ?_)
        · rw [if_pos c_] at hf
          refine wk_iconst (v := 0) C dX4_node_104 rfl ?_
          refine wk_sub (L' := [(0, vR l0), (2, vI l2), (3, vI l3), (4, vR l4)]) [0, 1, 2, 3] rfl ?_
          exact wb_X4_node_b105 C ih _ _ _ _ _ _ _ hf
        · rw [if_neg c_] at hf
          refine wk_sub (L' := [(0, vR l0), (2, vI l2), (3, vI l3), (4, vR l4)]) [0, 1, 2, 3] rfl ?_
          exact wb_X4_node_b100 C ih _ _ _ _ _ _ hf
set_option maxHeartbeats 4000000 in
theorem wb_X4_node_b23 {E : Ev} {K : Kx} (C : wk_C E K yX4_node cX4_node 6 (Option.none : Option FieldType) 7 161 []) {r : Unit ⊕ Nat} {σ' : Hs} (l0 : Option Nat) (l1 : Int32) (t0 : Option Nat) (t1 : Int32) (σ : Hs) (hf : fn_X4_node_b23 E.2.2.1 l0 l1 t0 t1 σ = some (r, σ')) : wk_V E K (ot_V r) σ' σ 23 [(0, vR l0), (1, vI l1)] [vI t1, vR t0] := by
  unfold fn_X4_node_b23 at hf
  refine wk_iload_n C 1 rfl dX4_node_23 ?_
  obtain ⟨b34, h_b34, hf⟩ := ho_b hf
  obtain ⟨v36, σ35, h_σ35, hf⟩ := ho_e2 hf
  rcases ho_xe hf with ⟨x37, rfl, hf⟩ | ⟨q38, rfl, hf⟩
  · refine wk_callV (av := [vI t1, vI l1]) (rest := []) (rv := none) C h_b34 rx_3 cx_X4_169 (mt_X4_needRoom (wk_C.tr C) h_σ35) rfl rfl (Nat.le_of_ble_eq_true rfl) (Nat.le_of_ble_eq_true rfl) (Nat.le_of_ble_eq_true rfl) dX4_node_24 ?_
    refine wk_aload_n C 0 rfl dX4_node_27 ?_
    refine wk_iconst (v := 0) C dX4_node_28 rfl ?_
    refine wk_sipush (v := 999) C dX4_node_29 rfl ?_
    obtain ⟨b39, h_b39, hf⟩ := ho_b hf
    obtain ⟨v41, σ40, h_σ40, hf⟩ := ho_e2 hf
    rcases ho_xe hf with ⟨x42, rfl, hf⟩ | ⟨q43, rfl, hf⟩
    · refine wk_callV (av := [vI (0 : Int32), vI (999 : Int32)]) (rest := []) (rv := some (vI x42)) C h_b39 rx_3 cx_X4_91 (mt_X4_number (wk_C.tr C) h_σ40) rfl rfl (Nat.le_of_ble_eq_true rfl) (Nat.le_of_ble_eq_true rfl) (Nat.le_of_ble_eq_true rfl) dX4_node_32 ?_
      refine wk_istore_n (L' := [(0, vR l0), (1, vI l1), (2, vI x42)]) C (by decide) rfl dX4_node_35 ?_
      refine wk_aload_n C 0 rfl dX4_node_36 ?_
      refine wk_iconst (v := 0) C dX4_node_37 rfl ?_
      refine wk_sipush (v := 999) C dX4_node_38 rfl ?_
      obtain ⟨b44, h_b44, hf⟩ := ho_b hf
      obtain ⟨v46, σ45, h_σ45, hf⟩ := ho_e2 hf
      rcases ho_xe hf with ⟨x47, rfl, hf⟩ | ⟨q48, rfl, hf⟩
      · refine wk_callV (av := [vI (0 : Int32), vI (999 : Int32)]) (rest := []) (rv := some (vI x47)) C h_b44 rx_3 cx_X4_91 (mt_X4_number (wk_C.tr C) h_σ45) rfl rfl (Nat.le_of_ble_eq_true rfl) (Nat.le_of_ble_eq_true rfl) (Nat.le_of_ble_eq_true rfl) dX4_node_41 ?_
        refine wk_istore_n (L' := [(0, vR l0), (1, vI l1), (2, vI x42), (3, vI x47)]) C (by decide) rfl dX4_node_44 ?_
        refine wk_aload_n C 0 rfl dX4_node_45 ?_
        obtain ⟨v49, h_v49, hf⟩ := ho_b hf
        refine wk_getR C fx_X4_18 h_v49 dX4_node_46 ?_
        obtain ⟨v50, h_v50, hf⟩ := ho_b hf
        refine wk_getR C fx_X4_160 h_v50 dX4_node_49 ?_
        obtain ⟨b51, h_b51, hf⟩ := ho_b hf
        obtain ⟨v53, σ52, h_σ52, hf⟩ := ho_e2 hf
        refine wk_callF (av := []) (rest := []) (rv := some (vR v53)) C h_b51 rx_13 cx_X4_173_13 (mt_J2_iterator (wk_C.tr C) h_σ52) rfl rfl (Nat.le_of_ble_eq_true rfl) (Nat.le_of_ble_eq_true rfl) (Nat.le_of_ble_eq_true rfl) dX4_node_52 ?_
        refine wk_astore (L' := [(0, vR l0), (1, vI l1), (2, vI x42), (3, vI x47), (4, vR v53)]) C (by decide) rfl dX4_node_57 ?_
        refine wk_sub (L' := [(0, vR l0), (2, vI x42), (3, vI x47), (4, vR v53)]) [0, 2, 3, 4] rfl ?_
        exact wb_X4_node_b59 C  _ _ _ _ _ _ hf
      · refine wk_callVT (av := [vI (0 : Int32), vI (999 : Int32)]) (rest := []) C h_b44 rx_3 cx_X4_91 (mt_X4_number (wk_C.tr C) h_σ45) rfl (Nat.le_of_ble_eq_true rfl) (Nat.le_of_ble_eq_true rfl) (Nat.le_of_ble_eq_true rfl) dX4_node_41 ?_
        obtain ⟨rfl, rfl⟩ := Prod.mk.inj (Option.some.inj hf)
        exact wk_out C (by decide +kernel) rfl rfl
    · refine wk_callVT (av := [vI (0 : Int32), vI (999 : Int32)]) (rest := []) C h_b39 rx_3 cx_X4_91 (mt_X4_number (wk_C.tr C) h_σ40) rfl (Nat.le_of_ble_eq_true rfl) (Nat.le_of_ble_eq_true rfl) (Nat.le_of_ble_eq_true rfl) dX4_node_32 ?_
      obtain ⟨rfl, rfl⟩ := Prod.mk.inj (Option.some.inj hf)
      exact wk_out C (by decide +kernel) rfl rfl
  · refine wk_callVT (av := [vI t1, vI l1]) (rest := []) C h_b34 rx_3 cx_X4_169 (mt_X4_needRoom (wk_C.tr C) h_σ35) rfl (Nat.le_of_ble_eq_true rfl) (Nat.le_of_ble_eq_true rfl) (Nat.le_of_ble_eq_true rfl) dX4_node_24 ?_
    obtain ⟨rfl, rfl⟩ := Prod.mk.inj (Option.some.inj hf)
    exact wk_out C (by decide +kernel) rfl rfl
set_option maxHeartbeats 4000000 in
theorem mt_X4_node {E : Ev} {l : Launch} (hl : l.stackTraces = false) {p0 : Option Nat} {p1 : Int32} {σ : Hs} {r : Unit ⊕ Nat} {σ' : Hs} (hf : fn_X4_node E.2.2.1 p0 p1 σ = some (r, σ')) : wk_M E l yX4_node (ws_ yX4_node cX4_node 6 (Option.none : Option FieldType)) 7 161 [vR p0, vI p1] σ (ot_V r) σ' := by
  refine wk_start (by decide +kernel) hl (Nat.le_of_ble_eq_true rfl) (fun K C hK => ?_)
  subst hK
  refine wk_L (L' := [(0, vR p0), (1, vI p1)]) rfl ?_
  unfold fn_X4_node at hf
  refine wk_aload_n C 0 rfl dX4_node_0 ?_
  refine wk_aload_n C 0 rfl dX4_node_1 ?_
  obtain ⟨v54, h_v54, hf⟩ := ho_b hf
  refine wk_getR C fx_X4_18 h_v54 dX4_node_2 ?_
  obtain ⟨v55, h_v55, hf⟩ := ho_b hf
  refine wk_getR C fx_X4_160 h_v55 dX4_node_5 ?_
  obtain ⟨b56, h_b56, hf⟩ := ho_b hf
  obtain ⟨v58, σ57, h_σ57, hf⟩ := ho_e2 hf
  refine wk_callF (av := []) (rest := [vR p0]) (rv := some (vI v58)) C h_b56 rx_13 cx_X4_164_13 (mt_J2_size (wk_C.tr C) h_σ57) rfl rfl (Nat.le_of_ble_eq_true rfl) (Nat.le_of_ble_eq_true rfl) (Nat.le_of_ble_eq_true rfl) dX4_node_8 ?_
  refine wk_bipush (v := 8) C dX4_node_13 rfl ?_
  refine wk_icmp_ge C 22 (by decide) dX4_node_15 (fun c_ => ?_) (fun c_ => ?_)
  · rw [if_pos c_] at hf
    refine wk_iconst (v := 0) C dX4_node_22 rfl ?_
    exact wb_X4_node_b23 C  _ _ _ _ _ hf
  · rw [if_neg c_] at hf
    refine wk_iconst (v := 1) C dX4_node_18 rfl ?_
    refine wk_goto C 23 (by decide) dX4_node_19 ?_
    exact wb_X4_node_b23 C  _ _ _ _ _ hf
set_option maxHeartbeats 4000000 in
theorem wb_X4_readMember_b60 {E : Ev} {K : Kx} (C : wk_C E K yX4_readMember cX4_readMember 4 (Option.none : Option FieldType) 7 164 []) {r : Unit ⊕ Nat} {σ' : Hs} (l0 : Option Nat) (l2 : Int32) (l3 : Int32) (t0 : Option Nat) (t1 : Int32) (σ : Hs) (hf : fn_X4_readMember_b60 E.2.2.1 l0 l2 l3 t0 t1 σ = some (r, σ')) : wk_V E K (ot_V r) σ' σ 60 [(0, vR l0), (2, vI l2), (3, vI l3)] [vI t1, vR t0] := by
  unfold fn_X4_readMember_b60 at hf
  obtain ⟨b1, h_b1, hf⟩ := ho_b hf
  obtain ⟨v3, σ2, h_σ2, hf⟩ := ho_e2 hf
  rcases ho_xe hf with ⟨x4, rfl, hf⟩ | ⟨q5, rfl, hf⟩
  · refine wk_callV (av := [vI t1]) (rest := []) (rv := none) C h_b1 rx_3 cx_X4_87 (mt_X4_need (wk_C.tr C) h_σ2) rfl rfl (Nat.le_of_ble_eq_true rfl) (Nat.le_of_ble_eq_true rfl) (Nat.le_of_ble_eq_true rfl) dX4_readMember_60 ?_
    refine wk_aload_n C 0 rfl dX4_readMember_63 ?_
    obtain ⟨v6, h_v6, hf⟩ := ho_b hf
    refine wk_getR C fx_X4_18 h_v6 dX4_readMember_64 ?_
    refine wk_iload_n C 1 rfl dX4_readMember_67 ?_
    refine wk_iload_n C 2 rfl dX4_readMember_68 ?_
    refine wk_aload_n C 0 rfl dX4_readMember_69 ?_
    refine wk_iconst (v := 0) C dX4_readMember_70 rfl ?_
    refine wk_aload_n C 0 rfl dX4_readMember_71 ?_
    obtain ⟨v7, h_v7, hf⟩ := ho_b hf
    refine wk_getR C fx_X4_18 h_v7 dX4_readMember_72 ?_
    obtain ⟨v8, h_v8, hf⟩ := ho_b hf
    refine wk_getI C fx_X4_220 h_v8 dX4_readMember_75 ?_
    refine wk_iconst (v := 1) C dX4_readMember_78 rfl ?_
    refine wk_isub C dX4_readMember_79 ?_
    obtain ⟨b9, h_b9, hf⟩ := ho_b hf
    obtain ⟨v11, σ10, h_σ10, hf⟩ := ho_e2 hf
    rcases ho_xe hf with ⟨x12, rfl, hf⟩ | ⟨q13, rfl, hf⟩
    · refine wk_callV (av := [vI (0 : Int32), vI (v8 - (1 : Int32))]) (rest := [vI l3, vI l2, vR v6]) (rv := some (vI x12)) C h_b9 rx_3 cx_X4_91 (mt_X4_number (wk_C.tr C) h_σ10) rfl rfl (Nat.le_of_ble_eq_true rfl) (Nat.le_of_ble_eq_true rfl) (Nat.le_of_ble_eq_true rfl) dX4_readMember_80 ?_
      obtain ⟨b14, h_b14, hf⟩ := ho_b hf
      obtain ⟨σ15, h_σ15, hf⟩ := ho_b hf
      refine wk_callV (av := [vI l2, vI l3, vI x12]) (rest := []) (rv := none) C h_b14 rx_1 cx_X4_223 (mt_X2_join (wk_C.tr C) h_σ15) rfl rfl (Nat.le_of_ble_eq_true rfl) (Nat.le_of_ble_eq_true rfl) (Nat.le_of_ble_eq_true rfl) dX4_readMember_83 ?_
      obtain ⟨rfl, rfl⟩ := Prod.mk.inj (Option.some.inj hf)
      exact wk_vret C rfl rfl dX4_readMember_86
    · refine wk_callVT (av := [vI (0 : Int32), vI (v8 - (1 : Int32))]) (rest := [vI l3, vI l2, vR v6]) C h_b9 rx_3 cx_X4_91 (mt_X4_number (wk_C.tr C) h_σ10) rfl (Nat.le_of_ble_eq_true rfl) (Nat.le_of_ble_eq_true rfl) (Nat.le_of_ble_eq_true rfl) dX4_readMember_80 ?_
      obtain ⟨rfl, rfl⟩ := Prod.mk.inj (Option.some.inj hf)
      exact wk_out C (by decide +kernel) rfl rfl
  · refine wk_callVT (av := [vI t1]) (rest := []) C h_b1 rx_3 cx_X4_87 (mt_X4_need (wk_C.tr C) h_σ2) rfl (Nat.le_of_ble_eq_true rfl) (Nat.le_of_ble_eq_true rfl) (Nat.le_of_ble_eq_true rfl) dX4_readMember_60 ?_
    obtain ⟨rfl, rfl⟩ := Prod.mk.inj (Option.some.inj hf)
    exact wk_out C (by decide +kernel) rfl rfl
set_option maxHeartbeats 4000000 in
theorem wb_X4_readMember_b59 {E : Ev} {K : Kx} (C : wk_C E K yX4_readMember cX4_readMember 4 (Option.none : Option FieldType) 7 164 []) {r : Unit ⊕ Nat} {σ' : Hs} (l0 : Option Nat) (l2 : Int32) (l3 : Int32) (t0 : Option Nat) (σ : Hs) (hf : fn_X4_readMember_b59 E.2.2.1 l0 l2 l3 t0 σ = some (r, σ')) : wk_V E K (ot_V r) σ' σ 59 [(0, vR l0), (2, vI l2), (3, vI l3)] [vR t0] := by
  unfold fn_X4_readMember_b59 at hf
  refine wk_iconst (v := 0) C dX4_readMember_59 rfl ?_
  exact wb_X4_readMember_b60 C  _ _ _ _ _ _ hf
set_option maxHeartbeats 4000000 in
theorem wb_X4_readMember_b23 {E : Ev} {K : Kx} (C : wk_C E K yX4_readMember cX4_readMember 4 (Option.none : Option FieldType) 7 164 []) {r : Unit ⊕ Nat} {σ' : Hs} (l0 : Option Nat) (l1 : Int32) (t0 : Option Nat) (t1 : Int32) (σ : Hs) (hf : fn_X4_readMember_b23 E.2.2.1 l0 l1 t0 t1 σ = some (r, σ')) : wk_V E K (ot_V r) σ' σ 23 [(0, vR l0), (1, vI l1)] [vI t1, vR t0] := by
  unfold fn_X4_readMember_b23 at hf
  refine wk_iload_n C 1 rfl dX4_readMember_23 ?_
  obtain ⟨b16, h_b16, hf⟩ := ho_b hf
  obtain ⟨v18, σ17, h_σ17, hf⟩ := ho_e2 hf
  rcases ho_xe hf with ⟨x19, rfl, hf⟩ | ⟨q20, rfl, hf⟩
  · refine wk_callV (av := [vI t1, vI l1]) (rest := []) (rv := none) C h_b16 rx_3 cx_X4_169 (mt_X4_needRoom (wk_C.tr C) h_σ17) rfl rfl (Nat.le_of_ble_eq_true rfl) (Nat.le_of_ble_eq_true rfl) (Nat.le_of_ble_eq_true rfl) dX4_readMember_24 ?_
    refine wk_aload_n C 0 rfl dX4_readMember_27 ?_
    obtain ⟨b21, h_b21, hf⟩ := ho_b hf
    obtain ⟨v23, σ22, h_σ22, hf⟩ := ho_e2 hf
    rcases ho_xe hf with ⟨x24, rfl, hf⟩ | ⟨q25, rfl, hf⟩
    · refine wk_callV (av := []) (rest := []) (rv := some (vI x24)) C h_b21 rx_3 cx_X4_213 (mt_X4_nodeIndex (wk_C.tr C) h_σ22) rfl rfl (Nat.le_of_ble_eq_true rfl) (Nat.le_of_ble_eq_true rfl) (Nat.le_of_ble_eq_true rfl) dX4_readMember_28 ?_
      refine wk_istore_n (L' := [(0, vR l0), (1, vI l1), (2, vI x24)]) C (by decide) rfl dX4_readMember_31 ?_
      refine wk_aload_n C 0 rfl dX4_readMember_32 ?_
      obtain ⟨b26, h_b26, hf⟩ := ho_b hf
      obtain ⟨v28, σ27, h_σ27, hf⟩ := ho_e2 hf
      rcases ho_xe hf with ⟨x29, rfl, hf⟩ | ⟨q30, rfl, hf⟩
      · refine wk_callV (av := []) (rest := []) (rv := some (vI x29)) C h_b26 rx_3 cx_X4_213 (mt_X4_nodeIndex (wk_C.tr C) h_σ27) rfl rfl (Nat.le_of_ble_eq_true rfl) (Nat.le_of_ble_eq_true rfl) (Nat.le_of_ble_eq_true rfl) dX4_readMember_33 ?_
        refine wk_istore_n (L' := [(0, vR l0), (1, vI l1), (2, vI x24), (3, vI x29)]) C (by decide) rfl dX4_readMember_36 ?_
        refine wk_aload_n C 0 rfl dX4_readMember_37 ?_
        refine wk_iload_n C 2 rfl dX4_readMember_38 ?_
        refine wk_iload_n C 3 rfl dX4_readMember_39 ?_
        refine wk_icmp_eq C 59 (by decide) dX4_readMember_40 (fun c_ => ?_) (fun c_ => ?_)
        · rw [if_pos c_] at hf
          refine wk_sub (L' := [(0, vR l0), (2, vI x24), (3, vI x29)]) [0, 2, 3] rfl ?_
          exact wb_X4_readMember_b59 C  _ _ _ _ _ hf
        · rw [if_neg c_] at hf
          refine wk_aload_n C 0 rfl dX4_readMember_43 ?_
          obtain ⟨v31, h_v31, hf⟩ := ho_b hf
          refine wk_getR C fx_X4_18 h_v31 dX4_readMember_44 ?_
          refine wk_iload_n C 2 rfl dX4_readMember_47 ?_
          refine wk_iload_n C 3 rfl dX4_readMember_48 ?_
          obtain ⟨b32, h_b32, hf⟩ := ho_b hf
          obtain ⟨v34, σ33, h_σ33, hf⟩ := ho_e2 hf
          refine wk_callV (av := [vI x24, vI x29]) (rest := [vR l0]) (rv := some (vI v34)) C h_b32 rx_1 cx_X4_216 (mt_X2_isJoined (wk_C.tr C) h_σ33) rfl rfl (Nat.le_of_ble_eq_true rfl) (Nat.le_of_ble_eq_true rfl) (Nat.le_of_ble_eq_true rfl) dX4_readMember_49 ?_
          refine wk_if_ne C 59 (by decide) dX4_readMember_52 (fun c_ => ?_) (fun c_ => ?_)
          · rw [if_neg c_] at hf
            refine wk_sub (L' := [(0, vR l0), (2, vI x24), (3, vI x29)]) [0, 2, 3] rfl ?_
            exact wb_X4_readMember_b59 C  _ _ _ _ _ hf
          · rw [if_pos c_] at hf
            refine wk_iconst (v := 1) C dX4_readMember_55 rfl ?_
            refine wk_goto C 60 (by decide) dX4_readMember_56 ?_
            refine wk_sub (L' := [(0, vR l0), (2, vI x24), (3, vI x29)]) [0, 2, 3] rfl ?_
            exact wb_X4_readMember_b60 C  _ _ _ _ _ _ hf
      · refine wk_callVT (av := []) (rest := []) C h_b26 rx_3 cx_X4_213 (mt_X4_nodeIndex (wk_C.tr C) h_σ27) rfl (Nat.le_of_ble_eq_true rfl) (Nat.le_of_ble_eq_true rfl) (Nat.le_of_ble_eq_true rfl) dX4_readMember_33 ?_
        obtain ⟨rfl, rfl⟩ := Prod.mk.inj (Option.some.inj hf)
        exact wk_out C (by decide +kernel) rfl rfl
    · refine wk_callVT (av := []) (rest := []) C h_b21 rx_3 cx_X4_213 (mt_X4_nodeIndex (wk_C.tr C) h_σ22) rfl (Nat.le_of_ble_eq_true rfl) (Nat.le_of_ble_eq_true rfl) (Nat.le_of_ble_eq_true rfl) dX4_readMember_28 ?_
      obtain ⟨rfl, rfl⟩ := Prod.mk.inj (Option.some.inj hf)
      exact wk_out C (by decide +kernel) rfl rfl
  · refine wk_callVT (av := [vI t1, vI l1]) (rest := []) C h_b16 rx_3 cx_X4_169 (mt_X4_needRoom (wk_C.tr C) h_σ17) rfl (Nat.le_of_ble_eq_true rfl) (Nat.le_of_ble_eq_true rfl) (Nat.le_of_ble_eq_true rfl) dX4_readMember_24 ?_
    obtain ⟨rfl, rfl⟩ := Prod.mk.inj (Option.some.inj hf)
    exact wk_out C (by decide +kernel) rfl rfl
set_option maxHeartbeats 4000000 in
theorem mt_X4_readMember {E : Ev} {l : Launch} (hl : l.stackTraces = false) {p0 : Option Nat} {p1 : Int32} {σ : Hs} {r : Unit ⊕ Nat} {σ' : Hs} (hf : fn_X4_readMember E.2.2.1 p0 p1 σ = some (r, σ')) : wk_M E l yX4_readMember (ws_ yX4_readMember cX4_readMember 4 (Option.none : Option FieldType)) 7 164 [vR p0, vI p1] σ (ot_V r) σ' := by
  refine wk_start (by decide +kernel) hl (Nat.le_of_ble_eq_true rfl) (fun K C hK => ?_)
  subst hK
  refine wk_L (L' := [(0, vR p0), (1, vI p1)]) rfl ?_
  unfold fn_X4_readMember at hf
  refine wk_aload_n C 0 rfl dX4_readMember_0 ?_
  refine wk_aload_n C 0 rfl dX4_readMember_1 ?_
  obtain ⟨v35, h_v35, hf⟩ := ho_b hf
  refine wk_getR C fx_X4_18 h_v35 dX4_readMember_2 ?_
  obtain ⟨v36, h_v36, hf⟩ := ho_b hf
  refine wk_getR C fx_X4_206 h_v36 dX4_readMember_5 ?_
  obtain ⟨b37, h_b37, hf⟩ := ho_b hf
  obtain ⟨v39, σ38, h_σ38, hf⟩ := ho_e2 hf
  refine wk_callF (av := []) (rest := [vR p0]) (rv := some (vI v39)) C h_b37 rx_15 cx_X4_210_15 (mt_J18_size (wk_C.tr C) h_σ38) rfl rfl (Nat.le_of_ble_eq_true rfl) (Nat.le_of_ble_eq_true rfl) (Nat.le_of_ble_eq_true rfl) dX4_readMember_8 ?_
  refine wk_bipush (v := 16) C dX4_readMember_13 rfl ?_
  refine wk_icmp_ge C 22 (by decide) dX4_readMember_15 (fun c_ => ?_) (fun c_ => ?_)
  · rw [if_pos c_] at hf
    refine wk_iconst (v := 0) C dX4_readMember_22 rfl ?_
    exact wb_X4_readMember_b23 C  _ _ _ _ _ hf
  · rw [if_neg c_] at hf
    refine wk_iconst (v := 1) C dX4_readMember_18 rfl ?_
    refine wk_goto C 23 (by decide) dX4_readMember_19 ?_
    exact wb_X4_readMember_b23 C  _ _ _ _ _ hf
set_option maxHeartbeats 4000000 in
theorem wb_X4_readLoad_b23 {E : Ev} {K : Kx} (C : wk_C E K yX4_readLoad cX4_readLoad 5 (Option.none : Option FieldType) 7 161 []) {r : Unit ⊕ Nat} {σ' : Hs} (l0 : Option Nat) (l1 : Int32) (t0 : Option Nat) (t1 : Int32) (σ : Hs) (hf : fn_X4_readLoad_b23 E.2.2.1 l0 l1 t0 t1 σ = some (r, σ')) : wk_V E K (ot_V r) σ' σ 23 [(0, vR l0), (1, vI l1)] [vI t1, vR t0] := by
  unfold fn_X4_readLoad_b23 at hf
  refine wk_iload_n C 1 rfl dX4_readLoad_23 ?_
  obtain ⟨b1, h_b1, hf⟩ := ho_b hf
  obtain ⟨v3, σ2, h_σ2, hf⟩ := ho_e2 hf
  rcases ho_xe hf with ⟨x4, rfl, hf⟩ | ⟨q5, rfl, hf⟩
  · refine wk_callV (av := [vI t1, vI l1]) (rest := []) (rv := none) C h_b1 rx_3 cx_X4_169 (mt_X4_needRoom (wk_C.tr C) h_σ2) rfl rfl (Nat.le_of_ble_eq_true rfl) (Nat.le_of_ble_eq_true rfl) (Nat.le_of_ble_eq_true rfl) dX4_readLoad_24 ?_
    refine wk_aload_n C 0 rfl dX4_readLoad_27 ?_
    refine wk_iconst (v := 0) C dX4_readLoad_28 rfl ?_
    refine wk_iconst (v := 3) C dX4_readLoad_29 rfl ?_
    obtain ⟨b6, h_b6, hf⟩ := ho_b hf
    obtain ⟨v8, σ7, h_σ7, hf⟩ := ho_e2 hf
    rcases ho_xe hf with ⟨x9, rfl, hf⟩ | ⟨q10, rfl, hf⟩
    · refine wk_callV (av := [vI (0 : Int32), vI (3 : Int32)]) (rest := []) (rv := some (vI x9)) C h_b6 rx_3 cx_X4_91 (mt_X4_number (wk_C.tr C) h_σ7) rfl rfl (Nat.le_of_ble_eq_true rfl) (Nat.le_of_ble_eq_true rfl) (Nat.le_of_ble_eq_true rfl) dX4_readLoad_30 ?_
      refine wk_istore_n (L' := [(0, vR l0), (1, vI l1), (2, vI x9)]) C (by decide) rfl dX4_readLoad_33 ?_
      refine wk_aload_n C 0 rfl dX4_readLoad_34 ?_
      obtain ⟨b11, h_b11, hf⟩ := ho_b hf
      obtain ⟨v13, σ12, h_σ12, hf⟩ := ho_e2 hf
      rcases ho_xe hf with ⟨x14, rfl, hf⟩ | ⟨q15, rfl, hf⟩
      · refine wk_callV (av := []) (rest := []) (rv := some (vI x14)) C h_b11 rx_3 cx_X4_213 (mt_X4_nodeIndex (wk_C.tr C) h_σ12) rfl rfl (Nat.le_of_ble_eq_true rfl) (Nat.le_of_ble_eq_true rfl) (Nat.le_of_ble_eq_true rfl) dX4_readLoad_35 ?_
        refine wk_istore_n (L' := [(0, vR l0), (1, vI l1), (2, vI x9), (3, vI x14)]) C (by decide) rfl dX4_readLoad_38 ?_
        refine wk_aload_n C 0 rfl dX4_readLoad_39 ?_
        refine wk_sipush (v := 9999) C dX4_readLoad_40 rfl ?_
        obtain ⟨b16, h_b16, hf⟩ := ho_b hf
        obtain ⟨v18, σ17, h_σ17, hf⟩ := ho_e2 hf
        rcases ho_xe hf with ⟨x19, rfl, hf⟩ | ⟨q20, rfl, hf⟩
        · refine wk_callV (av := [vI (9999 : Int32)]) (rest := []) (rv := some (vI x19)) C h_b16 rx_3 cx_X4_230 (mt_X4_signed (wk_C.tr C) h_σ17) rfl rfl (Nat.le_of_ble_eq_true rfl) (Nat.le_of_ble_eq_true rfl) (Nat.le_of_ble_eq_true rfl) dX4_readLoad_43 ?_
          refine wk_istore (L' := [(0, vR l0), (1, vI l1), (2, vI x9), (3, vI x14), (4, vI x19)]) C (by decide) rfl dX4_readLoad_46 ?_
          refine wk_aload_n C 0 rfl dX4_readLoad_48 ?_
          obtain ⟨v21, h_v21, hf⟩ := ho_b hf
          refine wk_getR C fx_X4_18 h_v21 dX4_readLoad_49 ?_
          obtain ⟨v22, h_v22, hf⟩ := ho_b hf
          refine wk_getR C fx_X4_227 h_v22 dX4_readLoad_52 ?_
          obtain ⟨v23, σ24, h_σ24, hf⟩ := ho_e2 hf
          refine wk_new C nx_X4_233 h_σ24 dX4_readLoad_55 ?_
          refine wk_dup C rfl dX4_readLoad_58 ?_
          refine wk_iload_n C 2 rfl dX4_readLoad_59 ?_
          refine wk_iload_n C 3 rfl dX4_readLoad_60 ?_
          refine wk_iload C 4 rfl dX4_readLoad_61 ?_
          refine wk_aload_n C 0 rfl dX4_readLoad_63 ?_
          refine wk_sipush (v := 9999) C dX4_readLoad_64 rfl ?_
          obtain ⟨b25, h_b25, hf⟩ := ho_b hf
          obtain ⟨v27, σ26, h_σ26, hf⟩ := ho_e2 hf
          rcases ho_xe hf with ⟨x28, rfl, hf⟩ | ⟨q29, rfl, hf⟩
          · refine wk_callV (av := [vI (9999 : Int32)]) (rest := [vI x19, vI x14, vI x9, vR v23, vR v23, vR v22]) (rv := some (vI x28)) C h_b25 rx_3 cx_X4_230 (mt_X4_signed (wk_C.tr C) h_σ26) rfl rfl (Nat.le_of_ble_eq_true rfl) (Nat.le_of_ble_eq_true rfl) (Nat.le_of_ble_eq_true rfl) dX4_readLoad_67 ?_
            obtain ⟨b30, h_b30, hf⟩ := ho_b hf
            obtain ⟨σ31, h_σ31, hf⟩ := ho_b hf
            refine wk_callIN (av := [vI x9, vI x14, vI x19, vI x28]) (rest := [vR v23, vR v22]) C cx_X4_235 h_b30 (mt_X9_init (wk_C.tr C) h_σ31) rfl (Nat.le_of_ble_eq_true rfl) (Nat.le_of_ble_eq_true rfl) (Nat.le_of_ble_eq_true rfl) dX4_readLoad_70 ?_
            obtain ⟨b32, h_b32, hf⟩ := ho_b hf
            obtain ⟨v34, σ33, h_σ33, hf⟩ := ho_e2 hf
            refine wk_callF (av := [vR v23]) (rest := []) (rv := some (vI v34)) C h_b32 rx_13 cx_X4_203_13 (mt_J2_add (wk_C.tr C) h_σ33) rfl rfl (Nat.le_of_ble_eq_true rfl) (Nat.le_of_ble_eq_true rfl) (Nat.le_of_ble_eq_true rfl) dX4_readLoad_73 ?_
            refine wk_pop C rfl dX4_readLoad_78 ?_
            obtain ⟨rfl, rfl⟩ := Prod.mk.inj (Option.some.inj hf)
            exact wk_vret C rfl rfl dX4_readLoad_79
          · refine wk_callVT (av := [vI (9999 : Int32)]) (rest := [vI x19, vI x14, vI x9, vR v23, vR v23, vR v22]) C h_b25 rx_3 cx_X4_230 (mt_X4_signed (wk_C.tr C) h_σ26) rfl (Nat.le_of_ble_eq_true rfl) (Nat.le_of_ble_eq_true rfl) (Nat.le_of_ble_eq_true rfl) dX4_readLoad_67 ?_
            obtain ⟨rfl, rfl⟩ := Prod.mk.inj (Option.some.inj hf)
            exact wk_out C (by decide +kernel) rfl rfl
        · refine wk_callVT (av := [vI (9999 : Int32)]) (rest := []) C h_b16 rx_3 cx_X4_230 (mt_X4_signed (wk_C.tr C) h_σ17) rfl (Nat.le_of_ble_eq_true rfl) (Nat.le_of_ble_eq_true rfl) (Nat.le_of_ble_eq_true rfl) dX4_readLoad_43 ?_
          obtain ⟨rfl, rfl⟩ := Prod.mk.inj (Option.some.inj hf)
          exact wk_out C (by decide +kernel) rfl rfl
      · refine wk_callVT (av := []) (rest := []) C h_b11 rx_3 cx_X4_213 (mt_X4_nodeIndex (wk_C.tr C) h_σ12) rfl (Nat.le_of_ble_eq_true rfl) (Nat.le_of_ble_eq_true rfl) (Nat.le_of_ble_eq_true rfl) dX4_readLoad_35 ?_
        obtain ⟨rfl, rfl⟩ := Prod.mk.inj (Option.some.inj hf)
        exact wk_out C (by decide +kernel) rfl rfl
    · refine wk_callVT (av := [vI (0 : Int32), vI (3 : Int32)]) (rest := []) C h_b6 rx_3 cx_X4_91 (mt_X4_number (wk_C.tr C) h_σ7) rfl (Nat.le_of_ble_eq_true rfl) (Nat.le_of_ble_eq_true rfl) (Nat.le_of_ble_eq_true rfl) dX4_readLoad_30 ?_
      obtain ⟨rfl, rfl⟩ := Prod.mk.inj (Option.some.inj hf)
      exact wk_out C (by decide +kernel) rfl rfl
  · refine wk_callVT (av := [vI t1, vI l1]) (rest := []) C h_b1 rx_3 cx_X4_169 (mt_X4_needRoom (wk_C.tr C) h_σ2) rfl (Nat.le_of_ble_eq_true rfl) (Nat.le_of_ble_eq_true rfl) (Nat.le_of_ble_eq_true rfl) dX4_readLoad_24 ?_
    obtain ⟨rfl, rfl⟩ := Prod.mk.inj (Option.some.inj hf)
    exact wk_out C (by decide +kernel) rfl rfl
set_option maxHeartbeats 4000000 in
theorem mt_X4_readLoad {E : Ev} {l : Launch} (hl : l.stackTraces = false) {p0 : Option Nat} {p1 : Int32} {σ : Hs} {r : Unit ⊕ Nat} {σ' : Hs} (hf : fn_X4_readLoad E.2.2.1 p0 p1 σ = some (r, σ')) : wk_M E l yX4_readLoad (ws_ yX4_readLoad cX4_readLoad 5 (Option.none : Option FieldType)) 7 161 [vR p0, vI p1] σ (ot_V r) σ' := by
  refine wk_start (by decide +kernel) hl (Nat.le_of_ble_eq_true rfl) (fun K C hK => ?_)
  subst hK
  refine wk_L (L' := [(0, vR p0), (1, vI p1)]) rfl ?_
  unfold fn_X4_readLoad at hf
  refine wk_aload_n C 0 rfl dX4_readLoad_0 ?_
  refine wk_aload_n C 0 rfl dX4_readLoad_1 ?_
  obtain ⟨v35, h_v35, hf⟩ := ho_b hf
  refine wk_getR C fx_X4_18 h_v35 dX4_readLoad_2 ?_
  obtain ⟨v36, h_v36, hf⟩ := ho_b hf
  refine wk_getR C fx_X4_227 h_v36 dX4_readLoad_5 ?_
  obtain ⟨b37, h_b37, hf⟩ := ho_b hf
  obtain ⟨v39, σ38, h_σ38, hf⟩ := ho_e2 hf
  refine wk_callF (av := []) (rest := [vR p0]) (rv := some (vI v39)) C h_b37 rx_13 cx_X4_164_13 (mt_J2_size (wk_C.tr C) h_σ38) rfl rfl (Nat.le_of_ble_eq_true rfl) (Nat.le_of_ble_eq_true rfl) (Nat.le_of_ble_eq_true rfl) dX4_readLoad_8 ?_
  refine wk_bipush (v := 12) C dX4_readLoad_13 rfl ?_
  refine wk_icmp_ge C 22 (by decide) dX4_readLoad_15 (fun c_ => ?_) (fun c_ => ?_)
  · rw [if_pos c_] at hf
    refine wk_iconst (v := 0) C dX4_readLoad_22 rfl ?_
    exact wb_X4_readLoad_b23 C  _ _ _ _ _ hf
  · rw [if_neg c_] at hf
    refine wk_iconst (v := 1) C dX4_readLoad_18 rfl ?_
    refine wk_goto C 23 (by decide) dX4_readLoad_19 ?_
    exact wb_X4_readLoad_b23 C  _ _ _ _ _ hf
set_option maxHeartbeats 4000000 in
theorem wb_X4_take_b8 {E : Ev} {K : Kx} (C : wk_C E K yX4_take cX4_take 6 (Option.some (FieldType.object "ElasticTruss$Operator")) 3 62 []) {r : Option Nat} {σ' : Hs} : ∀ (n : Nat) (l0 : Option Nat) (l2 : Option Nat) (l3 : Int32) (l4 : Int32) (σ : Hs), fn_X4_take_b8 n l0 l2 l3 l4 σ = some (r, σ') → wk_V E K (.inl (some (va_rf r))) σ' σ 8 [(0, vR l0), (2, vR l2), (3, vI l3), (4, vI l4)] [] := by
  intro n
  induction n with
  | zero =>
    intro l0 l2 l3 l4 σ hf
    rw [fn_X4_take_b8] at hf
    cases hf
  | succ n ih =>
    intro l0 l2 l3 l4 σ hf
    rw [fn_X4_take_b8] at hf
    refine wk_iload C 3 rfl dX4_take_8 ?_
    refine wk_iload_n C 2 rfl dX4_take_10 ?_
    refine wk_icmp_ge C 41 (by decide) dX4_take_11 (fun c_ => ?_) (fun c_ => ?_)
    · rw [if_pos c_] at hf
      refine wk_null C dX4_take_41 ?_
      obtain ⟨rfl, rfl⟩ := Prod.mk.inj (Option.some.inj hf)
      exact wk_aret C (Or.inl ⟨_, rfl⟩) rfl rfl dX4_take_42
    · rw [if_neg c_] at hf
      refine wk_aload_n C 1 rfl dX4_take_14 ?_
      refine wk_iload C 3 rfl dX4_take_15 ?_
      obtain ⟨v1, h_v1, hf⟩ := ho_b hf
      refine wk_aald C h_v1 dX4_take_17 ?_
      refine wk_astore (L' := [(0, vR l0), (2, vR l2), (3, vI l3), (4, vI l4), (5, vR v1)]) C (by decide) rfl dX4_take_18 ?_
      refine wk_aload_n C 0 rfl dX4_take_20 ?_
      refine wk_aload C 4 rfl dX4_take_21 ?_
      obtain ⟨v2, h_v2, hf⟩ := ho_b hf
      refine wk_getI C fx_X4_122 h_v2 dX4_take_23 ?_
      obtain ⟨b3, h_b3, hf⟩ := ho_b hf
      obtain ⟨v5, σ4, h_σ4, hf⟩ := ho_e2 hf
      refine wk_callV (av := [vI v2]) (rest := []) (rv := some (vI v5)) C h_b3 rx_3 cx_X4_65 (mt_X4_takeSign (wk_C.tr C) h_σ4) rfl rfl (Nat.le_of_ble_eq_true rfl) (Nat.le_of_ble_eq_true rfl) (Nat.le_of_ble_eq_true rfl) dX4_take_26 ?_
      refine wk_if_eq C 35 (by decide) dX4_take_29 (fun c_ => ?_) (fun c_ => ?_)
      · rw [if_pos c_] at hf
        refine wk_iinc (v := l4 + 1) (L' := [(0, vR l0), (2, vR l2), (3, vI l3), (4, vI (l4 + 1)), (5, vR v1)]) C 3 rfl (by decide) rfl rfl dX4_take_35 ?_
        refine wk_goto C 8 (by decide) dX4_take_38 ?_
        refine wk_sub (L' := [(0, vR l0), (2, vR l2), (3, vI l3), (4, vI (l4 + 1))]) [0, 1, 2, 3] rfl ?_
        exact ih _ _ _ _ _ hf
      · rw [if_neg c_] at hf
        refine wk_aload C 4 rfl dX4_take_32 ?_
        obtain ⟨rfl, rfl⟩ := Prod.mk.inj (Option.some.inj hf)
        exact wk_aret C (Or.inl ⟨_, rfl⟩) rfl rfl dX4_take_34
set_option maxHeartbeats 4000000 in
theorem mt_X4_take {E : Ev} {l : Launch} (hl : l.stackTraces = false) {p0 : Option Nat} {p1 : Option Nat} {σ : Hs} {r : Option Nat} {σ' : Hs} (hf : fn_X4_take p0 p1 σ = some (r, σ')) : wk_M E l yX4_take (ws_ yX4_take cX4_take 6 (Option.some (FieldType.object "ElasticTruss$Operator"))) 3 62 [vR p0, vR p1] σ (.inl (some (va_rf r))) σ' := by
  refine wk_start (by decide +kernel) hl (Nat.le_of_ble_eq_true rfl) (fun K C hK => ?_)
  subst hK
  refine wk_L (L' := [(0, vR p0), (1, vR p1)]) rfl ?_
  unfold fn_X4_take at hf
  refine wk_aload_n C 1 rfl dX4_take_0 ?_
  refine wk_astore_n (L' := [(0, vR p0), (1, vR p1), (2, vR p1)]) C (by decide) rfl dX4_take_1 ?_
  refine wk_aload_n C 2 rfl dX4_take_2 ?_
  obtain ⟨v6, h_v6, hf⟩ := ho_b hf
  refine wk_alen C h_v6 dX4_take_3 ?_
  refine wk_istore_n (L' := [(0, vR p0), (1, vR p1), (2, vR p1), (3, vI v6)]) C (by decide) rfl dX4_take_4 ?_
  refine wk_iconst (v := 0) C dX4_take_5 rfl ?_
  refine wk_istore (L' := [(0, vR p0), (1, vR p1), (2, vR p1), (3, vI v6), (4, vI (0 : Int32))]) C (by decide) rfl dX4_take_6 ?_
  refine wk_sub (L' := [(0, vR p0), (2, vR p1), (3, vI v6), (4, vI (0 : Int32))]) [0, 2, 3, 4] rfl ?_
  exact wb_X4_take_b8 C  _ _ _ _ _ _ hf
