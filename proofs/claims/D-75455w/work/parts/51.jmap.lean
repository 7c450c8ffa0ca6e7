def fn_J16_numberOfLeadingZeros_b14  (t0 : Int32) (σ : Hs) : Option (Int32 × Hs) := some (t0, σ)
def fn_J16_numberOfLeadingZeros_b73  (l0 : Int32) (l1 : Int32) (σ : Hs) : Option (Int32 × Hs) := some (l1 - ((l0.toUInt32 >>> ((1 : Int32).toUInt32 &&& Int32.toUInt32 31)).toInt32), σ)
def fn_J16_numberOfLeadingZeros_b61  (l0 : Int32) (l1 : Int32) (σ : Hs) : Option (Int32 × Hs) := if l0 < (4 : Int32) then fn_J16_numberOfLeadingZeros_b73 l0 l1 σ else (some ((l0.toUInt32 >>> ((2 : Int32).toUInt32 &&& Int32.toUInt32 31)).toInt32)).bind fun v1 => fn_J16_numberOfLeadingZeros_b73 v1 (l1 + (-2)) σ
def fn_J16_numberOfLeadingZeros_b48  (l0 : Int32) (l1 : Int32) (σ : Hs) : Option (Int32 × Hs) := if l0 < (16 : Int32) then fn_J16_numberOfLeadingZeros_b61 l0 l1 σ else (some ((l0.toUInt32 >>> ((4 : Int32).toUInt32 &&& Int32.toUInt32 31)).toInt32)).bind fun v2 => fn_J16_numberOfLeadingZeros_b61 v2 (l1 + (-4)) σ
def fn_J16_numberOfLeadingZeros_b33  (l0 : Int32) (l1 : Int32) (σ : Hs) : Option (Int32 × Hs) := if l0 < (256 : Int32) then fn_J16_numberOfLeadingZeros_b48 l0 l1 σ else (some ((l0.toUInt32 >>> ((8 : Int32).toUInt32 &&& Int32.toUInt32 31)).toInt32)).bind fun v3 => fn_J16_numberOfLeadingZeros_b48 v3 (l1 + (-8)) σ
def fn_J16_numberOfLeadingZeros (p0 : Int32) (σ : Hs) : Option (Int32 × Hs) := if 0 < p0 then if p0 < (65536 : Int32) then fn_J16_numberOfLeadingZeros_b33 p0 (31 : Int32) σ else (some ((p0.toUInt32 >>> ((16 : Int32).toUInt32 &&& Int32.toUInt32 31)).toInt32)).bind fun v4 => fn_J16_numberOfLeadingZeros_b33 v4 ((31 : Int32) + (-16)) σ else if p0 = 0 then fn_J16_numberOfLeadingZeros_b14 (32 : Int32) σ else fn_J16_numberOfLeadingZeros_b14 (0 : Int32) σ
def fn_J18_tableSizeFor_b31  (t0 : Int32) (σ : Hs) : Option (Int32 × Hs) := some (t0, σ)
def fn_J18_tableSizeFor (p0 : Int32) (σ : Hs) : Option (Int32 × Hs) := ho_b2 (fn_J16_numberOfLeadingZeros (p0 - (1 : Int32)) σ) fun v2 σ1 => (some (((-1 : Int32).toUInt32 >>> (v2.toUInt32 &&& Int32.toUInt32 31)).toInt32)).bind fun v3 => if 0 ≤ v3 then if v3 < (1073741824 : Int32) then fn_J18_tableSizeFor_b31 (v3 + (1 : Int32)) σ1 else fn_J18_tableSizeFor_b31 (1073741824 : Int32) σ1 else fn_J18_tableSizeFor_b31 (1 : Int32) σ1
def fn_J46_isNaN_b11  (t0 : Int32) (σ : Hs) : Option (Int32 × Hs) := (ho_bool t0).bind fun v1 => some (v1, σ)
def fn_J46_isNaN (p0 : UInt32) (σ : Hs) : Option (Int32 × Hs) := if (Op.cmpValue (FP.fcmp p0 p0) .l) = 0 then fn_J46_isNaN_b11 (0 : Int32) σ else fn_J46_isNaN_b11 (1 : Int32) σ
def fn_J12_getExponent (p0 : UInt64) (σ : Hs) : Option (Int32 × Hs) := some ((((p0.toInt64 &&& (9218868437227405312 : Int64)) >>> ((52 : Int32).toInt64 &&& 63)) - (1023 : Int64)).toInt32, σ)
def fn_J51_floorOrCeil_b33  (t0 : UInt64) (σ : Hs) : Option (UInt64 × Hs) := some (t0, σ)
def fn_J51_floorOrCeil_b61  (σ : Hs) : Option (UInt64 × Hs) := none
def fn_J51_floorOrCeil_b125  (l13 : UInt64) (σ : Hs) : Option (UInt64 × Hs) := some (l13, σ)
def fn_J51_floorOrCeil_b69  (l0 : UInt64) (l6 : UInt64) (l8 : Int32) (σ : Hs) : Option (UInt64 × Hs) := (some ((4503599627370495 : Int64) >>> (l8.toInt64 &&& 63))).bind fun v1 => if (v1 &&& l0.toInt64) = (0 : Int64) then some (l0, σ) else (ho_l2d (l0.toInt64 &&& (v1 ^^^ (-1 : Int64)))).bind fun v2 => (ho_n64 (FP.dmul l6 l0)).bind fun v3 => if (Op.cmpValue (FP.dcmp v3 FP.dconst0) .l) ≤ 0 then fn_J51_floorOrCeil_b125 v2 σ else (ho_n64 (FP.dadd v2 l6)).bind fun v4 => fn_J51_floorOrCeil_b125 v4 σ
def fn_J51_floorOrCeil (p0 : UInt64) (p1 : UInt64) (p2 : UInt64) (p3 : UInt64) (σ : Hs) : Option (UInt64 × Hs) := ho_b2 (fn_J12_getExponent p0 σ) fun v6 σ5 => if 0 ≤ v6 then if v6 < (52 : Int32) then if (1 : Int32) = 0 then if v6 < 0 then fn_J51_floorOrCeil_b61  σ5 else if v6 ≤ (51 : Int32) then fn_J51_floorOrCeil_b69 p0 p3 v6 σ5 else fn_J51_floorOrCeil_b61  σ5 else fn_J51_floorOrCeil_b69 p0 p3 v6 σ5 else some (p0, σ5) else if (Op.cmpValue (FP.dcmp p0 FP.dconst0) .l) = 0 then fn_J51_floorOrCeil_b33 p0 σ5 else if 0 ≤ (Op.cmpValue (FP.dcmp p0 FP.dconst0) .g) then fn_J51_floorOrCeil_b33 p2 σ5 else fn_J51_floorOrCeil_b33 p1 σ5
def fn_J51_ceil (p0 : UInt64) (σ : Hs) : Option (UInt64 × Hs) := ho_b2 (fn_J51_floorOrCeil p0 (9223372036854775808 : UInt64) FP.dconst1 FP.dconst1 σ) fun v2 σ1 => some (v2, σ1)
def fn_J25_init (p0 : Option Nat) (p1 : Int32) (p2 : Option Nat) (p3 : Option Nat) (p4 : Option Nat) (σ : Hs) : Option Hs := p0.bind fun b1 => (ho_pI σ p0 [16] 0 p1).bind fun σ2 => (ho_pR σ2 p0 [16] 1 p2).bind fun σ3 => (ho_pR σ3 p0 [16] 2 p3).bind fun σ4 => (ho_pR σ4 p0 [16] 3 p4).bind fun σ5 => some σ5
def fn_J25_getKey (p0 : Option Nat) (σ : Hs) : Option (Option Nat × Hs) := (ho_fR σ p0 [16] 1).bind fun v1 => some (v1, σ)
def fn_J25_getValue (p0 : Option Nat) (σ : Hs) : Option (Option Nat × Hs) := (ho_fR σ p0 [16] 2).bind fun v1 => some (v1, σ)
def fn_J26_init (p0 : Option Nat) (p1 : Int32) (p2 : Option Nat) (p3 : Option Nat) (p4 : Option Nat) (σ : Hs) : Option Hs := p0.bind fun b1 => (fn_J25_init p0 p1 p2 p3 p4 σ).bind fun σ2 => some σ2
def fn_J18_init (p0 : Option Nat) (σ : Hs) : Option Hs := p0.bind fun b1 => (fn_J17_init p0 σ).bind fun σ2 => (ho_pF σ2 p0 [15] 5 (1061158912 : UInt32)).bind fun σ3 => some σ3
def fn_J19_init (p0 : Option Nat) (σ : Hs) : Option Hs := p0.bind fun b1 => (fn_J18_init p0 σ).bind fun σ2 => (ho_pI σ2 p0 [15] 11 (0 : Int32)).bind fun σ3 => (ho_pZ σ3 p0 [15] 10 (0 : Int32)).bind fun σ4 => some σ4
def fn_J18_init_2_b57  (σ : Hs) : Option Hs := none
def fn_J18_init_2_b44  (l0 : Option Nat) (l1 : Int32) (l2 : UInt32) (σ : Hs) : Option Hs := if (Op.cmpValue (FP.fcmp l2 FP.fconst0) .g) ≤ 0 then fn_J18_init_2_b57  σ else ho_b2 (fn_J46_isNaN l2 σ) fun v2 σ1 => if v2 = 0 then (ho_pF σ1 l0 [15] 5 l2).bind fun σ3 => ho_b2 (fn_J18_tableSizeFor l1 σ3) fun v5 σ4 => (ho_pI σ4 l0 [15] 4 v5).bind fun σ6 => some σ6 else fn_J18_init_2_b57  σ1
def fn_J18_init_2 (p0 : Option Nat) (p1 : Int32) (p2 : UInt32) (σ : Hs) : Option Hs := p0.bind fun b7 => (fn_J17_init p0 σ).bind fun σ8 => if 0 ≤ p1 then if p1 ≤ (1073741824 : Int32) then fn_J18_init_2_b44 p0 p1 p2 σ8 else fn_J18_init_2_b44 p0 (1073741824 : Int32) p2 σ8 else none
def fn_J19_init_2 (p0 : Option Nat) (p1 : Int32) (p2 : UInt32) (σ : Hs) : Option Hs := p0.bind fun b1 => (fn_J18_init_2 p0 p1 p2 σ).bind fun σ2 => (ho_pI σ2 p0 [15] 11 (0 : Int32)).bind fun σ3 => (ho_pZ σ3 p0 [15] 10 (0 : Int32)).bind fun σ4 => some σ4
def fn_J18_size (p0 : Option Nat) (σ : Hs) : Option (Int32 × Hs) := (ho_fI σ p0 [15] 2).bind fun v1 => some (v1, σ)
def fn_X7_init (p0 : Option Nat) (p1 : Int32) (p2 : Int32) (σ : Hs) : Option Hs := p0.bind fun b1 => ho_b2 (fn_J12_min p1 p2 σ) fun v3 σ2 => (ho_pI σ2 p0 [6] 0 v3).bind fun σ4 => ho_b2 (fn_J12_max p1 p2 σ4) fun v6 σ5 => (ho_pI σ5 p0 [6] 1 v6).bind fun σ7 => some σ7
def fn_X7_hashCode (p0 : Option Nat) (σ : Hs) : Option (Int32 × Hs) := (ho_fI σ p0 [6] 0).bind fun v1 => (ho_fI σ p0 [6] 1).bind fun v2 => some (((8 : Int32) * v1) + v2, σ)
def fn_X7_equals_b39  (t0 : Int32) (σ : Hs) : Option (Int32 × Hs) := (ho_bool t0).bind fun v1 => some (v1, σ)
def fn_X7_equals_b38  (σ : Hs) : Option (Int32 × Hs) := fn_X7_equals_b39 (0 : Int32) σ
def fn_X7_equals (p0 : Option Nat) (p1 : Option Nat) (σ : Hs) : Option (Int32 × Hs) := (ho_io σ p1 [6] []).bind fun v2 => if v2 = 0 then fn_X7_equals_b38  σ else (ho_in σ p1 [6]).bind fun _ => (ho_fI σ p1 [6] 0).bind fun v4 => (ho_fI σ p0 [6] 0).bind fun v5 => if v4 = v5 then (ho_fI σ p1 [6] 1).bind fun v6 => (ho_fI σ p0 [6] 1).bind fun v7 => if v6 = v7 then fn_X7_equals_b39 (1 : Int32) σ else fn_X7_equals_b38  σ else fn_X7_equals_b38  σ
def fn_X13_init (p0 : Option Nat) (p1 : Int32) (p2 : Int32) (σ : Hs) : Option Hs := p0.bind fun b1 => (ho_pI σ p0 [12] 0 p1).bind fun σ2 => (ho_pI σ2 p0 [12] 1 p2).bind fun σ3 => some σ3
def fn_X13_hashCode (p0 : Option Nat) (σ : Hs) : Option (Int32 × Hs) := (ho_fI σ p0 [12] 0).bind fun v1 => (ho_fI σ p0 [12] 1).bind fun v2 => some (((16 : Int32) * v1) + v2, σ)
def fn_X13_equals_b39  (t0 : Int32) (σ : Hs) : Option (Int32 × Hs) := (ho_bool t0).bind fun v1 => some (v1, σ)
def fn_X13_equals_b38  (σ : Hs) : Option (Int32 × Hs) := fn_X13_equals_b39 (0 : Int32) σ
def fn_X13_equals (p0 : Option Nat) (p1 : Option Nat) (σ : Hs) : Option (Int32 × Hs) := (ho_io σ p1 [12] []).bind fun v2 => if v2 = 0 then fn_X13_equals_b38  σ else (ho_in σ p1 [12]).bind fun _ => (ho_fI σ p1 [12] 0).bind fun v4 => (ho_fI σ p0 [12] 0).bind fun v5 => if v4 = v5 then (ho_fI σ p1 [12] 1).bind fun v6 => (ho_fI σ p0 [12] 1).bind fun v7 => if v6 = v7 then fn_X13_equals_b39 (1 : Int32) σ else fn_X13_equals_b38  σ else fn_X13_equals_b38  σ
def dp_J18_hash_9 (r : Option Nat) (σ : Hs) : Option (Int32 × Hs) := if ho_k σ r = some 6 then fn_X7_hashCode r σ else if ho_k σ r = some 12 then fn_X13_hashCode r σ else none
def fn_J18_hash_b19  (t0 : Int32) (σ : Hs) : Option (Int32 × Hs) := some (t0, σ)
def fn_J18_hash (p0 : Option Nat) (σ : Hs) : Option (Int32 × Hs) := if p0 = none then fn_J18_hash_b19 (0 : Int32) σ else ho_b2 (dp_J18_hash_9 p0 σ) fun v1 σ2 => fn_J18_hash_b19 (v1 ^^^ ((v1.toUInt32 >>> ((16 : Int32).toUInt32 &&& Int32.toUInt32 31)).toInt32)) σ2
def fn_J19_linkNodeAtEnd_b75  (σ : Hs) : Option Hs := some σ
def fn_J19_linkNodeAtEnd_b40  (σ : Hs) : Option Hs := fn_J19_linkNodeAtEnd_b75  σ
def fn_J19_linkNodeAtEnd (p0 : Option Nat) (p1 : Option Nat) (σ : Hs) : Option Hs := (ho_fI σ p0 [15] 11).bind fun v1 => if v1 = (1 : Int32) then (ho_fR σ p0 [15] 8).bind fun v7 => (ho_pR σ p0 [15] 8 p1).bind fun σ8 => if v7 = none then (ho_pR σ8 p0 [15] 9 p1).bind fun σ11 => fn_J19_linkNodeAtEnd_b40  σ11 else (ho_pR σ8 p1 [16] 5 v7).bind fun σ9 => (ho_pR σ9 v7 [16] 4 p1).bind fun σ10 => fn_J19_linkNodeAtEnd_b40  σ10 else (ho_fR σ p0 [15] 9).bind fun v2 => (ho_pR σ p0 [15] 9 p1).bind fun σ3 => if v2 = none then (ho_pR σ3 p0 [15] 8 p1).bind fun σ6 => fn_J19_linkNodeAtEnd_b75  σ6 else (ho_pR σ3 p1 [16] 4 v2).bind fun σ4 => (ho_pR σ4 v2 [16] 5 p1).bind fun σ5 => fn_J19_linkNodeAtEnd_b75  σ5
def fn_J19_newNode (p0 : Option Nat) (p1 : Int32) (p2 : Option Nat) (p3 : Option Nat) (p4 : Option Nat) (σ : Hs) : Option (Option Nat × Hs) := ho_b2 (ho_new σ (.inr (16, [.int 0, .null, .null, .null, .null, .null])) 6) fun v1 σ2 => v1.bind fun b3 => (fn_J26_init v1 p1 p2 p3 p4 σ2).bind fun σ4 => (ho_is σ4 p0 [15]).bind fun b5 => (fn_J19_linkNodeAtEnd p0 v1 σ4).bind fun σ6 => some (v1, σ6)
def fn_J19_afterNodeAccess_b265  (σ : Hs) : Option Hs := some σ
def fn_J19_afterNodeAccess_b249  (l0 : Option Nat) (l4 : Option Nat) (σ : Hs) : Option Hs := (ho_pR σ l0 [15] 8 l4).bind fun σ1 => (ho_fI σ1 l0 [15] 3).bind fun v2 => (ho_pI σ1 l0 [15] 3 (v2 + (1 : Int32))).bind fun σ3 => fn_J19_afterNodeAccess_b265  σ3
def fn_J19_afterNodeAccess_b224  (l0 : Option Nat) (l3 : Option Nat) (l4 : Option Nat) (σ : Hs) : Option Hs := if l3 = none then (ho_pR σ l0 [15] 9 l4).bind fun σ6 => fn_J19_afterNodeAccess_b249 l0 l4 σ6 else (ho_pR σ l4 [16] 5 l3).bind fun σ4 => (ho_pR σ4 l3 [16] 4 l4).bind fun σ5 => fn_J19_afterNodeAccess_b249 l0 l4 σ5
def fn_J19_afterNodeAccess_b206  (l0 : Option Nat) (l3 : Option Nat) (l4 : Option Nat) (l5 : Option Nat) (l6 : Option Nat) (σ : Hs) : Option Hs := if l5 = none then fn_J19_afterNodeAccess_b224 l0 l6 l4 σ else (ho_pR σ l5 [16] 5 l6).bind fun σ7 => fn_J19_afterNodeAccess_b224 l0 l3 l4 σ7
def fn_J19_afterNodeAccess_b141  (l0 : Option Nat) (l1 : Option Nat) (σ : Hs) : Option Hs := (ho_fI σ l0 [15] 11).bind fun v8 => if v8 = (1 : Int32) then (ho_fR σ l0 [15] 8).bind fun v9 => if v9 = l1 then fn_J19_afterNodeAccess_b265  σ else (ho_in σ l1 [16]).bind fun _ => (ho_fR σ l1 [16] 4).bind fun v11 => (ho_fR σ l1 [16] 5).bind fun v12 => (ho_pR σ l1 [16] 4 none).bind fun σ13 => if v12 = none then (ho_pR σ13 l0 [15] 9 v11).bind fun σ15 => fn_J19_afterNodeAccess_b206 l0 v9 l1 v11 v12 σ15 else (ho_pR σ13 v12 [16] 4 v11).bind fun σ14 => fn_J19_afterNodeAccess_b206 l0 v9 l1 v11 v12 σ14 else fn_J19_afterNodeAccess_b265  σ
def fn_J19_afterNodeAccess_b122  (l0 : Option Nat) (l4 : Option Nat) (σ : Hs) : Option Hs := (ho_pR σ l0 [15] 9 l4).bind fun σ16 => (ho_fI σ16 l0 [15] 3).bind fun v17 => (ho_pI σ16 l0 [15] 3 (v17 + (1 : Int32))).bind fun σ18 => fn_J19_afterNodeAccess_b265  σ18
def fn_J19_afterNodeAccess_b97  (l0 : Option Nat) (l2 : Option Nat) (l4 : Option Nat) (σ : Hs) : Option Hs := if l2 = none then (ho_pR σ l0 [15] 8 l4).bind fun σ21 => fn_J19_afterNodeAccess_b122 l0 l4 σ21 else (ho_pR σ l4 [16] 4 l2).bind fun σ19 => (ho_pR σ19 l2 [16] 5 l4).bind fun σ20 => fn_J19_afterNodeAccess_b122 l0 l4 σ20
def fn_J19_afterNodeAccess_b79  (l0 : Option Nat) (l2 : Option Nat) (l4 : Option Nat) (l5 : Option Nat) (l6 : Option Nat) (σ : Hs) : Option Hs := if l6 = none then fn_J19_afterNodeAccess_b97 l0 l5 l4 σ else (ho_pR σ l6 [16] 4 l5).bind fun σ22 => fn_J19_afterNodeAccess_b97 l0 l2 l4 σ22
def fn_J19_afterNodeAccess_b22  (l0 : Option Nat) (l1 : Option Nat) (σ : Hs) : Option Hs := (ho_fR σ l0 [15] 9).bind fun v23 => if v23 = l1 then fn_J19_afterNodeAccess_b141 l0 l1 σ else (ho_in σ l1 [16]).bind fun _ => (ho_fR σ l1 [16] 4).bind fun v25 => (ho_fR σ l1 [16] 5).bind fun v26 => (ho_pR σ l1 [16] 5 none).bind fun σ27 => if v25 = none then (ho_pR σ27 l0 [15] 8 v26).bind fun σ29 => fn_J19_afterNodeAccess_b79 l0 v23 l1 v25 v26 σ29 else (ho_pR σ27 v25 [16] 5 v26).bind fun σ28 => fn_J19_afterNodeAccess_b79 l0 v23 l1 v25 v26 σ28
def fn_J19_afterNodeAccess (p0 : Option Nat) (p1 : Option Nat) (σ : Hs) : Option Hs := (ho_fI σ p0 [15] 11).bind fun v30 => if v30 = (2 : Int32) then fn_J19_afterNodeAccess_b22 p0 p1 σ else (ho_fI σ p0 [15] 11).bind fun v31 => if v31 = 0 then (ho_fI σ p0 [15] 10).bind fun v32 => if v32 = 0 then fn_J19_afterNodeAccess_b141 p0 p1 σ else fn_J19_afterNodeAccess_b22 p0 p1 σ else fn_J19_afterNodeAccess_b141 p0 p1 σ
def fn_J19_removeEldestEntry (p0 : Option Nat) (p1 : Option Nat) (σ : Hs) : Option (Int32 × Hs) := some ((0 : Int32), σ)
def fn_J19_afterNodeInsertion_b39  (σ : Hs) : Option Hs := some σ
def fn_J19_afterNodeInsertion (p0 : Option Nat) (p1 : Int32) (σ : Hs) : Option Hs := if p1 = 0 then fn_J19_afterNodeInsertion_b39  σ else (ho_fR σ p0 [15] 8).bind fun v1 => if v1 = none then fn_J19_afterNodeInsertion_b39  σ else (ho_is σ p0 [15]).bind fun b2 => ho_b2 (fn_J19_removeEldestEntry p0 v1 σ) fun v4 σ3 => if v4 = 0 then fn_J19_afterNodeInsertion_b39  σ3 else (ho_fR σ3 v1 [16] 1).bind fun v5 => none
def fn_J18_resize_b353  (l6 : Option Nat) (σ : Hs) : Option (Option Nat × Hs) := some (l6, σ)
def fn_J18_resize_b347  (k151 : Option Nat → Int32 → Int32 → Option Nat → Int32 → Hs → Option (Option Nat × Hs)) (l1 : Option Nat) (l2 : Int32) (l4 : Int32) (l6 : Option Nat) (l7 : Int32) (σ : Hs) : Option (Option Nat × Hs) := k151 l1 l2 l4 l6 (l7 + 1) σ
def fn_J18_resize_b327  (k151 : Option Nat → Int32 → Int32 → Option Nat → Int32 → Hs → Option (Option Nat × Hs)) (l1 : Option Nat) (l2 : Int32) (l4 : Int32) (l6 : Option Nat) (l7 : Int32) (l11 : Option Nat) (l12 : Option Nat) (σ : Hs) : Option (Option Nat × Hs) := if l12 = none then fn_J18_resize_b347 k151 l1 l2 l4 l6 l7 σ else (ho_pR σ l12 [16] 3 none).bind fun σ1 => (ho_tO σ1 l6 8 [16] (l7 + l2) l11).bind fun σ2 => fn_J18_resize_b347 k151 l1 l2 l4 l6 l7 σ2
def fn_J18_resize_b309  (k151 : Option Nat → Int32 → Int32 → Option Nat → Int32 → Hs → Option (Option Nat × Hs)) (l1 : Option Nat) (l2 : Int32) (l4 : Int32) (l6 : Option Nat) (l7 : Int32) (l9 : Option Nat) (l10 : Option Nat) (l11 : Option Nat) (l12 : Option Nat) (σ : Hs) : Option (Option Nat × Hs) := if l10 = none then fn_J18_resize_b327 k151 l1 l2 l4 l6 l7 l11 l12 σ else (ho_pR σ l10 [16] 3 none).bind fun σ3 => (ho_tO σ3 l6 8 [16] l7 l9).bind fun σ4 => fn_J18_resize_b327 k151 l1 l2 l4 l6 l7 l11 l12 σ4
def fn_J18_resize_b301  (k151 : Option Nat → Int32 → Int32 → Option Nat → Int32 → Hs → Option (Option Nat × Hs)) (k235 : Option Nat → Int32 → Int32 → Option Nat → Int32 → Option Nat → Option Nat → Option Nat → Option Nat → Option Nat → Hs → Option (Option Nat × Hs)) (l1 : Option Nat) (l2 : Int32) (l4 : Int32) (l6 : Option Nat) (l7 : Int32) (l9 : Option Nat) (l10 : Option Nat) (l11 : Option Nat) (l12 : Option Nat) (l13 : Option Nat) (σ : Hs) : Option (Option Nat × Hs) := if l13 = none then fn_J18_resize_b309 k151 l1 l2 l4 l6 l7 l9 l10 l11 l12 σ else k235 l1 l2 l4 l6 l7 l13 l9 l10 l11 l12 σ
def fn_J18_resize_b271  (k151 : Option Nat → Int32 → Int32 → Option Nat → Int32 → Hs → Option (Option Nat × Hs)) (k235 : Option Nat → Int32 → Int32 → Option Nat → Int32 → Option Nat → Option Nat → Option Nat → Option Nat → Option Nat → Hs → Option (Option Nat × Hs)) (l1 : Option Nat) (l2 : Int32) (l4 : Int32) (l6 : Option Nat) (l7 : Int32) (l8 : Option Nat) (l9 : Option Nat) (l11 : Option Nat) (l12 : Option Nat) (l13 : Option Nat) (σ : Hs) : Option (Option Nat × Hs) := fn_J18_resize_b301 k151 k235 l1 l2 l4 l6 l7 l9 l8 l11 l12 l13 σ
def fn_J18_resize_b297  (k151 : Option Nat → Int32 → Int32 → Option Nat → Int32 → Hs → Option (Option Nat × Hs)) (k235 : Option Nat → Int32 → Int32 → Option Nat → Int32 → Option Nat → Option Nat → Option Nat → Option Nat → Option Nat → Hs → Option (Option Nat × Hs)) (l1 : Option Nat) (l2 : Int32) (l4 : Int32) (l6 : Option Nat) (l7 : Int32) (l8 : Option Nat) (l9 : Option Nat) (l10 : Option Nat) (l11 : Option Nat) (l13 : Option Nat) (σ : Hs) : Option (Option Nat × Hs) := fn_J18_resize_b301 k151 k235 l1 l2 l4 l6 l7 l9 l10 l11 l8 l13 σ
def fn_J18_resize_b235  (k151 : Option Nat → Int32 → Int32 → Option Nat → Int32 → Hs → Option (Option Nat × Hs)) : Nat → Option Nat → Int32 → Int32 → Option Nat → Int32 → Option Nat → Option Nat → Option Nat → Option Nat → Option Nat → Hs → Option (Option Nat × Hs)
  | 0, _, _, _, _, _, _, _, _, _, _, _ => none
  | n + 1, l1, l2, l4, l6, l7, l8, l9, l10, l11, l12, σ => (ho_fR σ l8 [16] 3).bind fun v5 => (ho_fI σ l8 [16] 0).bind fun v6 => if (v6 &&& l2) = 0 then if l10 = none then fn_J18_resize_b271 k151 (fn_J18_resize_b235 k151 n) l1 l2 l4 l6 l7 l8 l8 l11 l12 v5 σ else (ho_pR σ l10 [16] 3 l8).bind fun σ8 => fn_J18_resize_b271 k151 (fn_J18_resize_b235 k151 n) l1 l2 l4 l6 l7 l8 l9 l11 l12 v5 σ8 else if l12 = none then fn_J18_resize_b297 k151 (fn_J18_resize_b235 k151 n) l1 l2 l4 l6 l7 l8 l9 l10 l8 v5 σ else (ho_pR σ l12 [16] 3 l8).bind fun σ7 => fn_J18_resize_b297 k151 (fn_J18_resize_b235 k151 n) l1 l2 l4 l6 l7 l8 l9 l10 l11 v5 σ7
def fn_J18_resize_b151  : Nat → Option Nat → Int32 → Int32 → Option Nat → Int32 → Hs → Option (Option Nat × Hs)
  | 0, _, _, _, _, _, _ => none
  | n + 1, l1, l2, l4, l6, l7, σ => if l2 ≤ l7 then fn_J18_resize_b353 l6 σ else (ho_aR σ l1 [3, 4, 5, 6, 7, 8] l7).bind fun v9 => if v9 = none then fn_J18_resize_b347 (fn_J18_resize_b151 n) l1 l2 l4 l6 l7 σ else (ho_tO σ l1 8 [16] l7 none).bind fun σ10 => (ho_fR σ10 v9 [16] 3).bind fun v11 => if v11 = none then (ho_fI σ10 v9 [16] 0).bind fun v13 => (ho_tO σ10 l6 8 [16] (v13 &&& (l4 - (1 : Int32))) v9).bind fun σ14 => fn_J18_resize_b347 (fn_J18_resize_b151 n) l1 l2 l4 l6 l7 σ14 else (ho_io σ10 v9 [] [16]).bind fun v12 => if v12 = 0 then fn_J18_resize_b235 (fn_J18_resize_b151 n) fu_el l1 l2 l4 l6 l7 v9 none none none none σ10 else none
def fn_J18_resize_b125  (l0 : Option Nat) (l1 : Option Nat) (l2 : Int32) (l4 : Int32) (l5 : Int32) (σ : Hs) : Option (Option Nat × Hs) := (ho_pI σ l0 [15] 4 l5).bind fun σ15 => ho_b2 (ho_nR σ15 8 l4) fun v16 σ17 => (ho_pR σ17 l0 [15] 0 v16).bind fun σ18 => if l1 = none then fn_J18_resize_b353 v16 σ18 else fn_J18_resize_b151 fu_el l1 l2 l4 v16 (0 : Int32) σ18
def fn_J18_resize_b123  (l0 : Option Nat) (l1 : Option Nat) (l2 : Int32) (l4 : Int32) (t0 : Int32) (σ : Hs) : Option (Option Nat × Hs) := fn_J18_resize_b125 l0 l1 l2 l4 t0 σ
def fn_J18_resize_b121  (l0 : Option Nat) (l1 : Option Nat) (l2 : Int32) (l4 : Int32) (σ : Hs) : Option (Option Nat × Hs) := fn_J18_resize_b123 l0 l1 l2 l4 (2147483647 : Int32) σ
def fn_J18_resize_b85  (l0 : Option Nat) (l1 : Option Nat) (l2 : Int32) (l4 : Int32) (l5 : Int32) (σ : Hs) : Option (Option Nat × Hs) := if l5 = 0 then (ho_fF σ l0 [15] 5).bind fun v19 => (ho_n32 (FP.fmul (FP.i2f l4) v19)).bind fun v20 => if (1073741824 : Int32) ≤ l4 then fn_J18_resize_b121 l0 l1 l2 l4 σ else if 0 ≤ (Op.cmpValue (FP.fcmp v20 (1317011456 : UInt32)) .g) then fn_J18_resize_b121 l0 l1 l2 l4 σ else fn_J18_resize_b123 l0 l1 l2 l4 (FP.f2i v20) σ else fn_J18_resize_b125 l0 l1 l2 l4 l5 σ
def fn_J18_resize_b15  (l0 : Option Nat) (l1 : Option Nat) (t0 : Int32) (σ : Hs) : Option (Option Nat × Hs) := (ho_fI σ l0 [15] 4).bind fun v21 => if t0 ≤ 0 then if v21 ≤ 0 then fn_J18_resize_b85 l0 l1 t0 (16 : Int32) (12 : Int32) σ else fn_J18_resize_b85 l0 l1 t0 v21 (0 : Int32) σ else if t0 < (1073741824 : Int32) then (some (t0 <<< ((1 : Int32) &&& 31))).bind fun v22 => if (1073741824 : Int32) ≤ (t0 <<< ((1 : Int32) &&& 31)) then fn_J18_resize_b85 l0 l1 t0 v22 (0 : Int32) σ else if t0 < (16 : Int32) then fn_J18_resize_b85 l0 l1 t0 v22 (0 : Int32) σ else (some (v21 <<< ((1 : Int32) &&& 31))).bind fun v23 => fn_J18_resize_b85 l0 l1 t0 v22 v23 σ else (ho_pI σ l0 [15] 4 (2147483647 : Int32)).bind fun σ24 => some (l1, σ24)
def fn_J18_resize (p0 : Option Nat) (σ : Hs) : Option (Option Nat × Hs) := (ho_fR σ p0 [15] 0).bind fun v25 => if v25 = none then fn_J18_resize_b15 p0 v25 (0 : Int32) σ else (ho_len σ v25).bind fun v26 => fn_J18_resize_b15 p0 v25 v26 σ
def dp_J18_putVal_203 (r : Option Nat) (a0 : Option Nat) (σ : Hs) : Option (Int32 × Hs) := if ho_k σ r = some 6 then fn_X7_equals r a0 σ else if ho_k σ r = some 12 then fn_X13_equals r a0 σ else none
def dp_J18_putVal_91 (r : Option Nat) (a0 : Option Nat) (σ : Hs) : Option (Int32 × Hs) := if ho_k σ r = some 6 then fn_X7_equals r a0 σ else if ho_k σ r = some 12 then fn_X13_equals r a0 σ else none
def fn_J18_putVal_b292  (l0 : Option Nat) (l5 : Int32) (σ : Hs) : Option (Option Nat × Hs) := (ho_is σ l0 [15]).bind fun b1 => (fn_J19_afterNodeInsertion l0 l5 σ).bind fun σ2 => some (none, σ2)
def fn_J18_putVal_b259  (l0 : Option Nat) (l5 : Int32) (σ : Hs) : Option (Option Nat × Hs) := (ho_fI σ l0 [15] 3).bind fun v3 => (ho_pI σ l0 [15] 3 (v3 + (1 : Int32))).bind fun σ4 => (ho_fI σ4 l0 [15] 2).bind fun v5 => (ho_pI σ4 l0 [15] 2 (v5 + (1 : Int32))).bind fun σ6 => (ho_fI σ6 l0 [15] 4).bind fun v7 => if (v5 + (1 : Int32)) ≤ v7 then fn_J18_putVal_b292 l0 l5 σ6 else (ho_is σ6 l0 [15]).bind fun b8 => ho_b2 (fn_J18_resize l0 σ6) fun v10 σ9 => fn_J18_putVal_b292 l0 l5 σ9
def fn_J18_putVal_b250  (l0 : Option Nat) (l10 : Option Nat) (l12 : Option Nat) (σ : Hs) : Option (Option Nat × Hs) := (ho_is σ l0 [15]).bind fun b11 => (fn_J19_afterNodeAccess l0 l10 σ).bind fun σ12 => some (l12, σ12)
def fn_J18_putVal_b244  (l0 : Option Nat) (l3 : Option Nat) (l10 : Option Nat) (l12 : Option Nat) (σ : Hs) : Option (Option Nat × Hs) := (ho_pR σ l10 [16] 2 l3).bind fun σ13 => fn_J18_putVal_b250 l0 l10 l12 σ13
def fn_J18_putVal_b222  (l0 : Option Nat) (l3 : Option Nat) (l4 : Int32) (l5 : Int32) (l10 : Option Nat) (σ : Hs) : Option (Option Nat × Hs) := if l10 = none then fn_J18_putVal_b259 l0 l5 σ else (ho_fR σ l10 [16] 2).bind fun v14 => if l4 = 0 then fn_J18_putVal_b244 l0 l3 l10 v14 σ else if v14 = none then fn_J18_putVal_b244 l0 l3 l10 v14 σ else fn_J18_putVal_b250 l0 l10 v14 σ
def fn_J18_putVal_b145  (l0 : Option Nat) (l1 : Int32) (l2 : Option Nat) (l3 : Option Nat) (l4 : Int32) (l5 : Int32) (l6 : Option Nat) (l7 : Option Nat) (l10 : Option Nat) (l12 : Int32) (σ : Hs) : Option (Option Nat × Hs) := (ho_is σ l0 [15]).bind fun b15 => ho_b2 (fn_J19_newNode l0 l1 l2 l3 none σ) fun v17 σ16 => (ho_pR σ16 l7 [16] 3 v17).bind fun σ18 => if l12 < (7 : Int32) then fn_J18_putVal_b222 l0 l3 l4 l5 l10 σ18 else none
def fn_J18_putVal_b212  (k134 : Option Nat → Int32 → Option Nat → Option Nat → Int32 → Int32 → Option Nat → Option Nat → Int32 → Hs → Option (Option Nat × Hs)) (l0 : Option Nat) (l1 : Int32) (l2 : Option Nat) (l3 : Option Nat) (l4 : Int32) (l5 : Int32) (l6 : Option Nat) (l10 : Option Nat) (l12 : Int32) (σ : Hs) : Option (Option Nat × Hs) := k134 l0 l1 l2 l3 l4 l5 l6 l10 (l12 + 1) σ
def fn_J18_putVal_b209  (l0 : Option Nat) (l3 : Option Nat) (l4 : Int32) (l5 : Int32) (l10 : Option Nat) (σ : Hs) : Option (Option Nat × Hs) := fn_J18_putVal_b222 l0 l3 l4 l5 l10 σ
def fn_J18_putVal_b134  : Nat → Option Nat → Int32 → Option Nat → Option Nat → Int32 → Int32 → Option Nat → Option Nat → Int32 → Hs → Option (Option Nat × Hs)
  | 0, _, _, _, _, _, _, _, _, _, _ => none
  | n + 1, l0, l1, l2, l3, l4, l5, l6, l7, l12, σ => (ho_fR σ l7 [16] 3).bind fun v19 => if v19 = none then fn_J18_putVal_b145 l0 l1 l2 l3 l4 l5 l6 l7 v19 l12 σ else (ho_fI σ v19 [16] 0).bind fun v20 => if v20 = l1 then (ho_fR σ v19 [16] 1).bind fun v21 => if v21 = l2 then fn_J18_putVal_b222 l0 l3 l4 l5 v19 σ else if l2 = none then fn_J18_putVal_b212 (fn_J18_putVal_b134 n) l0 l1 l2 l3 l4 l5 l6 v19 l12 σ else ho_b2 (dp_J18_putVal_203 l2 v21 σ) fun v22 σ23 => if v22 = 0 then fn_J18_putVal_b212 (fn_J18_putVal_b134 n) l0 l1 l2 l3 l4 l5 l6 v19 l12 σ23 else fn_J18_putVal_b209 l0 l3 l4 l5 v19 σ23 else fn_J18_putVal_b212 (fn_J18_putVal_b134 n) l0 l1 l2 l3 l4 l5 l6 v19 l12 σ
def fn_J18_putVal_b104  (l0 : Option Nat) (l1 : Int32) (l2 : Option Nat) (l3 : Option Nat) (l4 : Int32) (l5 : Int32) (l6 : Option Nat) (l7 : Option Nat) (σ : Hs) : Option (Option Nat × Hs) := (ho_io σ l7 [] [16]).bind fun v24 => if v24 = 0 then fn_J18_putVal_b134 fu_el l0 l1 l2 l3 l4 l5 l6 l7 (0 : Int32) σ else none
def fn_J18_putVal_b97  (l0 : Option Nat) (l3 : Option Nat) (l4 : Int32) (l5 : Int32) (l7 : Option Nat) (σ : Hs) : Option (Option Nat × Hs) := fn_J18_putVal_b222 l0 l3 l4 l5 l7 σ
def fn_J18_putVal_b29  (l0 : Option Nat) (l1 : Int32) (l2 : Option Nat) (l3 : Option Nat) (l4 : Int32) (l5 : Int32) (l6 : Option Nat) (l8 : Int32) (σ : Hs) : Option (Option Nat × Hs) := (some ((l8 - (1 : Int32)) &&& l1)).bind fun v25 => (ho_aR σ l6 [3, 4, 5, 6, 7, 8] ((l8 - (1 : Int32)) &&& l1)).bind fun v26 => if v26 = none then (ho_is σ l0 [15]).bind fun b31 => ho_b2 (fn_J19_newNode l0 l1 l2 l3 none σ) fun v33 σ32 => (ho_tO σ32 l6 8 [16] v25 v33).bind fun σ34 => fn_J18_putVal_b259 l0 l5 σ34 else (ho_fI σ v26 [16] 0).bind fun v27 => if v27 = l1 then (ho_fR σ v26 [16] 1).bind fun v28 => if v28 = l2 then fn_J18_putVal_b97 l0 l3 l4 l5 v26 σ else if l2 = none then fn_J18_putVal_b104 l0 l1 l2 l3 l4 l5 l6 v26 σ else ho_b2 (dp_J18_putVal_91 l2 v28 σ) fun v29 σ30 => if v29 = 0 then fn_J18_putVal_b104 l0 l1 l2 l3 l4 l5 l6 v26 σ30 else fn_J18_putVal_b97 l0 l3 l4 l5 v26 σ30 else fn_J18_putVal_b104 l0 l1 l2 l3 l4 l5 l6 v26 σ
def fn_J18_putVal_b19  (l0 : Option Nat) (l1 : Int32) (l2 : Option Nat) (l3 : Option Nat) (l4 : Int32) (l5 : Int32) (σ : Hs) : Option (Option Nat × Hs) := (ho_is σ l0 [15]).bind fun b35 => ho_b2 (fn_J18_resize l0 σ) fun v37 σ36 => (ho_len σ36 v37).bind fun v38 => fn_J18_putVal_b29 l0 l1 l2 l3 l4 l5 v37 v38 σ36
def fn_J18_putVal (p0 : Option Nat) (p1 : Int32) (p2 : Option Nat) (p3 : Option Nat) (p4 : Int32) (p5 : Int32) (σ : Hs) : Option (Option Nat × Hs) := (ho_fR σ p0 [15] 0).bind fun v39 => if v39 = none then fn_J18_putVal_b19 p0 p1 p2 p3 p4 p5 σ else (ho_len σ v39).bind fun v40 => if v40 = 0 then fn_J18_putVal_b19 p0 p1 p2 p3 p4 p5 σ else fn_J18_putVal_b29 p0 p1 p2 p3 p4 p5 v39 v40 σ
def fn_J18_put (p0 : Option Nat) (p1 : Option Nat) (p2 : Option Nat) (σ : Hs) : Option (Option Nat × Hs) := ho_b2 (fn_J18_hash p1 σ) fun v2 σ1 => (ho_is σ1 p0 [15]).bind fun b3 => ho_b2 (fn_J18_putVal p0 v2 p1 p2 (0 : Int32) (1 : Int32) σ1) fun v5 σ4 => some (v5, σ4)
def dp_J18_getNode_128 (r : Option Nat) (a0 : Option Nat) (σ : Hs) : Option (Int32 × Hs) := if ho_k σ r = some 6 then fn_X7_equals r a0 σ else if ho_k σ r = some 12 then fn_X13_equals r a0 σ else none
def dp_J18_getNode_63 (r : Option Nat) (a0 : Option Nat) (σ : Hs) : Option (Int32 × Hs) := if ho_k σ r = some 6 then fn_X7_equals r a0 σ else if ho_k σ r = some 12 then fn_X13_equals r a0 σ else none
def fn_J18_getNode_b69  (l3 : Option Nat) (σ : Hs) : Option (Option Nat × Hs) := some (l3, σ)
def fn_J18_getNode_b148  (σ : Hs) : Option (Option Nat × Hs) := some (none, σ)
def fn_J18_getNode_b137  (k99 : Option Nat → Option Nat → Int32 → Hs → Option (Option Nat × Hs)) (l1 : Option Nat) (l4 : Option Nat) (l6 : Int32) (σ : Hs) : Option (Option Nat × Hs) := (ho_fR σ l4 [16] 3).bind fun v1 => if v1 = none then fn_J18_getNode_b148  σ else k99 l1 v1 l6 σ
def fn_J18_getNode_b134  (l4 : Option Nat) (σ : Hs) : Option (Option Nat × Hs) := some (l4, σ)
def fn_J18_getNode_b99  : Nat → Option Nat → Option Nat → Int32 → Hs → Option (Option Nat × Hs)
  | 0, _, _, _, _ => none
  | n + 1, l1, l4, l6, σ => (ho_fI σ l4 [16] 0).bind fun v2 => if v2 = l6 then (ho_fR σ l4 [16] 1).bind fun v3 => if v3 = l1 then fn_J18_getNode_b134 l4 σ else if l1 = none then fn_J18_getNode_b137 (fn_J18_getNode_b99 n) l1 l4 l6 σ else ho_b2 (dp_J18_getNode_128 l1 v3 σ) fun v4 σ5 => if v4 = 0 then fn_J18_getNode_b137 (fn_J18_getNode_b99 n) l1 l4 l6 σ5 else fn_J18_getNode_b134 l4 σ5 else fn_J18_getNode_b137 (fn_J18_getNode_b99 n) l1 l4 l6 σ
def fn_J18_getNode_b71  (l1 : Option Nat) (l3 : Option Nat) (l6 : Int32) (σ : Hs) : Option (Option Nat × Hs) := (ho_fR σ l3 [16] 3).bind fun v6 => if v6 = none then fn_J18_getNode_b148  σ else (ho_io σ l3 [] [16]).bind fun v7 => if v7 = 0 then fn_J18_getNode_b99 fu_el l1 v6 l6 σ else none
def fn_J18_getNode (p0 : Option Nat) (p1 : Option Nat) (σ : Hs) : Option (Option Nat × Hs) := (ho_fR σ p0 [15] 0).bind fun v8 => if v8 = none then fn_J18_getNode_b148  σ else (ho_len σ v8).bind fun v9 => if v9 ≤ 0 then fn_J18_getNode_b148  σ else ho_b2 (fn_J18_hash p1 σ) fun v11 σ10 => (ho_aR σ10 v8 [3, 4, 5, 6, 7, 8] ((v9 - (1 : Int32)) &&& v11)).bind fun v12 => if v12 = none then fn_J18_getNode_b148  σ10 else (ho_fI σ10 v12 [16] 0).bind fun v13 => if v13 = v11 then (ho_fR σ10 v12 [16] 1).bind fun v14 => if v14 = p1 then fn_J18_getNode_b69 v12 σ10 else if p1 = none then fn_J18_getNode_b71 p1 v12 v11 σ10 else ho_b2 (dp_J18_getNode_63 p1 v14 σ10) fun v15 σ16 => if v15 = 0 then fn_J18_getNode_b71 p1 v12 v11 σ16 else fn_J18_getNode_b69 v12 σ16 else fn_J18_getNode_b71 p1 v12 v11 σ10
def fn_J18_containsKey_b13  (t0 : Int32) (σ : Hs) : Option (Int32 × Hs) := (ho_bool t0).bind fun v1 => some (v1, σ)
def fn_J18_containsKey (p0 : Option Nat) (p1 : Option Nat) (σ : Hs) : Option (Int32 × Hs) := (ho_is σ p0 [15]).bind fun b2 => ho_b2 (fn_J18_getNode p0 p1 σ) fun v4 σ3 => if v4 = none then fn_J18_containsKey_b13 (0 : Int32) σ3 else fn_J18_containsKey_b13 (1 : Int32) σ3
def fn_J19_afterNodeRemoval_b64  (σ : Hs) : Option Hs := some σ
def fn_J19_afterNodeRemoval_b45  (l0 : Option Nat) (l3 : Option Nat) (l4 : Option Nat) (σ : Hs) : Option Hs := if l4 = none then (ho_pR σ l0 [15] 9 l3).bind fun σ2 => fn_J19_afterNodeRemoval_b64  σ2 else (ho_pR σ l4 [16] 4 l3).bind fun σ1 => fn_J19_afterNodeRemoval_b64  σ1
def fn_J19_afterNodeRemoval (p0 : Option Nat) (p1 : Option Nat) (σ : Hs) : Option Hs := (ho_in σ p1 [16]).bind fun _ => (ho_fR σ p1 [16] 4).bind fun v4 => (ho_fR σ p1 [16] 5).bind fun v5 => (ho_pR σ p1 [16] 5 none).bind fun σ6 => (ho_pR σ6 p1 [16] 4 none).bind fun σ7 => if v4 = none then (ho_pR σ7 p0 [15] 8 v5).bind fun σ9 => fn_J19_afterNodeRemoval_b45 p0 v4 v5 σ9 else (ho_pR σ7 v4 [16] 5 v5).bind fun σ8 => fn_J19_afterNodeRemoval_b45 p0 v4 v5 σ8
def dp_J18_removeNode_200 (r : Option Nat) (a0 : Option Nat) (σ : Hs) : Option (Int32 × Hs) := if ho_k σ r = some 6 then fn_X7_equals r a0 σ else if ho_k σ r = some 12 then fn_X13_equals r a0 σ else none
def dp_J18_removeNode_143 (r : Option Nat) (a0 : Option Nat) (σ : Hs) : Option (Int32 × Hs) := if ho_k σ r = some 6 then fn_X7_equals r a0 σ else if ho_k σ r = some 12 then fn_X13_equals r a0 σ else none
def dp_J18_removeNode_68 (r : Option Nat) (a0 : Option Nat) (σ : Hs) : Option (Int32 × Hs) := if ho_k σ r = some 6 then fn_X7_equals r a0 σ else if ho_k σ r = some 12 then fn_X13_equals r a0 σ else none
def fn_J18_removeNode_b289  (σ : Hs) : Option (Option Nat × Hs) := some (none, σ)
def fn_J18_removeNode_b260  (l0 : Option Nat) (l10 : Option Nat) (σ : Hs) : Option (Option Nat × Hs) := (ho_fI σ l0 [15] 3).bind fun v1 => (ho_pI σ l0 [15] 3 (v1 + (1 : Int32))).bind fun σ2 => (ho_fI σ2 l0 [15] 2).bind fun v3 => (ho_pI σ2 l0 [15] 2 (v3 - (1 : Int32))).bind fun σ4 => (ho_is σ4 l0 [15]).bind fun b5 => (fn_J19_afterNodeRemoval l0 l10 σ4).bind fun σ6 => some (l10, σ6)
def fn_J18_removeNode_b206  (l0 : Option Nat) (l6 : Option Nat) (l7 : Option Nat) (l9 : Int32) (l10 : Option Nat) (σ : Hs) : Option (Option Nat × Hs) := (ho_io σ l10 [] [16]).bind fun v7 => if v7 = 0 then if l10 = l7 then (ho_fR σ l10 [16] 3).bind fun v10 => (ho_tO σ l6 8 [16] l9 v10).bind fun σ11 => fn_J18_removeNode_b260 l0 l10 σ11 else (ho_fR σ l10 [16] 3).bind fun v8 => (ho_pR σ l7 [16] 3 v8).bind fun σ9 => fn_J18_removeNode_b260 l0 l10 σ9 else none
def fn_J18_removeNode_b171  (l0 : Option Nat) (l3 : Option Nat) (l4 : Int32) (l6 : Option Nat) (l7 : Option Nat) (l9 : Int32) (l10 : Option Nat) (σ : Hs) : Option (Option Nat × Hs) := if l10 = none then fn_J18_removeNode_b289  σ else if l4 = 0 then fn_J18_removeNode_b206 l0 l6 l7 l9 l10 σ else (ho_fR σ l10 [16] 2).bind fun v12 => if v12 = l3 then fn_J18_removeNode_b206 l0 l6 l7 l9 l10 σ else if l3 = none then fn_J18_removeNode_b289  σ else ho_b2 (dp_J18_removeNode_200 l3 v12 σ) fun v13 σ14 => if v13 = 0 then fn_J18_removeNode_b289  σ14 else fn_J18_removeNode_b206 l0 l6 l7 l9 l10 σ14
def fn_J18_removeNode_b74  (l0 : Option Nat) (l3 : Option Nat) (l4 : Int32) (l6 : Option Nat) (l7 : Option Nat) (l9 : Int32) (σ : Hs) : Option (Option Nat × Hs) := fn_J18_removeNode_b171 l0 l3 l4 l6 l7 l9 l7 σ
def fn_J18_removeNode_b156  (k115 : Option Nat → Int32 → Option Nat → Option Nat → Int32 → Option Nat → Option Nat → Int32 → Option Nat → Option Nat → Hs → Option (Option Nat × Hs)) (l0 : Option Nat) (l1 : Int32) (l2 : Option Nat) (l3 : Option Nat) (l4 : Int32) (l6 : Option Nat) (l9 : Int32) (l10 : Option Nat) (l11 : Option Nat) (σ : Hs) : Option (Option Nat × Hs) := (ho_fR σ l11 [16] 3).bind fun v15 => if v15 = none then fn_J18_removeNode_b171 l0 l3 l4 l6 l11 l9 l10 σ else k115 l0 l1 l2 l3 l4 l6 l11 l9 l10 v15 σ
def fn_J18_removeNode_b149  (l0 : Option Nat) (l3 : Option Nat) (l4 : Int32) (l6 : Option Nat) (l7 : Option Nat) (l9 : Int32) (l11 : Option Nat) (σ : Hs) : Option (Option Nat × Hs) := fn_J18_removeNode_b171 l0 l3 l4 l6 l7 l9 l11 σ
def fn_J18_removeNode_b115  : Nat → Option Nat → Int32 → Option Nat → Option Nat → Int32 → Option Nat → Option Nat → Int32 → Option Nat → Option Nat → Hs → Option (Option Nat × Hs)
  | 0, _, _, _, _, _, _, _, _, _, _, _ => none
  | n + 1, l0, l1, l2, l3, l4, l6, l7, l9, l10, l11, σ => (ho_fI σ l11 [16] 0).bind fun v16 => if v16 = l1 then (ho_fR σ l11 [16] 1).bind fun v17 => if v17 = l2 then fn_J18_removeNode_b149 l0 l3 l4 l6 l7 l9 l11 σ else if l2 = none then fn_J18_removeNode_b156 (fn_J18_removeNode_b115 n) l0 l1 l2 l3 l4 l6 l9 l10 l11 σ else ho_b2 (dp_J18_removeNode_143 l2 v17 σ) fun v18 σ19 => if v18 = 0 then fn_J18_removeNode_b156 (fn_J18_removeNode_b115 n) l0 l1 l2 l3 l4 l6 l9 l10 l11 σ19 else fn_J18_removeNode_b149 l0 l3 l4 l6 l7 l9 l11 σ19 else fn_J18_removeNode_b156 (fn_J18_removeNode_b115 n) l0 l1 l2 l3 l4 l6 l9 l10 l11 σ
def fn_J18_removeNode_b81  (l0 : Option Nat) (l1 : Int32) (l2 : Option Nat) (l3 : Option Nat) (l4 : Int32) (l6 : Option Nat) (l7 : Option Nat) (l9 : Int32) (l10 : Option Nat) (σ : Hs) : Option (Option Nat × Hs) := (ho_fR σ l7 [16] 3).bind fun v20 => if v20 = none then fn_J18_removeNode_b171 l0 l3 l4 l6 l7 l9 l10 σ else (ho_io σ l7 [] [16]).bind fun v21 => if v21 = 0 then fn_J18_removeNode_b115 fu_el l0 l1 l2 l3 l4 l6 l7 l9 l10 v20 σ else none
def fn_J18_removeNode (p0 : Option Nat) (p1 : Int32) (p2 : Option Nat) (p3 : Option Nat) (p4 : Int32) (p5 : Int32) (σ : Hs) : Option (Option Nat × Hs) := (ho_fR σ p0 [15] 0).bind fun v22 => if v22 = none then fn_J18_removeNode_b289  σ else (ho_len σ v22).bind fun v23 => if v23 ≤ 0 then fn_J18_removeNode_b289  σ else (some ((v23 - (1 : Int32)) &&& p1)).bind fun v24 => (ho_aR σ v22 [3, 4, 5, 6, 7, 8] ((v23 - (1 : Int32)) &&& p1)).bind fun v25 => if v25 = none then fn_J18_removeNode_b289  σ else (ho_fI σ v25 [16] 0).bind fun v26 => if v26 = p1 then (ho_fR σ v25 [16] 1).bind fun v27 => if v27 = p2 then fn_J18_removeNode_b74 p0 p3 p4 v22 v25 v24 σ else if p2 = none then fn_J18_removeNode_b81 p0 p1 p2 p3 p4 v22 v25 v24 none σ else ho_b2 (dp_J18_removeNode_68 p2 v27 σ) fun v28 σ29 => if v28 = 0 then fn_J18_removeNode_b81 p0 p1 p2 p3 p4 v22 v25 v24 none σ29 else fn_J18_removeNode_b74 p0 p3 p4 v22 v25 v24 σ29 else fn_J18_removeNode_b81 p0 p1 p2 p3 p4 v22 v25 v24 none σ
def fn_J18_remove_b25  (t0 : Option Nat) (σ : Hs) : Option (Option Nat × Hs) := some (t0, σ)
def fn_J18_remove (p0 : Option Nat) (p1 : Option Nat) (σ : Hs) : Option (Option Nat × Hs) := ho_b2 (fn_J18_hash p1 σ) fun v2 σ1 => (ho_is σ1 p0 [15]).bind fun b3 => ho_b2 (fn_J18_removeNode p0 v2 p1 none (0 : Int32) (1 : Int32) σ1) fun v5 σ4 => if v5 = none then fn_J18_remove_b25 none σ4 else (ho_fR σ4 v5 [16] 2).bind fun v6 => fn_J18_remove_b25 v6 σ4
def fn_J35_init_b30  (l0 : Option Nat) (l1 : Option Nat) (t0 : Option Nat) (t1 : Option Nat) (σ : Hs) : Option Hs := (ho_pR σ t0 [21, 22, 23] 0 t1).bind fun σ1 => (ho_fI σ1 l1 [15] 3).bind fun v2 => (ho_pI σ1 l0 [21, 22, 23] 2 v2).bind fun σ3 => (ho_pR σ3 l0 [21, 22, 23] 1 none).bind fun σ4 => some σ4
def fn_J35_init (p0 : Option Nat) (p1 : Option Nat) (p2 : Int32) (σ : Hs) : Option Hs := (ho_pR σ p0 [21, 22, 23] 4 p1).bind fun σ5 => p0.bind fun b6 => (ho_pZ σ5 p0 [21, 22, 23] 3 p2).bind fun σ7 => if p2 = 0 then (ho_fR σ7 p1 [15] 8).bind fun v8 => fn_J35_init_b30 p0 p1 p0 v8 σ7 else (ho_fR σ7 p1 [15] 9).bind fun v9 => fn_J35_init_b30 p0 p1 p0 v9 σ7
def fn_J35_hasNext_b12  (t0 : Int32) (σ : Hs) : Option (Int32 × Hs) := (ho_bool t0).bind fun v1 => some (v1, σ)
def fn_J35_hasNext (p0 : Option Nat) (σ : Hs) : Option (Int32 × Hs) := (ho_fR σ p0 [21, 22, 23] 0).bind fun v2 => if v2 = none then fn_J35_hasNext_b12 (0 : Int32) σ else fn_J35_hasNext_b12 (1 : Int32) σ
def fn_J35_nextNode_b63  (l1 : Option Nat) (t0 : Option Nat) (t1 : Option Nat) (σ : Hs) : Option (Option Nat × Hs) := (ho_pR σ t0 [21, 22, 23] 0 t1).bind fun σ1 => some (l1, σ1)
def fn_J35_nextNode (p0 : Option Nat) (σ : Hs) : Option (Option Nat × Hs) := (ho_fR σ p0 [21, 22, 23] 0).bind fun v2 => (ho_fR σ p0 [21, 22, 23] 4).bind fun v3 => (ho_fI σ v3 [15] 3).bind fun v4 => (ho_fI σ p0 [21, 22, 23] 2).bind fun v5 => if v4 = v5 then if v2 = none then none else (ho_pR σ p0 [21, 22, 23] 1 v2).bind fun σ6 => (ho_fI σ6 p0 [21, 22, 23] 3).bind fun v7 => if v7 = 0 then (ho_fR σ6 v2 [16] 5).bind fun v8 => fn_J35_nextNode_b63 v2 p0 v8 σ6 else (ho_fR σ6 v2 [16] 4).bind fun v9 => fn_J35_nextNode_b63 v2 p0 v9 σ6 else none
def fn_J37_init (p0 : Option Nat) (p1 : Option Nat) (p2 : Int32) (σ : Hs) : Option Hs := p0.bind fun b1 => (fn_J35_init p0 p1 p2 σ).bind fun σ2 => some σ2
def fn_J38_init (p0 : Option Nat) (p1 : Option Nat) (p2 : Int32) (σ : Hs) : Option Hs := p0.bind fun b1 => (fn_J35_init p0 p1 p2 σ).bind fun σ2 => some σ2
def fn_J36_init (p0 : Option Nat) (p1 : Option Nat) (p2 : Int32) (σ : Hs) : Option Hs := p0.bind fun b1 => (fn_J35_init p0 p1 p2 σ).bind fun σ2 => some σ2
def fn_J37_next (p0 : Option Nat) (σ : Hs) : Option (Option Nat × Hs) := (ho_is σ p0 [21]).bind fun b1 => ho_b2 (fn_J35_nextNode p0 σ) fun v3 σ2 => (ho_is σ2 v3 [16]).bind fun b4 => ho_b2 (fn_J25_getKey v3 σ2) fun v6 σ5 => some (v6, σ5)
def fn_J38_next (p0 : Option Nat) (σ : Hs) : Option (Option Nat × Hs) := (ho_is σ p0 [22]).bind fun b1 => ho_b2 (fn_J35_nextNode p0 σ) fun v3 σ2 => (ho_fR σ2 v3 [16] 2).bind fun v4 => some (v4, σ2)
def fn_J36_next_2 (p0 : Option Nat) (σ : Hs) : Option (Option Nat × Hs) := (ho_is σ p0 [23]).bind fun b1 => ho_b2 (fn_J35_nextNode p0 σ) fun v3 σ2 => some (v3, σ2)
def fn_J36_next (p0 : Option Nat) (σ : Hs) : Option (Option Nat × Hs) := (ho_is σ p0 [23]).bind fun b1 => ho_b2 (fn_J36_next_2 p0 σ) fun v3 σ2 => some (v3, σ2)
def fn_J31_init (p0 : Option Nat) (p1 : Option Nat) (p2 : Int32) (σ : Hs) : Option Hs := (ho_pR σ p0 [18] 1 p1).bind fun σ1 => p0.bind fun b2 => (fn_J0_init p0 σ1).bind fun σ3 => (ho_pZ σ3 p0 [18] 0 p2).bind fun σ4 => some σ4
def fn_J41_init (p0 : Option Nat) (p1 : Option Nat) (p2 : Int32) (σ : Hs) : Option Hs := (ho_pR σ p0 [19] 1 p1).bind fun σ1 => p0.bind fun b2 => (fn_J39_init p0 σ1).bind fun σ3 => (ho_pZ σ3 p0 [19] 0 p2).bind fun σ4 => some σ4
def fn_J52_init (p0 : Option Nat) (p1 : Option Nat) (p2 : Int32) (σ : Hs) : Option Hs := (ho_pR σ p0 [20] 1 p1).bind fun σ1 => p0.bind fun b2 => (fn_J39_init p0 σ1).bind fun σ3 => (ho_pZ σ3 p0 [20] 0 p2).bind fun σ4 => some σ4
def fn_J31_iterator (p0 : Option Nat) (σ : Hs) : Option (Option Nat × Hs) := ho_b2 (ho_new σ (.inr (22, [.null, .null, .int 0, .int 0, .null])) 5) fun v1 σ2 => (ho_fR σ2 p0 [18] 1).bind fun v3 => (ho_fI σ2 p0 [18] 0).bind fun v4 => v1.bind fun b5 => (fn_J38_init v1 v3 v4 σ2).bind fun σ6 => some (v1, σ6)
def fn_J41_iterator (p0 : Option Nat) (σ : Hs) : Option (Option Nat × Hs) := ho_b2 (ho_new σ (.inr (21, [.null, .null, .int 0, .int 0, .null])) 5) fun v1 σ2 => (ho_fR σ2 p0 [19] 1).bind fun v3 => (ho_fI σ2 p0 [19] 0).bind fun v4 => v1.bind fun b5 => (fn_J37_init v1 v3 v4 σ2).bind fun σ6 => some (v1, σ6)
def fn_J52_iterator (p0 : Option Nat) (σ : Hs) : Option (Option Nat × Hs) := ho_b2 (ho_new σ (.inr (23, [.null, .null, .int 0, .int 0, .null])) 5) fun v1 σ2 => (ho_fR σ2 p0 [20] 1).bind fun v3 => (ho_fI σ2 p0 [20] 0).bind fun v4 => v1.bind fun b5 => (fn_J36_init v1 v3 v4 σ2).bind fun σ6 => some (v1, σ6)
def fn_J41_size (p0 : Option Nat) (σ : Hs) : Option (Int32 × Hs) := (ho_fR σ p0 [19] 1).bind fun v1 => (ho_fI σ v1 [15] 2).bind fun v2 => some (v2, σ)
def fn_J52_size (p0 : Option Nat) (σ : Hs) : Option (Int32 × Hs) := (ho_fR σ p0 [20] 1).bind fun v1 => (ho_fI σ v1 [15] 2).bind fun v2 => some (v2, σ)
def fn_J19_sequencedValues (p0 : Option Nat) (σ : Hs) : Option (Option Nat × Hs) := (ho_fR σ p0 [15] 7).bind fun v1 => if v1 = none then ho_b2 (ho_new σ (.inr (18, [.int 0, .null])) 2) fun v3 σ4 => v3.bind fun b5 => (fn_J31_init v3 p0 (0 : Int32) σ4).bind fun σ6 => (ho_pR σ6 p0 [15] 7 v3).bind fun σ7 => some (v3, σ7) else (ho_in σ v1 [13, 17, 18, 19, 20, 24]).bind fun _ => some (v1, σ)
def fn_J19_values (p0 : Option Nat) (σ : Hs) : Option (Option Nat × Hs) := (ho_is σ p0 [15]).bind fun b1 => ho_b2 (fn_J19_sequencedValues p0 σ) fun v3 σ2 => some (v3, σ2)
def fn_J19_sequencedKeySet (p0 : Option Nat) (σ : Hs) : Option (Option Nat × Hs) := (ho_fR σ p0 [15] 6).bind fun v1 => if v1 = none then ho_b2 (ho_new σ (.inr (19, [.int 0, .null])) 2) fun v3 σ4 => v3.bind fun b5 => (fn_J41_init v3 p0 (0 : Int32) σ4).bind fun σ6 => (ho_pR σ6 p0 [15] 6 v3).bind fun σ7 => some (v3, σ7) else (ho_in σ v1 [19, 20, 24]).bind fun _ => some (v1, σ)
def fn_J19_keySet (p0 : Option Nat) (σ : Hs) : Option (Option Nat × Hs) := (ho_is σ p0 [15]).bind fun b1 => ho_b2 (fn_J19_sequencedKeySet p0 σ) fun v3 σ2 => some (v3, σ2)
def fn_J19_sequencedEntrySet (p0 : Option Nat) (σ : Hs) : Option (Option Nat × Hs) := (ho_fR σ p0 [15] 1).bind fun v1 => if v1 = none then ho_b2 (ho_new σ (.inr (20, [.int 0, .null])) 2) fun v3 σ4 => v3.bind fun b5 => (fn_J52_init v3 p0 (0 : Int32) σ4).bind fun σ6 => (ho_pR σ6 p0 [15] 1 v3).bind fun σ7 => some (v3, σ7) else (ho_in σ v1 [19, 20, 24]).bind fun _ => some (v1, σ)
def fn_J19_entrySet (p0 : Option Nat) (σ : Hs) : Option (Option Nat × Hs) := (ho_is σ p0 [15]).bind fun b1 => ho_b2 (fn_J19_sequencedEntrySet p0 σ) fun v3 σ2 => some (v3, σ2)
def fn_J18_putMapEntries_b169  (σ : Hs) : Option Hs := some σ
def fn_J18_putMapEntries_b110  : Nat → Option Nat → Int32 → Option Nat → Hs → Option Hs
  | 0, _, _, _, _ => none
  | n + 1, l0, l2, l4, σ => (ho_is σ l4 [23]).bind fun b1 => ho_b2 (fn_J35_hasNext l4 σ) fun v3 σ2 => if v3 = 0 then fn_J18_putMapEntries_b169  σ2 else (ho_is σ2 l4 [23]).bind fun b4 => ho_b2 (fn_J36_next l4 σ2) fun v6 σ5 => (ho_in σ5 v6 [16]).bind fun _ => (ho_is σ5 v6 [16]).bind fun b8 => ho_b2 (fn_J25_getKey v6 σ5) fun v10 σ9 => (ho_is σ9 v6 [16]).bind fun b11 => ho_b2 (fn_J25_getValue v6 σ9) fun v13 σ12 => ho_b2 (fn_J18_hash v10 σ12) fun v15 σ14 => (ho_is σ14 l0 [15]).bind fun b16 => ho_b2 (fn_J18_putVal l0 v15 v10 v13 (0 : Int32) l2 σ14) fun v18 σ17 => fn_J18_putMapEntries_b110 n l0 l2 l4 σ17
def fn_J18_putMapEntries_b97  (l0 : Option Nat) (l1 : Option Nat) (l2 : Int32) (σ : Hs) : Option Hs := (ho_is σ l1 [15]).bind fun b19 => ho_b2 (fn_J19_entrySet l1 σ) fun v21 σ20 => (ho_is σ20 v21 [20]).bind fun b22 => ho_b2 (fn_J52_iterator v21 σ20) fun v24 σ23 => fn_J18_putMapEntries_b110 fu_el l0 l2 v24 σ23
def fn_J18_putMapEntries_b71  : Nat → Option Nat → Option Nat → Int32 → Int32 → Hs → Option Hs
  | 0, _, _, _, _, _ => none
  | n + 1, l0, l1, l2, l3, σ => (ho_fI σ l0 [15] 4).bind fun v25 => if l3 ≤ v25 then fn_J18_putMapEntries_b97 l0 l1 l2 σ else (ho_fR σ l0 [15] 0).bind fun v26 => (ho_len σ v26).bind fun v27 => if (1073741824 : Int32) ≤ v27 then fn_J18_putMapEntries_b97 l0 l1 l2 σ else (ho_is σ l0 [15]).bind fun b28 => ho_b2 (fn_J18_resize l0 σ) fun v30 σ29 => fn_J18_putMapEntries_b71 n l0 l1 l2 l3 σ29
def fn_J18_putMapEntries (p0 : Option Nat) (p1 : Option Nat) (p2 : Int32) (σ : Hs) : Option Hs := (ho_is σ p1 [15]).bind fun b31 => ho_b2 (fn_J18_size p1 σ) fun v33 σ32 => if v33 ≤ 0 then fn_J18_putMapEntries_b169  σ32 else (ho_fR σ32 p0 [15] 0).bind fun v34 => if v34 = none then (ho_fF σ32 p0 [15] 5).bind fun v35 => (ho_n64 (FP.f2d v35)).bind fun v36 => (ho_n64 (FP.ddiv (FP.i2d v33) v36)).bind fun v37 => none else fn_J18_putMapEntries_b71 fu_el p0 p1 p2 v33 σ32
def fn_J18_putAll (p0 : Option Nat) (p1 : Option Nat) (σ : Hs) : Option Hs := (ho_is σ p0 [15]).bind fun b1 => (fn_J18_putMapEntries p0 p1 (1 : Int32) σ).bind fun σ2 => some σ2
def fn_J44_init (p0 : Option Nat) (p1 : Int32) (p2 : UInt32) (p3 : Int32) (σ : Hs) : Option Hs := p0.bind fun b1 => (fn_J39_init p0 σ).bind fun σ2 => ho_b2 (ho_new σ2 (.inr (15, [.null, .null, .int 0, .int 0, .int 0, .float 0, .null, .null, .null, .null, .int 0, .int 0])) 12) fun v3 σ4 => v3.bind fun b5 => (fn_J19_init_2 v3 p1 p2 σ4).bind fun σ6 => (ho_pR σ6 p0 [24] 0 v3).bind fun σ7 => some σ7
def fn_J45_init (p0 : Option Nat) (σ : Hs) : Option Hs := p0.bind fun b1 => (fn_J44_init p0 (16 : Int32) (1061158912 : UInt32) (1 : Int32) σ).bind fun σ2 => some σ2
def fn_J44_add_b19 (ev : Nat → Option Nat)  (t0 : Int32) (σ : Hs) : Option (Int32 × Hs) := (ho_bool t0).bind fun v1 => some (v1, σ)
def fn_J44_add (ev : Nat → Option Nat) (p0 : Option Nat) (p1 : Option Nat) (σ : Hs) : Option (Int32 × Hs) := (ho_fR σ p0 [24] 0).bind fun v2 => (ho_is σ v2 [15]).bind fun b3 => ho_b2 (fn_J18_put v2 p1 (ev 7) σ) fun v5 σ4 => if v5 = none then fn_J44_add_b19 ev (1 : Int32) σ4 else fn_J44_add_b19 ev (0 : Int32) σ4
def fn_J44_size (p0 : Option Nat) (σ : Hs) : Option (Int32 × Hs) := (ho_fR σ p0 [24] 0).bind fun v1 => (ho_is σ v1 [15]).bind fun b2 => ho_b2 (fn_J18_size v1 σ) fun v4 σ3 => some (v4, σ3)
def fn_J44_iterator (p0 : Option Nat) (σ : Hs) : Option (Option Nat × Hs) := (ho_fR σ p0 [24] 0).bind fun v1 => (ho_is σ v1 [15]).bind fun b2 => ho_b2 (fn_J19_keySet v1 σ) fun v4 σ3 => (ho_is σ3 v4 [19]).bind fun b5 => ho_b2 (fn_J41_iterator v4 σ3) fun v7 σ6 => some (v7, σ6)
theorem cx_J18_34 : cxS "java/util/HashMap" 34 yJ16_numberOfLeadingZeros cJ16_numberOfLeadingZeros 2 (Option.some FieldType.int) 1 := ⟨q1818, q1379, q122, q1380, ⟨by decide +kernel, by decide +kernel⟩, fun sig h => by have e := (show (parseMethodDescriptor (yJ16_numberOfLeadingZeros).desc).map (fun d => d.parameters.length) = some 1 by decide +kernel); rw [h] at e; exact (Option.some.inj e).symm⟩
theorem cx_J51_66 : cxS "java/lang/StrictMath" 66 yJ12_getExponent cJ12_getExponent 2 (Option.some FieldType.int) 1 := ⟨q2501, q2502, q116, q2503, ⟨by decide +kernel, by decide +kernel⟩, fun sig h => by have e := (show (parseMethodDescriptor (yJ12_getExponent).desc).map (fun d => d.parameters.length) = some 1 by decide +kernel); rw [h] at e; exact (Option.some.inj e).symm⟩
theorem sx_J51_70 : sx "java/lang/StrictMath" 70 13 := ⟨_, Or.inl q2509, rfl⟩
theorem cx_J51_60 : cxS "java/lang/StrictMath" 60 yJ51_floorOrCeil cJ51_floorOrCeil 15 (Option.some FieldType.double) 4 := ⟨q2498, q2499, q170, q2500, ⟨by decide +kernel, by decide +kernel⟩, fun sig h => by have e := (show (parseMethodDescriptor (yJ51_floorOrCeil).desc).map (fun d => d.parameters.length) = some 4 by decide +kernel); rw [h] at e; exact (Option.some.inj e).symm⟩
theorem px_J25_7 : px "java/util/HashMap$Node" 7 [16] 0 (.int) true := ⟨"java/util/HashMap$Node", "java/util/HashMap$Node", "hash", "I", ⟨Or.inl q2015, Or.inl rfl⟩, px_c (r := (RJ26, TJ26, 6)) (Nat.le_of_ble_eq_true rfl) rfl (Nat.le_of_ble_eq_true rfl) rfl (px_0), by decide +kernel, fun _ => ⟨rfl, q2015⟩⟩
theorem px_J25_13 : px "java/util/HashMap$Node" 13 [16] 1 (.object "java/lang/Object") true := ⟨"java/util/HashMap$Node", "java/util/HashMap$Node", "key", "Ljava/lang/Object;", ⟨Or.inl q2021, Or.inl rfl⟩, px_c (r := (RJ26, TJ26, 6)) (Nat.le_of_ble_eq_true rfl) rfl (Nat.le_of_ble_eq_true rfl) rfl (px_0), by decide +kernel, fun _ => ⟨rfl, q2021⟩⟩
theorem px_J25_17 : px "java/util/HashMap$Node" 17 [16] 2 (.object "java/lang/Object") false := ⟨"java/util/HashMap$Node", "java/util/HashMap$Node", "value", "Ljava/lang/Object;", ⟨Or.inl q2028, Or.inl rfl⟩, px_c (r := (RJ26, TJ26, 6)) (Nat.le_of_ble_eq_true rfl) rfl (Nat.le_of_ble_eq_true rfl) rfl (px_0), by decide +kernel, fun h => by cases h⟩
theorem px_J25_20 : px "java/util/HashMap$Node" 20 [16] 3 (.object "java/util/HashMap$Node") false := ⟨"java/util/HashMap$Node", "java/util/HashMap$Node", "next", "Ljava/util/HashMap$Node;", ⟨Or.inl q2033, Or.inl rfl⟩, px_c (r := (RJ26, TJ26, 6)) (Nat.le_of_ble_eq_true rfl) rfl (Nat.le_of_ble_eq_true rfl) rfl (px_0), by decide +kernel, fun h => by cases h⟩
theorem fx_J25_13 : fx "java/util/HashMap$Node" 13 [16] 1 := ⟨"java/util/HashMap$Node", "java/util/HashMap$Node", "key", "Ljava/lang/Object;", ⟨Or.inl q2021, Or.inl rfl⟩, fx_c (r := (RJ26, TJ26, 6)) (Nat.le_of_ble_eq_true rfl) rfl (Nat.le_of_ble_eq_true rfl) rfl rfl rfl (fx_0)⟩
theorem fx_J25_17 : fx "java/util/HashMap$Node" 17 [16] 2 := ⟨"java/util/HashMap$Node", "java/util/HashMap$Node", "value", "Ljava/lang/Object;", ⟨Or.inl q2028, Or.inl rfl⟩, fx_c (r := (RJ26, TJ26, 6)) (Nat.le_of_ble_eq_true rfl) rfl (Nat.le_of_ble_eq_true rfl) rfl rfl rfl (fx_0)⟩
theorem cx_J26_1 : cxI "java/util/LinkedHashMap$Entry" 1 yJ25_init cJ25_init 5 4 := ⟨q2007, q2008, q138, q2009, ⟨by decide +kernel, by decide +kernel⟩, rfl, fun sig h => by have e := (show (parseMethodDescriptor (yJ25_init).desc).map (fun d => d.parameters.length) = some 4 by decide +kernel); rw [h] at e; exact (Option.some.inj e).symm⟩
theorem cx_J18_43 : cxI "java/util/HashMap" 43 yJ17_init cJ17_init 1 0 := ⟨q547, q548, q123, q549, ⟨by decide +kernel, by decide +kernel⟩, rfl, fun sig h => by have e := (show (parseMethodDescriptor (yJ17_init).desc).map (fun d => d.parameters.length) = some 0 by decide +kernel); rw [h] at e; exact (Option.some.inj e).symm⟩
theorem px_J18_81 : px "java/util/HashMap" 81 [15] 5 (.float) true := ⟨"java/util/HashMap", "java/util/HashMap", "loadFactor", "F", ⟨Or.inl q574, Or.inl rfl⟩, px_c (r := (RJ19, TJ19, 12)) (Nat.le_of_ble_eq_true rfl) rfl (Nat.le_of_ble_eq_true rfl) rfl (px_0), by decide +kernel, fun _ => ⟨rfl, q574⟩⟩
theorem cx_J19_87 : cxI "java/util/LinkedHashMap" 87 yJ18_init cJ18_init 1 0 := ⟨q544, q545, q124, q546, ⟨by decide +kernel, by decide +kernel⟩, rfl, fun sig h => by have e := (show (parseMethodDescriptor (yJ18_init).desc).map (fun d => d.parameters.length) = some 0 by decide +kernel); rw [h] at e; exact (Option.some.inj e).symm⟩
theorem px_J19_1 : px "java/util/LinkedHashMap" 1 [15] 11 (.int) false := ⟨"java/util/LinkedHashMap", "java/util/LinkedHashMap", "putMode", "I", ⟨Or.inl q557, Or.inl rfl⟩, px_c (r := (RJ19, TJ19, 12)) (Nat.le_of_ble_eq_true rfl) rfl (Nat.le_of_ble_eq_true rfl) rfl (px_0), by decide +kernel, fun h => by cases h⟩
theorem px_J19_64 : px "java/util/LinkedHashMap" 64 [15] 10 (.boolean) true := ⟨"java/util/LinkedHashMap", "java/util/LinkedHashMap", "accessOrder", "Z", ⟨Or.inl q556, Or.inl rfl⟩, px_c (r := (RJ19, TJ19, 12)) (Nat.le_of_ble_eq_true rfl) rfl (Nat.le_of_ble_eq_true rfl) rfl (px_0), by decide +kernel, fun _ => ⟨rfl, q556⟩⟩
theorem cx_J18_70 : cxS "java/util/HashMap" 70 yJ46_isNaN cJ46_isNaN 1 (Option.some FieldType.boolean) 1 := ⟨q1330, q1331, q164, q1332, ⟨by decide +kernel, by decide +kernel⟩, fun sig h => by have e := (show (parseMethodDescriptor (yJ46_isNaN).desc).map (fun d => d.parameters.length) = some 1 by decide +kernel); rw [h] at e; exact (Option.some.inj e).symm⟩
theorem cx_J18_85 : cxS "java/util/HashMap" 85 yJ18_tableSizeFor cJ18_tableSizeFor 2 (Option.some FieldType.int) 1 := ⟨q1815, q1816, q124, q1817, ⟨by decide +kernel, by decide +kernel⟩, fun sig h => by have e := (show (parseMethodDescriptor (yJ18_tableSizeFor).desc).map (fun d => d.parameters.length) = some 1 by decide +kernel); rw [h] at e; exact (Option.some.inj e).symm⟩
theorem px_J18_88 : px "java/util/HashMap" 88 [15] 4 (.int) false := ⟨"java/util/HashMap", "java/util/HashMap", "threshold", "I", ⟨Or.inl q573, Or.inl rfl⟩, px_c (r := (RJ19, TJ19, 12)) (Nat.le_of_ble_eq_true rfl) rfl (Nat.le_of_ble_eq_true rfl) rfl (px_0), by decide +kernel, fun h => by cases h⟩
theorem cx_J19_81 : cxI "java/util/LinkedHashMap" 81 yJ18_init_2 cJ18_init_2 3 2 := ⟨q1318, q1319, q124, q1320, ⟨by decide +kernel, by decide +kernel⟩, rfl, fun sig h => by have e := (show (parseMethodDescriptor (yJ18_init_2).desc).map (fun d => d.parameters.length) = some 2 by decide +kernel); rw [h] at e; exact (Option.some.inj e).symm⟩
theorem fx_J18_156 : fx "java/util/HashMap" 156 [15] 2 := ⟨"java/util/HashMap", "java/util/HashMap", "size", "I", ⟨Or.inl q567, Or.inl rfl⟩, fx_c (r := (RJ19, TJ19, 12)) (Nat.le_of_ble_eq_true rfl) rfl (Nat.le_of_ble_eq_true rfl) rfl rfl rfl (fx_0)⟩
theorem cx_X7_9 : cxS "ElasticTruss$PairKey" 9 yJ12_min cJ12_min 2 (Option.some FieldType.int) 2 := ⟨q2902, q325, q116, q326, ⟨by decide +kernel, by decide +kernel⟩, fun sig h => by have e := (show (parseMethodDescriptor (yJ12_min).desc).map (fun d => d.parameters.length) = some 2 by decide +kernel); rw [h] at e; exact (Option.some.inj e).symm⟩
theorem px_X7_15 : px "ElasticTruss$PairKey" 15 [6] 0 (.int) true := ⟨"ElasticTruss$PairKey", "ElasticTruss$PairKey", "smaller", "I", ⟨Or.inl q2904, Or.inl rfl⟩, px_c (r := (RX7, TX7, 2)) (Nat.le_of_ble_eq_true rfl) rfl (Nat.le_of_ble_eq_true rfl) rfl (px_0), by decide +kernel, fun _ => ⟨rfl, q2904⟩⟩
theorem cx_X7_21 : cxS "ElasticTruss$PairKey" 21 yJ12_max cJ12_max 2 (Option.some FieldType.int) 2 := ⟨q2903, q307, q116, q308, ⟨by decide +kernel, by decide +kernel⟩, fun sig h => by have e := (show (parseMethodDescriptor (yJ12_max).desc).map (fun d => d.parameters.length) = some 2 by decide +kernel); rw [h] at e; exact (Option.some.inj e).symm⟩
theorem px_X7_24 : px "ElasticTruss$PairKey" 24 [6] 1 (.int) true := ⟨"ElasticTruss$PairKey", "ElasticTruss$PairKey", "greater", "I", ⟨Or.inl q2905, Or.inl rfl⟩, px_c (r := (RX7, TX7, 2)) (Nat.le_of_ble_eq_true rfl) rfl (Nat.le_of_ble_eq_true rfl) rfl (px_0), by decide +kernel, fun _ => ⟨rfl, q2905⟩⟩
theorem fx_X7_15 : fx "ElasticTruss$PairKey" 15 [6] 0 := ⟨"ElasticTruss$PairKey", "ElasticTruss$PairKey", "smaller", "I", ⟨Or.inl q2904, Or.inl rfl⟩, fx_c (r := (RX7, TX7, 2)) (Nat.le_of_ble_eq_true rfl) rfl (Nat.le_of_ble_eq_true rfl) rfl rfl rfl (fx_0)⟩
theorem fx_X7_24 : fx "ElasticTruss$PairKey" 24 [6] 1 := ⟨"ElasticTruss$PairKey", "ElasticTruss$PairKey", "greater", "I", ⟨Or.inl q2905, Or.inl rfl⟩, fx_c (r := (RX7, TX7, 2)) (Nat.le_of_ble_eq_true rfl) rfl (Nat.le_of_ble_eq_true rfl) rfl rfl rfl (fx_0)⟩
theorem rx_6 : rx 6 "ElasticTruss$PairKey" := Or.inl ⟨(Nat.le_of_ble_eq_true rfl), (RX7, TX7, 2), rfl, rfl⟩
theorem px_X13_9 : px "ElasticTruss$Failure" 9 [12] 0 (.int) true := ⟨"ElasticTruss$Failure", "ElasticTruss$Failure", "stage", "I", ⟨Or.inl q1835, Or.inl rfl⟩, px_c (r := (RX13, TX13, 2)) (Nat.le_of_ble_eq_true rfl) rfl (Nat.le_of_ble_eq_true rfl) rfl (px_0), by decide +kernel, fun _ => ⟨rfl, q1835⟩⟩
theorem px_X13_15 : px "ElasticTruss$Failure" 15 [12] 1 (.int) true := ⟨"ElasticTruss$Failure", "ElasticTruss$Failure", "member", "I", ⟨Or.inl q1837, Or.inl rfl⟩, px_c (r := (RX13, TX13, 2)) (Nat.le_of_ble_eq_true rfl) rfl (Nat.le_of_ble_eq_true rfl) rfl (px_0), by decide +kernel, fun _ => ⟨rfl, q1837⟩⟩
theorem fx_X13_9 : fx "ElasticTruss$Failure" 9 [12] 0 := ⟨"ElasticTruss$Failure", "ElasticTruss$Failure", "stage", "I", ⟨Or.inl q1835, Or.inl rfl⟩, fx_c (r := (RX13, TX13, 2)) (Nat.le_of_ble_eq_true rfl) rfl (Nat.le_of_ble_eq_true rfl) rfl rfl rfl (fx_0)⟩
theorem fx_X13_15 : fx "ElasticTruss$Failure" 15 [12] 1 := ⟨"ElasticTruss$Failure", "ElasticTruss$Failure", "member", "I", ⟨Or.inl q1837, Or.inl rfl⟩, fx_c (r := (RX13, TX13, 2)) (Nat.le_of_ble_eq_true rfl) rfl (Nat.le_of_ble_eq_true rfl) rfl rfl rfl (fx_0)⟩
theorem rx_12 : rx 12 "ElasticTruss$Failure" := Or.inl ⟨(Nat.le_of_ble_eq_true rfl), (RX13, TX13, 2), rfl, rfl⟩
theorem cx_J18_1_6 : cxU "java/util/HashMap" "ElasticTruss$PairKey" "java/lang/Object" 1 ⟨"java/lang/Object", "hashCode", "()I"⟩ yX7_hashCode cX7_hashCode 1 (Option.some FieldType.int) 0 := ⟨q1873, q1875, Or.inl (lw_n q1872 rfl), by decide +kernel, q1898, q1899, q132, q1900, fun sig h => by have e := (show (parseMethodDescriptor (⟨"java/lang/Object", "hashCode", "()I"⟩ : MethodName).desc).map (fun d => d.parameters.length) = some 0 by decide +kernel); rw [h] at e; exact (Option.some.inj e).symm⟩
theorem cx_J18_1_12 : cxU "java/util/HashMap" "ElasticTruss$Failure" "java/lang/Object" 1 ⟨"java/lang/Object", "hashCode", "()I"⟩ yX13_hashCode cX13_hashCode 1 (Option.some FieldType.int) 0 := ⟨q1873, q1875, Or.inl (lw_n q1872 rfl), by decide +kernel, q1879, q1880, q169, q1881, fun sig h => by have e := (show (parseMethodDescriptor (⟨"java/lang/Object", "hashCode", "()I"⟩ : MethodName).desc).map (fun d => d.parameters.length) = some 0 by decide +kernel); rw [h] at e; exact (Option.some.inj e).symm⟩
theorem fx_J19_1 : fx "java/util/LinkedHashMap" 1 [15] 11 := ⟨"java/util/LinkedHashMap", "java/util/LinkedHashMap", "putMode", "I", ⟨Or.inl q557, Or.inl rfl⟩, fx_c (r := (RJ19, TJ19, 12)) (Nat.le_of_ble_eq_true rfl) rfl (Nat.le_of_ble_eq_true rfl) rfl rfl rfl (fx_0)⟩
theorem fx_J19_11 : fx "java/util/LinkedHashMap" 11 [15] 9 := ⟨"java/util/LinkedHashMap", "java/util/LinkedHashMap", "tail", "Ljava/util/LinkedHashMap$Entry;", ⟨Or.inl q555, Or.inl rfl⟩, fx_c (r := (RJ19, TJ19, 12)) (Nat.le_of_ble_eq_true rfl) rfl (Nat.le_of_ble_eq_true rfl) rfl rfl rfl (fx_0)⟩
theorem px_J19_11 : px "java/util/LinkedHashMap" 11 [15] 9 (.object "java/util/LinkedHashMap$Entry") false := ⟨"java/util/LinkedHashMap", "java/util/LinkedHashMap", "tail", "Ljava/util/LinkedHashMap$Entry;", ⟨Or.inl q555, Or.inl rfl⟩, px_c (r := (RJ19, TJ19, 12)) (Nat.le_of_ble_eq_true rfl) rfl (Nat.le_of_ble_eq_true rfl) rfl (px_0), by decide +kernel, fun h => by cases h⟩
theorem px_J19_19 : px "java/util/LinkedHashMap" 19 [16] 4 (.object "java/util/LinkedHashMap$Entry") false := ⟨"java/util/LinkedHashMap$Entry", "java/util/LinkedHashMap$Entry", "before", "Ljava/util/LinkedHashMap$Entry;", ⟨Or.inl q2011, Or.inl rfl⟩, px_c (r := (RJ26, TJ26, 6)) (Nat.le_of_ble_eq_true rfl) rfl (Nat.le_of_ble_eq_true rfl) rfl (px_0), by decide +kernel, fun h => by cases h⟩
theorem px_J19_14 : px "java/util/LinkedHashMap" 14 [16] 5 (.object "java/util/LinkedHashMap$Entry") false := ⟨"java/util/LinkedHashMap$Entry", "java/util/LinkedHashMap$Entry", "after", "Ljava/util/LinkedHashMap$Entry;", ⟨Or.inl q2013, Or.inl rfl⟩, px_c (r := (RJ26, TJ26, 6)) (Nat.le_of_ble_eq_true rfl) rfl (Nat.le_of_ble_eq_true rfl) rfl (px_0), by decide +kernel, fun h => by cases h⟩
theorem px_J19_7 : px "java/util/LinkedHashMap" 7 [15] 8 (.object "java/util/LinkedHashMap$Entry") false := ⟨"java/util/LinkedHashMap", "java/util/LinkedHashMap", "head", "Ljava/util/LinkedHashMap$Entry;", ⟨Or.inl q552, Or.inl rfl⟩, px_c (r := (RJ19, TJ19, 12)) (Nat.le_of_ble_eq_true rfl) rfl (Nat.le_of_ble_eq_true rfl) rfl (px_0), by decide +kernel, fun h => by cases h⟩
theorem fx_J19_7 : fx "java/util/LinkedHashMap" 7 [15] 8 := ⟨"java/util/LinkedHashMap", "java/util/LinkedHashMap", "head", "Ljava/util/LinkedHashMap$Entry;", ⟨Or.inl q552, Or.inl rfl⟩, fx_c (r := (RJ19, TJ19, 12)) (Nat.le_of_ble_eq_true rfl) rfl (Nat.le_of_ble_eq_true rfl) rfl rfl rfl (fx_0)⟩
theorem nx_J19_15 : nx "java/util/LinkedHashMap" 15 16 6 [.int 0, .null, .null, .null, .null, .null] := ⟨(Nat.le_of_ble_eq_true rfl), rfl, RJ26, TJ26, tyJ26, rfl, rfl, q2002, q2003, q139, by
  intro j hj
  match j, hj with
  | 0, _ => rfl
  | 1, _ => rfl
  | 2, _ => rfl
  | 3, _ => rfl
  | 4, _ => rfl
  | 5, _ => rfl
  | j + 6, hj => omega⟩
theorem cx_J19_28 : cxI "java/util/LinkedHashMap" 28 yJ26_init cJ26_init 5 4 := ⟨q2004, q2005, q139, q2006, ⟨by decide +kernel, by decide +kernel⟩, rfl, fun sig h => by have e := (show (parseMethodDescriptor (yJ26_init).desc).map (fun d => d.parameters.length) = some 4 by decide +kernel); rw [h] at e; exact (Option.some.inj e).symm⟩
theorem cx_J19_32 : cxV "java/util/LinkedHashMap" "java/util/LinkedHashMap" 32 yJ19_linkNodeAtEnd cJ19_linkNodeAtEnd 3 (Option.none : Option FieldType) 1 := ⟨q2304, q2306, qs18, q125, q2307, ⟨by decide +kernel, by decide +kernel⟩, fun sig h => by have e := (show (parseMethodDescriptor (yJ19_linkNodeAtEnd).desc).map (fun d => d.parameters.length) = some 1 by decide +kernel); rw [h] at e; exact (Option.some.inj e).symm⟩
theorem rx_15 : rx 15 "java/util/LinkedHashMap" := Or.inl ⟨(Nat.le_of_ble_eq_true rfl), (RJ19, TJ19, 12), rfl, rfl⟩
theorem fx_J19_68 : fx "java/util/LinkedHashMap" 68 [15] 3 := ⟨"java/util/LinkedHashMap", "java/util/HashMap", "modCount", "I", ⟨Or.inl q571, Or.inr q570⟩, fx_c (r := (RJ19, TJ19, 12)) (Nat.le_of_ble_eq_true rfl) rfl (Nat.le_of_ble_eq_true rfl) rfl rfl rfl (fx_0)⟩
theorem px_J19_68 : px "java/util/LinkedHashMap" 68 [15] 3 (.int) false := ⟨"java/util/LinkedHashMap", "java/util/HashMap", "modCount", "I", ⟨Or.inl q571, Or.inr q570⟩, px_c (r := (RJ19, TJ19, 12)) (Nat.le_of_ble_eq_true rfl) rfl (Nat.le_of_ble_eq_true rfl) rfl (px_0), by decide +kernel, fun h => by cases h⟩
theorem rx_16 : rx 16 "java/util/LinkedHashMap$Entry" := Or.inl ⟨(Nat.le_of_ble_eq_true rfl), (RJ26, TJ26, 6), rfl, rfl⟩
theorem fx_J19_19 : fx "java/util/LinkedHashMap" 19 [16] 4 := ⟨"java/util/LinkedHashMap$Entry", "java/util/LinkedHashMap$Entry", "before", "Ljava/util/LinkedHashMap$Entry;", ⟨Or.inl q2011, Or.inl rfl⟩, fx_c (r := (RJ26, TJ26, 6)) (Nat.le_of_ble_eq_true rfl) rfl (Nat.le_of_ble_eq_true rfl) rfl rfl rfl (fx_0)⟩
theorem fx_J19_14 : fx "java/util/LinkedHashMap" 14 [16] 5 := ⟨"java/util/LinkedHashMap$Entry", "java/util/LinkedHashMap$Entry", "after", "Ljava/util/LinkedHashMap$Entry;", ⟨Or.inl q2013, Or.inl rfl⟩, fx_c (r := (RJ26, TJ26, 6)) (Nat.le_of_ble_eq_true rfl) rfl (Nat.le_of_ble_eq_true rfl) rfl rfl rfl (fx_0)⟩
theorem fx_J19_64 : fx "java/util/LinkedHashMap" 64 [15] 10 := ⟨"java/util/LinkedHashMap", "java/util/LinkedHashMap", "accessOrder", "Z", ⟨Or.inl q556, Or.inl rfl⟩, fx_c (r := (RJ19, TJ19, 12)) (Nat.le_of_ble_eq_true rfl) rfl (Nat.le_of_ble_eq_true rfl) rfl rfl rfl (fx_0)⟩
theorem cx_J19_53 : cxV "java/util/LinkedHashMap" "java/util/LinkedHashMap" 53 yJ19_removeEldestEntry cJ19_removeEldestEntry 2 (Option.some FieldType.boolean) 1 := ⟨q2431, q2432, q2433, q125, q2434, ⟨by decide +kernel, by decide +kernel⟩, fun sig h => by have e := (show (parseMethodDescriptor (yJ19_removeEldestEntry).desc).map (fun d => d.parameters.length) = some 1 by decide +kernel); rw [h] at e; exact (Option.some.inj e).symm⟩
theorem fx_J19_39 : fx "java/util/LinkedHashMap" 39 [16] 1 := ⟨"java/util/LinkedHashMap$Entry", "java/util/HashMap$Node", "key", "Ljava/lang/Object;", ⟨Or.inl q2025, Or.inr q2026⟩, fx_c (r := (RJ26, TJ26, 6)) (Nat.le_of_ble_eq_true rfl) rfl (Nat.le_of_ble_eq_true rfl) rfl rfl rfl (fx_0)⟩
theorem px_J18_177 : px "java/util/HashMap" 177 [16] 3 (.object "java/util/HashMap$Node") false := ⟨"java/util/HashMap$Node", "java/util/HashMap$Node", "next", "Ljava/util/HashMap$Node;", ⟨Or.inl q2038, Or.inl rfl⟩, px_c (r := (RJ26, TJ26, 6)) (Nat.le_of_ble_eq_true rfl) rfl (Nat.le_of_ble_eq_true rfl) rfl (px_0), by decide +kernel, fun h => by cases h⟩
theorem fx_J18_177 : fx "java/util/HashMap" 177 [16] 3 := ⟨"java/util/HashMap$Node", "java/util/HashMap$Node", "next", "Ljava/util/HashMap$Node;", ⟨Or.inl q2038, Or.inl rfl⟩, fx_c (r := (RJ26, TJ26, 6)) (Nat.le_of_ble_eq_true rfl) rfl (Nat.le_of_ble_eq_true rfl) rfl rfl rfl (fx_0)⟩
theorem fx_J18_168 : fx "java/util/HashMap" 168 [16] 0 := ⟨"java/util/HashMap$Node", "java/util/HashMap$Node", "hash", "I", ⟨Or.inl q2020, Or.inl rfl⟩, fx_c (r := (RJ26, TJ26, 6)) (Nat.le_of_ble_eq_true rfl) rfl (Nat.le_of_ble_eq_true rfl) rfl rfl rfl (fx_0)⟩
theorem px_J18_105 : px "java/util/HashMap" 105 [15] 0 (.array (.object "java/util/HashMap$Node")) false := ⟨"java/util/HashMap", "java/util/HashMap", "table", "[Ljava/util/HashMap$Node;", ⟨Or.inl q559, Or.inl rfl⟩, px_c (r := (RJ19, TJ19, 12)) (Nat.le_of_ble_eq_true rfl) rfl (Nat.le_of_ble_eq_true rfl) rfl (px_0), by decide +kernel, fun h => by cases h⟩
theorem fx_J18_81 : fx "java/util/HashMap" 81 [15] 5 := ⟨"java/util/HashMap", "java/util/HashMap", "loadFactor", "F", ⟨Or.inl q574, Or.inl rfl⟩, fx_c (r := (RJ19, TJ19, 12)) (Nat.le_of_ble_eq_true rfl) rfl (Nat.le_of_ble_eq_true rfl) rfl rfl rfl (fx_0)⟩
theorem fx_J18_88 : fx "java/util/HashMap" 88 [15] 4 := ⟨"java/util/HashMap", "java/util/HashMap", "threshold", "I", ⟨Or.inl q573, Or.inl rfl⟩, fx_c (r := (RJ19, TJ19, 12)) (Nat.le_of_ble_eq_true rfl) rfl (Nat.le_of_ble_eq_true rfl) rfl rfl rfl (fx_0)⟩
theorem fx_J18_105 : fx "java/util/HashMap" 105 [15] 0 := ⟨"java/util/HashMap", "java/util/HashMap", "table", "[Ljava/util/HashMap$Node;", ⟨Or.inl q559, Or.inl rfl⟩, fx_c (r := (RJ19, TJ19, 12)) (Nat.le_of_ble_eq_true rfl) rfl (Nat.le_of_ble_eq_true rfl) rfl rfl rfl (fx_0)⟩
theorem cx_J18_205_15 : cxU "java/util/HashMap" "java/util/LinkedHashMap" "java/util/HashMap" 205 ⟨"java/util/HashMap", "afterNodeInsertion", "(Z)V"⟩ yJ19_afterNodeInsertion cJ19_afterNodeInsertion 4 (Option.none : Option FieldType) 1 := ⟨q2425, q2427, Or.inl (lw_n q2435 rfl), by decide +kernel, q2428, q2429, q125, q2430, fun sig h => by have e := (show (parseMethodDescriptor (⟨"java/util/HashMap", "afterNodeInsertion", "(Z)V"⟩ : MethodName).desc).map (fun d => d.parameters.length) = some 1 by decide +kernel); rw [h] at e; exact (Option.some.inj e).symm⟩
theorem fx_J18_202 : fx "java/util/HashMap" 202 [15] 3 := ⟨"java/util/HashMap", "java/util/HashMap", "modCount", "I", ⟨Or.inl q572, Or.inl rfl⟩, fx_c (r := (RJ19, TJ19, 12)) (Nat.le_of_ble_eq_true rfl) rfl (Nat.le_of_ble_eq_true rfl) rfl rfl rfl (fx_0)⟩
theorem px_J18_202 : px "java/util/HashMap" 202 [15] 3 (.int) false := ⟨"java/util/HashMap", "java/util/HashMap", "modCount", "I", ⟨Or.inl q572, Or.inl rfl⟩, px_c (r := (RJ19, TJ19, 12)) (Nat.le_of_ble_eq_true rfl) rfl (Nat.le_of_ble_eq_true rfl) rfl (px_0), by decide +kernel, fun h => by cases h⟩
theorem px_J18_156 : px "java/util/HashMap" 156 [15] 2 (.int) false := ⟨"java/util/HashMap", "java/util/HashMap", "size", "I", ⟨Or.inl q567, Or.inl rfl⟩, px_c (r := (RJ19, TJ19, 12)) (Nat.le_of_ble_eq_true rfl) rfl (Nat.le_of_ble_eq_true rfl) rfl (px_0), by decide +kernel, fun h => by cases h⟩
theorem cx_J18_117 : cxV "java/util/HashMap" "java/util/LinkedHashMap" 117 yJ18_resize cJ18_resize 14 (Option.some (FieldType.array (FieldType.object "java/util/HashMap$Node"))) 0 := ⟨q1977, q1978, q1980, q124, q1981, ⟨by decide +kernel, by decide +kernel⟩, fun sig h => by have e := (show (parseMethodDescriptor (yJ18_resize).desc).map (fun d => d.parameters.length) = some 0 by decide +kernel); rw [h] at e; exact (Option.some.inj e).symm⟩
theorem cx_J18_198_15 : cxU "java/util/HashMap" "java/util/LinkedHashMap" "java/util/HashMap" 198 ⟨"java/util/HashMap", "afterNodeAccess", "(Ljava/util/HashMap$Node;)V"⟩ yJ19_afterNodeAccess cJ19_afterNodeAccess 7 (Option.none : Option FieldType) 1 := ⟨q2418, q2420, Or.inl (lw_n q2424 rfl), by decide +kernel, q2421, q2422, q125, q2423, fun sig h => by have e := (show (parseMethodDescriptor (⟨"java/util/HashMap", "afterNodeAccess", "(Ljava/util/HashMap$Node;)V"⟩ : MethodName).desc).map (fun d => d.parameters.length) = some 1 by decide +kernel); rw [h] at e; exact (Option.some.inj e).symm⟩
theorem px_J18_162 : px "java/util/HashMap" 162 [16] 2 (.object "java/lang/Object") false := ⟨"java/util/HashMap$Node", "java/util/HashMap$Node", "value", "Ljava/lang/Object;", ⟨Or.inl q2032, Or.inl rfl⟩, px_c (r := (RJ26, TJ26, 6)) (Nat.le_of_ble_eq_true rfl) rfl (Nat.le_of_ble_eq_true rfl) rfl (px_0), by decide +kernel, fun h => by cases h⟩
theorem fx_J18_162 : fx "java/util/HashMap" 162 [16] 2 := ⟨"java/util/HashMap$Node", "java/util/HashMap$Node", "value", "Ljava/lang/Object;", ⟨Or.inl q2032, Or.inl rfl⟩, fx_c (r := (RJ26, TJ26, 6)) (Nat.le_of_ble_eq_true rfl) rfl (Nat.le_of_ble_eq_true rfl) rfl rfl rfl (fx_0)⟩
theorem cx_J18_186_15 : cxU "java/util/HashMap" "java/util/LinkedHashMap" "java/util/HashMap" 186 ⟨"java/util/HashMap", "newNode", "(ILjava/lang/Object;Ljava/lang/Object;Ljava/util/HashMap$Node;)Ljava/util/HashMap$Node;"⟩ yJ19_newNode cJ19_newNode 6 (Option.some (FieldType.object "java/util/HashMap$Node")) 4 := ⟨q2298, q2300, Or.inl (lw_n q2308 rfl), by decide +kernel, q2301, q2302, q125, q2303, fun sig h => by have e := (show (parseMethodDescriptor (⟨"java/util/HashMap", "newNode", "(ILjava/lang/Object;Ljava/lang/Object;Ljava/util/HashMap$Node;)Ljava/util/HashMap$Node;"⟩ : MethodName).desc).map (fun d => d.parameters.length) = some 4 by decide +kernel); rw [h] at e; exact (Option.some.inj e).symm⟩
theorem fx_J18_170 : fx "java/util/HashMap" 170 [16] 1 := ⟨"java/util/HashMap$Node", "java/util/HashMap$Node", "key", "Ljava/lang/Object;", ⟨Or.inl q2027, Or.inl rfl⟩, fx_c (r := (RJ26, TJ26, 6)) (Nat.le_of_ble_eq_true rfl) rfl (Nat.le_of_ble_eq_true rfl) rfl rfl rfl (fx_0)⟩
theorem cx_J18_173_6 : cxU "java/util/HashMap" "ElasticTruss$PairKey" "java/lang/Object" 173 ⟨"java/lang/Object", "equals", "(Ljava/lang/Object;)Z"⟩ yX7_equals cX7_equals 3 (Option.some FieldType.boolean) 1 := ⟨q2310, q2312, Or.inl (lw_n q2309 rfl), by decide +kernel, q2331, q2332, q132, q2333, fun sig h => by have e := (show (parseMethodDescriptor (⟨"java/lang/Object", "equals", "(Ljava/lang/Object;)Z"⟩ : MethodName).desc).map (fun d => d.parameters.length) = some 1 by decide +kernel); rw [h] at e; exact (Option.some.inj e).symm⟩
theorem cx_J18_173_12 : cxU "java/util/HashMap" "ElasticTruss$Failure" "java/lang/Object" 173 ⟨"java/lang/Object", "equals", "(Ljava/lang/Object;)Z"⟩ yX13_equals cX13_equals 3 (Option.some FieldType.boolean) 1 := ⟨q2310, q2312, Or.inl (lw_n q2309 rfl), by decide +kernel, q2316, q2317, q169, q2318, fun sig h => by have e := (show (parseMethodDescriptor (⟨"java/lang/Object", "equals", "(Ljava/lang/Object;)Z"⟩ : MethodName).desc).map (fun d => d.parameters.length) = some 1 by decide +kernel); rw [h] at e; exact (Option.some.inj e).symm⟩
theorem cx_J18_149 : cxS "java/util/HashMap" 149 yJ18_hash cJ18_hash 2 (Option.some FieldType.int) 1 := ⟨q1869, q1870, q124, q1871, ⟨by decide +kernel, by decide +kernel⟩, fun sig h => by have e := (show (parseMethodDescriptor (yJ18_hash).desc).map (fun d => d.parameters.length) = some 1 by decide +kernel); rw [h] at e; exact (Option.some.inj e).symm⟩
theorem cx_J18_152 : cxV "java/util/HashMap" "java/util/LinkedHashMap" 152 yJ18_putVal cJ18_putVal 13 (Option.some (FieldType.object "java/lang/Object")) 5 := ⟨q1972, q1973, q1975, q124, q1976, ⟨by decide +kernel, by decide +kernel⟩, fun sig h => by have e := (show (parseMethodDescriptor (yJ18_putVal).desc).map (fun d => d.parameters.length) = some 5 by decide +kernel); rw [h] at e; exact (Option.some.inj e).symm⟩
theorem cx_J18_158 : cxV "java/util/HashMap" "java/util/LinkedHashMap" 158 yJ18_getNode cJ18_getNode 8 (Option.some (FieldType.object "java/util/HashMap$Node")) 1 := ⟨q2920, q2921, q2923, q124, q2924, ⟨by decide +kernel, by decide +kernel⟩, fun sig h => by have e := (show (parseMethodDescriptor (yJ18_getNode).desc).map (fun d => d.parameters.length) = some 1 by decide +kernel); rw [h] at e; exact (Option.some.inj e).symm⟩
theorem cx_J18_236_15 : cxU "java/util/HashMap" "java/util/LinkedHashMap" "java/util/HashMap" 236 ⟨"java/util/HashMap", "afterNodeRemoval", "(Ljava/util/HashMap$Node;)V"⟩ yJ19_afterNodeRemoval cJ19_afterNodeRemoval 5 (Option.none : Option FieldType) 1 := ⟨q3279, q3281, Or.inl (lw_n q3285 rfl), by decide +kernel, q3282, q3283, q125, q3284, fun sig h => by have e := (show (parseMethodDescriptor (⟨"java/util/HashMap", "afterNodeRemoval", "(Ljava/util/HashMap$Node;)V"⟩ : MethodName).desc).map (fun d => d.parameters.length) = some 1 by decide +kernel); rw [h] at e; exact (Option.some.inj e).symm⟩
theorem cx_J18_228 : cxV "java/util/HashMap" "java/util/LinkedHashMap" 228 yJ18_removeNode cJ18_removeNode 14 (Option.some (FieldType.object "java/util/HashMap$Node")) 5 := ⟨q3267, q3268, q3270, q124, q3271, ⟨by decide +kernel, by decide +kernel⟩, fun sig h => by have e := (show (parseMethodDescriptor (yJ18_removeNode).desc).map (fun d => d.parameters.length) = some 5 by decide +kernel); rw [h] at e; exact (Option.some.inj e).symm⟩
theorem px_J35_26 : px "java/util/LinkedHashMap$LinkedHashIterator" 26 [21, 22, 23] 0 (.object "java/util/LinkedHashMap$Entry") false := ⟨"java/util/LinkedHashMap$LinkedHashIterator", "java/util/LinkedHashMap$LinkedHashIterator", "next", "Ljava/util/LinkedHashMap$Entry;", ⟨Or.inl q1001, Or.inl rfl⟩, px_c (r := (RJ37, TJ37, 5)) (Nat.le_of_ble_eq_true rfl) rfl (Nat.le_of_ble_eq_true rfl) rfl (px_c (r := (RJ38, TJ38, 5)) (Nat.le_of_ble_eq_true rfl) rfl (Nat.le_of_ble_eq_true rfl) rfl (px_c (r := (RJ36, TJ36, 5)) (Nat.le_of_ble_eq_true rfl) rfl (Nat.le_of_ble_eq_true rfl) rfl (px_0))), by decide +kernel, fun h => by cases h⟩
theorem fx_J35_29 : fx "java/util/LinkedHashMap$LinkedHashIterator" 29 [15] 3 := ⟨"java/util/LinkedHashMap", "java/util/HashMap", "modCount", "I", ⟨Or.inl q569, Or.inr q570⟩, fx_c (r := (RJ19, TJ19, 12)) (Nat.le_of_ble_eq_true rfl) rfl (Nat.le_of_ble_eq_true rfl) rfl rfl rfl (fx_0)⟩
theorem px_J35_33 : px "java/util/LinkedHashMap$LinkedHashIterator" 33 [21, 22, 23] 2 (.int) false := ⟨"java/util/LinkedHashMap$LinkedHashIterator", "java/util/LinkedHashMap$LinkedHashIterator", "expectedModCount", "I", ⟨Or.inl q1003, Or.inl rfl⟩, px_c (r := (RJ37, TJ37, 5)) (Nat.le_of_ble_eq_true rfl) rfl (Nat.le_of_ble_eq_true rfl) rfl (px_c (r := (RJ38, TJ38, 5)) (Nat.le_of_ble_eq_true rfl) rfl (Nat.le_of_ble_eq_true rfl) rfl (px_c (r := (RJ36, TJ36, 5)) (Nat.le_of_ble_eq_true rfl) rfl (Nat.le_of_ble_eq_true rfl) rfl (px_0))), by decide +kernel, fun h => by cases h⟩
theorem px_J35_36 : px "java/util/LinkedHashMap$LinkedHashIterator" 36 [21, 22, 23] 1 (.object "java/util/LinkedHashMap$Entry") false := ⟨"java/util/LinkedHashMap$LinkedHashIterator", "java/util/LinkedHashMap$LinkedHashIterator", "current", "Ljava/util/LinkedHashMap$Entry;", ⟨Or.inl q1002, Or.inl rfl⟩, px_c (r := (RJ37, TJ37, 5)) (Nat.le_of_ble_eq_true rfl) rfl (Nat.le_of_ble_eq_true rfl) rfl (px_c (r := (RJ38, TJ38, 5)) (Nat.le_of_ble_eq_true rfl) rfl (Nat.le_of_ble_eq_true rfl) rfl (px_c (r := (RJ36, TJ36, 5)) (Nat.le_of_ble_eq_true rfl) rfl (Nat.le_of_ble_eq_true rfl) rfl (px_0))), by decide +kernel, fun h => by cases h⟩
theorem px_J35_1 : px "java/util/LinkedHashMap$LinkedHashIterator" 1 [21, 22, 23] 4 (.object "java/util/LinkedHashMap") true := ⟨"java/util/LinkedHashMap$LinkedHashIterator", "java/util/LinkedHashMap$LinkedHashIterator", "this$0", "Ljava/util/LinkedHashMap;", ⟨Or.inl q1005, Or.inl rfl⟩, px_c (r := (RJ37, TJ37, 5)) (Nat.le_of_ble_eq_true rfl) rfl (Nat.le_of_ble_eq_true rfl) rfl (px_c (r := (RJ38, TJ38, 5)) (Nat.le_of_ble_eq_true rfl) rfl (Nat.le_of_ble_eq_true rfl) rfl (px_c (r := (RJ36, TJ36, 5)) (Nat.le_of_ble_eq_true rfl) rfl (Nat.le_of_ble_eq_true rfl) rfl (px_0))), by decide +kernel, fun _ => ⟨rfl, q1005⟩⟩
theorem px_J35_13 : px "java/util/LinkedHashMap$LinkedHashIterator" 13 [21, 22, 23] 3 (.boolean) false := ⟨"java/util/LinkedHashMap$LinkedHashIterator", "java/util/LinkedHashMap$LinkedHashIterator", "reversed", "Z", ⟨Or.inl q1004, Or.inl rfl⟩, px_c (r := (RJ37, TJ37, 5)) (Nat.le_of_ble_eq_true rfl) rfl (Nat.le_of_ble_eq_true rfl) rfl (px_c (r := (RJ38, TJ38, 5)) (Nat.le_of_ble_eq_true rfl) rfl (Nat.le_of_ble_eq_true rfl) rfl (px_c (r := (RJ36, TJ36, 5)) (Nat.le_of_ble_eq_true rfl) rfl (Nat.le_of_ble_eq_true rfl) rfl (px_0))), by decide +kernel, fun h => by cases h⟩
theorem fx_J35_23 : fx "java/util/LinkedHashMap$LinkedHashIterator" 23 [15] 8 := ⟨"java/util/LinkedHashMap", "java/util/LinkedHashMap", "head", "Ljava/util/LinkedHashMap$Entry;", ⟨Or.inl q553, Or.inl rfl⟩, fx_c (r := (RJ19, TJ19, 12)) (Nat.le_of_ble_eq_true rfl) rfl (Nat.le_of_ble_eq_true rfl) rfl rfl rfl (fx_0)⟩
theorem fx_J35_17 : fx "java/util/LinkedHashMap$LinkedHashIterator" 17 [15] 9 := ⟨"java/util/LinkedHashMap", "java/util/LinkedHashMap", "tail", "Ljava/util/LinkedHashMap$Entry;", ⟨Or.inl q554, Or.inl rfl⟩, fx_c (r := (RJ19, TJ19, 12)) (Nat.le_of_ble_eq_true rfl) rfl (Nat.le_of_ble_eq_true rfl) rfl rfl rfl (fx_0)⟩
theorem fx_J35_26 : fx "java/util/LinkedHashMap$LinkedHashIterator" 26 [21, 22, 23] 0 := ⟨"java/util/LinkedHashMap$LinkedHashIterator", "java/util/LinkedHashMap$LinkedHashIterator", "next", "Ljava/util/LinkedHashMap$Entry;", ⟨Or.inl q1001, Or.inl rfl⟩, fx_c (r := (RJ37, TJ37, 5)) (Nat.le_of_ble_eq_true rfl) rfl (Nat.le_of_ble_eq_true rfl) rfl rfl rfl (fx_c (r := (RJ38, TJ38, 5)) (Nat.le_of_ble_eq_true rfl) rfl (Nat.le_of_ble_eq_true rfl) rfl rfl rfl (fx_c (r := (RJ36, TJ36, 5)) (Nat.le_of_ble_eq_true rfl) rfl (Nat.le_of_ble_eq_true rfl) rfl rfl rfl (fx_0)))⟩
theorem fx_J35_1 : fx "java/util/LinkedHashMap$LinkedHashIterator" 1 [21, 22, 23] 4 := ⟨"java/util/LinkedHashMap$LinkedHashIterator", "java/util/LinkedHashMap$LinkedHashIterator", "this$0", "Ljava/util/LinkedHashMap;", ⟨Or.inl q1005, Or.inl rfl⟩, fx_c (r := (RJ37, TJ37, 5)) (Nat.le_of_ble_eq_true rfl) rfl (Nat.le_of_ble_eq_true rfl) rfl rfl rfl (fx_c (r := (RJ38, TJ38, 5)) (Nat.le_of_ble_eq_true rfl) rfl (Nat.le_of_ble_eq_true rfl) rfl rfl rfl (fx_c (r := (RJ36, TJ36, 5)) (Nat.le_of_ble_eq_true rfl) rfl (Nat.le_of_ble_eq_true rfl) rfl rfl rfl (fx_0)))⟩
theorem fx_J35_33 : fx "java/util/LinkedHashMap$LinkedHashIterator" 33 [21, 22, 23] 2 := ⟨"java/util/LinkedHashMap$LinkedHashIterator", "java/util/LinkedHashMap$LinkedHashIterator", "expectedModCount", "I", ⟨Or.inl q1003, Or.inl rfl⟩, fx_c (r := (RJ37, TJ37, 5)) (Nat.le_of_ble_eq_true rfl) rfl (Nat.le_of_ble_eq_true rfl) rfl rfl rfl (fx_c (r := (RJ38, TJ38, 5)) (Nat.le_of_ble_eq_true rfl) rfl (Nat.le_of_ble_eq_true rfl) rfl rfl rfl (fx_c (r := (RJ36, TJ36, 5)) (Nat.le_of_ble_eq_true rfl) rfl (Nat.le_of_ble_eq_true rfl) rfl rfl rfl (fx_0)))⟩
theorem fx_J35_13 : fx "java/util/LinkedHashMap$LinkedHashIterator" 13 [21, 22, 23] 3 := ⟨"java/util/LinkedHashMap$LinkedHashIterator", "java/util/LinkedHashMap$LinkedHashIterator", "reversed", "Z", ⟨Or.inl q1004, Or.inl rfl⟩, fx_c (r := (RJ37, TJ37, 5)) (Nat.le_of_ble_eq_true rfl) rfl (Nat.le_of_ble_eq_true rfl) rfl rfl rfl (fx_c (r := (RJ38, TJ38, 5)) (Nat.le_of_ble_eq_true rfl) rfl (Nat.le_of_ble_eq_true rfl) rfl rfl rfl (fx_c (r := (RJ36, TJ36, 5)) (Nat.le_of_ble_eq_true rfl) rfl (Nat.le_of_ble_eq_true rfl) rfl rfl rfl (fx_0)))⟩
theorem fx_J35_50 : fx "java/util/LinkedHashMap$LinkedHashIterator" 50 [16] 5 := ⟨"java/util/LinkedHashMap$Entry", "java/util/LinkedHashMap$Entry", "after", "Ljava/util/LinkedHashMap$Entry;", ⟨Or.inl q2014, Or.inl rfl⟩, fx_c (r := (RJ26, TJ26, 6)) (Nat.le_of_ble_eq_true rfl) rfl (Nat.le_of_ble_eq_true rfl) rfl rfl rfl (fx_0)⟩
theorem fx_J35_45 : fx "java/util/LinkedHashMap$LinkedHashIterator" 45 [16] 4 := ⟨"java/util/LinkedHashMap$Entry", "java/util/LinkedHashMap$Entry", "before", "Ljava/util/LinkedHashMap$Entry;", ⟨Or.inl q2012, Or.inl rfl⟩, fx_c (r := (RJ26, TJ26, 6)) (Nat.le_of_ble_eq_true rfl) rfl (Nat.le_of_ble_eq_true rfl) rfl rfl rfl (fx_0)⟩
theorem cx_J37_1 : cxI "java/util/LinkedHashMap$LinkedKeyIterator" 1 yJ35_init cJ35_init 3 2 := ⟨q1028, q998, q152, q999, ⟨by decide +kernel, by decide +kernel⟩, rfl, fun sig h => by have e := (show (parseMethodDescriptor (yJ35_init).desc).map (fun d => d.parameters.length) = some 2 by decide +kernel); rw [h] at e; exact (Option.some.inj e).symm⟩
theorem cx_J38_1 : cxI "java/util/LinkedHashMap$LinkedValueIterator" 1 yJ35_init cJ35_init 3 2 := ⟨q1046, q998, q152, q999, ⟨by decide +kernel, by decide +kernel⟩, rfl, fun sig h => by have e := (show (parseMethodDescriptor (yJ35_init).desc).map (fun d => d.parameters.length) = some 2 by decide +kernel); rw [h] at e; exact (Option.some.inj e).symm⟩
theorem cx_J36_1 : cxI "java/util/LinkedHashMap$LinkedEntryIterator" 1 yJ35_init cJ35_init 3 2 := ⟨q997, q998, q152, q999, ⟨by decide +kernel, by decide +kernel⟩, rfl, fun sig h => by have e := (show (parseMethodDescriptor (yJ35_init).desc).map (fun d => d.parameters.length) = some 2 by decide +kernel); rw [h] at e; exact (Option.some.inj e).symm⟩
theorem cx_J37_7_21 : cxU "java/util/LinkedHashMap$LinkedKeyIterator" "java/util/LinkedHashMap$LinkedKeyIterator" "java/util/LinkedHashMap$LinkedHashIterator" 7 ⟨"java/util/LinkedHashMap$LinkedKeyIterator", "nextNode", "()Ljava/util/LinkedHashMap$Entry;"⟩ yJ35_nextNode cJ35_nextNode 2 (Option.some (FieldType.object "java/util/LinkedHashMap$Entry")) 0 := ⟨q858, q859, Or.inl (lw_n q849 rfl), by decide +kernel, q860, q851, q152, q852, fun sig h => by have e := (show (parseMethodDescriptor (⟨"java/util/LinkedHashMap$LinkedKeyIterator", "nextNode", "()Ljava/util/LinkedHashMap$Entry;"⟩ : MethodName).desc).map (fun d => d.parameters.length) = some 0 by decide +kernel); rw [h] at e; exact (Option.some.inj e).symm⟩
theorem rx_21 : rx 21 "java/util/LinkedHashMap$LinkedKeyIterator" := Or.inl ⟨(Nat.le_of_ble_eq_true rfl), (RJ37, TJ37, 5), rfl, rfl⟩
theorem cx_J37_13_16 : cxU "java/util/LinkedHashMap$LinkedKeyIterator" "java/util/LinkedHashMap$Entry" "java/util/HashMap$Node" 13 ⟨"java/util/LinkedHashMap$Entry", "getKey", "()Ljava/lang/Object;"⟩ yJ25_getKey cJ25_getKey 1 (Option.some (FieldType.object "java/lang/Object")) 0 := ⟨q861, q862, Or.inl (lw_n q863 rfl), by decide +kernel, q865, q866, q138, q867, fun sig h => by have e := (show (parseMethodDescriptor (⟨"java/util/LinkedHashMap$Entry", "getKey", "()Ljava/lang/Object;"⟩ : MethodName).desc).map (fun d => d.parameters.length) = some 0 by decide +kernel); rw [h] at e; exact (Option.some.inj e).symm⟩
theorem cx_J38_7_22 : cxU "java/util/LinkedHashMap$LinkedValueIterator" "java/util/LinkedHashMap$LinkedValueIterator" "java/util/LinkedHashMap$LinkedHashIterator" 7 ⟨"java/util/LinkedHashMap$LinkedValueIterator", "nextNode", "()Ljava/util/LinkedHashMap$Entry;"⟩ yJ35_nextNode cJ35_nextNode 2 (Option.some (FieldType.object "java/util/LinkedHashMap$Entry")) 0 := ⟨q873, q874, Or.inl (lw_n q849 rfl), by decide +kernel, q875, q851, q152, q852, fun sig h => by have e := (show (parseMethodDescriptor (⟨"java/util/LinkedHashMap$LinkedValueIterator", "nextNode", "()Ljava/util/LinkedHashMap$Entry;"⟩ : MethodName).desc).map (fun d => d.parameters.length) = some 0 by decide +kernel); rw [h] at e; exact (Option.some.inj e).symm⟩
theorem rx_22 : rx 22 "java/util/LinkedHashMap$LinkedValueIterator" := Or.inl ⟨(Nat.le_of_ble_eq_true rfl), (RJ38, TJ38, 5), rfl, rfl⟩
theorem fx_J38_13 : fx "java/util/LinkedHashMap$LinkedValueIterator" 13 [16] 2 := ⟨"java/util/LinkedHashMap$Entry", "java/util/HashMap$Node", "value", "Ljava/lang/Object;", ⟨Or.inl q2029, Or.inr q2030⟩, fx_c (r := (RJ26, TJ26, 6)) (Nat.le_of_ble_eq_true rfl) rfl (Nat.le_of_ble_eq_true rfl) rfl rfl rfl (fx_0)⟩
theorem cx_J36_7_23 : cxU "java/util/LinkedHashMap$LinkedEntryIterator" "java/util/LinkedHashMap$LinkedEntryIterator" "java/util/LinkedHashMap$LinkedHashIterator" 7 ⟨"java/util/LinkedHashMap$LinkedEntryIterator", "nextNode", "()Ljava/util/LinkedHashMap$Entry;"⟩ yJ35_nextNode cJ35_nextNode 2 (Option.some (FieldType.object "java/util/LinkedHashMap$Entry")) 0 := ⟨q847, q848, Or.inl (lw_n q849 rfl), by decide +kernel, q850, q851, q152, q852, fun sig h => by have e := (show (parseMethodDescriptor (⟨"java/util/LinkedHashMap$LinkedEntryIterator", "nextNode", "()Ljava/util/LinkedHashMap$Entry;"⟩ : MethodName).desc).map (fun d => d.parameters.length) = some 0 by decide +kernel); rw [h] at e; exact (Option.some.inj e).symm⟩
theorem rx_23 : rx 23 "java/util/LinkedHashMap$LinkedEntryIterator" := Or.inl ⟨(Nat.le_of_ble_eq_true rfl), (RJ36, TJ36, 5), rfl, rfl⟩
theorem cx_J36_13 : cxV "java/util/LinkedHashMap$LinkedEntryIterator" "java/util/LinkedHashMap$LinkedEntryIterator" 13 yJ36_next_2 cJ36_next_2 1 (Option.some (FieldType.object "java/util/Map$Entry")) 0 := ⟨q843, q844, q845, q153, q846, ⟨by decide +kernel, by decide +kernel⟩, fun sig h => by have e := (show (parseMethodDescriptor (yJ36_next_2).desc).map (fun d => d.parameters.length) = some 0 by decide +kernel); rw [h] at e; exact (Option.some.inj e).symm⟩
theorem px_J31_1 : px "java/util/LinkedHashMap$LinkedValues" 1 [18] 1 (.object "java/util/LinkedHashMap") true := ⟨"java/util/LinkedHashMap$LinkedValues", "java/util/LinkedHashMap$LinkedValues", "this$0", "Ljava/util/LinkedHashMap;", ⟨Or.inl q910, Or.inl rfl⟩, px_c (r := (RJ31, TJ31, 2)) (Nat.le_of_ble_eq_true rfl) rfl (Nat.le_of_ble_eq_true rfl) rfl (px_0), by decide +kernel, fun _ => ⟨rfl, q910⟩⟩
theorem cx_J31_7 : cxI "java/util/LinkedHashMap$LinkedValues" 7 yJ0_init cJ0_init 1 0 := ⟨q908, q199, q104, q200, ⟨by decide +kernel, by decide +kernel⟩, rfl, fun sig h => by have e := (show (parseMethodDescriptor (yJ0_init).desc).map (fun d => d.parameters.length) = some 0 by decide +kernel); rw [h] at e; exact (Option.some.inj e).symm⟩
theorem px_J31_13 : px "java/util/LinkedHashMap$LinkedValues" 13 [18] 0 (.boolean) true := ⟨"java/util/LinkedHashMap$LinkedValues", "java/util/LinkedHashMap$LinkedValues", "reversed", "Z", ⟨Or.inl q909, Or.inl rfl⟩, px_c (r := (RJ31, TJ31, 2)) (Nat.le_of_ble_eq_true rfl) rfl (Nat.le_of_ble_eq_true rfl) rfl (px_0), by decide +kernel, fun _ => ⟨rfl, q909⟩⟩
theorem px_J41_1 : px "java/util/LinkedHashMap$LinkedKeySet" 1 [19] 1 (.object "java/util/LinkedHashMap") true := ⟨"java/util/LinkedHashMap$LinkedKeySet", "java/util/LinkedHashMap$LinkedKeySet", "this$0", "Ljava/util/LinkedHashMap;", ⟨Or.inl q1079, Or.inl rfl⟩, px_c (r := (RJ41, TJ41, 2)) (Nat.le_of_ble_eq_true rfl) rfl (Nat.le_of_ble_eq_true rfl) rfl (px_0), by decide +kernel, fun _ => ⟨rfl, q1079⟩⟩
theorem cx_J41_7 : cxI "java/util/LinkedHashMap$LinkedKeySet" 7 yJ39_init cJ39_init 1 0 := ⟨q1074, q1075, q156, q1076, ⟨by decide +kernel, by decide +kernel⟩, rfl, fun sig h => by have e := (show (parseMethodDescriptor (yJ39_init).desc).map (fun d => d.parameters.length) = some 0 by decide +kernel); rw [h] at e; exact (Option.some.inj e).symm⟩
theorem px_J41_13 : px "java/util/LinkedHashMap$LinkedKeySet" 13 [19] 0 (.boolean) true := ⟨"java/util/LinkedHashMap$LinkedKeySet", "java/util/LinkedHashMap$LinkedKeySet", "reversed", "Z", ⟨Or.inl q1078, Or.inl rfl⟩, px_c (r := (RJ41, TJ41, 2)) (Nat.le_of_ble_eq_true rfl) rfl (Nat.le_of_ble_eq_true rfl) rfl (px_0), by decide +kernel, fun _ => ⟨rfl, q1078⟩⟩
theorem px_J52_1 : px "java/util/LinkedHashMap$LinkedEntrySet" 1 [20] 1 (.object "java/util/LinkedHashMap") true := ⟨"java/util/LinkedHashMap$LinkedEntrySet", "java/util/LinkedHashMap$LinkedEntrySet", "this$0", "Ljava/util/LinkedHashMap;", ⟨Or.inl q2538, Or.inl rfl⟩, px_c (r := (RJ52, TJ52, 2)) (Nat.le_of_ble_eq_true rfl) rfl (Nat.le_of_ble_eq_true rfl) rfl (px_0), by decide +kernel, fun _ => ⟨rfl, q2538⟩⟩
theorem cx_J52_7 : cxI "java/util/LinkedHashMap$LinkedEntrySet" 7 yJ39_init cJ39_init 1 0 := ⟨q2536, q1075, q156, q1076, ⟨by decide +kernel, by decide +kernel⟩, rfl, fun sig h => by have e := (show (parseMethodDescriptor (yJ39_init).desc).map (fun d => d.parameters.length) = some 0 by decide +kernel); rw [h] at e; exact (Option.some.inj e).symm⟩
theorem px_J52_13 : px "java/util/LinkedHashMap$LinkedEntrySet" 13 [20] 0 (.boolean) true := ⟨"java/util/LinkedHashMap$LinkedEntrySet", "java/util/LinkedHashMap$LinkedEntrySet", "reversed", "Z", ⟨Or.inl q2537, Or.inl rfl⟩, px_c (r := (RJ52, TJ52, 2)) (Nat.le_of_ble_eq_true rfl) rfl (Nat.le_of_ble_eq_true rfl) rfl (px_0), by decide +kernel, fun _ => ⟨rfl, q2537⟩⟩
theorem nx_J31_26 : nx "java/util/LinkedHashMap$LinkedValues" 26 22 5 [.null, .null, .int 0, .int 0, .null] := ⟨(Nat.le_of_ble_eq_true rfl), rfl, RJ38, TJ38, tyJ38, rfl, rfl, q1041, q1042, q155, by
  intro j hj
  match j, hj with
  | 0, _ => rfl
  | 1, _ => rfl
  | 2, _ => rfl
  | 3, _ => rfl
  | 4, _ => rfl
  | j + 5, hj => omega⟩
theorem fx_J31_1 : fx "java/util/LinkedHashMap$LinkedValues" 1 [18] 1 := ⟨"java/util/LinkedHashMap$LinkedValues", "java/util/LinkedHashMap$LinkedValues", "this$0", "Ljava/util/LinkedHashMap;", ⟨Or.inl q910, Or.inl rfl⟩, fx_c (r := (RJ31, TJ31, 2)) (Nat.le_of_ble_eq_true rfl) rfl (Nat.le_of_ble_eq_true rfl) rfl rfl rfl (fx_0)⟩
theorem fx_J31_13 : fx "java/util/LinkedHashMap$LinkedValues" 13 [18] 0 := ⟨"java/util/LinkedHashMap$LinkedValues", "java/util/LinkedHashMap$LinkedValues", "reversed", "Z", ⟨Or.inl q909, Or.inl rfl⟩, fx_c (r := (RJ31, TJ31, 2)) (Nat.le_of_ble_eq_true rfl) rfl (Nat.le_of_ble_eq_true rfl) rfl rfl rfl (fx_0)⟩
theorem cx_J31_28 : cxI "java/util/LinkedHashMap$LinkedValues" 28 yJ38_init cJ38_init 3 2 := ⟨q1043, q1044, q155, q1045, ⟨by decide +kernel, by decide +kernel⟩, rfl, fun sig h => by have e := (show (parseMethodDescriptor (yJ38_init).desc).map (fun d => d.parameters.length) = some 2 by decide +kernel); rw [h] at e; exact (Option.some.inj e).symm⟩
theorem nx_J41_26 : nx "java/util/LinkedHashMap$LinkedKeySet" 26 21 5 [.null, .null, .int 0, .int 0, .null] := ⟨(Nat.le_of_ble_eq_true rfl), rfl, RJ37, TJ37, tyJ37, rfl, rfl, q1023, q1024, q154, by
  intro j hj
  match j, hj with
  | 0, _ => rfl
  | 1, _ => rfl
  | 2, _ => rfl
  | 3, _ => rfl
  | 4, _ => rfl
  | j + 5, hj => omega⟩
theorem fx_J41_1 : fx "java/util/LinkedHashMap$LinkedKeySet" 1 [19] 1 := ⟨"java/util/LinkedHashMap$LinkedKeySet", "java/util/LinkedHashMap$LinkedKeySet", "this$0", "Ljava/util/LinkedHashMap;", ⟨Or.inl q1079, Or.inl rfl⟩, fx_c (r := (RJ41, TJ41, 2)) (Nat.le_of_ble_eq_true rfl) rfl (Nat.le_of_ble_eq_true rfl) rfl rfl rfl (fx_0)⟩
theorem fx_J41_13 : fx "java/util/LinkedHashMap$LinkedKeySet" 13 [19] 0 := ⟨"java/util/LinkedHashMap$LinkedKeySet", "java/util/LinkedHashMap$LinkedKeySet", "reversed", "Z", ⟨Or.inl q1078, Or.inl rfl⟩, fx_c (r := (RJ41, TJ41, 2)) (Nat.le_of_ble_eq_true rfl) rfl (Nat.le_of_ble_eq_true rfl) rfl rfl rfl (fx_0)⟩
theorem cx_J41_28 : cxI "java/util/LinkedHashMap$LinkedKeySet" 28 yJ37_init cJ37_init 3 2 := ⟨q1025, q1026, q154, q1027, ⟨by decide +kernel, by decide +kernel⟩, rfl, fun sig h => by have e := (show (parseMethodDescriptor (yJ37_init).desc).map (fun d => d.parameters.length) = some 2 by decide +kernel); rw [h] at e; exact (Option.some.inj e).symm⟩
theorem nx_J52_26 : nx "java/util/LinkedHashMap$LinkedEntrySet" 26 23 5 [.null, .null, .int 0, .int 0, .null] := ⟨(Nat.le_of_ble_eq_true rfl), rfl, RJ36, TJ36, tyJ36, rfl, rfl, q992, q993, q153, by
  intro j hj
  match j, hj with
  | 0, _ => rfl
  | 1, _ => rfl
  | 2, _ => rfl
  | 3, _ => rfl
  | 4, _ => rfl
  | j + 5, hj => omega⟩
theorem fx_J52_1 : fx "java/util/LinkedHashMap$LinkedEntrySet" 1 [20] 1 := ⟨"java/util/LinkedHashMap$LinkedEntrySet", "java/util/LinkedHashMap$LinkedEntrySet", "this$0", "Ljava/util/LinkedHashMap;", ⟨Or.inl q2538, Or.inl rfl⟩, fx_c (r := (RJ52, TJ52, 2)) (Nat.le_of_ble_eq_true rfl) rfl (Nat.le_of_ble_eq_true rfl) rfl rfl rfl (fx_0)⟩
theorem fx_J52_13 : fx "java/util/LinkedHashMap$LinkedEntrySet" 13 [20] 0 := ⟨"java/util/LinkedHashMap$LinkedEntrySet", "java/util/LinkedHashMap$LinkedEntrySet", "reversed", "Z", ⟨Or.inl q2537, Or.inl rfl⟩, fx_c (r := (RJ52, TJ52, 2)) (Nat.le_of_ble_eq_true rfl) rfl (Nat.le_of_ble_eq_true rfl) rfl rfl rfl (fx_0)⟩
theorem cx_J52_28 : cxI "java/util/LinkedHashMap$LinkedEntrySet" 28 yJ36_init cJ36_init 3 2 := ⟨q994, q995, q153, q996, ⟨by decide +kernel, by decide +kernel⟩, rfl, fun sig h => by have e := (show (parseMethodDescriptor (yJ36_init).desc).map (fun d => d.parameters.length) = some 2 by decide +kernel); rw [h] at e; exact (Option.some.inj e).symm⟩
theorem fx_J41_17 : fx "java/util/LinkedHashMap$LinkedKeySet" 17 [15] 2 := ⟨"java/util/LinkedHashMap", "java/util/HashMap", "size", "I", ⟨Or.inl q566, Or.inr q565⟩, fx_c (r := (RJ19, TJ19, 12)) (Nat.le_of_ble_eq_true rfl) rfl (Nat.le_of_ble_eq_true rfl) rfl rfl rfl (fx_0)⟩
theorem fx_J52_17 : fx "java/util/LinkedHashMap$LinkedEntrySet" 17 [15] 2 := ⟨"java/util/LinkedHashMap", "java/util/HashMap", "size", "I", ⟨Or.inl q564, Or.inr q565⟩, fx_c (r := (RJ19, TJ19, 12)) (Nat.le_of_ble_eq_true rfl) rfl (Nat.le_of_ble_eq_true rfl) rfl rfl rfl (fx_0)⟩
theorem fx_J19_139 : fx "java/util/LinkedHashMap" 139 [15] 7 := ⟨"java/util/LinkedHashMap", "java/util/AbstractMap", "values", "Ljava/util/Collection;", ⟨Or.inl q579, Or.inr q580⟩, fx_c (r := (RJ19, TJ19, 12)) (Nat.le_of_ble_eq_true rfl) rfl (Nat.le_of_ble_eq_true rfl) rfl rfl rfl (fx_0)⟩
theorem rx_18 : rx 18 "java/util/LinkedHashMap$LinkedValues" := Or.inl ⟨(Nat.le_of_ble_eq_true rfl), (RJ31, TJ31, 2), rfl, rfl⟩
theorem rx_19 : rx 19 "java/util/LinkedHashMap$LinkedKeySet" := Or.inl ⟨(Nat.le_of_ble_eq_true rfl), (RJ41, TJ41, 2), rfl, rfl⟩
theorem rx_20 : rx 20 "java/util/LinkedHashMap$LinkedEntrySet" := Or.inl ⟨(Nat.le_of_ble_eq_true rfl), (RJ52, TJ52, 2), rfl, rfl⟩
theorem rx_24 : rx 24 "java/util/LinkedHashSet" := Or.inl ⟨(Nat.le_of_ble_eq_true rfl), (RJ45, TJ45, 1), rfl, rfl⟩
theorem nx_J19_143 : nx "java/util/LinkedHashMap" 143 18 2 [.int 0, .null] := ⟨(Nat.le_of_ble_eq_true rfl), rfl, RJ31, TJ31, tyJ31, rfl, rfl, q903, q904, q148, by
  intro j hj
  match j, hj with
  | 0, _ => rfl
  | 1, _ => rfl
  | j + 2, hj => omega⟩
theorem cx_J19_145 : cxI "java/util/LinkedHashMap" 145 yJ31_init cJ31_init 3 2 := ⟨q905, q906, q148, q907, ⟨by decide +kernel, by decide +kernel⟩, rfl, fun sig h => by have e := (show (parseMethodDescriptor (yJ31_init).desc).map (fun d => d.parameters.length) = some 2 by decide +kernel); rw [h] at e; exact (Option.some.inj e).symm⟩
theorem px_J19_139 : px "java/util/LinkedHashMap" 139 [15] 7 (.object "java/util/Collection") false := ⟨"java/util/LinkedHashMap", "java/util/AbstractMap", "values", "Ljava/util/Collection;", ⟨Or.inl q579, Or.inr q580⟩, px_c (r := (RJ19, TJ19, 12)) (Nat.le_of_ble_eq_true rfl) rfl (Nat.le_of_ble_eq_true rfl) rfl (px_0), by decide +kernel, fun h => by cases h⟩
theorem cx_J19_135 : cxV "java/util/LinkedHashMap" "java/util/LinkedHashMap" 135 yJ19_sequencedValues cJ19_sequencedValues 3 (Option.some (FieldType.object "java/util/SequencedCollection")) 0 := ⟨q899, q900, q901, q125, q902, ⟨by decide +kernel, by decide +kernel⟩, fun sig h => by have e := (show (parseMethodDescriptor (yJ19_sequencedValues).desc).map (fun d => d.parameters.length) = some 0 by decide +kernel); rw [h] at e; exact (Option.some.inj e).symm⟩
theorem fx_J19_117 : fx "java/util/LinkedHashMap" 117 [15] 6 := ⟨"java/util/LinkedHashMap", "java/util/AbstractMap", "keySet", "Ljava/util/Set;", ⟨Or.inl q577, Or.inr q578⟩, fx_c (r := (RJ19, TJ19, 12)) (Nat.le_of_ble_eq_true rfl) rfl (Nat.le_of_ble_eq_true rfl) rfl rfl rfl (fx_0)⟩
theorem nx_J19_121 : nx "java/util/LinkedHashMap" 121 19 2 [.int 0, .null] := ⟨(Nat.le_of_ble_eq_true rfl), rfl, RJ41, TJ41, tyJ41, rfl, rfl, q1069, q1070, q158, by
  intro j hj
  match j, hj with
  | 0, _ => rfl
  | 1, _ => rfl
  | j + 2, hj => omega⟩
theorem cx_J19_123 : cxI "java/util/LinkedHashMap" 123 yJ41_init cJ41_init 3 2 := ⟨q1071, q1072, q158, q1073, ⟨by decide +kernel, by decide +kernel⟩, rfl, fun sig h => by have e := (show (parseMethodDescriptor (yJ41_init).desc).map (fun d => d.parameters.length) = some 2 by decide +kernel); rw [h] at e; exact (Option.some.inj e).symm⟩
theorem px_J19_117 : px "java/util/LinkedHashMap" 117 [15] 6 (.object "java/util/Set") false := ⟨"java/util/LinkedHashMap", "java/util/AbstractMap", "keySet", "Ljava/util/Set;", ⟨Or.inl q577, Or.inr q578⟩, px_c (r := (RJ19, TJ19, 12)) (Nat.le_of_ble_eq_true rfl) rfl (Nat.le_of_ble_eq_true rfl) rfl (px_0), by decide +kernel, fun h => by cases h⟩
theorem cx_J19_113 : cxV "java/util/LinkedHashMap" "java/util/LinkedHashMap" 113 yJ19_sequencedKeySet cJ19_sequencedKeySet 3 (Option.some (FieldType.object "java/util/SequencedSet")) 0 := ⟨q1065, q1066, q1067, q125, q1068, ⟨by decide +kernel, by decide +kernel⟩, fun sig h => by have e := (show (parseMethodDescriptor (yJ19_sequencedKeySet).desc).map (fun d => d.parameters.length) = some 0 by decide +kernel); rw [h] at e; exact (Option.some.inj e).symm⟩
theorem fx_J19_151 : fx "java/util/LinkedHashMap" 151 [15] 1 := ⟨"java/util/LinkedHashMap", "java/util/HashMap", "entrySet", "Ljava/util/Set;", ⟨Or.inl q560, Or.inr q561⟩, fx_c (r := (RJ19, TJ19, 12)) (Nat.le_of_ble_eq_true rfl) rfl (Nat.le_of_ble_eq_true rfl) rfl rfl rfl (fx_0)⟩
theorem nx_J19_154 : nx "java/util/LinkedHashMap" 154 20 2 [.int 0, .null] := ⟨(Nat.le_of_ble_eq_true rfl), rfl, RJ52, TJ52, tyJ52, rfl, rfl, q2531, q2532, q172, by
  intro j hj
  match j, hj with
  | 0, _ => rfl
  | 1, _ => rfl
  | j + 2, hj => omega⟩
theorem cx_J19_156 : cxI "java/util/LinkedHashMap" 156 yJ52_init cJ52_init 3 2 := ⟨q2533, q2534, q172, q2535, ⟨by decide +kernel, by decide +kernel⟩, rfl, fun sig h => by have e := (show (parseMethodDescriptor (yJ52_init).desc).map (fun d => d.parameters.length) = some 2 by decide +kernel); rw [h] at e; exact (Option.some.inj e).symm⟩
theorem px_J19_151 : px "java/util/LinkedHashMap" 151 [15] 1 (.object "java/util/Set") false := ⟨"java/util/LinkedHashMap", "java/util/HashMap", "entrySet", "Ljava/util/Set;", ⟨Or.inl q560, Or.inr q561⟩, px_c (r := (RJ19, TJ19, 12)) (Nat.le_of_ble_eq_true rfl) rfl (Nat.le_of_ble_eq_true rfl) rfl (px_0), by decide +kernel, fun h => by cases h⟩
theorem cx_J19_148 : cxV "java/util/LinkedHashMap" "java/util/LinkedHashMap" 148 yJ19_sequencedEntrySet cJ19_sequencedEntrySet 3 (Option.some (FieldType.object "java/util/SequencedSet")) 0 := ⟨q2527, q2528, q2529, q125, q2530, ⟨by decide +kernel, by decide +kernel⟩, fun sig h => by have e := (show (parseMethodDescriptor (yJ19_sequencedEntrySet).desc).map (fun d => d.parameters.length) = some 0 by decide +kernel); rw [h] at e; exact (Option.some.inj e).symm⟩
theorem cx_J18_131_23 : cxF "java/util/HashMap" "java/util/LinkedHashMap$LinkedEntryIterator" 131 ⟨"java/util/Iterator", "hasNext", "()Z"⟩ yJ35_hasNext cJ35_hasNext 1 (Option.some FieldType.boolean) 0 := ⟨q2547, by decide +kernel, q792, q794, q152, q796, fun sig h => by have e := (show (parseMethodDescriptor (⟨"java/util/Iterator", "hasNext", "()Z"⟩ : MethodName).desc).map (fun d => d.parameters.length) = some 0 by decide +kernel); rw [h] at e; exact (Option.some.inj e).symm⟩
theorem cx_J18_137_23 : cxF "java/util/HashMap" "java/util/LinkedHashMap$LinkedEntryIterator" 137 ⟨"java/util/Iterator", "next", "()Ljava/lang/Object;"⟩ yJ36_next cJ36_next 1 (Option.some (FieldType.object "java/lang/Object")) 0 := ⟨q2549, by decide +kernel, q838, q840, q153, q842, fun sig h => by have e := (show (parseMethodDescriptor (⟨"java/util/Iterator", "next", "()Ljava/lang/Object;"⟩ : MethodName).desc).map (fun d => d.parameters.length) = some 0 by decide +kernel); rw [h] at e; exact (Option.some.inj e).symm⟩
theorem cx_J18_143_16 : cxF "java/util/HashMap" "java/util/LinkedHashMap$Entry" 143 ⟨"java/util/Map$Entry", "getKey", "()Ljava/lang/Object;"⟩ yJ25_getKey cJ25_getKey 1 (Option.some (FieldType.object "java/lang/Object")) 0 := ⟨q2552, by decide +kernel, q2563, q866, q138, q867, fun sig h => by have e := (show (parseMethodDescriptor (⟨"java/util/Map$Entry", "getKey", "()Ljava/lang/Object;"⟩ : MethodName).desc).map (fun d => d.parameters.length) = some 0 by decide +kernel); rw [h] at e; exact (Option.some.inj e).symm⟩
theorem cx_J18_146_16 : cxF "java/util/HashMap" "java/util/LinkedHashMap$Entry" 146 ⟨"java/util/Map$Entry", "getValue", "()Ljava/lang/Object;"⟩ yJ25_getValue cJ25_getValue 1 (Option.some (FieldType.object "java/lang/Object")) 0 := ⟨q2566, by decide +kernel, q2576, q2571, q138, q2573, fun sig h => by have e := (show (parseMethodDescriptor (⟨"java/util/Map$Entry", "getValue", "()Ljava/lang/Object;"⟩ : MethodName).desc).map (fun d => d.parameters.length) = some 0 by decide +kernel); rw [h] at e; exact (Option.some.inj e).symm⟩
theorem cx_J18_121_15 : cxF "java/util/HashMap" "java/util/LinkedHashMap" 121 ⟨"java/util/Map", "entrySet", "()Ljava/util/Set;"⟩ yJ19_entrySet cJ19_entrySet 1 (Option.some (FieldType.object "java/util/Set")) 0 := ⟨q2519, by decide +kernel, q2522, q2524, q125, q2526, fun sig h => by have e := (show (parseMethodDescriptor (⟨"java/util/Map", "entrySet", "()Ljava/util/Set;"⟩ : MethodName).desc).map (fun d => d.parameters.length) = some 0 by decide +kernel); rw [h] at e; exact (Option.some.inj e).symm⟩
theorem cx_J18_125_20 : cxF "java/util/HashMap" "java/util/LinkedHashMap$LinkedEntrySet" 125 ⟨"java/util/Set", "iterator", "()Ljava/util/Iterator;"⟩ yJ52_iterator cJ52_iterator 1 (Option.some (FieldType.object "java/util/Iterator")) 0 := ⟨q2545, by decide +kernel, q1094, q989, q172, q991, fun sig h => by have e := (show (parseMethodDescriptor (⟨"java/util/Set", "iterator", "()Ljava/util/Iterator;"⟩ : MethodName).desc).map (fun d => d.parameters.length) = some 0 by decide +kernel); rw [h] at e; exact (Option.some.inj e).symm⟩
theorem cx_J18_100_15 : cxF "java/util/HashMap" "java/util/LinkedHashMap" 100 ⟨"java/util/Map", "size", "()I"⟩ yJ18_size cJ18_size 1 (Option.some FieldType.int) 0 := ⟨q2490, by decide +kernel, q728, q730, q124, q732, fun sig h => by have e := (show (parseMethodDescriptor (⟨"java/util/Map", "size", "()I"⟩ : MethodName).desc).map (fun d => d.parameters.length) = some 0 by decide +kernel); rw [h] at e; exact (Option.some.inj e).symm⟩
theorem cx_J18_96 : cxV "java/util/HashMap" "java/util/LinkedHashMap" 96 yJ18_putMapEntries cJ18_putMapEntries 8 (Option.none : Option FieldType) 2 := ⟨q2484, q2485, q2487, q124, q2488, ⟨by decide +kernel, by decide +kernel⟩, fun sig h => by have e := (show (parseMethodDescriptor (yJ18_putMapEntries).desc).map (fun d => d.parameters.length) = some 2 by decide +kernel); rw [h] at e; exact (Option.some.inj e).symm⟩
theorem cx_J44_1 : cxI "java/util/HashSet" 1 yJ39_init cJ39_init 1 0 := ⟨q1313, q1075, q156, q1076, ⟨by decide +kernel, by decide +kernel⟩, rfl, fun sig h => by have e := (show (parseMethodDescriptor (yJ39_init).desc).map (fun d => d.parameters.length) = some 0 by decide +kernel); rw [h] at e; exact (Option.some.inj e).symm⟩
theorem nx_J44_42 : nx "java/util/HashSet" 42 15 12 [.null, .null, .int 0, .int 0, .int 0, .float 0, .null, .null, .null, .null, .int 0, .int 0] := ⟨(Nat.le_of_ble_eq_true rfl), rfl, RJ19, TJ19, tyJ19, rfl, rfl, q1314, q540, q125, by
  intro j hj
  match j, hj with
  | 0, _ => rfl
  | 1, _ => rfl
  | 2, _ => rfl
  | 3, _ => rfl
  | 4, _ => rfl
  | 5, _ => rfl
  | 6, _ => rfl
  | 7, _ => rfl
  | 8, _ => rfl
  | 9, _ => rfl
  | 10, _ => rfl
  | 11, _ => rfl
  | j + 12, hj => omega⟩
theorem cx_J44_44 : cxI "java/util/HashSet" 44 yJ19_init_2 cJ19_init_2 3 2 := ⟨q1315, q1316, q125, q1317, ⟨by decide +kernel, by decide +kernel⟩, rfl, fun sig h => by have e := (show (parseMethodDescriptor (yJ19_init_2).desc).map (fun d => d.parameters.length) = some 2 by decide +kernel); rw [h] at e; exact (Option.some.inj e).symm⟩
theorem px_J44_10 : px "java/util/HashSet" 10 [24] 0 (.object "java/util/HashMap") false := ⟨"java/util/HashSet", "java/util/HashSet", "map", "Ljava/util/HashMap;", ⟨Or.inl q1819, Or.inl rfl⟩, px_c (r := (RJ45, TJ45, 1)) (Nat.le_of_ble_eq_true rfl) rfl (Nat.le_of_ble_eq_true rfl) rfl (px_0), by decide +kernel, fun h => by cases h⟩
theorem cx_J45_1 : cxI "java/util/LinkedHashSet" 1 yJ44_init cJ44_init 4 3 := ⟨q1310, q1311, q162, q1312, ⟨by decide +kernel, by decide +kernel⟩, rfl, fun sig h => by have e := (show (parseMethodDescriptor (yJ44_init).desc).map (fun d => d.parameters.length) = some 3 by decide +kernel); rw [h] at e; exact (Option.some.inj e).symm⟩
theorem fx_J44_10 : fx "java/util/HashSet" 10 [24] 0 := ⟨"java/util/HashSet", "java/util/HashSet", "map", "Ljava/util/HashMap;", ⟨Or.inl q1819, Or.inl rfl⟩, fx_c (r := (RJ45, TJ45, 1)) (Nat.le_of_ble_eq_true rfl) rfl (Nat.le_of_ble_eq_true rfl) rfl rfl rfl (fx_0)⟩
theorem sx_J44_64 : sx "java/util/HashSet" 64 7 := ⟨_, Or.inl q1862, rfl⟩
theorem cx_J44_68 : cxV "java/util/HashSet" "java/util/LinkedHashMap" 68 yJ18_put cJ18_put 3 (Option.some (FieldType.object "java/lang/Object")) 2 := ⟨q1864, q1865, q1867, q124, q1868, ⟨by decide +kernel, by decide +kernel⟩, fun sig h => by have e := (show (parseMethodDescriptor (yJ18_put).desc).map (fun d => d.parameters.length) = some 2 by decide +kernel); rw [h] at e; exact (Option.some.inj e).symm⟩
theorem cx_J44_55 : cxV "java/util/HashSet" "java/util/LinkedHashMap" 55 yJ18_size cJ18_size 1 (Option.some FieldType.int) 0 := ⟨q2460, q730, q3819, q124, q732, ⟨by decide +kernel, by decide +kernel⟩, fun sig h => by have e := (show (parseMethodDescriptor (yJ18_size).desc).map (fun d => d.parameters.length) = some 0 by decide +kernel); rw [h] at e; exact (Option.some.inj e).symm⟩
theorem cx_J44_45_15 : cxU "java/util/HashSet" "java/util/LinkedHashMap" "java/util/HashMap" 45 ⟨"java/util/HashMap", "keySet", "()Ljava/util/Set;"⟩ yJ19_keySet cJ19_keySet 1 (Option.some (FieldType.object "java/util/Set")) 0 := ⟨q1059, q1061, Or.inl (lw_n q1086 rfl), by decide +kernel, q1062, q1063, q125, q1064, fun sig h => by have e := (show (parseMethodDescriptor (⟨"java/util/HashMap", "keySet", "()Ljava/util/Set;"⟩ : MethodName).desc).map (fun d => d.parameters.length) = some 0 by decide +kernel); rw [h] at e; exact (Option.some.inj e).symm⟩
theorem cx_J44_49_19 : cxF "java/util/HashSet" "java/util/LinkedHashMap$LinkedKeySet" 49 ⟨"java/util/Set", "iterator", "()Ljava/util/Iterator;"⟩ yJ41_iterator cJ41_iterator 1 (Option.some (FieldType.object "java/util/Iterator")) 0 := ⟨q1088, by decide +kernel, q1096, q1020, q158, q1022, fun sig h => by have e := (show (parseMethodDescriptor (⟨"java/util/Set", "iterator", "()Ljava/util/Iterator;"⟩ : MethodName).desc).map (fun d => d.parameters.length) = some 0 by decide +kernel); rw [h] at e; exact (Option.some.inj e).symm⟩
set_option maxHeartbeats 4000000 in
theorem wb_J16_numberOfLeadingZeros_b14 {E : Ev} {K : Kx} (C : wk_C E K yJ16_numberOfLeadingZeros cJ16_numberOfLeadingZeros 2 (Option.some FieldType.int) 0 0 []) {r : Int32} {σ' : Hs} (t0 : Int32) (σ : Hs) (hf : fn_J16_numberOfLeadingZeros_b14 t0 σ = some (r, σ')) : wk_V E K (.inl (some (.int r))) σ' σ 14 [] [vI t0] := by
  unfold fn_J16_numberOfLeadingZeros_b14 at hf
  obtain ⟨rfl, rfl⟩ := Prod.mk.inj (Option.some.inj hf)
  exact wk_iret C rfl rfl dJ16_numberOfLeadingZeros_14
set_option maxHeartbeats 4000000 in
theorem wb_J16_numberOfLeadingZeros_b73 {E : Ev} {K : Kx} (C : wk_C E K yJ16_numberOfLeadingZeros cJ16_numberOfLeadingZeros 2 (Option.some FieldType.int) 0 0 []) {r : Int32} {σ' : Hs} (l0 : Int32) (l1 : Int32) (σ : Hs) (hf : fn_J16_numberOfLeadingZeros_b73 l0 l1 σ = some (r, σ')) : wk_V E K (.inl (some (.int r))) σ' σ 73 [(0, vI l0), (1, vI l1)] [] := by
  unfold fn_J16_numberOfLeadingZeros_b73 at hf
  refine wk_iload_n C 1 rfl dJ16_numberOfLeadingZeros_73 ?_
  refine wk_iload_n C 0 rfl dJ16_numberOfLeadingZeros_74 ?_
  refine wk_iconst (v := 1) C dJ16_numberOfLeadingZeros_75 rfl ?_
  refine wk_iushr C dJ16_numberOfLeadingZeros_76 ?_
  refine wk_isub C dJ16_numberOfLeadingZeros_77 ?_
  obtain ⟨rfl, rfl⟩ := Prod.mk.inj (Option.some.inj hf)
  exact wk_iret C rfl rfl dJ16_numberOfLeadingZeros_78
set_option maxHeartbeats 4000000 in
theorem wb_J16_numberOfLeadingZeros_b61 {E : Ev} {K : Kx} (C : wk_C E K yJ16_numberOfLeadingZeros cJ16_numberOfLeadingZeros 2 (Option.some FieldType.int) 0 0 []) {r : Int32} {σ' : Hs} (l0 : Int32) (l1 : Int32) (σ : Hs) (hf : fn_J16_numberOfLeadingZeros_b61 l0 l1 σ = some (r, σ')) : wk_V E K (.inl (some (.int r))) σ' σ 61 [(0, vI l0), (1, vI l1)] [] := by
  unfold fn_J16_numberOfLeadingZeros_b61 at hf
  refine wk_iload_n C 0 rfl dJ16_numberOfLeadingZeros_61 ?_
  refine wk_iconst (v := 4) C dJ16_numberOfLeadingZeros_62 rfl ?_
  refine wk_icmp_lt C 73 (by decide) dJ16_numberOfLeadingZeros_63 (fun c_ => ?_) (fun c_ => ?_)
  · rw [if_pos c_] at hf
    exact wb_J16_numberOfLeadingZeros_b73 C  _ _ _ hf
  · rw [if_neg c_] at hf
    refine wk_iinc (v := l1 + (-2)) (L' := [(0, vI l0), (1, vI (l1 + (-2)))]) C 1 rfl (by decide) (by rw [show Int32.ofInt (-2) = (-2 : Int32) from by decide]) rfl dJ16_numberOfLeadingZeros_66 ?_
    refine wk_iload_n C 0 rfl dJ16_numberOfLeadingZeros_69 ?_
    refine wk_iconst (v := 2) C dJ16_numberOfLeadingZeros_70 rfl ?_
    refine wk_iushr C dJ16_numberOfLeadingZeros_71 ?_
    obtain ⟨v1, e_v1, hf⟩ := ho_b hf
    refine wk_tI (Option.some.inj e_v1) ?_
    refine wk_istore_n (L' := [(0, vI v1), (1, vI (l1 + (-2)))]) C (by decide) rfl dJ16_numberOfLeadingZeros_72 ?_
    exact wb_J16_numberOfLeadingZeros_b73 C  _ _ _ hf
set_option maxHeartbeats 4000000 in
theorem wb_J16_numberOfLeadingZeros_b48 {E : Ev} {K : Kx} (C : wk_C E K yJ16_numberOfLeadingZeros cJ16_numberOfLeadingZeros 2 (Option.some FieldType.int) 0 0 []) {r : Int32} {σ' : Hs} (l0 : Int32) (l1 : Int32) (σ : Hs) (hf : fn_J16_numberOfLeadingZeros_b48 l0 l1 σ = some (r, σ')) : wk_V E K (.inl (some (.int r))) σ' σ 48 [(0, vI l0), (1, vI l1)] [] := by
  unfold fn_J16_numberOfLeadingZeros_b48 at hf
  refine wk_iload_n C 0 rfl dJ16_numberOfLeadingZeros_48 ?_
  refine wk_bipush (v := 16) C dJ16_numberOfLeadingZeros_49 rfl ?_
  refine wk_icmp_lt C 61 (by decide) dJ16_numberOfLeadingZeros_51 (fun c_ => ?_) (fun c_ => ?_)
  · rw [if_pos c_] at hf
    exact wb_J16_numberOfLeadingZeros_b61 C  _ _ _ hf
  · rw [if_neg c_] at hf
    refine wk_iinc (v := l1 + (-4)) (L' := [(0, vI l0), (1, vI (l1 + (-4)))]) C 1 rfl (by decide) (by rw [show Int32.ofInt (-4) = (-4 : Int32) from by decide]) rfl dJ16_numberOfLeadingZeros_54 ?_
    refine wk_iload_n C 0 rfl dJ16_numberOfLeadingZeros_57 ?_
    refine wk_iconst (v := 4) C dJ16_numberOfLeadingZeros_58 rfl ?_
    refine wk_iushr C dJ16_numberOfLeadingZeros_59 ?_
    obtain ⟨v2, e_v2, hf⟩ := ho_b hf
    refine wk_tI (Option.some.inj e_v2) ?_
    refine wk_istore_n (L' := [(0, vI v2), (1, vI (l1 + (-4)))]) C (by decide) rfl dJ16_numberOfLeadingZeros_60 ?_
    exact wb_J16_numberOfLeadingZeros_b61 C  _ _ _ hf
set_option maxHeartbeats 4000000 in
theorem wb_J16_numberOfLeadingZeros_b33 {E : Ev} {K : Kx} (C : wk_C E K yJ16_numberOfLeadingZeros cJ16_numberOfLeadingZeros 2 (Option.some FieldType.int) 0 0 []) {r : Int32} {σ' : Hs} (l0 : Int32) (l1 : Int32) (σ : Hs) (hf : fn_J16_numberOfLeadingZeros_b33 l0 l1 σ = some (r, σ')) : wk_V E K (.inl (some (.int r))) σ' σ 33 [(0, vI l0), (1, vI l1)] [] := by
  unfold fn_J16_numberOfLeadingZeros_b33 at hf
  refine wk_iload_n C 0 rfl dJ16_numberOfLeadingZeros_33 ?_
  refine wk_sipush (v := 256) C dJ16_numberOfLeadingZeros_34 rfl ?_
  refine wk_icmp_lt C 48 (by decide) dJ16_numberOfLeadingZeros_37 (fun c_ => ?_) (fun c_ => ?_)
  · rw [if_pos c_] at hf
    exact wb_J16_numberOfLeadingZeros_b48 C  _ _ _ hf
  · rw [if_neg c_] at hf
    refine wk_iinc (v := l1 + (-8)) (L' := [(0, vI l0), (1, vI (l1 + (-8)))]) C 1 rfl (by decide) (by rw [show Int32.ofInt (-8) = (-8 : Int32) from by decide]) rfl dJ16_numberOfLeadingZeros_40 ?_
    refine wk_iload_n C 0 rfl dJ16_numberOfLeadingZeros_43 ?_
    refine wk_bipush (v := 8) C dJ16_numberOfLeadingZeros_44 rfl ?_
    refine wk_iushr C dJ16_numberOfLeadingZeros_46 ?_
    obtain ⟨v3, e_v3, hf⟩ := ho_b hf
    refine wk_tI (Option.some.inj e_v3) ?_
    refine wk_istore_n (L' := [(0, vI v3), (1, vI (l1 + (-8)))]) C (by decide) rfl dJ16_numberOfLeadingZeros_47 ?_
    exact wb_J16_numberOfLeadingZeros_b48 C  _ _ _ hf
set_option maxHeartbeats 4000000 in
theorem mt_J16_numberOfLeadingZeros {E : Ev} {l : Launch} (hl : l.stackTraces = false) {p0 : Int32} {σ : Hs} {r : Int32} {σ' : Hs} (hf : fn_J16_numberOfLeadingZeros p0 σ = some (r, σ')) : wk_M E l yJ16_numberOfLeadingZeros (ws_ yJ16_numberOfLeadingZeros cJ16_numberOfLeadingZeros 2 (Option.some FieldType.int)) 0 0 [vI p0] σ (.inl (some (.int r))) σ' := by
  refine wk_start (by decide +kernel) hl (Nat.le_of_ble_eq_true rfl) (fun K C hK => ?_)
  subst hK
  refine wk_L (L' := [(0, vI p0)]) rfl ?_
  unfold fn_J16_numberOfLeadingZeros at hf
  refine wk_iload_n C 0 rfl dJ16_numberOfLeadingZeros_0 ?_
  refine wk_if_gt C 15 (by decide) dJ16_numberOfLeadingZeros_1 (fun c_ => ?_) (fun c_ => ?_)
  · rw [if_pos c_] at hf
    refine wk_bipush (v := 31) C dJ16_numberOfLeadingZeros_15 rfl ?_
    refine wk_istore_n (L' := [(0, vI p0), (1, vI (31 : Int32))]) C (by decide) rfl dJ16_numberOfLeadingZeros_17 ?_
    refine wk_iload_n C 0 rfl dJ16_numberOfLeadingZeros_18 ?_
    refine wk_ldcw C q1381 dJ16_numberOfLeadingZeros_19 ?_
    refine wk_icmp_lt C 33 (by decide) dJ16_numberOfLeadingZeros_22 (fun c_ => ?_) (fun c_ => ?_)
    · rw [if_pos c_] at hf
      exact wb_J16_numberOfLeadingZeros_b33 C  _ _ _ hf
    · rw [if_neg c_] at hf
      refine wk_iinc (v := (31 : Int32) + (-16)) (L' := [(0, vI p0), (1, vI ((31 : Int32) + (-16)))]) C 1 rfl (by decide) (by rw [show Int32.ofInt (-16) = (-16 : Int32) from by decide]) rfl dJ16_numberOfLeadingZeros_25 ?_
      refine wk_iload_n C 0 rfl dJ16_numberOfLeadingZeros_28 ?_
      refine wk_bipush (v := 16) C dJ16_numberOfLeadingZeros_29 rfl ?_
      refine wk_iushr C dJ16_numberOfLeadingZeros_31 ?_
      obtain ⟨v4, e_v4, hf⟩ := ho_b hf
      refine wk_tI (Option.some.inj e_v4) ?_
      refine wk_istore_n (L' := [(0, vI v4), (1, vI ((31 : Int32) + (-16)))]) C (by decide) rfl dJ16_numberOfLeadingZeros_32 ?_
      exact wb_J16_numberOfLeadingZeros_b33 C  _ _ _ hf
  · rw [if_neg c_] at hf
    refine wk_iload_n C 0 rfl dJ16_numberOfLeadingZeros_4 ?_
    refine wk_if_ne C 13 (by decide) dJ16_numberOfLeadingZeros_5 (fun c_ => ?_) (fun c_ => ?_)
    · rw [if_neg c_] at hf
      refine wk_iconst (v := 0) C dJ16_numberOfLeadingZeros_13 rfl ?_
      refine wk_sub (L' := []) [] rfl ?_
      exact wb_J16_numberOfLeadingZeros_b14 C  _ _ hf
    · rw [if_pos c_] at hf
      refine wk_bipush (v := 32) C dJ16_numberOfLeadingZeros_8 rfl ?_
      refine wk_goto C 14 (by decide) dJ16_numberOfLeadingZeros_10 ?_
      refine wk_sub (L' := []) [] rfl ?_
      exact wb_J16_numberOfLeadingZeros_b14 C  _ _ hf
set_option maxHeartbeats 4000000 in
theorem wb_J18_tableSizeFor_b31 {E : Ev} {K : Kx} (C : wk_C E K yJ18_tableSizeFor cJ18_tableSizeFor 2 (Option.some FieldType.int) 1 21 []) {r : Int32} {σ' : Hs} (t0 : Int32) (σ : Hs) (hf : fn_J18_tableSizeFor_b31 t0 σ = some (r, σ')) : wk_V E K (.inl (some (.int r))) σ' σ 31 [] [vI t0] := by
  unfold fn_J18_tableSizeFor_b31 at hf
  obtain ⟨rfl, rfl⟩ := Prod.mk.inj (Option.some.inj hf)
  exact wk_iret C rfl rfl dJ18_tableSizeFor_31
set_option maxHeartbeats 4000000 in
theorem mt_J18_tableSizeFor {E : Ev} {l : Launch} (hl : l.stackTraces = false) {p0 : Int32} {σ : Hs} {r : Int32} {σ' : Hs} (hf : fn_J18_tableSizeFor p0 σ = some (r, σ')) : wk_M E l yJ18_tableSizeFor (ws_ yJ18_tableSizeFor cJ18_tableSizeFor 2 (Option.some FieldType.int)) 1 21 [vI p0] σ (.inl (some (.int r))) σ' := by
  refine wk_start (by decide +kernel) hl (Nat.le_of_ble_eq_true rfl) (fun K C hK => ?_)
  subst hK
  refine wk_L (L' := [(0, vI p0)]) rfl ?_
  unfold fn_J18_tableSizeFor at hf
  refine wk_iconst (v := -1) C dJ18_tableSizeFor_0 rfl ?_
  refine wk_iload_n C 0 rfl dJ18_tableSizeFor_1 ?_
  refine wk_iconst (v := 1) C dJ18_tableSizeFor_2 rfl ?_
  refine wk_isub C dJ18_tableSizeFor_3 ?_
  obtain ⟨v2, σ1, h_σ1, hf⟩ := ho_e2 hf
  refine wk_callS (av := [vI (p0 - (1 : Int32))]) (rest := [vI (-1 : Int32)]) (rv := some (vI v2)) C cx_J18_34 (mt_J16_numberOfLeadingZeros (wk_C.tr C) h_σ1) rfl rfl (Nat.le_of_ble_eq_true rfl) (Nat.le_of_ble_eq_true rfl) (Nat.le_of_ble_eq_true rfl) dJ18_tableSizeFor_4 ?_
  refine wk_iushr C dJ18_tableSizeFor_7 ?_
  obtain ⟨v3, e_v3, hf⟩ := ho_b hf
  refine wk_tI (Option.some.inj e_v3) ?_
  refine wk_istore_n (L' := [(0, vI p0), (1, vI v3)]) C (by decide) rfl dJ18_tableSizeFor_8 ?_
  refine wk_iload_n C 1 rfl dJ18_tableSizeFor_9 ?_
  refine wk_if_ge C 17 (by decide) dJ18_tableSizeFor_10 (fun c_ => ?_) (fun c_ => ?_)
  · rw [if_pos c_] at hf
    refine wk_iload_n C 1 rfl dJ18_tableSizeFor_17 ?_
    refine wk_ldc C q1329 dJ18_tableSizeFor_18 ?_
    refine wk_icmp_lt C 28 (by decide) dJ18_tableSizeFor_20 (fun c_ => ?_) (fun c_ => ?_)
    · rw [if_pos c_] at hf
      refine wk_iload_n C 1 rfl dJ18_tableSizeFor_28 ?_
      refine wk_iconst (v := 1) C dJ18_tableSizeFor_29 rfl ?_
      refine wk_iadd C dJ18_tableSizeFor_30 ?_
      refine wk_sub (L' := []) [] rfl ?_
      exact wb_J18_tableSizeFor_b31 C  _ _ hf
    · rw [if_neg c_] at hf
      refine wk_ldc C q1329 dJ18_tableSizeFor_23 ?_
      refine wk_goto C 31 (by decide) dJ18_tableSizeFor_25 ?_
      refine wk_sub (L' := []) [] rfl ?_
      exact wb_J18_tableSizeFor_b31 C  _ _ hf
  · rw [if_neg c_] at hf
    refine wk_iconst (v := 1) C dJ18_tableSizeFor_13 rfl ?_
    refine wk_goto C 31 (by decide) dJ18_tableSizeFor_14 ?_
    refine wk_sub (L' := []) [] rfl ?_
    exact wb_J18_tableSizeFor_b31 C  _ _ hf
set_option maxHeartbeats 4000000 in
theorem wb_J46_isNaN_b11 {E : Ev} {K : Kx} (C : wk_C E K yJ46_isNaN cJ46_isNaN 1 (Option.some FieldType.boolean) 0 0 []) {r : Int32} {σ' : Hs} (t0 : Int32) (σ : Hs) (hf : fn_J46_isNaN_b11 t0 σ = some (r, σ')) : wk_V E K (.inl (some (.int r))) σ' σ 11 [] [vI t0] := by
  unfold fn_J46_isNaN_b11 at hf
  obtain ⟨v1, h_v1, hf⟩ := ho_b hf
  obtain ⟨rfl, rfl⟩ := Prod.mk.inj (Option.some.inj hf)
  exact wk_zret C h_v1 rfl rfl dJ46_isNaN_11
set_option maxHeartbeats 4000000 in
theorem mt_J46_isNaN {E : Ev} {l : Launch} (hl : l.stackTraces = false) {p0 : UInt32} {σ : Hs} {r : Int32} {σ' : Hs} (hf : fn_J46_isNaN p0 σ = some (r, σ')) : wk_M E l yJ46_isNaN (ws_ yJ46_isNaN cJ46_isNaN 1 (Option.some FieldType.boolean)) 0 0 [vF p0] σ (.inl (some (.int r))) σ' := by
  refine wk_start (by decide +kernel) hl (Nat.le_of_ble_eq_true rfl) (fun K C hK => ?_)
  subst hK
  refine wk_L (L' := [(0, vF p0)]) rfl ?_
  unfold fn_J46_isNaN at hf
  refine wk_fload_n C 0 rfl dJ46_isNaN_0 ?_
  refine wk_fload_n C 0 rfl dJ46_isNaN_1 ?_
  refine wk_fcmp C dJ46_isNaN_2 ?_
  refine wk_if_eq C 10 (by decide) dJ46_isNaN_3 (fun c_ => ?_) (fun c_ => ?_)
  · rw [if_pos c_] at hf
    refine wk_iconst (v := 0) C dJ46_isNaN_10 rfl ?_
    refine wk_sub (L' := []) [] rfl ?_
    exact wb_J46_isNaN_b11 C  _ _ hf
  · rw [if_neg c_] at hf
    refine wk_iconst (v := 1) C dJ46_isNaN_6 rfl ?_
    refine wk_goto C 11 (by decide) dJ46_isNaN_7 ?_
    refine wk_sub (L' := []) [] rfl ?_
    exact wb_J46_isNaN_b11 C  _ _ hf
set_option maxHeartbeats 4000000 in
theorem mt_J12_getExponent {E : Ev} {l : Launch} (hl : l.stackTraces = false) {p0 : UInt64} {σ : Hs} {r : Int32} {σ' : Hs} (hf : fn_J12_getExponent p0 σ = some (r, σ')) : wk_M E l yJ12_getExponent (ws_ yJ12_getExponent cJ12_getExponent 2 (Option.some FieldType.int)) 1 15 [vD p0] σ (.inl (some (.int r))) σ' := by
  refine wk_start (by decide +kernel) hl (Nat.le_of_ble_eq_true rfl) (fun K C hK => ?_)
  subst hK
  refine wk_L (L' := [(0, vD p0)]) rfl ?_
  unfold fn_J12_getExponent at hf
  refine wk_dload_n C 0 rfl dJ12_getExponent_0 ?_
  refine wk_d2l C q2504 q2506 q2505 q171 (Nat.le_of_ble_eq_true rfl) (Nat.le_of_ble_eq_true rfl) dJ12_getExponent_1 ?_
  refine wk_ldc2 C q2507 dJ12_getExponent_4 ?_
  refine wk_land C dJ12_getExponent_7 ?_
  refine wk_bipush (v := 52) C dJ12_getExponent_8 rfl ?_
  refine wk_lshr C dJ12_getExponent_10 ?_
  refine wk_ldc2 C q2508 dJ12_getExponent_11 ?_
  refine wk_lsub C dJ12_getExponent_14 ?_
  refine wk_l2i C dJ12_getExponent_15 ?_
  obtain ⟨rfl, rfl⟩ := Prod.mk.inj (Option.some.inj hf)
  exact wk_iret C rfl rfl dJ12_getExponent_16
set_option maxHeartbeats 4000000 in
theorem wb_J51_floorOrCeil_b33 {E : Ev} {K : Kx} (C : wk_C E K yJ51_floorOrCeil cJ51_floorOrCeil 15 (Option.some FieldType.double) 2 36 []) {r : UInt64} {σ' : Hs} (t0 : UInt64) (σ : Hs) (hf : fn_J51_floorOrCeil_b33 t0 σ = some (r, σ')) : wk_V E K (.inl (some (.double r))) σ' σ 33 [] [vD t0] := by
  unfold fn_J51_floorOrCeil_b33 at hf
  obtain ⟨rfl, rfl⟩ := Prod.mk.inj (Option.some.inj hf)
  exact wk_dret C rfl rfl dJ51_floorOrCeil_33
set_option maxHeartbeats 4000000 in
theorem wb_J51_floorOrCeil_b61 {E : Ev} {K : Kx} (C : wk_C E K yJ51_floorOrCeil cJ51_floorOrCeil 15 (Option.some FieldType.double) 2 36 []) {r : UInt64} {σ' : Hs}  (σ : Hs) (hf : fn_J51_floorOrCeil_b61  σ = some (r, σ')) : wk_V E K (.inl (some (.double r))) σ' σ 61 [] [] := by
  unfold fn_J51_floorOrCeil_b61 at hf
  cases hf
set_option maxHeartbeats 4000000 in
theorem wb_J51_floorOrCeil_b125 {E : Ev} {K : Kx} (C : wk_C E K yJ51_floorOrCeil cJ51_floorOrCeil 15 (Option.some FieldType.double) 2 36 []) {r : UInt64} {σ' : Hs} (l13 : UInt64) (σ : Hs) (hf : fn_J51_floorOrCeil_b125 l13 σ = some (r, σ')) : wk_V E K (.inl (some (.double r))) σ' σ 125 [(13, vD l13)] [] := by
  unfold fn_J51_floorOrCeil_b125 at hf
  refine wk_dload C 0 rfl dJ51_floorOrCeil_125 ?_
  obtain ⟨rfl, rfl⟩ := Prod.mk.inj (Option.some.inj hf)
  exact wk_dret C rfl rfl dJ51_floorOrCeil_127
set_option maxHeartbeats 4000000 in
theorem wb_J51_floorOrCeil_b69 {E : Ev} {K : Kx} (C : wk_C E K yJ51_floorOrCeil cJ51_floorOrCeil 15 (Option.some FieldType.double) 2 36 []) {r : UInt64} {σ' : Hs} (l0 : UInt64) (l6 : UInt64) (l8 : Int32) (σ : Hs) (hf : fn_J51_floorOrCeil_b69 l0 l6 l8 σ = some (r, σ')) : wk_V E K (.inl (some (.double r))) σ' σ 69 [(0, vD l0), (6, vD l6), (8, vI l8)] [] := by
  unfold fn_J51_floorOrCeil_b69 at hf
  refine wk_dload_n C 0 rfl dJ51_floorOrCeil_69 ?_
  refine wk_d2l C q2511 q2506 q2505 q171 (Nat.le_of_ble_eq_true rfl) (Nat.le_of_ble_eq_true rfl) dJ51_floorOrCeil_70 ?_
  refine wk_lstore (L' := [(0, vD l0), (6, vD l6), (8, vI l8), (9, vJ l0.toInt64)]) C (by decide) rfl dJ51_floorOrCeil_73 ?_
  refine wk_ldc2 C q2512 dJ51_floorOrCeil_75 ?_
  refine wk_iload C 2 rfl dJ51_floorOrCeil_78 ?_
  refine wk_lshr C dJ51_floorOrCeil_80 ?_
  obtain ⟨v1, e_v1, hf⟩ := ho_b hf
  refine wk_tJ (Option.some.inj e_v1) ?_
  refine wk_lstore (L' := [(0, vD l0), (6, vD l6), (8, vI l8), (9, vJ l0.toInt64), (11, vJ v1)]) C (by decide) rfl dJ51_floorOrCeil_81 ?_
  refine wk_lload C 4 rfl dJ51_floorOrCeil_83 ?_
  refine wk_lload C 3 rfl dJ51_floorOrCeil_85 ?_
  refine wk_land C dJ51_floorOrCeil_87 ?_
  refine wk_lconst (v := 0) C dJ51_floorOrCeil_88 rfl ?_
  refine wk_lcmp_ne C 95 (by decide) dJ51_floorOrCeil_89 dJ51_floorOrCeil_90 (fun c_ => ?_) (fun c_ => ?_)
  · rw [if_neg c_] at hf
    refine wk_lload C 3 rfl dJ51_floorOrCeil_95 ?_
    refine wk_lload C 4 rfl dJ51_floorOrCeil_97 ?_
    refine wk_ldc2 C q2513 dJ51_floorOrCeil_99 ?_
    refine wk_lxor C dJ51_floorOrCeil_102 ?_
    refine wk_land C dJ51_floorOrCeil_103 ?_
    obtain ⟨v2, h_v2, hf⟩ := ho_b hf
    refine wk_l2d C h_v2 q2514 q2516 q2515 q171 (Nat.le_of_ble_eq_true rfl) (Nat.le_of_ble_eq_true rfl) dJ51_floorOrCeil_104 ?_
    refine wk_dstore (L' := [(0, vD l0), (6, vD l6), (8, vI l8), (9, vJ l0.toInt64), (11, vJ v1), (13, vD v2)]) C (by decide) rfl dJ51_floorOrCeil_107 ?_
    refine wk_dload C 1 rfl dJ51_floorOrCeil_109 ?_
    refine wk_dload_n C 0 rfl dJ51_floorOrCeil_111 ?_
    obtain ⟨v3, h_v3, hf⟩ := ho_b hf
    refine wk_dmul C h_v3 dJ51_floorOrCeil_112 ?_
    refine wk_dconst0 C dJ51_floorOrCeil_113 ?_
    refine wk_dcmp C dJ51_floorOrCeil_114 ?_
    refine wk_if_le C 125 (by decide) dJ51_floorOrCeil_115 (fun c_ => ?_) (fun c_ => ?_)
    · rw [if_pos c_] at hf
      refine wk_sub (L' := [(13, vD v2)]) [5] rfl ?_
      exact wb_J51_floorOrCeil_b125 C  _ _ hf
    · rw [if_neg c_] at hf
      refine wk_dload C 5 rfl dJ51_floorOrCeil_118 ?_
      refine wk_dload C 1 rfl dJ51_floorOrCeil_120 ?_
      obtain ⟨v4, h_v4, hf⟩ := ho_b hf
      refine wk_dadd C h_v4 dJ51_floorOrCeil_122 ?_
      refine wk_dstore (L' := [(0, vD l0), (6, vD l6), (8, vI l8), (9, vJ l0.toInt64), (11, vJ v1), (13, vD v4)]) C (by decide) rfl dJ51_floorOrCeil_123 ?_
      refine wk_sub (L' := [(13, vD v4)]) [5] rfl ?_
      exact wb_J51_floorOrCeil_b125 C  _ _ hf
  · rw [if_pos c_] at hf
    refine wk_dload_n C 0 rfl dJ51_floorOrCeil_93 ?_
    obtain ⟨rfl, rfl⟩ := Prod.mk.inj (Option.some.inj hf)
    exact wk_dret C rfl rfl dJ51_floorOrCeil_94
set_option maxHeartbeats 4000000 in
theorem mt_J51_floorOrCeil {E : Ev} {l : Launch} (hl : l.stackTraces = false) {p0 : UInt64} {p1 : UInt64} {p2 : UInt64} {p3 : UInt64} {σ : Hs} {r : UInt64} {σ' : Hs} (hf : fn_J51_floorOrCeil p0 p1 p2 p3 σ = some (r, σ')) : wk_M E l yJ51_floorOrCeil (ws_ yJ51_floorOrCeil cJ51_floorOrCeil 15 (Option.some FieldType.double)) 2 36 [vD p0, vD p1, vD p2, vD p3] σ (.inl (some (.double r))) σ' := by
  refine wk_start (by decide +kernel) hl (Nat.le_of_ble_eq_true rfl) (fun K C hK => ?_)
  subst hK
  refine wk_L (L' := [(0, vD p0), (2, vD p1), (4, vD p2), (6, vD p3)]) rfl ?_
  unfold fn_J51_floorOrCeil at hf
  refine wk_dload_n C 0 rfl dJ51_floorOrCeil_0 ?_
  obtain ⟨v6, σ5, h_σ5, hf⟩ := ho_e2 hf
  refine wk_callS (av := [vD p0]) (rest := []) (rv := some (vI v6)) C cx_J51_66 (mt_J12_getExponent (wk_C.tr C) h_σ5) rfl rfl (Nat.le_of_ble_eq_true rfl) (Nat.le_of_ble_eq_true rfl) (Nat.le_of_ble_eq_true rfl) dJ51_floorOrCeil_1 ?_
  refine wk_istore (L' := [(0, vD p0), (2, vD p1), (4, vD p2), (6, vD p3), (8, vI v6)]) C (by decide) rfl dJ51_floorOrCeil_4 ?_
  refine wk_iload C 4 rfl dJ51_floorOrCeil_6 ?_
  refine wk_if_ge C 34 (by decide) dJ51_floorOrCeil_8 (fun c_ => ?_) (fun c_ => ?_)
  · rw [if_pos c_] at hf
    refine wk_iload C 4 rfl dJ51_floorOrCeil_34 ?_
    refine wk_bipush (v := 52) C dJ51_floorOrCeil_36 rfl ?_
    refine wk_icmp_lt C 43 (by decide) dJ51_floorOrCeil_38 (fun c_ => ?_) (fun c_ => ?_)
    · rw [if_pos c_] at hf
      refine wk_getsI C (j := 13) sx_J51_70 rfl dJ51_floorOrCeil_43 ?_
      refine wk_if_ne C 69 (by decide) dJ51_floorOrCeil_46 (fun c_ => ?_) (fun c_ => ?_)
      · rw [if_neg c_] at hf
        refine wk_sub (L' := [(0, vD p0), (6, vD p3), (8, vI v6)]) [0, 3, 4] rfl ?_
        exact wb_J51_floorOrCeil_b69 C  _ _ _ _ hf
      · rw [if_pos c_] at hf
        refine wk_iload C 4 rfl dJ51_floorOrCeil_49 ?_
        refine wk_if_lt C 61 (by decide) dJ51_floorOrCeil_51 (fun c_ => ?_) (fun c_ => ?_)
        · rw [if_pos c_] at hf
          refine wk_sub (L' := []) [] rfl ?_
          exact wb_J51_floorOrCeil_b61 C   _ hf
        · rw [if_neg c_] at hf
          refine wk_iload C 4 rfl dJ51_floorOrCeil_54 ?_
          refine wk_bipush (v := 51) C dJ51_floorOrCeil_56 rfl ?_
          refine wk_icmp_le C 69 (by decide) dJ51_floorOrCeil_58 (fun c_ => ?_) (fun c_ => ?_)
          · rw [if_pos c_] at hf
            refine wk_sub (L' := [(0, vD p0), (6, vD p3), (8, vI v6)]) [0, 3, 4] rfl ?_
            exact wb_J51_floorOrCeil_b69 C  _ _ _ _ hf
          · rw [if_neg c_] at hf
            refine wk_sub (L' := []) [] rfl ?_
            exact wb_J51_floorOrCeil_b61 C   _ hf
    · rw [if_neg c_] at hf
      refine wk_dload_n C 0 rfl dJ51_floorOrCeil_41 ?_
      obtain ⟨rfl, rfl⟩ := Prod.mk.inj (Option.some.inj hf)
      exact wk_dret C rfl rfl dJ51_floorOrCeil_42
  · rw [if_neg c_] at hf
    refine wk_dload_n C 0 rfl dJ51_floorOrCeil_11 ?_
    refine wk_dconst0 C dJ51_floorOrCeil_12 ?_
    refine wk_dcmp C dJ51_floorOrCeil_13 ?_
    refine wk_if_ne C 21 (by decide) dJ51_floorOrCeil_14 (fun c_ => ?_) (fun c_ => ?_)
    · rw [if_neg c_] at hf
      refine wk_dload_n C 0 rfl dJ51_floorOrCeil_21 ?_
      refine wk_dconst0 C dJ51_floorOrCeil_22 ?_
      refine wk_dcmp C dJ51_floorOrCeil_23 ?_
      refine wk_if_ge C 31 (by decide) dJ51_floorOrCeil_24 (fun c_ => ?_) (fun c_ => ?_)
      · rw [if_pos c_] at hf
        refine wk_dload C 2 rfl dJ51_floorOrCeil_31 ?_
        refine wk_sub (L' := []) [] rfl ?_
        exact wb_J51_floorOrCeil_b33 C  _ _ hf
      · rw [if_neg c_] at hf
        refine wk_dload_n C 1 rfl dJ51_floorOrCeil_27 ?_
        refine wk_goto C 33 (by decide) dJ51_floorOrCeil_28 ?_
        refine wk_sub (L' := []) [] rfl ?_
        exact wb_J51_floorOrCeil_b33 C  _ _ hf
    · rw [if_pos c_] at hf
      refine wk_dload_n C 0 rfl dJ51_floorOrCeil_17 ?_
      refine wk_goto C 33 (by decide) dJ51_floorOrCeil_18 ?_
      refine wk_sub (L' := []) [] rfl ?_
      exact wb_J51_floorOrCeil_b33 C  _ _ hf
set_option maxHeartbeats 4000000 in
theorem mt_J51_ceil {E : Ev} {l : Launch} (hl : l.stackTraces = false) {p0 : UInt64} {σ : Hs} {r : UInt64} {σ' : Hs} (hf : fn_J51_ceil p0 σ = some (r, σ')) : wk_M E l yJ51_ceil (ws_ yJ51_ceil cJ51_ceil 2 (Option.some FieldType.double)) 3 70 [vD p0] σ (.inl (some (.double r))) σ' := by
  refine wk_start (by decide +kernel) hl (Nat.le_of_ble_eq_true rfl) (fun K C hK => ?_)
  subst hK
  refine wk_L (L' := [(0, vD p0)]) rfl ?_
  unfold fn_J51_ceil at hf
  refine wk_dload_n C 0 rfl dJ51_ceil_0 ?_
  refine wk_ldc2D C q2497 dJ51_ceil_1 ?_
  refine wk_dconst1 C dJ51_ceil_4 ?_
  refine wk_dconst1 C dJ51_ceil_5 ?_
  obtain ⟨v2, σ1, h_σ1, hf⟩ := ho_e2 hf
  refine wk_callS (av := [vD p0, vD (9223372036854775808 : UInt64), vD FP.dconst1, vD FP.dconst1]) (rest := []) (rv := some (vD v2)) C cx_J51_60 (mt_J51_floorOrCeil (wk_C.tr C) h_σ1) rfl rfl (Nat.le_of_ble_eq_true rfl) (Nat.le_of_ble_eq_true rfl) (Nat.le_of_ble_eq_true rfl) dJ51_ceil_6 ?_
  obtain ⟨rfl, rfl⟩ := Prod.mk.inj (Option.some.inj hf)
  exact wk_dret C rfl rfl dJ51_ceil_9
set_option maxHeartbeats 4000000 in
theorem mt_J25_init {E : Ev} {l : Launch} (hl : l.stackTraces = false) {p0 : Option Nat} {p1 : Int32} {p2 : Option Nat} {p3 : Option Nat} {p4 : Option Nat} {σ : Hs} {σ' : Hs} (hf : fn_J25_init p0 p1 p2 p3 p4 σ = some σ') : wk_M E l yJ25_init (ws_ yJ25_init cJ25_init 5 (Option.none : Option FieldType)) 1 12 [vR p0, vI p1, vR p2, vR p3, vR p4] σ (.inl none) σ' := by
  refine wk_start (by decide +kernel) hl (Nat.le_of_ble_eq_true rfl) (fun K C hK => ?_)
  subst hK
  refine wk_L (L' := [(0, vR p0), (1, vI p1), (2, vR p2), (3, vR p3), (4, vR p4)]) rfl ?_
  unfold fn_J25_init at hf
  refine wk_aload_n C 0 rfl dJ25_init_0 ?_
  obtain ⟨b1, h_b1, hf⟩ := ho_b hf
  refine wk_objI C h_b1 q2010 q179 q180 (Nat.le_of_ble_eq_true rfl) (Nat.le_of_ble_eq_true rfl) dJ25_init_1 ?_
  refine wk_aload_n C 0 rfl dJ25_init_4 ?_
  refine wk_iload_n C 1 rfl dJ25_init_5 ?_
  obtain ⟨σ2, h_σ2, hf⟩ := ho_b hf
  refine wk_putI C px_J25_7 (fun _ => rfl) h_σ2 dJ25_init_6 ?_
  refine wk_aload_n C 0 rfl dJ25_init_9 ?_
  refine wk_aload_n C 2 rfl dJ25_init_10 ?_
  obtain ⟨σ3, h_σ3, hf⟩ := ho_b hf
  refine wk_putR C px_J25_13 (Or.inl ⟨_, rfl⟩) (fun _ => rfl) h_σ3 dJ25_init_11 ?_
  refine wk_aload_n C 0 rfl dJ25_init_14 ?_
  refine wk_aload_n C 3 rfl dJ25_init_15 ?_
  obtain ⟨σ4, h_σ4, hf⟩ := ho_b hf
  refine wk_putR C px_J25_17 (Or.inl ⟨_, rfl⟩) (fun q => by cases q) h_σ4 dJ25_init_16 ?_
  refine wk_aload_n C 0 rfl dJ25_init_19 ?_
  refine wk_aload C 4 rfl dJ25_init_20 ?_
  obtain ⟨σ5, h_σ5, hf⟩ := ho_b hf
  refine wk_putR C px_J25_20 (Or.inl ⟨_, rfl⟩) (fun q => by cases q) h_σ5 dJ25_init_22 ?_
  obtain rfl := Option.some.inj hf
  exact wk_vret C rfl rfl dJ25_init_25
set_option maxHeartbeats 4000000 in
theorem mt_J25_getKey {E : Ev} {l : Launch} (hl : l.stackTraces = false) {p0 : Option Nat} {σ : Hs} {r : Option Nat} {σ' : Hs} (hf : fn_J25_getKey p0 σ = some (r, σ')) : wk_M E l yJ25_getKey (ws_ yJ25_getKey cJ25_getKey 1 (Option.some (FieldType.object "java/lang/Object"))) 0 0 [vR p0] σ (.inl (some (va_rf r))) σ' := by
  refine wk_start (by decide +kernel) hl (Nat.le_of_ble_eq_true rfl) (fun K C hK => ?_)
  subst hK
  refine wk_L (L' := [(0, vR p0)]) rfl ?_
  unfold fn_J25_getKey at hf
  refine wk_aload_n C 0 rfl dJ25_getKey_0 ?_
  obtain ⟨v1, h_v1, hf⟩ := ho_b hf
  refine wk_getR C fx_J25_13 h_v1 dJ25_getKey_1 ?_
  obtain ⟨rfl, rfl⟩ := Prod.mk.inj (Option.some.inj hf)
  exact wk_aret C (Or.inl ⟨_, rfl⟩) rfl rfl dJ25_getKey_4
set_option maxHeartbeats 4000000 in
theorem mt_J25_getValue {E : Ev} {l : Launch} (hl : l.stackTraces = false) {p0 : Option Nat} {σ : Hs} {r : Option Nat} {σ' : Hs} (hf : fn_J25_getValue p0 σ = some (r, σ')) : wk_M E l yJ25_getValue (ws_ yJ25_getValue cJ25_getValue 1 (Option.some (FieldType.object "java/lang/Object"))) 0 0 [vR p0] σ (.inl (some (va_rf r))) σ' := by
  refine wk_start (by decide +kernel) hl (Nat.le_of_ble_eq_true rfl) (fun K C hK => ?_)
  subst hK
  refine wk_L (L' := [(0, vR p0)]) rfl ?_
  unfold fn_J25_getValue at hf
  refine wk_aload_n C 0 rfl dJ25_getValue_0 ?_
  obtain ⟨v1, h_v1, hf⟩ := ho_b hf
  refine wk_getR C fx_J25_17 h_v1 dJ25_getValue_1 ?_
  obtain ⟨rfl, rfl⟩ := Prod.mk.inj (Option.some.inj hf)
  exact wk_aret C (Or.inl ⟨_, rfl⟩) rfl rfl dJ25_getValue_4
set_option maxHeartbeats 4000000 in
theorem mt_J26_init {E : Ev} {l : Launch} (hl : l.stackTraces = false) {p0 : Option Nat} {p1 : Int32} {p2 : Option Nat} {p3 : Option Nat} {p4 : Option Nat} {σ : Hs} {σ' : Hs} (hf : fn_J26_init p0 p1 p2 p3 p4 σ = some σ') : wk_M E l yJ26_init (ws_ yJ26_init cJ26_init 5 (Option.none : Option FieldType)) 2 36 [vR p0, vI p1, vR p2, vR p3, vR p4] σ (.inl none) σ' := by
  refine wk_start (by decide +kernel) hl (Nat.le_of_ble_eq_true rfl) (fun K C hK => ?_)
  subst hK
  refine wk_L (L' := [(0, vR p0), (1, vI p1), (2, vR p2), (3, vR p3), (4, vR p4)]) rfl ?_
  unfold fn_J26_init at hf
  refine wk_aload_n C 0 rfl dJ26_init_0 ?_
  refine wk_iload_n C 1 rfl dJ26_init_1 ?_
  refine wk_aload_n C 2 rfl dJ26_init_2 ?_
  refine wk_aload_n C 3 rfl dJ26_init_3 ?_
  refine wk_aload C 4 rfl dJ26_init_4 ?_
  obtain ⟨b1, h_b1, hf⟩ := ho_b hf
  obtain ⟨σ2, h_σ2, hf⟩ := ho_b hf
  refine wk_callI (av := [vI p1, vR p2, vR p3, vR p4]) (rest := []) C cx_J26_1 h_b1 (mt_J25_init (wk_C.tr C) h_σ2) rfl (Nat.le_of_ble_eq_true rfl) (Nat.le_of_ble_eq_true rfl) (Nat.le_of_ble_eq_true rfl) dJ26_init_6 ?_
  obtain rfl := Option.some.inj hf
  exact wk_vret C rfl rfl dJ26_init_9
set_option maxHeartbeats 4000000 in
theorem mt_J18_init {E : Ev} {l : Launch} (hl : l.stackTraces = false) {p0 : Option Nat} {σ : Hs} {σ' : Hs} (hf : fn_J18_init p0 σ = some σ') : wk_M E l yJ18_init (ws_ yJ18_init cJ18_init 1 (Option.none : Option FieldType)) 2 32 [vR p0] σ (.inl none) σ' := by
  refine wk_start (by decide +kernel) hl (Nat.le_of_ble_eq_true rfl) (fun K C hK => ?_)
  subst hK
  refine wk_L (L' := [(0, vR p0)]) rfl ?_
  unfold fn_J18_init at hf
  refine wk_aload_n C 0 rfl dJ18_init_0 ?_
  obtain ⟨b1, h_b1, hf⟩ := ho_b hf
  obtain ⟨σ2, h_σ2, hf⟩ := ho_b hf
  refine wk_callI (av := []) (rest := []) C cx_J18_43 h_b1 (mt_J17_init (wk_C.tr C) h_σ2) rfl (Nat.le_of_ble_eq_true rfl) (Nat.le_of_ble_eq_true rfl) (Nat.le_of_ble_eq_true rfl) dJ18_init_1 ?_
  refine wk_aload_n C 0 rfl dJ18_init_4 ?_
  refine wk_ldcF C q551 dJ18_init_5 ?_
  obtain ⟨σ3, h_σ3, hf⟩ := ho_b hf
  refine wk_putF C px_J18_81 (fun _ => rfl) h_σ3 dJ18_init_7 ?_
  obtain rfl := Option.some.inj hf
  exact wk_vret C rfl rfl dJ18_init_10
set_option maxHeartbeats 4000000 in
theorem mt_J19_init {E : Ev} {l : Launch} (hl : l.stackTraces = false) {p0 : Option Nat} {σ : Hs} {σ' : Hs} (hf : fn_J19_init p0 σ = some σ') : wk_M E l yJ19_init (ws_ yJ19_init cJ19_init 1 (Option.none : Option FieldType)) 3 52 [vR p0] σ (.inl none) σ' := by
  refine wk_start (by decide +kernel) hl (Nat.le_of_ble_eq_true rfl) (fun K C hK => ?_)
  subst hK
  refine wk_L (L' := [(0, vR p0)]) rfl ?_
  unfold fn_J19_init at hf
  refine wk_aload_n C 0 rfl dJ19_init_0 ?_
  obtain ⟨b1, h_b1, hf⟩ := ho_b hf
  obtain ⟨σ2, h_σ2, hf⟩ := ho_b hf
  refine wk_callI (av := []) (rest := []) C cx_J19_87 h_b1 (mt_J18_init (wk_C.tr C) h_σ2) rfl (Nat.le_of_ble_eq_true rfl) (Nat.le_of_ble_eq_true rfl) (Nat.le_of_ble_eq_true rfl) dJ19_init_1 ?_
  refine wk_aload_n C 0 rfl dJ19_init_4 ?_
  refine wk_iconst (v := 0) C dJ19_init_5 rfl ?_
  obtain ⟨σ3, h_σ3, hf⟩ := ho_b hf
  refine wk_putI C px_J19_1 (fun q => by cases q) h_σ3 dJ19_init_6 ?_
  refine wk_aload_n C 0 rfl dJ19_init_9 ?_
  refine wk_iconst (v := 0) C dJ19_init_10 rfl ?_
  obtain ⟨σ4, h_σ4, hf⟩ := ho_b hf
  refine wk_putZ C px_J19_64 (fun _ => rfl) h_σ4 dJ19_init_11 ?_
  obtain rfl := Option.some.inj hf
  exact wk_vret C rfl rfl dJ19_init_14
set_option maxHeartbeats 4000000 in
theorem wb_J18_init_2_b57 {E : Ev} {K : Kx} (C : wk_C E K yJ18_init_2 cJ18_init_2 3 (Option.none : Option FieldType) 2 42 []) {σ' : Hs}  (σ : Hs) (hf : fn_J18_init_2_b57  σ = some σ') : wk_V E K (.inl none) σ' σ 57 [] [] := by
  unfold fn_J18_init_2_b57 at hf
  cases hf
set_option maxHeartbeats 4000000 in
theorem wb_J18_init_2_b44 {E : Ev} {K : Kx} (C : wk_C E K yJ18_init_2 cJ18_init_2 3 (Option.none : Option FieldType) 2 42 []) {σ' : Hs} (l0 : Option Nat) (l1 : Int32) (l2 : UInt32) (σ : Hs) (hf : fn_J18_init_2_b44 l0 l1 l2 σ = some σ') : wk_V E K (.inl none) σ' σ 44 [(0, vR l0), (1, vI l1), (2, vF l2)] [] := by
  unfold fn_J18_init_2_b44 at hf
  refine wk_fload_n C 2 rfl dJ18_init_2_44 ?_
  refine wk_fconst0 C dJ18_init_2_45 ?_
  refine wk_fcmp C dJ18_init_2_46 ?_
  refine wk_if_le C 57 (by decide) dJ18_init_2_47 (fun c_ => ?_) (fun c_ => ?_)
  · rw [if_pos c_] at hf
    refine wk_sub (L' := []) [] rfl ?_
    exact wb_J18_init_2_b57 C   _ hf
  · rw [if_neg c_] at hf
    refine wk_fload_n C 2 rfl dJ18_init_2_50 ?_
    obtain ⟨v2, σ1, h_σ1, hf⟩ := ho_e2 hf
    refine wk_callS (av := [vF l2]) (rest := []) (rv := some (vI v2)) C cx_J18_70 (mt_J46_isNaN (wk_C.tr C) h_σ1) rfl rfl (Nat.le_of_ble_eq_true rfl) (Nat.le_of_ble_eq_true rfl) (Nat.le_of_ble_eq_true rfl) dJ18_init_2_51 ?_
    refine wk_if_eq C 84 (by decide) dJ18_init_2_54 (fun c_ => ?_) (fun c_ => ?_)
    · rw [if_pos c_] at hf
      refine wk_aload_n C 0 rfl dJ18_init_2_84 ?_
      refine wk_fload_n C 2 rfl dJ18_init_2_85 ?_
      obtain ⟨σ3, h_σ3, hf⟩ := ho_b hf
      refine wk_putF C px_J18_81 (fun _ => rfl) h_σ3 dJ18_init_2_86 ?_
      refine wk_aload_n C 0 rfl dJ18_init_2_89 ?_
      refine wk_iload_n C 1 rfl dJ18_init_2_90 ?_
      obtain ⟨v5, σ4, h_σ4, hf⟩ := ho_e2 hf
      refine wk_callS (av := [vI l1]) (rest := [vR l0]) (rv := some (vI v5)) C cx_J18_85 (mt_J18_tableSizeFor (wk_C.tr C) h_σ4) rfl rfl (Nat.le_of_ble_eq_true rfl) (Nat.le_of_ble_eq_true rfl) (Nat.le_of_ble_eq_true rfl) dJ18_init_2_91 ?_
      obtain ⟨σ6, h_σ6, hf⟩ := ho_b hf
      refine wk_putI C px_J18_88 (fun q => by cases q) h_σ6 dJ18_init_2_94 ?_
      obtain rfl := Option.some.inj hf
      exact wk_vret C rfl rfl dJ18_init_2_97
    · rw [if_neg c_] at hf
      refine wk_sub (L' := []) [] rfl ?_
      exact wb_J18_init_2_b57 C   _ hf
set_option maxHeartbeats 4000000 in
theorem mt_J18_init_2 {E : Ev} {l : Launch} (hl : l.stackTraces = false) {p0 : Option Nat} {p1 : Int32} {p2 : UInt32} {σ : Hs} {σ' : Hs} (hf : fn_J18_init_2 p0 p1 p2 σ = some σ') : wk_M E l yJ18_init_2 (ws_ yJ18_init_2 cJ18_init_2 3 (Option.none : Option FieldType)) 2 42 [vR p0, vI p1, vF p2] σ (.inl none) σ' := by
  refine wk_start (by decide +kernel) hl (Nat.le_of_ble_eq_true rfl) (fun K C hK => ?_)
  subst hK
  refine wk_L (L' := [(0, vR p0), (1, vI p1), (2, vF p2)]) rfl ?_
  unfold fn_J18_init_2 at hf
  refine wk_aload_n C 0 rfl dJ18_init_2_0 ?_
  obtain ⟨b7, h_b7, hf⟩ := ho_b hf
  obtain ⟨σ8, h_σ8, hf⟩ := ho_b hf
  refine wk_callI (av := []) (rest := []) C cx_J18_43 h_b7 (mt_J17_init (wk_C.tr C) h_σ8) rfl (Nat.le_of_ble_eq_true rfl) (Nat.le_of_ble_eq_true rfl) (Nat.le_of_ble_eq_true rfl) dJ18_init_2_1 ?_
  refine wk_iload_n C 1 rfl dJ18_init_2_4 ?_
  refine wk_if_ge C 35 (by decide) dJ18_init_2_5 (fun c_ => ?_) (fun c_ => ?_)
  · rw [if_pos c_] at hf
    refine wk_iload_n C 1 rfl dJ18_init_2_35 ?_
    refine wk_ldc C q1329 dJ18_init_2_36 ?_
    refine wk_icmp_le C 44 (by decide) dJ18_init_2_38 (fun c_ => ?_) (fun c_ => ?_)
    · rw [if_pos c_] at hf
      exact wb_J18_init_2_b44 C  _ _ _ _ hf
    · rw [if_neg c_] at hf
      refine wk_ldc C q1329 dJ18_init_2_41 ?_
      refine wk_istore_n (L' := [(0, vR p0), (1, vI (1073741824 : Int32)), (2, vF p2)]) C (by decide) rfl dJ18_init_2_43 ?_
      exact wb_J18_init_2_b44 C  _ _ _ _ hf
  · rw [if_neg c_] at hf
    cases hf
set_option maxHeartbeats 4000000 in
theorem mt_J19_init_2 {E : Ev} {l : Launch} (hl : l.stackTraces = false) {p0 : Option Nat} {p1 : Int32} {p2 : UInt32} {σ : Hs} {σ' : Hs} (hf : fn_J19_init_2 p0 p1 p2 σ = some σ') : wk_M E l yJ19_init_2 (ws_ yJ19_init_2 cJ19_init_2 3 (Option.none : Option FieldType)) 3 64 [vR p0, vI p1, vF p2] σ (.inl none) σ' := by
  refine wk_start (by decide +kernel) hl (Nat.le_of_ble_eq_true rfl) (fun K C hK => ?_)
  subst hK
  refine wk_L (L' := [(0, vR p0), (1, vI p1), (2, vF p2)]) rfl ?_
  unfold fn_J19_init_2 at hf
  refine wk_aload_n C 0 rfl dJ19_init_2_0 ?_
  refine wk_iload_n C 1 rfl dJ19_init_2_1 ?_
  refine wk_fload_n C 2 rfl dJ19_init_2_2 ?_
  obtain ⟨b1, h_b1, hf⟩ := ho_b hf
  obtain ⟨σ2, h_σ2, hf⟩ := ho_b hf
  refine wk_callI (av := [vI p1, vF p2]) (rest := []) C cx_J19_81 h_b1 (mt_J18_init_2 (wk_C.tr C) h_σ2) rfl (Nat.le_of_ble_eq_true rfl) (Nat.le_of_ble_eq_true rfl) (Nat.le_of_ble_eq_true rfl) dJ19_init_2_3 ?_
  refine wk_aload_n C 0 rfl dJ19_init_2_6 ?_
  refine wk_iconst (v := 0) C dJ19_init_2_7 rfl ?_
  obtain ⟨σ3, h_σ3, hf⟩ := ho_b hf
  refine wk_putI C px_J19_1 (fun q => by cases q) h_σ3 dJ19_init_2_8 ?_
  refine wk_aload_n C 0 rfl dJ19_init_2_11 ?_
  refine wk_iconst (v := 0) C dJ19_init_2_12 rfl ?_
  obtain ⟨σ4, h_σ4, hf⟩ := ho_b hf
  refine wk_putZ C px_J19_64 (fun _ => rfl) h_σ4 dJ19_init_2_13 ?_
  obtain rfl := Option.some.inj hf
  exact wk_vret C rfl rfl dJ19_init_2_16
set_option maxHeartbeats 4000000 in
theorem mt_J18_size {E : Ev} {l : Launch} (hl : l.stackTraces = false) {p0 : Option Nat} {σ : Hs} {r : Int32} {σ' : Hs} (hf : fn_J18_size p0 σ = some (r, σ')) : wk_M E l yJ18_size (ws_ yJ18_size cJ18_size 1 (Option.some FieldType.int)) 0 0 [vR p0] σ (.inl (some (.int r))) σ' := by
  refine wk_start (by decide +kernel) hl (Nat.le_of_ble_eq_true rfl) (fun K C hK => ?_)
  subst hK
  refine wk_L (L' := [(0, vR p0)]) rfl ?_
  unfold fn_J18_size at hf
  refine wk_aload_n C 0 rfl dJ18_size_0 ?_
  obtain ⟨v1, h_v1, hf⟩ := ho_b hf
  refine wk_getI C fx_J18_156 h_v1 dJ18_size_1 ?_
  obtain ⟨rfl, rfl⟩ := Prod.mk.inj (Option.some.inj hf)
  exact wk_iret C rfl rfl dJ18_size_4
set_option maxHeartbeats 4000000 in
theorem mt_X7_init {E : Ev} {l : Launch} (hl : l.stackTraces = false) {p0 : Option Nat} {p1 : Int32} {p2 : Int32} {σ : Hs} {σ' : Hs} (hf : fn_X7_init p0 p1 p2 σ = some σ') : wk_M E l yX7_init (ws_ yX7_init cX7_init 3 (Option.none : Option FieldType)) 1 21 [vR p0, vI p1, vI p2] σ (.inl none) σ' := by
  refine wk_start (by decide +kernel) hl (Nat.le_of_ble_eq_true rfl) (fun K C hK => ?_)
  subst hK
  refine wk_L (L' := [(0, vR p0), (1, vI p1), (2, vI p2)]) rfl ?_
  unfold fn_X7_init at hf
  refine wk_aload_n C 0 rfl dX7_init_0 ?_
  obtain ⟨b1, h_b1, hf⟩ := ho_b hf
  refine wk_objI C h_b1 q2901 q179 q180 (Nat.le_of_ble_eq_true rfl) (Nat.le_of_ble_eq_true rfl) dX7_init_1 ?_
  refine wk_aload_n C 0 rfl dX7_init_4 ?_
  refine wk_iload_n C 1 rfl dX7_init_5 ?_
  refine wk_iload_n C 2 rfl dX7_init_6 ?_
  obtain ⟨v3, σ2, h_σ2, hf⟩ := ho_e2 hf
  refine wk_callS (av := [vI p1, vI p2]) (rest := [vR p0]) (rv := some (vI v3)) C cx_X7_9 (mt_J12_min (wk_C.tr C) h_σ2) rfl rfl (Nat.le_of_ble_eq_true rfl) (Nat.le_of_ble_eq_true rfl) (Nat.le_of_ble_eq_true rfl) dX7_init_7 ?_
  obtain ⟨σ4, h_σ4, hf⟩ := ho_b hf
  refine wk_putI C px_X7_15 (fun _ => rfl) h_σ4 dX7_init_10 ?_
  refine wk_aload_n C 0 rfl dX7_init_13 ?_
  refine wk_iload_n C 1 rfl dX7_init_14 ?_
  refine wk_iload_n C 2 rfl dX7_init_15 ?_
  obtain ⟨v6, σ5, h_σ5, hf⟩ := ho_e2 hf
  refine wk_callS (av := [vI p1, vI p2]) (rest := [vR p0]) (rv := some (vI v6)) C cx_X7_21 (mt_J12_max (wk_C.tr C) h_σ5) rfl rfl (Nat.le_of_ble_eq_true rfl) (Nat.le_of_ble_eq_true rfl) (Nat.le_of_ble_eq_true rfl) dX7_init_16 ?_
  obtain ⟨σ7, h_σ7, hf⟩ := ho_b hf
  refine wk_putI C px_X7_24 (fun _ => rfl) h_σ7 dX7_init_19 ?_
  obtain rfl := Option.some.inj hf
  exact wk_vret C rfl rfl dX7_init_22
set_option maxHeartbeats 4000000 in
theorem mt_X7_hashCode {E : Ev} {l : Launch} (hl : l.stackTraces = false) {p0 : Option Nat} {σ : Hs} {r : Int32} {σ' : Hs} (hf : fn_X7_hashCode p0 σ = some (r, σ')) : wk_M E l yX7_hashCode (ws_ yX7_hashCode cX7_hashCode 1 (Option.some FieldType.int)) 0 0 [vR p0] σ (.inl (some (.int r))) σ' := by
  refine wk_start (by decide +kernel) hl (Nat.le_of_ble_eq_true rfl) (fun K C hK => ?_)
  subst hK
  refine wk_L (L' := [(0, vR p0)]) rfl ?_
  unfold fn_X7_hashCode at hf
  refine wk_bipush (v := 8) C dX7_hashCode_0 rfl ?_
  refine wk_aload_n C 0 rfl dX7_hashCode_2 ?_
  obtain ⟨v1, h_v1, hf⟩ := ho_b hf
  refine wk_getI C fx_X7_15 h_v1 dX7_hashCode_3 ?_
  refine wk_imul C dX7_hashCode_6 ?_
  refine wk_aload_n C 0 rfl dX7_hashCode_7 ?_
  obtain ⟨v2, h_v2, hf⟩ := ho_b hf
  refine wk_getI C fx_X7_24 h_v2 dX7_hashCode_8 ?_
  refine wk_iadd C dX7_hashCode_11 ?_
  obtain ⟨rfl, rfl⟩ := Prod.mk.inj (Option.some.inj hf)
  exact wk_iret C rfl rfl dX7_hashCode_12
set_option maxHeartbeats 4000000 in
theorem wb_X7_equals_b39 {E : Ev} {K : Kx} (C : wk_C E K yX7_equals cX7_equals 3 (Option.some FieldType.boolean) 0 0 []) {r : Int32} {σ' : Hs} (t0 : Int32) (σ : Hs) (hf : fn_X7_equals_b39 t0 σ = some (r, σ')) : wk_V E K (.inl (some (.int r))) σ' σ 39 [] [vI t0] := by
  unfold fn_X7_equals_b39 at hf
  obtain ⟨v1, h_v1, hf⟩ := ho_b hf
  obtain ⟨rfl, rfl⟩ := Prod.mk.inj (Option.some.inj hf)
  exact wk_zret C h_v1 rfl rfl dX7_equals_39
set_option maxHeartbeats 4000000 in
theorem wb_X7_equals_b38 {E : Ev} {K : Kx} (C : wk_C E K yX7_equals cX7_equals 3 (Option.some FieldType.boolean) 0 0 []) {r : Int32} {σ' : Hs}  (σ : Hs) (hf : fn_X7_equals_b38  σ = some (r, σ')) : wk_V E K (.inl (some (.int r))) σ' σ 38 [] [] := by
  unfold fn_X7_equals_b38 at hf
  refine wk_iconst (v := 0) C dX7_equals_38 rfl ?_
  exact wb_X7_equals_b39 C  _ _ hf
set_option maxHeartbeats 4000000 in
theorem mt_X7_equals {E : Ev} {l : Launch} (hl : l.stackTraces = false) {p0 : Option Nat} {p1 : Option Nat} {σ : Hs} {r : Int32} {σ' : Hs} (hf : fn_X7_equals p0 p1 σ = some (r, σ')) : wk_M E l yX7_equals (ws_ yX7_equals cX7_equals 3 (Option.some FieldType.boolean)) 0 0 [vR p0, vR p1] σ (.inl (some (.int r))) σ' := by
  refine wk_start (by decide +kernel) hl (Nat.le_of_ble_eq_true rfl) (fun K C hK => ?_)
  subst hK
  refine wk_L (L' := [(0, vR p0), (1, vR p1)]) rfl ?_
  unfold fn_X7_equals at hf
  refine wk_aload_n C 1 rfl dX7_equals_0 ?_
  obtain ⟨v2, h_v2, hf⟩ := ho_b hf
  refine wk_inst C q2334 (List.forall_mem_cons.mpr ⟨ax_same rx_6 (Nat.le_of_ble_eq_true rfl), (List.forall_mem_nil _)⟩) ((List.forall_mem_nil _)) h_v2 dX7_equals_1 ?_
  refine wk_if_eq C 38 (by decide) dX7_equals_4 (fun c_ => ?_) (fun c_ => ?_)
  · rw [if_pos c_] at hf
    refine wk_sub (L' := []) [] rfl ?_
    exact wb_X7_equals_b38 C   _ hf
  · rw [if_neg c_] at hf
    refine wk_aload_n C 1 rfl dX7_equals_7 ?_
    obtain ⟨u3, h_u3, hf⟩ := ho_b hf
    refine wk_cast C q2334 (List.forall_mem_cons.mpr ⟨ax_same rx_6 (Nat.le_of_ble_eq_true rfl), (List.forall_mem_nil _)⟩) h_u3 dX7_equals_8 ?_
    refine wk_astore_n (L' := [(0, vR p0), (1, vR p1), (2, vR p1)]) C (by decide) rfl dX7_equals_11 ?_
    refine wk_aload_n C 2 rfl dX7_equals_12 ?_
    obtain ⟨v4, h_v4, hf⟩ := ho_b hf
    refine wk_getI C fx_X7_15 h_v4 dX7_equals_13 ?_
    refine wk_aload_n C 0 rfl dX7_equals_16 ?_
    obtain ⟨v5, h_v5, hf⟩ := ho_b hf
    refine wk_getI C fx_X7_15 h_v5 dX7_equals_17 ?_
    refine wk_icmp_ne C 38 (by decide) dX7_equals_20 (fun c_ => ?_) (fun c_ => ?_)
    · rw [if_neg c_] at hf
      refine wk_sub (L' := []) [] rfl ?_
      exact wb_X7_equals_b38 C   _ hf
    · rw [if_pos c_] at hf
      refine wk_aload_n C 2 rfl dX7_equals_23 ?_
      obtain ⟨v6, h_v6, hf⟩ := ho_b hf
      refine wk_getI C fx_X7_24 h_v6 dX7_equals_24 ?_
      refine wk_aload_n C 0 rfl dX7_equals_27 ?_
      obtain ⟨v7, h_v7, hf⟩ := ho_b hf
      refine wk_getI C fx_X7_24 h_v7 dX7_equals_28 ?_
      refine wk_icmp_ne C 38 (by decide) dX7_equals_31 (fun c_ => ?_) (fun c_ => ?_)
      · rw [if_neg c_] at hf
        refine wk_sub (L' := []) [] rfl ?_
        exact wb_X7_equals_b38 C   _ hf
      · rw [if_pos c_] at hf
        refine wk_iconst (v := 1) C dX7_equals_34 rfl ?_
        refine wk_goto C 39 (by decide) dX7_equals_35 ?_
        refine wk_sub (L' := []) [] rfl ?_
        exact wb_X7_equals_b39 C  _ _ hf
set_option maxHeartbeats 4000000 in
theorem mt_X13_init {E : Ev} {l : Launch} (hl : l.stackTraces = false) {p0 : Option Nat} {p1 : Int32} {p2 : Int32} {σ : Hs} {σ' : Hs} (hf : fn_X13_init p0 p1 p2 σ = some σ') : wk_M E l yX13_init (ws_ yX13_init cX13_init 3 (Option.none : Option FieldType)) 1 12 [vR p0, vI p1, vI p2] σ (.inl none) σ' := by
  refine wk_start (by decide +kernel) hl (Nat.le_of_ble_eq_true rfl) (fun K C hK => ?_)
  subst hK
  refine wk_L (L' := [(0, vR p0), (1, vI p1), (2, vI p2)]) rfl ?_
  unfold fn_X13_init at hf
  refine wk_aload_n C 0 rfl dX13_init_0 ?_
  obtain ⟨b1, h_b1, hf⟩ := ho_b hf
  refine wk_objI C h_b1 q1834 q179 q180 (Nat.le_of_ble_eq_true rfl) (Nat.le_of_ble_eq_true rfl) dX13_init_1 ?_
  refine wk_aload_n C 0 rfl dX13_init_4 ?_
  refine wk_iload_n C 1 rfl dX13_init_5 ?_
  obtain ⟨σ2, h_σ2, hf⟩ := ho_b hf
  refine wk_putI C px_X13_9 (fun _ => rfl) h_σ2 dX13_init_6 ?_
  refine wk_aload_n C 0 rfl dX13_init_9 ?_
  refine wk_iload_n C 2 rfl dX13_init_10 ?_
  obtain ⟨σ3, h_σ3, hf⟩ := ho_b hf
  refine wk_putI C px_X13_15 (fun _ => rfl) h_σ3 dX13_init_11 ?_
  obtain rfl := Option.some.inj hf
  exact wk_vret C rfl rfl dX13_init_14
set_option maxHeartbeats 4000000 in
theorem mt_X13_hashCode {E : Ev} {l : Launch} (hl : l.stackTraces = false) {p0 : Option Nat} {σ : Hs} {r : Int32} {σ' : Hs} (hf : fn_X13_hashCode p0 σ = some (r, σ')) : wk_M E l yX13_hashCode (ws_ yX13_hashCode cX13_hashCode 1 (Option.some FieldType.int)) 0 0 [vR p0] σ (.inl (some (.int r))) σ' := by
  refine wk_start (by decide +kernel) hl (Nat.le_of_ble_eq_true rfl) (fun K C hK => ?_)
  subst hK
  refine wk_L (L' := [(0, vR p0)]) rfl ?_
  unfold fn_X13_hashCode at hf
  refine wk_bipush (v := 16) C dX13_hashCode_0 rfl ?_
  refine wk_aload_n C 0 rfl dX13_hashCode_2 ?_
  obtain ⟨v1, h_v1, hf⟩ := ho_b hf
  refine wk_getI C fx_X13_9 h_v1 dX13_hashCode_3 ?_
  refine wk_imul C dX13_hashCode_6 ?_
  refine wk_aload_n C 0 rfl dX13_hashCode_7 ?_
  obtain ⟨v2, h_v2, hf⟩ := ho_b hf
  refine wk_getI C fx_X13_15 h_v2 dX13_hashCode_8 ?_
  refine wk_iadd C dX13_hashCode_11 ?_
  obtain ⟨rfl, rfl⟩ := Prod.mk.inj (Option.some.inj hf)
  exact wk_iret C rfl rfl dX13_hashCode_12
set_option maxHeartbeats 4000000 in
theorem wb_X13_equals_b39 {E : Ev} {K : Kx} (C : wk_C E K yX13_equals cX13_equals 3 (Option.some FieldType.boolean) 0 0 []) {r : Int32} {σ' : Hs} (t0 : Int32) (σ : Hs) (hf : fn_X13_equals_b39 t0 σ = some (r, σ')) : wk_V E K (.inl (some (.int r))) σ' σ 39 [] [vI t0] := by
  unfold fn_X13_equals_b39 at hf
  obtain ⟨v1, h_v1, hf⟩ := ho_b hf
  obtain ⟨rfl, rfl⟩ := Prod.mk.inj (Option.some.inj hf)
  exact wk_zret C h_v1 rfl rfl dX13_equals_39
set_option maxHeartbeats 4000000 in
theorem wb_X13_equals_b38 {E : Ev} {K : Kx} (C : wk_C E K yX13_equals cX13_equals 3 (Option.some FieldType.boolean) 0 0 []) {r : Int32} {σ' : Hs}  (σ : Hs) (hf : fn_X13_equals_b38  σ = some (r, σ')) : wk_V E K (.inl (some (.int r))) σ' σ 38 [] [] := by
  unfold fn_X13_equals_b38 at hf
  refine wk_iconst (v := 0) C dX13_equals_38 rfl ?_
  exact wb_X13_equals_b39 C  _ _ hf
set_option maxHeartbeats 4000000 in
theorem mt_X13_equals {E : Ev} {l : Launch} (hl : l.stackTraces = false) {p0 : Option Nat} {p1 : Option Nat} {σ : Hs} {r : Int32} {σ' : Hs} (hf : fn_X13_equals p0 p1 σ = some (r, σ')) : wk_M E l yX13_equals (ws_ yX13_equals cX13_equals 3 (Option.some FieldType.boolean)) 0 0 [vR p0, vR p1] σ (.inl (some (.int r))) σ' := by
  refine wk_start (by decide +kernel) hl (Nat.le_of_ble_eq_true rfl) (fun K C hK => ?_)
  subst hK
  refine wk_L (L' := [(0, vR p0), (1, vR p1)]) rfl ?_
  unfold fn_X13_equals at hf
  refine wk_aload_n C 1 rfl dX13_equals_0 ?_
  obtain ⟨v2, h_v2, hf⟩ := ho_b hf
  refine wk_inst C q2319 (List.forall_mem_cons.mpr ⟨ax_same rx_12 (Nat.le_of_ble_eq_true rfl), (List.forall_mem_nil _)⟩) ((List.forall_mem_nil _)) h_v2 dX13_equals_1 ?_
  refine wk_if_eq C 38 (by decide) dX13_equals_4 (fun c_ => ?_) (fun c_ => ?_)
  · rw [if_pos c_] at hf
    refine wk_sub (L' := []) [] rfl ?_
    exact wb_X13_equals_b38 C   _ hf
  · rw [if_neg c_] at hf
    refine wk_aload_n C 1 rfl dX13_equals_7 ?_
    obtain ⟨u3, h_u3, hf⟩ := ho_b hf
    refine wk_cast C q2319 (List.forall_mem_cons.mpr ⟨ax_same rx_12 (Nat.le_of_ble_eq_true rfl), (List.forall_mem_nil _)⟩) h_u3 dX13_equals_8 ?_
    refine wk_astore_n (L' := [(0, vR p0), (1, vR p1), (2, vR p1)]) C (by decide) rfl dX13_equals_11 ?_
    refine wk_aload_n C 2 rfl dX13_equals_12 ?_
    obtain ⟨v4, h_v4, hf⟩ := ho_b hf
    refine wk_getI C fx_X13_9 h_v4 dX13_equals_13 ?_
    refine wk_aload_n C 0 rfl dX13_equals_16 ?_
    obtain ⟨v5, h_v5, hf⟩ := ho_b hf
    refine wk_getI C fx_X13_9 h_v5 dX13_equals_17 ?_
    refine wk_icmp_ne C 38 (by decide) dX13_equals_20 (fun c_ => ?_) (fun c_ => ?_)
    · rw [if_neg c_] at hf
      refine wk_sub (L' := []) [] rfl ?_
      exact wb_X13_equals_b38 C   _ hf
    · rw [if_pos c_] at hf
      refine wk_aload_n C 2 rfl dX13_equals_23 ?_
      obtain ⟨v6, h_v6, hf⟩ := ho_b hf
      refine wk_getI C fx_X13_15 h_v6 dX13_equals_24 ?_
      refine wk_aload_n C 0 rfl dX13_equals_27 ?_
      obtain ⟨v7, h_v7, hf⟩ := ho_b hf
      refine wk_getI C fx_X13_15 h_v7 dX13_equals_28 ?_
      refine wk_icmp_ne C 38 (by decide) dX13_equals_31 (fun c_ => ?_) (fun c_ => ?_)
      · rw [if_neg c_] at hf
        refine wk_sub (L' := []) [] rfl ?_
        exact wb_X13_equals_b38 C   _ hf
      · rw [if_pos c_] at hf
        refine wk_iconst (v := 1) C dX13_equals_34 rfl ?_
        refine wk_goto C 39 (by decide) dX13_equals_35 ?_
        refine wk_sub (L' := []) [] rfl ?_
        exact wb_X13_equals_b39 C  _ _ hf
set_option maxHeartbeats 4000000 in
theorem dw_J18_hash_9 {E : Ev} {K : Kx} {out : Ot} {σ' σ σ1 : Hs} {fr lo : Nat} {tb : List ExceptionTableEntry} {L : Lc} {rest : List TV} (C : wk_C E K yJ18_hash cJ18_hash 2 (Option.some FieldType.int) fr lo tb) {r : Option Nat}  {v : Int32} (hfr : 1 ≤ fr) (hlo : 20 ≤ lo) (hw : lc_w rest ≤ 8) (hf : dp_J18_hash_9 r σ = some (v, σ1)) (kk : wk_V E K out σ' σ1 (9 + 3) L (vI v :: rest)) : wk_V E K out σ' σ 9 L (vR r :: rest) := by
  unfold dp_J18_hash_9 at hf
  by_cases c_ : ho_k σ r = some 6
  · rw [if_pos c_] at hf
    obtain ⟨b, hb⟩ := ho_isk c_
    exact wk_callU (av := []) (rest := rest) (rv := some (vI v)) C hb rx_6 cx_J18_1_6 (mt_X7_hashCode (wk_C.tr C) hf) rfl rfl (by omega) (by omega) hw dJ18_hash_9 kk
  rw [if_neg c_] at hf
  clear c_
  by_cases c_ : ho_k σ r = some 12
  · rw [if_pos c_] at hf
    obtain ⟨b, hb⟩ := ho_isk c_
    exact wk_callU (av := []) (rest := rest) (rv := some (vI v)) C hb rx_12 cx_J18_1_12 (mt_X13_hashCode (wk_C.tr C) hf) rfl rfl (by omega) (by omega) hw dJ18_hash_9 kk
  rw [if_neg c_] at hf
  clear c_
  cases hf
set_option maxHeartbeats 4000000 in
theorem wb_J18_hash_b19 {E : Ev} {K : Kx} (C : wk_C E K yJ18_hash cJ18_hash 2 (Option.some FieldType.int) 1 20 []) {r : Int32} {σ' : Hs} (t0 : Int32) (σ : Hs) (hf : fn_J18_hash_b19 t0 σ = some (r, σ')) : wk_V E K (.inl (some (.int r))) σ' σ 19 [] [vI t0] := by
  unfold fn_J18_hash_b19 at hf
  obtain ⟨rfl, rfl⟩ := Prod.mk.inj (Option.some.inj hf)
  exact wk_iret C rfl rfl dJ18_hash_19
set_option maxHeartbeats 4000000 in
theorem mt_J18_hash {E : Ev} {l : Launch} (hl : l.stackTraces = false) {p0 : Option Nat} {σ : Hs} {r : Int32} {σ' : Hs} (hf : fn_J18_hash p0 σ = some (r, σ')) : wk_M E l yJ18_hash (ws_ yJ18_hash cJ18_hash 2 (Option.some FieldType.int)) 1 20 [vR p0] σ (.inl (some (.int r))) σ' := by
  refine wk_start (by decide +kernel) hl (Nat.le_of_ble_eq_true rfl) (fun K C hK => ?_)
  subst hK
  refine wk_L (L' := [(0, vR p0)]) rfl ?_
  unfold fn_J18_hash at hf
  refine wk_aload_n C 0 rfl dJ18_hash_0 ?_
  refine wk_ifnonnull C 8 (by decide) dJ18_hash_1 (fun c_ => ?_) (fun c_ => ?_)
  · rw [if_neg c_] at hf
    refine wk_aload_n C 0 rfl dJ18_hash_8 ?_
    obtain ⟨v1, σ2, h_σ2, hf⟩ := ho_e2 hf
    refine dw_J18_hash_9 C (Nat.le_of_ble_eq_true rfl) (Nat.le_of_ble_eq_true rfl) (Nat.le_of_ble_eq_true rfl) h_σ2 ?_
    refine wk_dup C rfl dJ18_hash_12 ?_
    refine wk_istore_n (L' := [(0, vR p0), (1, vI v1)]) C (by decide) rfl dJ18_hash_13 ?_
    refine wk_iload_n C 1 rfl dJ18_hash_14 ?_
    refine wk_bipush (v := 16) C dJ18_hash_15 rfl ?_
    refine wk_iushr C dJ18_hash_17 ?_
    refine wk_ixor C dJ18_hash_18 ?_
    refine wk_sub (L' := []) [] rfl ?_
    exact wb_J18_hash_b19 C  _ _ hf
  · rw [if_pos c_] at hf
    refine wk_iconst (v := 0) C dJ18_hash_4 rfl ?_
    refine wk_goto C 19 (by decide) dJ18_hash_5 ?_
    refine wk_sub (L' := []) [] rfl ?_
    exact wb_J18_hash_b19 C  _ _ hf
set_option maxHeartbeats 4000000 in
theorem wb_J19_linkNodeAtEnd_b75 {E : Ev} {K : Kx} (C : wk_C E K yJ19_linkNodeAtEnd cJ19_linkNodeAtEnd 3 (Option.none : Option FieldType) 0 0 []) {σ' : Hs}  (σ : Hs) (hf : fn_J19_linkNodeAtEnd_b75  σ = some σ') : wk_V E K (.inl none) σ' σ 75 [] [] := by
  unfold fn_J19_linkNodeAtEnd_b75 at hf
  obtain rfl := Option.some.inj hf
  exact wk_vret C rfl rfl dJ19_linkNodeAtEnd_75
set_option maxHeartbeats 4000000 in
theorem wb_J19_linkNodeAtEnd_b40 {E : Ev} {K : Kx} (C : wk_C E K yJ19_linkNodeAtEnd cJ19_linkNodeAtEnd 3 (Option.none : Option FieldType) 0 0 []) {σ' : Hs}  (σ : Hs) (hf : fn_J19_linkNodeAtEnd_b40  σ = some σ') : wk_V E K (.inl none) σ' σ 40 [] [] := by
  unfold fn_J19_linkNodeAtEnd_b40 at hf
  refine wk_goto C 75 (by decide) dJ19_linkNodeAtEnd_40 ?_
  exact wb_J19_linkNodeAtEnd_b75 C   _ hf
set_option maxHeartbeats 4000000 in
theorem mt_J19_linkNodeAtEnd {E : Ev} {l : Launch} (hl : l.stackTraces = false) {p0 : Option Nat} {p1 : Option Nat} {σ : Hs} {σ' : Hs} (hf : fn_J19_linkNodeAtEnd p0 p1 σ = some σ') : wk_M E l yJ19_linkNodeAtEnd (ws_ yJ19_linkNodeAtEnd cJ19_linkNodeAtEnd 3 (Option.none : Option FieldType)) 0 0 [vR p0, vR p1] σ (.inl none) σ' := by
  refine wk_start (by decide +kernel) hl (Nat.le_of_ble_eq_true rfl) (fun K C hK => ?_)
  subst hK
  refine wk_L (L' := [(0, vR p0), (1, vR p1)]) rfl ?_
  unfold fn_J19_linkNodeAtEnd at hf
  refine wk_aload_n C 0 rfl dJ19_linkNodeAtEnd_0 ?_
  obtain ⟨v1, h_v1, hf⟩ := ho_b hf
  refine wk_getI C fx_J19_1 h_v1 dJ19_linkNodeAtEnd_1 ?_
  refine wk_iconst (v := 1) C dJ19_linkNodeAtEnd_4 rfl ?_
  refine wk_icmp_ne C 43 (by decide) dJ19_linkNodeAtEnd_5 (fun c_ => ?_) (fun c_ => ?_)
  · rw [if_neg c_] at hf
    refine wk_aload_n C 0 rfl dJ19_linkNodeAtEnd_43 ?_
    obtain ⟨v2, h_v2, hf⟩ := ho_b hf
    refine wk_getR C fx_J19_11 h_v2 dJ19_linkNodeAtEnd_44 ?_
    refine wk_astore_n (L' := [(0, vR p0), (1, vR p1), (2, vR v2)]) C (by decide) rfl dJ19_linkNodeAtEnd_47 ?_
    refine wk_aload_n C 0 rfl dJ19_linkNodeAtEnd_48 ?_
    refine wk_aload_n C 1 rfl dJ19_linkNodeAtEnd_49 ?_
    obtain ⟨σ3, h_σ3, hf⟩ := ho_b hf
    refine wk_putR C px_J19_11 (Or.inl ⟨_, rfl⟩) (fun q => by cases q) h_σ3 dJ19_linkNodeAtEnd_50 ?_
    refine wk_aload_n C 2 rfl dJ19_linkNodeAtEnd_53 ?_
    refine wk_ifnonnull C 65 (by decide) dJ19_linkNodeAtEnd_54 (fun c_ => ?_) (fun c_ => ?_)
    · rw [if_neg c_] at hf
      refine wk_aload_n C 1 rfl dJ19_linkNodeAtEnd_65 ?_
      refine wk_aload_n C 2 rfl dJ19_linkNodeAtEnd_66 ?_
      obtain ⟨σ4, h_σ4, hf⟩ := ho_b hf
      refine wk_putR C px_J19_19 (Or.inl ⟨_, rfl⟩) (fun q => by cases q) h_σ4 dJ19_linkNodeAtEnd_67 ?_
      refine wk_aload_n C 2 rfl dJ19_linkNodeAtEnd_70 ?_
      refine wk_aload_n C 1 rfl dJ19_linkNodeAtEnd_71 ?_
      obtain ⟨σ5, h_σ5, hf⟩ := ho_b hf
      refine wk_putR C px_J19_14 (Or.inl ⟨_, rfl⟩) (fun q => by cases q) h_σ5 dJ19_linkNodeAtEnd_72 ?_
      refine wk_sub (L' := []) [] rfl ?_
      exact wb_J19_linkNodeAtEnd_b75 C   _ hf
    · rw [if_pos c_] at hf
      refine wk_aload_n C 0 rfl dJ19_linkNodeAtEnd_57 ?_
      refine wk_aload_n C 1 rfl dJ19_linkNodeAtEnd_58 ?_
      obtain ⟨σ6, h_σ6, hf⟩ := ho_b hf
      refine wk_putR C px_J19_7 (Or.inl ⟨_, rfl⟩) (fun q => by cases q) h_σ6 dJ19_linkNodeAtEnd_59 ?_
      refine wk_goto C 75 (by decide) dJ19_linkNodeAtEnd_62 ?_
      refine wk_sub (L' := []) [] rfl ?_
      exact wb_J19_linkNodeAtEnd_b75 C   _ hf
  · rw [if_pos c_] at hf
    refine wk_aload_n C 0 rfl dJ19_linkNodeAtEnd_8 ?_
    obtain ⟨v7, h_v7, hf⟩ := ho_b hf
    refine wk_getR C fx_J19_7 h_v7 dJ19_linkNodeAtEnd_9 ?_
    refine wk_astore_n (L' := [(0, vR p0), (1, vR p1), (2, vR v7)]) C (by decide) rfl dJ19_linkNodeAtEnd_12 ?_
    refine wk_aload_n C 0 rfl dJ19_linkNodeAtEnd_13 ?_
    refine wk_aload_n C 1 rfl dJ19_linkNodeAtEnd_14 ?_
    obtain ⟨σ8, h_σ8, hf⟩ := ho_b hf
    refine wk_putR C px_J19_7 (Or.inl ⟨_, rfl⟩) (fun q => by cases q) h_σ8 dJ19_linkNodeAtEnd_15 ?_
    refine wk_aload_n C 2 rfl dJ19_linkNodeAtEnd_18 ?_
    refine wk_ifnonnull C 30 (by decide) dJ19_linkNodeAtEnd_19 (fun c_ => ?_) (fun c_ => ?_)
    · rw [if_neg c_] at hf
      refine wk_aload_n C 1 rfl dJ19_linkNodeAtEnd_30 ?_
      refine wk_aload_n C 2 rfl dJ19_linkNodeAtEnd_31 ?_
      obtain ⟨σ9, h_σ9, hf⟩ := ho_b hf
      refine wk_putR C px_J19_14 (Or.inl ⟨_, rfl⟩) (fun q => by cases q) h_σ9 dJ19_linkNodeAtEnd_32 ?_
      refine wk_aload_n C 2 rfl dJ19_linkNodeAtEnd_35 ?_
      refine wk_aload_n C 1 rfl dJ19_linkNodeAtEnd_36 ?_
      obtain ⟨σ10, h_σ10, hf⟩ := ho_b hf
      refine wk_putR C px_J19_19 (Or.inl ⟨_, rfl⟩) (fun q => by cases q) h_σ10 dJ19_linkNodeAtEnd_37 ?_
      refine wk_sub (L' := []) [] rfl ?_
      exact wb_J19_linkNodeAtEnd_b40 C   _ hf
    · rw [if_pos c_] at hf
      refine wk_aload_n C 0 rfl dJ19_linkNodeAtEnd_22 ?_
      refine wk_aload_n C 1 rfl dJ19_linkNodeAtEnd_23 ?_
      obtain ⟨σ11, h_σ11, hf⟩ := ho_b hf
      refine wk_putR C px_J19_11 (Or.inl ⟨_, rfl⟩) (fun q => by cases q) h_σ11 dJ19_linkNodeAtEnd_24 ?_
      refine wk_goto C 40 (by decide) dJ19_linkNodeAtEnd_27 ?_
      refine wk_sub (L' := []) [] rfl ?_
      exact wb_J19_linkNodeAtEnd_b40 C   _ hf
set_option maxHeartbeats 4000000 in
theorem mt_J19_newNode {E : Ev} {l : Launch} (hl : l.stackTraces = false) {p0 : Option Nat} {p1 : Int32} {p2 : Option Nat} {p3 : Option Nat} {p4 : Option Nat} {σ : Hs} {r : Option Nat} {σ' : Hs} (hf : fn_J19_newNode p0 p1 p2 p3 p4 σ = some (r, σ')) : wk_M E l yJ19_newNode (ws_ yJ19_newNode cJ19_newNode 6 (Option.some (FieldType.object "java/util/HashMap$Node"))) 3 60 [vR p0, vI p1, vR p2, vR p3, vR p4] σ (.inl (some (va_rf r))) σ' := by
  refine wk_start (by decide +kernel) hl (Nat.le_of_ble_eq_true rfl) (fun K C hK => ?_)
  subst hK
  refine wk_L (L' := [(0, vR p0), (1, vI p1), (2, vR p2), (3, vR p3), (4, vR p4)]) rfl ?_
  unfold fn_J19_newNode at hf
  obtain ⟨v1, σ2, h_σ2, hf⟩ := ho_e2 hf
  refine wk_new C nx_J19_15 h_σ2 dJ19_newNode_0 ?_
  refine wk_dup C rfl dJ19_newNode_3 ?_
  refine wk_iload_n C 1 rfl dJ19_newNode_4 ?_
  refine wk_aload_n C 2 rfl dJ19_newNode_5 ?_
  refine wk_aload_n C 3 rfl dJ19_newNode_6 ?_
  refine wk_aload C 4 rfl dJ19_newNode_7 ?_
  obtain ⟨b3, h_b3, hf⟩ := ho_b hf
  obtain ⟨σ4, h_σ4, hf⟩ := ho_b hf
  refine wk_callI (av := [vI p1, vR p2, vR p3, vR p4]) (rest := [vR v1]) C cx_J19_28 h_b3 (mt_J26_init (wk_C.tr C) h_σ4) rfl (Nat.le_of_ble_eq_true rfl) (Nat.le_of_ble_eq_true rfl) (Nat.le_of_ble_eq_true rfl) dJ19_newNode_9 ?_
  refine wk_astore (L' := [(0, vR p0), (1, vI p1), (2, vR p2), (3, vR p3), (4, vR p4), (5, vR v1)]) C (by decide) rfl dJ19_newNode_12 ?_
  refine wk_aload_n C 0 rfl dJ19_newNode_14 ?_
  refine wk_aload C 5 rfl dJ19_newNode_15 ?_
  obtain ⟨b5, h_b5, hf⟩ := ho_b hf
  obtain ⟨σ6, h_σ6, hf⟩ := ho_b hf
  refine wk_callV (av := [vR v1]) (rest := []) (rv := none) C h_b5 rx_15 cx_J19_32 (mt_J19_linkNodeAtEnd (wk_C.tr C) h_σ6) rfl rfl (Nat.le_of_ble_eq_true rfl) (Nat.le_of_ble_eq_true rfl) (Nat.le_of_ble_eq_true rfl) dJ19_newNode_17 ?_
  refine wk_aload C 5 rfl dJ19_newNode_20 ?_
  obtain ⟨rfl, rfl⟩ := Prod.mk.inj (Option.some.inj hf)
  exact wk_aret C (Or.inl ⟨_, rfl⟩) rfl rfl dJ19_newNode_22
set_option maxHeartbeats 4000000 in
theorem wb_J19_afterNodeAccess_b265 {E : Ev} {K : Kx} (C : wk_C E K yJ19_afterNodeAccess cJ19_afterNodeAccess 7 (Option.none : Option FieldType) 0 0 []) {σ' : Hs}  (σ : Hs) (hf : fn_J19_afterNodeAccess_b265  σ = some σ') : wk_V E K (.inl none) σ' σ 265 [] [] := by
  unfold fn_J19_afterNodeAccess_b265 at hf
  obtain rfl := Option.some.inj hf
  exact wk_vret C rfl rfl dJ19_afterNodeAccess_265
set_option maxHeartbeats 4000000 in
theorem wb_J19_afterNodeAccess_b249 {E : Ev} {K : Kx} (C : wk_C E K yJ19_afterNodeAccess cJ19_afterNodeAccess 7 (Option.none : Option FieldType) 0 0 []) {σ' : Hs} (l0 : Option Nat) (l4 : Option Nat) (σ : Hs) (hf : fn_J19_afterNodeAccess_b249 l0 l4 σ = some σ') : wk_V E K (.inl none) σ' σ 249 [(0, vR l0), (4, vR l4)] [] := by
  unfold fn_J19_afterNodeAccess_b249 at hf
  refine wk_aload_n C 0 rfl dJ19_afterNodeAccess_249 ?_
  refine wk_aload C 1 rfl dJ19_afterNodeAccess_250 ?_
  obtain ⟨σ1, h_σ1, hf⟩ := ho_b hf
  refine wk_putR C px_J19_7 (Or.inl ⟨_, rfl⟩) (fun q => by cases q) h_σ1 dJ19_afterNodeAccess_252 ?_
  refine wk_aload_n C 0 rfl dJ19_afterNodeAccess_255 ?_
  refine wk_dup C rfl dJ19_afterNodeAccess_256 ?_
  obtain ⟨v2, h_v2, hf⟩ := ho_b hf
  refine wk_getI C fx_J19_68 h_v2 dJ19_afterNodeAccess_257 ?_
  refine wk_iconst (v := 1) C dJ19_afterNodeAccess_260 rfl ?_
  refine wk_iadd C dJ19_afterNodeAccess_261 ?_
  obtain ⟨σ3, h_σ3, hf⟩ := ho_b hf
  refine wk_putI C px_J19_68 (fun q => by cases q) h_σ3 dJ19_afterNodeAccess_262 ?_
  refine wk_sub (L' := []) [] rfl ?_
  exact wb_J19_afterNodeAccess_b265 C   _ hf
set_option maxHeartbeats 4000000 in
theorem wb_J19_afterNodeAccess_b224 {E : Ev} {K : Kx} (C : wk_C E K yJ19_afterNodeAccess cJ19_afterNodeAccess 7 (Option.none : Option FieldType) 0 0 []) {σ' : Hs} (l0 : Option Nat) (l3 : Option Nat) (l4 : Option Nat) (σ : Hs) (hf : fn_J19_afterNodeAccess_b224 l0 l3 l4 σ = some σ') : wk_V E K (.inl none) σ' σ 224 [(0, vR l0), (3, vR l3), (4, vR l4)] [] := by
  unfold fn_J19_afterNodeAccess_b224 at hf
  refine wk_aload_n C 1 rfl dJ19_afterNodeAccess_224 ?_
  refine wk_ifnonnull C 237 (by decide) dJ19_afterNodeAccess_225 (fun c_ => ?_) (fun c_ => ?_)
  · rw [if_neg c_] at hf
    refine wk_aload C 2 rfl dJ19_afterNodeAccess_237 ?_
    refine wk_aload_n C 1 rfl dJ19_afterNodeAccess_239 ?_
    obtain ⟨σ4, h_σ4, hf⟩ := ho_b hf
    refine wk_putR C px_J19_14 (Or.inl ⟨_, rfl⟩) (fun q => by cases q) h_σ4 dJ19_afterNodeAccess_240 ?_
    refine wk_aload_n C 1 rfl dJ19_afterNodeAccess_243 ?_
    refine wk_aload C 2 rfl dJ19_afterNodeAccess_244 ?_
    obtain ⟨σ5, h_σ5, hf⟩ := ho_b hf
    refine wk_putR C px_J19_19 (Or.inl ⟨_, rfl⟩) (fun q => by cases q) h_σ5 dJ19_afterNodeAccess_246 ?_
    refine wk_sub (L' := [(0, vR l0), (4, vR l4)]) [0, 2] rfl ?_
    exact wb_J19_afterNodeAccess_b249 C  _ _ _ hf
  · rw [if_pos c_] at hf
    refine wk_aload_n C 0 rfl dJ19_afterNodeAccess_228 ?_
    refine wk_aload C 2 rfl dJ19_afterNodeAccess_229 ?_
    obtain ⟨σ6, h_σ6, hf⟩ := ho_b hf
    refine wk_putR C px_J19_11 (Or.inl ⟨_, rfl⟩) (fun q => by cases q) h_σ6 dJ19_afterNodeAccess_231 ?_
    refine wk_goto C 249 (by decide) dJ19_afterNodeAccess_234 ?_
    refine wk_sub (L' := [(0, vR l0), (4, vR l4)]) [0, 2] rfl ?_
    exact wb_J19_afterNodeAccess_b249 C  _ _ _ hf
set_option maxHeartbeats 4000000 in
theorem wb_J19_afterNodeAccess_b206 {E : Ev} {K : Kx} (C : wk_C E K yJ19_afterNodeAccess cJ19_afterNodeAccess 7 (Option.none : Option FieldType) 0 0 []) {σ' : Hs} (l0 : Option Nat) (l3 : Option Nat) (l4 : Option Nat) (l5 : Option Nat) (l6 : Option Nat) (σ : Hs) (hf : fn_J19_afterNodeAccess_b206 l0 l3 l4 l5 l6 σ = some σ') : wk_V E K (.inl none) σ' σ 206 [(0, vR l0), (3, vR l3), (4, vR l4), (5, vR l5), (6, vR l6)] [] := by
  unfold fn_J19_afterNodeAccess_b206 at hf
  refine wk_aload C 3 rfl dJ19_afterNodeAccess_206 ?_
  refine wk_ifnull C 221 (by decide) dJ19_afterNodeAccess_208 (fun c_ => ?_) (fun c_ => ?_)
  · rw [if_pos c_] at hf
    refine wk_aload C 4 rfl dJ19_afterNodeAccess_221 ?_
    refine wk_astore_n (L' := [(0, vR l0), (3, vR l6), (4, vR l4), (5, vR l5), (6, vR l6)]) C (by decide) rfl dJ19_afterNodeAccess_223 ?_
    refine wk_sub (L' := [(0, vR l0), (3, vR l6), (4, vR l4)]) [0, 1, 2] rfl ?_
    exact wb_J19_afterNodeAccess_b224 C  _ _ _ _ hf
  · rw [if_neg c_] at hf
    refine wk_aload C 3 rfl dJ19_afterNodeAccess_211 ?_
    refine wk_aload C 4 rfl dJ19_afterNodeAccess_213 ?_
    obtain ⟨σ7, h_σ7, hf⟩ := ho_b hf
    refine wk_putR C px_J19_14 (Or.inl ⟨_, rfl⟩) (fun q => by cases q) h_σ7 dJ19_afterNodeAccess_215 ?_
    refine wk_goto C 224 (by decide) dJ19_afterNodeAccess_218 ?_
    refine wk_sub (L' := [(0, vR l0), (3, vR l3), (4, vR l4)]) [0, 1, 2] rfl ?_
    exact wb_J19_afterNodeAccess_b224 C  _ _ _ _ hf
set_option maxHeartbeats 4000000 in
theorem wb_J19_afterNodeAccess_b141 {E : Ev} {K : Kx} (C : wk_C E K yJ19_afterNodeAccess cJ19_afterNodeAccess 7 (Option.none : Option FieldType) 0 0 []) {σ' : Hs} (l0 : Option Nat) (l1 : Option Nat) (σ : Hs) (hf : fn_J19_afterNodeAccess_b141 l0 l1 σ = some σ') : wk_V E K (.inl none) σ' σ 141 [(0, vR l0), (1, vR l1)] [] := by
  unfold fn_J19_afterNodeAccess_b141 at hf
  refine wk_aload_n C 0 rfl dJ19_afterNodeAccess_141 ?_
  obtain ⟨v8, h_v8, hf⟩ := ho_b hf
  refine wk_getI C fx_J19_1 h_v8 dJ19_afterNodeAccess_142 ?_
  refine wk_iconst (v := 1) C dJ19_afterNodeAccess_145 rfl ?_
  refine wk_icmp_ne C 265 (by decide) dJ19_afterNodeAccess_146 (fun c_ => ?_) (fun c_ => ?_)
  · rw [if_neg c_] at hf
    refine wk_sub (L' := []) [] rfl ?_
    exact wb_J19_afterNodeAccess_b265 C   _ hf
  · rw [if_pos c_] at hf
    refine wk_aload_n C 0 rfl dJ19_afterNodeAccess_149 ?_
    obtain ⟨v9, h_v9, hf⟩ := ho_b hf
    refine wk_getR C fx_J19_7 h_v9 dJ19_afterNodeAccess_150 ?_
    refine wk_dup C rfl dJ19_afterNodeAccess_153 ?_
    refine wk_astore_n (L' := [(0, vR l0), (1, vR l1), (3, vR v9)]) C (by decide) rfl dJ19_afterNodeAccess_154 ?_
    refine wk_aload_n C 1 rfl dJ19_afterNodeAccess_155 ?_
    refine wk_acmp_eq C 265 (by decide) dJ19_afterNodeAccess_156 (fun c_ => ?_) (fun c_ => ?_)
    · rw [if_pos c_] at hf
      refine wk_sub (L' := []) [] rfl ?_
      exact wb_J19_afterNodeAccess_b265 C   _ hf
    · rw [if_neg c_] at hf
      refine wk_aload_n C 1 rfl dJ19_afterNodeAccess_159 ?_
      obtain ⟨u10, h_u10, hf⟩ := ho_b hf
      refine wk_cast C q2002 (List.forall_mem_cons.mpr ⟨ax_same rx_16 (Nat.le_of_ble_eq_true rfl), (List.forall_mem_nil _)⟩) h_u10 dJ19_afterNodeAccess_160 ?_
      refine wk_astore (L' := [(0, vR l0), (1, vR l1), (3, vR v9), (4, vR l1)]) C (by decide) rfl dJ19_afterNodeAccess_163 ?_
      refine wk_aload C 3 rfl dJ19_afterNodeAccess_165 ?_
      obtain ⟨v11, h_v11, hf⟩ := ho_b hf
      refine wk_getR C fx_J19_19 h_v11 dJ19_afterNodeAccess_167 ?_
      refine wk_astore (L' := [(0, vR l0), (1, vR l1), (3, vR v9), (4, vR l1), (5, vR v11)]) C (by decide) rfl dJ19_afterNodeAccess_170 ?_
      refine wk_aload C 3 rfl dJ19_afterNodeAccess_172 ?_
      obtain ⟨v12, h_v12, hf⟩ := ho_b hf
      refine wk_getR C fx_J19_14 h_v12 dJ19_afterNodeAccess_174 ?_
      refine wk_astore (L' := [(0, vR l0), (1, vR l1), (3, vR v9), (4, vR l1), (5, vR v11), (6, vR v12)]) C (by decide) rfl dJ19_afterNodeAccess_177 ?_
      refine wk_aload C 3 rfl dJ19_afterNodeAccess_179 ?_
      refine wk_null C dJ19_afterNodeAccess_181 ?_
      obtain ⟨σ13, h_σ13, hf⟩ := ho_b hf
      refine wk_putR C px_J19_19 (Or.inl ⟨_, rfl⟩) (fun q => by cases q) h_σ13 dJ19_afterNodeAccess_182 ?_
      refine wk_aload C 5 rfl dJ19_afterNodeAccess_185 ?_
      refine wk_ifnonnull C 199 (by decide) dJ19_afterNodeAccess_187 (fun c_ => ?_) (fun c_ => ?_)
      · rw [if_neg c_] at hf
        refine wk_aload C 5 rfl dJ19_afterNodeAccess_199 ?_
        refine wk_aload C 4 rfl dJ19_afterNodeAccess_201 ?_
        obtain ⟨σ14, h_σ14, hf⟩ := ho_b hf
        refine wk_putR C px_J19_19 (Or.inl ⟨_, rfl⟩) (fun q => by cases q) h_σ14 dJ19_afterNodeAccess_203 ?_
        refine wk_sub (L' := [(0, vR l0), (3, vR v9), (4, vR l1), (5, vR v11), (6, vR v12)]) [0, 2, 3, 4, 5] rfl ?_
        exact wb_J19_afterNodeAccess_b206 C  _ _ _ _ _ _ hf
      · rw [if_pos c_] at hf
        refine wk_aload_n C 0 rfl dJ19_afterNodeAccess_190 ?_
        refine wk_aload C 4 rfl dJ19_afterNodeAccess_191 ?_
        obtain ⟨σ15, h_σ15, hf⟩ := ho_b hf
        refine wk_putR C px_J19_11 (Or.inl ⟨_, rfl⟩) (fun q => by cases q) h_σ15 dJ19_afterNodeAccess_193 ?_
        refine wk_goto C 206 (by decide) dJ19_afterNodeAccess_196 ?_
        refine wk_sub (L' := [(0, vR l0), (3, vR v9), (4, vR l1), (5, vR v11), (6, vR v12)]) [0, 2, 3, 4, 5] rfl ?_
        exact wb_J19_afterNodeAccess_b206 C  _ _ _ _ _ _ hf
set_option maxHeartbeats 4000000 in
theorem wb_J19_afterNodeAccess_b122 {E : Ev} {K : Kx} (C : wk_C E K yJ19_afterNodeAccess cJ19_afterNodeAccess 7 (Option.none : Option FieldType) 0 0 []) {σ' : Hs} (l0 : Option Nat) (l4 : Option Nat) (σ : Hs) (hf : fn_J19_afterNodeAccess_b122 l0 l4 σ = some σ') : wk_V E K (.inl none) σ' σ 122 [(0, vR l0), (4, vR l4)] [] := by
  unfold fn_J19_afterNodeAccess_b122 at hf
  refine wk_aload_n C 0 rfl dJ19_afterNodeAccess_122 ?_
  refine wk_aload C 1 rfl dJ19_afterNodeAccess_123 ?_
  obtain ⟨σ16, h_σ16, hf⟩ := ho_b hf
  refine wk_putR C px_J19_11 (Or.inl ⟨_, rfl⟩) (fun q => by cases q) h_σ16 dJ19_afterNodeAccess_125 ?_
  refine wk_aload_n C 0 rfl dJ19_afterNodeAccess_128 ?_
  refine wk_dup C rfl dJ19_afterNodeAccess_129 ?_
  obtain ⟨v17, h_v17, hf⟩ := ho_b hf
  refine wk_getI C fx_J19_68 h_v17 dJ19_afterNodeAccess_130 ?_
  refine wk_iconst (v := 1) C dJ19_afterNodeAccess_133 rfl ?_
  refine wk_iadd C dJ19_afterNodeAccess_134 ?_
  obtain ⟨σ18, h_σ18, hf⟩ := ho_b hf
  refine wk_putI C px_J19_68 (fun q => by cases q) h_σ18 dJ19_afterNodeAccess_135 ?_
  refine wk_goto C 265 (by decide) dJ19_afterNodeAccess_138 ?_
  refine wk_sub (L' := []) [] rfl ?_
  exact wb_J19_afterNodeAccess_b265 C   _ hf
set_option maxHeartbeats 4000000 in
theorem wb_J19_afterNodeAccess_b97 {E : Ev} {K : Kx} (C : wk_C E K yJ19_afterNodeAccess cJ19_afterNodeAccess 7 (Option.none : Option FieldType) 0 0 []) {σ' : Hs} (l0 : Option Nat) (l2 : Option Nat) (l4 : Option Nat) (σ : Hs) (hf : fn_J19_afterNodeAccess_b97 l0 l2 l4 σ = some σ') : wk_V E K (.inl none) σ' σ 97 [(0, vR l0), (2, vR l2), (4, vR l4)] [] := by
  unfold fn_J19_afterNodeAccess_b97 at hf
  refine wk_aload_n C 1 rfl dJ19_afterNodeAccess_97 ?_
  refine wk_ifnonnull C 110 (by decide) dJ19_afterNodeAccess_98 (fun c_ => ?_) (fun c_ => ?_)
  · rw [if_neg c_] at hf
    refine wk_aload C 2 rfl dJ19_afterNodeAccess_110 ?_
    refine wk_aload_n C 1 rfl dJ19_afterNodeAccess_112 ?_
    obtain ⟨σ19, h_σ19, hf⟩ := ho_b hf
    refine wk_putR C px_J19_19 (Or.inl ⟨_, rfl⟩) (fun q => by cases q) h_σ19 dJ19_afterNodeAccess_113 ?_
    refine wk_aload_n C 1 rfl dJ19_afterNodeAccess_116 ?_
    refine wk_aload C 2 rfl dJ19_afterNodeAccess_117 ?_
    obtain ⟨σ20, h_σ20, hf⟩ := ho_b hf
    refine wk_putR C px_J19_14 (Or.inl ⟨_, rfl⟩) (fun q => by cases q) h_σ20 dJ19_afterNodeAccess_119 ?_
    refine wk_sub (L' := [(0, vR l0), (4, vR l4)]) [0, 2] rfl ?_
    exact wb_J19_afterNodeAccess_b122 C  _ _ _ hf
  · rw [if_pos c_] at hf
    refine wk_aload_n C 0 rfl dJ19_afterNodeAccess_101 ?_
    refine wk_aload C 2 rfl dJ19_afterNodeAccess_102 ?_
    obtain ⟨σ21, h_σ21, hf⟩ := ho_b hf
    refine wk_putR C px_J19_7 (Or.inl ⟨_, rfl⟩) (fun q => by cases q) h_σ21 dJ19_afterNodeAccess_104 ?_
    refine wk_goto C 122 (by decide) dJ19_afterNodeAccess_107 ?_
    refine wk_sub (L' := [(0, vR l0), (4, vR l4)]) [0, 2] rfl ?_
    exact wb_J19_afterNodeAccess_b122 C  _ _ _ hf
set_option maxHeartbeats 4000000 in
theorem wb_J19_afterNodeAccess_b79 {E : Ev} {K : Kx} (C : wk_C E K yJ19_afterNodeAccess cJ19_afterNodeAccess 7 (Option.none : Option FieldType) 0 0 []) {σ' : Hs} (l0 : Option Nat) (l2 : Option Nat) (l4 : Option Nat) (l5 : Option Nat) (l6 : Option Nat) (σ : Hs) (hf : fn_J19_afterNodeAccess_b79 l0 l2 l4 l5 l6 σ = some σ') : wk_V E K (.inl none) σ' σ 79 [(0, vR l0), (2, vR l2), (4, vR l4), (5, vR l5), (6, vR l6)] [] := by
  unfold fn_J19_afterNodeAccess_b79 at hf
  refine wk_aload C 4 rfl dJ19_afterNodeAccess_79 ?_
  refine wk_ifnull C 94 (by decide) dJ19_afterNodeAccess_81 (fun c_ => ?_) (fun c_ => ?_)
  · rw [if_pos c_] at hf
    refine wk_aload C 3 rfl dJ19_afterNodeAccess_94 ?_
    refine wk_astore_n (L' := [(0, vR l0), (2, vR l5), (4, vR l4), (5, vR l5), (6, vR l6)]) C (by decide) rfl dJ19_afterNodeAccess_96 ?_
    refine wk_sub (L' := [(0, vR l0), (2, vR l5), (4, vR l4)]) [0, 1, 2] rfl ?_
    exact wb_J19_afterNodeAccess_b97 C  _ _ _ _ hf
  · rw [if_neg c_] at hf
    refine wk_aload C 4 rfl dJ19_afterNodeAccess_84 ?_
    refine wk_aload C 3 rfl dJ19_afterNodeAccess_86 ?_
    obtain ⟨σ22, h_σ22, hf⟩ := ho_b hf
    refine wk_putR C px_J19_19 (Or.inl ⟨_, rfl⟩) (fun q => by cases q) h_σ22 dJ19_afterNodeAccess_88 ?_
    refine wk_goto C 97 (by decide) dJ19_afterNodeAccess_91 ?_
    refine wk_sub (L' := [(0, vR l0), (2, vR l2), (4, vR l4)]) [0, 1, 2] rfl ?_
    exact wb_J19_afterNodeAccess_b97 C  _ _ _ _ hf
set_option maxHeartbeats 4000000 in
theorem wb_J19_afterNodeAccess_b22 {E : Ev} {K : Kx} (C : wk_C E K yJ19_afterNodeAccess cJ19_afterNodeAccess 7 (Option.none : Option FieldType) 0 0 []) {σ' : Hs} (l0 : Option Nat) (l1 : Option Nat) (σ : Hs) (hf : fn_J19_afterNodeAccess_b22 l0 l1 σ = some σ') : wk_V E K (.inl none) σ' σ 22 [(0, vR l0), (1, vR l1)] [] := by
  unfold fn_J19_afterNodeAccess_b22 at hf
  refine wk_aload_n C 0 rfl dJ19_afterNodeAccess_22 ?_
  obtain ⟨v23, h_v23, hf⟩ := ho_b hf
  refine wk_getR C fx_J19_11 h_v23 dJ19_afterNodeAccess_23 ?_
  refine wk_dup C rfl dJ19_afterNodeAccess_26 ?_
  refine wk_astore_n (L' := [(0, vR l0), (1, vR l1), (2, vR v23)]) C (by decide) rfl dJ19_afterNodeAccess_27 ?_
  refine wk_aload_n C 1 rfl dJ19_afterNodeAccess_28 ?_
  refine wk_acmp_eq C 141 (by decide) dJ19_afterNodeAccess_29 (fun c_ => ?_) (fun c_ => ?_)
  · rw [if_pos c_] at hf
    refine wk_sub (L' := [(0, vR l0), (1, vR l1)]) [0, 1] rfl ?_
    exact wb_J19_afterNodeAccess_b141 C  _ _ _ hf
  · rw [if_neg c_] at hf
    refine wk_aload_n C 1 rfl dJ19_afterNodeAccess_32 ?_
    obtain ⟨u24, h_u24, hf⟩ := ho_b hf
    refine wk_cast C q2002 (List.forall_mem_cons.mpr ⟨ax_same rx_16 (Nat.le_of_ble_eq_true rfl), (List.forall_mem_nil _)⟩) h_u24 dJ19_afterNodeAccess_33 ?_
    refine wk_astore (L' := [(0, vR l0), (1, vR l1), (2, vR v23), (4, vR l1)]) C (by decide) rfl dJ19_afterNodeAccess_36 ?_
    refine wk_aload C 3 rfl dJ19_afterNodeAccess_38 ?_
    obtain ⟨v25, h_v25, hf⟩ := ho_b hf
    refine wk_getR C fx_J19_19 h_v25 dJ19_afterNodeAccess_40 ?_
    refine wk_astore (L' := [(0, vR l0), (1, vR l1), (2, vR v23), (4, vR l1), (5, vR v25)]) C (by decide) rfl dJ19_afterNodeAccess_43 ?_
    refine wk_aload C 3 rfl dJ19_afterNodeAccess_45 ?_
    obtain ⟨v26, h_v26, hf⟩ := ho_b hf
    refine wk_getR C fx_J19_14 h_v26 dJ19_afterNodeAccess_47 ?_
    refine wk_astore (L' := [(0, vR l0), (1, vR l1), (2, vR v23), (4, vR l1), (5, vR v25), (6, vR v26)]) C (by decide) rfl dJ19_afterNodeAccess_50 ?_
    refine wk_aload C 3 rfl dJ19_afterNodeAccess_52 ?_
    refine wk_null C dJ19_afterNodeAccess_54 ?_
    obtain ⟨σ27, h_σ27, hf⟩ := ho_b hf
    refine wk_putR C px_J19_14 (Or.inl ⟨_, rfl⟩) (fun q => by cases q) h_σ27 dJ19_afterNodeAccess_55 ?_
    refine wk_aload C 4 rfl dJ19_afterNodeAccess_58 ?_
    refine wk_ifnonnull C 72 (by decide) dJ19_afterNodeAccess_60 (fun c_ => ?_) (fun c_ => ?_)
    · rw [if_neg c_] at hf
      refine wk_aload C 4 rfl dJ19_afterNodeAccess_72 ?_
      refine wk_aload C 5 rfl dJ19_afterNodeAccess_74 ?_
      obtain ⟨σ28, h_σ28, hf⟩ := ho_b hf
      refine wk_putR C px_J19_14 (Or.inl ⟨_, rfl⟩) (fun q => by cases q) h_σ28 dJ19_afterNodeAccess_76 ?_
      refine wk_sub (L' := [(0, vR l0), (2, vR v23), (4, vR l1), (5, vR v25), (6, vR v26)]) [0, 2, 3, 4, 5] rfl ?_
      exact wb_J19_afterNodeAccess_b79 C  _ _ _ _ _ _ hf
    · rw [if_pos c_] at hf
      refine wk_aload_n C 0 rfl dJ19_afterNodeAccess_63 ?_
      refine wk_aload C 5 rfl dJ19_afterNodeAccess_64 ?_
      obtain ⟨σ29, h_σ29, hf⟩ := ho_b hf
      refine wk_putR C px_J19_7 (Or.inl ⟨_, rfl⟩) (fun q => by cases q) h_σ29 dJ19_afterNodeAccess_66 ?_
      refine wk_goto C 79 (by decide) dJ19_afterNodeAccess_69 ?_
      refine wk_sub (L' := [(0, vR l0), (2, vR v23), (4, vR l1), (5, vR v25), (6, vR v26)]) [0, 2, 3, 4, 5] rfl ?_
      exact wb_J19_afterNodeAccess_b79 C  _ _ _ _ _ _ hf
set_option maxHeartbeats 4000000 in
theorem mt_J19_afterNodeAccess {E : Ev} {l : Launch} (hl : l.stackTraces = false) {p0 : Option Nat} {p1 : Option Nat} {σ : Hs} {σ' : Hs} (hf : fn_J19_afterNodeAccess p0 p1 σ = some σ') : wk_M E l yJ19_afterNodeAccess (ws_ yJ19_afterNodeAccess cJ19_afterNodeAccess 7 (Option.none : Option FieldType)) 0 0 [vR p0, vR p1] σ (.inl none) σ' := by
  refine wk_start (by decide +kernel) hl (Nat.le_of_ble_eq_true rfl) (fun K C hK => ?_)
  subst hK
  refine wk_L (L' := [(0, vR p0), (1, vR p1)]) rfl ?_
  unfold fn_J19_afterNodeAccess at hf
  refine wk_aload_n C 0 rfl dJ19_afterNodeAccess_0 ?_
  obtain ⟨v30, h_v30, hf⟩ := ho_b hf
  refine wk_getI C fx_J19_1 h_v30 dJ19_afterNodeAccess_1 ?_
  refine wk_iconst (v := 2) C dJ19_afterNodeAccess_4 rfl ?_
  refine wk_icmp_eq C 22 (by decide) dJ19_afterNodeAccess_5 (fun c_ => ?_) (fun c_ => ?_)
  · rw [if_pos c_] at hf
    exact wb_J19_afterNodeAccess_b22 C  _ _ _ hf
  · rw [if_neg c_] at hf
    refine wk_aload_n C 0 rfl dJ19_afterNodeAccess_8 ?_
    obtain ⟨v31, h_v31, hf⟩ := ho_b hf
    refine wk_getI C fx_J19_1 h_v31 dJ19_afterNodeAccess_9 ?_
    refine wk_if_ne C 141 (by decide) dJ19_afterNodeAccess_12 (fun c_ => ?_) (fun c_ => ?_)
    · rw [if_neg c_] at hf
      exact wb_J19_afterNodeAccess_b141 C  _ _ _ hf
    · rw [if_pos c_] at hf
      refine wk_aload_n C 0 rfl dJ19_afterNodeAccess_15 ?_
      obtain ⟨v32, h_v32, hf⟩ := ho_b hf
      refine wk_getI C fx_J19_64 h_v32 dJ19_afterNodeAccess_16 ?_
      refine wk_if_eq C 141 (by decide) dJ19_afterNodeAccess_19 (fun c_ => ?_) (fun c_ => ?_)
      · rw [if_pos c_] at hf
        exact wb_J19_afterNodeAccess_b141 C  _ _ _ hf
      · rw [if_neg c_] at hf
        exact wb_J19_afterNodeAccess_b22 C  _ _ _ hf
set_option maxHeartbeats 4000000 in
theorem mt_J19_removeEldestEntry {E : Ev} {l : Launch} (hl : l.stackTraces = false) {p0 : Option Nat} {p1 : Option Nat} {σ : Hs} {r : Int32} {σ' : Hs} (hf : fn_J19_removeEldestEntry p0 p1 σ = some (r, σ')) : wk_M E l yJ19_removeEldestEntry (ws_ yJ19_removeEldestEntry cJ19_removeEldestEntry 2 (Option.some FieldType.boolean)) 0 0 [vR p0, vR p1] σ (.inl (some (.int r))) σ' := by
  refine wk_start (by decide +kernel) hl (Nat.le_of_ble_eq_true rfl) (fun K C hK => ?_)
  subst hK
  refine wk_L (L' := [(0, vR p0), (1, vR p1)]) rfl ?_
  unfold fn_J19_removeEldestEntry at hf
  refine wk_iconst (v := 0) C dJ19_removeEldestEntry_0 rfl ?_
  obtain ⟨rfl, rfl⟩ := Prod.mk.inj (Option.some.inj hf)
  exact wk_zret C (v := (0 : Int32)) rfl rfl rfl dJ19_removeEldestEntry_1
set_option maxHeartbeats 4000000 in
theorem wb_J19_afterNodeInsertion_b39 {E : Ev} {K : Kx} (C : wk_C E K yJ19_afterNodeInsertion cJ19_afterNodeInsertion 4 (Option.none : Option FieldType) 1 21 []) {σ' : Hs}  (σ : Hs) (hf : fn_J19_afterNodeInsertion_b39  σ = some σ') : wk_V E K (.inl none) σ' σ 39 [] [] := by
  unfold fn_J19_afterNodeInsertion_b39 at hf
  obtain rfl := Option.some.inj hf
  exact wk_vret C rfl rfl dJ19_afterNodeInsertion_39
set_option maxHeartbeats 4000000 in
theorem mt_J19_afterNodeInsertion {E : Ev} {l : Launch} (hl : l.stackTraces = false) {p0 : Option Nat} {p1 : Int32} {σ : Hs} {σ' : Hs} (hf : fn_J19_afterNodeInsertion p0 p1 σ = some σ') : wk_M E l yJ19_afterNodeInsertion (ws_ yJ19_afterNodeInsertion cJ19_afterNodeInsertion 4 (Option.none : Option FieldType)) 1 21 [vR p0, vI p1] σ (.inl none) σ' := by
  refine wk_start (by decide +kernel) hl (Nat.le_of_ble_eq_true rfl) (fun K C hK => ?_)
  subst hK
  refine wk_L (L' := [(0, vR p0), (1, vI p1)]) rfl ?_
  unfold fn_J19_afterNodeInsertion at hf
  refine wk_iload_n C 1 rfl dJ19_afterNodeInsertion_0 ?_
  refine wk_if_eq C 39 (by decide) dJ19_afterNodeInsertion_1 (fun c_ => ?_) (fun c_ => ?_)
  · rw [if_pos c_] at hf
    refine wk_sub (L' := []) [] rfl ?_
    exact wb_J19_afterNodeInsertion_b39 C   _ hf
  · rw [if_neg c_] at hf
    refine wk_aload_n C 0 rfl dJ19_afterNodeInsertion_4 ?_
    obtain ⟨v1, h_v1, hf⟩ := ho_b hf
    refine wk_getR C fx_J19_7 h_v1 dJ19_afterNodeInsertion_5 ?_
    refine wk_dup C rfl dJ19_afterNodeInsertion_8 ?_
    refine wk_astore_n (L' := [(0, vR p0), (1, vI p1), (2, vR v1)]) C (by decide) rfl dJ19_afterNodeInsertion_9 ?_
    refine wk_ifnull C 39 (by decide) dJ19_afterNodeInsertion_10 (fun c_ => ?_) (fun c_ => ?_)
    · rw [if_pos c_] at hf
      refine wk_sub (L' := []) [] rfl ?_
      exact wb_J19_afterNodeInsertion_b39 C   _ hf
    · rw [if_neg c_] at hf
      refine wk_aload_n C 0 rfl dJ19_afterNodeInsertion_13 ?_
      refine wk_aload_n C 2 rfl dJ19_afterNodeInsertion_14 ?_
      obtain ⟨b2, h_b2, hf⟩ := ho_b hf
      obtain ⟨v4, σ3, h_σ3, hf⟩ := ho_e2 hf
      refine wk_callV (av := [vR v1]) (rest := []) (rv := some (vI v4)) C h_b2 rx_15 cx_J19_53 (mt_J19_removeEldestEntry (wk_C.tr C) h_σ3) rfl rfl (Nat.le_of_ble_eq_true rfl) (Nat.le_of_ble_eq_true rfl) (Nat.le_of_ble_eq_true rfl) dJ19_afterNodeInsertion_15 ?_
      refine wk_if_eq C 39 (by decide) dJ19_afterNodeInsertion_18 (fun c_ => ?_) (fun c_ => ?_)
      · rw [if_pos c_] at hf
        refine wk_sub (L' := []) [] rfl ?_
        exact wb_J19_afterNodeInsertion_b39 C   _ hf
      · rw [if_neg c_] at hf
        refine wk_aload_n C 2 rfl dJ19_afterNodeInsertion_21 ?_
        obtain ⟨v5, h_v5, hf⟩ := ho_b hf
        refine wk_getR C fx_J19_39 h_v5 dJ19_afterNodeInsertion_22 ?_
        refine wk_astore_n (L' := [(0, vR p0), (1, vI p1), (2, vR v1), (3, vR v5)]) C (by decide) rfl dJ19_afterNodeInsertion_25 ?_
        refine wk_aload_n C 0 rfl dJ19_afterNodeInsertion_26 ?_
        refine wk_aload_n C 3 rfl dJ19_afterNodeInsertion_27 ?_
        cases hf
set_option maxHeartbeats 4000000 in
theorem wb_J18_resize_b353 {E : Ev} {K : Kx} (C : wk_C E K yJ18_resize cJ18_resize 14 (Option.some (FieldType.array (FieldType.object "java/util/HashMap$Node"))) 0 0 []) {r : Option Nat} {σ' : Hs} (l6 : Option Nat) (σ : Hs) (hf : fn_J18_resize_b353 l6 σ = some (r, σ')) : wk_V E K (.inl (some (va_rf r))) σ' σ 353 [(6, vR l6)] [] := by
  unfold fn_J18_resize_b353 at hf
  refine wk_aload C 0 rfl dJ18_resize_353 ?_
  obtain ⟨rfl, rfl⟩ := Prod.mk.inj (Option.some.inj hf)
  exact wk_aret C (Or.inr ⟨_, rfl⟩) rfl rfl dJ18_resize_355
set_option maxHeartbeats 4000000 in
theorem wb_J18_resize_b347 {E : Ev} {K : Kx} (C : wk_C E K yJ18_resize cJ18_resize 14 (Option.some (FieldType.array (FieldType.object "java/util/HashMap$Node"))) 0 0 []) {k151 : Option Nat → Int32 → Int32 → Option Nat → Int32 → Hs → Option (Option Nat × Hs)} {r : Option Nat} {σ' : Hs} (hk151 : ∀ (l1 : Option Nat) (l2 : Int32) (l4 : Int32) (l6 : Option Nat) (l7 : Int32) (σ : Hs), k151 l1 l2 l4 l6 l7 σ = some (r, σ') → wk_V E K (.inl (some (va_rf r))) σ' σ 151 [(1, vR l1), (2, vI l2), (4, vI l4), (6, vR l6), (7, vI l7)] []) (l1 : Option Nat) (l2 : Int32) (l4 : Int32) (l6 : Option Nat) (l7 : Int32) (σ : Hs) (hf : fn_J18_resize_b347 k151 l1 l2 l4 l6 l7 σ = some (r, σ')) : wk_V E K (.inl (some (va_rf r))) σ' σ 347 [(1, vR l1), (2, vI l2), (4, vI l4), (6, vR l6), (7, vI l7)] [] := by
  unfold fn_J18_resize_b347 at hf
  refine wk_iinc (v := l7 + 1) (L' := [(1, vR l1), (2, vI l2), (4, vI l4), (6, vR l6), (7, vI (l7 + 1))]) C 4 rfl (by decide) rfl rfl dJ18_resize_347 ?_
  refine wk_goto C 151 (by decide) dJ18_resize_350 ?_
  exact hk151 _ _ _ _ _ _ hf
set_option maxHeartbeats 4000000 in
theorem wb_J18_resize_b327 {E : Ev} {K : Kx} (C : wk_C E K yJ18_resize cJ18_resize 14 (Option.some (FieldType.array (FieldType.object "java/util/HashMap$Node"))) 0 0 []) {k151 : Option Nat → Int32 → Int32 → Option Nat → Int32 → Hs → Option (Option Nat × Hs)} {r : Option Nat} {σ' : Hs} (hk151 : ∀ (l1 : Option Nat) (l2 : Int32) (l4 : Int32) (l6 : Option Nat) (l7 : Int32) (σ : Hs), k151 l1 l2 l4 l6 l7 σ = some (r, σ') → wk_V E K (.inl (some (va_rf r))) σ' σ 151 [(1, vR l1), (2, vI l2), (4, vI l4), (6, vR l6), (7, vI l7)] []) (l1 : Option Nat) (l2 : Int32) (l4 : Int32) (l6 : Option Nat) (l7 : Int32) (l11 : Option Nat) (l12 : Option Nat) (σ : Hs) (hf : fn_J18_resize_b327 k151 l1 l2 l4 l6 l7 l11 l12 σ = some (r, σ')) : wk_V E K (.inl (some (va_rf r))) σ' σ 327 [(1, vR l1), (2, vI l2), (4, vI l4), (6, vR l6), (7, vI l7), (11, vR l11), (12, vR l12)] [] := by
  unfold fn_J18_resize_b327 at hf
  refine wk_aload C 6 rfl dJ18_resize_327 ?_
  refine wk_ifnull C 347 (by decide) dJ18_resize_329 (fun c_ => ?_) (fun c_ => ?_)
  · rw [if_pos c_] at hf
    refine wk_sub (L' := [(1, vR l1), (2, vI l2), (4, vI l4), (6, vR l6), (7, vI l7)]) [0, 1, 2, 3, 4] rfl ?_
    exact wb_J18_resize_b347 C hk151 _ _ _ _ _ _ hf
  · rw [if_neg c_] at hf
    refine wk_aload C 6 rfl dJ18_resize_332 ?_
    refine wk_null C dJ18_resize_334 ?_
    obtain ⟨σ1, h_σ1, hf⟩ := ho_b hf
    refine wk_putR C px_J18_177 (Or.inl ⟨_, rfl⟩) (fun q => by cases q) h_σ1 dJ18_resize_335 ?_
    refine wk_aload C 3 rfl dJ18_resize_338 ?_
    refine wk_iload C 4 rfl dJ18_resize_340 ?_
    refine wk_iload_n C 1 rfl dJ18_resize_342 ?_
    refine wk_iadd C dJ18_resize_343 ?_
    refine wk_aload C 5 rfl dJ18_resize_344 ?_
    obtain ⟨σ2, h_σ2, hf⟩ := ho_b hf
    refine wk_aast C (Nat.le_of_ble_eq_true rfl) rfl (List.forall_mem_cons.mpr ⟨ax_cast rx_16 q3890, (List.forall_mem_nil _)⟩) h_σ2 dJ18_resize_346 ?_
    refine wk_sub (L' := [(1, vR l1), (2, vI l2), (4, vI l4), (6, vR l6), (7, vI l7)]) [0, 1, 2, 3, 4] rfl ?_
    exact wb_J18_resize_b347 C hk151 _ _ _ _ _ _ hf
set_option maxHeartbeats 4000000 in
theorem wb_J18_resize_b309 {E : Ev} {K : Kx} (C : wk_C E K yJ18_resize cJ18_resize 14 (Option.some (FieldType.array (FieldType.object "java/util/HashMap$Node"))) 0 0 []) {k151 : Option Nat → Int32 → Int32 → Option Nat → Int32 → Hs → Option (Option Nat × Hs)} {r : Option Nat} {σ' : Hs} (hk151 : ∀ (l1 : Option Nat) (l2 : Int32) (l4 : Int32) (l6 : Option Nat) (l7 : Int32) (σ : Hs), k151 l1 l2 l4 l6 l7 σ = some (r, σ') → wk_V E K (.inl (some (va_rf r))) σ' σ 151 [(1, vR l1), (2, vI l2), (4, vI l4), (6, vR l6), (7, vI l7)] []) (l1 : Option Nat) (l2 : Int32) (l4 : Int32) (l6 : Option Nat) (l7 : Int32) (l9 : Option Nat) (l10 : Option Nat) (l11 : Option Nat) (l12 : Option Nat) (σ : Hs) (hf : fn_J18_resize_b309 k151 l1 l2 l4 l6 l7 l9 l10 l11 l12 σ = some (r, σ')) : wk_V E K (.inl (some (va_rf r))) σ' σ 309 [(1, vR l1), (2, vI l2), (4, vI l4), (6, vR l6), (7, vI l7), (9, vR l9), (10, vR l10), (11, vR l11), (12, vR l12)] [] := by
  unfold fn_J18_resize_b309 at hf
  refine wk_aload C 6 rfl dJ18_resize_309 ?_
  refine wk_ifnull C 327 (by decide) dJ18_resize_311 (fun c_ => ?_) (fun c_ => ?_)
  · rw [if_pos c_] at hf
    refine wk_sub (L' := [(1, vR l1), (2, vI l2), (4, vI l4), (6, vR l6), (7, vI l7), (11, vR l11), (12, vR l12)]) [0, 1, 2, 3, 4, 7, 8] rfl ?_
    exact wb_J18_resize_b327 C hk151 _ _ _ _ _ _ _ _ hf
  · rw [if_neg c_] at hf
    refine wk_aload C 6 rfl dJ18_resize_314 ?_
    refine wk_null C dJ18_resize_316 ?_
    obtain ⟨σ3, h_σ3, hf⟩ := ho_b hf
    refine wk_putR C px_J18_177 (Or.inl ⟨_, rfl⟩) (fun q => by cases q) h_σ3 dJ18_resize_317 ?_
    refine wk_aload C 3 rfl dJ18_resize_320 ?_
    refine wk_iload C 4 rfl dJ18_resize_322 ?_
    refine wk_aload C 5 rfl dJ18_resize_324 ?_
    obtain ⟨σ4, h_σ4, hf⟩ := ho_b hf
    refine wk_aast C (Nat.le_of_ble_eq_true rfl) rfl (List.forall_mem_cons.mpr ⟨ax_cast rx_16 q3890, (List.forall_mem_nil _)⟩) h_σ4 dJ18_resize_326 ?_
    refine wk_sub (L' := [(1, vR l1), (2, vI l2), (4, vI l4), (6, vR l6), (7, vI l7), (11, vR l11), (12, vR l12)]) [0, 1, 2, 3, 4, 7, 8] rfl ?_
    exact wb_J18_resize_b327 C hk151 _ _ _ _ _ _ _ _ hf
set_option maxHeartbeats 4000000 in
theorem wb_J18_resize_b301 {E : Ev} {K : Kx} (C : wk_C E K yJ18_resize cJ18_resize 14 (Option.some (FieldType.array (FieldType.object "java/util/HashMap$Node"))) 0 0 []) {k151 : Option Nat → Int32 → Int32 → Option Nat → Int32 → Hs → Option (Option Nat × Hs)} {k235 : Option Nat → Int32 → Int32 → Option Nat → Int32 → Option Nat → Option Nat → Option Nat → Option Nat → Option Nat → Hs → Option (Option Nat × Hs)} {r : Option Nat} {σ' : Hs} (hk151 : ∀ (l1 : Option Nat) (l2 : Int32) (l4 : Int32) (l6 : Option Nat) (l7 : Int32) (σ : Hs), k151 l1 l2 l4 l6 l7 σ = some (r, σ') → wk_V E K (.inl (some (va_rf r))) σ' σ 151 [(1, vR l1), (2, vI l2), (4, vI l4), (6, vR l6), (7, vI l7)] []) (hk235 : ∀ (l1 : Option Nat) (l2 : Int32) (l4 : Int32) (l6 : Option Nat) (l7 : Int32) (l8 : Option Nat) (l9 : Option Nat) (l10 : Option Nat) (l11 : Option Nat) (l12 : Option Nat) (σ : Hs), k235 l1 l2 l4 l6 l7 l8 l9 l10 l11 l12 σ = some (r, σ') → wk_V E K (.inl (some (va_rf r))) σ' σ 235 [(1, vR l1), (2, vI l2), (4, vI l4), (6, vR l6), (7, vI l7), (8, vR l8), (9, vR l9), (10, vR l10), (11, vR l11), (12, vR l12)] []) (l1 : Option Nat) (l2 : Int32) (l4 : Int32) (l6 : Option Nat) (l7 : Int32) (l9 : Option Nat) (l10 : Option Nat) (l11 : Option Nat) (l12 : Option Nat) (l13 : Option Nat) (σ : Hs) (hf : fn_J18_resize_b301 k151 k235 l1 l2 l4 l6 l7 l9 l10 l11 l12 l13 σ = some (r, σ')) : wk_V E K (.inl (some (va_rf r))) σ' σ 301 [(1, vR l1), (2, vI l2), (4, vI l4), (6, vR l6), (7, vI l7), (9, vR l9), (10, vR l10), (11, vR l11), (12, vR l12), (13, vR l13)] [] := by
  unfold fn_J18_resize_b301 at hf
  refine wk_aload C 9 rfl dJ18_resize_301 ?_
  refine wk_dup C rfl dJ18_resize_303 ?_
  refine wk_astore (L' := [(1, vR l1), (2, vI l2), (4, vI l4), (6, vR l6), (7, vI l7), (8, vR l13), (9, vR l9), (10, vR l10), (11, vR l11), (12, vR l12), (13, vR l13)]) C (by decide) rfl dJ18_resize_304 ?_
  refine wk_ifnonnull C 235 (by decide) dJ18_resize_306 (fun c_ => ?_) (fun c_ => ?_)
  · rw [if_neg c_] at hf
    refine wk_sub (L' := [(1, vR l1), (2, vI l2), (4, vI l4), (6, vR l6), (7, vI l7), (8, vR l13), (9, vR l9), (10, vR l10), (11, vR l11), (12, vR l12)]) [0, 1, 2, 3, 4, 5, 6, 7, 8, 9] rfl ?_
    exact hk235 _ _ _ _ _ _ _ _ _ _ _ hf
  · rw [if_pos c_] at hf
    refine wk_sub (L' := [(1, vR l1), (2, vI l2), (4, vI l4), (6, vR l6), (7, vI l7), (9, vR l9), (10, vR l10), (11, vR l11), (12, vR l12)]) [0, 1, 2, 3, 4, 6, 7, 8, 9] rfl ?_
    exact wb_J18_resize_b309 C hk151 _ _ _ _ _ _ _ _ _ _ hf
set_option maxHeartbeats 4000000 in
theorem wb_J18_resize_b271 {E : Ev} {K : Kx} (C : wk_C E K yJ18_resize cJ18_resize 14 (Option.some (FieldType.array (FieldType.object "java/util/HashMap$Node"))) 0 0 []) {k151 : Option Nat → Int32 → Int32 → Option Nat → Int32 → Hs → Option (Option Nat × Hs)} {k235 : Option Nat → Int32 → Int32 → Option Nat → Int32 → Option Nat → Option Nat → Option Nat → Option Nat → Option Nat → Hs → Option (Option Nat × Hs)} {r : Option Nat} {σ' : Hs} (hk151 : ∀ (l1 : Option Nat) (l2 : Int32) (l4 : Int32) (l6 : Option Nat) (l7 : Int32) (σ : Hs), k151 l1 l2 l4 l6 l7 σ = some (r, σ') → wk_V E K (.inl (some (va_rf r))) σ' σ 151 [(1, vR l1), (2, vI l2), (4, vI l4), (6, vR l6), (7, vI l7)] []) (hk235 : ∀ (l1 : Option Nat) (l2 : Int32) (l4 : Int32) (l6 : Option Nat) (l7 : Int32) (l8 : Option Nat) (l9 : Option Nat) (l10 : Option Nat) (l11 : Option Nat) (l12 : Option Nat) (σ : Hs), k235 l1 l2 l4 l6 l7 l8 l9 l10 l11 l12 σ = some (r, σ') → wk_V E K (.inl (some (va_rf r))) σ' σ 235 [(1, vR l1), (2, vI l2), (4, vI l4), (6, vR l6), (7, vI l7), (8, vR l8), (9, vR l9), (10, vR l10), (11, vR l11), (12, vR l12)] []) (l1 : Option Nat) (l2 : Int32) (l4 : Int32) (l6 : Option Nat) (l7 : Int32) (l8 : Option Nat) (l9 : Option Nat) (l11 : Option Nat) (l12 : Option Nat) (l13 : Option Nat) (σ : Hs) (hf : fn_J18_resize_b271 k151 k235 l1 l2 l4 l6 l7 l8 l9 l11 l12 l13 σ = some (r, σ')) : wk_V E K (.inl (some (va_rf r))) σ' σ 271 [(1, vR l1), (2, vI l2), (4, vI l4), (6, vR l6), (7, vI l7), (8, vR l8), (9, vR l9), (11, vR l11), (12, vR l12), (13, vR l13)] [] := by
  unfold fn_J18_resize_b271 at hf
  refine wk_aload C 5 rfl dJ18_resize_271 ?_
  refine wk_astore (L' := [(1, vR l1), (2, vI l2), (4, vI l4), (6, vR l6), (7, vI l7), (8, vR l8), (9, vR l9), (10, vR l8), (11, vR l11), (12, vR l12), (13, vR l13)]) C (by decide) rfl dJ18_resize_273 ?_
  refine wk_goto C 301 (by decide) dJ18_resize_275 ?_
  refine wk_sub (L' := [(1, vR l1), (2, vI l2), (4, vI l4), (6, vR l6), (7, vI l7), (9, vR l9), (10, vR l8), (11, vR l11), (12, vR l12), (13, vR l13)]) [0, 1, 2, 3, 4, 6, 7, 8, 9, 10] rfl ?_
  exact wb_J18_resize_b301 C hk151 hk235 _ _ _ _ _ _ _ _ _ _ _ hf
set_option maxHeartbeats 4000000 in
theorem wb_J18_resize_b297 {E : Ev} {K : Kx} (C : wk_C E K yJ18_resize cJ18_resize 14 (Option.some (FieldType.array (FieldType.object "java/util/HashMap$Node"))) 0 0 []) {k151 : Option Nat → Int32 → Int32 → Option Nat → Int32 → Hs → Option (Option Nat × Hs)} {k235 : Option Nat → Int32 → Int32 → Option Nat → Int32 → Option Nat → Option Nat → Option Nat → Option Nat → Option Nat → Hs → Option (Option Nat × Hs)} {r : Option Nat} {σ' : Hs} (hk151 : ∀ (l1 : Option Nat) (l2 : Int32) (l4 : Int32) (l6 : Option Nat) (l7 : Int32) (σ : Hs), k151 l1 l2 l4 l6 l7 σ = some (r, σ') → wk_V E K (.inl (some (va_rf r))) σ' σ 151 [(1, vR l1), (2, vI l2), (4, vI l4), (6, vR l6), (7, vI l7)] []) (hk235 : ∀ (l1 : Option Nat) (l2 : Int32) (l4 : Int32) (l6 : Option Nat) (l7 : Int32) (l8 : Option Nat) (l9 : Option Nat) (l10 : Option Nat) (l11 : Option Nat) (l12 : Option Nat) (σ : Hs), k235 l1 l2 l4 l6 l7 l8 l9 l10 l11 l12 σ = some (r, σ') → wk_V E K (.inl (some (va_rf r))) σ' σ 235 [(1, vR l1), (2, vI l2), (4, vI l4), (6, vR l6), (7, vI l7), (8, vR l8), (9, vR l9), (10, vR l10), (11, vR l11), (12, vR l12)] []) (l1 : Option Nat) (l2 : Int32) (l4 : Int32) (l6 : Option Nat) (l7 : Int32) (l8 : Option Nat) (l9 : Option Nat) (l10 : Option Nat) (l11 : Option Nat) (l13 : Option Nat) (σ : Hs) (hf : fn_J18_resize_b297 k151 k235 l1 l2 l4 l6 l7 l8 l9 l10 l11 l13 σ = some (r, σ')) : wk_V E K (.inl (some (va_rf r))) σ' σ 297 [(1, vR l1), (2, vI l2), (4, vI l4), (6, vR l6), (7, vI l7), (8, vR l8), (9, vR l9), (10, vR l10), (11, vR l11), (13, vR l13)] [] := by
  unfold fn_J18_resize_b297 at hf
  refine wk_aload C 5 rfl dJ18_resize_297 ?_
  refine wk_astore (L' := [(1, vR l1), (2, vI l2), (4, vI l4), (6, vR l6), (7, vI l7), (8, vR l8), (9, vR l9), (10, vR l10), (11, vR l11), (12, vR l8), (13, vR l13)]) C (by decide) rfl dJ18_resize_299 ?_
  refine wk_sub (L' := [(1, vR l1), (2, vI l2), (4, vI l4), (6, vR l6), (7, vI l7), (9, vR l9), (10, vR l10), (11, vR l11), (12, vR l8), (13, vR l13)]) [0, 1, 2, 3, 4, 6, 7, 8, 9, 10] rfl ?_
  exact wb_J18_resize_b301 C hk151 hk235 _ _ _ _ _ _ _ _ _ _ _ hf
set_option maxHeartbeats 4000000 in
theorem wb_J18_resize_b235 {E : Ev} {K : Kx} (C : wk_C E K yJ18_resize cJ18_resize 14 (Option.some (FieldType.array (FieldType.object "java/util/HashMap$Node"))) 0 0 []) {k151 : Option Nat → Int32 → Int32 → Option Nat → Int32 → Hs → Option (Option Nat × Hs)} {r : Option Nat} {σ' : Hs} (hk151 : ∀ (l1 : Option Nat) (l2 : Int32) (l4 : Int32) (l6 : Option Nat) (l7 : Int32) (σ : Hs), k151 l1 l2 l4 l6 l7 σ = some (r, σ') → wk_V E K (.inl (some (va_rf r))) σ' σ 151 [(1, vR l1), (2, vI l2), (4, vI l4), (6, vR l6), (7, vI l7)] []) : ∀ (n : Nat) (l1 : Option Nat) (l2 : Int32) (l4 : Int32) (l6 : Option Nat) (l7 : Int32) (l8 : Option Nat) (l9 : Option Nat) (l10 : Option Nat) (l11 : Option Nat) (l12 : Option Nat) (σ : Hs), fn_J18_resize_b235 k151 n l1 l2 l4 l6 l7 l8 l9 l10 l11 l12 σ = some (r, σ') → wk_V E K (.inl (some (va_rf r))) σ' σ 235 [(1, vR l1), (2, vI l2), (4, vI l4), (6, vR l6), (7, vI l7), (8, vR l8), (9, vR l9), (10, vR l10), (11, vR l11), (12, vR l12)] [] := by
  intro n
  induction n with
  | zero =>
    intro l1 l2 l4 l6 l7 l8 l9 l10 l11 l12 σ hf
    rw [fn_J18_resize_b235] at hf
    cases hf
  | succ n ih =>
    intro l1 l2 l4 l6 l7 l8 l9 l10 l11 l12 σ hf
    rw [fn_J18_resize_b235] at hf
    refine wk_aload C 5 rfl dJ18_resize_235 ?_
    obtain ⟨v5, h_v5, hf⟩ := ho_b hf
    refine wk_getR C fx_J18_177 h_v5 dJ18_resize_237 ?_
    refine wk_astore (L' := [(1, vR l1), (2, vI l2), (4, vI l4), (6, vR l6), (7, vI l7), (8, vR l8), (9, vR l9), (10, vR l10), (11, vR l11), (12, vR l12), (13, vR v5)]) C (by decide) rfl dJ18_resize_240 ?_
    refine wk_aload C 5 rfl dJ18_resize_242 ?_
    obtain ⟨v6, h_v6, hf⟩ := ho_b hf
    refine wk_getI C fx_J18_168 h_v6 dJ18_resize_244 ?_
    refine wk_iload_n C 1 rfl dJ18_resize_247 ?_
    refine wk_iand C dJ18_resize_248 ?_
    refine wk_if_ne C 278 (by decide) dJ18_resize_249 (fun c_ => ?_) (fun c_ => ?_)
    · rw [if_neg c_] at hf
      refine wk_aload C 9 rfl dJ18_resize_278 ?_
      refine wk_ifnonnull C 290 (by decide) dJ18_resize_280 (fun c_ => ?_) (fun c_ => ?_)
      · rw [if_neg c_] at hf
        refine wk_aload C 9 rfl dJ18_resize_290 ?_
        refine wk_aload C 5 rfl dJ18_resize_292 ?_
        obtain ⟨σ7, h_σ7, hf⟩ := ho_b hf
        refine wk_putR C px_J18_177 (Or.inl ⟨_, rfl⟩) (fun q => by cases q) h_σ7 dJ18_resize_294 ?_
        refine wk_sub (L' := [(1, vR l1), (2, vI l2), (4, vI l4), (6, vR l6), (7, vI l7), (8, vR l8), (9, vR l9), (10, vR l10), (11, vR l11), (13, vR v5)]) [0, 1, 2, 3, 4, 5, 6, 7, 8, 10] rfl ?_
        exact wb_J18_resize_b297 C hk151 ih _ _ _ _ _ _ _ _ _ _ _ hf
      · rw [if_pos c_] at hf
        refine wk_aload C 5 rfl dJ18_resize_283 ?_
        refine wk_astore (L' := [(1, vR l1), (2, vI l2), (4, vI l4), (6, vR l6), (7, vI l7), (8, vR l8), (9, vR l9), (10, vR l10), (11, vR l8), (12, vR l12), (13, vR v5)]) C (by decide) rfl dJ18_resize_285 ?_
        refine wk_goto C 297 (by decide) dJ18_resize_287 ?_
        refine wk_sub (L' := [(1, vR l1), (2, vI l2), (4, vI l4), (6, vR l6), (7, vI l7), (8, vR l8), (9, vR l9), (10, vR l10), (11, vR l8), (13, vR v5)]) [0, 1, 2, 3, 4, 5, 6, 7, 8, 10] rfl ?_
        exact wb_J18_resize_b297 C hk151 ih _ _ _ _ _ _ _ _ _ _ _ hf
    · rw [if_pos c_] at hf
      refine wk_aload C 7 rfl dJ18_resize_252 ?_
      refine wk_ifnonnull C 264 (by decide) dJ18_resize_254 (fun c_ => ?_) (fun c_ => ?_)
      · rw [if_neg c_] at hf
        refine wk_aload C 7 rfl dJ18_resize_264 ?_
        refine wk_aload C 5 rfl dJ18_resize_266 ?_
        obtain ⟨σ8, h_σ8, hf⟩ := ho_b hf
        refine wk_putR C px_J18_177 (Or.inl ⟨_, rfl⟩) (fun q => by cases q) h_σ8 dJ18_resize_268 ?_
        refine wk_sub (L' := [(1, vR l1), (2, vI l2), (4, vI l4), (6, vR l6), (7, vI l7), (8, vR l8), (9, vR l9), (11, vR l11), (12, vR l12), (13, vR v5)]) [0, 1, 2, 3, 4, 5, 6, 8, 9, 10] rfl ?_
        exact wb_J18_resize_b271 C hk151 ih _ _ _ _ _ _ _ _ _ _ _ hf
      · rw [if_pos c_] at hf
        refine wk_aload C 5 rfl dJ18_resize_257 ?_
        refine wk_astore (L' := [(1, vR l1), (2, vI l2), (4, vI l4), (6, vR l6), (7, vI l7), (8, vR l8), (9, vR l8), (10, vR l10), (11, vR l11), (12, vR l12), (13, vR v5)]) C (by decide) rfl dJ18_resize_259 ?_
        refine wk_goto C 271 (by decide) dJ18_resize_261 ?_
        refine wk_sub (L' := [(1, vR l1), (2, vI l2), (4, vI l4), (6, vR l6), (7, vI l7), (8, vR l8), (9, vR l8), (11, vR l11), (12, vR l12), (13, vR v5)]) [0, 1, 2, 3, 4, 5, 6, 8, 9, 10] rfl ?_
        exact wb_J18_resize_b271 C hk151 ih _ _ _ _ _ _ _ _ _ _ _ hf
set_option maxHeartbeats 4000000 in
theorem wb_J18_resize_b151 {E : Ev} {K : Kx} (C : wk_C E K yJ18_resize cJ18_resize 14 (Option.some (FieldType.array (FieldType.object "java/util/HashMap$Node"))) 0 0 []) {r : Option Nat} {σ' : Hs} : ∀ (n : Nat) (l1 : Option Nat) (l2 : Int32) (l4 : Int32) (l6 : Option Nat) (l7 : Int32) (σ : Hs), fn_J18_resize_b151 n l1 l2 l4 l6 l7 σ = some (r, σ') → wk_V E K (.inl (some (va_rf r))) σ' σ 151 [(1, vR l1), (2, vI l2), (4, vI l4), (6, vR l6), (7, vI l7)] [] := by
  intro n
  induction n with
  | zero =>
    intro l1 l2 l4 l6 l7 σ hf
    rw [fn_J18_resize_b151] at hf
    cases hf
  | succ n ih =>
    intro l1 l2 l4 l6 l7 σ hf
    rw [fn_J18_resize_b151] at hf
    refine wk_iload C 4 rfl dJ18_resize_151 ?_
    refine wk_iload_n C 1 rfl dJ18_resize_153 ?_
    refine wk_icmp_ge C 353 (by decide) dJ18_resize_154 (fun c_ => ?_) (fun c_ => ?_)
    · rw [if_pos c_] at hf
      refine wk_sub (L' := [(6, vR l6)]) [3] rfl ?_
      exact wb_J18_resize_b353 C  _ _ hf
    · rw [if_neg c_] at hf
      refine wk_aload_n C 0 rfl dJ18_resize_157 ?_
      refine wk_iload C 4 rfl dJ18_resize_158 ?_
      obtain ⟨v9, h_v9, hf⟩ := ho_b hf
      refine wk_aald C h_v9 dJ18_resize_160 ?_
      refine wk_dup C rfl dJ18_resize_161 ?_
      refine wk_astore (L' := [(1, vR l1), (2, vI l2), (4, vI l4), (6, vR l6), (7, vI l7), (8, vR v9)]) C (by decide) rfl dJ18_resize_162 ?_
      refine wk_ifnull C 347 (by decide) dJ18_resize_164 (fun c_ => ?_) (fun c_ => ?_)
      · rw [if_pos c_] at hf
        refine wk_sub (L' := [(1, vR l1), (2, vI l2), (4, vI l4), (6, vR l6), (7, vI l7)]) [0, 1, 2, 3, 4] rfl ?_
        exact wb_J18_resize_b347 C ih _ _ _ _ _ _ hf
      · rw [if_neg c_] at hf
        refine wk_aload_n C 0 rfl dJ18_resize_167 ?_
        refine wk_iload C 4 rfl dJ18_resize_168 ?_
        refine wk_null C dJ18_resize_170 ?_
        obtain ⟨σ10, h_σ10, hf⟩ := ho_b hf
        refine wk_aast C (Nat.le_of_ble_eq_true rfl) rfl (List.forall_mem_cons.mpr ⟨ax_cast rx_16 q3890, (List.forall_mem_nil _)⟩) h_σ10 dJ18_resize_171 ?_
        refine wk_aload C 5 rfl dJ18_resize_172 ?_
        obtain ⟨v11, h_v11, hf⟩ := ho_b hf
        refine wk_getR C fx_J18_177 h_v11 dJ18_resize_174 ?_
        refine wk_ifnonnull C 198 (by decide) dJ18_resize_177 (fun c_ => ?_) (fun c_ => ?_)
        · rw [if_neg c_] at hf
          refine wk_aload C 5 rfl dJ18_resize_198 ?_
          obtain ⟨v12, h_v12, hf⟩ := ho_b hf
          refine wk_inst C q1986 ((List.forall_mem_nil _)) (List.forall_mem_cons.mpr ⟨⟨"java/util/LinkedHashMap$Entry", rx_16, by decide +kernel⟩, (List.forall_mem_nil _)⟩) h_v12 dJ18_resize_200 ?_
          refine wk_if_eq C 223 (by decide) dJ18_resize_203 (fun c_ => ?_) (fun c_ => ?_)
          · rw [if_pos c_] at hf
            refine wk_null C dJ18_resize_223 ?_
            refine wk_astore (L' := [(1, vR l1), (2, vI l2), (4, vI l4), (6, vR l6), (7, vI l7), (8, vR v9), (9, vR none)]) C (by decide) rfl dJ18_resize_224 ?_
            refine wk_null C dJ18_resize_226 ?_
            refine wk_astore (L' := [(1, vR l1), (2, vI l2), (4, vI l4), (6, vR l6), (7, vI l7), (8, vR v9), (9, vR none), (10, vR none)]) C (by decide) rfl dJ18_resize_227 ?_
            refine wk_null C dJ18_resize_229 ?_
            refine wk_astore (L' := [(1, vR l1), (2, vI l2), (4, vI l4), (6, vR l6), (7, vI l7), (8, vR v9), (9, vR none), (10, vR none), (11, vR none)]) C (by decide) rfl dJ18_resize_230 ?_
            refine wk_null C dJ18_resize_232 ?_
            refine wk_astore (L' := [(1, vR l1), (2, vI l2), (4, vI l4), (6, vR l6), (7, vI l7), (8, vR v9), (9, vR none), (10, vR none), (11, vR none), (12, vR none)]) C (by decide) rfl dJ18_resize_233 ?_
            exact wb_J18_resize_b235 C ih _ _ _ _ _ _ _ _ _ _ _ _ hf
          · rw [if_neg c_] at hf
            refine wk_aload C 5 rfl dJ18_resize_206 ?_
            cases hf
        · rw [if_pos c_] at hf
          refine wk_aload C 3 rfl dJ18_resize_180 ?_
          refine wk_aload C 5 rfl dJ18_resize_182 ?_
          obtain ⟨v13, h_v13, hf⟩ := ho_b hf
          refine wk_getI C fx_J18_168 h_v13 dJ18_resize_184 ?_
          refine wk_iload C 2 rfl dJ18_resize_187 ?_
          refine wk_iconst (v := 1) C dJ18_resize_189 rfl ?_
          refine wk_isub C dJ18_resize_190 ?_
          refine wk_iand C dJ18_resize_191 ?_
          refine wk_aload C 5 rfl dJ18_resize_192 ?_
          obtain ⟨σ14, h_σ14, hf⟩ := ho_b hf
          refine wk_aast C (Nat.le_of_ble_eq_true rfl) rfl (List.forall_mem_cons.mpr ⟨ax_cast rx_16 q3890, (List.forall_mem_nil _)⟩) h_σ14 dJ18_resize_194 ?_
          refine wk_goto C 347 (by decide) dJ18_resize_195 ?_
          refine wk_sub (L' := [(1, vR l1), (2, vI l2), (4, vI l4), (6, vR l6), (7, vI l7)]) [0, 1, 2, 3, 4] rfl ?_
          exact wb_J18_resize_b347 C ih _ _ _ _ _ _ hf
set_option maxHeartbeats 4000000 in
theorem wb_J18_resize_b125 {E : Ev} {K : Kx} (C : wk_C E K yJ18_resize cJ18_resize 14 (Option.some (FieldType.array (FieldType.object "java/util/HashMap$Node"))) 0 0 []) {r : Option Nat} {σ' : Hs} (l0 : Option Nat) (l1 : Option Nat) (l2 : Int32) (l4 : Int32) (l5 : Int32) (σ : Hs) (hf : fn_J18_resize_b125 l0 l1 l2 l4 l5 σ = some (r, σ')) : wk_V E K (.inl (some (va_rf r))) σ' σ 125 [(0, vR l0), (1, vR l1), (2, vI l2), (4, vI l4), (5, vI l5)] [] := by
  unfold fn_J18_resize_b125 at hf
  refine wk_aload_n C 0 rfl dJ18_resize_125 ?_
  refine wk_iload C 4 rfl dJ18_resize_126 ?_
  obtain ⟨σ15, h_σ15, hf⟩ := ho_b hf
  refine wk_putI C px_J18_88 (fun q => by cases q) h_σ15 dJ18_resize_128 ?_
  refine wk_iload C 3 rfl dJ18_resize_131 ?_
  obtain ⟨v16, σ17, h_σ17, hf⟩ := ho_e2 hf
  refine wk_anew C (k := 8) (Nat.le_of_ble_eq_true rfl) rfl q1984 (by decide +kernel) h_σ17 dJ18_resize_133 ?_
  refine wk_astore (L' := [(0, vR l0), (1, vR l1), (2, vI l2), (4, vI l4), (5, vI l5), (6, vR v16)]) C (by decide) rfl dJ18_resize_136 ?_
  refine wk_aload_n C 0 rfl dJ18_resize_138 ?_
  refine wk_aload C 5 rfl dJ18_resize_139 ?_
  obtain ⟨σ18, h_σ18, hf⟩ := ho_b hf
  refine wk_putR C px_J18_105 (Or.inr ⟨_, rfl⟩) (fun q => by cases q) h_σ18 dJ18_resize_141 ?_
  refine wk_aload_n C 1 rfl dJ18_resize_144 ?_
  refine wk_ifnull C 353 (by decide) dJ18_resize_145 (fun c_ => ?_) (fun c_ => ?_)
  · rw [if_pos c_] at hf
    refine wk_sub (L' := [(6, vR v16)]) [5] rfl ?_
    exact wb_J18_resize_b353 C  _ _ hf
  · rw [if_neg c_] at hf
    refine wk_iconst (v := 0) C dJ18_resize_148 rfl ?_
    refine wk_istore (L' := [(0, vR l0), (1, vR l1), (2, vI l2), (4, vI l4), (5, vI l5), (6, vR v16), (7, vI (0 : Int32))]) C (by decide) rfl dJ18_resize_149 ?_
    refine wk_sub (L' := [(1, vR l1), (2, vI l2), (4, vI l4), (6, vR v16), (7, vI (0 : Int32))]) [1, 2, 3, 5, 6] rfl ?_
    exact wb_J18_resize_b151 C  _ _ _ _ _ _ _ hf
set_option maxHeartbeats 4000000 in
theorem wb_J18_resize_b123 {E : Ev} {K : Kx} (C : wk_C E K yJ18_resize cJ18_resize 14 (Option.some (FieldType.array (FieldType.object "java/util/HashMap$Node"))) 0 0 []) {r : Option Nat} {σ' : Hs} (l0 : Option Nat) (l1 : Option Nat) (l2 : Int32) (l4 : Int32) (t0 : Int32) (σ : Hs) (hf : fn_J18_resize_b123 l0 l1 l2 l4 t0 σ = some (r, σ')) : wk_V E K (.inl (some (va_rf r))) σ' σ 123 [(0, vR l0), (1, vR l1), (2, vI l2), (4, vI l4)] [vI t0] := by
  unfold fn_J18_resize_b123 at hf
  refine wk_istore (L' := [(0, vR l0), (1, vR l1), (2, vI l2), (4, vI l4), (5, vI t0)]) C (by decide) rfl dJ18_resize_123 ?_
  exact wb_J18_resize_b125 C  _ _ _ _ _ _ hf
set_option maxHeartbeats 4000000 in
theorem wb_J18_resize_b121 {E : Ev} {K : Kx} (C : wk_C E K yJ18_resize cJ18_resize 14 (Option.some (FieldType.array (FieldType.object "java/util/HashMap$Node"))) 0 0 []) {r : Option Nat} {σ' : Hs} (l0 : Option Nat) (l1 : Option Nat) (l2 : Int32) (l4 : Int32) (σ : Hs) (hf : fn_J18_resize_b121 l0 l1 l2 l4 σ = some (r, σ')) : wk_V E K (.inl (some (va_rf r))) σ' σ 121 [(0, vR l0), (1, vR l1), (2, vI l2), (4, vI l4)] [] := by
  unfold fn_J18_resize_b121 at hf
  refine wk_ldc C q1982 dJ18_resize_121 ?_
  exact wb_J18_resize_b123 C  _ _ _ _ _ _ hf
set_option maxHeartbeats 4000000 in
theorem wb_J18_resize_b85 {E : Ev} {K : Kx} (C : wk_C E K yJ18_resize cJ18_resize 14 (Option.some (FieldType.array (FieldType.object "java/util/HashMap$Node"))) 0 0 []) {r : Option Nat} {σ' : Hs} (l0 : Option Nat) (l1 : Option Nat) (l2 : Int32) (l4 : Int32) (l5 : Int32) (σ : Hs) (hf : fn_J18_resize_b85 l0 l1 l2 l4 l5 σ = some (r, σ')) : wk_V E K (.inl (some (va_rf r))) σ' σ 85 [(0, vR l0), (1, vR l1), (2, vI l2), (4, vI l4), (5, vI l5)] [] := by
  unfold fn_J18_resize_b85 at hf
  refine wk_iload C 4 rfl dJ18_resize_85 ?_
  refine wk_if_ne C 125 (by decide) dJ18_resize_87 (fun c_ => ?_) (fun c_ => ?_)
  · rw [if_neg c_] at hf
    exact wb_J18_resize_b125 C  _ _ _ _ _ _ hf
  · rw [if_pos c_] at hf
    refine wk_iload C 3 rfl dJ18_resize_90 ?_
    refine wk_i2f C dJ18_resize_92 ?_
    refine wk_aload_n C 0 rfl dJ18_resize_93 ?_
    obtain ⟨v19, h_v19, hf⟩ := ho_b hf
    refine wk_getF C fx_J18_81 h_v19 dJ18_resize_94 ?_
    obtain ⟨v20, h_v20, hf⟩ := ho_b hf
    refine wk_fmul C h_v20 dJ18_resize_97 ?_
    refine wk_fstore (L' := [(0, vR l0), (1, vR l1), (2, vI l2), (4, vI l4), (5, vI l5), (6, vF v20)]) C (by decide) rfl dJ18_resize_98 ?_
    refine wk_iload C 3 rfl dJ18_resize_100 ?_
    refine wk_ldc C q1329 dJ18_resize_102 ?_
    refine wk_icmp_ge C 121 (by decide) dJ18_resize_104 (fun c_ => ?_) (fun c_ => ?_)
    · rw [if_pos c_] at hf
      refine wk_sub (L' := [(0, vR l0), (1, vR l1), (2, vI l2), (4, vI l4)]) [0, 1, 2, 3] rfl ?_
      exact wb_J18_resize_b121 C  _ _ _ _ _ hf
    · rw [if_neg c_] at hf
      refine wk_fload C 5 rfl dJ18_resize_107 ?_
      refine wk_ldcF C q1983 dJ18_resize_109 ?_
      refine wk_fcmp C dJ18_resize_111 ?_
      refine wk_if_ge C 121 (by decide) dJ18_resize_112 (fun c_ => ?_) (fun c_ => ?_)
      · rw [if_pos c_] at hf
        refine wk_sub (L' := [(0, vR l0), (1, vR l1), (2, vI l2), (4, vI l4)]) [0, 1, 2, 3] rfl ?_
        exact wb_J18_resize_b121 C  _ _ _ _ _ hf
      · rw [if_neg c_] at hf
        refine wk_fload C 5 rfl dJ18_resize_115 ?_
        refine wk_f2i C dJ18_resize_117 ?_
        refine wk_goto C 123 (by decide) dJ18_resize_118 ?_
        refine wk_sub (L' := [(0, vR l0), (1, vR l1), (2, vI l2), (4, vI l4)]) [0, 1, 2, 3] rfl ?_
        exact wb_J18_resize_b123 C  _ _ _ _ _ _ hf
set_option maxHeartbeats 4000000 in
theorem wb_J18_resize_b15 {E : Ev} {K : Kx} (C : wk_C E K yJ18_resize cJ18_resize 14 (Option.some (FieldType.array (FieldType.object "java/util/HashMap$Node"))) 0 0 []) {r : Option Nat} {σ' : Hs} (l0 : Option Nat) (l1 : Option Nat) (t0 : Int32) (σ : Hs) (hf : fn_J18_resize_b15 l0 l1 t0 σ = some (r, σ')) : wk_V E K (.inl (some (va_rf r))) σ' σ 15 [(0, vR l0), (1, vR l1)] [vI t0] := by
  unfold fn_J18_resize_b15 at hf
  refine wk_istore_n (L' := [(0, vR l0), (1, vR l1), (2, vI t0)]) C (by decide) rfl dJ18_resize_15 ?_
  refine wk_aload_n C 0 rfl dJ18_resize_16 ?_
  obtain ⟨v21, h_v21, hf⟩ := ho_b hf
  refine wk_getI C fx_J18_88 h_v21 dJ18_resize_17 ?_
  refine wk_istore_n (L' := [(0, vR l0), (1, vR l1), (2, vI t0), (3, vI v21)]) C (by decide) rfl dJ18_resize_20 ?_
  refine wk_iconst (v := 0) C dJ18_resize_21 rfl ?_
  refine wk_istore (L' := [(0, vR l0), (1, vR l1), (2, vI t0), (3, vI v21), (5, vI (0 : Int32))]) C (by decide) rfl dJ18_resize_22 ?_
  refine wk_iload_n C 2 rfl dJ18_resize_24 ?_
  refine wk_if_le C 67 (by decide) dJ18_resize_25 (fun c_ => ?_) (fun c_ => ?_)
  · rw [if_pos c_] at hf
    refine wk_iload_n C 3 rfl dJ18_resize_67 ?_
    refine wk_if_le C 77 (by decide) dJ18_resize_68 (fun c_ => ?_) (fun c_ => ?_)
    · rw [if_pos c_] at hf
      refine wk_bipush (v := 16) C dJ18_resize_77 rfl ?_
      refine wk_istore (L' := [(0, vR l0), (1, vR l1), (2, vI t0), (3, vI v21), (4, vI (16 : Int32)), (5, vI (0 : Int32))]) C (by decide) rfl dJ18_resize_79 ?_
      refine wk_bipush (v := 12) C dJ18_resize_81 rfl ?_
      refine wk_istore (L' := [(0, vR l0), (1, vR l1), (2, vI t0), (3, vI v21), (4, vI (16 : Int32)), (5, vI (12 : Int32))]) C (by decide) rfl dJ18_resize_83 ?_
      refine wk_sub (L' := [(0, vR l0), (1, vR l1), (2, vI t0), (4, vI (16 : Int32)), (5, vI (12 : Int32))]) [0, 1, 2, 4, 5] rfl ?_
      exact wb_J18_resize_b85 C  _ _ _ _ _ _ hf
    · rw [if_neg c_] at hf
      refine wk_iload_n C 3 rfl dJ18_resize_71 ?_
      refine wk_istore (L' := [(0, vR l0), (1, vR l1), (2, vI t0), (3, vI v21), (4, vI v21), (5, vI (0 : Int32))]) C (by decide) rfl dJ18_resize_72 ?_
      refine wk_goto C 85 (by decide) dJ18_resize_74 ?_
      refine wk_sub (L' := [(0, vR l0), (1, vR l1), (2, vI t0), (4, vI v21), (5, vI (0 : Int32))]) [0, 1, 2, 4, 5] rfl ?_
      exact wb_J18_resize_b85 C  _ _ _ _ _ _ hf
  · rw [if_neg c_] at hf
    refine wk_iload_n C 2 rfl dJ18_resize_28 ?_
    refine wk_ldc C q1329 dJ18_resize_29 ?_
    refine wk_icmp_lt C 42 (by decide) dJ18_resize_31 (fun c_ => ?_) (fun c_ => ?_)
    · rw [if_pos c_] at hf
      refine wk_iload_n C 2 rfl dJ18_resize_42 ?_
      refine wk_iconst (v := 1) C dJ18_resize_43 rfl ?_
      refine wk_ishl C dJ18_resize_44 ?_
      refine wk_dup C rfl dJ18_resize_45 ?_
      obtain ⟨v22, e_v22, hf⟩ := ho_b hf
      refine wk_tI (Option.some.inj e_v22) ?_
      refine wk_istore (L' := [(0, vR l0), (1, vR l1), (2, vI t0), (3, vI v21), (4, vI v22), (5, vI (0 : Int32))]) C (by decide) rfl dJ18_resize_46 ?_
      refine wk_ldc C q1329 dJ18_resize_48 ?_
      refine wk_icmp_ge C 85 (by decide) dJ18_resize_50 (fun c_ => ?_) (fun c_ => ?_)
      · rw [if_pos c_] at hf
        refine wk_sub (L' := [(0, vR l0), (1, vR l1), (2, vI t0), (4, vI v22), (5, vI (0 : Int32))]) [0, 1, 2, 4, 5] rfl ?_
        exact wb_J18_resize_b85 C  _ _ _ _ _ _ hf
      · rw [if_neg c_] at hf
        refine wk_iload_n C 2 rfl dJ18_resize_53 ?_
        refine wk_bipush (v := 16) C dJ18_resize_54 rfl ?_
        refine wk_icmp_lt C 85 (by decide) dJ18_resize_56 (fun c_ => ?_) (fun c_ => ?_)
        · rw [if_pos c_] at hf
          refine wk_sub (L' := [(0, vR l0), (1, vR l1), (2, vI t0), (4, vI v22), (5, vI (0 : Int32))]) [0, 1, 2, 4, 5] rfl ?_
          exact wb_J18_resize_b85 C  _ _ _ _ _ _ hf
        · rw [if_neg c_] at hf
          refine wk_iload_n C 3 rfl dJ18_resize_59 ?_
          refine wk_iconst (v := 1) C dJ18_resize_60 rfl ?_
          refine wk_ishl C dJ18_resize_61 ?_
          obtain ⟨v23, e_v23, hf⟩ := ho_b hf
          refine wk_tI (Option.some.inj e_v23) ?_
          refine wk_istore (L' := [(0, vR l0), (1, vR l1), (2, vI t0), (3, vI v21), (4, vI v22), (5, vI v23)]) C (by decide) rfl dJ18_resize_62 ?_
          refine wk_goto C 85 (by decide) dJ18_resize_64 ?_
          refine wk_sub (L' := [(0, vR l0), (1, vR l1), (2, vI t0), (4, vI v22), (5, vI v23)]) [0, 1, 2, 4, 5] rfl ?_
          exact wb_J18_resize_b85 C  _ _ _ _ _ _ hf
    · rw [if_neg c_] at hf
      refine wk_aload_n C 0 rfl dJ18_resize_34 ?_
      refine wk_ldc C q1982 dJ18_resize_35 ?_
      obtain ⟨σ24, h_σ24, hf⟩ := ho_b hf
      refine wk_putI C px_J18_88 (fun q => by cases q) h_σ24 dJ18_resize_37 ?_
      refine wk_aload_n C 1 rfl dJ18_resize_40 ?_
      obtain ⟨rfl, rfl⟩ := Prod.mk.inj (Option.some.inj hf)
      exact wk_aret C (Or.inr ⟨_, rfl⟩) rfl rfl dJ18_resize_41
set_option maxHeartbeats 4000000 in
theorem mt_J18_resize {E : Ev} {l : Launch} (hl : l.stackTraces = false) {p0 : Option Nat} {σ : Hs} {r : Option Nat} {σ' : Hs} (hf : fn_J18_resize p0 σ = some (r, σ')) : wk_M E l yJ18_resize (ws_ yJ18_resize cJ18_resize 14 (Option.some (FieldType.array (FieldType.object "java/util/HashMap$Node")))) 0 0 [vR p0] σ (.inl (some (va_rf r))) σ' := by
  refine wk_start (by decide +kernel) hl (Nat.le_of_ble_eq_true rfl) (fun K C hK => ?_)
  subst hK
  refine wk_L (L' := [(0, vR p0)]) rfl ?_
  unfold fn_J18_resize at hf
  refine wk_aload_n C 0 rfl dJ18_resize_0 ?_
  obtain ⟨v25, h_v25, hf⟩ := ho_b hf
  refine wk_getR C fx_J18_105 h_v25 dJ18_resize_1 ?_
  refine wk_astore_n (L' := [(0, vR p0), (1, vR v25)]) C (by decide) rfl dJ18_resize_4 ?_
  refine wk_aload_n C 1 rfl dJ18_resize_5 ?_
  refine wk_ifnonnull C 13 (by decide) dJ18_resize_6 (fun c_ => ?_) (fun c_ => ?_)
  · rw [if_neg c_] at hf
    refine wk_aload_n C 1 rfl dJ18_resize_13 ?_
    obtain ⟨v26, h_v26, hf⟩ := ho_b hf
    refine wk_alen C h_v26 dJ18_resize_14 ?_
    exact wb_J18_resize_b15 C  _ _ _ _ hf
  · rw [if_pos c_] at hf
    refine wk_iconst (v := 0) C dJ18_resize_9 rfl ?_
    refine wk_goto C 15 (by decide) dJ18_resize_10 ?_
    exact wb_J18_resize_b15 C  _ _ _ _ hf
set_option maxHeartbeats 4000000 in
theorem dw_J18_putVal_203 {E : Ev} {K : Kx} {out : Ot} {σ' σ σ1 : Hs} {fr lo : Nat} {tb : List ExceptionTableEntry} {L : Lc} {rest : List TV} (C : wk_C E K yJ18_putVal cJ18_putVal 13 (Option.some (FieldType.object "java/lang/Object")) fr lo tb) {r : Option Nat} {a0 : Option Nat} {v : Int32} (hfr : 1 ≤ fr) (hlo : 22 ≤ lo) (hw : lc_w rest ≤ 8) (hf : dp_J18_putVal_203 r a0 σ = some (v, σ1)) (kk : wk_V E K out σ' σ1 (203 + 3) L (vI v :: rest)) : wk_V E K out σ' σ 203 L (vR a0 :: vR r :: rest) := by
  unfold dp_J18_putVal_203 at hf
  by_cases c_ : ho_k σ r = some 6
  · rw [if_pos c_] at hf
    obtain ⟨b, hb⟩ := ho_isk c_
    exact wk_callU (av := [vR a0]) (rest := rest) (rv := some (vI v)) C hb rx_6 cx_J18_173_6 (mt_X7_equals (wk_C.tr C) hf) rfl rfl (by omega) (by omega) hw dJ18_putVal_203 kk
  rw [if_neg c_] at hf
  clear c_
  by_cases c_ : ho_k σ r = some 12
  · rw [if_pos c_] at hf
    obtain ⟨b, hb⟩ := ho_isk c_
    exact wk_callU (av := [vR a0]) (rest := rest) (rv := some (vI v)) C hb rx_12 cx_J18_173_12 (mt_X13_equals (wk_C.tr C) hf) rfl rfl (by omega) (by omega) hw dJ18_putVal_203 kk
  rw [if_neg c_] at hf
  clear c_
  cases hf
set_option maxHeartbeats 4000000 in
theorem dw_J18_putVal_91 {E : Ev} {K : Kx} {out : Ot} {σ' σ σ1 : Hs} {fr lo : Nat} {tb : List ExceptionTableEntry} {L : Lc} {rest : List TV} (C : wk_C E K yJ18_putVal cJ18_putVal 13 (Option.some (FieldType.object "java/lang/Object")) fr lo tb) {r : Option Nat} {a0 : Option Nat} {v : Int32} (hfr : 1 ≤ fr) (hlo : 22 ≤ lo) (hw : lc_w rest ≤ 8) (hf : dp_J18_putVal_91 r a0 σ = some (v, σ1)) (kk : wk_V E K out σ' σ1 (91 + 3) L (vI v :: rest)) : wk_V E K out σ' σ 91 L (vR a0 :: vR r :: rest) := by
  unfold dp_J18_putVal_91 at hf
  by_cases c_ : ho_k σ r = some 6
  · rw [if_pos c_] at hf
    obtain ⟨b, hb⟩ := ho_isk c_
    exact wk_callU (av := [vR a0]) (rest := rest) (rv := some (vI v)) C hb rx_6 cx_J18_173_6 (mt_X7_equals (wk_C.tr C) hf) rfl rfl (by omega) (by omega) hw dJ18_putVal_91 kk
  rw [if_neg c_] at hf
  clear c_
  by_cases c_ : ho_k σ r = some 12
  · rw [if_pos c_] at hf
    obtain ⟨b, hb⟩ := ho_isk c_
    exact wk_callU (av := [vR a0]) (rest := rest) (rv := some (vI v)) C hb rx_12 cx_J18_173_12 (mt_X13_equals (wk_C.tr C) hf) rfl rfl (by omega) (by omega) hw dJ18_putVal_91 kk
  rw [if_neg c_] at hf
  clear c_
  cases hf
set_option maxHeartbeats 4000000 in
theorem wb_J18_putVal_b292 {E : Ev} {K : Kx} (C : wk_C E K yJ18_putVal cJ18_putVal 13 (Option.some (FieldType.object "java/lang/Object")) 4 85 []) {r : Option Nat} {σ' : Hs} (l0 : Option Nat) (l5 : Int32) (σ : Hs) (hf : fn_J18_putVal_b292 l0 l5 σ = some (r, σ')) : wk_V E K (.inl (some (va_rf r))) σ' σ 292 [(0, vR l0), (5, vI l5)] [] := by
  unfold fn_J18_putVal_b292 at hf
  refine wk_aload_n C 0 rfl dJ18_putVal_292 ?_
  refine wk_iload C 1 rfl dJ18_putVal_293 ?_
  obtain ⟨b1, h_b1, hf⟩ := ho_b hf
  obtain ⟨σ2, h_σ2, hf⟩ := ho_b hf
  refine wk_callU (av := [vI l5]) (rest := []) (rv := none) C h_b1 rx_15 cx_J18_205_15 (mt_J19_afterNodeInsertion (wk_C.tr C) h_σ2) rfl rfl (Nat.le_of_ble_eq_true rfl) (Nat.le_of_ble_eq_true rfl) (Nat.le_of_ble_eq_true rfl) dJ18_putVal_295 ?_
  refine wk_null C dJ18_putVal_298 ?_
  obtain ⟨rfl, rfl⟩ := Prod.mk.inj (Option.some.inj hf)
  exact wk_aret C (Or.inl ⟨_, rfl⟩) rfl rfl dJ18_putVal_299
set_option maxHeartbeats 4000000 in
theorem wb_J18_putVal_b259 {E : Ev} {K : Kx} (C : wk_C E K yJ18_putVal cJ18_putVal 13 (Option.some (FieldType.object "java/lang/Object")) 4 85 []) {r : Option Nat} {σ' : Hs} (l0 : Option Nat) (l5 : Int32) (σ : Hs) (hf : fn_J18_putVal_b259 l0 l5 σ = some (r, σ')) : wk_V E K (.inl (some (va_rf r))) σ' σ 259 [(0, vR l0), (5, vI l5)] [] := by
  unfold fn_J18_putVal_b259 at hf
  refine wk_aload_n C 0 rfl dJ18_putVal_259 ?_
  refine wk_dup C rfl dJ18_putVal_260 ?_
  obtain ⟨v3, h_v3, hf⟩ := ho_b hf
  refine wk_getI C fx_J18_202 h_v3 dJ18_putVal_261 ?_
  refine wk_iconst (v := 1) C dJ18_putVal_264 rfl ?_
  refine wk_iadd C dJ18_putVal_265 ?_
  obtain ⟨σ4, h_σ4, hf⟩ := ho_b hf
  refine wk_putI C px_J18_202 (fun q => by cases q) h_σ4 dJ18_putVal_266 ?_
  refine wk_aload_n C 0 rfl dJ18_putVal_269 ?_
  refine wk_dup C rfl dJ18_putVal_270 ?_
  obtain ⟨v5, h_v5, hf⟩ := ho_b hf
  refine wk_getI C fx_J18_156 h_v5 dJ18_putVal_271 ?_
  refine wk_iconst (v := 1) C dJ18_putVal_274 rfl ?_
  refine wk_iadd C dJ18_putVal_275 ?_
  refine wk_dup_x1 C rfl rfl dJ18_putVal_276 ?_
  obtain ⟨σ6, h_σ6, hf⟩ := ho_b hf
  refine wk_putI C px_J18_156 (fun q => by cases q) h_σ6 dJ18_putVal_277 ?_
  refine wk_aload_n C 0 rfl dJ18_putVal_280 ?_
  obtain ⟨v7, h_v7, hf⟩ := ho_b hf
  refine wk_getI C fx_J18_88 h_v7 dJ18_putVal_281 ?_
  refine wk_icmp_le C 292 (by decide) dJ18_putVal_284 (fun c_ => ?_) (fun c_ => ?_)
  · rw [if_pos c_] at hf
    exact wb_J18_putVal_b292 C  _ _ _ hf
  · rw [if_neg c_] at hf
    refine wk_aload_n C 0 rfl dJ18_putVal_287 ?_
    obtain ⟨b8, h_b8, hf⟩ := ho_b hf
    obtain ⟨v10, σ9, h_σ9, hf⟩ := ho_e2 hf
    refine wk_callV (av := []) (rest := []) (rv := some (vR v10)) C h_b8 rx_15 cx_J18_117 (mt_J18_resize (wk_C.tr C) h_σ9) rfl rfl (Nat.le_of_ble_eq_true rfl) (Nat.le_of_ble_eq_true rfl) (Nat.le_of_ble_eq_true rfl) dJ18_putVal_288 ?_
    refine wk_pop C rfl dJ18_putVal_291 ?_
    exact wb_J18_putVal_b292 C  _ _ _ hf
set_option maxHeartbeats 4000000 in
theorem wb_J18_putVal_b250 {E : Ev} {K : Kx} (C : wk_C E K yJ18_putVal cJ18_putVal 13 (Option.some (FieldType.object "java/lang/Object")) 4 85 []) {r : Option Nat} {σ' : Hs} (l0 : Option Nat) (l10 : Option Nat) (l12 : Option Nat) (σ : Hs) (hf : fn_J18_putVal_b250 l0 l10 l12 σ = some (r, σ')) : wk_V E K (.inl (some (va_rf r))) σ' σ 250 [(0, vR l0), (10, vR l10), (12, vR l12)] [] := by
  unfold fn_J18_putVal_b250 at hf
  refine wk_aload_n C 0 rfl dJ18_putVal_250 ?_
  refine wk_aload C 1 rfl dJ18_putVal_251 ?_
  obtain ⟨b11, h_b11, hf⟩ := ho_b hf
  obtain ⟨σ12, h_σ12, hf⟩ := ho_b hf
  refine wk_callU (av := [vR l10]) (rest := []) (rv := none) C h_b11 rx_15 cx_J18_198_15 (mt_J19_afterNodeAccess (wk_C.tr C) h_σ12) rfl rfl (Nat.le_of_ble_eq_true rfl) (Nat.le_of_ble_eq_true rfl) (Nat.le_of_ble_eq_true rfl) dJ18_putVal_253 ?_
  refine wk_aload C 2 rfl dJ18_putVal_256 ?_
  obtain ⟨rfl, rfl⟩ := Prod.mk.inj (Option.some.inj hf)
  exact wk_aret C (Or.inl ⟨_, rfl⟩) rfl rfl dJ18_putVal_258
set_option maxHeartbeats 4000000 in
theorem wb_J18_putVal_b244 {E : Ev} {K : Kx} (C : wk_C E K yJ18_putVal cJ18_putVal 13 (Option.some (FieldType.object "java/lang/Object")) 4 85 []) {r : Option Nat} {σ' : Hs} (l0 : Option Nat) (l3 : Option Nat) (l10 : Option Nat) (l12 : Option Nat) (σ : Hs) (hf : fn_J18_putVal_b244 l0 l3 l10 l12 σ = some (r, σ')) : wk_V E K (.inl (some (va_rf r))) σ' σ 244 [(0, vR l0), (3, vR l3), (10, vR l10), (12, vR l12)] [] := by
  unfold fn_J18_putVal_b244 at hf
  refine wk_aload C 2 rfl dJ18_putVal_244 ?_
  refine wk_aload_n C 1 rfl dJ18_putVal_246 ?_
  obtain ⟨σ13, h_σ13, hf⟩ := ho_b hf
  refine wk_putR C px_J18_162 (Or.inl ⟨_, rfl⟩) (fun q => by cases q) h_σ13 dJ18_putVal_247 ?_
  refine wk_sub (L' := [(0, vR l0), (10, vR l10), (12, vR l12)]) [0, 2, 3] rfl ?_
  exact wb_J18_putVal_b250 C  _ _ _ _ hf
set_option maxHeartbeats 4000000 in
theorem wb_J18_putVal_b222 {E : Ev} {K : Kx} (C : wk_C E K yJ18_putVal cJ18_putVal 13 (Option.some (FieldType.object "java/lang/Object")) 4 85 []) {r : Option Nat} {σ' : Hs} (l0 : Option Nat) (l3 : Option Nat) (l4 : Int32) (l5 : Int32) (l10 : Option Nat) (σ : Hs) (hf : fn_J18_putVal_b222 l0 l3 l4 l5 l10 σ = some (r, σ')) : wk_V E K (.inl (some (va_rf r))) σ' σ 222 [(0, vR l0), (3, vR l3), (4, vI l4), (5, vI l5), (10, vR l10)] [] := by
  unfold fn_J18_putVal_b222 at hf
  refine wk_aload C 4 rfl dJ18_putVal_222 ?_
  refine wk_ifnull C 259 (by decide) dJ18_putVal_224 (fun c_ => ?_) (fun c_ => ?_)
  · rw [if_pos c_] at hf
    refine wk_sub (L' := [(0, vR l0), (5, vI l5)]) [0, 3] rfl ?_
    exact wb_J18_putVal_b259 C  _ _ _ hf
  · rw [if_neg c_] at hf
    refine wk_aload C 4 rfl dJ18_putVal_227 ?_
    obtain ⟨v14, h_v14, hf⟩ := ho_b hf
    refine wk_getR C fx_J18_162 h_v14 dJ18_putVal_229 ?_
    refine wk_astore (L' := [(0, vR l0), (3, vR l3), (4, vI l4), (5, vI l5), (10, vR l10), (12, vR v14)]) C (by decide) rfl dJ18_putVal_232 ?_
    refine wk_iload C 2 rfl dJ18_putVal_234 ?_
    refine wk_if_eq C 244 (by decide) dJ18_putVal_236 (fun c_ => ?_) (fun c_ => ?_)
    · rw [if_pos c_] at hf
      refine wk_sub (L' := [(0, vR l0), (3, vR l3), (10, vR l10), (12, vR v14)]) [0, 1, 4, 5] rfl ?_
      exact wb_J18_putVal_b244 C  _ _ _ _ _ hf
    · rw [if_neg c_] at hf
      refine wk_aload C 5 rfl dJ18_putVal_239 ?_
      refine wk_ifnonnull C 250 (by decide) dJ18_putVal_241 (fun c_ => ?_) (fun c_ => ?_)
      · rw [if_neg c_] at hf
        refine wk_sub (L' := [(0, vR l0), (10, vR l10), (12, vR v14)]) [0, 4, 5] rfl ?_
        exact wb_J18_putVal_b250 C  _ _ _ _ hf
      · rw [if_pos c_] at hf
        refine wk_sub (L' := [(0, vR l0), (3, vR l3), (10, vR l10), (12, vR v14)]) [0, 1, 4, 5] rfl ?_
        exact wb_J18_putVal_b244 C  _ _ _ _ _ hf
set_option maxHeartbeats 4000000 in
theorem wb_J18_putVal_b145 {E : Ev} {K : Kx} (C : wk_C E K yJ18_putVal cJ18_putVal 13 (Option.some (FieldType.object "java/lang/Object")) 4 85 []) {r : Option Nat} {σ' : Hs} (l0 : Option Nat) (l1 : Int32) (l2 : Option Nat) (l3 : Option Nat) (l4 : Int32) (l5 : Int32) (l6 : Option Nat) (l7 : Option Nat) (l10 : Option Nat) (l12 : Int32) (σ : Hs) (hf : fn_J18_putVal_b145 l0 l1 l2 l3 l4 l5 l6 l7 l10 l12 σ = some (r, σ')) : wk_V E K (.inl (some (va_rf r))) σ' σ 145 [(0, vR l0), (1, vI l1), (2, vR l2), (3, vR l3), (4, vI l4), (5, vI l5), (6, vR l6), (7, vR l7), (10, vR l10), (12, vI l12)] [] := by
  unfold fn_J18_putVal_b145 at hf
  refine wk_aload C 7 rfl dJ18_putVal_145 ?_
  refine wk_aload_n C 0 rfl dJ18_putVal_147 ?_
  refine wk_iload_n C 1 rfl dJ18_putVal_148 ?_
  refine wk_aload_n C 2 rfl dJ18_putVal_149 ?_
  refine wk_aload_n C 3 rfl dJ18_putVal_150 ?_
  refine wk_null C dJ18_putVal_151 ?_
  obtain ⟨b15, h_b15, hf⟩ := ho_b hf
  obtain ⟨v17, σ16, h_σ16, hf⟩ := ho_e2 hf
  refine wk_callU (av := [vI l1, vR l2, vR l3, vR none]) (rest := [vR l7]) (rv := some (vR v17)) C h_b15 rx_15 cx_J18_186_15 (mt_J19_newNode (wk_C.tr C) h_σ16) rfl rfl (Nat.le_of_ble_eq_true rfl) (Nat.le_of_ble_eq_true rfl) (Nat.le_of_ble_eq_true rfl) dJ18_putVal_152 ?_
  obtain ⟨σ18, h_σ18, hf⟩ := ho_b hf
  refine wk_putR C px_J18_177 (Or.inl ⟨_, rfl⟩) (fun q => by cases q) h_σ18 dJ18_putVal_155 ?_
  refine wk_iload C 9 rfl dJ18_putVal_158 ?_
  refine wk_bipush (v := 7) C dJ18_putVal_160 rfl ?_
  refine wk_icmp_lt C 222 (by decide) dJ18_putVal_162 (fun c_ => ?_) (fun c_ => ?_)
  · rw [if_pos c_] at hf
    refine wk_sub (L' := [(0, vR l0), (3, vR l3), (4, vI l4), (5, vI l5), (10, vR l10)]) [0, 3, 4, 5, 8] rfl ?_
    exact wb_J18_putVal_b222 C  _ _ _ _ _ _ hf
  · rw [if_neg c_] at hf
    refine wk_aload_n C 0 rfl dJ18_putVal_165 ?_
    refine wk_aload C 6 rfl dJ18_putVal_166 ?_
    refine wk_iload_n C 1 rfl dJ18_putVal_168 ?_
    cases hf
set_option maxHeartbeats 4000000 in
theorem wb_J18_putVal_b212 {E : Ev} {K : Kx} (C : wk_C E K yJ18_putVal cJ18_putVal 13 (Option.some (FieldType.object "java/lang/Object")) 4 85 []) {k134 : Option Nat → Int32 → Option Nat → Option Nat → Int32 → Int32 → Option Nat → Option Nat → Int32 → Hs → Option (Option Nat × Hs)} {r : Option Nat} {σ' : Hs} (hk134 : ∀ (l0 : Option Nat) (l1 : Int32) (l2 : Option Nat) (l3 : Option Nat) (l4 : Int32) (l5 : Int32) (l6 : Option Nat) (l7 : Option Nat) (l12 : Int32) (σ : Hs), k134 l0 l1 l2 l3 l4 l5 l6 l7 l12 σ = some (r, σ') → wk_V E K (.inl (some (va_rf r))) σ' σ 134 [(0, vR l0), (1, vI l1), (2, vR l2), (3, vR l3), (4, vI l4), (5, vI l5), (6, vR l6), (7, vR l7), (12, vI l12)] []) (l0 : Option Nat) (l1 : Int32) (l2 : Option Nat) (l3 : Option Nat) (l4 : Int32) (l5 : Int32) (l6 : Option Nat) (l10 : Option Nat) (l12 : Int32) (σ : Hs) (hf : fn_J18_putVal_b212 k134 l0 l1 l2 l3 l4 l5 l6 l10 l12 σ = some (r, σ')) : wk_V E K (.inl (some (va_rf r))) σ' σ 212 [(0, vR l0), (1, vI l1), (2, vR l2), (3, vR l3), (4, vI l4), (5, vI l5), (6, vR l6), (10, vR l10), (12, vI l12)] [] := by
  unfold fn_J18_putVal_b212 at hf
  refine wk_aload C 7 rfl dJ18_putVal_212 ?_
  refine wk_astore (L' := [(0, vR l0), (1, vI l1), (2, vR l2), (3, vR l3), (4, vI l4), (5, vI l5), (6, vR l6), (7, vR l10), (10, vR l10), (12, vI l12)]) C (by decide) rfl dJ18_putVal_214 ?_
  refine wk_iinc (v := l12 + 1) (L' := [(0, vR l0), (1, vI l1), (2, vR l2), (3, vR l3), (4, vI l4), (5, vI l5), (6, vR l6), (7, vR l10), (10, vR l10), (12, vI (l12 + 1))]) C 9 rfl (by decide) rfl rfl dJ18_putVal_216 ?_
  refine wk_goto C 134 (by decide) dJ18_putVal_219 ?_
  refine wk_sub (L' := [(0, vR l0), (1, vI l1), (2, vR l2), (3, vR l3), (4, vI l4), (5, vI l5), (6, vR l6), (7, vR l10), (12, vI (l12 + 1))]) [0, 1, 2, 3, 4, 5, 6, 7, 9] rfl ?_
  exact hk134 _ _ _ _ _ _ _ _ _ _ hf
set_option maxHeartbeats 4000000 in
theorem wb_J18_putVal_b209 {E : Ev} {K : Kx} (C : wk_C E K yJ18_putVal cJ18_putVal 13 (Option.some (FieldType.object "java/lang/Object")) 4 85 []) {r : Option Nat} {σ' : Hs} (l0 : Option Nat) (l3 : Option Nat) (l4 : Int32) (l5 : Int32) (l10 : Option Nat) (σ : Hs) (hf : fn_J18_putVal_b209 l0 l3 l4 l5 l10 σ = some (r, σ')) : wk_V E K (.inl (some (va_rf r))) σ' σ 209 [(0, vR l0), (3, vR l3), (4, vI l4), (5, vI l5), (10, vR l10)] [] := by
  unfold fn_J18_putVal_b209 at hf
  refine wk_goto C 222 (by decide) dJ18_putVal_209 ?_
  exact wb_J18_putVal_b222 C  _ _ _ _ _ _ hf
set_option maxHeartbeats 4000000 in
theorem wb_J18_putVal_b134 {E : Ev} {K : Kx} (C : wk_C E K yJ18_putVal cJ18_putVal 13 (Option.some (FieldType.object "java/lang/Object")) 4 85 []) {r : Option Nat} {σ' : Hs} : ∀ (n : Nat) (l0 : Option Nat) (l1 : Int32) (l2 : Option Nat) (l3 : Option Nat) (l4 : Int32) (l5 : Int32) (l6 : Option Nat) (l7 : Option Nat) (l12 : Int32) (σ : Hs), fn_J18_putVal_b134 n l0 l1 l2 l3 l4 l5 l6 l7 l12 σ = some (r, σ') → wk_V E K (.inl (some (va_rf r))) σ' σ 134 [(0, vR l0), (1, vI l1), (2, vR l2), (3, vR l3), (4, vI l4), (5, vI l5), (6, vR l6), (7, vR l7), (12, vI l12)] [] := by
  intro n
  induction n with
  | zero =>
    intro l0 l1 l2 l3 l4 l5 l6 l7 l12 σ hf
    rw [fn_J18_putVal_b134] at hf
    cases hf
  | succ n ih =>
    intro l0 l1 l2 l3 l4 l5 l6 l7 l12 σ hf
    rw [fn_J18_putVal_b134] at hf
    refine wk_aload C 7 rfl dJ18_putVal_134 ?_
    obtain ⟨v19, h_v19, hf⟩ := ho_b hf
    refine wk_getR C fx_J18_177 h_v19 dJ18_putVal_136 ?_
    refine wk_dup C rfl dJ18_putVal_139 ?_
    refine wk_astore (L' := [(0, vR l0), (1, vI l1), (2, vR l2), (3, vR l3), (4, vI l4), (5, vI l5), (6, vR l6), (7, vR l7), (10, vR v19), (12, vI l12)]) C (by decide) rfl dJ18_putVal_140 ?_
    refine wk_ifnonnull C 175 (by decide) dJ18_putVal_142 (fun c_ => ?_) (fun c_ => ?_)
    · rw [if_neg c_] at hf
      refine wk_aload C 8 rfl dJ18_putVal_175 ?_
      obtain ⟨v20, h_v20, hf⟩ := ho_b hf
      refine wk_getI C fx_J18_168 h_v20 dJ18_putVal_177 ?_
      refine wk_iload_n C 1 rfl dJ18_putVal_180 ?_
      refine wk_icmp_ne C 212 (by decide) dJ18_putVal_181 (fun c_ => ?_) (fun c_ => ?_)
      · rw [if_neg c_] at hf
        refine wk_sub (L' := [(0, vR l0), (1, vI l1), (2, vR l2), (3, vR l3), (4, vI l4), (5, vI l5), (6, vR l6), (10, vR v19), (12, vI l12)]) [0, 1, 2, 3, 4, 5, 6, 8, 9] rfl ?_
        exact wb_J18_putVal_b212 C ih _ _ _ _ _ _ _ _ _ _ hf
      · rw [if_pos c_] at hf
        refine wk_aload C 8 rfl dJ18_putVal_184 ?_
        obtain ⟨v21, h_v21, hf⟩ := ho_b hf
        refine wk_getR C fx_J18_170 h_v21 dJ18_putVal_186 ?_
        refine wk_dup C rfl dJ18_putVal_189 ?_
        refine wk_astore (L' := [(0, vR l0), (1, vI l1), (2, vR l2), (3, vR l3), (4, vI l4), (5, vI l5), (6, vR l6), (7, vR l7), (10, vR v19), (11, vR v21), (12, vI l12)]) C (by decide) rfl dJ18_putVal_190 ?_
        refine wk_aload_n C 2 rfl dJ18_putVal_192 ?_
        refine wk_acmp_eq C 222 (by decide) dJ18_putVal_193 (fun c_ => ?_) (fun c_ => ?_)
        · rw [if_pos c_] at hf
          refine wk_sub (L' := [(0, vR l0), (3, vR l3), (4, vI l4), (5, vI l5), (10, vR v19)]) [0, 3, 4, 5, 8] rfl ?_
          exact wb_J18_putVal_b222 C  _ _ _ _ _ _ hf
        · rw [if_neg c_] at hf
          refine wk_aload_n C 2 rfl dJ18_putVal_196 ?_
          refine wk_ifnull C 212 (by decide) dJ18_putVal_197 (fun c_ => ?_) (fun c_ => ?_)
          · rw [if_pos c_] at hf
            refine wk_sub (L' := [(0, vR l0), (1, vI l1), (2, vR l2), (3, vR l3), (4, vI l4), (5, vI l5), (6, vR l6), (10, vR v19), (12, vI l12)]) [0, 1, 2, 3, 4, 5, 6, 8, 10] rfl ?_
            exact wb_J18_putVal_b212 C ih _ _ _ _ _ _ _ _ _ _ hf
          · rw [if_neg c_] at hf
            refine wk_aload_n C 2 rfl dJ18_putVal_200 ?_
            refine wk_aload C 9 rfl dJ18_putVal_201 ?_
            obtain ⟨v22, σ23, h_σ23, hf⟩ := ho_e2 hf
            refine dw_J18_putVal_203 C (Nat.le_of_ble_eq_true rfl) (Nat.le_of_ble_eq_true rfl) (Nat.le_of_ble_eq_true rfl) h_σ23 ?_
            refine wk_if_eq C 212 (by decide) dJ18_putVal_206 (fun c_ => ?_) (fun c_ => ?_)
            · rw [if_pos c_] at hf
              refine wk_sub (L' := [(0, vR l0), (1, vI l1), (2, vR l2), (3, vR l3), (4, vI l4), (5, vI l5), (6, vR l6), (10, vR v19), (12, vI l12)]) [0, 1, 2, 3, 4, 5, 6, 8, 10] rfl ?_
              exact wb_J18_putVal_b212 C ih _ _ _ _ _ _ _ _ _ _ hf
            · rw [if_neg c_] at hf
              refine wk_sub (L' := [(0, vR l0), (3, vR l3), (4, vI l4), (5, vI l5), (10, vR v19)]) [0, 3, 4, 5, 8] rfl ?_
              exact wb_J18_putVal_b209 C  _ _ _ _ _ _ hf
    · rw [if_pos c_] at hf
      exact wb_J18_putVal_b145 C  _ _ _ _ _ _ _ _ _ _ _ hf
set_option maxHeartbeats 4000000 in
theorem wb_J18_putVal_b104 {E : Ev} {K : Kx} (C : wk_C E K yJ18_putVal cJ18_putVal 13 (Option.some (FieldType.object "java/lang/Object")) 4 85 []) {r : Option Nat} {σ' : Hs} (l0 : Option Nat) (l1 : Int32) (l2 : Option Nat) (l3 : Option Nat) (l4 : Int32) (l5 : Int32) (l6 : Option Nat) (l7 : Option Nat) (σ : Hs) (hf : fn_J18_putVal_b104 l0 l1 l2 l3 l4 l5 l6 l7 σ = some (r, σ')) : wk_V E K (.inl (some (va_rf r))) σ' σ 104 [(0, vR l0), (1, vI l1), (2, vR l2), (3, vR l3), (4, vI l4), (5, vI l5), (6, vR l6), (7, vR l7)] [] := by
  unfold fn_J18_putVal_b104 at hf
  refine wk_aload C 7 rfl dJ18_putVal_104 ?_
  obtain ⟨v24, h_v24, hf⟩ := ho_b hf
  refine wk_inst C q1986 ((List.forall_mem_nil _)) (List.forall_mem_cons.mpr ⟨⟨"java/util/LinkedHashMap$Entry", rx_16, by decide +kernel⟩, (List.forall_mem_nil _)⟩) h_v24 dJ18_putVal_106 ?_
  refine wk_if_eq C 131 (by decide) dJ18_putVal_109 (fun c_ => ?_) (fun c_ => ?_)
  · rw [if_pos c_] at hf
    refine wk_iconst (v := 0) C dJ18_putVal_131 rfl ?_
    refine wk_istore (L' := [(0, vR l0), (1, vI l1), (2, vR l2), (3, vR l3), (4, vI l4), (5, vI l5), (6, vR l6), (7, vR l7), (12, vI (0 : Int32))]) C (by decide) rfl dJ18_putVal_132 ?_
    exact wb_J18_putVal_b134 C  _ _ _ _ _ _ _ _ _ _ _ hf
  · rw [if_neg c_] at hf
    refine wk_aload C 7 rfl dJ18_putVal_112 ?_
    cases hf
set_option maxHeartbeats 4000000 in
theorem wb_J18_putVal_b97 {E : Ev} {K : Kx} (C : wk_C E K yJ18_putVal cJ18_putVal 13 (Option.some (FieldType.object "java/lang/Object")) 4 85 []) {r : Option Nat} {σ' : Hs} (l0 : Option Nat) (l3 : Option Nat) (l4 : Int32) (l5 : Int32) (l7 : Option Nat) (σ : Hs) (hf : fn_J18_putVal_b97 l0 l3 l4 l5 l7 σ = some (r, σ')) : wk_V E K (.inl (some (va_rf r))) σ' σ 97 [(0, vR l0), (3, vR l3), (4, vI l4), (5, vI l5), (7, vR l7)] [] := by
  unfold fn_J18_putVal_b97 at hf
  refine wk_aload C 4 rfl dJ18_putVal_97 ?_
  refine wk_astore (L' := [(0, vR l0), (3, vR l3), (4, vI l4), (5, vI l5), (7, vR l7), (10, vR l7)]) C (by decide) rfl dJ18_putVal_99 ?_
  refine wk_goto C 222 (by decide) dJ18_putVal_101 ?_
  refine wk_sub (L' := [(0, vR l0), (3, vR l3), (4, vI l4), (5, vI l5), (10, vR l7)]) [0, 1, 2, 3, 5] rfl ?_
  exact wb_J18_putVal_b222 C  _ _ _ _ _ _ hf
set_option maxHeartbeats 4000000 in
theorem wb_J18_putVal_b29 {E : Ev} {K : Kx} (C : wk_C E K yJ18_putVal cJ18_putVal 13 (Option.some (FieldType.object "java/lang/Object")) 4 85 []) {r : Option Nat} {σ' : Hs} (l0 : Option Nat) (l1 : Int32) (l2 : Option Nat) (l3 : Option Nat) (l4 : Int32) (l5 : Int32) (l6 : Option Nat) (l8 : Int32) (σ : Hs) (hf : fn_J18_putVal_b29 l0 l1 l2 l3 l4 l5 l6 l8 σ = some (r, σ')) : wk_V E K (.inl (some (va_rf r))) σ' σ 29 [(0, vR l0), (1, vI l1), (2, vR l2), (3, vR l3), (4, vI l4), (5, vI l5), (6, vR l6), (8, vI l8)] [] := by
  unfold fn_J18_putVal_b29 at hf
  refine wk_aload C 6 rfl dJ18_putVal_29 ?_
  refine wk_iload C 7 rfl dJ18_putVal_31 ?_
  refine wk_iconst (v := 1) C dJ18_putVal_33 rfl ?_
  refine wk_isub C dJ18_putVal_34 ?_
  refine wk_iload_n C 1 rfl dJ18_putVal_35 ?_
  refine wk_iand C dJ18_putVal_36 ?_
  refine wk_dup C rfl dJ18_putVal_37 ?_
  obtain ⟨v25, e_v25, hf⟩ := ho_b hf
  refine wk_tI (Option.some.inj e_v25) ?_
  refine wk_istore (L' := [(0, vR l0), (1, vI l1), (2, vR l2), (3, vR l3), (4, vI l4), (5, vI l5), (6, vR l6), (8, vI l8), (9, vI v25)]) C (by decide) rfl dJ18_putVal_38 ?_
  obtain ⟨v26, h_v26, hf⟩ := ho_b hf
  refine wk_aald C h_v26 dJ18_putVal_40 ?_
  refine wk_dup C rfl dJ18_putVal_41 ?_
  refine wk_astore (L' := [(0, vR l0), (1, vI l1), (2, vR l2), (3, vR l3), (4, vI l4), (5, vI l5), (6, vR l6), (7, vR v26), (8, vI l8), (9, vI v25)]) C (by decide) rfl dJ18_putVal_42 ?_
  refine wk_ifnonnull C 63 (by decide) dJ18_putVal_44 (fun c_ => ?_) (fun c_ => ?_)
  · rw [if_neg c_] at hf
    refine wk_aload C 7 rfl dJ18_putVal_63 ?_
    obtain ⟨v27, h_v27, hf⟩ := ho_b hf
    refine wk_getI C fx_J18_168 h_v27 dJ18_putVal_65 ?_
    refine wk_iload_n C 1 rfl dJ18_putVal_68 ?_
    refine wk_icmp_ne C 104 (by decide) dJ18_putVal_69 (fun c_ => ?_) (fun c_ => ?_)
    · rw [if_neg c_] at hf
      refine wk_sub (L' := [(0, vR l0), (1, vI l1), (2, vR l2), (3, vR l3), (4, vI l4), (5, vI l5), (6, vR l6), (7, vR v26)]) [0, 1, 2, 3, 4, 5, 6, 7] rfl ?_
      exact wb_J18_putVal_b104 C  _ _ _ _ _ _ _ _ _ hf
    · rw [if_pos c_] at hf
      refine wk_aload C 7 rfl dJ18_putVal_72 ?_
      obtain ⟨v28, h_v28, hf⟩ := ho_b hf
      refine wk_getR C fx_J18_170 h_v28 dJ18_putVal_74 ?_
      refine wk_dup C rfl dJ18_putVal_77 ?_
      refine wk_astore (L' := [(0, vR l0), (1, vI l1), (2, vR l2), (3, vR l3), (4, vI l4), (5, vI l5), (6, vR l6), (7, vR v26), (8, vI l8), (9, vI v25), (11, vR v28)]) C (by decide) rfl dJ18_putVal_78 ?_
      refine wk_aload_n C 2 rfl dJ18_putVal_80 ?_
      refine wk_acmp_eq C 97 (by decide) dJ18_putVal_81 (fun c_ => ?_) (fun c_ => ?_)
      · rw [if_pos c_] at hf
        refine wk_sub (L' := [(0, vR l0), (3, vR l3), (4, vI l4), (5, vI l5), (7, vR v26)]) [0, 3, 4, 5, 7] rfl ?_
        exact wb_J18_putVal_b97 C  _ _ _ _ _ _ hf
      · rw [if_neg c_] at hf
        refine wk_aload_n C 2 rfl dJ18_putVal_84 ?_
        refine wk_ifnull C 104 (by decide) dJ18_putVal_85 (fun c_ => ?_) (fun c_ => ?_)
        · rw [if_pos c_] at hf
          refine wk_sub (L' := [(0, vR l0), (1, vI l1), (2, vR l2), (3, vR l3), (4, vI l4), (5, vI l5), (6, vR l6), (7, vR v26)]) [0, 1, 2, 3, 4, 5, 6, 7] rfl ?_
          exact wb_J18_putVal_b104 C  _ _ _ _ _ _ _ _ _ hf
        · rw [if_neg c_] at hf
          refine wk_aload_n C 2 rfl dJ18_putVal_88 ?_
          refine wk_aload C 10 rfl dJ18_putVal_89 ?_
          obtain ⟨v29, σ30, h_σ30, hf⟩ := ho_e2 hf
          refine dw_J18_putVal_91 C (Nat.le_of_ble_eq_true rfl) (Nat.le_of_ble_eq_true rfl) (Nat.le_of_ble_eq_true rfl) h_σ30 ?_
          refine wk_if_eq C 104 (by decide) dJ18_putVal_94 (fun c_ => ?_) (fun c_ => ?_)
          · rw [if_pos c_] at hf
            refine wk_sub (L' := [(0, vR l0), (1, vI l1), (2, vR l2), (3, vR l3), (4, vI l4), (5, vI l5), (6, vR l6), (7, vR v26)]) [0, 1, 2, 3, 4, 5, 6, 7] rfl ?_
            exact wb_J18_putVal_b104 C  _ _ _ _ _ _ _ _ _ hf
          · rw [if_neg c_] at hf
            refine wk_sub (L' := [(0, vR l0), (3, vR l3), (4, vI l4), (5, vI l5), (7, vR v26)]) [0, 3, 4, 5, 7] rfl ?_
            exact wb_J18_putVal_b97 C  _ _ _ _ _ _ hf
  · rw [if_pos c_] at hf
    refine wk_aload C 6 rfl dJ18_putVal_47 ?_
    refine wk_iload C 9 rfl dJ18_putVal_49 ?_
    refine wk_aload_n C 0 rfl dJ18_putVal_51 ?_
    refine wk_iload_n C 1 rfl dJ18_putVal_52 ?_
    refine wk_aload_n C 2 rfl dJ18_putVal_53 ?_
    refine wk_aload_n C 3 rfl dJ18_putVal_54 ?_
    refine wk_null C dJ18_putVal_55 ?_
    obtain ⟨b31, h_b31, hf⟩ := ho_b hf
    obtain ⟨v33, σ32, h_σ32, hf⟩ := ho_e2 hf
    refine wk_callU (av := [vI l1, vR l2, vR l3, vR none]) (rest := [vI v25, vR l6]) (rv := some (vR v33)) C h_b31 rx_15 cx_J18_186_15 (mt_J19_newNode (wk_C.tr C) h_σ32) rfl rfl (Nat.le_of_ble_eq_true rfl) (Nat.le_of_ble_eq_true rfl) (Nat.le_of_ble_eq_true rfl) dJ18_putVal_56 ?_
    obtain ⟨σ34, h_σ34, hf⟩ := ho_b hf
    refine wk_aast C (Nat.le_of_ble_eq_true rfl) rfl (List.forall_mem_cons.mpr ⟨ax_cast rx_16 q3890, (List.forall_mem_nil _)⟩) h_σ34 dJ18_putVal_59 ?_
    refine wk_goto C 259 (by decide) dJ18_putVal_60 ?_
    refine wk_sub (L' := [(0, vR l0), (5, vI l5)]) [0, 5] rfl ?_
    exact wb_J18_putVal_b259 C  _ _ _ hf
set_option maxHeartbeats 4000000 in
theorem wb_J18_putVal_b19 {E : Ev} {K : Kx} (C : wk_C E K yJ18_putVal cJ18_putVal 13 (Option.some (FieldType.object "java/lang/Object")) 4 85 []) {r : Option Nat} {σ' : Hs} (l0 : Option Nat) (l1 : Int32) (l2 : Option Nat) (l3 : Option Nat) (l4 : Int32) (l5 : Int32) (σ : Hs) (hf : fn_J18_putVal_b19 l0 l1 l2 l3 l4 l5 σ = some (r, σ')) : wk_V E K (.inl (some (va_rf r))) σ' σ 19 [(0, vR l0), (1, vI l1), (2, vR l2), (3, vR l3), (4, vI l4), (5, vI l5)] [] := by
  unfold fn_J18_putVal_b19 at hf
  refine wk_aload_n C 0 rfl dJ18_putVal_19 ?_
  obtain ⟨b35, h_b35, hf⟩ := ho_b hf
  obtain ⟨v37, σ36, h_σ36, hf⟩ := ho_e2 hf
  refine wk_callV (av := []) (rest := []) (rv := some (vR v37)) C h_b35 rx_15 cx_J18_117 (mt_J18_resize (wk_C.tr C) h_σ36) rfl rfl (Nat.le_of_ble_eq_true rfl) (Nat.le_of_ble_eq_true rfl) (Nat.le_of_ble_eq_true rfl) dJ18_putVal_20 ?_
  refine wk_dup C rfl dJ18_putVal_23 ?_
  refine wk_astore (L' := [(0, vR l0), (1, vI l1), (2, vR l2), (3, vR l3), (4, vI l4), (5, vI l5), (6, vR v37)]) C (by decide) rfl dJ18_putVal_24 ?_
  obtain ⟨v38, h_v38, hf⟩ := ho_b hf
  refine wk_alen C h_v38 dJ18_putVal_26 ?_
  refine wk_istore (L' := [(0, vR l0), (1, vI l1), (2, vR l2), (3, vR l3), (4, vI l4), (5, vI l5), (6, vR v37), (8, vI v38)]) C (by decide) rfl dJ18_putVal_27 ?_
  exact wb_J18_putVal_b29 C  _ _ _ _ _ _ _ _ _ hf
set_option maxHeartbeats 4000000 in
theorem mt_J18_putVal {E : Ev} {l : Launch} (hl : l.stackTraces = false) {p0 : Option Nat} {p1 : Int32} {p2 : Option Nat} {p3 : Option Nat} {p4 : Int32} {p5 : Int32} {σ : Hs} {r : Option Nat} {σ' : Hs} (hf : fn_J18_putVal p0 p1 p2 p3 p4 p5 σ = some (r, σ')) : wk_M E l yJ18_putVal (ws_ yJ18_putVal cJ18_putVal 13 (Option.some (FieldType.object "java/lang/Object"))) 4 85 [vR p0, vI p1, vR p2, vR p3, vI p4, vI p5] σ (.inl (some (va_rf r))) σ' := by
  refine wk_start (by decide +kernel) hl (Nat.le_of_ble_eq_true rfl) (fun K C hK => ?_)
  subst hK
  refine wk_L (L' := [(0, vR p0), (1, vI p1), (2, vR p2), (3, vR p3), (4, vI p4), (5, vI p5)]) rfl ?_
  unfold fn_J18_putVal at hf
  refine wk_aload_n C 0 rfl dJ18_putVal_0 ?_
  obtain ⟨v39, h_v39, hf⟩ := ho_b hf
  refine wk_getR C fx_J18_105 h_v39 dJ18_putVal_1 ?_
  refine wk_dup C rfl dJ18_putVal_4 ?_
  refine wk_astore (L' := [(0, vR p0), (1, vI p1), (2, vR p2), (3, vR p3), (4, vI p4), (5, vI p5), (6, vR v39)]) C (by decide) rfl dJ18_putVal_5 ?_
  refine wk_ifnull C 19 (by decide) dJ18_putVal_7 (fun c_ => ?_) (fun c_ => ?_)
  · rw [if_pos c_] at hf
    refine wk_sub (L' := [(0, vR p0), (1, vI p1), (2, vR p2), (3, vR p3), (4, vI p4), (5, vI p5)]) [0, 1, 2, 3, 4, 5] rfl ?_
    exact wb_J18_putVal_b19 C  _ _ _ _ _ _ _ hf
  · rw [if_neg c_] at hf
    refine wk_aload C 6 rfl dJ18_putVal_10 ?_
    obtain ⟨v40, h_v40, hf⟩ := ho_b hf
    refine wk_alen C h_v40 dJ18_putVal_12 ?_
    refine wk_dup C rfl dJ18_putVal_13 ?_
    refine wk_istore (L' := [(0, vR p0), (1, vI p1), (2, vR p2), (3, vR p3), (4, vI p4), (5, vI p5), (6, vR v39), (8, vI v40)]) C (by decide) rfl dJ18_putVal_14 ?_
    refine wk_if_ne C 29 (by decide) dJ18_putVal_16 (fun c_ => ?_) (fun c_ => ?_)
    · rw [if_neg c_] at hf
      exact wb_J18_putVal_b29 C  _ _ _ _ _ _ _ _ _ hf
    · rw [if_pos c_] at hf
      refine wk_sub (L' := [(0, vR p0), (1, vI p1), (2, vR p2), (3, vR p3), (4, vI p4), (5, vI p5)]) [0, 1, 2, 3, 4, 5] rfl ?_
      exact wb_J18_putVal_b19 C  _ _ _ _ _ _ _ hf
set_option maxHeartbeats 4000000 in
theorem mt_J18_put {E : Ev} {l : Launch} (hl : l.stackTraces = false) {p0 : Option Nat} {p1 : Option Nat} {p2 : Option Nat} {σ : Hs} {r : Option Nat} {σ' : Hs} (hf : fn_J18_put p0 p1 p2 σ = some (r, σ')) : wk_M E l yJ18_put (ws_ yJ18_put cJ18_put 3 (Option.some (FieldType.object "java/lang/Object"))) 5 117 [vR p0, vR p1, vR p2] σ (.inl (some (va_rf r))) σ' := by
  refine wk_start (by decide +kernel) hl (Nat.le_of_ble_eq_true rfl) (fun K C hK => ?_)
  subst hK
  refine wk_L (L' := [(0, vR p0), (1, vR p1), (2, vR p2)]) rfl ?_
  unfold fn_J18_put at hf
  refine wk_aload_n C 0 rfl dJ18_put_0 ?_
  refine wk_aload_n C 1 rfl dJ18_put_1 ?_
  obtain ⟨v2, σ1, h_σ1, hf⟩ := ho_e2 hf
  refine wk_callS (av := [vR p1]) (rest := [vR p0]) (rv := some (vI v2)) C cx_J18_149 (mt_J18_hash (wk_C.tr C) h_σ1) rfl rfl (Nat.le_of_ble_eq_true rfl) (Nat.le_of_ble_eq_true rfl) (Nat.le_of_ble_eq_true rfl) dJ18_put_2 ?_
  refine wk_aload_n C 1 rfl dJ18_put_5 ?_
  refine wk_aload_n C 2 rfl dJ18_put_6 ?_
  refine wk_iconst (v := 0) C dJ18_put_7 rfl ?_
  refine wk_iconst (v := 1) C dJ18_put_8 rfl ?_
  obtain ⟨b3, h_b3, hf⟩ := ho_b hf
  obtain ⟨v5, σ4, h_σ4, hf⟩ := ho_e2 hf
  refine wk_callV (av := [vI v2, vR p1, vR p2, vI (0 : Int32), vI (1 : Int32)]) (rest := []) (rv := some (vR v5)) C h_b3 rx_15 cx_J18_152 (mt_J18_putVal (wk_C.tr C) h_σ4) rfl rfl (Nat.le_of_ble_eq_true rfl) (Nat.le_of_ble_eq_true rfl) (Nat.le_of_ble_eq_true rfl) dJ18_put_9 ?_
  obtain ⟨rfl, rfl⟩ := Prod.mk.inj (Option.some.inj hf)
  exact wk_aret C (Or.inl ⟨_, rfl⟩) rfl rfl dJ18_put_12
set_option maxHeartbeats 4000000 in
theorem dw_J18_getNode_128 {E : Ev} {K : Kx} {out : Ot} {σ' σ σ1 : Hs} {fr lo : Nat} {tb : List ExceptionTableEntry} {L : Lc} {rest : List TV} (C : wk_C E K yJ18_getNode cJ18_getNode 8 (Option.some (FieldType.object "java/util/HashMap$Node")) fr lo tb) {r : Option Nat} {a0 : Option Nat} {v : Int32} (hfr : 1 ≤ fr) (hlo : 22 ≤ lo) (hw : lc_w rest ≤ 8) (hf : dp_J18_getNode_128 r a0 σ = some (v, σ1)) (kk : wk_V E K out σ' σ1 (128 + 3) L (vI v :: rest)) : wk_V E K out σ' σ 128 L (vR a0 :: vR r :: rest) := by
  unfold dp_J18_getNode_128 at hf
  by_cases c_ : ho_k σ r = some 6
  · rw [if_pos c_] at hf
    obtain ⟨b, hb⟩ := ho_isk c_
    exact wk_callU (av := [vR a0]) (rest := rest) (rv := some (vI v)) C hb rx_6 cx_J18_173_6 (mt_X7_equals (wk_C.tr C) hf) rfl rfl (by omega) (by omega) hw dJ18_getNode_128 kk
  rw [if_neg c_] at hf
  clear c_
  by_cases c_ : ho_k σ r = some 12
  · rw [if_pos c_] at hf
    obtain ⟨b, hb⟩ := ho_isk c_
    exact wk_callU (av := [vR a0]) (rest := rest) (rv := some (vI v)) C hb rx_12 cx_J18_173_12 (mt_X13_equals (wk_C.tr C) hf) rfl rfl (by omega) (by omega) hw dJ18_getNode_128 kk
  rw [if_neg c_] at hf
  clear c_
  cases hf
set_option maxHeartbeats 4000000 in
theorem dw_J18_getNode_63 {E : Ev} {K : Kx} {out : Ot} {σ' σ σ1 : Hs} {fr lo : Nat} {tb : List ExceptionTableEntry} {L : Lc} {rest : List TV} (C : wk_C E K yJ18_getNode cJ18_getNode 8 (Option.some (FieldType.object "java/util/HashMap$Node")) fr lo tb) {r : Option Nat} {a0 : Option Nat} {v : Int32} (hfr : 1 ≤ fr) (hlo : 22 ≤ lo) (hw : lc_w rest ≤ 8) (hf : dp_J18_getNode_63 r a0 σ = some (v, σ1)) (kk : wk_V E K out σ' σ1 (63 + 3) L (vI v :: rest)) : wk_V E K out σ' σ 63 L (vR a0 :: vR r :: rest) := by
  unfold dp_J18_getNode_63 at hf
  by_cases c_ : ho_k σ r = some 6
  · rw [if_pos c_] at hf
    obtain ⟨b, hb⟩ := ho_isk c_
    exact wk_callU (av := [vR a0]) (rest := rest) (rv := some (vI v)) C hb rx_6 cx_J18_173_6 (mt_X7_equals (wk_C.tr C) hf) rfl rfl (by omega) (by omega) hw dJ18_getNode_63 kk
  rw [if_neg c_] at hf
  clear c_
  by_cases c_ : ho_k σ r = some 12
  · rw [if_pos c_] at hf
    obtain ⟨b, hb⟩ := ho_isk c_
    exact wk_callU (av := [vR a0]) (rest := rest) (rv := some (vI v)) C hb rx_12 cx_J18_173_12 (mt_X13_equals (wk_C.tr C) hf) rfl rfl (by omega) (by omega) hw dJ18_getNode_63 kk
  rw [if_neg c_] at hf
  clear c_
  cases hf
set_option maxHeartbeats 4000000 in
theorem wb_J18_getNode_b69 {E : Ev} {K : Kx} (C : wk_C E K yJ18_getNode cJ18_getNode 8 (Option.some (FieldType.object "java/util/HashMap$Node")) 2 41 []) {r : Option Nat} {σ' : Hs} (l3 : Option Nat) (σ : Hs) (hf : fn_J18_getNode_b69 l3 σ = some (r, σ')) : wk_V E K (.inl (some (va_rf r))) σ' σ 69 [(3, vR l3)] [] := by
  unfold fn_J18_getNode_b69 at hf
  refine wk_aload_n C 0 rfl dJ18_getNode_69 ?_
  obtain ⟨rfl, rfl⟩ := Prod.mk.inj (Option.some.inj hf)
  exact wk_aret C (Or.inl ⟨_, rfl⟩) rfl rfl dJ18_getNode_70
set_option maxHeartbeats 4000000 in
theorem wb_J18_getNode_b148 {E : Ev} {K : Kx} (C : wk_C E K yJ18_getNode cJ18_getNode 8 (Option.some (FieldType.object "java/util/HashMap$Node")) 2 41 []) {r : Option Nat} {σ' : Hs}  (σ : Hs) (hf : fn_J18_getNode_b148  σ = some (r, σ')) : wk_V E K (.inl (some (va_rf r))) σ' σ 148 [] [] := by
  unfold fn_J18_getNode_b148 at hf
  refine wk_null C dJ18_getNode_148 ?_
  obtain ⟨rfl, rfl⟩ := Prod.mk.inj (Option.some.inj hf)
  exact wk_aret C (Or.inl ⟨_, rfl⟩) rfl rfl dJ18_getNode_149
set_option maxHeartbeats 4000000 in
theorem wb_J18_getNode_b137 {E : Ev} {K : Kx} (C : wk_C E K yJ18_getNode cJ18_getNode 8 (Option.some (FieldType.object "java/util/HashMap$Node")) 2 41 []) {k99 : Option Nat → Option Nat → Int32 → Hs → Option (Option Nat × Hs)} {r : Option Nat} {σ' : Hs} (hk99 : ∀ (l1 : Option Nat) (l4 : Option Nat) (l6 : Int32) (σ : Hs), k99 l1 l4 l6 σ = some (r, σ') → wk_V E K (.inl (some (va_rf r))) σ' σ 99 [(1, vR l1), (4, vR l4), (6, vI l6)] []) (l1 : Option Nat) (l4 : Option Nat) (l6 : Int32) (σ : Hs) (hf : fn_J18_getNode_b137 k99 l1 l4 l6 σ = some (r, σ')) : wk_V E K (.inl (some (va_rf r))) σ' σ 137 [(1, vR l1), (4, vR l4), (6, vI l6)] [] := by
  unfold fn_J18_getNode_b137 at hf
  refine wk_aload C 1 rfl dJ18_getNode_137 ?_
  obtain ⟨v1, h_v1, hf⟩ := ho_b hf
  refine wk_getR C fx_J18_177 h_v1 dJ18_getNode_139 ?_
  refine wk_dup C rfl dJ18_getNode_142 ?_
  refine wk_astore (L' := [(1, vR l1), (4, vR v1), (6, vI l6)]) C (by decide) rfl dJ18_getNode_143 ?_
  refine wk_ifnonnull C 99 (by decide) dJ18_getNode_145 (fun c_ => ?_) (fun c_ => ?_)
  · rw [if_neg c_] at hf
    exact hk99 _ _ _ _ hf
  · rw [if_pos c_] at hf
    refine wk_sub (L' := []) [] rfl ?_
    exact wb_J18_getNode_b148 C   _ hf
set_option maxHeartbeats 4000000 in
theorem wb_J18_getNode_b134 {E : Ev} {K : Kx} (C : wk_C E K yJ18_getNode cJ18_getNode 8 (Option.some (FieldType.object "java/util/HashMap$Node")) 2 41 []) {r : Option Nat} {σ' : Hs} (l4 : Option Nat) (σ : Hs) (hf : fn_J18_getNode_b134 l4 σ = some (r, σ')) : wk_V E K (.inl (some (va_rf r))) σ' σ 134 [(4, vR l4)] [] := by
  unfold fn_J18_getNode_b134 at hf
  refine wk_aload C 0 rfl dJ18_getNode_134 ?_
  obtain ⟨rfl, rfl⟩ := Prod.mk.inj (Option.some.inj hf)
  exact wk_aret C (Or.inl ⟨_, rfl⟩) rfl rfl dJ18_getNode_136
set_option maxHeartbeats 4000000 in
theorem wb_J18_getNode_b99 {E : Ev} {K : Kx} (C : wk_C E K yJ18_getNode cJ18_getNode 8 (Option.some (FieldType.object "java/util/HashMap$Node")) 2 41 []) {r : Option Nat} {σ' : Hs} : ∀ (n : Nat) (l1 : Option Nat) (l4 : Option Nat) (l6 : Int32) (σ : Hs), fn_J18_getNode_b99 n l1 l4 l6 σ = some (r, σ') → wk_V E K (.inl (some (va_rf r))) σ' σ 99 [(1, vR l1), (4, vR l4), (6, vI l6)] [] := by
  intro n
  induction n with
  | zero =>
    intro l1 l4 l6 σ hf
    rw [fn_J18_getNode_b99] at hf
    cases hf
  | succ n ih =>
    intro l1 l4 l6 σ hf
    rw [fn_J18_getNode_b99] at hf
    refine wk_aload C 1 rfl dJ18_getNode_99 ?_
    obtain ⟨v2, h_v2, hf⟩ := ho_b hf
    refine wk_getI C fx_J18_168 h_v2 dJ18_getNode_101 ?_
    refine wk_iload C 2 rfl dJ18_getNode_104 ?_
    refine wk_icmp_ne C 137 (by decide) dJ18_getNode_106 (fun c_ => ?_) (fun c_ => ?_)
    · rw [if_neg c_] at hf
      exact wb_J18_getNode_b137 C ih _ _ _ _ hf
    · rw [if_pos c_] at hf
      refine wk_aload C 1 rfl dJ18_getNode_109 ?_
      obtain ⟨v3, h_v3, hf⟩ := ho_b hf
      refine wk_getR C fx_J18_170 h_v3 dJ18_getNode_111 ?_
      refine wk_dup C rfl dJ18_getNode_114 ?_
      refine wk_astore (L' := [(1, vR l1), (4, vR l4), (6, vI l6), (7, vR v3)]) C (by decide) rfl dJ18_getNode_115 ?_
      refine wk_aload_n C 0 rfl dJ18_getNode_117 ?_
      refine wk_acmp_eq C 134 (by decide) dJ18_getNode_118 (fun c_ => ?_) (fun c_ => ?_)
      · rw [if_pos c_] at hf
        refine wk_sub (L' := [(4, vR l4)]) [1] rfl ?_
        exact wb_J18_getNode_b134 C  _ _ hf
      · rw [if_neg c_] at hf
        refine wk_aload_n C 0 rfl dJ18_getNode_121 ?_
        refine wk_ifnull C 137 (by decide) dJ18_getNode_122 (fun c_ => ?_) (fun c_ => ?_)
        · rw [if_pos c_] at hf
          refine wk_sub (L' := [(1, vR l1), (4, vR l4), (6, vI l6)]) [0, 1, 2] rfl ?_
          exact wb_J18_getNode_b137 C ih _ _ _ _ hf
        · rw [if_neg c_] at hf
          refine wk_aload_n C 0 rfl dJ18_getNode_125 ?_
          refine wk_aload C 3 rfl dJ18_getNode_126 ?_
          obtain ⟨v4, σ5, h_σ5, hf⟩ := ho_e2 hf
          refine dw_J18_getNode_128 C (Nat.le_of_ble_eq_true rfl) (Nat.le_of_ble_eq_true rfl) (Nat.le_of_ble_eq_true rfl) h_σ5 ?_
          refine wk_if_eq C 137 (by decide) dJ18_getNode_131 (fun c_ => ?_) (fun c_ => ?_)
          · rw [if_pos c_] at hf
            refine wk_sub (L' := [(1, vR l1), (4, vR l4), (6, vI l6)]) [0, 1, 2] rfl ?_
            exact wb_J18_getNode_b137 C ih _ _ _ _ hf
          · rw [if_neg c_] at hf
            refine wk_sub (L' := [(4, vR l4)]) [1] rfl ?_
            exact wb_J18_getNode_b134 C  _ _ hf
set_option maxHeartbeats 4000000 in
theorem wb_J18_getNode_b71 {E : Ev} {K : Kx} (C : wk_C E K yJ18_getNode cJ18_getNode 8 (Option.some (FieldType.object "java/util/HashMap$Node")) 2 41 []) {r : Option Nat} {σ' : Hs} (l1 : Option Nat) (l3 : Option Nat) (l6 : Int32) (σ : Hs) (hf : fn_J18_getNode_b71 l1 l3 l6 σ = some (r, σ')) : wk_V E K (.inl (some (va_rf r))) σ' σ 71 [(1, vR l1), (3, vR l3), (6, vI l6)] [] := by
  unfold fn_J18_getNode_b71 at hf
  refine wk_aload_n C 1 rfl dJ18_getNode_71 ?_
  obtain ⟨v6, h_v6, hf⟩ := ho_b hf
  refine wk_getR C fx_J18_177 h_v6 dJ18_getNode_72 ?_
  refine wk_dup C rfl dJ18_getNode_75 ?_
  refine wk_astore (L' := [(1, vR l1), (3, vR l3), (4, vR v6), (6, vI l6)]) C (by decide) rfl dJ18_getNode_76 ?_
  refine wk_ifnull C 148 (by decide) dJ18_getNode_78 (fun c_ => ?_) (fun c_ => ?_)
  · rw [if_pos c_] at hf
    refine wk_sub (L' := []) [] rfl ?_
    exact wb_J18_getNode_b148 C   _ hf
  · rw [if_neg c_] at hf
    refine wk_aload_n C 1 rfl dJ18_getNode_81 ?_
    obtain ⟨v7, h_v7, hf⟩ := ho_b hf
    refine wk_inst C q1986 ((List.forall_mem_nil _)) (List.forall_mem_cons.mpr ⟨⟨"java/util/LinkedHashMap$Entry", rx_16, by decide +kernel⟩, (List.forall_mem_nil _)⟩) h_v7 dJ18_getNode_82 ?_
    refine wk_if_eq C 99 (by decide) dJ18_getNode_85 (fun c_ => ?_) (fun c_ => ?_)
    · rw [if_pos c_] at hf
      refine wk_sub (L' := [(1, vR l1), (4, vR v6), (6, vI l6)]) [0, 2, 3] rfl ?_
      exact wb_J18_getNode_b99 C  _ _ _ _ _ hf
    · rw [if_neg c_] at hf
      refine wk_aload_n C 1 rfl dJ18_getNode_88 ?_
      cases hf
set_option maxHeartbeats 4000000 in
theorem mt_J18_getNode {E : Ev} {l : Launch} (hl : l.stackTraces = false) {p0 : Option Nat} {p1 : Option Nat} {σ : Hs} {r : Option Nat} {σ' : Hs} (hf : fn_J18_getNode p0 p1 σ = some (r, σ')) : wk_M E l yJ18_getNode (ws_ yJ18_getNode cJ18_getNode 8 (Option.some (FieldType.object "java/util/HashMap$Node"))) 2 41 [vR p0, vR p1] σ (.inl (some (va_rf r))) σ' := by
  refine wk_start (by decide +kernel) hl (Nat.le_of_ble_eq_true rfl) (fun K C hK => ?_)
  subst hK
  refine wk_L (L' := [(0, vR p0), (1, vR p1)]) rfl ?_
  unfold fn_J18_getNode at hf
  refine wk_aload_n C 0 rfl dJ18_getNode_0 ?_
  obtain ⟨v8, h_v8, hf⟩ := ho_b hf
  refine wk_getR C fx_J18_105 h_v8 dJ18_getNode_1 ?_
  refine wk_dup C rfl dJ18_getNode_4 ?_
  refine wk_astore_n (L' := [(0, vR p0), (1, vR p1), (2, vR v8)]) C (by decide) rfl dJ18_getNode_5 ?_
  refine wk_ifnull C 148 (by decide) dJ18_getNode_6 (fun c_ => ?_) (fun c_ => ?_)
  · rw [if_pos c_] at hf
    refine wk_sub (L' := []) [] rfl ?_
    exact wb_J18_getNode_b148 C   _ hf
  · rw [if_neg c_] at hf
    refine wk_aload_n C 2 rfl dJ18_getNode_9 ?_
    obtain ⟨v9, h_v9, hf⟩ := ho_b hf
    refine wk_alen C h_v9 dJ18_getNode_10 ?_
    refine wk_dup C rfl dJ18_getNode_11 ?_
    refine wk_istore (L' := [(0, vR p0), (1, vR p1), (2, vR v8), (5, vI v9)]) C (by decide) rfl dJ18_getNode_12 ?_
    refine wk_if_le C 148 (by decide) dJ18_getNode_14 (fun c_ => ?_) (fun c_ => ?_)
    · rw [if_pos c_] at hf
      refine wk_sub (L' := []) [] rfl ?_
      exact wb_J18_getNode_b148 C   _ hf
    · rw [if_neg c_] at hf
      refine wk_aload_n C 2 rfl dJ18_getNode_17 ?_
      refine wk_iload C 3 rfl dJ18_getNode_18 ?_
      refine wk_iconst (v := 1) C dJ18_getNode_20 rfl ?_
      refine wk_isub C dJ18_getNode_21 ?_
      refine wk_aload_n C 1 rfl dJ18_getNode_22 ?_
      obtain ⟨v11, σ10, h_σ10, hf⟩ := ho_e2 hf
      refine wk_callS (av := [vR p1]) (rest := [vI (v9 - (1 : Int32)), vR v8]) (rv := some (vI v11)) C cx_J18_149 (mt_J18_hash (wk_C.tr C) h_σ10) rfl rfl (Nat.le_of_ble_eq_true rfl) (Nat.le_of_ble_eq_true rfl) (Nat.le_of_ble_eq_true rfl) dJ18_getNode_23 ?_
      refine wk_dup C rfl dJ18_getNode_26 ?_
      refine wk_istore (L' := [(0, vR p0), (1, vR p1), (2, vR v8), (5, vI v9), (6, vI v11)]) C (by decide) rfl dJ18_getNode_27 ?_
      refine wk_iand C dJ18_getNode_29 ?_
      obtain ⟨v12, h_v12, hf⟩ := ho_b hf
      refine wk_aald C h_v12 dJ18_getNode_30 ?_
      refine wk_dup C rfl dJ18_getNode_31 ?_
      refine wk_astore_n (L' := [(0, vR p0), (1, vR p1), (2, vR v8), (3, vR v12), (5, vI v9), (6, vI v11)]) C (by decide) rfl dJ18_getNode_32 ?_
      refine wk_ifnull C 148 (by decide) dJ18_getNode_33 (fun c_ => ?_) (fun c_ => ?_)
      · rw [if_pos c_] at hf
        refine wk_sub (L' := []) [] rfl ?_
        exact wb_J18_getNode_b148 C   _ hf
      · rw [if_neg c_] at hf
        refine wk_aload_n C 3 rfl dJ18_getNode_36 ?_
        obtain ⟨v13, h_v13, hf⟩ := ho_b hf
        refine wk_getI C fx_J18_168 h_v13 dJ18_getNode_37 ?_
        refine wk_iload C 5 rfl dJ18_getNode_40 ?_
        refine wk_icmp_ne C 71 (by decide) dJ18_getNode_42 (fun c_ => ?_) (fun c_ => ?_)
        · rw [if_neg c_] at hf
          refine wk_sub (L' := [(1, vR p1), (3, vR v12), (6, vI v11)]) [1, 3, 5] rfl ?_
          exact wb_J18_getNode_b71 C  _ _ _ _ hf
        · rw [if_pos c_] at hf
          refine wk_aload_n C 3 rfl dJ18_getNode_45 ?_
          obtain ⟨v14, h_v14, hf⟩ := ho_b hf
          refine wk_getR C fx_J18_170 h_v14 dJ18_getNode_46 ?_
          refine wk_dup C rfl dJ18_getNode_49 ?_
          refine wk_astore (L' := [(0, vR p0), (1, vR p1), (2, vR v8), (3, vR v12), (5, vI v9), (6, vI v11), (7, vR v14)]) C (by decide) rfl dJ18_getNode_50 ?_
          refine wk_aload_n C 1 rfl dJ18_getNode_52 ?_
          refine wk_acmp_eq C 69 (by decide) dJ18_getNode_53 (fun c_ => ?_) (fun c_ => ?_)
          · rw [if_pos c_] at hf
            refine wk_sub (L' := [(3, vR v12)]) [3] rfl ?_
            exact wb_J18_getNode_b69 C  _ _ hf
          · rw [if_neg c_] at hf
            refine wk_aload_n C 1 rfl dJ18_getNode_56 ?_
            refine wk_ifnull C 71 (by decide) dJ18_getNode_57 (fun c_ => ?_) (fun c_ => ?_)
            · rw [if_pos c_] at hf
              refine wk_sub (L' := [(1, vR p1), (3, vR v12), (6, vI v11)]) [1, 3, 5] rfl ?_
              exact wb_J18_getNode_b71 C  _ _ _ _ hf
            · rw [if_neg c_] at hf
              refine wk_aload_n C 1 rfl dJ18_getNode_60 ?_
              refine wk_aload C 6 rfl dJ18_getNode_61 ?_
              obtain ⟨v15, σ16, h_σ16, hf⟩ := ho_e2 hf
              refine dw_J18_getNode_63 C (Nat.le_of_ble_eq_true rfl) (Nat.le_of_ble_eq_true rfl) (Nat.le_of_ble_eq_true rfl) h_σ16 ?_
              refine wk_if_eq C 71 (by decide) dJ18_getNode_66 (fun c_ => ?_) (fun c_ => ?_)
              · rw [if_pos c_] at hf
                refine wk_sub (L' := [(1, vR p1), (3, vR v12), (6, vI v11)]) [1, 3, 5] rfl ?_
                exact wb_J18_getNode_b71 C  _ _ _ _ hf
              · rw [if_neg c_] at hf
                refine wk_sub (L' := [(3, vR v12)]) [3] rfl ?_
                exact wb_J18_getNode_b69 C  _ _ hf
set_option maxHeartbeats 4000000 in
theorem wb_J18_containsKey_b13 {E : Ev} {K : Kx} (C : wk_C E K yJ18_containsKey cJ18_containsKey 2 (Option.some FieldType.boolean) 3 68 []) {r : Int32} {σ' : Hs} (t0 : Int32) (σ : Hs) (hf : fn_J18_containsKey_b13 t0 σ = some (r, σ')) : wk_V E K (.inl (some (.int r))) σ' σ 13 [] [vI t0] := by
  unfold fn_J18_containsKey_b13 at hf
  obtain ⟨v1, h_v1, hf⟩ := ho_b hf
  obtain ⟨rfl, rfl⟩ := Prod.mk.inj (Option.some.inj hf)
  exact wk_zret C h_v1 rfl rfl dJ18_containsKey_13
set_option maxHeartbeats 4000000 in
theorem mt_J18_containsKey {E : Ev} {l : Launch} (hl : l.stackTraces = false) {p0 : Option Nat} {p1 : Option Nat} {σ : Hs} {r : Int32} {σ' : Hs} (hf : fn_J18_containsKey p0 p1 σ = some (r, σ')) : wk_M E l yJ18_containsKey (ws_ yJ18_containsKey cJ18_containsKey 2 (Option.some FieldType.boolean)) 3 68 [vR p0, vR p1] σ (.inl (some (.int r))) σ' := by
  refine wk_start (by decide +kernel) hl (Nat.le_of_ble_eq_true rfl) (fun K C hK => ?_)
  subst hK
  refine wk_L (L' := [(0, vR p0), (1, vR p1)]) rfl ?_
  unfold fn_J18_containsKey at hf
  refine wk_aload_n C 0 rfl dJ18_containsKey_0 ?_
  refine wk_aload_n C 1 rfl dJ18_containsKey_1 ?_
  obtain ⟨b2, h_b2, hf⟩ := ho_b hf
  obtain ⟨v4, σ3, h_σ3, hf⟩ := ho_e2 hf
  refine wk_callV (av := [vR p1]) (rest := []) (rv := some (vR v4)) C h_b2 rx_15 cx_J18_158 (mt_J18_getNode (wk_C.tr C) h_σ3) rfl rfl (Nat.le_of_ble_eq_true rfl) (Nat.le_of_ble_eq_true rfl) (Nat.le_of_ble_eq_true rfl) dJ18_containsKey_2 ?_
  refine wk_ifnull C 12 (by decide) dJ18_containsKey_5 (fun c_ => ?_) (fun c_ => ?_)
  · rw [if_pos c_] at hf
    refine wk_iconst (v := 0) C dJ18_containsKey_12 rfl ?_
    refine wk_sub (L' := []) [] rfl ?_
    exact wb_J18_containsKey_b13 C  _ _ hf
  · rw [if_neg c_] at hf
    refine wk_iconst (v := 1) C dJ18_containsKey_8 rfl ?_
    refine wk_goto C 13 (by decide) dJ18_containsKey_9 ?_
    refine wk_sub (L' := []) [] rfl ?_
    exact wb_J18_containsKey_b13 C  _ _ hf
set_option maxHeartbeats 4000000 in
theorem wb_J19_afterNodeRemoval_b64 {E : Ev} {K : Kx} (C : wk_C E K yJ19_afterNodeRemoval cJ19_afterNodeRemoval 5 (Option.none : Option FieldType) 0 0 []) {σ' : Hs}  (σ : Hs) (hf : fn_J19_afterNodeRemoval_b64  σ = some σ') : wk_V E K (.inl none) σ' σ 64 [] [] := by
  unfold fn_J19_afterNodeRemoval_b64 at hf
  obtain rfl := Option.some.inj hf
  exact wk_vret C rfl rfl dJ19_afterNodeRemoval_64
set_option maxHeartbeats 4000000 in
theorem wb_J19_afterNodeRemoval_b45 {E : Ev} {K : Kx} (C : wk_C E K yJ19_afterNodeRemoval cJ19_afterNodeRemoval 5 (Option.none : Option FieldType) 0 0 []) {σ' : Hs} (l0 : Option Nat) (l3 : Option Nat) (l4 : Option Nat) (σ : Hs) (hf : fn_J19_afterNodeRemoval_b45 l0 l3 l4 σ = some σ') : wk_V E K (.inl none) σ' σ 45 [(0, vR l0), (3, vR l3), (4, vR l4)] [] := by
  unfold fn_J19_afterNodeRemoval_b45 at hf
  refine wk_aload C 2 rfl dJ19_afterNodeRemoval_45 ?_
  refine wk_ifnonnull C 58 (by decide) dJ19_afterNodeRemoval_47 (fun c_ => ?_) (fun c_ => ?_)
  · rw [if_neg c_] at hf
    refine wk_aload C 2 rfl dJ19_afterNodeRemoval_58 ?_
    refine wk_aload_n C 1 rfl dJ19_afterNodeRemoval_60 ?_
    obtain ⟨σ1, h_σ1, hf⟩ := ho_b hf
    refine wk_putR C px_J19_19 (Or.inl ⟨_, rfl⟩) (fun q => by cases q) h_σ1 dJ19_afterNodeRemoval_61 ?_
    refine wk_sub (L' := []) [] rfl ?_
    exact wb_J19_afterNodeRemoval_b64 C   _ hf
  · rw [if_pos c_] at hf
    refine wk_aload_n C 0 rfl dJ19_afterNodeRemoval_50 ?_
    refine wk_aload_n C 1 rfl dJ19_afterNodeRemoval_51 ?_
    obtain ⟨σ2, h_σ2, hf⟩ := ho_b hf
    refine wk_putR C px_J19_11 (Or.inl ⟨_, rfl⟩) (fun q => by cases q) h_σ2 dJ19_afterNodeRemoval_52 ?_
    refine wk_goto C 64 (by decide) dJ19_afterNodeRemoval_55 ?_
    refine wk_sub (L' := []) [] rfl ?_
    exact wb_J19_afterNodeRemoval_b64 C   _ hf
set_option maxHeartbeats 4000000 in
theorem mt_J19_afterNodeRemoval {E : Ev} {l : Launch} (hl : l.stackTraces = false) {p0 : Option Nat} {p1 : Option Nat} {σ : Hs} {σ' : Hs} (hf : fn_J19_afterNodeRemoval p0 p1 σ = some σ') : wk_M E l yJ19_afterNodeRemoval (ws_ yJ19_afterNodeRemoval cJ19_afterNodeRemoval 5 (Option.none : Option FieldType)) 0 0 [vR p0, vR p1] σ (.inl none) σ' := by
  refine wk_start (by decide +kernel) hl (Nat.le_of_ble_eq_true rfl) (fun K C hK => ?_)
  subst hK
  refine wk_L (L' := [(0, vR p0), (1, vR p1)]) rfl ?_
  unfold fn_J19_afterNodeRemoval at hf
  refine wk_aload_n C 1 rfl dJ19_afterNodeRemoval_0 ?_
  obtain ⟨u3, h_u3, hf⟩ := ho_b hf
  refine wk_cast C q2002 (List.forall_mem_cons.mpr ⟨ax_same rx_16 (Nat.le_of_ble_eq_true rfl), (List.forall_mem_nil _)⟩) h_u3 dJ19_afterNodeRemoval_1 ?_
  refine wk_astore_n (L' := [(0, vR p0), (1, vR p1), (2, vR p1)]) C (by decide) rfl dJ19_afterNodeRemoval_4 ?_
  refine wk_aload_n C 2 rfl dJ19_afterNodeRemoval_5 ?_
  obtain ⟨v4, h_v4, hf⟩ := ho_b hf
  refine wk_getR C fx_J19_19 h_v4 dJ19_afterNodeRemoval_6 ?_
  refine wk_astore_n (L' := [(0, vR p0), (1, vR p1), (2, vR p1), (3, vR v4)]) C (by decide) rfl dJ19_afterNodeRemoval_9 ?_
  refine wk_aload_n C 2 rfl dJ19_afterNodeRemoval_10 ?_
  obtain ⟨v5, h_v5, hf⟩ := ho_b hf
  refine wk_getR C fx_J19_14 h_v5 dJ19_afterNodeRemoval_11 ?_
  refine wk_astore (L' := [(0, vR p0), (1, vR p1), (2, vR p1), (3, vR v4), (4, vR v5)]) C (by decide) rfl dJ19_afterNodeRemoval_14 ?_
  refine wk_aload_n C 2 rfl dJ19_afterNodeRemoval_16 ?_
  refine wk_aload_n C 2 rfl dJ19_afterNodeRemoval_17 ?_
  refine wk_null C dJ19_afterNodeRemoval_18 ?_
  refine wk_dup_x1 C rfl rfl dJ19_afterNodeRemoval_19 ?_
  obtain ⟨σ6, h_σ6, hf⟩ := ho_b hf
  refine wk_putR C px_J19_14 (Or.inl ⟨_, rfl⟩) (fun q => by cases q) h_σ6 dJ19_afterNodeRemoval_20 ?_
  obtain ⟨σ7, h_σ7, hf⟩ := ho_b hf
  refine wk_putR C px_J19_19 (Or.inl ⟨_, rfl⟩) (fun q => by cases q) h_σ7 dJ19_afterNodeRemoval_23 ?_
  refine wk_aload_n C 3 rfl dJ19_afterNodeRemoval_26 ?_
  refine wk_ifnonnull C 39 (by decide) dJ19_afterNodeRemoval_27 (fun c_ => ?_) (fun c_ => ?_)
  · rw [if_neg c_] at hf
    refine wk_aload_n C 3 rfl dJ19_afterNodeRemoval_39 ?_
    refine wk_aload C 4 rfl dJ19_afterNodeRemoval_40 ?_
    obtain ⟨σ8, h_σ8, hf⟩ := ho_b hf
    refine wk_putR C px_J19_14 (Or.inl ⟨_, rfl⟩) (fun q => by cases q) h_σ8 dJ19_afterNodeRemoval_42 ?_
    refine wk_sub (L' := [(0, vR p0), (3, vR v4), (4, vR v5)]) [0, 3, 4] rfl ?_
    exact wb_J19_afterNodeRemoval_b45 C  _ _ _ _ hf
  · rw [if_pos c_] at hf
    refine wk_aload_n C 0 rfl dJ19_afterNodeRemoval_30 ?_
    refine wk_aload C 4 rfl dJ19_afterNodeRemoval_31 ?_
    obtain ⟨σ9, h_σ9, hf⟩ := ho_b hf
    refine wk_putR C px_J19_7 (Or.inl ⟨_, rfl⟩) (fun q => by cases q) h_σ9 dJ19_afterNodeRemoval_33 ?_
    refine wk_goto C 45 (by decide) dJ19_afterNodeRemoval_36 ?_
    refine wk_sub (L' := [(0, vR p0), (3, vR v4), (4, vR v5)]) [0, 3, 4] rfl ?_
    exact wb_J19_afterNodeRemoval_b45 C  _ _ _ _ hf
set_option maxHeartbeats 4000000 in
theorem dw_J18_removeNode_200 {E : Ev} {K : Kx} {out : Ot} {σ' σ σ1 : Hs} {fr lo : Nat} {tb : List ExceptionTableEntry} {L : Lc} {rest : List TV} (C : wk_C E K yJ18_removeNode cJ18_removeNode 14 (Option.some (FieldType.object "java/util/HashMap$Node")) fr lo tb) {r : Option Nat} {a0 : Option Nat} {v : Int32} (hfr : 1 ≤ fr) (hlo : 22 ≤ lo) (hw : lc_w rest ≤ 8) (hf : dp_J18_removeNode_200 r a0 σ = some (v, σ1)) (kk : wk_V E K out σ' σ1 (200 + 3) L (vI v :: rest)) : wk_V E K out σ' σ 200 L (vR a0 :: vR r :: rest) := by
  unfold dp_J18_removeNode_200 at hf
  by_cases c_ : ho_k σ r = some 6
  · rw [if_pos c_] at hf
    obtain ⟨b, hb⟩ := ho_isk c_
    exact wk_callU (av := [vR a0]) (rest := rest) (rv := some (vI v)) C hb rx_6 cx_J18_173_6 (mt_X7_equals (wk_C.tr C) hf) rfl rfl (by omega) (by omega) hw dJ18_removeNode_200 kk
  rw [if_neg c_] at hf
  clear c_
  by_cases c_ : ho_k σ r = some 12
  · rw [if_pos c_] at hf
    obtain ⟨b, hb⟩ := ho_isk c_
    exact wk_callU (av := [vR a0]) (rest := rest) (rv := some (vI v)) C hb rx_12 cx_J18_173_12 (mt_X13_equals (wk_C.tr C) hf) rfl rfl (by omega) (by omega) hw dJ18_removeNode_200 kk
  rw [if_neg c_] at hf
  clear c_
  cases hf
set_option maxHeartbeats 4000000 in
theorem dw_J18_removeNode_143 {E : Ev} {K : Kx} {out : Ot} {σ' σ σ1 : Hs} {fr lo : Nat} {tb : List ExceptionTableEntry} {L : Lc} {rest : List TV} (C : wk_C E K yJ18_removeNode cJ18_removeNode 14 (Option.some (FieldType.object "java/util/HashMap$Node")) fr lo tb) {r : Option Nat} {a0 : Option Nat} {v : Int32} (hfr : 1 ≤ fr) (hlo : 22 ≤ lo) (hw : lc_w rest ≤ 8) (hf : dp_J18_removeNode_143 r a0 σ = some (v, σ1)) (kk : wk_V E K out σ' σ1 (143 + 3) L (vI v :: rest)) : wk_V E K out σ' σ 143 L (vR a0 :: vR r :: rest) := by
  unfold dp_J18_removeNode_143 at hf
  by_cases c_ : ho_k σ r = some 6
  · rw [if_pos c_] at hf
    obtain ⟨b, hb⟩ := ho_isk c_
    exact wk_callU (av := [vR a0]) (rest := rest) (rv := some (vI v)) C hb rx_6 cx_J18_173_6 (mt_X7_equals (wk_C.tr C) hf) rfl rfl (by omega) (by omega) hw dJ18_removeNode_143 kk
  rw [if_neg c_] at hf
  clear c_
  by_cases c_ : ho_k σ r = some 12
  · rw [if_pos c_] at hf
    obtain ⟨b, hb⟩ := ho_isk c_
    exact wk_callU (av := [vR a0]) (rest := rest) (rv := some (vI v)) C hb rx_12 cx_J18_173_12 (mt_X13_equals (wk_C.tr C) hf) rfl rfl (by omega) (by omega) hw dJ18_removeNode_143 kk
  rw [if_neg c_] at hf
  clear c_
  cases hf
set_option maxHeartbeats 4000000 in
theorem dw_J18_removeNode_68 {E : Ev} {K : Kx} {out : Ot} {σ' σ σ1 : Hs} {fr lo : Nat} {tb : List ExceptionTableEntry} {L : Lc} {rest : List TV} (C : wk_C E K yJ18_removeNode cJ18_removeNode 14 (Option.some (FieldType.object "java/util/HashMap$Node")) fr lo tb) {r : Option Nat} {a0 : Option Nat} {v : Int32} (hfr : 1 ≤ fr) (hlo : 22 ≤ lo) (hw : lc_w rest ≤ 8) (hf : dp_J18_removeNode_68 r a0 σ = some (v, σ1)) (kk : wk_V E K out σ' σ1 (68 + 3) L (vI v :: rest)) : wk_V E K out σ' σ 68 L (vR a0 :: vR r :: rest) := by
  unfold dp_J18_removeNode_68 at hf
  by_cases c_ : ho_k σ r = some 6
  · rw [if_pos c_] at hf
    obtain ⟨b, hb⟩ := ho_isk c_
    exact wk_callU (av := [vR a0]) (rest := rest) (rv := some (vI v)) C hb rx_6 cx_J18_173_6 (mt_X7_equals (wk_C.tr C) hf) rfl rfl (by omega) (by omega) hw dJ18_removeNode_68 kk
  rw [if_neg c_] at hf
  clear c_
  by_cases c_ : ho_k σ r = some 12
  · rw [if_pos c_] at hf
    obtain ⟨b, hb⟩ := ho_isk c_
    exact wk_callU (av := [vR a0]) (rest := rest) (rv := some (vI v)) C hb rx_12 cx_J18_173_12 (mt_X13_equals (wk_C.tr C) hf) rfl rfl (by omega) (by omega) hw dJ18_removeNode_68 kk
  rw [if_neg c_] at hf
  clear c_
  cases hf
set_option maxHeartbeats 4000000 in
theorem wb_J18_removeNode_b289 {E : Ev} {K : Kx} (C : wk_C E K yJ18_removeNode cJ18_removeNode 14 (Option.some (FieldType.object "java/util/HashMap$Node")) 1 24 []) {r : Option Nat} {σ' : Hs}  (σ : Hs) (hf : fn_J18_removeNode_b289  σ = some (r, σ')) : wk_V E K (.inl (some (va_rf r))) σ' σ 289 [] [] := by
  unfold fn_J18_removeNode_b289 at hf
  refine wk_null C dJ18_removeNode_289 ?_
  obtain ⟨rfl, rfl⟩ := Prod.mk.inj (Option.some.inj hf)
  exact wk_aret C (Or.inl ⟨_, rfl⟩) rfl rfl dJ18_removeNode_290
set_option maxHeartbeats 4000000 in
theorem wb_J18_removeNode_b260 {E : Ev} {K : Kx} (C : wk_C E K yJ18_removeNode cJ18_removeNode 14 (Option.some (FieldType.object "java/util/HashMap$Node")) 1 24 []) {r : Option Nat} {σ' : Hs} (l0 : Option Nat) (l10 : Option Nat) (σ : Hs) (hf : fn_J18_removeNode_b260 l0 l10 σ = some (r, σ')) : wk_V E K (.inl (some (va_rf r))) σ' σ 260 [(0, vR l0), (10, vR l10)] [] := by
  unfold fn_J18_removeNode_b260 at hf
  refine wk_aload_n C 0 rfl dJ18_removeNode_260 ?_
  refine wk_dup C rfl dJ18_removeNode_261 ?_
  obtain ⟨v1, h_v1, hf⟩ := ho_b hf
  refine wk_getI C fx_J18_202 h_v1 dJ18_removeNode_262 ?_
  refine wk_iconst (v := 1) C dJ18_removeNode_265 rfl ?_
  refine wk_iadd C dJ18_removeNode_266 ?_
  obtain ⟨σ2, h_σ2, hf⟩ := ho_b hf
  refine wk_putI C px_J18_202 (fun q => by cases q) h_σ2 dJ18_removeNode_267 ?_
  refine wk_aload_n C 0 rfl dJ18_removeNode_270 ?_
  refine wk_dup C rfl dJ18_removeNode_271 ?_
  obtain ⟨v3, h_v3, hf⟩ := ho_b hf
  refine wk_getI C fx_J18_156 h_v3 dJ18_removeNode_272 ?_
  refine wk_iconst (v := 1) C dJ18_removeNode_275 rfl ?_
  refine wk_isub C dJ18_removeNode_276 ?_
  obtain ⟨σ4, h_σ4, hf⟩ := ho_b hf
  refine wk_putI C px_J18_156 (fun q => by cases q) h_σ4 dJ18_removeNode_277 ?_
  refine wk_aload_n C 0 rfl dJ18_removeNode_280 ?_
  refine wk_aload C 1 rfl dJ18_removeNode_281 ?_
  obtain ⟨b5, h_b5, hf⟩ := ho_b hf
  obtain ⟨σ6, h_σ6, hf⟩ := ho_b hf
  refine wk_callU (av := [vR l10]) (rest := []) (rv := none) C h_b5 rx_15 cx_J18_236_15 (mt_J19_afterNodeRemoval (wk_C.tr C) h_σ6) rfl rfl (Nat.le_of_ble_eq_true rfl) (Nat.le_of_ble_eq_true rfl) (Nat.le_of_ble_eq_true rfl) dJ18_removeNode_283 ?_
  refine wk_aload C 1 rfl dJ18_removeNode_286 ?_
  obtain ⟨rfl, rfl⟩ := Prod.mk.inj (Option.some.inj hf)
  exact wk_aret C (Or.inl ⟨_, rfl⟩) rfl rfl dJ18_removeNode_288
set_option maxHeartbeats 4000000 in
theorem wb_J18_removeNode_b206 {E : Ev} {K : Kx} (C : wk_C E K yJ18_removeNode cJ18_removeNode 14 (Option.some (FieldType.object "java/util/HashMap$Node")) 1 24 []) {r : Option Nat} {σ' : Hs} (l0 : Option Nat) (l6 : Option Nat) (l7 : Option Nat) (l9 : Int32) (l10 : Option Nat) (σ : Hs) (hf : fn_J18_removeNode_b206 l0 l6 l7 l9 l10 σ = some (r, σ')) : wk_V E K (.inl (some (va_rf r))) σ' σ 206 [(0, vR l0), (6, vR l6), (7, vR l7), (9, vI l9), (10, vR l10)] [] := by
  unfold fn_J18_removeNode_b206 at hf
  refine wk_aload C 4 rfl dJ18_removeNode_206 ?_
  obtain ⟨v7, h_v7, hf⟩ := ho_b hf
  refine wk_inst C q1986 ((List.forall_mem_nil _)) (List.forall_mem_cons.mpr ⟨⟨"java/util/LinkedHashMap$Entry", rx_16, by decide +kernel⟩, (List.forall_mem_nil _)⟩) h_v7 dJ18_removeNode_208 ?_
  refine wk_if_eq C 230 (by decide) dJ18_removeNode_211 (fun c_ => ?_) (fun c_ => ?_)
  · rw [if_pos c_] at hf
    refine wk_aload C 4 rfl dJ18_removeNode_230 ?_
    refine wk_aload C 2 rfl dJ18_removeNode_232 ?_
    refine wk_acmp_ne C 250 (by decide) dJ18_removeNode_234 (fun c_ => ?_) (fun c_ => ?_)
    · rw [if_neg c_] at hf
      refine wk_aload C 2 rfl dJ18_removeNode_250 ?_
      refine wk_aload C 4 rfl dJ18_removeNode_252 ?_
      obtain ⟨v8, h_v8, hf⟩ := ho_b hf
      refine wk_getR C fx_J18_177 h_v8 dJ18_removeNode_254 ?_
      obtain ⟨σ9, h_σ9, hf⟩ := ho_b hf
      refine wk_putR C px_J18_177 (Or.inl ⟨_, rfl⟩) (fun q => by cases q) h_σ9 dJ18_removeNode_257 ?_
      refine wk_sub (L' := [(0, vR l0), (10, vR l10)]) [0, 4] rfl ?_
      exact wb_J18_removeNode_b260 C  _ _ _ hf
    · rw [if_pos c_] at hf
      refine wk_aload C 1 rfl dJ18_removeNode_237 ?_
      refine wk_iload C 3 rfl dJ18_removeNode_239 ?_
      refine wk_aload C 4 rfl dJ18_removeNode_241 ?_
      obtain ⟨v10, h_v10, hf⟩ := ho_b hf
      refine wk_getR C fx_J18_177 h_v10 dJ18_removeNode_243 ?_
      obtain ⟨σ11, h_σ11, hf⟩ := ho_b hf
      refine wk_aast C (Nat.le_of_ble_eq_true rfl) rfl (List.forall_mem_cons.mpr ⟨ax_cast rx_16 q3890, (List.forall_mem_nil _)⟩) h_σ11 dJ18_removeNode_246 ?_
      refine wk_goto C 260 (by decide) dJ18_removeNode_247 ?_
      refine wk_sub (L' := [(0, vR l0), (10, vR l10)]) [0, 4] rfl ?_
      exact wb_J18_removeNode_b260 C  _ _ _ hf
  · rw [if_neg c_] at hf
    refine wk_aload C 4 rfl dJ18_removeNode_214 ?_
    cases hf
set_option maxHeartbeats 4000000 in
theorem wb_J18_removeNode_b171 {E : Ev} {K : Kx} (C : wk_C E K yJ18_removeNode cJ18_removeNode 14 (Option.some (FieldType.object "java/util/HashMap$Node")) 1 24 []) {r : Option Nat} {σ' : Hs} (l0 : Option Nat) (l3 : Option Nat) (l4 : Int32) (l6 : Option Nat) (l7 : Option Nat) (l9 : Int32) (l10 : Option Nat) (σ : Hs) (hf : fn_J18_removeNode_b171 l0 l3 l4 l6 l7 l9 l10 σ = some (r, σ')) : wk_V E K (.inl (some (va_rf r))) σ' σ 171 [(0, vR l0), (3, vR l3), (4, vI l4), (6, vR l6), (7, vR l7), (9, vI l9), (10, vR l10)] [] := by
  unfold fn_J18_removeNode_b171 at hf
  refine wk_aload C 6 rfl dJ18_removeNode_171 ?_
  refine wk_ifnull C 289 (by decide) dJ18_removeNode_173 (fun c_ => ?_) (fun c_ => ?_)
  · rw [if_pos c_] at hf
    refine wk_sub (L' := []) [] rfl ?_
    exact wb_J18_removeNode_b289 C   _ hf
  · rw [if_neg c_] at hf
    refine wk_iload C 2 rfl dJ18_removeNode_176 ?_
    refine wk_if_eq C 206 (by decide) dJ18_removeNode_178 (fun c_ => ?_) (fun c_ => ?_)
    · rw [if_pos c_] at hf
      refine wk_sub (L' := [(0, vR l0), (6, vR l6), (7, vR l7), (9, vI l9), (10, vR l10)]) [0, 3, 4, 5, 6] rfl ?_
      exact wb_J18_removeNode_b206 C  _ _ _ _ _ _ hf
    · rw [if_neg c_] at hf
      refine wk_aload C 6 rfl dJ18_removeNode_181 ?_
      obtain ⟨v12, h_v12, hf⟩ := ho_b hf
      refine wk_getR C fx_J18_162 h_v12 dJ18_removeNode_183 ?_
      refine wk_dup C rfl dJ18_removeNode_186 ?_
      refine wk_astore (L' := [(0, vR l0), (3, vR l3), (4, vI l4), (6, vR l6), (7, vR l7), (9, vI l9), (10, vR l10), (13, vR v12)]) C (by decide) rfl dJ18_removeNode_187 ?_
      refine wk_aload_n C 1 rfl dJ18_removeNode_189 ?_
      refine wk_acmp_eq C 206 (by decide) dJ18_removeNode_190 (fun c_ => ?_) (fun c_ => ?_)
      · rw [if_pos c_] at hf
        refine wk_sub (L' := [(0, vR l0), (6, vR l6), (7, vR l7), (9, vI l9), (10, vR l10)]) [0, 3, 4, 5, 6] rfl ?_
        exact wb_J18_removeNode_b206 C  _ _ _ _ _ _ hf
      · rw [if_neg c_] at hf
        refine wk_aload_n C 1 rfl dJ18_removeNode_193 ?_
        refine wk_ifnull C 289 (by decide) dJ18_removeNode_194 (fun c_ => ?_) (fun c_ => ?_)
        · rw [if_pos c_] at hf
          refine wk_sub (L' := []) [] rfl ?_
          exact wb_J18_removeNode_b289 C   _ hf
        · rw [if_neg c_] at hf
          refine wk_aload_n C 1 rfl dJ18_removeNode_197 ?_
          refine wk_aload C 7 rfl dJ18_removeNode_198 ?_
          obtain ⟨v13, σ14, h_σ14, hf⟩ := ho_e2 hf
          refine dw_J18_removeNode_200 C (Nat.le_of_ble_eq_true rfl) (Nat.le_of_ble_eq_true rfl) (Nat.le_of_ble_eq_true rfl) h_σ14 ?_
          refine wk_if_eq C 289 (by decide) dJ18_removeNode_203 (fun c_ => ?_) (fun c_ => ?_)
          · rw [if_pos c_] at hf
            refine wk_sub (L' := []) [] rfl ?_
            exact wb_J18_removeNode_b289 C   _ hf
          · rw [if_neg c_] at hf
            refine wk_sub (L' := [(0, vR l0), (6, vR l6), (7, vR l7), (9, vI l9), (10, vR l10)]) [0, 3, 4, 5, 6] rfl ?_
            exact wb_J18_removeNode_b206 C  _ _ _ _ _ _ hf
set_option maxHeartbeats 4000000 in
theorem wb_J18_removeNode_b74 {E : Ev} {K : Kx} (C : wk_C E K yJ18_removeNode cJ18_removeNode 14 (Option.some (FieldType.object "java/util/HashMap$Node")) 1 24 []) {r : Option Nat} {σ' : Hs} (l0 : Option Nat) (l3 : Option Nat) (l4 : Int32) (l6 : Option Nat) (l7 : Option Nat) (l9 : Int32) (σ : Hs) (hf : fn_J18_removeNode_b74 l0 l3 l4 l6 l7 l9 σ = some (r, σ')) : wk_V E K (.inl (some (va_rf r))) σ' σ 74 [(0, vR l0), (3, vR l3), (4, vI l4), (6, vR l6), (7, vR l7), (9, vI l9)] [] := by
  unfold fn_J18_removeNode_b74 at hf
  refine wk_aload C 4 rfl dJ18_removeNode_74 ?_
  refine wk_astore (L' := [(0, vR l0), (3, vR l3), (4, vI l4), (6, vR l6), (7, vR l7), (9, vI l9), (10, vR l7)]) C (by decide) rfl dJ18_removeNode_76 ?_
  refine wk_goto C 171 (by decide) dJ18_removeNode_78 ?_
  exact wb_J18_removeNode_b171 C  _ _ _ _ _ _ _ _ hf
set_option maxHeartbeats 4000000 in
theorem wb_J18_removeNode_b156 {E : Ev} {K : Kx} (C : wk_C E K yJ18_removeNode cJ18_removeNode 14 (Option.some (FieldType.object "java/util/HashMap$Node")) 1 24 []) {k115 : Option Nat → Int32 → Option Nat → Option Nat → Int32 → Option Nat → Option Nat → Int32 → Option Nat → Option Nat → Hs → Option (Option Nat × Hs)} {r : Option Nat} {σ' : Hs} (hk115 : ∀ (l0 : Option Nat) (l1 : Int32) (l2 : Option Nat) (l3 : Option Nat) (l4 : Int32) (l6 : Option Nat) (l7 : Option Nat) (l9 : Int32) (l10 : Option Nat) (l11 : Option Nat) (σ : Hs), k115 l0 l1 l2 l3 l4 l6 l7 l9 l10 l11 σ = some (r, σ') → wk_V E K (.inl (some (va_rf r))) σ' σ 115 [(0, vR l0), (1, vI l1), (2, vR l2), (3, vR l3), (4, vI l4), (6, vR l6), (7, vR l7), (9, vI l9), (10, vR l10), (11, vR l11)] []) (l0 : Option Nat) (l1 : Int32) (l2 : Option Nat) (l3 : Option Nat) (l4 : Int32) (l6 : Option Nat) (l9 : Int32) (l10 : Option Nat) (l11 : Option Nat) (σ : Hs) (hf : fn_J18_removeNode_b156 k115 l0 l1 l2 l3 l4 l6 l9 l10 l11 σ = some (r, σ')) : wk_V E K (.inl (some (va_rf r))) σ' σ 156 [(0, vR l0), (1, vI l1), (2, vR l2), (3, vR l3), (4, vI l4), (6, vR l6), (9, vI l9), (10, vR l10), (11, vR l11)] [] := by
  unfold fn_J18_removeNode_b156 at hf
  refine wk_aload C 8 rfl dJ18_removeNode_156 ?_
  refine wk_astore (L' := [(0, vR l0), (1, vI l1), (2, vR l2), (3, vR l3), (4, vI l4), (6, vR l6), (7, vR l11), (9, vI l9), (10, vR l10), (11, vR l11)]) C (by decide) rfl dJ18_removeNode_158 ?_
  refine wk_aload C 9 rfl dJ18_removeNode_160 ?_
  obtain ⟨v15, h_v15, hf⟩ := ho_b hf
  refine wk_getR C fx_J18_177 h_v15 dJ18_removeNode_162 ?_
  refine wk_dup C rfl dJ18_removeNode_165 ?_
  refine wk_astore (L' := [(0, vR l0), (1, vI l1), (2, vR l2), (3, vR l3), (4, vI l4), (6, vR l6), (7, vR l11), (9, vI l9), (10, vR l10), (11, vR v15)]) C (by decide) rfl dJ18_removeNode_166 ?_
  refine wk_ifnonnull C 115 (by decide) dJ18_removeNode_168 (fun c_ => ?_) (fun c_ => ?_)
  · rw [if_neg c_] at hf
    exact hk115 _ _ _ _ _ _ _ _ _ _ _ hf
  · rw [if_pos c_] at hf
    refine wk_sub (L' := [(0, vR l0), (3, vR l3), (4, vI l4), (6, vR l6), (7, vR l11), (9, vI l9), (10, vR l10)]) [0, 3, 4, 5, 6, 7, 8] rfl ?_
    exact wb_J18_removeNode_b171 C  _ _ _ _ _ _ _ _ hf
set_option maxHeartbeats 4000000 in
theorem wb_J18_removeNode_b149 {E : Ev} {K : Kx} (C : wk_C E K yJ18_removeNode cJ18_removeNode 14 (Option.some (FieldType.object "java/util/HashMap$Node")) 1 24 []) {r : Option Nat} {σ' : Hs} (l0 : Option Nat) (l3 : Option Nat) (l4 : Int32) (l6 : Option Nat) (l7 : Option Nat) (l9 : Int32) (l11 : Option Nat) (σ : Hs) (hf : fn_J18_removeNode_b149 l0 l3 l4 l6 l7 l9 l11 σ = some (r, σ')) : wk_V E K (.inl (some (va_rf r))) σ' σ 149 [(0, vR l0), (3, vR l3), (4, vI l4), (6, vR l6), (7, vR l7), (9, vI l9), (11, vR l11)] [] := by
  unfold fn_J18_removeNode_b149 at hf
  refine wk_aload C 6 rfl dJ18_removeNode_149 ?_
  refine wk_astore (L' := [(0, vR l0), (3, vR l3), (4, vI l4), (6, vR l6), (7, vR l7), (9, vI l9), (10, vR l11), (11, vR l11)]) C (by decide) rfl dJ18_removeNode_151 ?_
  refine wk_goto C 171 (by decide) dJ18_removeNode_153 ?_
  refine wk_sub (L' := [(0, vR l0), (3, vR l3), (4, vI l4), (6, vR l6), (7, vR l7), (9, vI l9), (10, vR l11)]) [0, 1, 2, 3, 4, 5, 6] rfl ?_
  exact wb_J18_removeNode_b171 C  _ _ _ _ _ _ _ _ hf
set_option maxHeartbeats 4000000 in
theorem wb_J18_removeNode_b115 {E : Ev} {K : Kx} (C : wk_C E K yJ18_removeNode cJ18_removeNode 14 (Option.some (FieldType.object "java/util/HashMap$Node")) 1 24 []) {r : Option Nat} {σ' : Hs} : ∀ (n : Nat) (l0 : Option Nat) (l1 : Int32) (l2 : Option Nat) (l3 : Option Nat) (l4 : Int32) (l6 : Option Nat) (l7 : Option Nat) (l9 : Int32) (l10 : Option Nat) (l11 : Option Nat) (σ : Hs), fn_J18_removeNode_b115 n l0 l1 l2 l3 l4 l6 l7 l9 l10 l11 σ = some (r, σ') → wk_V E K (.inl (some (va_rf r))) σ' σ 115 [(0, vR l0), (1, vI l1), (2, vR l2), (3, vR l3), (4, vI l4), (6, vR l6), (7, vR l7), (9, vI l9), (10, vR l10), (11, vR l11)] [] := by
  intro n
  induction n with
  | zero =>
    intro l0 l1 l2 l3 l4 l6 l7 l9 l10 l11 σ hf
    rw [fn_J18_removeNode_b115] at hf
    cases hf
  | succ n ih =>
    intro l0 l1 l2 l3 l4 l6 l7 l9 l10 l11 σ hf
    rw [fn_J18_removeNode_b115] at hf
    refine wk_aload C 9 rfl dJ18_removeNode_115 ?_
    obtain ⟨v16, h_v16, hf⟩ := ho_b hf
    refine wk_getI C fx_J18_168 h_v16 dJ18_removeNode_117 ?_
    refine wk_iload_n C 1 rfl dJ18_removeNode_120 ?_
    refine wk_icmp_ne C 156 (by decide) dJ18_removeNode_121 (fun c_ => ?_) (fun c_ => ?_)
    · rw [if_neg c_] at hf
      refine wk_sub (L' := [(0, vR l0), (1, vI l1), (2, vR l2), (3, vR l3), (4, vI l4), (6, vR l6), (9, vI l9), (10, vR l10), (11, vR l11)]) [0, 1, 2, 3, 4, 5, 7, 8, 9] rfl ?_
      exact wb_J18_removeNode_b156 C ih _ _ _ _ _ _ _ _ _ _ hf
    · rw [if_pos c_] at hf
      refine wk_aload C 9 rfl dJ18_removeNode_124 ?_
      obtain ⟨v17, h_v17, hf⟩ := ho_b hf
      refine wk_getR C fx_J18_170 h_v17 dJ18_removeNode_126 ?_
      refine wk_dup C rfl dJ18_removeNode_129 ?_
      refine wk_astore (L' := [(0, vR l0), (1, vI l1), (2, vR l2), (3, vR l3), (4, vI l4), (6, vR l6), (7, vR l7), (9, vI l9), (10, vR l10), (11, vR l11), (12, vR v17)]) C (by decide) rfl dJ18_removeNode_130 ?_
      refine wk_aload_n C 2 rfl dJ18_removeNode_132 ?_
      refine wk_acmp_eq C 149 (by decide) dJ18_removeNode_133 (fun c_ => ?_) (fun c_ => ?_)
      · rw [if_pos c_] at hf
        refine wk_sub (L' := [(0, vR l0), (3, vR l3), (4, vI l4), (6, vR l6), (7, vR l7), (9, vI l9), (11, vR l11)]) [0, 3, 4, 5, 6, 7, 9] rfl ?_
        exact wb_J18_removeNode_b149 C  _ _ _ _ _ _ _ _ hf
      · rw [if_neg c_] at hf
        refine wk_aload_n C 2 rfl dJ18_removeNode_136 ?_
        refine wk_ifnull C 156 (by decide) dJ18_removeNode_137 (fun c_ => ?_) (fun c_ => ?_)
        · rw [if_pos c_] at hf
          refine wk_sub (L' := [(0, vR l0), (1, vI l1), (2, vR l2), (3, vR l3), (4, vI l4), (6, vR l6), (9, vI l9), (10, vR l10), (11, vR l11)]) [0, 1, 2, 3, 4, 5, 7, 8, 9] rfl ?_
          exact wb_J18_removeNode_b156 C ih _ _ _ _ _ _ _ _ _ _ hf
        · rw [if_neg c_] at hf
          refine wk_aload_n C 2 rfl dJ18_removeNode_140 ?_
          refine wk_aload C 10 rfl dJ18_removeNode_141 ?_
          obtain ⟨v18, σ19, h_σ19, hf⟩ := ho_e2 hf
          refine dw_J18_removeNode_143 C (Nat.le_of_ble_eq_true rfl) (Nat.le_of_ble_eq_true rfl) (Nat.le_of_ble_eq_true rfl) h_σ19 ?_
          refine wk_if_eq C 156 (by decide) dJ18_removeNode_146 (fun c_ => ?_) (fun c_ => ?_)
          · rw [if_pos c_] at hf
            refine wk_sub (L' := [(0, vR l0), (1, vI l1), (2, vR l2), (3, vR l3), (4, vI l4), (6, vR l6), (9, vI l9), (10, vR l10), (11, vR l11)]) [0, 1, 2, 3, 4, 5, 7, 8, 9] rfl ?_
            exact wb_J18_removeNode_b156 C ih _ _ _ _ _ _ _ _ _ _ hf
          · rw [if_neg c_] at hf
            refine wk_sub (L' := [(0, vR l0), (3, vR l3), (4, vI l4), (6, vR l6), (7, vR l7), (9, vI l9), (11, vR l11)]) [0, 3, 4, 5, 6, 7, 9] rfl ?_
            exact wb_J18_removeNode_b149 C  _ _ _ _ _ _ _ _ hf
set_option maxHeartbeats 4000000 in
theorem wb_J18_removeNode_b81 {E : Ev} {K : Kx} (C : wk_C E K yJ18_removeNode cJ18_removeNode 14 (Option.some (FieldType.object "java/util/HashMap$Node")) 1 24 []) {r : Option Nat} {σ' : Hs} (l0 : Option Nat) (l1 : Int32) (l2 : Option Nat) (l3 : Option Nat) (l4 : Int32) (l6 : Option Nat) (l7 : Option Nat) (l9 : Int32) (l10 : Option Nat) (σ : Hs) (hf : fn_J18_removeNode_b81 l0 l1 l2 l3 l4 l6 l7 l9 l10 σ = some (r, σ')) : wk_V E K (.inl (some (va_rf r))) σ' σ 81 [(0, vR l0), (1, vI l1), (2, vR l2), (3, vR l3), (4, vI l4), (6, vR l6), (7, vR l7), (9, vI l9), (10, vR l10)] [] := by
  unfold fn_J18_removeNode_b81 at hf
  refine wk_aload C 6 rfl dJ18_removeNode_81 ?_
  obtain ⟨v20, h_v20, hf⟩ := ho_b hf
  refine wk_getR C fx_J18_177 h_v20 dJ18_removeNode_83 ?_
  refine wk_dup C rfl dJ18_removeNode_86 ?_
  refine wk_astore (L' := [(0, vR l0), (1, vI l1), (2, vR l2), (3, vR l3), (4, vI l4), (6, vR l6), (7, vR l7), (9, vI l9), (10, vR l10), (11, vR v20)]) C (by decide) rfl dJ18_removeNode_87 ?_
  refine wk_ifnull C 171 (by decide) dJ18_removeNode_89 (fun c_ => ?_) (fun c_ => ?_)
  · rw [if_pos c_] at hf
    refine wk_sub (L' := [(0, vR l0), (3, vR l3), (4, vI l4), (6, vR l6), (7, vR l7), (9, vI l9), (10, vR l10)]) [0, 3, 4, 5, 6, 7, 8] rfl ?_
    exact wb_J18_removeNode_b171 C  _ _ _ _ _ _ _ _ hf
  · rw [if_neg c_] at hf
    refine wk_aload C 6 rfl dJ18_removeNode_92 ?_
    obtain ⟨v21, h_v21, hf⟩ := ho_b hf
    refine wk_inst C q1986 ((List.forall_mem_nil _)) (List.forall_mem_cons.mpr ⟨⟨"java/util/LinkedHashMap$Entry", rx_16, by decide +kernel⟩, (List.forall_mem_nil _)⟩) h_v21 dJ18_removeNode_94 ?_
    refine wk_if_eq C 115 (by decide) dJ18_removeNode_97 (fun c_ => ?_) (fun c_ => ?_)
    · rw [if_pos c_] at hf
      exact wb_J18_removeNode_b115 C  _ _ _ _ _ _ _ _ _ _ _ _ hf
    · rw [if_neg c_] at hf
      refine wk_aload C 6 rfl dJ18_removeNode_100 ?_
      cases hf
set_option maxHeartbeats 4000000 in
theorem mt_J18_removeNode {E : Ev} {l : Launch} (hl : l.stackTraces = false) {p0 : Option Nat} {p1 : Int32} {p2 : Option Nat} {p3 : Option Nat} {p4 : Int32} {p5 : Int32} {σ : Hs} {r : Option Nat} {σ' : Hs} (hf : fn_J18_removeNode p0 p1 p2 p3 p4 p5 σ = some (r, σ')) : wk_M E l yJ18_removeNode (ws_ yJ18_removeNode cJ18_removeNode 14 (Option.some (FieldType.object "java/util/HashMap$Node"))) 1 24 [vR p0, vI p1, vR p2, vR p3, vI p4, vI p5] σ (.inl (some (va_rf r))) σ' := by
  refine wk_start (by decide +kernel) hl (Nat.le_of_ble_eq_true rfl) (fun K C hK => ?_)
  subst hK
  refine wk_L (L' := [(0, vR p0), (1, vI p1), (2, vR p2), (3, vR p3), (4, vI p4), (5, vI p5)]) rfl ?_
  unfold fn_J18_removeNode at hf
  refine wk_aload_n C 0 rfl dJ18_removeNode_0 ?_
  obtain ⟨v22, h_v22, hf⟩ := ho_b hf
  refine wk_getR C fx_J18_105 h_v22 dJ18_removeNode_1 ?_
  refine wk_dup C rfl dJ18_removeNode_4 ?_
  refine wk_astore (L' := [(0, vR p0), (1, vI p1), (2, vR p2), (3, vR p3), (4, vI p4), (5, vI p5), (6, vR v22)]) C (by decide) rfl dJ18_removeNode_5 ?_
  refine wk_ifnull C 289 (by decide) dJ18_removeNode_7 (fun c_ => ?_) (fun c_ => ?_)
  · rw [if_pos c_] at hf
    refine wk_sub (L' := []) [] rfl ?_
    exact wb_J18_removeNode_b289 C   _ hf
  · rw [if_neg c_] at hf
    refine wk_aload C 6 rfl dJ18_removeNode_10 ?_
    obtain ⟨v23, h_v23, hf⟩ := ho_b hf
    refine wk_alen C h_v23 dJ18_removeNode_12 ?_
    refine wk_dup C rfl dJ18_removeNode_13 ?_
    refine wk_istore (L' := [(0, vR p0), (1, vI p1), (2, vR p2), (3, vR p3), (4, vI p4), (5, vI p5), (6, vR v22), (8, vI v23)]) C (by decide) rfl dJ18_removeNode_14 ?_
    refine wk_if_le C 289 (by decide) dJ18_removeNode_16 (fun c_ => ?_) (fun c_ => ?_)
    · rw [if_pos c_] at hf
      refine wk_sub (L' := []) [] rfl ?_
      exact wb_J18_removeNode_b289 C   _ hf
    · rw [if_neg c_] at hf
      refine wk_aload C 6 rfl dJ18_removeNode_19 ?_
      refine wk_iload C 7 rfl dJ18_removeNode_21 ?_
      refine wk_iconst (v := 1) C dJ18_removeNode_23 rfl ?_
      refine wk_isub C dJ18_removeNode_24 ?_
      refine wk_iload_n C 1 rfl dJ18_removeNode_25 ?_
      refine wk_iand C dJ18_removeNode_26 ?_
      refine wk_dup C rfl dJ18_removeNode_27 ?_
      obtain ⟨v24, e_v24, hf⟩ := ho_b hf
      refine wk_tI (Option.some.inj e_v24) ?_
      refine wk_istore (L' := [(0, vR p0), (1, vI p1), (2, vR p2), (3, vR p3), (4, vI p4), (5, vI p5), (6, vR v22), (8, vI v23), (9, vI v24)]) C (by decide) rfl dJ18_removeNode_28 ?_
      obtain ⟨v25, h_v25, hf⟩ := ho_b hf
      refine wk_aald C h_v25 dJ18_removeNode_30 ?_
      refine wk_dup C rfl dJ18_removeNode_31 ?_
      refine wk_astore (L' := [(0, vR p0), (1, vI p1), (2, vR p2), (3, vR p3), (4, vI p4), (5, vI p5), (6, vR v22), (7, vR v25), (8, vI v23), (9, vI v24)]) C (by decide) rfl dJ18_removeNode_32 ?_
      refine wk_ifnull C 289 (by decide) dJ18_removeNode_34 (fun c_ => ?_) (fun c_ => ?_)
      · rw [if_pos c_] at hf
        refine wk_sub (L' := []) [] rfl ?_
        exact wb_J18_removeNode_b289 C   _ hf
      · rw [if_neg c_] at hf
        refine wk_null C dJ18_removeNode_37 ?_
        refine wk_astore (L' := [(0, vR p0), (1, vI p1), (2, vR p2), (3, vR p3), (4, vI p4), (5, vI p5), (6, vR v22), (7, vR v25), (8, vI v23), (9, vI v24), (10, vR none)]) C (by decide) rfl dJ18_removeNode_38 ?_
        refine wk_aload C 7 rfl dJ18_removeNode_40 ?_
        obtain ⟨v26, h_v26, hf⟩ := ho_b hf
        refine wk_getI C fx_J18_168 h_v26 dJ18_removeNode_42 ?_
        refine wk_iload_n C 1 rfl dJ18_removeNode_45 ?_
        refine wk_icmp_ne C 81 (by decide) dJ18_removeNode_46 (fun c_ => ?_) (fun c_ => ?_)
        · rw [if_neg c_] at hf
          refine wk_sub (L' := [(0, vR p0), (1, vI p1), (2, vR p2), (3, vR p3), (4, vI p4), (6, vR v22), (7, vR v25), (9, vI v24), (10, vR none)]) [0, 1, 2, 3, 4, 6, 7, 9, 10] rfl ?_
          exact wb_J18_removeNode_b81 C  _ _ _ _ _ _ _ _ _ _ hf
        · rw [if_pos c_] at hf
          refine wk_aload C 7 rfl dJ18_removeNode_49 ?_
          obtain ⟨v27, h_v27, hf⟩ := ho_b hf
          refine wk_getR C fx_J18_170 h_v27 dJ18_removeNode_51 ?_
          refine wk_dup C rfl dJ18_removeNode_54 ?_
          refine wk_astore (L' := [(0, vR p0), (1, vI p1), (2, vR p2), (3, vR p3), (4, vI p4), (5, vI p5), (6, vR v22), (7, vR v25), (8, vI v23), (9, vI v24), (10, vR none), (12, vR v27)]) C (by decide) rfl dJ18_removeNode_55 ?_
          refine wk_aload_n C 2 rfl dJ18_removeNode_57 ?_
          refine wk_acmp_eq C 74 (by decide) dJ18_removeNode_58 (fun c_ => ?_) (fun c_ => ?_)
          · rw [if_pos c_] at hf
            refine wk_sub (L' := [(0, vR p0), (3, vR p3), (4, vI p4), (6, vR v22), (7, vR v25), (9, vI v24)]) [0, 3, 4, 6, 7, 9] rfl ?_
            exact wb_J18_removeNode_b74 C  _ _ _ _ _ _ _ hf
          · rw [if_neg c_] at hf
            refine wk_aload_n C 2 rfl dJ18_removeNode_61 ?_
            refine wk_ifnull C 81 (by decide) dJ18_removeNode_62 (fun c_ => ?_) (fun c_ => ?_)
            · rw [if_pos c_] at hf
              refine wk_sub (L' := [(0, vR p0), (1, vI p1), (2, vR p2), (3, vR p3), (4, vI p4), (6, vR v22), (7, vR v25), (9, vI v24), (10, vR none)]) [0, 1, 2, 3, 4, 6, 7, 9, 10] rfl ?_
              exact wb_J18_removeNode_b81 C  _ _ _ _ _ _ _ _ _ _ hf
            · rw [if_neg c_] at hf
              refine wk_aload_n C 2 rfl dJ18_removeNode_65 ?_
              refine wk_aload C 11 rfl dJ18_removeNode_66 ?_
              obtain ⟨v28, σ29, h_σ29, hf⟩ := ho_e2 hf
              refine dw_J18_removeNode_68 C (Nat.le_of_ble_eq_true rfl) (Nat.le_of_ble_eq_true rfl) (Nat.le_of_ble_eq_true rfl) h_σ29 ?_
              refine wk_if_eq C 81 (by decide) dJ18_removeNode_71 (fun c_ => ?_) (fun c_ => ?_)
              · rw [if_pos c_] at hf
                refine wk_sub (L' := [(0, vR p0), (1, vI p1), (2, vR p2), (3, vR p3), (4, vI p4), (6, vR v22), (7, vR v25), (9, vI v24), (10, vR none)]) [0, 1, 2, 3, 4, 6, 7, 9, 10] rfl ?_
                exact wb_J18_removeNode_b81 C  _ _ _ _ _ _ _ _ _ _ hf
              · rw [if_neg c_] at hf
                refine wk_sub (L' := [(0, vR p0), (3, vR p3), (4, vI p4), (6, vR v22), (7, vR v25), (9, vI v24)]) [0, 3, 4, 6, 7, 9] rfl ?_
                exact wb_J18_removeNode_b74 C  _ _ _ _ _ _ _ hf
set_option maxHeartbeats 4000000 in
theorem wb_J18_remove_b25 {E : Ev} {K : Kx} (C : wk_C E K yJ18_remove cJ18_remove 3 (Option.some (FieldType.object "java/lang/Object")) 2 57 []) {r : Option Nat} {σ' : Hs} (t0 : Option Nat) (σ : Hs) (hf : fn_J18_remove_b25 t0 σ = some (r, σ')) : wk_V E K (.inl (some (va_rf r))) σ' σ 25 [] [vR t0] := by
  unfold fn_J18_remove_b25 at hf
  obtain ⟨rfl, rfl⟩ := Prod.mk.inj (Option.some.inj hf)
  exact wk_aret C (Or.inl ⟨_, rfl⟩) rfl rfl dJ18_remove_25
set_option maxHeartbeats 4000000 in
theorem mt_J18_remove {E : Ev} {l : Launch} (hl : l.stackTraces = false) {p0 : Option Nat} {p1 : Option Nat} {σ : Hs} {r : Option Nat} {σ' : Hs} (hf : fn_J18_remove p0 p1 σ = some (r, σ')) : wk_M E l yJ18_remove (ws_ yJ18_remove cJ18_remove 3 (Option.some (FieldType.object "java/lang/Object"))) 2 57 [vR p0, vR p1] σ (.inl (some (va_rf r))) σ' := by
  refine wk_start (by decide +kernel) hl (Nat.le_of_ble_eq_true rfl) (fun K C hK => ?_)
  subst hK
  refine wk_L (L' := [(0, vR p0), (1, vR p1)]) rfl ?_
  unfold fn_J18_remove at hf
  refine wk_aload_n C 0 rfl dJ18_remove_0 ?_
  refine wk_aload_n C 1 rfl dJ18_remove_1 ?_
  obtain ⟨v2, σ1, h_σ1, hf⟩ := ho_e2 hf
  refine wk_callS (av := [vR p1]) (rest := [vR p0]) (rv := some (vI v2)) C cx_J18_149 (mt_J18_hash (wk_C.tr C) h_σ1) rfl rfl (Nat.le_of_ble_eq_true rfl) (Nat.le_of_ble_eq_true rfl) (Nat.le_of_ble_eq_true rfl) dJ18_remove_2 ?_
  refine wk_aload_n C 1 rfl dJ18_remove_5 ?_
  refine wk_null C dJ18_remove_6 ?_
  refine wk_iconst (v := 0) C dJ18_remove_7 rfl ?_
  refine wk_iconst (v := 1) C dJ18_remove_8 rfl ?_
  obtain ⟨b3, h_b3, hf⟩ := ho_b hf
  obtain ⟨v5, σ4, h_σ4, hf⟩ := ho_e2 hf
  refine wk_callV (av := [vI v2, vR p1, vR none, vI (0 : Int32), vI (1 : Int32)]) (rest := []) (rv := some (vR v5)) C h_b3 rx_15 cx_J18_228 (mt_J18_removeNode (wk_C.tr C) h_σ4) rfl rfl (Nat.le_of_ble_eq_true rfl) (Nat.le_of_ble_eq_true rfl) (Nat.le_of_ble_eq_true rfl) dJ18_remove_9 ?_
  refine wk_dup C rfl dJ18_remove_12 ?_
  refine wk_astore_n (L' := [(0, vR p0), (1, vR p1), (2, vR v5)]) C (by decide) rfl dJ18_remove_13 ?_
  refine wk_ifnonnull C 21 (by decide) dJ18_remove_14 (fun c_ => ?_) (fun c_ => ?_)
  · rw [if_neg c_] at hf
    refine wk_aload_n C 2 rfl dJ18_remove_21 ?_
    obtain ⟨v6, h_v6, hf⟩ := ho_b hf
    refine wk_getR C fx_J18_162 h_v6 dJ18_remove_22 ?_
    refine wk_sub (L' := []) [] rfl ?_
    exact wb_J18_remove_b25 C  _ _ hf
  · rw [if_pos c_] at hf
    refine wk_null C dJ18_remove_17 ?_
    refine wk_goto C 25 (by decide) dJ18_remove_18 ?_
    refine wk_sub (L' := []) [] rfl ?_
    exact wb_J18_remove_b25 C  _ _ hf
set_option maxHeartbeats 4000000 in
theorem wb_J35_init_b30 {E : Ev} {K : Kx} (C : wk_C E K yJ35_init cJ35_init 3 (Option.none : Option FieldType) 1 12 []) {σ' : Hs} (l0 : Option Nat) (l1 : Option Nat) (t0 : Option Nat) (t1 : Option Nat) (σ : Hs) (hf : fn_J35_init_b30 l0 l1 t0 t1 σ = some σ') : wk_V E K (.inl none) σ' σ 30 [(0, vR l0), (1, vR l1)] [vR t1, vR t0] := by
  unfold fn_J35_init_b30 at hf
  obtain ⟨σ1, h_σ1, hf⟩ := ho_b hf
  refine wk_putR C px_J35_26 (Or.inl ⟨_, rfl⟩) (fun q => by cases q) h_σ1 dJ35_init_30 ?_
  refine wk_aload_n C 0 rfl dJ35_init_33 ?_
  refine wk_aload_n C 1 rfl dJ35_init_34 ?_
  obtain ⟨v2, h_v2, hf⟩ := ho_b hf
  refine wk_getI C fx_J35_29 h_v2 dJ35_init_35 ?_
  obtain ⟨σ3, h_σ3, hf⟩ := ho_b hf
  refine wk_putI C px_J35_33 (fun q => by cases q) h_σ3 dJ35_init_38 ?_
  refine wk_aload_n C 0 rfl dJ35_init_41 ?_
  refine wk_null C dJ35_init_42 ?_
  obtain ⟨σ4, h_σ4, hf⟩ := ho_b hf
  refine wk_putR C px_J35_36 (Or.inl ⟨_, rfl⟩) (fun q => by cases q) h_σ4 dJ35_init_43 ?_
  obtain rfl := Option.some.inj hf
  exact wk_vret C rfl rfl dJ35_init_46
set_option maxHeartbeats 4000000 in
theorem mt_J35_init {E : Ev} {l : Launch} (hl : l.stackTraces = false) {p0 : Option Nat} {p1 : Option Nat} {p2 : Int32} {σ : Hs} {σ' : Hs} (hf : fn_J35_init p0 p1 p2 σ = some σ') : wk_M E l yJ35_init (ws_ yJ35_init cJ35_init 3 (Option.none : Option FieldType)) 1 12 [vR p0, vR p1, vI p2] σ (.inl none) σ' := by
  refine wk_start (by decide +kernel) hl (Nat.le_of_ble_eq_true rfl) (fun K C hK => ?_)
  subst hK
  refine wk_L (L' := [(0, vR p0), (1, vR p1), (2, vI p2)]) rfl ?_
  unfold fn_J35_init at hf
  refine wk_aload_n C 0 rfl dJ35_init_0 ?_
  refine wk_aload_n C 1 rfl dJ35_init_1 ?_
  obtain ⟨σ5, h_σ5, hf⟩ := ho_b hf
  refine wk_putR C px_J35_1 (Or.inl ⟨_, rfl⟩) (fun _ => rfl) h_σ5 dJ35_init_2 ?_
  refine wk_aload_n C 0 rfl dJ35_init_5 ?_
  obtain ⟨b6, h_b6, hf⟩ := ho_b hf
  refine wk_objI C h_b6 q1000 q179 q180 (Nat.le_of_ble_eq_true rfl) (Nat.le_of_ble_eq_true rfl) dJ35_init_6 ?_
  refine wk_aload_n C 0 rfl dJ35_init_9 ?_
  refine wk_iload_n C 2 rfl dJ35_init_10 ?_
  obtain ⟨σ7, h_σ7, hf⟩ := ho_b hf
  refine wk_putZ C px_J35_13 (fun q => by cases q) h_σ7 dJ35_init_11 ?_
  refine wk_aload_n C 0 rfl dJ35_init_14 ?_
  refine wk_iload_n C 2 rfl dJ35_init_15 ?_
  refine wk_if_eq C 26 (by decide) dJ35_init_16 (fun c_ => ?_) (fun c_ => ?_)
  · rw [if_pos c_] at hf
    refine wk_aload_n C 1 rfl dJ35_init_26 ?_
    obtain ⟨v8, h_v8, hf⟩ := ho_b hf
    refine wk_getR C fx_J35_23 h_v8 dJ35_init_27 ?_
    refine wk_sub (L' := [(0, vR p0), (1, vR p1)]) [0, 1] rfl ?_
    exact wb_J35_init_b30 C  _ _ _ _ _ hf
  · rw [if_neg c_] at hf
    refine wk_aload_n C 1 rfl dJ35_init_19 ?_
    obtain ⟨v9, h_v9, hf⟩ := ho_b hf
    refine wk_getR C fx_J35_17 h_v9 dJ35_init_20 ?_
    refine wk_goto C 30 (by decide) dJ35_init_23 ?_
    refine wk_sub (L' := [(0, vR p0), (1, vR p1)]) [0, 1] rfl ?_
    exact wb_J35_init_b30 C  _ _ _ _ _ hf
set_option maxHeartbeats 4000000 in
theorem wb_J35_hasNext_b12 {E : Ev} {K : Kx} (C : wk_C E K yJ35_hasNext cJ35_hasNext 1 (Option.some FieldType.boolean) 0 0 []) {r : Int32} {σ' : Hs} (t0 : Int32) (σ : Hs) (hf : fn_J35_hasNext_b12 t0 σ = some (r, σ')) : wk_V E K (.inl (some (.int r))) σ' σ 12 [] [vI t0] := by
  unfold fn_J35_hasNext_b12 at hf
  obtain ⟨v1, h_v1, hf⟩ := ho_b hf
  obtain ⟨rfl, rfl⟩ := Prod.mk.inj (Option.some.inj hf)
  exact wk_zret C h_v1 rfl rfl dJ35_hasNext_12
set_option maxHeartbeats 4000000 in
theorem mt_J35_hasNext {E : Ev} {l : Launch} (hl : l.stackTraces = false) {p0 : Option Nat} {σ : Hs} {r : Int32} {σ' : Hs} (hf : fn_J35_hasNext p0 σ = some (r, σ')) : wk_M E l yJ35_hasNext (ws_ yJ35_hasNext cJ35_hasNext 1 (Option.some FieldType.boolean)) 0 0 [vR p0] σ (.inl (some (.int r))) σ' := by
  refine wk_start (by decide +kernel) hl (Nat.le_of_ble_eq_true rfl) (fun K C hK => ?_)
  subst hK
  refine wk_L (L' := [(0, vR p0)]) rfl ?_
  unfold fn_J35_hasNext at hf
  refine wk_aload_n C 0 rfl dJ35_hasNext_0 ?_
  obtain ⟨v2, h_v2, hf⟩ := ho_b hf
  refine wk_getR C fx_J35_26 h_v2 dJ35_hasNext_1 ?_
  refine wk_ifnull C 11 (by decide) dJ35_hasNext_4 (fun c_ => ?_) (fun c_ => ?_)
  · rw [if_pos c_] at hf
    refine wk_iconst (v := 0) C dJ35_hasNext_11 rfl ?_
    refine wk_sub (L' := []) [] rfl ?_
    exact wb_J35_hasNext_b12 C  _ _ hf
  · rw [if_neg c_] at hf
    refine wk_iconst (v := 1) C dJ35_hasNext_7 rfl ?_
    refine wk_goto C 12 (by decide) dJ35_hasNext_8 ?_
    refine wk_sub (L' := []) [] rfl ?_
    exact wb_J35_hasNext_b12 C  _ _ hf
set_option maxHeartbeats 4000000 in
theorem wb_J35_nextNode_b63 {E : Ev} {K : Kx} (C : wk_C E K yJ35_nextNode cJ35_nextNode 2 (Option.some (FieldType.object "java/util/LinkedHashMap$Entry")) 0 0 []) {r : Option Nat} {σ' : Hs} (l1 : Option Nat) (t0 : Option Nat) (t1 : Option Nat) (σ : Hs) (hf : fn_J35_nextNode_b63 l1 t0 t1 σ = some (r, σ')) : wk_V E K (.inl (some (va_rf r))) σ' σ 63 [(1, vR l1)] [vR t1, vR t0] := by
  unfold fn_J35_nextNode_b63 at hf
  obtain ⟨σ1, h_σ1, hf⟩ := ho_b hf
  refine wk_putR C px_J35_26 (Or.inl ⟨_, rfl⟩) (fun q => by cases q) h_σ1 dJ35_nextNode_63 ?_
  refine wk_aload_n C 0 rfl dJ35_nextNode_66 ?_
  obtain ⟨rfl, rfl⟩ := Prod.mk.inj (Option.some.inj hf)
  exact wk_aret C (Or.inl ⟨_, rfl⟩) rfl rfl dJ35_nextNode_67
set_option maxHeartbeats 4000000 in
theorem mt_J35_nextNode {E : Ev} {l : Launch} (hl : l.stackTraces = false) {p0 : Option Nat} {σ : Hs} {r : Option Nat} {σ' : Hs} (hf : fn_J35_nextNode p0 σ = some (r, σ')) : wk_M E l yJ35_nextNode (ws_ yJ35_nextNode cJ35_nextNode 2 (Option.some (FieldType.object "java/util/LinkedHashMap$Entry"))) 0 0 [vR p0] σ (.inl (some (va_rf r))) σ' := by
  refine wk_start (by decide +kernel) hl (Nat.le_of_ble_eq_true rfl) (fun K C hK => ?_)
  subst hK
  refine wk_L (L' := [(0, vR p0)]) rfl ?_
  unfold fn_J35_nextNode at hf
  refine wk_aload_n C 0 rfl dJ35_nextNode_0 ?_
  obtain ⟨v2, h_v2, hf⟩ := ho_b hf
  refine wk_getR C fx_J35_26 h_v2 dJ35_nextNode_1 ?_
  refine wk_astore_n (L' := [(0, vR p0), (1, vR v2)]) C (by decide) rfl dJ35_nextNode_4 ?_
  refine wk_aload_n C 0 rfl dJ35_nextNode_5 ?_
  obtain ⟨v3, h_v3, hf⟩ := ho_b hf
  refine wk_getR C fx_J35_1 h_v3 dJ35_nextNode_6 ?_
  obtain ⟨v4, h_v4, hf⟩ := ho_b hf
  refine wk_getI C fx_J35_29 h_v4 dJ35_nextNode_9 ?_
  refine wk_aload_n C 0 rfl dJ35_nextNode_12 ?_
  obtain ⟨v5, h_v5, hf⟩ := ho_b hf
  refine wk_getI C fx_J35_33 h_v5 dJ35_nextNode_13 ?_
  refine wk_icmp_eq C 27 (by decide) dJ35_nextNode_16 (fun c_ => ?_) (fun c_ => ?_)
  · rw [if_pos c_] at hf
    refine wk_aload_n C 1 rfl dJ35_nextNode_27 ?_
    refine wk_ifnonnull C 39 (by decide) dJ35_nextNode_28 (fun c_ => ?_) (fun c_ => ?_)
    · rw [if_neg c_] at hf
      refine wk_aload_n C 0 rfl dJ35_nextNode_39 ?_
      refine wk_aload_n C 1 rfl dJ35_nextNode_40 ?_
      obtain ⟨σ6, h_σ6, hf⟩ := ho_b hf
      refine wk_putR C px_J35_36 (Or.inl ⟨_, rfl⟩) (fun q => by cases q) h_σ6 dJ35_nextNode_41 ?_
      refine wk_aload_n C 0 rfl dJ35_nextNode_44 ?_
      refine wk_aload_n C 0 rfl dJ35_nextNode_45 ?_
      obtain ⟨v7, h_v7, hf⟩ := ho_b hf
      refine wk_getI C fx_J35_13 h_v7 dJ35_nextNode_46 ?_
      refine wk_if_eq C 59 (by decide) dJ35_nextNode_49 (fun c_ => ?_) (fun c_ => ?_)
      · rw [if_pos c_] at hf
        refine wk_aload_n C 1 rfl dJ35_nextNode_59 ?_
        obtain ⟨v8, h_v8, hf⟩ := ho_b hf
        refine wk_getR C fx_J35_50 h_v8 dJ35_nextNode_60 ?_
        refine wk_sub (L' := [(1, vR v2)]) [1] rfl ?_
        exact wb_J35_nextNode_b63 C  _ _ _ _ hf
      · rw [if_neg c_] at hf
        refine wk_aload_n C 1 rfl dJ35_nextNode_52 ?_
        obtain ⟨v9, h_v9, hf⟩ := ho_b hf
        refine wk_getR C fx_J35_45 h_v9 dJ35_nextNode_53 ?_
        refine wk_goto C 63 (by decide) dJ35_nextNode_56 ?_
        refine wk_sub (L' := [(1, vR v2)]) [1] rfl ?_
        exact wb_J35_nextNode_b63 C  _ _ _ _ hf
    · rw [if_pos c_] at hf
      cases hf
  · rw [if_neg c_] at hf
    cases hf
set_option maxHeartbeats 4000000 in
theorem mt_J37_init {E : Ev} {l : Launch} (hl : l.stackTraces = false) {p0 : Option Nat} {p1 : Option Nat} {p2 : Int32} {σ : Hs} {σ' : Hs} (hf : fn_J37_init p0 p1 p2 σ = some σ') : wk_M E l yJ37_init (ws_ yJ37_init cJ37_init 3 (Option.none : Option FieldType)) 2 34 [vR p0, vR p1, vI p2] σ (.inl none) σ' := by
  refine wk_start (by decide +kernel) hl (Nat.le_of_ble_eq_true rfl) (fun K C hK => ?_)
  subst hK
  refine wk_L (L' := [(0, vR p0), (1, vR p1), (2, vI p2)]) rfl ?_
  unfold fn_J37_init at hf
  refine wk_aload_n C 0 rfl dJ37_init_0 ?_
  refine wk_aload_n C 1 rfl dJ37_init_1 ?_
  refine wk_iload_n C 2 rfl dJ37_init_2 ?_
  obtain ⟨b1, h_b1, hf⟩ := ho_b hf
  obtain ⟨σ2, h_σ2, hf⟩ := ho_b hf
  refine wk_callI (av := [vR p1, vI p2]) (rest := []) C cx_J37_1 h_b1 (mt_J35_init (wk_C.tr C) h_σ2) rfl (Nat.le_of_ble_eq_true rfl) (Nat.le_of_ble_eq_true rfl) (Nat.le_of_ble_eq_true rfl) dJ37_init_3 ?_
  obtain rfl := Option.some.inj hf
  exact wk_vret C rfl rfl dJ37_init_6
set_option maxHeartbeats 4000000 in
theorem mt_J38_init {E : Ev} {l : Launch} (hl : l.stackTraces = false) {p0 : Option Nat} {p1 : Option Nat} {p2 : Int32} {σ : Hs} {σ' : Hs} (hf : fn_J38_init p0 p1 p2 σ = some σ') : wk_M E l yJ38_init (ws_ yJ38_init cJ38_init 3 (Option.none : Option FieldType)) 2 34 [vR p0, vR p1, vI p2] σ (.inl none) σ' := by
  refine wk_start (by decide +kernel) hl (Nat.le_of_ble_eq_true rfl) (fun K C hK => ?_)
  subst hK
  refine wk_L (L' := [(0, vR p0), (1, vR p1), (2, vI p2)]) rfl ?_
  unfold fn_J38_init at hf
  refine wk_aload_n C 0 rfl dJ38_init_0 ?_
  refine wk_aload_n C 1 rfl dJ38_init_1 ?_
  refine wk_iload_n C 2 rfl dJ38_init_2 ?_
  obtain ⟨b1, h_b1, hf⟩ := ho_b hf
  obtain ⟨σ2, h_σ2, hf⟩ := ho_b hf
  refine wk_callI (av := [vR p1, vI p2]) (rest := []) C cx_J38_1 h_b1 (mt_J35_init (wk_C.tr C) h_σ2) rfl (Nat.le_of_ble_eq_true rfl) (Nat.le_of_ble_eq_true rfl) (Nat.le_of_ble_eq_true rfl) dJ38_init_3 ?_
  obtain rfl := Option.some.inj hf
  exact wk_vret C rfl rfl dJ38_init_6
set_option maxHeartbeats 4000000 in
theorem mt_J36_init {E : Ev} {l : Launch} (hl : l.stackTraces = false) {p0 : Option Nat} {p1 : Option Nat} {p2 : Int32} {σ : Hs} {σ' : Hs} (hf : fn_J36_init p0 p1 p2 σ = some σ') : wk_M E l yJ36_init (ws_ yJ36_init cJ36_init 3 (Option.none : Option FieldType)) 2 34 [vR p0, vR p1, vI p2] σ (.inl none) σ' := by
  refine wk_start (by decide +kernel) hl (Nat.le_of_ble_eq_true rfl) (fun K C hK => ?_)
  subst hK
  refine wk_L (L' := [(0, vR p0), (1, vR p1), (2, vI p2)]) rfl ?_
  unfold fn_J36_init at hf
  refine wk_aload_n C 0 rfl dJ36_init_0 ?_
  refine wk_aload_n C 1 rfl dJ36_init_1 ?_
  refine wk_iload_n C 2 rfl dJ36_init_2 ?_
  obtain ⟨b1, h_b1, hf⟩ := ho_b hf
  obtain ⟨σ2, h_σ2, hf⟩ := ho_b hf
  refine wk_callI (av := [vR p1, vI p2]) (rest := []) C cx_J36_1 h_b1 (mt_J35_init (wk_C.tr C) h_σ2) rfl (Nat.le_of_ble_eq_true rfl) (Nat.le_of_ble_eq_true rfl) (Nat.le_of_ble_eq_true rfl) dJ36_init_3 ?_
  obtain rfl := Option.some.inj hf
  exact wk_vret C rfl rfl dJ36_init_6
set_option maxHeartbeats 4000000 in
theorem mt_J37_next {E : Ev} {l : Launch} (hl : l.stackTraces = false) {p0 : Option Nat} {σ : Hs} {r : Option Nat} {σ' : Hs} (hf : fn_J37_next p0 σ = some (r, σ')) : wk_M E l yJ37_next (ws_ yJ37_next cJ37_next 1 (Option.some (FieldType.object "java/lang/Object"))) 1 21 [vR p0] σ (.inl (some (va_rf r))) σ' := by
  refine wk_start (by decide +kernel) hl (Nat.le_of_ble_eq_true rfl) (fun K C hK => ?_)
  subst hK
  refine wk_L (L' := [(0, vR p0)]) rfl ?_
  unfold fn_J37_next at hf
  refine wk_aload_n C 0 rfl dJ37_next_0 ?_
  obtain ⟨b1, h_b1, hf⟩ := ho_b hf
  obtain ⟨v3, σ2, h_σ2, hf⟩ := ho_e2 hf
  refine wk_callU (av := []) (rest := []) (rv := some (vR v3)) C h_b1 rx_21 cx_J37_7_21 (mt_J35_nextNode (wk_C.tr C) h_σ2) rfl rfl (Nat.le_of_ble_eq_true rfl) (Nat.le_of_ble_eq_true rfl) (Nat.le_of_ble_eq_true rfl) dJ37_next_1 ?_
  obtain ⟨b4, h_b4, hf⟩ := ho_b hf
  obtain ⟨v6, σ5, h_σ5, hf⟩ := ho_e2 hf
  refine wk_callU (av := []) (rest := []) (rv := some (vR v6)) C h_b4 rx_16 cx_J37_13_16 (mt_J25_getKey (wk_C.tr C) h_σ5) rfl rfl (Nat.le_of_ble_eq_true rfl) (Nat.le_of_ble_eq_true rfl) (Nat.le_of_ble_eq_true rfl) dJ37_next_4 ?_
  obtain ⟨rfl, rfl⟩ := Prod.mk.inj (Option.some.inj hf)
  exact wk_aret C (Or.inl ⟨_, rfl⟩) rfl rfl dJ37_next_7
set_option maxHeartbeats 4000000 in
theorem mt_J38_next {E : Ev} {l : Launch} (hl : l.stackTraces = false) {p0 : Option Nat} {σ : Hs} {r : Option Nat} {σ' : Hs} (hf : fn_J38_next p0 σ = some (r, σ')) : wk_M E l yJ38_next (ws_ yJ38_next cJ38_next 1 (Option.some (FieldType.object "java/lang/Object"))) 1 21 [vR p0] σ (.inl (some (va_rf r))) σ' := by
  refine wk_start (by decide +kernel) hl (Nat.le_of_ble_eq_true rfl) (fun K C hK => ?_)
  subst hK
  refine wk_L (L' := [(0, vR p0)]) rfl ?_
  unfold fn_J38_next at hf
  refine wk_aload_n C 0 rfl dJ38_next_0 ?_
  obtain ⟨b1, h_b1, hf⟩ := ho_b hf
  obtain ⟨v3, σ2, h_σ2, hf⟩ := ho_e2 hf
  refine wk_callU (av := []) (rest := []) (rv := some (vR v3)) C h_b1 rx_22 cx_J38_7_22 (mt_J35_nextNode (wk_C.tr C) h_σ2) rfl rfl (Nat.le_of_ble_eq_true rfl) (Nat.le_of_ble_eq_true rfl) (Nat.le_of_ble_eq_true rfl) dJ38_next_1 ?_
  obtain ⟨v4, h_v4, hf⟩ := ho_b hf
  refine wk_getR C fx_J38_13 h_v4 dJ38_next_4 ?_
  obtain ⟨rfl, rfl⟩ := Prod.mk.inj (Option.some.inj hf)
  exact wk_aret C (Or.inl ⟨_, rfl⟩) rfl rfl dJ38_next_7
set_option maxHeartbeats 4000000 in
theorem mt_J36_next_2 {E : Ev} {l : Launch} (hl : l.stackTraces = false) {p0 : Option Nat} {σ : Hs} {r : Option Nat} {σ' : Hs} (hf : fn_J36_next_2 p0 σ = some (r, σ')) : wk_M E l yJ36_next_2 (ws_ yJ36_next_2 cJ36_next_2 1 (Option.some (FieldType.object "java/util/Map$Entry"))) 1 21 [vR p0] σ (.inl (some (va_rf r))) σ' := by
  refine wk_start (by decide +kernel) hl (Nat.le_of_ble_eq_true rfl) (fun K C hK => ?_)
  subst hK
  refine wk_L (L' := [(0, vR p0)]) rfl ?_
  unfold fn_J36_next_2 at hf
  refine wk_aload_n C 0 rfl dJ36_next_2_0 ?_
  obtain ⟨b1, h_b1, hf⟩ := ho_b hf
  obtain ⟨v3, σ2, h_σ2, hf⟩ := ho_e2 hf
  refine wk_callU (av := []) (rest := []) (rv := some (vR v3)) C h_b1 rx_23 cx_J36_7_23 (mt_J35_nextNode (wk_C.tr C) h_σ2) rfl rfl (Nat.le_of_ble_eq_true rfl) (Nat.le_of_ble_eq_true rfl) (Nat.le_of_ble_eq_true rfl) dJ36_next_2_1 ?_
  obtain ⟨rfl, rfl⟩ := Prod.mk.inj (Option.some.inj hf)
  exact wk_aret C (Or.inl ⟨_, rfl⟩) rfl rfl dJ36_next_2_4
set_option maxHeartbeats 4000000 in
theorem mt_J36_next {E : Ev} {l : Launch} (hl : l.stackTraces = false) {p0 : Option Nat} {σ : Hs} {r : Option Nat} {σ' : Hs} (hf : fn_J36_next p0 σ = some (r, σ')) : wk_M E l yJ36_next (ws_ yJ36_next cJ36_next 1 (Option.some (FieldType.object "java/lang/Object"))) 2 41 [vR p0] σ (.inl (some (va_rf r))) σ' := by
  refine wk_start (by decide +kernel) hl (Nat.le_of_ble_eq_true rfl) (fun K C hK => ?_)
  subst hK
  refine wk_L (L' := [(0, vR p0)]) rfl ?_
  unfold fn_J36_next at hf
  refine wk_aload_n C 0 rfl dJ36_next_0 ?_
  obtain ⟨b1, h_b1, hf⟩ := ho_b hf
  obtain ⟨v3, σ2, h_σ2, hf⟩ := ho_e2 hf
  refine wk_callV (av := []) (rest := []) (rv := some (vR v3)) C h_b1 rx_23 cx_J36_13 (mt_J36_next_2 (wk_C.tr C) h_σ2) rfl rfl (Nat.le_of_ble_eq_true rfl) (Nat.le_of_ble_eq_true rfl) (Nat.le_of_ble_eq_true rfl) dJ36_next_1 ?_
  obtain ⟨rfl, rfl⟩ := Prod.mk.inj (Option.some.inj hf)
  exact wk_aret C (Or.inl ⟨_, rfl⟩) rfl rfl dJ36_next_4
set_option maxHeartbeats 4000000 in
theorem mt_J31_init {E : Ev} {l : Launch} (hl : l.stackTraces = false) {p0 : Option Nat} {p1 : Option Nat} {p2 : Int32} {σ : Hs} {σ' : Hs} (hf : fn_J31_init p0 p1 p2 σ = some σ') : wk_M E l yJ31_init (ws_ yJ31_init cJ31_init 3 (Option.none : Option FieldType)) 2 32 [vR p0, vR p1, vI p2] σ (.inl none) σ' := by
  refine wk_start (by decide +kernel) hl (Nat.le_of_ble_eq_true rfl) (fun K C hK => ?_)
  subst hK
  refine wk_L (L' := [(0, vR p0), (1, vR p1), (2, vI p2)]) rfl ?_
  unfold fn_J31_init at hf
  refine wk_aload_n C 0 rfl dJ31_init_0 ?_
  refine wk_aload_n C 1 rfl dJ31_init_1 ?_
  obtain ⟨σ1, h_σ1, hf⟩ := ho_b hf
  refine wk_putR C px_J31_1 (Or.inl ⟨_, rfl⟩) (fun _ => rfl) h_σ1 dJ31_init_2 ?_
  refine wk_aload_n C 0 rfl dJ31_init_5 ?_
  obtain ⟨b2, h_b2, hf⟩ := ho_b hf
  obtain ⟨σ3, h_σ3, hf⟩ := ho_b hf
  refine wk_callI (av := []) (rest := []) C cx_J31_7 h_b2 (mt_J0_init (wk_C.tr C) h_σ3) rfl (Nat.le_of_ble_eq_true rfl) (Nat.le_of_ble_eq_true rfl) (Nat.le_of_ble_eq_true rfl) dJ31_init_6 ?_
  refine wk_aload_n C 0 rfl dJ31_init_9 ?_
  refine wk_iload_n C 2 rfl dJ31_init_10 ?_
  obtain ⟨σ4, h_σ4, hf⟩ := ho_b hf
  refine wk_putZ C px_J31_13 (fun _ => rfl) h_σ4 dJ31_init_11 ?_
  obtain rfl := Option.some.inj hf
  exact wk_vret C rfl rfl dJ31_init_14
set_option maxHeartbeats 4000000 in
theorem mt_J41_init {E : Ev} {l : Launch} (hl : l.stackTraces = false) {p0 : Option Nat} {p1 : Option Nat} {p2 : Int32} {σ : Hs} {σ' : Hs} (hf : fn_J41_init p0 p1 p2 σ = some σ') : wk_M E l yJ41_init (ws_ yJ41_init cJ41_init 3 (Option.none : Option FieldType)) 3 52 [vR p0, vR p1, vI p2] σ (.inl none) σ' := by
  refine wk_start (by decide +kernel) hl (Nat.le_of_ble_eq_true rfl) (fun K C hK => ?_)
  subst hK
  refine wk_L (L' := [(0, vR p0), (1, vR p1), (2, vI p2)]) rfl ?_
  unfold fn_J41_init at hf
  refine wk_aload_n C 0 rfl dJ41_init_0 ?_
  refine wk_aload_n C 1 rfl dJ41_init_1 ?_
  obtain ⟨σ1, h_σ1, hf⟩ := ho_b hf
  refine wk_putR C px_J41_1 (Or.inl ⟨_, rfl⟩) (fun _ => rfl) h_σ1 dJ41_init_2 ?_
  refine wk_aload_n C 0 rfl dJ41_init_5 ?_
  obtain ⟨b2, h_b2, hf⟩ := ho_b hf
  obtain ⟨σ3, h_σ3, hf⟩ := ho_b hf
  refine wk_callI (av := []) (rest := []) C cx_J41_7 h_b2 (mt_J39_init (wk_C.tr C) h_σ3) rfl (Nat.le_of_ble_eq_true rfl) (Nat.le_of_ble_eq_true rfl) (Nat.le_of_ble_eq_true rfl) dJ41_init_6 ?_
  refine wk_aload_n C 0 rfl dJ41_init_9 ?_
  refine wk_iload_n C 2 rfl dJ41_init_10 ?_
  obtain ⟨σ4, h_σ4, hf⟩ := ho_b hf
  refine wk_putZ C px_J41_13 (fun _ => rfl) h_σ4 dJ41_init_11 ?_
  obtain rfl := Option.some.inj hf
  exact wk_vret C rfl rfl dJ41_init_14
set_option maxHeartbeats 4000000 in
theorem mt_J52_init {E : Ev} {l : Launch} (hl : l.stackTraces = false) {p0 : Option Nat} {p1 : Option Nat} {p2 : Int32} {σ : Hs} {σ' : Hs} (hf : fn_J52_init p0 p1 p2 σ = some σ') : wk_M E l yJ52_init (ws_ yJ52_init cJ52_init 3 (Option.none : Option FieldType)) 3 52 [vR p0, vR p1, vI p2] σ (.inl none) σ' := by
  refine wk_start (by decide +kernel) hl (Nat.le_of_ble_eq_true rfl) (fun K C hK => ?_)
  subst hK
  refine wk_L (L' := [(0, vR p0), (1, vR p1), (2, vI p2)]) rfl ?_
  unfold fn_J52_init at hf
  refine wk_aload_n C 0 rfl dJ52_init_0 ?_
  refine wk_aload_n C 1 rfl dJ52_init_1 ?_
  obtain ⟨σ1, h_σ1, hf⟩ := ho_b hf
  refine wk_putR C px_J52_1 (Or.inl ⟨_, rfl⟩) (fun _ => rfl) h_σ1 dJ52_init_2 ?_
  refine wk_aload_n C 0 rfl dJ52_init_5 ?_
  obtain ⟨b2, h_b2, hf⟩ := ho_b hf
  obtain ⟨σ3, h_σ3, hf⟩ := ho_b hf
  refine wk_callI (av := []) (rest := []) C cx_J52_7 h_b2 (mt_J39_init (wk_C.tr C) h_σ3) rfl (Nat.le_of_ble_eq_true rfl) (Nat.le_of_ble_eq_true rfl) (Nat.le_of_ble_eq_true rfl) dJ52_init_6 ?_
  refine wk_aload_n C 0 rfl dJ52_init_9 ?_
  refine wk_iload_n C 2 rfl dJ52_init_10 ?_
  obtain ⟨σ4, h_σ4, hf⟩ := ho_b hf
  refine wk_putZ C px_J52_13 (fun _ => rfl) h_σ4 dJ52_init_11 ?_
  obtain rfl := Option.some.inj hf
  exact wk_vret C rfl rfl dJ52_init_14
set_option maxHeartbeats 4000000 in
theorem mt_J31_iterator {E : Ev} {l : Launch} (hl : l.stackTraces = false) {p0 : Option Nat} {σ : Hs} {r : Option Nat} {σ' : Hs} (hf : fn_J31_iterator p0 σ = some (r, σ')) : wk_M E l yJ31_iterator (ws_ yJ31_iterator cJ31_iterator 1 (Option.some (FieldType.object "java/util/Iterator"))) 3 56 [vR p0] σ (.inl (some (va_rf r))) σ' := by
  refine wk_start (by decide +kernel) hl (Nat.le_of_ble_eq_true rfl) (fun K C hK => ?_)
  subst hK
  refine wk_L (L' := [(0, vR p0)]) rfl ?_
  unfold fn_J31_iterator at hf
  obtain ⟨v1, σ2, h_σ2, hf⟩ := ho_e2 hf
  refine wk_new C nx_J31_26 h_σ2 dJ31_iterator_0 ?_
  refine wk_dup C rfl dJ31_iterator_3 ?_
  refine wk_aload_n C 0 rfl dJ31_iterator_4 ?_
  obtain ⟨v3, h_v3, hf⟩ := ho_b hf
  refine wk_getR C fx_J31_1 h_v3 dJ31_iterator_5 ?_
  refine wk_aload_n C 0 rfl dJ31_iterator_8 ?_
  obtain ⟨v4, h_v4, hf⟩ := ho_b hf
  refine wk_getI C fx_J31_13 h_v4 dJ31_iterator_9 ?_
  obtain ⟨b5, h_b5, hf⟩ := ho_b hf
  obtain ⟨σ6, h_σ6, hf⟩ := ho_b hf
  refine wk_callI (av := [vR v3, vI v4]) (rest := [vR v1]) C cx_J31_28 h_b5 (mt_J38_init (wk_C.tr C) h_σ6) rfl (Nat.le_of_ble_eq_true rfl) (Nat.le_of_ble_eq_true rfl) (Nat.le_of_ble_eq_true rfl) dJ31_iterator_12 ?_
  obtain ⟨rfl, rfl⟩ := Prod.mk.inj (Option.some.inj hf)
  exact wk_aret C (Or.inl ⟨_, rfl⟩) rfl rfl dJ31_iterator_15
set_option maxHeartbeats 4000000 in
theorem mt_J41_iterator {E : Ev} {l : Launch} (hl : l.stackTraces = false) {p0 : Option Nat} {σ : Hs} {r : Option Nat} {σ' : Hs} (hf : fn_J41_iterator p0 σ = some (r, σ')) : wk_M E l yJ41_iterator (ws_ yJ41_iterator cJ41_iterator 1 (Option.some (FieldType.object "java/util/Iterator"))) 3 56 [vR p0] σ (.inl (some (va_rf r))) σ' := by
  refine wk_start (by decide +kernel) hl (Nat.le_of_ble_eq_true rfl) (fun K C hK => ?_)
  subst hK
  refine wk_L (L' := [(0, vR p0)]) rfl ?_
  unfold fn_J41_iterator at hf
  obtain ⟨v1, σ2, h_σ2, hf⟩ := ho_e2 hf
  refine wk_new C nx_J41_26 h_σ2 dJ41_iterator_0 ?_
  refine wk_dup C rfl dJ41_iterator_3 ?_
  refine wk_aload_n C 0 rfl dJ41_iterator_4 ?_
  obtain ⟨v3, h_v3, hf⟩ := ho_b hf
  refine wk_getR C fx_J41_1 h_v3 dJ41_iterator_5 ?_
  refine wk_aload_n C 0 rfl dJ41_iterator_8 ?_
  obtain ⟨v4, h_v4, hf⟩ := ho_b hf
  refine wk_getI C fx_J41_13 h_v4 dJ41_iterator_9 ?_
  obtain ⟨b5, h_b5, hf⟩ := ho_b hf
  obtain ⟨σ6, h_σ6, hf⟩ := ho_b hf
  refine wk_callI (av := [vR v3, vI v4]) (rest := [vR v1]) C cx_J41_28 h_b5 (mt_J37_init (wk_C.tr C) h_σ6) rfl (Nat.le_of_ble_eq_true rfl) (Nat.le_of_ble_eq_true rfl) (Nat.le_of_ble_eq_true rfl) dJ41_iterator_12 ?_
  obtain ⟨rfl, rfl⟩ := Prod.mk.inj (Option.some.inj hf)
  exact wk_aret C (Or.inl ⟨_, rfl⟩) rfl rfl dJ41_iterator_15
set_option maxHeartbeats 4000000 in
theorem mt_J52_iterator {E : Ev} {l : Launch} (hl : l.stackTraces = false) {p0 : Option Nat} {σ : Hs} {r : Option Nat} {σ' : Hs} (hf : fn_J52_iterator p0 σ = some (r, σ')) : wk_M E l yJ52_iterator (ws_ yJ52_iterator cJ52_iterator 1 (Option.some (FieldType.object "java/util/Iterator"))) 3 56 [vR p0] σ (.inl (some (va_rf r))) σ' := by
  refine wk_start (by decide +kernel) hl (Nat.le_of_ble_eq_true rfl) (fun K C hK => ?_)
  subst hK
  refine wk_L (L' := [(0, vR p0)]) rfl ?_
  unfold fn_J52_iterator at hf
  obtain ⟨v1, σ2, h_σ2, hf⟩ := ho_e2 hf
  refine wk_new C nx_J52_26 h_σ2 dJ52_iterator_0 ?_
  refine wk_dup C rfl dJ52_iterator_3 ?_
  refine wk_aload_n C 0 rfl dJ52_iterator_4 ?_
  obtain ⟨v3, h_v3, hf⟩ := ho_b hf
  refine wk_getR C fx_J52_1 h_v3 dJ52_iterator_5 ?_
  refine wk_aload_n C 0 rfl dJ52_iterator_8 ?_
  obtain ⟨v4, h_v4, hf⟩ := ho_b hf
  refine wk_getI C fx_J52_13 h_v4 dJ52_iterator_9 ?_
  obtain ⟨b5, h_b5, hf⟩ := ho_b hf
  obtain ⟨σ6, h_σ6, hf⟩ := ho_b hf
  refine wk_callI (av := [vR v3, vI v4]) (rest := [vR v1]) C cx_J52_28 h_b5 (mt_J36_init (wk_C.tr C) h_σ6) rfl (Nat.le_of_ble_eq_true rfl) (Nat.le_of_ble_eq_true rfl) (Nat.le_of_ble_eq_true rfl) dJ52_iterator_12 ?_
  obtain ⟨rfl, rfl⟩ := Prod.mk.inj (Option.some.inj hf)
  exact wk_aret C (Or.inl ⟨_, rfl⟩) rfl rfl dJ52_iterator_15
set_option maxHeartbeats 4000000 in
theorem mt_J41_size {E : Ev} {l : Launch} (hl : l.stackTraces = false) {p0 : Option Nat} {σ : Hs} {r : Int32} {σ' : Hs} (hf : fn_J41_size p0 σ = some (r, σ')) : wk_M E l yJ41_size (ws_ yJ41_size cJ41_size 1 (Option.some FieldType.int)) 0 0 [vR p0] σ (.inl (some (.int r))) σ' := by
  refine wk_start (by decide +kernel) hl (Nat.le_of_ble_eq_true rfl) (fun K C hK => ?_)
  subst hK
  refine wk_L (L' := [(0, vR p0)]) rfl ?_
  unfold fn_J41_size at hf
  refine wk_aload_n C 0 rfl dJ41_size_0 ?_
  obtain ⟨v1, h_v1, hf⟩ := ho_b hf
  refine wk_getR C fx_J41_1 h_v1 dJ41_size_1 ?_
  obtain ⟨v2, h_v2, hf⟩ := ho_b hf
  refine wk_getI C fx_J41_17 h_v2 dJ41_size_4 ?_
  obtain ⟨rfl, rfl⟩ := Prod.mk.inj (Option.some.inj hf)
  exact wk_iret C rfl rfl dJ41_size_7
set_option maxHeartbeats 4000000 in
theorem mt_J52_size {E : Ev} {l : Launch} (hl : l.stackTraces = false) {p0 : Option Nat} {σ : Hs} {r : Int32} {σ' : Hs} (hf : fn_J52_size p0 σ = some (r, σ')) : wk_M E l yJ52_size (ws_ yJ52_size cJ52_size 1 (Option.some FieldType.int)) 0 0 [vR p0] σ (.inl (some (.int r))) σ' := by
  refine wk_start (by decide +kernel) hl (Nat.le_of_ble_eq_true rfl) (fun K C hK => ?_)
  subst hK
  refine wk_L (L' := [(0, vR p0)]) rfl ?_
  unfold fn_J52_size at hf
  refine wk_aload_n C 0 rfl dJ52_size_0 ?_
  obtain ⟨v1, h_v1, hf⟩ := ho_b hf
  refine wk_getR C fx_J52_1 h_v1 dJ52_size_1 ?_
  obtain ⟨v2, h_v2, hf⟩ := ho_b hf
  refine wk_getI C fx_J52_17 h_v2 dJ52_size_4 ?_
  obtain ⟨rfl, rfl⟩ := Prod.mk.inj (Option.some.inj hf)
  exact wk_iret C rfl rfl dJ52_size_7
set_option maxHeartbeats 4000000 in
theorem mt_J19_sequencedValues {E : Ev} {l : Launch} (hl : l.stackTraces = false) {p0 : Option Nat} {σ : Hs} {r : Option Nat} {σ' : Hs} (hf : fn_J19_sequencedValues p0 σ = some (r, σ')) : wk_M E l yJ19_sequencedValues (ws_ yJ19_sequencedValues cJ19_sequencedValues 3 (Option.some (FieldType.object "java/util/SequencedCollection"))) 3 54 [vR p0] σ (.inl (some (va_rf r))) σ' := by
  refine wk_start (by decide +kernel) hl (Nat.le_of_ble_eq_true rfl) (fun K C hK => ?_)
  subst hK
  refine wk_L (L' := [(0, vR p0)]) rfl ?_
  unfold fn_J19_sequencedValues at hf
  refine wk_aload_n C 0 rfl dJ19_sequencedValues_0 ?_
  obtain ⟨v1, h_v1, hf⟩ := ho_b hf
  refine wk_getR C fx_J19_139 h_v1 dJ19_sequencedValues_1 ?_
  refine wk_astore_n (L' := [(0, vR p0), (1, vR v1)]) C (by decide) rfl dJ19_sequencedValues_4 ?_
  refine wk_aload_n C 1 rfl dJ19_sequencedValues_5 ?_
  refine wk_ifnonnull C 26 (by decide) dJ19_sequencedValues_6 (fun c_ => ?_) (fun c_ => ?_)
  · rw [if_neg c_] at hf
    refine wk_aload_n C 1 rfl dJ19_sequencedValues_26 ?_
    obtain ⟨u2, h_u2, hf⟩ := ho_b hf
    refine wk_cast C q916 (List.forall_mem_cons.mpr ⟨ax_cast rx_13 q3831, List.forall_mem_cons.mpr ⟨ax_cast rx_17 q3830, List.forall_mem_cons.mpr ⟨ax_cast rx_18 q3834, List.forall_mem_cons.mpr ⟨ax_cast rx_19 q3833, List.forall_mem_cons.mpr ⟨ax_cast rx_20 q3832, List.forall_mem_cons.mpr ⟨ax_cast rx_24 q3835, (List.forall_mem_nil _)⟩⟩⟩⟩⟩⟩) h_u2 dJ19_sequencedValues_27 ?_
    obtain ⟨rfl, rfl⟩ := Prod.mk.inj (Option.some.inj hf)
    exact wk_aret C (Or.inl ⟨_, rfl⟩) rfl rfl dJ19_sequencedValues_30
  · rw [if_pos c_] at hf
    obtain ⟨v3, σ4, h_σ4, hf⟩ := ho_e2 hf
    refine wk_new C nx_J19_143 h_σ4 dJ19_sequencedValues_9 ?_
    refine wk_dup C rfl dJ19_sequencedValues_12 ?_
    refine wk_aload_n C 0 rfl dJ19_sequencedValues_13 ?_
    refine wk_iconst (v := 0) C dJ19_sequencedValues_14 rfl ?_
    obtain ⟨b5, h_b5, hf⟩ := ho_b hf
    obtain ⟨σ6, h_σ6, hf⟩ := ho_b hf
    refine wk_callI (av := [vR p0, vI (0 : Int32)]) (rest := [vR v3]) C cx_J19_145 h_b5 (mt_J31_init (wk_C.tr C) h_σ6) rfl (Nat.le_of_ble_eq_true rfl) (Nat.le_of_ble_eq_true rfl) (Nat.le_of_ble_eq_true rfl) dJ19_sequencedValues_15 ?_
    refine wk_astore_n (L' := [(0, vR p0), (1, vR v1), (2, vR v3)]) C (by decide) rfl dJ19_sequencedValues_18 ?_
    refine wk_aload_n C 0 rfl dJ19_sequencedValues_19 ?_
    refine wk_aload_n C 2 rfl dJ19_sequencedValues_20 ?_
    obtain ⟨σ7, h_σ7, hf⟩ := ho_b hf
    refine wk_putR C px_J19_139 (Or.inl ⟨_, rfl⟩) (fun q => by cases q) h_σ7 dJ19_sequencedValues_21 ?_
    refine wk_aload_n C 2 rfl dJ19_sequencedValues_24 ?_
    obtain ⟨rfl, rfl⟩ := Prod.mk.inj (Option.some.inj hf)
    exact wk_aret C (Or.inl ⟨_, rfl⟩) rfl rfl dJ19_sequencedValues_25
set_option maxHeartbeats 4000000 in
theorem mt_J19_values {E : Ev} {l : Launch} (hl : l.stackTraces = false) {p0 : Option Nat} {σ : Hs} {r : Option Nat} {σ' : Hs} (hf : fn_J19_values p0 σ = some (r, σ')) : wk_M E l yJ19_values (ws_ yJ19_values cJ19_values 1 (Option.some (FieldType.object "java/util/Collection"))) 4 76 [vR p0] σ (.inl (some (va_rf r))) σ' := by
  refine wk_start (by decide +kernel) hl (Nat.le_of_ble_eq_true rfl) (fun K C hK => ?_)
  subst hK
  refine wk_L (L' := [(0, vR p0)]) rfl ?_
  unfold fn_J19_values at hf
  refine wk_aload_n C 0 rfl dJ19_values_0 ?_
  obtain ⟨b1, h_b1, hf⟩ := ho_b hf
  obtain ⟨v3, σ2, h_σ2, hf⟩ := ho_e2 hf
  refine wk_callV (av := []) (rest := []) (rv := some (vR v3)) C h_b1 rx_15 cx_J19_135 (mt_J19_sequencedValues (wk_C.tr C) h_σ2) rfl rfl (Nat.le_of_ble_eq_true rfl) (Nat.le_of_ble_eq_true rfl) (Nat.le_of_ble_eq_true rfl) dJ19_values_1 ?_
  obtain ⟨rfl, rfl⟩ := Prod.mk.inj (Option.some.inj hf)
  exact wk_aret C (Or.inl ⟨_, rfl⟩) rfl rfl dJ19_values_4
set_option maxHeartbeats 4000000 in
theorem mt_J19_sequencedKeySet {E : Ev} {l : Launch} (hl : l.stackTraces = false) {p0 : Option Nat} {σ : Hs} {r : Option Nat} {σ' : Hs} (hf : fn_J19_sequencedKeySet p0 σ = some (r, σ')) : wk_M E l yJ19_sequencedKeySet (ws_ yJ19_sequencedKeySet cJ19_sequencedKeySet 3 (Option.some (FieldType.object "java/util/SequencedSet"))) 4 74 [vR p0] σ (.inl (some (va_rf r))) σ' := by
  refine wk_start (by decide +kernel) hl (Nat.le_of_ble_eq_true rfl) (fun K C hK => ?_)
  subst hK
  refine wk_L (L' := [(0, vR p0)]) rfl ?_
  unfold fn_J19_sequencedKeySet at hf
  refine wk_aload_n C 0 rfl dJ19_sequencedKeySet_0 ?_
  obtain ⟨v1, h_v1, hf⟩ := ho_b hf
  refine wk_getR C fx_J19_117 h_v1 dJ19_sequencedKeySet_1 ?_
  refine wk_astore_n (L' := [(0, vR p0), (1, vR v1)]) C (by decide) rfl dJ19_sequencedKeySet_4 ?_
  refine wk_aload_n C 1 rfl dJ19_sequencedKeySet_5 ?_
  refine wk_ifnonnull C 26 (by decide) dJ19_sequencedKeySet_6 (fun c_ => ?_) (fun c_ => ?_)
  · rw [if_neg c_] at hf
    refine wk_aload_n C 1 rfl dJ19_sequencedKeySet_26 ?_
    obtain ⟨u2, h_u2, hf⟩ := ho_b hf
    refine wk_cast C q1085 (List.forall_mem_cons.mpr ⟨ax_cast rx_19 q3824, List.forall_mem_cons.mpr ⟨ax_cast rx_20 q3823, List.forall_mem_cons.mpr ⟨ax_cast rx_24 q3825, (List.forall_mem_nil _)⟩⟩⟩) h_u2 dJ19_sequencedKeySet_27 ?_
    obtain ⟨rfl, rfl⟩ := Prod.mk.inj (Option.some.inj hf)
    exact wk_aret C (Or.inl ⟨_, rfl⟩) rfl rfl dJ19_sequencedKeySet_30
  · rw [if_pos c_] at hf
    obtain ⟨v3, σ4, h_σ4, hf⟩ := ho_e2 hf
    refine wk_new C nx_J19_121 h_σ4 dJ19_sequencedKeySet_9 ?_
    refine wk_dup C rfl dJ19_sequencedKeySet_12 ?_
    refine wk_aload_n C 0 rfl dJ19_sequencedKeySet_13 ?_
    refine wk_iconst (v := 0) C dJ19_sequencedKeySet_14 rfl ?_
    obtain ⟨b5, h_b5, hf⟩ := ho_b hf
    obtain ⟨σ6, h_σ6, hf⟩ := ho_b hf
    refine wk_callI (av := [vR p0, vI (0 : Int32)]) (rest := [vR v3]) C cx_J19_123 h_b5 (mt_J41_init (wk_C.tr C) h_σ6) rfl (Nat.le_of_ble_eq_true rfl) (Nat.le_of_ble_eq_true rfl) (Nat.le_of_ble_eq_true rfl) dJ19_sequencedKeySet_15 ?_
    refine wk_astore_n (L' := [(0, vR p0), (1, vR v1), (2, vR v3)]) C (by decide) rfl dJ19_sequencedKeySet_18 ?_
    refine wk_aload_n C 0 rfl dJ19_sequencedKeySet_19 ?_
    refine wk_aload_n C 2 rfl dJ19_sequencedKeySet_20 ?_
    obtain ⟨σ7, h_σ7, hf⟩ := ho_b hf
    refine wk_putR C px_J19_117 (Or.inl ⟨_, rfl⟩) (fun q => by cases q) h_σ7 dJ19_sequencedKeySet_21 ?_
    refine wk_aload_n C 2 rfl dJ19_sequencedKeySet_24 ?_
    obtain ⟨rfl, rfl⟩ := Prod.mk.inj (Option.some.inj hf)
    exact wk_aret C (Or.inl ⟨_, rfl⟩) rfl rfl dJ19_sequencedKeySet_25
set_option maxHeartbeats 4000000 in
theorem mt_J19_keySet {E : Ev} {l : Launch} (hl : l.stackTraces = false) {p0 : Option Nat} {σ : Hs} {r : Option Nat} {σ' : Hs} (hf : fn_J19_keySet p0 σ = some (r, σ')) : wk_M E l yJ19_keySet (ws_ yJ19_keySet cJ19_keySet 1 (Option.some (FieldType.object "java/util/Set"))) 5 96 [vR p0] σ (.inl (some (va_rf r))) σ' := by
  refine wk_start (by decide +kernel) hl (Nat.le_of_ble_eq_true rfl) (fun K C hK => ?_)
  subst hK
  refine wk_L (L' := [(0, vR p0)]) rfl ?_
  unfold fn_J19_keySet at hf
  refine wk_aload_n C 0 rfl dJ19_keySet_0 ?_
  obtain ⟨b1, h_b1, hf⟩ := ho_b hf
  obtain ⟨v3, σ2, h_σ2, hf⟩ := ho_e2 hf
  refine wk_callV (av := []) (rest := []) (rv := some (vR v3)) C h_b1 rx_15 cx_J19_113 (mt_J19_sequencedKeySet (wk_C.tr C) h_σ2) rfl rfl (Nat.le_of_ble_eq_true rfl) (Nat.le_of_ble_eq_true rfl) (Nat.le_of_ble_eq_true rfl) dJ19_keySet_1 ?_
  obtain ⟨rfl, rfl⟩ := Prod.mk.inj (Option.some.inj hf)
  exact wk_aret C (Or.inl ⟨_, rfl⟩) rfl rfl dJ19_keySet_4
set_option maxHeartbeats 4000000 in
theorem mt_J19_sequencedEntrySet {E : Ev} {l : Launch} (hl : l.stackTraces = false) {p0 : Option Nat} {σ : Hs} {r : Option Nat} {σ' : Hs} (hf : fn_J19_sequencedEntrySet p0 σ = some (r, σ')) : wk_M E l yJ19_sequencedEntrySet (ws_ yJ19_sequencedEntrySet cJ19_sequencedEntrySet 3 (Option.some (FieldType.object "java/util/SequencedSet"))) 4 74 [vR p0] σ (.inl (some (va_rf r))) σ' := by
  refine wk_start (by decide +kernel) hl (Nat.le_of_ble_eq_true rfl) (fun K C hK => ?_)
  subst hK
  refine wk_L (L' := [(0, vR p0)]) rfl ?_
  unfold fn_J19_sequencedEntrySet at hf
  refine wk_aload_n C 0 rfl dJ19_sequencedEntrySet_0 ?_
  obtain ⟨v1, h_v1, hf⟩ := ho_b hf
  refine wk_getR C fx_J19_151 h_v1 dJ19_sequencedEntrySet_1 ?_
  refine wk_astore_n (L' := [(0, vR p0), (1, vR v1)]) C (by decide) rfl dJ19_sequencedEntrySet_4 ?_
  refine wk_aload_n C 1 rfl dJ19_sequencedEntrySet_5 ?_
  refine wk_ifnonnull C 26 (by decide) dJ19_sequencedEntrySet_6 (fun c_ => ?_) (fun c_ => ?_)
  · rw [if_neg c_] at hf
    refine wk_aload_n C 1 rfl dJ19_sequencedEntrySet_26 ?_
    obtain ⟨u2, h_u2, hf⟩ := ho_b hf
    refine wk_cast C q1085 (List.forall_mem_cons.mpr ⟨ax_cast rx_19 q3824, List.forall_mem_cons.mpr ⟨ax_cast rx_20 q3823, List.forall_mem_cons.mpr ⟨ax_cast rx_24 q3825, (List.forall_mem_nil _)⟩⟩⟩) h_u2 dJ19_sequencedEntrySet_27 ?_
    obtain ⟨rfl, rfl⟩ := Prod.mk.inj (Option.some.inj hf)
    exact wk_aret C (Or.inl ⟨_, rfl⟩) rfl rfl dJ19_sequencedEntrySet_30
  · rw [if_pos c_] at hf
    obtain ⟨v3, σ4, h_σ4, hf⟩ := ho_e2 hf
    refine wk_new C nx_J19_154 h_σ4 dJ19_sequencedEntrySet_9 ?_
    refine wk_dup C rfl dJ19_sequencedEntrySet_12 ?_
    refine wk_aload_n C 0 rfl dJ19_sequencedEntrySet_13 ?_
    refine wk_iconst (v := 0) C dJ19_sequencedEntrySet_14 rfl ?_
    obtain ⟨b5, h_b5, hf⟩ := ho_b hf
    obtain ⟨σ6, h_σ6, hf⟩ := ho_b hf
    refine wk_callI (av := [vR p0, vI (0 : Int32)]) (rest := [vR v3]) C cx_J19_156 h_b5 (mt_J52_init (wk_C.tr C) h_σ6) rfl (Nat.le_of_ble_eq_true rfl) (Nat.le_of_ble_eq_true rfl) (Nat.le_of_ble_eq_true rfl) dJ19_sequencedEntrySet_15 ?_
    refine wk_astore_n (L' := [(0, vR p0), (1, vR v1), (2, vR v3)]) C (by decide) rfl dJ19_sequencedEntrySet_18 ?_
    refine wk_aload_n C 0 rfl dJ19_sequencedEntrySet_19 ?_
    refine wk_aload_n C 2 rfl dJ19_sequencedEntrySet_20 ?_
    obtain ⟨σ7, h_σ7, hf⟩ := ho_b hf
    refine wk_putR C px_J19_151 (Or.inl ⟨_, rfl⟩) (fun q => by cases q) h_σ7 dJ19_sequencedEntrySet_21 ?_
    refine wk_aload_n C 2 rfl dJ19_sequencedEntrySet_24 ?_
    obtain ⟨rfl, rfl⟩ := Prod.mk.inj (Option.some.inj hf)
    exact wk_aret C (Or.inl ⟨_, rfl⟩) rfl rfl dJ19_sequencedEntrySet_25
set_option maxHeartbeats 4000000 in
theorem mt_J19_entrySet {E : Ev} {l : Launch} (hl : l.stackTraces = false) {p0 : Option Nat} {σ : Hs} {r : Option Nat} {σ' : Hs} (hf : fn_J19_entrySet p0 σ = some (r, σ')) : wk_M E l yJ19_entrySet (ws_ yJ19_entrySet cJ19_entrySet 1 (Option.some (FieldType.object "java/util/Set"))) 5 96 [vR p0] σ (.inl (some (va_rf r))) σ' := by
  refine wk_start (by decide +kernel) hl (Nat.le_of_ble_eq_true rfl) (fun K C hK => ?_)
  subst hK
  refine wk_L (L' := [(0, vR p0)]) rfl ?_
  unfold fn_J19_entrySet at hf
  refine wk_aload_n C 0 rfl dJ19_entrySet_0 ?_
  obtain ⟨b1, h_b1, hf⟩ := ho_b hf
  obtain ⟨v3, σ2, h_σ2, hf⟩ := ho_e2 hf
  refine wk_callV (av := []) (rest := []) (rv := some (vR v3)) C h_b1 rx_15 cx_J19_148 (mt_J19_sequencedEntrySet (wk_C.tr C) h_σ2) rfl rfl (Nat.le_of_ble_eq_true rfl) (Nat.le_of_ble_eq_true rfl) (Nat.le_of_ble_eq_true rfl) dJ19_entrySet_1 ?_
  obtain ⟨rfl, rfl⟩ := Prod.mk.inj (Option.some.inj hf)
  exact wk_aret C (Or.inl ⟨_, rfl⟩) rfl rfl dJ19_entrySet_4
set_option maxHeartbeats 4000000 in
theorem wb_J18_putMapEntries_b169 {E : Ev} {K : Kx} (C : wk_C E K yJ18_putMapEntries cJ18_putMapEntries 8 (Option.none : Option FieldType) 6 117 []) {σ' : Hs}  (σ : Hs) (hf : fn_J18_putMapEntries_b169  σ = some σ') : wk_V E K (.inl none) σ' σ 169 [] [] := by
  unfold fn_J18_putMapEntries_b169 at hf
  obtain rfl := Option.some.inj hf
  exact wk_vret C rfl rfl dJ18_putMapEntries_169
set_option maxHeartbeats 4000000 in
theorem wb_J18_putMapEntries_b110 {E : Ev} {K : Kx} (C : wk_C E K yJ18_putMapEntries cJ18_putMapEntries 8 (Option.none : Option FieldType) 6 117 []) {σ' : Hs} : ∀ (n : Nat) (l0 : Option Nat) (l2 : Int32) (l4 : Option Nat) (σ : Hs), fn_J18_putMapEntries_b110 n l0 l2 l4 σ = some σ' → wk_V E K (.inl none) σ' σ 110 [(0, vR l0), (2, vI l2), (4, vR l4)] [] := by
  intro n
  induction n with
  | zero =>
    intro l0 l2 l4 σ hf
    rw [fn_J18_putMapEntries_b110] at hf
    cases hf
  | succ n ih =>
    intro l0 l2 l4 σ hf
    rw [fn_J18_putMapEntries_b110] at hf
    refine wk_aload C 2 rfl dJ18_putMapEntries_110 ?_
    obtain ⟨b1, h_b1, hf⟩ := ho_b hf
    obtain ⟨v3, σ2, h_σ2, hf⟩ := ho_e2 hf
    refine wk_callF (av := []) (rest := []) (rv := some (vI v3)) C h_b1 rx_23 cx_J18_131_23 (mt_J35_hasNext (wk_C.tr C) h_σ2) rfl rfl (Nat.le_of_ble_eq_true rfl) (Nat.le_of_ble_eq_true rfl) (Nat.le_of_ble_eq_true rfl) dJ18_putMapEntries_112 ?_
    refine wk_if_eq C 169 (by decide) dJ18_putMapEntries_117 (fun c_ => ?_) (fun c_ => ?_)
    · rw [if_pos c_] at hf
      refine wk_sub (L' := []) [] rfl ?_
      exact wb_J18_putMapEntries_b169 C   _ hf
    · rw [if_neg c_] at hf
      refine wk_aload C 2 rfl dJ18_putMapEntries_120 ?_
      obtain ⟨b4, h_b4, hf⟩ := ho_b hf
      obtain ⟨v6, σ5, h_σ5, hf⟩ := ho_e2 hf
      refine wk_callF (av := []) (rest := []) (rv := some (vR v6)) C h_b4 rx_23 cx_J18_137_23 (mt_J36_next (wk_C.tr C) h_σ5) rfl rfl (Nat.le_of_ble_eq_true rfl) (Nat.le_of_ble_eq_true rfl) (Nat.le_of_ble_eq_true rfl) dJ18_putMapEntries_122 ?_
      obtain ⟨u7, h_u7, hf⟩ := ho_b hf
      refine wk_cast C q2550 (List.forall_mem_cons.mpr ⟨ax_cast rx_16 q2562, (List.forall_mem_nil _)⟩) h_u7 dJ18_putMapEntries_127 ?_
      refine wk_astore (L' := [(0, vR l0), (2, vI l2), (4, vR l4), (5, vR v6)]) C (by decide) rfl dJ18_putMapEntries_130 ?_
      refine wk_aload C 3 rfl dJ18_putMapEntries_132 ?_
      obtain ⟨b8, h_b8, hf⟩ := ho_b hf
      obtain ⟨v10, σ9, h_σ9, hf⟩ := ho_e2 hf
      refine wk_callF (av := []) (rest := []) (rv := some (vR v10)) C h_b8 rx_16 cx_J18_143_16 (mt_J25_getKey (wk_C.tr C) h_σ9) rfl rfl (Nat.le_of_ble_eq_true rfl) (Nat.le_of_ble_eq_true rfl) (Nat.le_of_ble_eq_true rfl) dJ18_putMapEntries_134 ?_
      refine wk_astore (L' := [(0, vR l0), (2, vI l2), (4, vR l4), (5, vR v6), (6, vR v10)]) C (by decide) rfl dJ18_putMapEntries_139 ?_
      refine wk_aload C 3 rfl dJ18_putMapEntries_141 ?_
      obtain ⟨b11, h_b11, hf⟩ := ho_b hf
      obtain ⟨v13, σ12, h_σ12, hf⟩ := ho_e2 hf
      refine wk_callF (av := []) (rest := []) (rv := some (vR v13)) C h_b11 rx_16 cx_J18_146_16 (mt_J25_getValue (wk_C.tr C) h_σ12) rfl rfl (Nat.le_of_ble_eq_true rfl) (Nat.le_of_ble_eq_true rfl) (Nat.le_of_ble_eq_true rfl) dJ18_putMapEntries_143 ?_
      refine wk_astore (L' := [(0, vR l0), (2, vI l2), (4, vR l4), (5, vR v6), (6, vR v10), (7, vR v13)]) C (by decide) rfl dJ18_putMapEntries_148 ?_
      refine wk_aload_n C 0 rfl dJ18_putMapEntries_150 ?_
      refine wk_aload C 4 rfl dJ18_putMapEntries_151 ?_
      obtain ⟨v15, σ14, h_σ14, hf⟩ := ho_e2 hf
      refine wk_callS (av := [vR v10]) (rest := [vR l0]) (rv := some (vI v15)) C cx_J18_149 (mt_J18_hash (wk_C.tr C) h_σ14) rfl rfl (Nat.le_of_ble_eq_true rfl) (Nat.le_of_ble_eq_true rfl) (Nat.le_of_ble_eq_true rfl) dJ18_putMapEntries_153 ?_
      refine wk_aload C 4 rfl dJ18_putMapEntries_156 ?_
      refine wk_aload C 5 rfl dJ18_putMapEntries_158 ?_
      refine wk_iconst (v := 0) C dJ18_putMapEntries_160 rfl ?_
      refine wk_iload_n C 1 rfl dJ18_putMapEntries_161 ?_
      obtain ⟨b16, h_b16, hf⟩ := ho_b hf
      obtain ⟨v18, σ17, h_σ17, hf⟩ := ho_e2 hf
      refine wk_callV (av := [vI v15, vR v10, vR v13, vI (0 : Int32), vI l2]) (rest := []) (rv := some (vR v18)) C h_b16 rx_15 cx_J18_152 (mt_J18_putVal (wk_C.tr C) h_σ17) rfl rfl (Nat.le_of_ble_eq_true rfl) (Nat.le_of_ble_eq_true rfl) (Nat.le_of_ble_eq_true rfl) dJ18_putMapEntries_162 ?_
      refine wk_pop C rfl dJ18_putMapEntries_165 ?_
      refine wk_goto C 110 (by decide) dJ18_putMapEntries_166 ?_
      refine wk_sub (L' := [(0, vR l0), (2, vI l2), (4, vR l4)]) [0, 1, 2] rfl ?_
      exact ih _ _ _ _ hf
set_option maxHeartbeats 4000000 in
theorem wb_J18_putMapEntries_b97 {E : Ev} {K : Kx} (C : wk_C E K yJ18_putMapEntries cJ18_putMapEntries 8 (Option.none : Option FieldType) 6 117 []) {σ' : Hs} (l0 : Option Nat) (l1 : Option Nat) (l2 : Int32) (σ : Hs) (hf : fn_J18_putMapEntries_b97 l0 l1 l2 σ = some σ') : wk_V E K (.inl none) σ' σ 97 [(0, vR l0), (1, vR l1), (2, vI l2)] [] := by
  unfold fn_J18_putMapEntries_b97 at hf
  refine wk_aload_n C 1 rfl dJ18_putMapEntries_97 ?_
  obtain ⟨b19, h_b19, hf⟩ := ho_b hf
  obtain ⟨v21, σ20, h_σ20, hf⟩ := ho_e2 hf
  refine wk_callF (av := []) (rest := []) (rv := some (vR v21)) C h_b19 rx_15 cx_J18_121_15 (mt_J19_entrySet (wk_C.tr C) h_σ20) rfl rfl (Nat.le_of_ble_eq_true rfl) (Nat.le_of_ble_eq_true rfl) (Nat.le_of_ble_eq_true rfl) dJ18_putMapEntries_98 ?_
  obtain ⟨b22, h_b22, hf⟩ := ho_b hf
  obtain ⟨v24, σ23, h_σ23, hf⟩ := ho_e2 hf
  refine wk_callF (av := []) (rest := []) (rv := some (vR v24)) C h_b22 rx_20 cx_J18_125_20 (mt_J52_iterator (wk_C.tr C) h_σ23) rfl rfl (Nat.le_of_ble_eq_true rfl) (Nat.le_of_ble_eq_true rfl) (Nat.le_of_ble_eq_true rfl) dJ18_putMapEntries_103 ?_
  refine wk_astore (L' := [(0, vR l0), (1, vR l1), (2, vI l2), (4, vR v24)]) C (by decide) rfl dJ18_putMapEntries_108 ?_
  refine wk_sub (L' := [(0, vR l0), (2, vI l2), (4, vR v24)]) [0, 2, 3] rfl ?_
  exact wb_J18_putMapEntries_b110 C  _ _ _ _ _ hf
set_option maxHeartbeats 4000000 in
theorem wb_J18_putMapEntries_b71 {E : Ev} {K : Kx} (C : wk_C E K yJ18_putMapEntries cJ18_putMapEntries 8 (Option.none : Option FieldType) 6 117 []) {σ' : Hs} : ∀ (n : Nat) (l0 : Option Nat) (l1 : Option Nat) (l2 : Int32) (l3 : Int32) (σ : Hs), fn_J18_putMapEntries_b71 n l0 l1 l2 l3 σ = some σ' → wk_V E K (.inl none) σ' σ 71 [(0, vR l0), (1, vR l1), (2, vI l2), (3, vI l3)] [] := by
  intro n
  induction n with
  | zero =>
    intro l0 l1 l2 l3 σ hf
    rw [fn_J18_putMapEntries_b71] at hf
    cases hf
  | succ n ih =>
    intro l0 l1 l2 l3 σ hf
    rw [fn_J18_putMapEntries_b71] at hf
    refine wk_iload_n C 3 rfl dJ18_putMapEntries_71 ?_
    refine wk_aload_n C 0 rfl dJ18_putMapEntries_72 ?_
    obtain ⟨v25, h_v25, hf⟩ := ho_b hf
    refine wk_getI C fx_J18_88 h_v25 dJ18_putMapEntries_73 ?_
    refine wk_icmp_le C 97 (by decide) dJ18_putMapEntries_76 (fun c_ => ?_) (fun c_ => ?_)
    · rw [if_pos c_] at hf
      refine wk_sub (L' := [(0, vR l0), (1, vR l1), (2, vI l2)]) [0, 1, 2] rfl ?_
      exact wb_J18_putMapEntries_b97 C  _ _ _ _ hf
    · rw [if_neg c_] at hf
      refine wk_aload_n C 0 rfl dJ18_putMapEntries_79 ?_
      obtain ⟨v26, h_v26, hf⟩ := ho_b hf
      refine wk_getR C fx_J18_105 h_v26 dJ18_putMapEntries_80 ?_
      obtain ⟨v27, h_v27, hf⟩ := ho_b hf
      refine wk_alen C h_v27 dJ18_putMapEntries_83 ?_
      refine wk_ldc C q1329 dJ18_putMapEntries_84 ?_
      refine wk_icmp_ge C 97 (by decide) dJ18_putMapEntries_86 (fun c_ => ?_) (fun c_ => ?_)
      · rw [if_pos c_] at hf
        refine wk_sub (L' := [(0, vR l0), (1, vR l1), (2, vI l2)]) [0, 1, 2] rfl ?_
        exact wb_J18_putMapEntries_b97 C  _ _ _ _ hf
      · rw [if_neg c_] at hf
        refine wk_aload_n C 0 rfl dJ18_putMapEntries_89 ?_
        obtain ⟨b28, h_b28, hf⟩ := ho_b hf
        obtain ⟨v30, σ29, h_σ29, hf⟩ := ho_e2 hf
        refine wk_callV (av := []) (rest := []) (rv := some (vR v30)) C h_b28 rx_15 cx_J18_117 (mt_J18_resize (wk_C.tr C) h_σ29) rfl rfl (Nat.le_of_ble_eq_true rfl) (Nat.le_of_ble_eq_true rfl) (Nat.le_of_ble_eq_true rfl) dJ18_putMapEntries_90 ?_
        refine wk_pop C rfl dJ18_putMapEntries_93 ?_
        refine wk_goto C 71 (by decide) dJ18_putMapEntries_94 ?_
        exact ih _ _ _ _ _ hf
set_option maxHeartbeats 4000000 in
theorem mt_J18_putMapEntries {E : Ev} {l : Launch} (hl : l.stackTraces = false) {p0 : Option Nat} {p1 : Option Nat} {p2 : Int32} {σ : Hs} {σ' : Hs} (hf : fn_J18_putMapEntries p0 p1 p2 σ = some σ') : wk_M E l yJ18_putMapEntries (ws_ yJ18_putMapEntries cJ18_putMapEntries 8 (Option.none : Option FieldType)) 6 117 [vR p0, vR p1, vI p2] σ (.inl none) σ' := by
  refine wk_start (by decide +kernel) hl (Nat.le_of_ble_eq_true rfl) (fun K C hK => ?_)
  subst hK
  refine wk_L (L' := [(0, vR p0), (1, vR p1), (2, vI p2)]) rfl ?_
  unfold fn_J18_putMapEntries at hf
  refine wk_aload_n C 1 rfl dJ18_putMapEntries_0 ?_
  obtain ⟨b31, h_b31, hf⟩ := ho_b hf
  obtain ⟨v33, σ32, h_σ32, hf⟩ := ho_e2 hf
  refine wk_callF (av := []) (rest := []) (rv := some (vI v33)) C h_b31 rx_15 cx_J18_100_15 (mt_J18_size (wk_C.tr C) h_σ32) rfl rfl (Nat.le_of_ble_eq_true rfl) (Nat.le_of_ble_eq_true rfl) (Nat.le_of_ble_eq_true rfl) dJ18_putMapEntries_1 ?_
  refine wk_istore_n (L' := [(0, vR p0), (1, vR p1), (2, vI p2), (3, vI v33)]) C (by decide) rfl dJ18_putMapEntries_6 ?_
  refine wk_iload_n C 3 rfl dJ18_putMapEntries_7 ?_
  refine wk_if_le C 169 (by decide) dJ18_putMapEntries_8 (fun c_ => ?_) (fun c_ => ?_)
  · rw [if_pos c_] at hf
    refine wk_sub (L' := []) [] rfl ?_
    exact wb_J18_putMapEntries_b169 C   _ hf
  · rw [if_neg c_] at hf
    refine wk_aload_n C 0 rfl dJ18_putMapEntries_11 ?_
    obtain ⟨v34, h_v34, hf⟩ := ho_b hf
    refine wk_getR C fx_J18_105 h_v34 dJ18_putMapEntries_12 ?_
    refine wk_ifnonnull C 71 (by decide) dJ18_putMapEntries_15 (fun c_ => ?_) (fun c_ => ?_)
    · rw [if_neg c_] at hf
      exact wb_J18_putMapEntries_b71 C  _ _ _ _ _ _ hf
    · rw [if_pos c_] at hf
      refine wk_iload_n C 3 rfl dJ18_putMapEntries_18 ?_
      refine wk_i2d C dJ18_putMapEntries_19 ?_
      refine wk_aload_n C 0 rfl dJ18_putMapEntries_20 ?_
      obtain ⟨v35, h_v35, hf⟩ := ho_b hf
      refine wk_getF C fx_J18_81 h_v35 dJ18_putMapEntries_21 ?_
      obtain ⟨v36, h_v36, hf⟩ := ho_b hf
      refine wk_f2d C h_v36 dJ18_putMapEntries_24 ?_
      obtain ⟨v37, h_v37, hf⟩ := ho_b hf
      refine wk_ddiv C h_v37 dJ18_putMapEntries_25 ?_
      cases hf
set_option maxHeartbeats 4000000 in
theorem mt_J18_putAll {E : Ev} {l : Launch} (hl : l.stackTraces = false) {p0 : Option Nat} {p1 : Option Nat} {σ : Hs} {σ' : Hs} (hf : fn_J18_putAll p0 p1 σ = some σ') : wk_M E l yJ18_putAll (ws_ yJ18_putAll cJ18_putAll 2 (Option.none : Option FieldType)) 7 144 [vR p0, vR p1] σ (.inl none) σ' := by
  refine wk_start (by decide +kernel) hl (Nat.le_of_ble_eq_true rfl) (fun K C hK => ?_)
  subst hK
  refine wk_L (L' := [(0, vR p0), (1, vR p1)]) rfl ?_
  unfold fn_J18_putAll at hf
  refine wk_aload_n C 0 rfl dJ18_putAll_0 ?_
  refine wk_aload_n C 1 rfl dJ18_putAll_1 ?_
  refine wk_iconst (v := 1) C dJ18_putAll_2 rfl ?_
  obtain ⟨b1, h_b1, hf⟩ := ho_b hf
  obtain ⟨σ2, h_σ2, hf⟩ := ho_b hf
  refine wk_callV (av := [vR p1, vI (1 : Int32)]) (rest := []) (rv := none) C h_b1 rx_15 cx_J18_96 (mt_J18_putMapEntries (wk_C.tr C) h_σ2) rfl rfl (Nat.le_of_ble_eq_true rfl) (Nat.le_of_ble_eq_true rfl) (Nat.le_of_ble_eq_true rfl) dJ18_putAll_3 ?_
  obtain rfl := Option.some.inj hf
  exact wk_vret C rfl rfl dJ18_putAll_6
set_option maxHeartbeats 4000000 in
theorem mt_J44_init {E : Ev} {l : Launch} (hl : l.stackTraces = false) {p0 : Option Nat} {p1 : Int32} {p2 : UInt32} {p3 : Int32} {σ : Hs} {σ' : Hs} (hf : fn_J44_init p0 p1 p2 p3 σ = some σ') : wk_M E l yJ44_init (ws_ yJ44_init cJ44_init 4 (Option.none : Option FieldType)) 4 86 [vR p0, vI p1, vF p2, vI p3] σ (.inl none) σ' := by
  refine wk_start (by decide +kernel) hl (Nat.le_of_ble_eq_true rfl) (fun K C hK => ?_)
  subst hK
  refine wk_L (L' := [(0, vR p0), (1, vI p1), (2, vF p2), (3, vI p3)]) rfl ?_
  unfold fn_J44_init at hf
  refine wk_aload_n C 0 rfl dJ44_init_0 ?_
  obtain ⟨b1, h_b1, hf⟩ := ho_b hf
  obtain ⟨σ2, h_σ2, hf⟩ := ho_b hf
  refine wk_callI (av := []) (rest := []) C cx_J44_1 h_b1 (mt_J39_init (wk_C.tr C) h_σ2) rfl (Nat.le_of_ble_eq_true rfl) (Nat.le_of_ble_eq_true rfl) (Nat.le_of_ble_eq_true rfl) dJ44_init_1 ?_
  refine wk_aload_n C 0 rfl dJ44_init_4 ?_
  obtain ⟨v3, σ4, h_σ4, hf⟩ := ho_e2 hf
  refine wk_new C nx_J44_42 h_σ4 dJ44_init_5 ?_
  refine wk_dup C rfl dJ44_init_8 ?_
  refine wk_iload_n C 1 rfl dJ44_init_9 ?_
  refine wk_fload_n C 2 rfl dJ44_init_10 ?_
  obtain ⟨b5, h_b5, hf⟩ := ho_b hf
  obtain ⟨σ6, h_σ6, hf⟩ := ho_b hf
  refine wk_callI (av := [vI p1, vF p2]) (rest := [vR v3, vR p0]) C cx_J44_44 h_b5 (mt_J19_init_2 (wk_C.tr C) h_σ6) rfl (Nat.le_of_ble_eq_true rfl) (Nat.le_of_ble_eq_true rfl) (Nat.le_of_ble_eq_true rfl) dJ44_init_11 ?_
  obtain ⟨σ7, h_σ7, hf⟩ := ho_b hf
  refine wk_putR C px_J44_10 (Or.inl ⟨_, rfl⟩) (fun q => by cases q) h_σ7 dJ44_init_14 ?_
  obtain rfl := Option.some.inj hf
  exact wk_vret C rfl rfl dJ44_init_17
set_option maxHeartbeats 4000000 in
theorem mt_J45_init {E : Ev} {l : Launch} (hl : l.stackTraces = false) {p0 : Option Nat} {σ : Hs} {σ' : Hs} (hf : fn_J45_init p0 σ = some σ') : wk_M E l yJ45_init (ws_ yJ45_init cJ45_init 1 (Option.none : Option FieldType)) 5 109 [vR p0] σ (.inl none) σ' := by
  refine wk_start (by decide +kernel) hl (Nat.le_of_ble_eq_true rfl) (fun K C hK => ?_)
  subst hK
  refine wk_L (L' := [(0, vR p0)]) rfl ?_
  unfold fn_J45_init at hf
  refine wk_aload_n C 0 rfl dJ45_init_0 ?_
  refine wk_bipush (v := 16) C dJ45_init_1 rfl ?_
  refine wk_ldcF C q1309 dJ45_init_3 ?_
  refine wk_iconst (v := 1) C dJ45_init_5 rfl ?_
  obtain ⟨b1, h_b1, hf⟩ := ho_b hf
  obtain ⟨σ2, h_σ2, hf⟩ := ho_b hf
  refine wk_callI (av := [vI (16 : Int32), vF (1061158912 : UInt32), vI (1 : Int32)]) (rest := []) C cx_J45_1 h_b1 (mt_J44_init (wk_C.tr C) h_σ2) rfl (Nat.le_of_ble_eq_true rfl) (Nat.le_of_ble_eq_true rfl) (Nat.le_of_ble_eq_true rfl) dJ45_init_6 ?_
  obtain rfl := Option.some.inj hf
  exact wk_vret C rfl rfl dJ45_init_9
set_option maxHeartbeats 4000000 in
theorem wb_J44_add_b19 {E : Ev} {K : Kx} (C : wk_C E K yJ44_add cJ44_add 2 (Option.some FieldType.boolean) 6 139 []) {r : Int32} {σ' : Hs} (t0 : Int32) (σ : Hs) (hf : fn_J44_add_b19 E.2.2.1 t0 σ = some (r, σ')) : wk_V E K (.inl (some (.int r))) σ' σ 19 [] [vI t0] := by
  unfold fn_J44_add_b19 at hf
  obtain ⟨v1, h_v1, hf⟩ := ho_b hf
  obtain ⟨rfl, rfl⟩ := Prod.mk.inj (Option.some.inj hf)
  exact wk_zret C h_v1 rfl rfl dJ44_add_19
set_option maxHeartbeats 4000000 in
theorem mt_J44_add {E : Ev} {l : Launch} (hl : l.stackTraces = false) {p0 : Option Nat} {p1 : Option Nat} {σ : Hs} {r : Int32} {σ' : Hs} (hf : fn_J44_add E.2.2.1 p0 p1 σ = some (r, σ')) : wk_M E l yJ44_add (ws_ yJ44_add cJ44_add 2 (Option.some FieldType.boolean)) 6 139 [vR p0, vR p1] σ (.inl (some (.int r))) σ' := by
  refine wk_start (by decide +kernel) hl (Nat.le_of_ble_eq_true rfl) (fun K C hK => ?_)
  subst hK
  refine wk_L (L' := [(0, vR p0), (1, vR p1)]) rfl ?_
  unfold fn_J44_add at hf
  refine wk_aload_n C 0 rfl dJ44_add_0 ?_
  obtain ⟨v2, h_v2, hf⟩ := ho_b hf
  refine wk_getR C fx_J44_10 h_v2 dJ44_add_1 ?_
  refine wk_aload_n C 1 rfl dJ44_add_4 ?_
  refine wk_getsR C (j := 7) sx_J44_64 rfl dJ44_add_5 ?_
  obtain ⟨b3, h_b3, hf⟩ := ho_b hf
  obtain ⟨v5, σ4, h_σ4, hf⟩ := ho_e2 hf
  refine wk_callV (av := [vR p1, vR (E.2.2.1 7)]) (rest := []) (rv := some (vR v5)) C h_b3 rx_15 cx_J44_68 (mt_J18_put (wk_C.tr C) h_σ4) rfl rfl (Nat.le_of_ble_eq_true rfl) (Nat.le_of_ble_eq_true rfl) (Nat.le_of_ble_eq_true rfl) dJ44_add_8 ?_
  refine wk_ifnonnull C 18 (by decide) dJ44_add_11 (fun c_ => ?_) (fun c_ => ?_)
  · rw [if_neg c_] at hf
    refine wk_iconst (v := 0) C dJ44_add_18 rfl ?_
    refine wk_sub (L' := []) [] rfl ?_
    exact wb_J44_add_b19 C  _ _ hf
  · rw [if_pos c_] at hf
    refine wk_iconst (v := 1) C dJ44_add_14 rfl ?_
    refine wk_goto C 19 (by decide) dJ44_add_15 ?_
    refine wk_sub (L' := []) [] rfl ?_
    exact wb_J44_add_b19 C  _ _ hf
set_option maxHeartbeats 4000000 in
theorem mt_J44_size {E : Ev} {l : Launch} (hl : l.stackTraces = false) {p0 : Option Nat} {σ : Hs} {r : Int32} {σ' : Hs} (hf : fn_J44_size p0 σ = some (r, σ')) : wk_M E l yJ44_size (ws_ yJ44_size cJ44_size 1 (Option.some FieldType.int)) 1 20 [vR p0] σ (.inl (some (.int r))) σ' := by
  refine wk_start (by decide +kernel) hl (Nat.le_of_ble_eq_true rfl) (fun K C hK => ?_)
  subst hK
  refine wk_L (L' := [(0, vR p0)]) rfl ?_
  unfold fn_J44_size at hf
  refine wk_aload_n C 0 rfl dJ44_size_0 ?_
  obtain ⟨v1, h_v1, hf⟩ := ho_b hf
  refine wk_getR C fx_J44_10 h_v1 dJ44_size_1 ?_
  obtain ⟨b2, h_b2, hf⟩ := ho_b hf
  obtain ⟨v4, σ3, h_σ3, hf⟩ := ho_e2 hf
  refine wk_callV (av := []) (rest := []) (rv := some (vI v4)) C h_b2 rx_15 cx_J44_55 (mt_J18_size (wk_C.tr C) h_σ3) rfl rfl (Nat.le_of_ble_eq_true rfl) (Nat.le_of_ble_eq_true rfl) (Nat.le_of_ble_eq_true rfl) dJ44_size_4 ?_
  obtain ⟨rfl, rfl⟩ := Prod.mk.inj (Option.some.inj hf)
  exact wk_iret C rfl rfl dJ44_size_7
set_option maxHeartbeats 4000000 in
theorem mt_J44_iterator {E : Ev} {l : Launch} (hl : l.stackTraces = false) {p0 : Option Nat} {σ : Hs} {r : Option Nat} {σ' : Hs} (hf : fn_J44_iterator p0 σ = some (r, σ')) : wk_M E l yJ44_iterator (ws_ yJ44_iterator cJ44_iterator 1 (Option.some (FieldType.object "java/util/Iterator"))) 6 116 [vR p0] σ (.inl (some (va_rf r))) σ' := by
  refine wk_start (by decide +kernel) hl (Nat.le_of_ble_eq_true rfl) (fun K C hK => ?_)
  subst hK
  refine wk_L (L' := [(0, vR p0)]) rfl ?_
  unfold fn_J44_iterator at hf
  refine wk_aload_n C 0 rfl dJ44_iterator_0 ?_
  obtain ⟨v1, h_v1, hf⟩ := ho_b hf
  refine wk_getR C fx_J44_10 h_v1 dJ44_iterator_1 ?_
  obtain ⟨b2, h_b2, hf⟩ := ho_b hf
  obtain ⟨v4, σ3, h_σ3, hf⟩ := ho_e2 hf
  refine wk_callU (av := []) (rest := []) (rv := some (vR v4)) C h_b2 rx_15 cx_J44_45_15 (mt_J19_keySet (wk_C.tr C) h_σ3) rfl rfl (Nat.le_of_ble_eq_true rfl) (Nat.le_of_ble_eq_true rfl) (Nat.le_of_ble_eq_true rfl) dJ44_iterator_4 ?_
  obtain ⟨b5, h_b5, hf⟩ := ho_b hf
  obtain ⟨v7, σ6, h_σ6, hf⟩ := ho_e2 hf
  refine wk_callF (av := []) (rest := []) (rv := some (vR v7)) C h_b5 rx_19 cx_J44_49_19 (mt_J41_iterator (wk_C.tr C) h_σ6) rfl rfl (Nat.le_of_ble_eq_true rfl) (Nat.le_of_ble_eq_true rfl) (Nat.le_of_ble_eq_true rfl) dJ44_iterator_7 ?_
  obtain ⟨rfl, rfl⟩ := Prod.mk.inj (Option.some.inj hf)
  exact wk_aret C (Or.inl ⟨_, rfl⟩) rfl rfl dJ44_iterator_12
