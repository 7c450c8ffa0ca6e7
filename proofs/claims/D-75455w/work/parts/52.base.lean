def fn_X1_isIn_b19  (t0 : Int32) (σ : Hs) : Option (Int32 × Hs) := (ho_bool t0).bind fun v1 => some (v1, σ)
def fn_X1_isIn_b18  (σ : Hs) : Option (Int32 × Hs) := fn_X1_isIn_b19 (0 : Int32) σ
def fn_X1_isIn (p0 : Int64) (p1 : Int64) (p2 : Int64) (σ : Hs) : Option (Int32 × Hs) := if p2 < p0 then fn_X1_isIn_b18  σ else if p1 < p2 then fn_X1_isIn_b18  σ else fn_X1_isIn_b19 (1 : Int32) σ
def fn_X1_limited (p0 : Int64) (σ : Hs) : Option (Int64 × Hs) := ho_b2 (fn_J12_min_2 (1000000 : Int64) p0 σ) fun v2 σ1 => ho_b2 (fn_J12_max_2 (-1000000 : Int64) v2 σ1) fun v4 σ3 => some (v4, σ3)
def fn_X1_root_b50 (ev : Nat → Option Nat)  : Nat → Int32 → Int32 → Hs → Option (Int32 × Hs)
  | 0, _, _, _ => none
  | n + 1, l0, l3, σ => if l0 < ((l3 + (1 : Int32)) * (l3 + (1 : Int32))) then some (l3, σ) else fn_X1_root_b50 ev n l0 (l3 + 1) σ
def fn_X1_root_b45 (ev : Nat → Option Nat)  (l0 : Int32) (l1 : Int32) (σ : Hs) : Option (Int32 × Hs) := (some ((8 : Int32) * l1)).bind fun v1 => fn_X1_root_b50 ev fu_el l0 v1 σ
def fn_X1_root_b42 (ev : Nat → Option Nat)  (k9 : Int32 → Int32 → Int32 → Hs → Option (Int32 × Hs)) (l0 : Int32) (l1 : Int32) (l2 : Int32) (σ : Hs) : Option (Int32 × Hs) := k9 l0 l1 l2 σ
def fn_X1_root_b9 (ev : Nat → Option Nat)  : Nat → Int32 → Int32 → Int32 → Hs → Option (Int32 × Hs)
  | 0, _, _, _, _ => none
  | n + 1, l0, l1, l2, σ => if l2 ≤ l1 then fn_X1_root_b45 ev l0 l1 σ else (ho_div ((l2 - l1) + (1 : Int32)) (2 : Int32)).bind fun v2 => (some (l1 + v2)).bind fun v3 => (ho_aI σ (ev 0) [0, 90] v3).bind fun v4 => if l0 < v4 then (some (v3 - (1 : Int32))).bind fun v5 => fn_X1_root_b42 ev (fn_X1_root_b9 ev n) l0 l1 v5 σ else fn_X1_root_b42 ev (fn_X1_root_b9 ev n) l0 v3 l2 σ
def fn_X1_root (ev : Nat → Option Nat) (p0 : Int32) (σ : Hs) : Option (Int32 × Hs) := (ho_len σ (ev 0)).bind fun v6 => (some (v6 - (1 : Int32))).bind fun v7 => fn_X1_root_b9 ev fu_el p0 (0 : Int32) v7 σ
def fn_X1_checkIndex (p0 : Int32) (σ : Hs) : Option ((Unit ⊕ Nat) × Hs) := if p0 = 0 then ho_b2 (ho_new σ (.inr (220, [])) 6) fun v1 σ3 => v1.bind fun q2 => some (.inr q2, σ3) else some (.inl (), σ)
def fn_X1_checkArgument (p0 : Int32) (σ : Hs) : Option ((Unit ⊕ Nat) × Hs) := if p0 = 0 then ho_b2 (ho_new σ (.inr (221, [])) 6) fun v1 σ3 => v1.bind fun q2 => some (.inr q2, σ3) else some (.inl (), σ)
def fn_X1_checkState (p0 : Int32) (σ : Hs) : Option ((Unit ⊕ Nat) × Hs) := if p0 = 0 then ho_b2 (ho_new σ (.inr (222, [])) 6) fun v1 σ3 => v1.bind fun q2 => some (.inr q2, σ3) else some (.inl (), σ)
def fn_X1_mixed_b13  : Nat → Int64 → Option Nat → Int32 → Int32 → Hs → Option (Int64 × Hs)
  | 0, _, _, _, _, _ => none
  | n + 1, l3, l5, l6, l7, σ => if l6 ≤ l7 then some (l3, σ) else (ho_aI σ l5 [0, 90] l7).bind fun v1 => (some (((31 : Int64) * l3) + v1.toInt64)).bind fun v2 => fn_X1_mixed_b13 n v2 l5 l6 (l7 + 1) σ
def fn_X1_mixed (p0 : Int64) (p1 : Option Nat) (σ : Hs) : Option (Int64 × Hs) := (ho_len σ p1).bind fun v3 => fn_X1_mixed_b13 fu_el p0 p1 v3 (0 : Int32) σ
def fn_X6_init (p0 : Option Nat) (p1 : Int32) (p2 : Int32) (p3 : Int32) (p4 : Int32) (σ : Hs) : Option Hs := p0.bind fun b1 => (ho_pI σ p0 [5] 0 p1).bind fun σ2 => (ho_pI σ2 p0 [5] 1 p2).bind fun σ3 => (ho_pZ σ3 p0 [5] 2 p3).bind fun σ4 => (ho_pZ σ4 p0 [5] 3 p4).bind fun σ5 => some σ5
def fn_X6_init_2 (p0 : Option Nat) (p1 : Int32) (p2 : Int32) (σ : Hs) : Option Hs := p0.bind fun b1 => (fn_X6_init p0 p1 p2 (0 : Int32) (0 : Int32) σ).bind fun σ2 => some σ2
def fn_X8_init (ev : Nat → Option Nat) (p0 : Option Nat) (p1 : Int32) (p2 : Int32) (p3 : Int32) (p4 : Int32) (p5 : Int32) (σ : Hs) : Option Hs := p0.bind fun b1 => (ho_pI σ p0 [7] 0 p1).bind fun σ2 => (ho_pI σ2 p0 [7] 1 p2).bind fun σ3 => (ho_pI σ3 p0 [7] 2 p3).bind fun σ4 => (ho_pI σ4 p0 [7] 3 p4).bind fun σ5 => (ho_pI σ5 p0 [7] 4 p5).bind fun σ6 => ho_b2 (fn_X1_root ev ((p4 * p4) + (p5 * p5)) σ6) fun v8 σ7 => (ho_pI σ7 p0 [7] 5 v8).bind fun σ9 => some σ9
def fn_X8_isAt_b21  (t0 : Int32) (σ : Hs) : Option (Int32 × Hs) := (ho_bool t0).bind fun v1 => some (v1, σ)
def fn_X8_isAt_b16  (σ : Hs) : Option (Int32 × Hs) := fn_X8_isAt_b21 (1 : Int32) σ
def fn_X8_isAt (p0 : Option Nat) (p1 : Int32) (σ : Hs) : Option (Int32 × Hs) := (ho_fI σ p0 [7] 0).bind fun v2 => if v2 = p1 then fn_X8_isAt_b16  σ else (ho_fI σ p0 [7] 1).bind fun v3 => if v3 = p1 then fn_X8_isAt_b16  σ else fn_X8_isAt_b21 (0 : Int32) σ
def fn_X9_init (p0 : Option Nat) (p1 : Int32) (p2 : Int32) (p3 : Int32) (p4 : Int32) (σ : Hs) : Option Hs := p0.bind fun b1 => (fn_J28_init p0 σ).bind fun σ2 => (ho_pI σ2 p0 [8] 0 p1).bind fun σ3 => (ho_pI σ3 p0 [8] 1 p2).bind fun σ4 => (ho_pI σ4 p0 [8] 2 p3).bind fun σ5 => (ho_pI σ5 p0 [8] 3 p4).bind fun σ6 => some σ6
def fn_X9_stage (p0 : Option Nat) (σ : Hs) : Option (Int32 × Hs) := (ho_fI σ p0 [8] 0).bind fun v1 => some (v1, σ)
def fn_X9_node (p0 : Option Nat) (σ : Hs) : Option (Int32 × Hs) := (ho_fI σ p0 [8] 1).bind fun v1 => some (v1, σ)
def fn_X9_fx (p0 : Option Nat) (σ : Hs) : Option (Int32 × Hs) := (ho_fI σ p0 [8] 2).bind fun v1 => some (v1, σ)
def fn_X9_fy (p0 : Option Nat) (σ : Hs) : Option (Int32 × Hs) := (ho_fI σ p0 [8] 3).bind fun v1 => some (v1, σ)
def fn_X5_init (ev : Nat → Option Nat) (p0 : Option Nat) (p1 : Int32) (p2 : Int32) (σ : Hs) : Option Hs := p0.bind fun b1 => (fn_J4_init_4 ev p0 none none (0 : Int32) (0 : Int32) σ).bind fun σ2 => (ho_pI σ2 p0 [4] 6 p1).bind fun σ3 => (ho_pI σ3 p0 [4] 7 p2).bind fun σ4 => some σ4
def fn_X14_apply (p0 : Option Nat) (p1 : Int64) (p2 : Int64) (σ : Hs) : Option (Int64 × Hs) := some (p1 + p2, σ)
def fn_X15_apply (p0 : Option Nat) (p1 : Int64) (p2 : Int64) (σ : Hs) : Option (Int64 × Hs) := some (p1 - p2, σ)
def fn_X16_apply (p0 : Option Nat) (p1 : Int64) (p2 : Int64) (σ : Hs) : Option (Int64 × Hs) := some (p1 * p2, σ)
def fn_X17_apply_b13  (t0 : Int64) (σ : Hs) : Option (Int64 × Hs) := some (t0, σ)
def fn_X17_apply (p0 : Option Nat) (p1 : Int64) (p2 : Int64) (σ : Hs) : Option (Int64 × Hs) := if p2 = (0 : Int64) then fn_X17_apply_b13 (0 : Int64) σ else (ho_divJ p1 p2).bind fun v1 => fn_X17_apply_b13 v1 σ
def fn_X11_init (p0 : Option Nat) (p1 : Option Nat) (p2 : Option Nat) (σ : Hs) : Option Hs := p0.bind fun b1 => (ho_pR σ p0 [10] 0 p1).bind fun σ2 => (ho_pR σ2 p0 [10] 1 p2).bind fun σ3 => some σ3
def fn_X10_init (p0 : Option Nat) (p1 : Option Nat) (σ : Hs) : Option Hs := p0.bind fun b1 => (ho_pR σ p0 [9] 0 p1).bind fun σ2 => some σ2
def fn_X10_add_b33  (l0 : Option Nat) (l3 : Option Nat) (σ : Hs) : Option Hs := (ho_pR σ l0 [9] 2 l3).bind fun σ1 => some σ1
def fn_X10_add (p0 : Option Nat) (p1 : Option Nat) (p2 : Option Nat) (σ : Hs) : Option Hs := ho_b2 (ho_new σ (.inr (10, [.null, .null, .null])) 3) fun v2 σ3 => v2.bind fun b4 => (fn_X11_init v2 p1 p2 σ3).bind fun σ5 => (ho_fR σ5 p0 [9] 1).bind fun v6 => if v6 = none then (ho_pR σ5 p0 [9] 1 v2).bind fun σ9 => fn_X10_add_b33 p0 v2 σ9 else (ho_fR σ5 p0 [9] 2).bind fun v7 => (ho_pR σ5 v7 [10] 2 v2).bind fun σ8 => fn_X10_add_b33 p0 v2 σ8
theorem cx_X1_7 : cxS "ElasticTruss" 7 yJ12_min_2 cJ12_min_2 4 (Option.some FieldType.long) 2 := ⟨q1235, q1236, q116, q1237, ⟨by decide +kernel, by decide +kernel⟩, fun sig h => by have e := (show (parseMethodDescriptor (yJ12_min_2).desc).map (fun d => d.parameters.length) = some 2 by decide +kernel); rw [h] at e; exact (Option.some.inj e).symm⟩
theorem cx_X1_13 : cxS "ElasticTruss" 13 yJ12_max_2 cJ12_max_2 4 (Option.some FieldType.long) 2 := ⟨q1238, q1239, q116, q1240, ⟨by decide +kernel, by decide +kernel⟩, fun sig h => by have e := (show (parseMethodDescriptor (yJ12_max_2).desc).map (fun d => d.parameters.length) = some 2 by decide +kernel); rw [h] at e; exact (Option.some.inj e).symm⟩
theorem sx_X1_16 : sx "ElasticTruss" 16 0 := ⟨_, Or.inl q2944, rfl⟩
theorem px_X6_12 : px "ElasticTruss$Node" 12 [5] 0 (.int) true := ⟨"ElasticTruss$Node", "ElasticTruss$Node", "x", "I", ⟨Or.inl q2831, Or.inl rfl⟩, px_c (r := (RX6, TX6, 4)) (Nat.le_of_ble_eq_true rfl) rfl (Nat.le_of_ble_eq_true rfl) rfl (px_0), by decide +kernel, fun _ => ⟨rfl, q2831⟩⟩
theorem px_X6_16 : px "ElasticTruss$Node" 16 [5] 1 (.int) true := ⟨"ElasticTruss$Node", "ElasticTruss$Node", "y", "I", ⟨Or.inl q2834, Or.inl rfl⟩, px_c (r := (RX6, TX6, 4)) (Nat.le_of_ble_eq_true rfl) rfl (Nat.le_of_ble_eq_true rfl) rfl (px_0), by decide +kernel, fun _ => ⟨rfl, q2834⟩⟩
theorem px_X6_19 : px "ElasticTruss$Node" 19 [5] 2 (.boolean) true := ⟨"ElasticTruss$Node", "ElasticTruss$Node", "isFixed", "Z", ⟨Or.inl q2837, Or.inl rfl⟩, px_c (r := (RX6, TX6, 4)) (Nat.le_of_ble_eq_true rfl) rfl (Nat.le_of_ble_eq_true rfl) rfl (px_0), by decide +kernel, fun _ => ⟨rfl, q2837⟩⟩
theorem px_X6_23 : px "ElasticTruss$Node" 23 [5] 3 (.boolean) true := ⟨"ElasticTruss$Node", "ElasticTruss$Node", "isOnRoller", "Z", ⟨Or.inl q2839, Or.inl rfl⟩, px_c (r := (RX6, TX6, 4)) (Nat.le_of_ble_eq_true rfl) rfl (Nat.le_of_ble_eq_true rfl) rfl (px_0), by decide +kernel, fun _ => ⟨rfl, q2839⟩⟩
theorem cx_X6_1 : cxI "ElasticTruss$Node" 1 yX6_init cX6_init 5 4 := ⟨q2853, q2828, q131, q2829, ⟨by decide +kernel, by decide +kernel⟩, rfl, fun sig h => by have e := (show (parseMethodDescriptor (yX6_init).desc).map (fun d => d.parameters.length) = some 4 by decide +kernel); rw [h] at e; exact (Option.some.inj e).symm⟩
theorem px_X8_7 : px "ElasticTruss$Member" 7 [7] 0 (.int) true := ⟨"ElasticTruss$Member", "ElasticTruss$Member", "first", "I", ⟨Or.inl q2946, Or.inl rfl⟩, px_c (r := (RX8, TX8, 6)) (Nat.le_of_ble_eq_true rfl) rfl (Nat.le_of_ble_eq_true rfl) rfl (px_0), by decide +kernel, fun _ => ⟨rfl, q2946⟩⟩
theorem px_X8_13 : px "ElasticTruss$Member" 13 [7] 1 (.int) true := ⟨"ElasticTruss$Member", "ElasticTruss$Member", "second", "I", ⟨Or.inl q2950, Or.inl rfl⟩, px_c (r := (RX8, TX8, 6)) (Nat.le_of_ble_eq_true rfl) rfl (Nat.le_of_ble_eq_true rfl) rfl (px_0), by decide +kernel, fun _ => ⟨rfl, q2950⟩⟩
theorem px_X8_16 : px "ElasticTruss$Member" 16 [7] 2 (.int) true := ⟨"ElasticTruss$Member", "ElasticTruss$Member", "group", "I", ⟨Or.inl q2954, Or.inl rfl⟩, px_c (r := (RX8, TX8, 6)) (Nat.le_of_ble_eq_true rfl) rfl (Nat.le_of_ble_eq_true rfl) rfl (px_0), by decide +kernel, fun _ => ⟨rfl, q2954⟩⟩
theorem px_X8_19 : px "ElasticTruss$Member" 19 [7] 3 (.int) true := ⟨"ElasticTruss$Member", "ElasticTruss$Member", "dx", "I", ⟨Or.inl q2957, Or.inl rfl⟩, px_c (r := (RX8, TX8, 6)) (Nat.le_of_ble_eq_true rfl) rfl (Nat.le_of_ble_eq_true rfl) rfl (px_0), by decide +kernel, fun _ => ⟨rfl, q2957⟩⟩
theorem px_X8_22 : px "ElasticTruss$Member" 22 [7] 4 (.int) true := ⟨"ElasticTruss$Member", "ElasticTruss$Member", "dy", "I", ⟨Or.inl q2959, Or.inl rfl⟩, px_c (r := (RX8, TX8, 6)) (Nat.le_of_ble_eq_true rfl) rfl (Nat.le_of_ble_eq_true rfl) rfl (px_0), by decide +kernel, fun _ => ⟨rfl, q2959⟩⟩
theorem cx_X8_25 : cxSN "ElasticTruss$Member" 25 "ElasticTruss" yX1_root cX1_root 4 (Option.some FieldType.int) 1 := ⟨lw_n q2941 rfl, q2942, q102, q2943, ⟨by decide +kernel, by decide +kernel⟩, fun sig h => by have e := (show (parseMethodDescriptor (yX1_root).desc).map (fun d => d.parameters.length) = some 1 by decide +kernel); rw [h] at e; exact (Option.some.inj e).symm⟩
theorem px_X8_31 : px "ElasticTruss$Member" 31 [7] 5 (.int) true := ⟨"ElasticTruss$Member", "ElasticTruss$Member", "length", "I", ⟨Or.inl q2961, Or.inl rfl⟩, px_c (r := (RX8, TX8, 6)) (Nat.le_of_ble_eq_true rfl) rfl (Nat.le_of_ble_eq_true rfl) rfl (px_0), by decide +kernel, fun _ => ⟨rfl, q2961⟩⟩
theorem fx_X8_7 : fx "ElasticTruss$Member" 7 [7] 0 := ⟨"ElasticTruss$Member", "ElasticTruss$Member", "first", "I", ⟨Or.inl q2946, Or.inl rfl⟩, fx_c (r := (RX8, TX8, 6)) (Nat.le_of_ble_eq_true rfl) rfl (Nat.le_of_ble_eq_true rfl) rfl rfl rfl (fx_0)⟩
theorem fx_X8_13 : fx "ElasticTruss$Member" 13 [7] 1 := ⟨"ElasticTruss$Member", "ElasticTruss$Member", "second", "I", ⟨Or.inl q2950, Or.inl rfl⟩, fx_c (r := (RX8, TX8, 6)) (Nat.le_of_ble_eq_true rfl) rfl (Nat.le_of_ble_eq_true rfl) rfl rfl rfl (fx_0)⟩
theorem cx_X9_1 : cxI "ElasticTruss$Load" 1 yJ28_init cJ28_init 1 0 := ⟨q3000, q3001, q141, q3002, ⟨by decide +kernel, by decide +kernel⟩, rfl, fun sig h => by have e := (show (parseMethodDescriptor (yJ28_init).desc).map (fun d => d.parameters.length) = some 0 by decide +kernel); rw [h] at e; exact (Option.some.inj e).symm⟩
theorem px_X9_7 : px "ElasticTruss$Load" 7 [8] 0 (.int) true := ⟨"ElasticTruss$Load", "ElasticTruss$Load", "stage", "I", ⟨Or.inl q3004, Or.inl rfl⟩, px_c (r := (RX9, TX9, 4)) (Nat.le_of_ble_eq_true rfl) rfl (Nat.le_of_ble_eq_true rfl) rfl (px_0), by decide +kernel, fun _ => ⟨rfl, q3004⟩⟩
theorem px_X9_13 : px "ElasticTruss$Load" 13 [8] 1 (.int) true := ⟨"ElasticTruss$Load", "ElasticTruss$Load", "node", "I", ⟨Or.inl q3005, Or.inl rfl⟩, px_c (r := (RX9, TX9, 4)) (Nat.le_of_ble_eq_true rfl) rfl (Nat.le_of_ble_eq_true rfl) rfl (px_0), by decide +kernel, fun _ => ⟨rfl, q3005⟩⟩
theorem px_X9_16 : px "ElasticTruss$Load" 16 [8] 2 (.int) true := ⟨"ElasticTruss$Load", "ElasticTruss$Load", "fx", "I", ⟨Or.inl q3006, Or.inl rfl⟩, px_c (r := (RX9, TX9, 4)) (Nat.le_of_ble_eq_true rfl) rfl (Nat.le_of_ble_eq_true rfl) rfl (px_0), by decide +kernel, fun _ => ⟨rfl, q3006⟩⟩
theorem px_X9_19 : px "ElasticTruss$Load" 19 [8] 3 (.int) true := ⟨"ElasticTruss$Load", "ElasticTruss$Load", "fy", "I", ⟨Or.inl q3007, Or.inl rfl⟩, px_c (r := (RX9, TX9, 4)) (Nat.le_of_ble_eq_true rfl) rfl (Nat.le_of_ble_eq_true rfl) rfl (px_0), by decide +kernel, fun _ => ⟨rfl, q3007⟩⟩
theorem fx_X9_7 : fx "ElasticTruss$Load" 7 [8] 0 := ⟨"ElasticTruss$Load", "ElasticTruss$Load", "stage", "I", ⟨Or.inl q3004, Or.inl rfl⟩, fx_c (r := (RX9, TX9, 4)) (Nat.le_of_ble_eq_true rfl) rfl (Nat.le_of_ble_eq_true rfl) rfl rfl rfl (fx_0)⟩
theorem fx_X9_13 : fx "ElasticTruss$Load" 13 [8] 1 := ⟨"ElasticTruss$Load", "ElasticTruss$Load", "node", "I", ⟨Or.inl q3005, Or.inl rfl⟩, fx_c (r := (RX9, TX9, 4)) (Nat.le_of_ble_eq_true rfl) rfl (Nat.le_of_ble_eq_true rfl) rfl rfl rfl (fx_0)⟩
theorem fx_X9_16 : fx "ElasticTruss$Load" 16 [8] 2 := ⟨"ElasticTruss$Load", "ElasticTruss$Load", "fx", "I", ⟨Or.inl q3006, Or.inl rfl⟩, fx_c (r := (RX9, TX9, 4)) (Nat.le_of_ble_eq_true rfl) rfl (Nat.le_of_ble_eq_true rfl) rfl rfl rfl (fx_0)⟩
theorem fx_X9_19 : fx "ElasticTruss$Load" 19 [8] 3 := ⟨"ElasticTruss$Load", "ElasticTruss$Load", "fy", "I", ⟨Or.inl q3007, Or.inl rfl⟩, fx_c (r := (RX9, TX9, 4)) (Nat.le_of_ble_eq_true rfl) rfl (Nat.le_of_ble_eq_true rfl) rfl rfl rfl (fx_0)⟩
theorem cx_X5_1 : cxI "ElasticTruss$SetupException" 1 yJ4_init_4 cJ4_init_4 5 4 := ⟨q2761, q2762, q108, q2763, ⟨by decide +kernel, by decide +kernel⟩, rfl, fun sig h => by have e := (show (parseMethodDescriptor (yJ4_init_4).desc).map (fun d => d.parameters.length) = some 4 by decide +kernel); rw [h] at e; exact (Option.some.inj e).symm⟩
theorem px_X5_7 : px "ElasticTruss$SetupException" 7 [4] 6 (.int) true := ⟨"ElasticTruss$SetupException", "ElasticTruss$SetupException", "code", "I", ⟨Or.inl q2767, Or.inl rfl⟩, px_c (r := (RX5, TX5, 8)) (Nat.le_of_ble_eq_true rfl) rfl (Nat.le_of_ble_eq_true rfl) rfl (px_0), by decide +kernel, fun _ => ⟨rfl, q2767⟩⟩
theorem px_X5_13 : px "ElasticTruss$SetupException" 13 [4] 7 (.int) true := ⟨"ElasticTruss$SetupException", "ElasticTruss$SetupException", "offset", "I", ⟨Or.inl q2769, Or.inl rfl⟩, px_c (r := (RX5, TX5, 8)) (Nat.le_of_ble_eq_true rfl) rfl (Nat.le_of_ble_eq_true rfl) rfl (px_0), by decide +kernel, fun _ => ⟨rfl, q2769⟩⟩
theorem px_X11_7 : px "ElasticTruss$Chain$Link" 7 [10] 0 (.object "ElasticTruss$Operator") true := ⟨"ElasticTruss$Chain$Link", "ElasticTruss$Chain$Link", "operator", "LElasticTruss$Operator;", ⟨Or.inl q3077, Or.inl rfl⟩, px_c (r := (RX11, TX11, 3)) (Nat.le_of_ble_eq_true rfl) rfl (Nat.le_of_ble_eq_true rfl) rfl (px_0), by decide +kernel, fun _ => ⟨rfl, q3077⟩⟩
theorem px_X11_13 : px "ElasticTruss$Chain$Link" 13 [10] 1 (.object "ElasticTruss$Quantity") true := ⟨"ElasticTruss$Chain$Link", "ElasticTruss$Chain$Link", "operand", "LElasticTruss$Quantity;", ⟨Or.inl q3079, Or.inl rfl⟩, px_c (r := (RX11, TX11, 3)) (Nat.le_of_ble_eq_true rfl) rfl (Nat.le_of_ble_eq_true rfl) rfl (px_0), by decide +kernel, fun _ => ⟨rfl, q3079⟩⟩
theorem px_X10_7 : px "ElasticTruss$Chain" 7 [9] 0 (.object "ElasticTruss$Quantity") true := ⟨"ElasticTruss$Chain", "ElasticTruss$Chain", "first", "LElasticTruss$Quantity;", ⟨Or.inl q3047, Or.inl rfl⟩, px_c (r := (RX10, TX10, 3)) (Nat.le_of_ble_eq_true rfl) rfl (Nat.le_of_ble_eq_true rfl) rfl (px_0), by decide +kernel, fun _ => ⟨rfl, q3047⟩⟩
theorem px_X10_22 : px "ElasticTruss$Chain" 22 [9] 2 (.object "ElasticTruss$Chain$Link") false := ⟨"ElasticTruss$Chain", "ElasticTruss$Chain", "lastLink", "LElasticTruss$Chain$Link;", ⟨Or.inl q3049, Or.inl rfl⟩, px_c (r := (RX10, TX10, 3)) (Nat.le_of_ble_eq_true rfl) rfl (Nat.le_of_ble_eq_true rfl) rfl (px_0), by decide +kernel, fun h => by cases h⟩
theorem nx_X10_13 : nx "ElasticTruss$Chain" 13 10 3 [.null, .null, .null] := ⟨(Nat.le_of_ble_eq_true rfl), rfl, RX11, TX11, tyX11, rfl, rfl, q3071, q3072, q146, by
  intro j hj
  match j, hj with
  | 0, _ => rfl
  | 1, _ => rfl
  | 2, _ => rfl
  | j + 3, hj => omega⟩
theorem cx_X10_15 : cxI "ElasticTruss$Chain" 15 yX11_init cX11_init 3 2 := ⟨q3073, q3074, q146, q3075, ⟨by decide +kernel, by decide +kernel⟩, rfl, fun sig h => by have e := (show (parseMethodDescriptor (yX11_init).desc).map (fun d => d.parameters.length) = some 2 by decide +kernel); rw [h] at e; exact (Option.some.inj e).symm⟩
theorem fx_X10_18 : fx "ElasticTruss$Chain" 18 [9] 1 := ⟨"ElasticTruss$Chain", "ElasticTruss$Chain", "firstLink", "LElasticTruss$Chain$Link;", ⟨Or.inl q3048, Or.inl rfl⟩, fx_c (r := (RX10, TX10, 3)) (Nat.le_of_ble_eq_true rfl) rfl (Nat.le_of_ble_eq_true rfl) rfl rfl rfl (fx_0)⟩
theorem fx_X10_22 : fx "ElasticTruss$Chain" 22 [9] 2 := ⟨"ElasticTruss$Chain", "ElasticTruss$Chain", "lastLink", "LElasticTruss$Chain$Link;", ⟨Or.inl q3049, Or.inl rfl⟩, fx_c (r := (RX10, TX10, 3)) (Nat.le_of_ble_eq_true rfl) rfl (Nat.le_of_ble_eq_true rfl) rfl rfl rfl (fx_0)⟩
theorem px_X10_25 : px "ElasticTruss$Chain" 25 [10] 2 (.object "ElasticTruss$Chain$Link") false := ⟨"ElasticTruss$Chain$Link", "ElasticTruss$Chain$Link", "next", "LElasticTruss$Chain$Link;", ⟨Or.inr ⟨_, lw_n q3081 rfl⟩, Or.inl rfl⟩, px_c (r := (RX11, TX11, 3)) (Nat.le_of_ble_eq_true rfl) rfl (Nat.le_of_ble_eq_true rfl) rfl (px_0), by decide +kernel, fun h => by cases h⟩
theorem px_X10_18 : px "ElasticTruss$Chain" 18 [9] 1 (.object "ElasticTruss$Chain$Link") false := ⟨"ElasticTruss$Chain", "ElasticTruss$Chain", "firstLink", "LElasticTruss$Chain$Link;", ⟨Or.inl q3048, Or.inl rfl⟩, px_c (r := (RX10, TX10, 3)) (Nat.le_of_ble_eq_true rfl) rfl (Nat.le_of_ble_eq_true rfl) rfl (px_0), by decide +kernel, fun h => by cases h⟩
set_option maxHeartbeats 4000000 in
theorem wb_X1_isIn_b19 {E : Ev} {K : Kx} (C : wk_C E K yX1_isIn cX1_isIn 6 (Option.some FieldType.boolean) 0 0 []) {r : Int32} {σ' : Hs} (t0 : Int32) (σ : Hs) (hf : fn_X1_isIn_b19 t0 σ = some (r, σ')) : wk_V E K (.inl (some (.int r))) σ' σ 19 [] [vI t0] := by
  unfold fn_X1_isIn_b19 at hf
  obtain ⟨v1, h_v1, hf⟩ := ho_b hf
  obtain ⟨rfl, rfl⟩ := Prod.mk.inj (Option.some.inj hf)
  exact wk_zret C h_v1 rfl rfl dX1_isIn_19
set_option maxHeartbeats 4000000 in
theorem wb_X1_isIn_b18 {E : Ev} {K : Kx} (C : wk_C E K yX1_isIn cX1_isIn 6 (Option.some FieldType.boolean) 0 0 []) {r : Int32} {σ' : Hs}  (σ : Hs) (hf : fn_X1_isIn_b18  σ = some (r, σ')) : wk_V E K (.inl (some (.int r))) σ' σ 18 [] [] := by
  unfold fn_X1_isIn_b18 at hf
  refine wk_iconst (v := 0) C dX1_isIn_18 rfl ?_
  exact wb_X1_isIn_b19 C  _ _ hf
set_option maxHeartbeats 4000000 in
theorem mt_X1_isIn {E : Ev} {l : Launch} (hl : l.stackTraces = false) {p0 : Int64} {p1 : Int64} {p2 : Int64} {σ : Hs} {r : Int32} {σ' : Hs} (hf : fn_X1_isIn p0 p1 p2 σ = some (r, σ')) : wk_M E l yX1_isIn (ws_ yX1_isIn cX1_isIn 6 (Option.some FieldType.boolean)) 0 0 [vJ p0, vJ p1, vJ p2] σ (.inl (some (.int r))) σ' := by
  refine wk_start (by decide +kernel) hl (Nat.le_of_ble_eq_true rfl) (fun K C hK => ?_)
  subst hK
  refine wk_L (L' := [(0, vJ p0), (2, vJ p1), (4, vJ p2)]) rfl ?_
  unfold fn_X1_isIn at hf
  refine wk_lload C 2 rfl dX1_isIn_0 ?_
  refine wk_lload_n C 0 rfl dX1_isIn_2 ?_
  refine wk_lcmp_lt C 18 (by decide) dX1_isIn_3 dX1_isIn_4 (fun c_ => ?_) (fun c_ => ?_)
  · rw [if_pos c_] at hf
    refine wk_sub (L' := []) [] rfl ?_
    exact wb_X1_isIn_b18 C   _ hf
  · rw [if_neg c_] at hf
    refine wk_lload C 2 rfl dX1_isIn_7 ?_
    refine wk_lload_n C 1 rfl dX1_isIn_9 ?_
    refine wk_lcmp_gt C 18 (by decide) dX1_isIn_10 dX1_isIn_11 (fun c_ => ?_) (fun c_ => ?_)
    · rw [if_pos c_] at hf
      refine wk_sub (L' := []) [] rfl ?_
      exact wb_X1_isIn_b18 C   _ hf
    · rw [if_neg c_] at hf
      refine wk_iconst (v := 1) C dX1_isIn_14 rfl ?_
      refine wk_goto C 19 (by decide) dX1_isIn_15 ?_
      refine wk_sub (L' := []) [] rfl ?_
      exact wb_X1_isIn_b19 C  _ _ hf
set_option maxHeartbeats 4000000 in
theorem mt_X1_limited {E : Ev} {l : Launch} (hl : l.stackTraces = false) {p0 : Int64} {σ : Hs} {r : Int64} {σ' : Hs} (hf : fn_X1_limited p0 σ = some (r, σ')) : wk_M E l yX1_limited (ws_ yX1_limited cX1_limited 2 (Option.some FieldType.long)) 1 23 [vJ p0] σ (.inl (some (.long r))) σ' := by
  refine wk_start (by decide +kernel) hl (Nat.le_of_ble_eq_true rfl) (fun K C hK => ?_)
  subst hK
  refine wk_L (L' := [(0, vJ p0)]) rfl ?_
  unfold fn_X1_limited at hf
  refine wk_ldc2 C q1233 dX1_limited_0 ?_
  refine wk_ldc2 C q1234 dX1_limited_3 ?_
  refine wk_lload_n C 0 rfl dX1_limited_6 ?_
  obtain ⟨v2, σ1, h_σ1, hf⟩ := ho_e2 hf
  refine wk_callS (av := [vJ (1000000 : Int64), vJ p0]) (rest := [vJ (-1000000 : Int64)]) (rv := some (vJ v2)) C cx_X1_7 (mt_J12_min_2 (wk_C.tr C) h_σ1) rfl rfl (Nat.le_of_ble_eq_true rfl) (Nat.le_of_ble_eq_true rfl) (Nat.le_of_ble_eq_true rfl) dX1_limited_7 ?_
  obtain ⟨v4, σ3, h_σ3, hf⟩ := ho_e2 hf
  refine wk_callS (av := [vJ (-1000000 : Int64), vJ v2]) (rest := []) (rv := some (vJ v4)) C cx_X1_13 (mt_J12_max_2 (wk_C.tr C) h_σ3) rfl rfl (Nat.le_of_ble_eq_true rfl) (Nat.le_of_ble_eq_true rfl) (Nat.le_of_ble_eq_true rfl) dX1_limited_10 ?_
  obtain ⟨rfl, rfl⟩ := Prod.mk.inj (Option.some.inj hf)
  exact wk_lret C rfl rfl dX1_limited_13
set_option maxHeartbeats 4000000 in
theorem wb_X1_root_b50 {E : Ev} {K : Kx} (C : wk_C E K yX1_root cX1_root 4 (Option.some FieldType.int) 0 0 []) {r : Int32} {σ' : Hs} : ∀ (n : Nat) (l0 : Int32) (l3 : Int32) (σ : Hs), fn_X1_root_b50 E.2.2.1 n l0 l3 σ = some (r, σ') → wk_V E K (.inl (some (.int r))) σ' σ 50 [(0, vI l0), (3, vI l3)] [] := by
  intro n
  induction n with
  | zero =>
    intro l0 l3 σ hf
    rw [fn_X1_root_b50] at hf
    cases hf
  | succ n ih =>
    intro l0 l3 σ hf
    rw [fn_X1_root_b50] at hf
    refine wk_iload_n C 1 rfl dX1_root_50 ?_
    refine wk_iconst (v := 1) C dX1_root_51 rfl ?_
    refine wk_iadd C dX1_root_52 ?_
    refine wk_iload_n C 1 rfl dX1_root_53 ?_
    refine wk_iconst (v := 1) C dX1_root_54 rfl ?_
    refine wk_iadd C dX1_root_55 ?_
    refine wk_imul C dX1_root_56 ?_
    refine wk_iload_n C 0 rfl dX1_root_57 ?_
    refine wk_icmp_gt C 67 (by decide) dX1_root_58 (fun c_ => ?_) (fun c_ => ?_)
    · rw [if_pos c_] at hf
      refine wk_iload_n C 1 rfl dX1_root_67 ?_
      obtain ⟨rfl, rfl⟩ := Prod.mk.inj (Option.some.inj hf)
      exact wk_iret C rfl rfl dX1_root_68
    · rw [if_neg c_] at hf
      refine wk_iinc (v := l3 + 1) (L' := [(0, vI l0), (3, vI (l3 + 1))]) C 1 rfl (by decide) rfl rfl dX1_root_61 ?_
      refine wk_goto C 50 (by decide) dX1_root_64 ?_
      exact ih _ _ _ hf
set_option maxHeartbeats 4000000 in
theorem wb_X1_root_b45 {E : Ev} {K : Kx} (C : wk_C E K yX1_root cX1_root 4 (Option.some FieldType.int) 0 0 []) {r : Int32} {σ' : Hs} (l0 : Int32) (l1 : Int32) (σ : Hs) (hf : fn_X1_root_b45 E.2.2.1 l0 l1 σ = some (r, σ')) : wk_V E K (.inl (some (.int r))) σ' σ 45 [(0, vI l0), (1, vI l1)] [] := by
  unfold fn_X1_root_b45 at hf
  refine wk_bipush (v := 8) C dX1_root_45 rfl ?_
  refine wk_iload_n C 1 rfl dX1_root_47 ?_
  refine wk_imul C dX1_root_48 ?_
  obtain ⟨v1, e_v1, hf⟩ := ho_b hf
  refine wk_tI (Option.some.inj e_v1) ?_
  refine wk_istore_n (L' := [(0, vI l0), (1, vI l1), (3, vI v1)]) C (by decide) rfl dX1_root_49 ?_
  refine wk_sub (L' := [(0, vI l0), (3, vI v1)]) [0, 2] rfl ?_
  exact wb_X1_root_b50 C  _ _ _ _ hf
set_option maxHeartbeats 4000000 in
theorem wb_X1_root_b42 {E : Ev} {K : Kx} (C : wk_C E K yX1_root cX1_root 4 (Option.some FieldType.int) 0 0 []) {k9 : Int32 → Int32 → Int32 → Hs → Option (Int32 × Hs)} {r : Int32} {σ' : Hs} (hk9 : ∀ (l0 : Int32) (l1 : Int32) (l2 : Int32) (σ : Hs), k9 l0 l1 l2 σ = some (r, σ') → wk_V E K (.inl (some (.int r))) σ' σ 9 [(0, vI l0), (1, vI l1), (2, vI l2)] []) (l0 : Int32) (l1 : Int32) (l2 : Int32) (σ : Hs) (hf : fn_X1_root_b42 E.2.2.1 k9 l0 l1 l2 σ = some (r, σ')) : wk_V E K (.inl (some (.int r))) σ' σ 42 [(0, vI l0), (1, vI l1), (2, vI l2)] [] := by
  unfold fn_X1_root_b42 at hf
  refine wk_goto C 9 (by decide) dX1_root_42 ?_
  exact hk9 _ _ _ _ hf
set_option maxHeartbeats 4000000 in
theorem wb_X1_root_b9 {E : Ev} {K : Kx} (C : wk_C E K yX1_root cX1_root 4 (Option.some FieldType.int) 0 0 []) {r : Int32} {σ' : Hs} : ∀ (n : Nat) (l0 : Int32) (l1 : Int32) (l2 : Int32) (σ : Hs), fn_X1_root_b9 E.2.2.1 n l0 l1 l2 σ = some (r, σ') → wk_V E K (.inl (some (.int r))) σ' σ 9 [(0, vI l0), (1, vI l1), (2, vI l2)] [] := by
  intro n
  induction n with
  | zero =>
    intro l0 l1 l2 σ hf
    rw [fn_X1_root_b9] at hf
    cases hf
  | succ n ih =>
    intro l0 l1 l2 σ hf
    rw [fn_X1_root_b9] at hf
    refine wk_iload_n C 1 rfl dX1_root_9 ?_
    refine wk_iload_n C 2 rfl dX1_root_10 ?_
    refine wk_icmp_ge C 45 (by decide) dX1_root_11 (fun c_ => ?_) (fun c_ => ?_)
    · rw [if_pos c_] at hf
      refine wk_sub (L' := [(0, vI l0), (1, vI l1)]) [0, 1] rfl ?_
      exact wb_X1_root_b45 C  _ _ _ hf
    · rw [if_neg c_] at hf
      refine wk_iload_n C 1 rfl dX1_root_14 ?_
      refine wk_iload_n C 2 rfl dX1_root_15 ?_
      refine wk_iload_n C 1 rfl dX1_root_16 ?_
      refine wk_isub C dX1_root_17 ?_
      refine wk_iconst (v := 1) C dX1_root_18 rfl ?_
      refine wk_iadd C dX1_root_19 ?_
      refine wk_iconst (v := 2) C dX1_root_20 rfl ?_
      obtain ⟨v2, h_v2, hf⟩ := ho_b hf
      refine wk_idiv C dX1_root_21 h_v2 ?_
      refine wk_iadd C dX1_root_22 ?_
      obtain ⟨v3, e_v3, hf⟩ := ho_b hf
      refine wk_tI (Option.some.inj e_v3) ?_
      refine wk_istore_n (L' := [(0, vI l0), (1, vI l1), (2, vI l2), (3, vI v3)]) C (by decide) rfl dX1_root_23 ?_
      refine wk_getsR C (j := 0) sx_X1_16 rfl dX1_root_24 ?_
      refine wk_iload_n C 3 rfl dX1_root_27 ?_
      obtain ⟨v4, h_v4, hf⟩ := ho_b hf
      refine wk_iald C h_v4 dX1_root_28 ?_
      refine wk_iload_n C 0 rfl dX1_root_29 ?_
      refine wk_icmp_gt C 38 (by decide) dX1_root_30 (fun c_ => ?_) (fun c_ => ?_)
      · rw [if_pos c_] at hf
        refine wk_iload_n C 3 rfl dX1_root_38 ?_
        refine wk_iconst (v := 1) C dX1_root_39 rfl ?_
        refine wk_isub C dX1_root_40 ?_
        obtain ⟨v5, e_v5, hf⟩ := ho_b hf
        refine wk_tI (Option.some.inj e_v5) ?_
        refine wk_istore_n (L' := [(0, vI l0), (1, vI l1), (2, vI v5), (3, vI v3)]) C (by decide) rfl dX1_root_41 ?_
        refine wk_sub (L' := [(0, vI l0), (1, vI l1), (2, vI v5)]) [0, 1, 2] rfl ?_
        exact wb_X1_root_b42 C ih _ _ _ _ hf
      · rw [if_neg c_] at hf
        refine wk_iload_n C 3 rfl dX1_root_33 ?_
        refine wk_istore_n (L' := [(0, vI l0), (1, vI v3), (2, vI l2), (3, vI v3)]) C (by decide) rfl dX1_root_34 ?_
        refine wk_goto C 42 (by decide) dX1_root_35 ?_
        refine wk_sub (L' := [(0, vI l0), (1, vI v3), (2, vI l2)]) [0, 1, 2] rfl ?_
        exact wb_X1_root_b42 C ih _ _ _ _ hf
set_option maxHeartbeats 4000000 in
theorem mt_X1_root {E : Ev} {l : Launch} (hl : l.stackTraces = false) {p0 : Int32} {σ : Hs} {r : Int32} {σ' : Hs} (hf : fn_X1_root E.2.2.1 p0 σ = some (r, σ')) : wk_M E l yX1_root (ws_ yX1_root cX1_root 4 (Option.some FieldType.int)) 0 0 [vI p0] σ (.inl (some (.int r))) σ' := by
  refine wk_start (by decide +kernel) hl (Nat.le_of_ble_eq_true rfl) (fun K C hK => ?_)
  subst hK
  refine wk_L (L' := [(0, vI p0)]) rfl ?_
  unfold fn_X1_root at hf
  refine wk_iconst (v := 0) C dX1_root_0 rfl ?_
  refine wk_istore_n (L' := [(0, vI p0), (1, vI (0 : Int32))]) C (by decide) rfl dX1_root_1 ?_
  refine wk_getsR C (j := 0) sx_X1_16 rfl dX1_root_2 ?_
  obtain ⟨v6, h_v6, hf⟩ := ho_b hf
  refine wk_alen C h_v6 dX1_root_5 ?_
  refine wk_iconst (v := 1) C dX1_root_6 rfl ?_
  refine wk_isub C dX1_root_7 ?_
  obtain ⟨v7, e_v7, hf⟩ := ho_b hf
  refine wk_tI (Option.some.inj e_v7) ?_
  refine wk_istore_n (L' := [(0, vI p0), (1, vI (0 : Int32)), (2, vI v7)]) C (by decide) rfl dX1_root_8 ?_
  exact wb_X1_root_b9 C  _ _ _ _ _ hf
set_option maxHeartbeats 4000000 in
theorem mt_X1_checkIndex {E : Ev} {l : Launch} (hl : l.stackTraces = false) {p0 : Int32} {σ : Hs} {r : Unit ⊕ Nat} {σ' : Hs} (hf : fn_X1_checkIndex p0 σ = some (r, σ')) : wk_M E l yX1_checkIndex (ws_ yX1_checkIndex cX1_checkIndex 1 (Option.none : Option FieldType)) 6 81 [vI p0] σ (ot_V r) σ' := by
  refine wk_start (by decide +kernel) hl (Nat.le_of_ble_eq_true rfl) (fun K C hK => ?_)
  subst hK
  refine wk_L (L' := [(0, vI p0)]) rfl ?_
  unfold fn_X1_checkIndex at hf
  refine wk_iload_n C 0 rfl dX1_checkIndex_0 ?_
  refine wk_if_ne C 12 (by decide) dX1_checkIndex_1 (fun c_ => ?_) (fun c_ => ?_)
  · rw [if_neg c_] at hf
    obtain ⟨rfl, rfl⟩ := Prod.mk.inj (Option.some.inj hf)
    exact wk_vret C rfl rfl dX1_checkIndex_12
  · rw [if_pos c_] at hf
    obtain ⟨v1, σ3, h_σ3, hf⟩ := ho_e2 hf
    obtain ⟨q2, h_q2, hf⟩ := ho_b hf
    obtain ⟨rfl, rfl⟩ := Prod.mk.inj (Option.some.inj hf)
    exact wk_throw0 C tx_X1_57 h_σ3 h_q2 rfl rfl dX1_checkIndex_4 dX1_checkIndex_7 dX1_checkIndex_8 dX1_checkIndex_11 (by decide +kernel) (Nat.le_of_ble_eq_true rfl) (Nat.le_of_ble_eq_true rfl)
set_option maxHeartbeats 4000000 in
theorem mt_X1_checkArgument {E : Ev} {l : Launch} (hl : l.stackTraces = false) {p0 : Int32} {σ : Hs} {r : Unit ⊕ Nat} {σ' : Hs} (hf : fn_X1_checkArgument p0 σ = some (r, σ')) : wk_M E l yX1_checkArgument (ws_ yX1_checkArgument cX1_checkArgument 1 (Option.none : Option FieldType)) 6 81 [vI p0] σ (ot_V r) σ' := by
  refine wk_start (by decide +kernel) hl (Nat.le_of_ble_eq_true rfl) (fun K C hK => ?_)
  subst hK
  refine wk_L (L' := [(0, vI p0)]) rfl ?_
  unfold fn_X1_checkArgument at hf
  refine wk_iload_n C 0 rfl dX1_checkArgument_0 ?_
  refine wk_if_ne C 12 (by decide) dX1_checkArgument_1 (fun c_ => ?_) (fun c_ => ?_)
  · rw [if_neg c_] at hf
    obtain ⟨rfl, rfl⟩ := Prod.mk.inj (Option.some.inj hf)
    exact wk_vret C rfl rfl dX1_checkArgument_12
  · rw [if_pos c_] at hf
    obtain ⟨v1, σ3, h_σ3, hf⟩ := ho_e2 hf
    obtain ⟨q2, h_q2, hf⟩ := ho_b hf
    obtain ⟨rfl, rfl⟩ := Prod.mk.inj (Option.some.inj hf)
    exact wk_throw0 C tx_X1_60 h_σ3 h_q2 rfl rfl dX1_checkArgument_4 dX1_checkArgument_7 dX1_checkArgument_8 dX1_checkArgument_11 (by decide +kernel) (Nat.le_of_ble_eq_true rfl) (Nat.le_of_ble_eq_true rfl)
set_option maxHeartbeats 4000000 in
theorem mt_X1_checkState {E : Ev} {l : Launch} (hl : l.stackTraces = false) {p0 : Int32} {σ : Hs} {r : Unit ⊕ Nat} {σ' : Hs} (hf : fn_X1_checkState p0 σ = some (r, σ')) : wk_M E l yX1_checkState (ws_ yX1_checkState cX1_checkState 1 (Option.none : Option FieldType)) 6 81 [vI p0] σ (ot_V r) σ' := by
  refine wk_start (by decide +kernel) hl (Nat.le_of_ble_eq_true rfl) (fun K C hK => ?_)
  subst hK
  refine wk_L (L' := [(0, vI p0)]) rfl ?_
  unfold fn_X1_checkState at hf
  refine wk_iload_n C 0 rfl dX1_checkState_0 ?_
  refine wk_if_ne C 12 (by decide) dX1_checkState_1 (fun c_ => ?_) (fun c_ => ?_)
  · rw [if_neg c_] at hf
    obtain ⟨rfl, rfl⟩ := Prod.mk.inj (Option.some.inj hf)
    exact wk_vret C rfl rfl dX1_checkState_12
  · rw [if_pos c_] at hf
    obtain ⟨v1, σ3, h_σ3, hf⟩ := ho_e2 hf
    obtain ⟨q2, h_q2, hf⟩ := ho_b hf
    obtain ⟨rfl, rfl⟩ := Prod.mk.inj (Option.some.inj hf)
    exact wk_throw0 C tx_X1_63 h_σ3 h_q2 rfl rfl dX1_checkState_4 dX1_checkState_7 dX1_checkState_8 dX1_checkState_11 (by decide +kernel) (Nat.le_of_ble_eq_true rfl) (Nat.le_of_ble_eq_true rfl)
set_option maxHeartbeats 4000000 in
theorem wb_X1_mixed_b13 {E : Ev} {K : Kx} (C : wk_C E K yX1_mixed cX1_mixed 9 (Option.some FieldType.long) 0 0 []) {r : Int64} {σ' : Hs} : ∀ (n : Nat) (l3 : Int64) (l5 : Option Nat) (l6 : Int32) (l7 : Int32) (σ : Hs), fn_X1_mixed_b13 n l3 l5 l6 l7 σ = some (r, σ') → wk_V E K (.inl (some (.long r))) σ' σ 13 [(3, vJ l3), (5, vR l5), (6, vI l6), (7, vI l7)] [] := by
  intro n
  induction n with
  | zero =>
    intro l3 l5 l6 l7 σ hf
    rw [fn_X1_mixed_b13] at hf
    cases hf
  | succ n ih =>
    intro l3 l5 l6 l7 σ hf
    rw [fn_X1_mixed_b13] at hf
    refine wk_iload C 3 rfl dX1_mixed_13 ?_
    refine wk_iload C 2 rfl dX1_mixed_15 ?_
    refine wk_icmp_ge C 43 (by decide) dX1_mixed_17 (fun c_ => ?_) (fun c_ => ?_)
    · rw [if_pos c_] at hf
      refine wk_lload_n C 0 rfl dX1_mixed_43 ?_
      obtain ⟨rfl, rfl⟩ := Prod.mk.inj (Option.some.inj hf)
      exact wk_lret C rfl rfl dX1_mixed_44
    · rw [if_neg c_] at hf
      refine wk_aload C 1 rfl dX1_mixed_20 ?_
      refine wk_iload C 3 rfl dX1_mixed_22 ?_
      obtain ⟨v1, h_v1, hf⟩ := ho_b hf
      refine wk_iald C h_v1 dX1_mixed_24 ?_
      refine wk_istore (L' := [(3, vJ l3), (5, vR l5), (6, vI l6), (7, vI l7), (8, vI v1)]) C (by decide) rfl dX1_mixed_25 ?_
      refine wk_ldc2 C q2664 dX1_mixed_27 ?_
      refine wk_lload_n C 0 rfl dX1_mixed_30 ?_
      refine wk_lmul C dX1_mixed_31 ?_
      refine wk_iload C 4 rfl dX1_mixed_32 ?_
      refine wk_i2l C dX1_mixed_34 ?_
      refine wk_ladd C dX1_mixed_35 ?_
      obtain ⟨v2, e_v2, hf⟩ := ho_b hf
      refine wk_tJ (Option.some.inj e_v2) ?_
      refine wk_lstore_n (L' := [(3, vJ v2), (5, vR l5), (6, vI l6), (7, vI l7), (8, vI v1)]) C (by decide) rfl dX1_mixed_36 ?_
      refine wk_iinc (v := l7 + 1) (L' := [(3, vJ v2), (5, vR l5), (6, vI l6), (7, vI (l7 + 1)), (8, vI v1)]) C 3 rfl (by decide) rfl rfl dX1_mixed_37 ?_
      refine wk_goto C 13 (by decide) dX1_mixed_40 ?_
      refine wk_sub (L' := [(3, vJ v2), (5, vR l5), (6, vI l6), (7, vI (l7 + 1))]) [0, 1, 2, 3] rfl ?_
      exact ih _ _ _ _ _ hf
set_option maxHeartbeats 4000000 in
theorem mt_X1_mixed {E : Ev} {l : Launch} (hl : l.stackTraces = false) {p0 : Int64} {p1 : Option Nat} {σ : Hs} {r : Int64} {σ' : Hs} (hf : fn_X1_mixed p0 p1 σ = some (r, σ')) : wk_M E l yX1_mixed (ws_ yX1_mixed cX1_mixed 9 (Option.some FieldType.long)) 0 0 [vJ p0, vR p1] σ (.inl (some (.long r))) σ' := by
  refine wk_start (by decide +kernel) hl (Nat.le_of_ble_eq_true rfl) (fun K C hK => ?_)
  subst hK
  refine wk_L (L' := [(0, vJ p0), (2, vR p1)]) rfl ?_
  unfold fn_X1_mixed at hf
  refine wk_lload_n C 0 rfl dX1_mixed_0 ?_
  refine wk_lstore_n (L' := [(0, vJ p0), (2, vR p1), (3, vJ p0)]) C (by decide) rfl dX1_mixed_1 ?_
  refine wk_aload_n C 1 rfl dX1_mixed_2 ?_
  refine wk_astore (L' := [(0, vJ p0), (2, vR p1), (3, vJ p0), (5, vR p1)]) C (by decide) rfl dX1_mixed_3 ?_
  refine wk_aload C 3 rfl dX1_mixed_5 ?_
  obtain ⟨v3, h_v3, hf⟩ := ho_b hf
  refine wk_alen C h_v3 dX1_mixed_7 ?_
  refine wk_istore (L' := [(0, vJ p0), (2, vR p1), (3, vJ p0), (5, vR p1), (6, vI v3)]) C (by decide) rfl dX1_mixed_8 ?_
  refine wk_iconst (v := 0) C dX1_mixed_10 rfl ?_
  refine wk_istore (L' := [(0, vJ p0), (2, vR p1), (3, vJ p0), (5, vR p1), (6, vI v3), (7, vI (0 : Int32))]) C (by decide) rfl dX1_mixed_11 ?_
  refine wk_sub (L' := [(3, vJ p0), (5, vR p1), (6, vI v3), (7, vI (0 : Int32))]) [2, 3, 4, 5] rfl ?_
  exact wb_X1_mixed_b13 C  _ _ _ _ _ _ hf
set_option maxHeartbeats 4000000 in
theorem mt_X6_init {E : Ev} {l : Launch} (hl : l.stackTraces = false) {p0 : Option Nat} {p1 : Int32} {p2 : Int32} {p3 : Int32} {p4 : Int32} {σ : Hs} {σ' : Hs} (hf : fn_X6_init p0 p1 p2 p3 p4 σ = some σ') : wk_M E l yX6_init (ws_ yX6_init cX6_init 5 (Option.none : Option FieldType)) 1 12 [vR p0, vI p1, vI p2, vI p3, vI p4] σ (.inl none) σ' := by
  refine wk_start (by decide +kernel) hl (Nat.le_of_ble_eq_true rfl) (fun K C hK => ?_)
  subst hK
  refine wk_L (L' := [(0, vR p0), (1, vI p1), (2, vI p2), (3, vI p3), (4, vI p4)]) rfl ?_
  unfold fn_X6_init at hf
  refine wk_aload_n C 0 rfl dX6_init_0 ?_
  obtain ⟨b1, h_b1, hf⟩ := ho_b hf
  refine wk_objI C h_b1 q2830 q179 q180 (Nat.le_of_ble_eq_true rfl) (Nat.le_of_ble_eq_true rfl) dX6_init_1 ?_
  refine wk_aload_n C 0 rfl dX6_init_4 ?_
  refine wk_iload_n C 1 rfl dX6_init_5 ?_
  obtain ⟨σ2, h_σ2, hf⟩ := ho_b hf
  refine wk_putI C px_X6_12 (fun _ => rfl) h_σ2 dX6_init_6 ?_
  refine wk_aload_n C 0 rfl dX6_init_9 ?_
  refine wk_iload_n C 2 rfl dX6_init_10 ?_
  obtain ⟨σ3, h_σ3, hf⟩ := ho_b hf
  refine wk_putI C px_X6_16 (fun _ => rfl) h_σ3 dX6_init_11 ?_
  refine wk_aload_n C 0 rfl dX6_init_14 ?_
  refine wk_iload_n C 3 rfl dX6_init_15 ?_
  obtain ⟨σ4, h_σ4, hf⟩ := ho_b hf
  refine wk_putZ C px_X6_19 (fun _ => rfl) h_σ4 dX6_init_16 ?_
  refine wk_aload_n C 0 rfl dX6_init_19 ?_
  refine wk_iload C 4 rfl dX6_init_20 ?_
  obtain ⟨σ5, h_σ5, hf⟩ := ho_b hf
  refine wk_putZ C px_X6_23 (fun _ => rfl) h_σ5 dX6_init_22 ?_
  obtain rfl := Option.some.inj hf
  exact wk_vret C rfl rfl dX6_init_25
set_option maxHeartbeats 4000000 in
theorem mt_X6_init_2 {E : Ev} {l : Launch} (hl : l.stackTraces = false) {p0 : Option Nat} {p1 : Int32} {p2 : Int32} {σ : Hs} {σ' : Hs} (hf : fn_X6_init_2 p0 p1 p2 σ = some σ') : wk_M E l yX6_init_2 (ws_ yX6_init_2 cX6_init_2 3 (Option.none : Option FieldType)) 2 36 [vR p0, vI p1, vI p2] σ (.inl none) σ' := by
  refine wk_start (by decide +kernel) hl (Nat.le_of_ble_eq_true rfl) (fun K C hK => ?_)
  subst hK
  refine wk_L (L' := [(0, vR p0), (1, vI p1), (2, vI p2)]) rfl ?_
  unfold fn_X6_init_2 at hf
  refine wk_aload_n C 0 rfl dX6_init_2_0 ?_
  refine wk_iload_n C 1 rfl dX6_init_2_1 ?_
  refine wk_iload_n C 2 rfl dX6_init_2_2 ?_
  refine wk_iconst (v := 0) C dX6_init_2_3 rfl ?_
  refine wk_iconst (v := 0) C dX6_init_2_4 rfl ?_
  obtain ⟨b1, h_b1, hf⟩ := ho_b hf
  obtain ⟨σ2, h_σ2, hf⟩ := ho_b hf
  refine wk_callI (av := [vI p1, vI p2, vI (0 : Int32), vI (0 : Int32)]) (rest := []) C cx_X6_1 h_b1 (mt_X6_init (wk_C.tr C) h_σ2) rfl (Nat.le_of_ble_eq_true rfl) (Nat.le_of_ble_eq_true rfl) (Nat.le_of_ble_eq_true rfl) dX6_init_2_5 ?_
  obtain rfl := Option.some.inj hf
  exact wk_vret C rfl rfl dX6_init_2_8
set_option maxHeartbeats 4000000 in
theorem mt_X8_init {E : Ev} {l : Launch} (hl : l.stackTraces = false) {p0 : Option Nat} {p1 : Int32} {p2 : Int32} {p3 : Int32} {p4 : Int32} {p5 : Int32} {σ : Hs} {σ' : Hs} (hf : fn_X8_init E.2.2.1 p0 p1 p2 p3 p4 p5 σ = some σ') : wk_M E l yX8_init (ws_ yX8_init cX8_init 6 (Option.none : Option FieldType)) 1 23 [vR p0, vI p1, vI p2, vI p3, vI p4, vI p5] σ (.inl none) σ' := by
  refine wk_start (by decide +kernel) hl (Nat.le_of_ble_eq_true rfl) (fun K C hK => ?_)
  subst hK
  refine wk_L (L' := [(0, vR p0), (1, vI p1), (2, vI p2), (3, vI p3), (4, vI p4), (5, vI p5)]) rfl ?_
  unfold fn_X8_init at hf
  refine wk_aload_n C 0 rfl dX8_init_0 ?_
  obtain ⟨b1, h_b1, hf⟩ := ho_b hf
  refine wk_objI C h_b1 q2940 q179 q180 (Nat.le_of_ble_eq_true rfl) (Nat.le_of_ble_eq_true rfl) dX8_init_1 ?_
  refine wk_aload_n C 0 rfl dX8_init_4 ?_
  refine wk_iload_n C 1 rfl dX8_init_5 ?_
  obtain ⟨σ2, h_σ2, hf⟩ := ho_b hf
  refine wk_putI C px_X8_7 (fun _ => rfl) h_σ2 dX8_init_6 ?_
  refine wk_aload_n C 0 rfl dX8_init_9 ?_
  refine wk_iload_n C 2 rfl dX8_init_10 ?_
  obtain ⟨σ3, h_σ3, hf⟩ := ho_b hf
  refine wk_putI C px_X8_13 (fun _ => rfl) h_σ3 dX8_init_11 ?_
  refine wk_aload_n C 0 rfl dX8_init_14 ?_
  refine wk_iload_n C 3 rfl dX8_init_15 ?_
  obtain ⟨σ4, h_σ4, hf⟩ := ho_b hf
  refine wk_putI C px_X8_16 (fun _ => rfl) h_σ4 dX8_init_16 ?_
  refine wk_aload_n C 0 rfl dX8_init_19 ?_
  refine wk_iload C 4 rfl dX8_init_20 ?_
  obtain ⟨σ5, h_σ5, hf⟩ := ho_b hf
  refine wk_putI C px_X8_19 (fun _ => rfl) h_σ5 dX8_init_22 ?_
  refine wk_aload_n C 0 rfl dX8_init_25 ?_
  refine wk_iload C 5 rfl dX8_init_26 ?_
  obtain ⟨σ6, h_σ6, hf⟩ := ho_b hf
  refine wk_putI C px_X8_22 (fun _ => rfl) h_σ6 dX8_init_28 ?_
  refine wk_aload_n C 0 rfl dX8_init_31 ?_
  refine wk_iload C 4 rfl dX8_init_32 ?_
  refine wk_iload C 4 rfl dX8_init_34 ?_
  refine wk_imul C dX8_init_36 ?_
  refine wk_iload C 5 rfl dX8_init_37 ?_
  refine wk_iload C 5 rfl dX8_init_39 ?_
  refine wk_imul C dX8_init_41 ?_
  refine wk_iadd C dX8_init_42 ?_
  obtain ⟨v8, σ7, h_σ7, hf⟩ := ho_e2 hf
  refine wk_callSN (av := [vI ((p4 * p4) + (p5 * p5))]) (rest := [vR p0]) (rv := some (vI v8)) C cx_X8_25 (mt_X1_root (wk_C.tr C) h_σ7) rfl rfl (Nat.le_of_ble_eq_true rfl) (Nat.le_of_ble_eq_true rfl) (Nat.le_of_ble_eq_true rfl) dX8_init_43 ?_
  obtain ⟨σ9, h_σ9, hf⟩ := ho_b hf
  refine wk_putI C px_X8_31 (fun _ => rfl) h_σ9 dX8_init_46 ?_
  obtain rfl := Option.some.inj hf
  exact wk_vret C rfl rfl dX8_init_49
set_option maxHeartbeats 4000000 in
theorem wb_X8_isAt_b21 {E : Ev} {K : Kx} (C : wk_C E K yX8_isAt cX8_isAt 2 (Option.some FieldType.boolean) 0 0 []) {r : Int32} {σ' : Hs} (t0 : Int32) (σ : Hs) (hf : fn_X8_isAt_b21 t0 σ = some (r, σ')) : wk_V E K (.inl (some (.int r))) σ' σ 21 [] [vI t0] := by
  unfold fn_X8_isAt_b21 at hf
  obtain ⟨v1, h_v1, hf⟩ := ho_b hf
  obtain ⟨rfl, rfl⟩ := Prod.mk.inj (Option.some.inj hf)
  exact wk_zret C h_v1 rfl rfl dX8_isAt_21
set_option maxHeartbeats 4000000 in
theorem wb_X8_isAt_b16 {E : Ev} {K : Kx} (C : wk_C E K yX8_isAt cX8_isAt 2 (Option.some FieldType.boolean) 0 0 []) {r : Int32} {σ' : Hs}  (σ : Hs) (hf : fn_X8_isAt_b16  σ = some (r, σ')) : wk_V E K (.inl (some (.int r))) σ' σ 16 [] [] := by
  unfold fn_X8_isAt_b16 at hf
  refine wk_iconst (v := 1) C dX8_isAt_16 rfl ?_
  refine wk_goto C 21 (by decide) dX8_isAt_17 ?_
  exact wb_X8_isAt_b21 C  _ _ hf
set_option maxHeartbeats 4000000 in
theorem mt_X8_isAt {E : Ev} {l : Launch} (hl : l.stackTraces = false) {p0 : Option Nat} {p1 : Int32} {σ : Hs} {r : Int32} {σ' : Hs} (hf : fn_X8_isAt p0 p1 σ = some (r, σ')) : wk_M E l yX8_isAt (ws_ yX8_isAt cX8_isAt 2 (Option.some FieldType.boolean)) 0 0 [vR p0, vI p1] σ (.inl (some (.int r))) σ' := by
  refine wk_start (by decide +kernel) hl (Nat.le_of_ble_eq_true rfl) (fun K C hK => ?_)
  subst hK
  refine wk_L (L' := [(0, vR p0), (1, vI p1)]) rfl ?_
  unfold fn_X8_isAt at hf
  refine wk_aload_n C 0 rfl dX8_isAt_0 ?_
  obtain ⟨v2, h_v2, hf⟩ := ho_b hf
  refine wk_getI C fx_X8_7 h_v2 dX8_isAt_1 ?_
  refine wk_iload_n C 1 rfl dX8_isAt_4 ?_
  refine wk_icmp_eq C 16 (by decide) dX8_isAt_5 (fun c_ => ?_) (fun c_ => ?_)
  · rw [if_pos c_] at hf
    refine wk_sub (L' := []) [] rfl ?_
    exact wb_X8_isAt_b16 C   _ hf
  · rw [if_neg c_] at hf
    refine wk_aload_n C 0 rfl dX8_isAt_8 ?_
    obtain ⟨v3, h_v3, hf⟩ := ho_b hf
    refine wk_getI C fx_X8_13 h_v3 dX8_isAt_9 ?_
    refine wk_iload_n C 1 rfl dX8_isAt_12 ?_
    refine wk_icmp_ne C 20 (by decide) dX8_isAt_13 (fun c_ => ?_) (fun c_ => ?_)
    · rw [if_neg c_] at hf
      refine wk_iconst (v := 0) C dX8_isAt_20 rfl ?_
      refine wk_sub (L' := []) [] rfl ?_
      exact wb_X8_isAt_b21 C  _ _ hf
    · rw [if_pos c_] at hf
      refine wk_sub (L' := []) [] rfl ?_
      exact wb_X8_isAt_b16 C   _ hf
set_option maxHeartbeats 4000000 in
theorem mt_X9_init {E : Ev} {l : Launch} (hl : l.stackTraces = false) {p0 : Option Nat} {p1 : Int32} {p2 : Int32} {p3 : Int32} {p4 : Int32} {σ : Hs} {σ' : Hs} (hf : fn_X9_init p0 p1 p2 p3 p4 σ = some σ') : wk_M E l yX9_init (ws_ yX9_init cX9_init 5 (Option.none : Option FieldType)) 2 32 [vR p0, vI p1, vI p2, vI p3, vI p4] σ (.inl none) σ' := by
  refine wk_start (by decide +kernel) hl (Nat.le_of_ble_eq_true rfl) (fun K C hK => ?_)
  subst hK
  refine wk_L (L' := [(0, vR p0), (1, vI p1), (2, vI p2), (3, vI p3), (4, vI p4)]) rfl ?_
  unfold fn_X9_init at hf
  refine wk_aload_n C 0 rfl dX9_init_0 ?_
  obtain ⟨b1, h_b1, hf⟩ := ho_b hf
  obtain ⟨σ2, h_σ2, hf⟩ := ho_b hf
  refine wk_callI (av := []) (rest := []) C cx_X9_1 h_b1 (mt_J28_init (wk_C.tr C) h_σ2) rfl (Nat.le_of_ble_eq_true rfl) (Nat.le_of_ble_eq_true rfl) (Nat.le_of_ble_eq_true rfl) dX9_init_1 ?_
  refine wk_aload_n C 0 rfl dX9_init_4 ?_
  refine wk_iload_n C 1 rfl dX9_init_5 ?_
  obtain ⟨σ3, h_σ3, hf⟩ := ho_b hf
  refine wk_putI C px_X9_7 (fun _ => rfl) h_σ3 dX9_init_6 ?_
  refine wk_aload_n C 0 rfl dX9_init_9 ?_
  refine wk_iload_n C 2 rfl dX9_init_10 ?_
  obtain ⟨σ4, h_σ4, hf⟩ := ho_b hf
  refine wk_putI C px_X9_13 (fun _ => rfl) h_σ4 dX9_init_11 ?_
  refine wk_aload_n C 0 rfl dX9_init_14 ?_
  refine wk_iload_n C 3 rfl dX9_init_15 ?_
  obtain ⟨σ5, h_σ5, hf⟩ := ho_b hf
  refine wk_putI C px_X9_16 (fun _ => rfl) h_σ5 dX9_init_16 ?_
  refine wk_aload_n C 0 rfl dX9_init_19 ?_
  refine wk_iload C 4 rfl dX9_init_20 ?_
  obtain ⟨σ6, h_σ6, hf⟩ := ho_b hf
  refine wk_putI C px_X9_19 (fun _ => rfl) h_σ6 dX9_init_22 ?_
  obtain rfl := Option.some.inj hf
  exact wk_vret C rfl rfl dX9_init_25
set_option maxHeartbeats 4000000 in
theorem mt_X9_stage {E : Ev} {l : Launch} (hl : l.stackTraces = false) {p0 : Option Nat} {σ : Hs} {r : Int32} {σ' : Hs} (hf : fn_X9_stage p0 σ = some (r, σ')) : wk_M E l yX9_stage (ws_ yX9_stage cX9_stage 1 (Option.some FieldType.int)) 0 0 [vR p0] σ (.inl (some (.int r))) σ' := by
  refine wk_start (by decide +kernel) hl (Nat.le_of_ble_eq_true rfl) (fun K C hK => ?_)
  subst hK
  refine wk_L (L' := [(0, vR p0)]) rfl ?_
  unfold fn_X9_stage at hf
  refine wk_aload_n C 0 rfl dX9_stage_0 ?_
  obtain ⟨v1, h_v1, hf⟩ := ho_b hf
  refine wk_getI C fx_X9_7 h_v1 dX9_stage_1 ?_
  obtain ⟨rfl, rfl⟩ := Prod.mk.inj (Option.some.inj hf)
  exact wk_iret C rfl rfl dX9_stage_4
set_option maxHeartbeats 4000000 in
theorem mt_X9_node {E : Ev} {l : Launch} (hl : l.stackTraces = false) {p0 : Option Nat} {σ : Hs} {r : Int32} {σ' : Hs} (hf : fn_X9_node p0 σ = some (r, σ')) : wk_M E l yX9_node (ws_ yX9_node cX9_node 1 (Option.some FieldType.int)) 0 0 [vR p0] σ (.inl (some (.int r))) σ' := by
  refine wk_start (by decide +kernel) hl (Nat.le_of_ble_eq_true rfl) (fun K C hK => ?_)
  subst hK
  refine wk_L (L' := [(0, vR p0)]) rfl ?_
  unfold fn_X9_node at hf
  refine wk_aload_n C 0 rfl dX9_node_0 ?_
  obtain ⟨v1, h_v1, hf⟩ := ho_b hf
  refine wk_getI C fx_X9_13 h_v1 dX9_node_1 ?_
  obtain ⟨rfl, rfl⟩ := Prod.mk.inj (Option.some.inj hf)
  exact wk_iret C rfl rfl dX9_node_4
set_option maxHeartbeats 4000000 in
theorem mt_X9_fx {E : Ev} {l : Launch} (hl : l.stackTraces = false) {p0 : Option Nat} {σ : Hs} {r : Int32} {σ' : Hs} (hf : fn_X9_fx p0 σ = some (r, σ')) : wk_M E l yX9_fx (ws_ yX9_fx cX9_fx 1 (Option.some FieldType.int)) 0 0 [vR p0] σ (.inl (some (.int r))) σ' := by
  refine wk_start (by decide +kernel) hl (Nat.le_of_ble_eq_true rfl) (fun K C hK => ?_)
  subst hK
  refine wk_L (L' := [(0, vR p0)]) rfl ?_
  unfold fn_X9_fx at hf
  refine wk_aload_n C 0 rfl dX9_fx_0 ?_
  obtain ⟨v1, h_v1, hf⟩ := ho_b hf
  refine wk_getI C fx_X9_16 h_v1 dX9_fx_1 ?_
  obtain ⟨rfl, rfl⟩ := Prod.mk.inj (Option.some.inj hf)
  exact wk_iret C rfl rfl dX9_fx_4
set_option maxHeartbeats 4000000 in
theorem mt_X9_fy {E : Ev} {l : Launch} (hl : l.stackTraces = false) {p0 : Option Nat} {σ : Hs} {r : Int32} {σ' : Hs} (hf : fn_X9_fy p0 σ = some (r, σ')) : wk_M E l yX9_fy (ws_ yX9_fy cX9_fy 1 (Option.some FieldType.int)) 0 0 [vR p0] σ (.inl (some (.int r))) σ' := by
  refine wk_start (by decide +kernel) hl (Nat.le_of_ble_eq_true rfl) (fun K C hK => ?_)
  subst hK
  refine wk_L (L' := [(0, vR p0)]) rfl ?_
  unfold fn_X9_fy at hf
  refine wk_aload_n C 0 rfl dX9_fy_0 ?_
  obtain ⟨v1, h_v1, hf⟩ := ho_b hf
  refine wk_getI C fx_X9_19 h_v1 dX9_fy_1 ?_
  obtain ⟨rfl, rfl⟩ := Prod.mk.inj (Option.some.inj hf)
  exact wk_iret C rfl rfl dX9_fy_4
set_option maxHeartbeats 4000000 in
theorem mt_X5_init {E : Ev} {l : Launch} (hl : l.stackTraces = false) {p0 : Option Nat} {p1 : Int32} {p2 : Int32} {σ : Hs} {σ' : Hs} (hf : fn_X5_init E.2.2.1 p0 p1 p2 σ = some σ') : wk_M E l yX5_init (ws_ yX5_init cX5_init 3 (Option.none : Option FieldType)) 3 60 [vR p0, vI p1, vI p2] σ (.inl none) σ' := by
  refine wk_start (by decide +kernel) hl (Nat.le_of_ble_eq_true rfl) (fun K C hK => ?_)
  subst hK
  refine wk_L (L' := [(0, vR p0), (1, vI p1), (2, vI p2)]) rfl ?_
  unfold fn_X5_init at hf
  refine wk_aload_n C 0 rfl dX5_init_0 ?_
  refine wk_null C dX5_init_1 ?_
  refine wk_null C dX5_init_2 ?_
  refine wk_iconst (v := 0) C dX5_init_3 rfl ?_
  refine wk_iconst (v := 0) C dX5_init_4 rfl ?_
  obtain ⟨b1, h_b1, hf⟩ := ho_b hf
  obtain ⟨σ2, h_σ2, hf⟩ := ho_b hf
  refine wk_callI (av := [vR none, vR none, vI (0 : Int32), vI (0 : Int32)]) (rest := []) C cx_X5_1 h_b1 (mt_J4_init_4 (wk_C.tr C) h_σ2) rfl (Nat.le_of_ble_eq_true rfl) (Nat.le_of_ble_eq_true rfl) (Nat.le_of_ble_eq_true rfl) dX5_init_5 ?_
  refine wk_aload_n C 0 rfl dX5_init_8 ?_
  refine wk_iload_n C 1 rfl dX5_init_9 ?_
  obtain ⟨σ3, h_σ3, hf⟩ := ho_b hf
  refine wk_putI C px_X5_7 (fun _ => rfl) h_σ3 dX5_init_10 ?_
  refine wk_aload_n C 0 rfl dX5_init_13 ?_
  refine wk_iload_n C 2 rfl dX5_init_14 ?_
  obtain ⟨σ4, h_σ4, hf⟩ := ho_b hf
  refine wk_putI C px_X5_13 (fun _ => rfl) h_σ4 dX5_init_15 ?_
  obtain rfl := Option.some.inj hf
  exact wk_vret C rfl rfl dX5_init_18
set_option maxHeartbeats 4000000 in
theorem mt_X14_apply {E : Ev} {l : Launch} (hl : l.stackTraces = false) {p0 : Option Nat} {p1 : Int64} {p2 : Int64} {σ : Hs} {r : Int64} {σ' : Hs} (hf : fn_X14_apply p0 p1 p2 σ = some (r, σ')) : wk_M E l yX14_apply (ws_ yX14_apply cX14_apply 5 (Option.some FieldType.long)) 0 0 [vR p0, vJ p1, vJ p2] σ (.inl (some (.long r))) σ' := by
  refine wk_start (by decide +kernel) hl (Nat.le_of_ble_eq_true rfl) (fun K C hK => ?_)
  subst hK
  refine wk_L (L' := [(0, vR p0), (1, vJ p1), (3, vJ p2)]) rfl ?_
  unfold fn_X14_apply at hf
  refine wk_lload_n C 1 rfl dX14_apply_0 ?_
  refine wk_lload_n C 2 rfl dX14_apply_1 ?_
  refine wk_ladd C dX14_apply_2 ?_
  obtain ⟨rfl, rfl⟩ := Prod.mk.inj (Option.some.inj hf)
  exact wk_lret C rfl rfl dX14_apply_3
set_option maxHeartbeats 4000000 in
theorem mt_X15_apply {E : Ev} {l : Launch} (hl : l.stackTraces = false) {p0 : Option Nat} {p1 : Int64} {p2 : Int64} {σ : Hs} {r : Int64} {σ' : Hs} (hf : fn_X15_apply p0 p1 p2 σ = some (r, σ')) : wk_M E l yX15_apply (ws_ yX15_apply cX15_apply 5 (Option.some FieldType.long)) 0 0 [vR p0, vJ p1, vJ p2] σ (.inl (some (.long r))) σ' := by
  refine wk_start (by decide +kernel) hl (Nat.le_of_ble_eq_true rfl) (fun K C hK => ?_)
  subst hK
  refine wk_L (L' := [(0, vR p0), (1, vJ p1), (3, vJ p2)]) rfl ?_
  unfold fn_X15_apply at hf
  refine wk_lload_n C 1 rfl dX15_apply_0 ?_
  refine wk_lload_n C 2 rfl dX15_apply_1 ?_
  refine wk_lsub C dX15_apply_2 ?_
  obtain ⟨rfl, rfl⟩ := Prod.mk.inj (Option.some.inj hf)
  exact wk_lret C rfl rfl dX15_apply_3
set_option maxHeartbeats 4000000 in
theorem mt_X16_apply {E : Ev} {l : Launch} (hl : l.stackTraces = false) {p0 : Option Nat} {p1 : Int64} {p2 : Int64} {σ : Hs} {r : Int64} {σ' : Hs} (hf : fn_X16_apply p0 p1 p2 σ = some (r, σ')) : wk_M E l yX16_apply (ws_ yX16_apply cX16_apply 5 (Option.some FieldType.long)) 0 0 [vR p0, vJ p1, vJ p2] σ (.inl (some (.long r))) σ' := by
  refine wk_start (by decide +kernel) hl (Nat.le_of_ble_eq_true rfl) (fun K C hK => ?_)
  subst hK
  refine wk_L (L' := [(0, vR p0), (1, vJ p1), (3, vJ p2)]) rfl ?_
  unfold fn_X16_apply at hf
  refine wk_lload_n C 1 rfl dX16_apply_0 ?_
  refine wk_lload_n C 2 rfl dX16_apply_1 ?_
  refine wk_lmul C dX16_apply_2 ?_
  obtain ⟨rfl, rfl⟩ := Prod.mk.inj (Option.some.inj hf)
  exact wk_lret C rfl rfl dX16_apply_3
set_option maxHeartbeats 4000000 in
theorem wb_X17_apply_b13 {E : Ev} {K : Kx} (C : wk_C E K yX17_apply cX17_apply 5 (Option.some FieldType.long) 0 0 []) {r : Int64} {σ' : Hs} (t0 : Int64) (σ : Hs) (hf : fn_X17_apply_b13 t0 σ = some (r, σ')) : wk_V E K (.inl (some (.long r))) σ' σ 13 [] [vJ t0] := by
  unfold fn_X17_apply_b13 at hf
  obtain ⟨rfl, rfl⟩ := Prod.mk.inj (Option.some.inj hf)
  exact wk_lret C rfl rfl dX17_apply_13
set_option maxHeartbeats 4000000 in
theorem mt_X17_apply {E : Ev} {l : Launch} (hl : l.stackTraces = false) {p0 : Option Nat} {p1 : Int64} {p2 : Int64} {σ : Hs} {r : Int64} {σ' : Hs} (hf : fn_X17_apply p0 p1 p2 σ = some (r, σ')) : wk_M E l yX17_apply (ws_ yX17_apply cX17_apply 5 (Option.some FieldType.long)) 0 0 [vR p0, vJ p1, vJ p2] σ (.inl (some (.long r))) σ' := by
  refine wk_start (by decide +kernel) hl (Nat.le_of_ble_eq_true rfl) (fun K C hK => ?_)
  subst hK
  refine wk_L (L' := [(0, vR p0), (1, vJ p1), (3, vJ p2)]) rfl ?_
  unfold fn_X17_apply at hf
  refine wk_lload_n C 2 rfl dX17_apply_0 ?_
  refine wk_lconst (v := 0) C dX17_apply_1 rfl ?_
  refine wk_lcmp_ne C 10 (by decide) dX17_apply_2 dX17_apply_3 (fun c_ => ?_) (fun c_ => ?_)
  · rw [if_neg c_] at hf
    refine wk_lload_n C 1 rfl dX17_apply_10 ?_
    refine wk_lload_n C 2 rfl dX17_apply_11 ?_
    obtain ⟨v1, h_v1, hf⟩ := ho_b hf
    refine wk_ldiv C dX17_apply_12 h_v1 ?_
    refine wk_sub (L' := []) [] rfl ?_
    exact wb_X17_apply_b13 C  _ _ hf
  · rw [if_pos c_] at hf
    refine wk_lconst (v := 0) C dX17_apply_6 rfl ?_
    refine wk_goto C 13 (by decide) dX17_apply_7 ?_
    refine wk_sub (L' := []) [] rfl ?_
    exact wb_X17_apply_b13 C  _ _ hf
set_option maxHeartbeats 4000000 in
theorem mt_X11_init {E : Ev} {l : Launch} (hl : l.stackTraces = false) {p0 : Option Nat} {p1 : Option Nat} {p2 : Option Nat} {σ : Hs} {σ' : Hs} (hf : fn_X11_init p0 p1 p2 σ = some σ') : wk_M E l yX11_init (ws_ yX11_init cX11_init 3 (Option.none : Option FieldType)) 1 12 [vR p0, vR p1, vR p2] σ (.inl none) σ' := by
  refine wk_start (by decide +kernel) hl (Nat.le_of_ble_eq_true rfl) (fun K C hK => ?_)
  subst hK
  refine wk_L (L' := [(0, vR p0), (1, vR p1), (2, vR p2)]) rfl ?_
  unfold fn_X11_init at hf
  refine wk_aload_n C 0 rfl dX11_init_0 ?_
  obtain ⟨b1, h_b1, hf⟩ := ho_b hf
  refine wk_objI C h_b1 q3076 q179 q180 (Nat.le_of_ble_eq_true rfl) (Nat.le_of_ble_eq_true rfl) dX11_init_1 ?_
  refine wk_aload_n C 0 rfl dX11_init_4 ?_
  refine wk_aload_n C 1 rfl dX11_init_5 ?_
  obtain ⟨σ2, h_σ2, hf⟩ := ho_b hf
  refine wk_putR C px_X11_7 (Or.inl ⟨_, rfl⟩) (fun _ => rfl) h_σ2 dX11_init_6 ?_
  refine wk_aload_n C 0 rfl dX11_init_9 ?_
  refine wk_aload_n C 2 rfl dX11_init_10 ?_
  obtain ⟨σ3, h_σ3, hf⟩ := ho_b hf
  refine wk_putR C px_X11_13 (Or.inl ⟨_, rfl⟩) (fun _ => rfl) h_σ3 dX11_init_11 ?_
  obtain rfl := Option.some.inj hf
  exact wk_vret C rfl rfl dX11_init_14
set_option maxHeartbeats 4000000 in
theorem mt_X10_init {E : Ev} {l : Launch} (hl : l.stackTraces = false) {p0 : Option Nat} {p1 : Option Nat} {σ : Hs} {σ' : Hs} (hf : fn_X10_init p0 p1 σ = some σ') : wk_M E l yX10_init (ws_ yX10_init cX10_init 2 (Option.none : Option FieldType)) 1 12 [vR p0, vR p1] σ (.inl none) σ' := by
  refine wk_start (by decide +kernel) hl (Nat.le_of_ble_eq_true rfl) (fun K C hK => ?_)
  subst hK
  refine wk_L (L' := [(0, vR p0), (1, vR p1)]) rfl ?_
  unfold fn_X10_init at hf
  refine wk_aload_n C 0 rfl dX10_init_0 ?_
  obtain ⟨b1, h_b1, hf⟩ := ho_b hf
  refine wk_objI C h_b1 q3046 q179 q180 (Nat.le_of_ble_eq_true rfl) (Nat.le_of_ble_eq_true rfl) dX10_init_1 ?_
  refine wk_aload_n C 0 rfl dX10_init_4 ?_
  refine wk_aload_n C 1 rfl dX10_init_5 ?_
  obtain ⟨σ2, h_σ2, hf⟩ := ho_b hf
  refine wk_putR C px_X10_7 (Or.inl ⟨_, rfl⟩) (fun _ => rfl) h_σ2 dX10_init_6 ?_
  obtain rfl := Option.some.inj hf
  exact wk_vret C rfl rfl dX10_init_9
set_option maxHeartbeats 4000000 in
theorem wb_X10_add_b33 {E : Ev} {K : Kx} (C : wk_C E K yX10_add cX10_add 4 (Option.none : Option FieldType) 2 34 []) {σ' : Hs} (l0 : Option Nat) (l3 : Option Nat) (σ : Hs) (hf : fn_X10_add_b33 l0 l3 σ = some σ') : wk_V E K (.inl none) σ' σ 33 [(0, vR l0), (3, vR l3)] [] := by
  unfold fn_X10_add_b33 at hf
  refine wk_aload_n C 0 rfl dX10_add_33 ?_
  refine wk_aload_n C 1 rfl dX10_add_34 ?_
  obtain ⟨σ1, h_σ1, hf⟩ := ho_b hf
  refine wk_putR C px_X10_22 (Or.inl ⟨_, rfl⟩) (fun q => by cases q) h_σ1 dX10_add_35 ?_
  obtain rfl := Option.some.inj hf
  exact wk_vret C rfl rfl dX10_add_38
set_option maxHeartbeats 4000000 in
theorem mt_X10_add {E : Ev} {l : Launch} (hl : l.stackTraces = false) {p0 : Option Nat} {p1 : Option Nat} {p2 : Option Nat} {σ : Hs} {σ' : Hs} (hf : fn_X10_add p0 p1 p2 σ = some σ') : wk_M E l yX10_add (ws_ yX10_add cX10_add 4 (Option.none : Option FieldType)) 2 34 [vR p0, vR p1, vR p2] σ (.inl none) σ' := by
  refine wk_start (by decide +kernel) hl (Nat.le_of_ble_eq_true rfl) (fun K C hK => ?_)
  subst hK
  refine wk_L (L' := [(0, vR p0), (1, vR p1), (2, vR p2)]) rfl ?_
  unfold fn_X10_add at hf
  obtain ⟨v2, σ3, h_σ3, hf⟩ := ho_e2 hf
  refine wk_new C nx_X10_13 h_σ3 dX10_add_0 ?_
  refine wk_dup C rfl dX10_add_3 ?_
  refine wk_aload_n C 1 rfl dX10_add_4 ?_
  refine wk_aload_n C 2 rfl dX10_add_5 ?_
  obtain ⟨b4, h_b4, hf⟩ := ho_b hf
  obtain ⟨σ5, h_σ5, hf⟩ := ho_b hf
  refine wk_callI (av := [vR p1, vR p2]) (rest := [vR v2]) C cx_X10_15 h_b4 (mt_X11_init (wk_C.tr C) h_σ5) rfl (Nat.le_of_ble_eq_true rfl) (Nat.le_of_ble_eq_true rfl) (Nat.le_of_ble_eq_true rfl) dX10_add_6 ?_
  refine wk_astore_n (L' := [(0, vR p0), (1, vR p1), (2, vR p2), (3, vR v2)]) C (by decide) rfl dX10_add_9 ?_
  refine wk_aload_n C 0 rfl dX10_add_10 ?_
  obtain ⟨v6, h_v6, hf⟩ := ho_b hf
  refine wk_getR C fx_X10_18 h_v6 dX10_add_11 ?_
  refine wk_ifnonnull C 25 (by decide) dX10_add_14 (fun c_ => ?_) (fun c_ => ?_)
  · rw [if_neg c_] at hf
    refine wk_aload_n C 0 rfl dX10_add_25 ?_
    obtain ⟨v7, h_v7, hf⟩ := ho_b hf
    refine wk_getR C fx_X10_22 h_v7 dX10_add_26 ?_
    refine wk_aload_n C 3 rfl dX10_add_29 ?_
    obtain ⟨σ8, h_σ8, hf⟩ := ho_b hf
    refine wk_putR C px_X10_25 (Or.inl ⟨_, rfl⟩) (fun q => by cases q) h_σ8 dX10_add_30 ?_
    refine wk_sub (L' := [(0, vR p0), (3, vR v2)]) [0, 3] rfl ?_
    exact wb_X10_add_b33 C  _ _ _ hf
  · rw [if_pos c_] at hf
    refine wk_aload_n C 0 rfl dX10_add_17 ?_
    refine wk_aload_n C 3 rfl dX10_add_18 ?_
    obtain ⟨σ9, h_σ9, hf⟩ := ho_b hf
    refine wk_putR C px_X10_18 (Or.inl ⟨_, rfl⟩) (fun q => by cases q) h_σ9 dX10_add_19 ?_
    refine wk_goto C 33 (by decide) dX10_add_22 ?_
    refine wk_sub (L' := [(0, vR p0), (3, vR v2)]) [0, 3] rfl ?_
    exact wb_X10_add_b33 C  _ _ _ hf
