def fn_J0_init (p0 : Option Nat) (σ : Hs) : Option Hs := p0.bind fun b1 => some σ
def fn_J1_init (p0 : Option Nat) (σ : Hs) : Option Hs := p0.bind fun b1 => (fn_J0_init p0 σ).bind fun σ2 => (ho_pI σ2 p0 [13] 0 (0 : Int32)).bind fun σ3 => some σ3
def fn_J17_init (p0 : Option Nat) (σ : Hs) : Option Hs := p0.bind fun b1 => some σ
def fn_J39_init (p0 : Option Nat) (σ : Hs) : Option Hs := p0.bind fun b1 => (fn_J0_init p0 σ).bind fun σ2 => some σ2
def fn_J28_init (p0 : Option Nat) (σ : Hs) : Option Hs := p0.bind fun b1 => some σ
def fn_J3_init_4_b60 (ev : Nat → Option Nat)  (σ : Hs) : Option Hs := some σ
def fn_J3_init_4 (ev : Nat → Option Nat) (p0 : Option Nat) (p1 : Option Nat) (p2 : Option Nat) (p3 : Int32) (p4 : Int32) (σ : Hs) : Option Hs := p0.bind fun b1 => (ho_pR σ p0 [4] 0 p0).bind fun σ2 => (ho_pR σ2 p0 [4] 1 (ev 8)).bind fun σ3 => (ho_pR σ3 p0 [4] 2 (ev 9)).bind fun σ4 => if p4 = 0 then (ho_pR σ4 p0 [4] 1 none).bind fun σ5 => (ho_pR σ5 p0 [4] 3 p1).bind fun σ6 => (ho_pR σ6 p0 [4] 0 p2).bind fun σ7 => if p3 = 0 then (ho_pR σ7 p0 [4] 2 none).bind fun σ8 => fn_J3_init_4_b60 ev  σ8 else fn_J3_init_4_b60 ev  σ7 else none
def fn_J4_init_4 (ev : Nat → Option Nat) (p0 : Option Nat) (p1 : Option Nat) (p2 : Option Nat) (p3 : Int32) (p4 : Int32) (σ : Hs) : Option Hs := p0.bind fun b1 => (fn_J3_init_4 ev p0 p1 p2 p3 p4 σ).bind fun σ2 => some σ2
def fn_J24_checkIndex (p0 : Int32) (p1 : Int32) (σ : Hs) : Option (Int32 × Hs) := ho_b2 (fn_J14_checkIndex p0 p1 none σ) fun v2 σ1 => some (v2, σ1)
def fn_J11_newLength_b21  (l0 : Int32) (l1 : Int32) (σ : Hs) : Option (Int32 × Hs) := none
def fn_J11_newLength (p0 : Int32) (p1 : Int32) (p2 : Int32) (σ : Hs) : Option (Int32 × Hs) := ho_b2 (fn_J12_max p1 p2 σ) fun v2 σ1 => (some (p0 + v2)).bind fun v3 => if v3 ≤ (0 : Int32) then fn_J11_newLength_b21 p0 p1 σ1 else if (2147483639 : Int32) < v3 then fn_J11_newLength_b21 p0 p1 σ1 else some (v3, σ1)
def fn_J13_copyOf_3 (ev : Nat → Option Nat) (p0 : Option Nat) (p1 : Int32) (p2 : Option Nat) (σ : Hs) : Option (Option Nat × Hs) := if p2 = (ev 90) then ho_b2 (ho_nR σ 3 p1) fun v1 σ2 => (ho_len σ2 p0).bind fun v3 => ho_b2 (fn_J12_min v3 p1 σ2) fun v5 σ4 => (ho_copy σ4 p0 (0 : Int32) v1 (0 : Int32) v5 3 3 [5, 8]).bind fun σ6 => some (v1, σ6) else none
def fn_J13_copyOf_2 (ev : Nat → Option Nat) (p0 : Option Nat) (p1 : Int32) (σ : Hs) : Option (Option Nat × Hs) := (ho_ar σ p0).bind fun x1 => if x1.1 = 3 then ho_b2 (fn_J13_copyOf_3 ev p0 p1 (ev 90) σ) fun v3 σ2 => some (v3, σ2) else none
def fn_J13_fill_b6  : Nat → Option Nat → Int64 → Int32 → Int32 → Hs → Option Hs
  | 0, _, _, _, _, _ => none
  | n + 1, l0, l1, l3, l4, σ => if l4 ≤ l3 then some σ else (ho_tJ σ l0 1 l3 l1).bind fun σ1 => fn_J13_fill_b6 n l0 l1 (l3 + 1) l4 σ1
def fn_J13_fill (p0 : Option Nat) (p1 : Int64) (σ : Hs) : Option Hs := (ho_len σ p0).bind fun v2 => fn_J13_fill_b6 fu_el p0 p1 (0 : Int32) v2 σ
def fn_J2_init_b60 (ev : Nat → Option Nat)  (σ : Hs) : Option Hs := some σ
def fn_J2_init (ev : Nat → Option Nat) (p0 : Option Nat) (p1 : Int32) (σ : Hs) : Option Hs := p0.bind fun b1 => (fn_J1_init p0 σ).bind fun σ2 => if p1 ≤ 0 then if p1 = 0 then (ho_pR σ2 p0 [13] 1 (ev 5)).bind fun σ3 => fn_J2_init_b60 ev  σ3 else none else ho_b2 (ho_nR σ2 3 p1) fun v4 σ5 => (ho_pR σ5 p0 [13] 1 v4).bind fun σ6 => fn_J2_init_b60 ev  σ6
def fn_J2_size (p0 : Option Nat) (σ : Hs) : Option (Int32 × Hs) := (ho_fI σ p0 [13] 2).bind fun v1 => some (v1, σ)
def fn_J2_elementData (p0 : Option Nat) (p1 : Int32) (σ : Hs) : Option (Option Nat × Hs) := (ho_fR σ p0 [13] 1).bind fun v1 => (ho_aR σ v1 [3, 4, 5, 6, 7, 8] p1).bind fun v2 => some (v2, σ)
def fn_J2_get (p0 : Option Nat) (p1 : Int32) (σ : Hs) : Option (Option Nat × Hs) := (ho_fI σ p0 [13] 2).bind fun v1 => ho_b2 (fn_J24_checkIndex p1 v1 σ) fun v3 σ2 => (ho_is σ2 p0 [13]).bind fun b4 => ho_b2 (fn_J2_elementData p0 p1 σ2) fun v6 σ5 => some (v6, σ5)
def fn_J2_grow_2_b20 (ev : Nat → Option Nat)  (l0 : Option Nat) (l1 : Int32) (l2 : Int32) (σ : Hs) : Option (Option Nat × Hs) := ho_b2 (fn_J11_newLength l2 (l1 - l2) (l2 >>> ((1 : Int32) &&& 31)) σ) fun v2 σ1 => (ho_fR σ1 l0 [13] 1).bind fun v3 => ho_b2 (fn_J13_copyOf_2 ev v3 v2 σ1) fun v5 σ4 => (ho_pR σ4 l0 [13] 1 v5).bind fun σ6 => some (v5, σ6)
def fn_J2_grow_2 (ev : Nat → Option Nat) (p0 : Option Nat) (p1 : Int32) (σ : Hs) : Option (Option Nat × Hs) := (ho_fR σ p0 [13] 1).bind fun v7 => (ho_len σ v7).bind fun v8 => if 0 < v8 then fn_J2_grow_2_b20 ev p0 p1 v8 σ else (ho_fR σ p0 [13] 1).bind fun v9 => if v9 = (ev 6) then ho_b2 (fn_J12_max (10 : Int32) p1 σ) fun v11 σ10 => ho_b2 (ho_nR σ10 3 v11) fun v12 σ13 => (ho_pR σ13 p0 [13] 1 v12).bind fun σ14 => some (v12, σ14) else fn_J2_grow_2_b20 ev p0 p1 v8 σ
def fn_J2_grow (ev : Nat → Option Nat) (p0 : Option Nat) (σ : Hs) : Option (Option Nat × Hs) := (ho_fI σ p0 [13] 2).bind fun v1 => (ho_is σ p0 [13]).bind fun b2 => ho_b2 (fn_J2_grow_2 ev p0 (v1 + (1 : Int32)) σ) fun v4 σ3 => some (v4, σ3)
def fn_J2_add_2_b11 (ev : Nat → Option Nat)  (l0 : Option Nat) (l1 : Option Nat) (l2 : Option Nat) (l3 : Int32) (σ : Hs) : Option Hs := (ho_tO σ l2 3 [5, 8] l3 l1).bind fun σ1 => (ho_pI σ1 l0 [13] 2 (l3 + (1 : Int32))).bind fun σ2 => some σ2
def fn_J2_add_2 (ev : Nat → Option Nat) (p0 : Option Nat) (p1 : Option Nat) (p2 : Option Nat) (p3 : Int32) (σ : Hs) : Option Hs := (ho_len σ p2).bind fun v3 => if p3 = v3 then (ho_is σ p0 [13]).bind fun b4 => ho_b2 (fn_J2_grow ev p0 σ) fun v6 σ5 => fn_J2_add_2_b11 ev p0 p1 v6 p3 σ5 else fn_J2_add_2_b11 ev p0 p1 p2 p3 σ
def fn_J2_add (ev : Nat → Option Nat) (p0 : Option Nat) (p1 : Option Nat) (σ : Hs) : Option (Int32 × Hs) := (ho_fI σ p0 [13] 0).bind fun v1 => (ho_pI σ p0 [13] 0 (v1 + (1 : Int32))).bind fun σ2 => (ho_fR σ2 p0 [13] 1).bind fun v3 => (ho_fI σ2 p0 [13] 2).bind fun v4 => (ho_is σ2 p0 [13]).bind fun b5 => (fn_J2_add_2 ev p0 p1 v3 v4 σ2).bind fun σ6 => some ((1 : Int32), σ6)
def fn_J21_init (p0 : Option Nat) (p1 : Option Nat) (σ : Hs) : Option Hs := (ho_pR σ p0 [14] 3 p1).bind fun σ1 => p0.bind fun b2 => (ho_pI σ1 p0 [14] 1 (-1 : Int32)).bind fun σ3 => (ho_fR σ3 p0 [14] 3).bind fun v4 => (ho_fI σ3 v4 [13] 0).bind fun v5 => (ho_pI σ3 p0 [14] 2 v5).bind fun σ6 => some σ6
def fn_J21_hasNext_b19  (t0 : Int32) (σ : Hs) : Option (Int32 × Hs) := (ho_bool t0).bind fun v1 => some (v1, σ)
def fn_J21_hasNext (p0 : Option Nat) (σ : Hs) : Option (Int32 × Hs) := (ho_fI σ p0 [14] 0).bind fun v2 => (ho_fR σ p0 [14] 3).bind fun v3 => (ho_fI σ v3 [13] 2).bind fun v4 => if v2 = v4 then fn_J21_hasNext_b19 (0 : Int32) σ else fn_J21_hasNext_b19 (1 : Int32) σ
def fn_J21_checkForComodification (p0 : Option Nat) (σ : Hs) : Option Hs := (ho_fR σ p0 [14] 3).bind fun v1 => (ho_fI σ v1 [13] 0).bind fun v2 => (ho_fI σ p0 [14] 2).bind fun v3 => if v2 = v3 then some σ else none
def fn_J21_next (p0 : Option Nat) (σ : Hs) : Option (Option Nat × Hs) := (ho_is σ p0 [14]).bind fun b1 => (fn_J21_checkForComodification p0 σ).bind fun σ2 => (ho_fI σ2 p0 [14] 0).bind fun v3 => (ho_fR σ2 p0 [14] 3).bind fun v4 => (ho_fI σ2 v4 [13] 2).bind fun v5 => if v3 < v5 then (ho_fR σ2 p0 [14] 3).bind fun v6 => (ho_fR σ2 v6 [13] 1).bind fun v7 => (ho_len σ2 v7).bind fun v8 => if v3 < v8 then (ho_pI σ2 p0 [14] 0 (v3 + (1 : Int32))).bind fun σ9 => (ho_pI σ9 p0 [14] 1 v3).bind fun σ10 => (ho_aR σ10 v7 [3, 4, 5, 6, 7, 8] v3).bind fun v11 => some (v11, σ10) else none else none
def fn_J2_iterator (p0 : Option Nat) (σ : Hs) : Option (Option Nat × Hs) := ho_b2 (ho_new σ (.inr (14, [.int 0, .int 0, .int 0, .null])) 4) fun v1 σ2 => v1.bind fun b3 => (fn_J21_init v1 p0 σ2).bind fun σ4 => some (v1, σ4)
def fn_J20_inc_b10  (l0 : Int32) (σ : Hs) : Option (Int32 × Hs) := some (l0, σ)
def fn_J20_inc (p0 : Int32) (p1 : Int32) (σ : Hs) : Option (Int32 × Hs) := if (p0 + 1) < p1 then fn_J20_inc_b10 (p0 + 1) σ else fn_J20_inc_b10 (0 : Int32) σ
def fn_J20_dec_b11  (l0 : Int32) (σ : Hs) : Option (Int32 × Hs) := some (l0, σ)
def fn_J20_dec (p0 : Int32) (p1 : Int32) (σ : Hs) : Option (Int32 × Hs) := if 0 ≤ (p0 + (-1)) then fn_J20_dec_b11 (p0 + (-1)) σ else (some (p1 - (1 : Int32))).bind fun v1 => fn_J20_dec_b11 v1 σ
def fn_J20_sub_b12  (l0 : Int32) (σ : Hs) : Option (Int32 × Hs) := some (l0, σ)
def fn_J20_sub (p0 : Int32) (p1 : Int32) (p2 : Int32) (σ : Hs) : Option (Int32 × Hs) := (some (p0 - p1)).bind fun v1 => if 0 ≤ (p0 - p1) then fn_J20_sub_b12 v1 σ else (some (v1 + p2)).bind fun v2 => fn_J20_sub_b12 v2 σ
def fn_J20_elementAt (p0 : Option Nat) (p1 : Int32) (σ : Hs) : Option (Option Nat × Hs) := (ho_aR σ p0 [3, 4, 5, 6, 7, 8] p1).bind fun v1 => some (v1, σ)
def fn_J20_init_b28  (t0 : Option Nat) (t1 : Int32) (σ : Hs) : Option Hs := ho_b2 (ho_nR σ 3 t1) fun v1 σ2 => (ho_pR σ2 t0 [17] 0 v1).bind fun σ3 => some σ3
def fn_J20_init (p0 : Option Nat) (p1 : Int32) (σ : Hs) : Option Hs := p0.bind fun b4 => (fn_J0_init p0 σ).bind fun σ5 => if (1 : Int32) ≤ p1 then if p1 = (2147483647 : Int32) then fn_J20_init_b28 p0 (2147483647 : Int32) σ5 else fn_J20_init_b28 p0 (p1 + (1 : Int32)) σ5 else fn_J20_init_b28 p0 (1 : Int32) σ5
def fn_J20_size (p0 : Option Nat) (σ : Hs) : Option (Int32 × Hs) := (ho_fI σ p0 [17] 2).bind fun v1 => (ho_fI σ p0 [17] 1).bind fun v2 => (ho_fR σ p0 [17] 0).bind fun v3 => (ho_len σ v3).bind fun v4 => ho_b2 (fn_J20_sub v1 v2 v4 σ) fun v6 σ5 => some (v6, σ5)
def fn_J20_isEmpty_b16  (t0 : Int32) (σ : Hs) : Option (Int32 × Hs) := (ho_bool t0).bind fun v1 => some (v1, σ)
def fn_J20_isEmpty (p0 : Option Nat) (σ : Hs) : Option (Int32 × Hs) := (ho_fI σ p0 [17] 1).bind fun v2 => (ho_fI σ p0 [17] 2).bind fun v3 => if v2 = v3 then fn_J20_isEmpty_b16 (1 : Int32) σ else fn_J20_isEmpty_b16 (0 : Int32) σ
def fn_J20_addLast (p0 : Option Nat) (p1 : Option Nat) (σ : Hs) : Option Hs := if p1 = none then none else (ho_fR σ p0 [17] 0).bind fun v1 => (ho_fI σ p0 [17] 2).bind fun v2 => (ho_tO σ v1 3 [1] v2 p1).bind fun σ3 => (ho_fI σ3 p0 [17] 1).bind fun v4 => (ho_fI σ3 p0 [17] 2).bind fun v5 => (ho_len σ3 v1).bind fun v6 => ho_b2 (fn_J20_inc v5 v6 σ3) fun v8 σ7 => (ho_pI σ7 p0 [17] 2 v8).bind fun σ9 => if v4 = v8 then none else some σ9
def fn_J20_pollFirst_b34  (l3 : Option Nat) (σ : Hs) : Option (Option Nat × Hs) := some (l3, σ)
def fn_J20_pollFirst (p0 : Option Nat) (σ : Hs) : Option (Option Nat × Hs) := (ho_fR σ p0 [17] 0).bind fun v1 => (ho_fI σ p0 [17] 1).bind fun v2 => ho_b2 (fn_J20_elementAt v1 v2 σ) fun v4 σ3 => if v4 = none then fn_J20_pollFirst_b34 v4 σ3 else (ho_tO σ3 v1 3 [1] v2 none).bind fun σ5 => (ho_len σ5 v1).bind fun v6 => ho_b2 (fn_J20_inc v2 v6 σ5) fun v8 σ7 => (ho_pI σ7 p0 [17] 1 v8).bind fun σ9 => fn_J20_pollFirst_b34 v4 σ9
def fn_J20_removeFirst (p0 : Option Nat) (σ : Hs) : Option (Option Nat × Hs) := (ho_is σ p0 [17]).bind fun b1 => ho_b2 (fn_J20_pollFirst p0 σ) fun v3 σ2 => if v3 = none then none else some (v3, σ2)
def fn_J20_pollLast_b34  (l3 : Option Nat) (σ : Hs) : Option (Option Nat × Hs) := some (l3, σ)
def fn_J20_pollLast (p0 : Option Nat) (σ : Hs) : Option (Option Nat × Hs) := (ho_fR σ p0 [17] 0).bind fun v1 => (ho_fI σ p0 [17] 2).bind fun v2 => (ho_len σ v1).bind fun v3 => ho_b2 (fn_J20_dec v2 v3 σ) fun v5 σ4 => ho_b2 (fn_J20_elementAt v1 v5 σ4) fun v7 σ6 => if v7 = none then fn_J20_pollLast_b34 v7 σ6 else (ho_pI σ6 p0 [17] 2 v5).bind fun σ8 => (ho_tO σ8 v1 3 [1] v5 none).bind fun σ9 => fn_J20_pollLast_b34 v7 σ9
def fn_J20_removeLast (p0 : Option Nat) (σ : Hs) : Option (Option Nat × Hs) := (ho_is σ p0 [17]).bind fun b1 => ho_b2 (fn_J20_pollLast p0 σ) fun v3 σ2 => if v3 = none then none else some (v3, σ2)
theorem cx_J1_1 : cxI "java/util/AbstractList" 1 yJ0_init cJ0_init 1 0 := ⟨q198, q199, q104, q200, ⟨by decide +kernel, by decide +kernel⟩, rfl, fun sig h => by have e := (show (parseMethodDescriptor (yJ0_init).desc).map (fun d => d.parameters.length) = some 0 by decide +kernel); rw [h] at e; exact (Option.some.inj e).symm⟩
theorem px_J1_7 : px "java/util/AbstractList" 7 [13] 0 (.int) false := ⟨"java/util/AbstractList", "java/util/AbstractList", "modCount", "I", ⟨Or.inl q528, Or.inl rfl⟩, px_c (r := (RJ2, TJ2, 3)) (Nat.le_of_ble_eq_true rfl) rfl (Nat.le_of_ble_eq_true rfl) rfl (px_0), by decide +kernel, fun h => by cases h⟩
theorem cx_J39_1 : cxI "java/util/AbstractSet" 1 yJ0_init cJ0_init 1 0 := ⟨q1077, q199, q104, q200, ⟨by decide +kernel, by decide +kernel⟩, rfl, fun sig h => by have e := (show (parseMethodDescriptor (yJ0_init).desc).map (fun d => d.parameters.length) = some 0 by decide +kernel); rw [h] at e; exact (Option.some.inj e).symm⟩
theorem px_J3_7 : px "java/lang/Throwable" 7 [4] 0 (.object "java/lang/Throwable") false := ⟨"java/lang/Throwable", "java/lang/Throwable", "cause", "Ljava/lang/Throwable;", ⟨Or.inl q486, Or.inl rfl⟩, px_c (r := (RX5, TX5, 8)) (Nat.le_of_ble_eq_true rfl) rfl (Nat.le_of_ble_eq_true rfl) rfl (px_0), by decide +kernel, fun h => by cases h⟩
theorem sx_J3_13 : sx "java/lang/Throwable" 13 8 := ⟨_, Or.inl q232, rfl⟩
theorem px_J3_17 : px "java/lang/Throwable" 17 [4] 1 (.array (.object "java/lang/StackTraceElement")) false := ⟨"java/lang/Throwable", "java/lang/Throwable", "stackTrace", "[Ljava/lang/StackTraceElement;", ⟨Or.inl q487, Or.inl rfl⟩, px_c (r := (RX5, TX5, 8)) (Nat.le_of_ble_eq_true rfl) rfl (Nat.le_of_ble_eq_true rfl) rfl (px_0), by decide +kernel, fun h => by cases h⟩
theorem sx_J3_20 : sx "java/lang/Throwable" 20 9 := ⟨_, Or.inl q234, rfl⟩
theorem px_J3_24 : px "java/lang/Throwable" 24 [4] 2 (.object "java/util/List") false := ⟨"java/lang/Throwable", "java/lang/Throwable", "suppressedExceptions", "Ljava/util/List;", ⟨Or.inl q488, Or.inl rfl⟩, px_c (r := (RX5, TX5, 8)) (Nat.le_of_ble_eq_true rfl) rfl (Nat.le_of_ble_eq_true rfl) rfl (px_0), by decide +kernel, fun h => by cases h⟩
theorem px_J3_31 : px "java/lang/Throwable" 31 [4] 3 (.object "java/lang/String") false := ⟨"java/lang/Throwable", "java/lang/Throwable", "detailMessage", "Ljava/lang/String;", ⟨Or.inl q485, Or.inl rfl⟩, px_c (r := (RX5, TX5, 8)) (Nat.le_of_ble_eq_true rfl) rfl (Nat.le_of_ble_eq_true rfl) rfl (px_0), by decide +kernel, fun h => by cases h⟩
theorem cx_J4_16 : cxI "java/lang/Exception" 16 yJ3_init_4 cJ3_init_4 5 4 := ⟨q2764, q2765, q107, q2766, ⟨by decide +kernel, by decide +kernel⟩, rfl, fun sig h => by have e := (show (parseMethodDescriptor (yJ3_init_4).desc).map (fun d => d.parameters.length) = some 4 by decide +kernel); rw [h] at e; exact (Option.some.inj e).symm⟩
theorem cx_J24_105 : cxS "java/util/Objects" 105 yJ14_checkIndex cJ14_checkIndex 3 (Option.some FieldType.int) 3 := ⟨q1198, q1199, q119, q1200, ⟨by decide +kernel, by decide +kernel⟩, fun sig h => by have e := (show (parseMethodDescriptor (yJ14_checkIndex).desc).map (fun d => d.parameters.length) = some 3 by decide +kernel); rw [h] at e; exact (Option.some.inj e).symm⟩
theorem cx_J11_194 : cxS "jdk/internal/util/ArraysSupport" 194 yJ12_max cJ12_max 2 (Option.some FieldType.int) 2 := ⟨q306, q307, q116, q308, ⟨by decide +kernel, by decide +kernel⟩, fun sig h => by have e := (show (parseMethodDescriptor (yJ12_max).desc).map (fun d => d.parameters.length) = some 2 by decide +kernel); rw [h] at e; exact (Option.some.inj e).symm⟩
theorem cx_J13_304 : cxS "java/util/Arrays" 304 yJ12_min cJ12_min 2 (Option.some FieldType.int) 2 := ⟨q324, q325, q116, q326, ⟨by decide +kernel, by decide +kernel⟩, fun sig h => by have e := (show (parseMethodDescriptor (yJ12_min).desc).map (fun d => d.parameters.length) = some 2 by decide +kernel); rw [h] at e; exact (Option.some.inj e).symm⟩
theorem rx_8 : rx 8 "ElasticTruss$Load" := Or.inl ⟨(Nat.le_of_ble_eq_true rfl), (RX9, TX9, 4), rfl, rfl⟩
theorem rx_5 : rx 5 "ElasticTruss$Node" := Or.inl ⟨(Nat.le_of_ble_eq_true rfl), (RX6, TX6, 4), rfl, rfl⟩
theorem cx_J13_300 : cxS "java/util/Arrays" 300 yJ13_copyOf_3 cJ13_copyOf_3 4 (Option.some (FieldType.array (FieldType.object "java/lang/Object"))) 3 := ⟨q2606, q2607, q117, q2608, ⟨by decide +kernel, by decide +kernel⟩, fun sig h => by have e := (show (parseMethodDescriptor (yJ13_copyOf_3).desc).map (fun d => d.parameters.length) = some 3 by decide +kernel); rw [h] at e; exact (Option.some.inj e).symm⟩
theorem cx_J2_1 : cxI "java/util/ArrayList" 1 yJ1_init cJ1_init 1 0 := ⟨q195, q196, q105, q197, ⟨by decide +kernel, by decide +kernel⟩, rfl, fun sig h => by have e := (show (parseMethodDescriptor (yJ1_init).desc).map (fun d => d.parameters.length) = some 0 by decide +kernel); rw [h] at e; exact (Option.some.inj e).symm⟩
theorem sx_J2_15 : sx "java/util/ArrayList" 15 5 := ⟨_, Or.inl q204, rfl⟩
theorem px_J2_9 : px "java/util/ArrayList" 9 [13] 1 (.array (.object "java/lang/Object")) false := ⟨"java/util/ArrayList", "java/util/ArrayList", "elementData", "[Ljava/lang/Object;", ⟨Or.inl q524, Or.inl rfl⟩, px_c (r := (RJ2, TJ2, 3)) (Nat.le_of_ble_eq_true rfl) rfl (Nat.le_of_ble_eq_true rfl) rfl (px_0), by decide +kernel, fun h => by cases h⟩
theorem fx_J2_48 : fx "java/util/ArrayList" 48 [13] 2 := ⟨"java/util/ArrayList", "java/util/ArrayList", "size", "I", ⟨Or.inl q527, Or.inl rfl⟩, fx_c (r := (RJ2, TJ2, 3)) (Nat.le_of_ble_eq_true rfl) rfl (Nat.le_of_ble_eq_true rfl) rfl rfl rfl (fx_0)⟩
theorem fx_J2_9 : fx "java/util/ArrayList" 9 [13] 1 := ⟨"java/util/ArrayList", "java/util/ArrayList", "elementData", "[Ljava/lang/Object;", ⟨Or.inl q524, Or.inl rfl⟩, fx_c (r := (RJ2, TJ2, 3)) (Nat.le_of_ble_eq_true rfl) rfl (Nat.le_of_ble_eq_true rfl) rfl rfl rfl (fx_0)⟩
theorem cx_J2_118 : cxS "java/util/ArrayList" 118 yJ24_checkIndex cJ24_checkIndex 2 (Option.some FieldType.int) 2 := ⟨q1195, q1196, q136, q1197, ⟨by decide +kernel, by decide +kernel⟩, fun sig h => by have e := (show (parseMethodDescriptor (yJ24_checkIndex).desc).map (fun d => d.parameters.length) = some 2 by decide +kernel); rw [h] at e; exact (Option.some.inj e).symm⟩
theorem cx_J2_123 : cxV "java/util/ArrayList" "java/util/ArrayList" 123 yJ2_elementData cJ2_elementData 2 (Option.some (FieldType.object "java/lang/Object")) 1 := ⟨q1201, q1202, q1203, q106, q1204, ⟨by decide +kernel, by decide +kernel⟩, fun sig h => by have e := (show (parseMethodDescriptor (yJ2_elementData).desc).map (fun d => d.parameters.length) = some 1 by decide +kernel); rw [h] at e; exact (Option.some.inj e).symm⟩
theorem rx_13 : rx 13 "java/util/ArrayList" := Or.inl ⟨(Nat.le_of_ble_eq_true rfl), (RJ2, TJ2, 3), rfl, rfl⟩
theorem cx_J2_73 : cxS "java/util/ArrayList" 73 yJ11_newLength cJ11_newLength 4 (Option.some FieldType.int) 3 := ⟨q2877, q304, q115, q305, ⟨by decide +kernel, by decide +kernel⟩, fun sig h => by have e := (show (parseMethodDescriptor (yJ11_newLength).desc).map (fun d => d.parameters.length) = some 3 by decide +kernel); rw [h] at e; exact (Option.some.inj e).symm⟩
theorem cx_J2_66 : cxS "java/util/ArrayList" 66 yJ13_copyOf_2 cJ13_copyOf_2 2 (Option.some (FieldType.array (FieldType.object "java/lang/Object"))) 2 := ⟨q2878, q2603, q117, q2604, ⟨by decide +kernel, by decide +kernel⟩, fun sig h => by have e := (show (parseMethodDescriptor (yJ13_copyOf_2).desc).map (fun d => d.parameters.length) = some 2 by decide +kernel); rw [h] at e; exact (Option.some.inj e).symm⟩
theorem sx_J2_39 : sx "java/util/ArrayList" 39 6 := ⟨_, Or.inl q2875, rfl⟩
theorem cx_J2_79 : cxS "java/util/ArrayList" 79 yJ12_max cJ12_max 2 (Option.some FieldType.int) 2 := ⟨q2879, q307, q116, q308, ⟨by decide +kernel, by decide +kernel⟩, fun sig h => by have e := (show (parseMethodDescriptor (yJ12_max).desc).map (fun d => d.parameters.length) = some 2 by decide +kernel); rw [h] at e; exact (Option.some.inj e).symm⟩
theorem cx_J2_69 : cxV "java/util/ArrayList" "java/util/ArrayList" 69 yJ2_grow_2 cJ2_grow_2 4 (Option.some (FieldType.array (FieldType.object "java/lang/Object"))) 1 := ⟨q2871, q2873, qs37, q106, q2874, ⟨by decide +kernel, by decide +kernel⟩, fun sig h => by have e := (show (parseMethodDescriptor (yJ2_grow_2).desc).map (fun d => d.parameters.length) = some 1 by decide +kernel); rw [h] at e; exact (Option.some.inj e).symm⟩
theorem px_J2_48 : px "java/util/ArrayList" 48 [13] 2 (.int) false := ⟨"java/util/ArrayList", "java/util/ArrayList", "size", "I", ⟨Or.inl q527, Or.inl rfl⟩, px_c (r := (RJ2, TJ2, 3)) (Nat.le_of_ble_eq_true rfl) rfl (Nat.le_of_ble_eq_true rfl) rfl (px_0), by decide +kernel, fun h => by cases h⟩
theorem cx_J2_129 : cxV "java/util/ArrayList" "java/util/ArrayList" 129 yJ2_grow cJ2_grow 1 (Option.some (FieldType.array (FieldType.object "java/lang/Object"))) 0 := ⟨q2867, q2869, qs36, q106, q2870, ⟨by decide +kernel, by decide +kernel⟩, fun sig h => by have e := (show (parseMethodDescriptor (yJ2_grow).desc).map (fun d => d.parameters.length) = some 0 by decide +kernel); rw [h] at e; exact (Option.some.inj e).symm⟩
theorem fx_J2_63 : fx "java/util/ArrayList" 63 [13] 0 := ⟨"java/util/ArrayList", "java/util/AbstractList", "modCount", "I", ⟨Or.inl q531, Or.inr q530⟩, fx_c (r := (RJ2, TJ2, 3)) (Nat.le_of_ble_eq_true rfl) rfl (Nat.le_of_ble_eq_true rfl) rfl rfl rfl (fx_0)⟩
theorem px_J2_63 : px "java/util/ArrayList" 63 [13] 0 (.int) false := ⟨"java/util/ArrayList", "java/util/AbstractList", "modCount", "I", ⟨Or.inl q531, Or.inr q530⟩, px_c (r := (RJ2, TJ2, 3)) (Nat.le_of_ble_eq_true rfl) rfl (Nat.le_of_ble_eq_true rfl) rfl (px_0), by decide +kernel, fun h => by cases h⟩
theorem cx_J2_131 : cxV "java/util/ArrayList" "java/util/ArrayList" 131 yJ2_add_2 cJ2_add_2 4 (Option.none : Option FieldType) 3 := ⟨q2863, q2865, qs35, q106, q2866, ⟨by decide +kernel, by decide +kernel⟩, fun sig h => by have e := (show (parseMethodDescriptor (yJ2_add_2).desc).map (fun d => d.parameters.length) = some 3 by decide +kernel); rw [h] at e; exact (Option.some.inj e).symm⟩
theorem px_J21_1 : px "java/util/ArrayList$Itr" 1 [14] 3 (.object "java/util/ArrayList") true := ⟨"java/util/ArrayList$Itr", "java/util/ArrayList$Itr", "this$0", "Ljava/util/ArrayList;", ⟨Or.inl q759, Or.inl rfl⟩, px_c (r := (RJ21, TJ21, 4)) (Nat.le_of_ble_eq_true rfl) rfl (Nat.le_of_ble_eq_true rfl) rfl (px_0), by decide +kernel, fun _ => ⟨rfl, q759⟩⟩
theorem px_J21_13 : px "java/util/ArrayList$Itr" 13 [14] 1 (.int) false := ⟨"java/util/ArrayList$Itr", "java/util/ArrayList$Itr", "lastRet", "I", ⟨Or.inl q757, Or.inl rfl⟩, px_c (r := (RJ21, TJ21, 4)) (Nat.le_of_ble_eq_true rfl) rfl (Nat.le_of_ble_eq_true rfl) rfl (px_0), by decide +kernel, fun h => by cases h⟩
theorem fx_J21_1 : fx "java/util/ArrayList$Itr" 1 [14] 3 := ⟨"java/util/ArrayList$Itr", "java/util/ArrayList$Itr", "this$0", "Ljava/util/ArrayList;", ⟨Or.inl q759, Or.inl rfl⟩, fx_c (r := (RJ21, TJ21, 4)) (Nat.le_of_ble_eq_true rfl) rfl (Nat.le_of_ble_eq_true rfl) rfl rfl rfl (fx_0)⟩
theorem fx_J21_17 : fx "java/util/ArrayList$Itr" 17 [13] 0 := ⟨"java/util/ArrayList", "java/util/AbstractList", "modCount", "I", ⟨Or.inl q529, Or.inr q530⟩, fx_c (r := (RJ2, TJ2, 3)) (Nat.le_of_ble_eq_true rfl) rfl (Nat.le_of_ble_eq_true rfl) rfl rfl rfl (fx_0)⟩
theorem px_J21_22 : px "java/util/ArrayList$Itr" 22 [14] 2 (.int) false := ⟨"java/util/ArrayList$Itr", "java/util/ArrayList$Itr", "expectedModCount", "I", ⟨Or.inl q758, Or.inl rfl⟩, px_c (r := (RJ21, TJ21, 4)) (Nat.le_of_ble_eq_true rfl) rfl (Nat.le_of_ble_eq_true rfl) rfl (px_0), by decide +kernel, fun h => by cases h⟩
theorem fx_J21_25 : fx "java/util/ArrayList$Itr" 25 [14] 0 := ⟨"java/util/ArrayList$Itr", "java/util/ArrayList$Itr", "cursor", "I", ⟨Or.inl q756, Or.inl rfl⟩, fx_c (r := (RJ21, TJ21, 4)) (Nat.le_of_ble_eq_true rfl) rfl (Nat.le_of_ble_eq_true rfl) rfl rfl rfl (fx_0)⟩
theorem fx_J21_28 : fx "java/util/ArrayList$Itr" 28 [13] 2 := ⟨"java/util/ArrayList", "java/util/ArrayList", "size", "I", ⟨Or.inr ⟨_, lw_n q526 rfl⟩, Or.inl rfl⟩, fx_c (r := (RJ2, TJ2, 3)) (Nat.le_of_ble_eq_true rfl) rfl (Nat.le_of_ble_eq_true rfl) rfl rfl rfl (fx_0)⟩
theorem fx_J21_22 : fx "java/util/ArrayList$Itr" 22 [14] 2 := ⟨"java/util/ArrayList$Itr", "java/util/ArrayList$Itr", "expectedModCount", "I", ⟨Or.inl q758, Or.inl rfl⟩, fx_c (r := (RJ21, TJ21, 4)) (Nat.le_of_ble_eq_true rfl) rfl (Nat.le_of_ble_eq_true rfl) rfl rfl rfl (fx_0)⟩
theorem cx_J21_31 : cxV "java/util/ArrayList$Itr" "java/util/ArrayList$Itr" 31 yJ21_checkForComodification cJ21_checkForComodification 1 (Option.none : Option FieldType) 0 := ⟨q823, q824, q825, q130, q826, ⟨by decide +kernel, by decide +kernel⟩, fun sig h => by have e := (show (parseMethodDescriptor (yJ21_checkForComodification).desc).map (fun d => d.parameters.length) = some 0 by decide +kernel); rw [h] at e; exact (Option.some.inj e).symm⟩
theorem rx_14 : rx 14 "java/util/ArrayList$Itr" := Or.inl ⟨(Nat.le_of_ble_eq_true rfl), (RJ21, TJ21, 4), rfl, rfl⟩
theorem fx_J21_37 : fx "java/util/ArrayList$Itr" 37 [13] 1 := ⟨"java/util/ArrayList", "java/util/ArrayList", "elementData", "[Ljava/lang/Object;", ⟨Or.inl q525, Or.inl rfl⟩, fx_c (r := (RJ2, TJ2, 3)) (Nat.le_of_ble_eq_true rfl) rfl (Nat.le_of_ble_eq_true rfl) rfl rfl rfl (fx_0)⟩
theorem px_J21_25 : px "java/util/ArrayList$Itr" 25 [14] 0 (.int) false := ⟨"java/util/ArrayList$Itr", "java/util/ArrayList$Itr", "cursor", "I", ⟨Or.inl q756, Or.inl rfl⟩, px_c (r := (RJ21, TJ21, 4)) (Nat.le_of_ble_eq_true rfl) rfl (Nat.le_of_ble_eq_true rfl) rfl (px_0), by decide +kernel, fun h => by cases h⟩
theorem nx_J2_267 : nx "java/util/ArrayList" 267 14 4 [.int 0, .int 0, .int 0, .null] := ⟨(Nat.le_of_ble_eq_true rfl), rfl, RJ21, TJ21, tyJ21, rfl, rfl, q750, q751, q130, by
  intro j hj
  match j, hj with
  | 0, _ => rfl
  | 1, _ => rfl
  | 2, _ => rfl
  | 3, _ => rfl
  | j + 4, hj => omega⟩
theorem cx_J2_269 : cxI "java/util/ArrayList" 269 yJ21_init cJ21_init 2 1 := ⟨q752, q753, q130, q754, ⟨by decide +kernel, by decide +kernel⟩, rfl, fun sig h => by have e := (show (parseMethodDescriptor (yJ21_init).desc).map (fun d => d.parameters.length) = some 1 by decide +kernel); rw [h] at e; exact (Option.some.inj e).symm⟩
theorem px_J20_3 : px "java/util/ArrayDeque" 3 [17] 0 (.array (.object "java/lang/Object")) false := ⟨"java/util/ArrayDeque", "java/util/ArrayDeque", "elements", "[Ljava/lang/Object;", ⟨Or.inl q660, Or.inl rfl⟩, px_c (r := (RJ20, TJ20, 3)) (Nat.le_of_ble_eq_true rfl) rfl (Nat.le_of_ble_eq_true rfl) rfl (px_0), by decide +kernel, fun h => by cases h⟩
theorem cx_J20_42 : cxI "java/util/ArrayDeque" 42 yJ0_init cJ0_init 1 0 := ⟨q657, q199, q104, q200, ⟨by decide +kernel, by decide +kernel⟩, rfl, fun sig h => by have e := (show (parseMethodDescriptor (yJ0_init).desc).map (fun d => d.parameters.length) = some 0 by decide +kernel); rw [h] at e; exact (Option.some.inj e).symm⟩
theorem fx_J20_20 : fx "java/util/ArrayDeque" 20 [17] 2 := ⟨"java/util/ArrayDeque", "java/util/ArrayDeque", "tail", "I", ⟨Or.inl q664, Or.inl rfl⟩, fx_c (r := (RJ20, TJ20, 3)) (Nat.le_of_ble_eq_true rfl) rfl (Nat.le_of_ble_eq_true rfl) rfl rfl rfl (fx_0)⟩
theorem fx_J20_24 : fx "java/util/ArrayDeque" 24 [17] 1 := ⟨"java/util/ArrayDeque", "java/util/ArrayDeque", "head", "I", ⟨Or.inl q663, Or.inl rfl⟩, fx_c (r := (RJ20, TJ20, 3)) (Nat.le_of_ble_eq_true rfl) rfl (Nat.le_of_ble_eq_true rfl) rfl rfl rfl (fx_0)⟩
theorem fx_J20_3 : fx "java/util/ArrayDeque" 3 [17] 0 := ⟨"java/util/ArrayDeque", "java/util/ArrayDeque", "elements", "[Ljava/lang/Object;", ⟨Or.inl q660, Or.inl rfl⟩, fx_c (r := (RJ20, TJ20, 3)) (Nat.le_of_ble_eq_true rfl) rfl (Nat.le_of_ble_eq_true rfl) rfl rfl rfl (fx_0)⟩
theorem cx_J20_127 : cxS "java/util/ArrayDeque" 127 yJ20_sub cJ20_sub 3 (Option.some FieldType.int) 3 := ⟨q937, q938, q126, q939, ⟨by decide +kernel, by decide +kernel⟩, fun sig h => by have e := (show (parseMethodDescriptor (yJ20_sub).desc).map (fun d => d.parameters.length) = some 3 by decide +kernel); rw [h] at e; exact (Option.some.inj e).symm⟩
theorem rx_1 : rx 1 "ElasticTruss$Truss" := Or.inl ⟨(Nat.le_of_ble_eq_true rfl), (RX2, TX2, 9), rfl, rfl⟩
theorem cx_J20_74 : cxS "java/util/ArrayDeque" 74 yJ20_inc cJ20_inc 2 (Option.some FieldType.int) 2 := ⟨q2586, q816, q126, q817, ⟨by decide +kernel, by decide +kernel⟩, fun sig h => by have e := (show (parseMethodDescriptor (yJ20_inc).desc).map (fun d => d.parameters.length) = some 2 by decide +kernel); rw [h] at e; exact (Option.some.inj e).symm⟩
theorem px_J20_20 : px "java/util/ArrayDeque" 20 [17] 2 (.int) false := ⟨"java/util/ArrayDeque", "java/util/ArrayDeque", "tail", "I", ⟨Or.inl q664, Or.inl rfl⟩, px_c (r := (RJ20, TJ20, 3)) (Nat.le_of_ble_eq_true rfl) rfl (Nat.le_of_ble_eq_true rfl) rfl (px_0), by decide +kernel, fun h => by cases h⟩
theorem cx_J20_103 : cxS "java/util/ArrayDeque" 103 yJ20_elementAt cJ20_elementAt 2 (Option.some (FieldType.object "java/lang/Object")) 2 := ⟨q2621, q2622, q126, q2623, ⟨by decide +kernel, by decide +kernel⟩, fun sig h => by have e := (show (parseMethodDescriptor (yJ20_elementAt).desc).map (fun d => d.parameters.length) = some 2 by decide +kernel); rw [h] at e; exact (Option.some.inj e).symm⟩
theorem px_J20_24 : px "java/util/ArrayDeque" 24 [17] 1 (.int) false := ⟨"java/util/ArrayDeque", "java/util/ArrayDeque", "head", "I", ⟨Or.inl q663, Or.inl rfl⟩, px_c (r := (RJ20, TJ20, 3)) (Nat.le_of_ble_eq_true rfl) rfl (Nat.le_of_ble_eq_true rfl) rfl (px_0), by decide +kernel, fun h => by cases h⟩
theorem cx_J20_93 : cxV "java/util/ArrayDeque" "java/util/ArrayDeque" 93 yJ20_pollFirst cJ20_pollFirst 4 (Option.some (FieldType.object "java/lang/Object")) 0 := ⟨q2617, q2618, q2619, q126, q2620, ⟨by decide +kernel, by decide +kernel⟩, fun sig h => by have e := (show (parseMethodDescriptor (yJ20_pollFirst).desc).map (fun d => d.parameters.length) = some 0 by decide +kernel); rw [h] at e; exact (Option.some.inj e).symm⟩
theorem rx_17 : rx 17 "java/util/ArrayDeque" := Or.inl ⟨(Nat.le_of_ble_eq_true rfl), (RJ20, TJ20, 3), rfl, rfl⟩
theorem cx_J20_68 : cxS "java/util/ArrayDeque" 68 yJ20_dec cJ20_dec 2 (Option.some FieldType.int) 2 := ⟨q2654, q2655, q126, q2656, ⟨by decide +kernel, by decide +kernel⟩, fun sig h => by have e := (show (parseMethodDescriptor (yJ20_dec).desc).map (fun d => d.parameters.length) = some 2 by decide +kernel); rw [h] at e; exact (Option.some.inj e).symm⟩
theorem cx_J20_100 : cxV "java/util/ArrayDeque" "java/util/ArrayDeque" 100 yJ20_pollLast cJ20_pollLast 4 (Option.some (FieldType.object "java/lang/Object")) 0 := ⟨q2650, q2651, q2652, q126, q2653, ⟨by decide +kernel, by decide +kernel⟩, fun sig h => by have e := (show (parseMethodDescriptor (yJ20_pollLast).desc).map (fun d => d.parameters.length) = some 0 by decide +kernel); rw [h] at e; exact (Option.some.inj e).symm⟩
set_option maxHeartbeats 4000000 in
theorem mt_J0_init {E : Ev} {l : Launch} (hl : l.stackTraces = false) {p0 : Option Nat} {σ : Hs} {σ' : Hs} (hf : fn_J0_init p0 σ = some σ') : wk_M E l yJ0_init (ws_ yJ0_init cJ0_init 1 (Option.none : Option FieldType)) 1 12 [vR p0] σ (.inl none) σ' := by
  refine wk_start (by decide +kernel) hl (Nat.le_of_ble_eq_true rfl) (fun K C hK => ?_)
  subst hK
  refine wk_L (L' := [(0, vR p0)]) rfl ?_
  unfold fn_J0_init at hf
  refine wk_aload_n C 0 rfl dJ0_init_0 ?_
  obtain ⟨b1, h_b1, hf⟩ := ho_b hf
  refine wk_objI C h_b1 q201 q179 q180 (Nat.le_of_ble_eq_true rfl) (Nat.le_of_ble_eq_true rfl) dJ0_init_1 ?_
  obtain rfl := Option.some.inj hf
  exact wk_vret C rfl rfl dJ0_init_4
set_option maxHeartbeats 4000000 in
theorem mt_J1_init {E : Ev} {l : Launch} (hl : l.stackTraces = false) {p0 : Option Nat} {σ : Hs} {σ' : Hs} (hf : fn_J1_init p0 σ = some σ') : wk_M E l yJ1_init (ws_ yJ1_init cJ1_init 1 (Option.none : Option FieldType)) 2 32 [vR p0] σ (.inl none) σ' := by
  refine wk_start (by decide +kernel) hl (Nat.le_of_ble_eq_true rfl) (fun K C hK => ?_)
  subst hK
  refine wk_L (L' := [(0, vR p0)]) rfl ?_
  unfold fn_J1_init at hf
  refine wk_aload_n C 0 rfl dJ1_init_0 ?_
  obtain ⟨b1, h_b1, hf⟩ := ho_b hf
  obtain ⟨σ2, h_σ2, hf⟩ := ho_b hf
  refine wk_callI (av := []) (rest := []) C cx_J1_1 h_b1 (mt_J0_init (wk_C.tr C) h_σ2) rfl (Nat.le_of_ble_eq_true rfl) (Nat.le_of_ble_eq_true rfl) (Nat.le_of_ble_eq_true rfl) dJ1_init_1 ?_
  refine wk_aload_n C 0 rfl dJ1_init_4 ?_
  refine wk_iconst (v := 0) C dJ1_init_5 rfl ?_
  obtain ⟨σ3, h_σ3, hf⟩ := ho_b hf
  refine wk_putI C px_J1_7 (fun q => by cases q) h_σ3 dJ1_init_6 ?_
  obtain rfl := Option.some.inj hf
  exact wk_vret C rfl rfl dJ1_init_9
set_option maxHeartbeats 4000000 in
theorem mt_J17_init {E : Ev} {l : Launch} (hl : l.stackTraces = false) {p0 : Option Nat} {σ : Hs} {σ' : Hs} (hf : fn_J17_init p0 σ = some σ') : wk_M E l yJ17_init (ws_ yJ17_init cJ17_init 1 (Option.none : Option FieldType)) 1 12 [vR p0] σ (.inl none) σ' := by
  refine wk_start (by decide +kernel) hl (Nat.le_of_ble_eq_true rfl) (fun K C hK => ?_)
  subst hK
  refine wk_L (L' := [(0, vR p0)]) rfl ?_
  unfold fn_J17_init at hf
  refine wk_aload_n C 0 rfl dJ17_init_0 ?_
  obtain ⟨b1, h_b1, hf⟩ := ho_b hf
  refine wk_objI C h_b1 q550 q179 q180 (Nat.le_of_ble_eq_true rfl) (Nat.le_of_ble_eq_true rfl) dJ17_init_1 ?_
  obtain rfl := Option.some.inj hf
  exact wk_vret C rfl rfl dJ17_init_4
set_option maxHeartbeats 4000000 in
theorem mt_J39_init {E : Ev} {l : Launch} (hl : l.stackTraces = false) {p0 : Option Nat} {σ : Hs} {σ' : Hs} (hf : fn_J39_init p0 σ = some σ') : wk_M E l yJ39_init (ws_ yJ39_init cJ39_init 1 (Option.none : Option FieldType)) 2 32 [vR p0] σ (.inl none) σ' := by
  refine wk_start (by decide +kernel) hl (Nat.le_of_ble_eq_true rfl) (fun K C hK => ?_)
  subst hK
  refine wk_L (L' := [(0, vR p0)]) rfl ?_
  unfold fn_J39_init at hf
  refine wk_aload_n C 0 rfl dJ39_init_0 ?_
  obtain ⟨b1, h_b1, hf⟩ := ho_b hf
  obtain ⟨σ2, h_σ2, hf⟩ := ho_b hf
  refine wk_callI (av := []) (rest := []) C cx_J39_1 h_b1 (mt_J0_init (wk_C.tr C) h_σ2) rfl (Nat.le_of_ble_eq_true rfl) (Nat.le_of_ble_eq_true rfl) (Nat.le_of_ble_eq_true rfl) dJ39_init_1 ?_
  obtain rfl := Option.some.inj hf
  exact wk_vret C rfl rfl dJ39_init_4
set_option maxHeartbeats 4000000 in
theorem mt_J28_init {E : Ev} {l : Launch} (hl : l.stackTraces = false) {p0 : Option Nat} {σ : Hs} {σ' : Hs} (hf : fn_J28_init p0 σ = some σ') : wk_M E l yJ28_init (ws_ yJ28_init cJ28_init 1 (Option.none : Option FieldType)) 1 12 [vR p0] σ (.inl none) σ' := by
  refine wk_start (by decide +kernel) hl (Nat.le_of_ble_eq_true rfl) (fun K C hK => ?_)
  subst hK
  refine wk_L (L' := [(0, vR p0)]) rfl ?_
  unfold fn_J28_init at hf
  refine wk_aload_n C 0 rfl dJ28_init_0 ?_
  obtain ⟨b1, h_b1, hf⟩ := ho_b hf
  refine wk_objI C h_b1 q3003 q179 q180 (Nat.le_of_ble_eq_true rfl) (Nat.le_of_ble_eq_true rfl) dJ28_init_1 ?_
  obtain rfl := Option.some.inj hf
  exact wk_vret C rfl rfl dJ28_init_4
set_option maxHeartbeats 4000000 in
theorem wb_J3_init_4_b60 {E : Ev} {K : Kx} (C : wk_C E K yJ3_init_4 cJ3_init_4 5 (Option.none : Option FieldType) 1 12 []) {σ' : Hs}  (σ : Hs) (hf : fn_J3_init_4_b60 E.2.2.1  σ = some σ') : wk_V E K (.inl none) σ' σ 60 [] [] := by
  unfold fn_J3_init_4_b60 at hf
  obtain rfl := Option.some.inj hf
  exact wk_vret C rfl rfl dJ3_init_4_60
set_option maxHeartbeats 4000000 in
theorem mt_J3_init_4 {E : Ev} {l : Launch} (hl : l.stackTraces = false) {p0 : Option Nat} {p1 : Option Nat} {p2 : Option Nat} {p3 : Int32} {p4 : Int32} {σ : Hs} {σ' : Hs} (hf : fn_J3_init_4 E.2.2.1 p0 p1 p2 p3 p4 σ = some σ') : wk_M E l yJ3_init_4 (ws_ yJ3_init_4 cJ3_init_4 5 (Option.none : Option FieldType)) 1 12 [vR p0, vR p1, vR p2, vI p3, vI p4] σ (.inl none) σ' := by
  refine wk_start (by decide +kernel) hl (Nat.le_of_ble_eq_true rfl) (fun K C hK => ?_)
  subst hK
  refine wk_L (L' := [(0, vR p0), (1, vR p1), (2, vR p2), (3, vI p3), (4, vI p4)]) rfl ?_
  unfold fn_J3_init_4 at hf
  refine wk_aload_n C 0 rfl dJ3_init_4_0 ?_
  obtain ⟨b1, h_b1, hf⟩ := ho_b hf
  refine wk_objI C h_b1 q231 q179 q180 (Nat.le_of_ble_eq_true rfl) (Nat.le_of_ble_eq_true rfl) dJ3_init_4_1 ?_
  refine wk_aload_n C 0 rfl dJ3_init_4_4 ?_
  refine wk_aload_n C 0 rfl dJ3_init_4_5 ?_
  obtain ⟨σ2, h_σ2, hf⟩ := ho_b hf
  refine wk_putR C px_J3_7 (Or.inl ⟨_, rfl⟩) (fun q => by cases q) h_σ2 dJ3_init_4_6 ?_
  refine wk_aload_n C 0 rfl dJ3_init_4_9 ?_
  refine wk_getsR C (j := 8) sx_J3_13 rfl dJ3_init_4_10 ?_
  obtain ⟨σ3, h_σ3, hf⟩ := ho_b hf
  refine wk_putR C px_J3_17 (Or.inr ⟨_, rfl⟩) (fun q => by cases q) h_σ3 dJ3_init_4_13 ?_
  refine wk_aload_n C 0 rfl dJ3_init_4_16 ?_
  refine wk_getsR C (j := 9) sx_J3_20 rfl dJ3_init_4_17 ?_
  obtain ⟨σ4, h_σ4, hf⟩ := ho_b hf
  refine wk_putR C px_J3_24 (Or.inl ⟨_, rfl⟩) (fun q => by cases q) h_σ4 dJ3_init_4_20 ?_
  refine wk_iload C 4 rfl dJ3_init_4_23 ?_
  refine wk_if_eq C 36 (by decide) dJ3_init_4_25 (fun c_ => ?_) (fun c_ => ?_)
  · rw [if_pos c_] at hf
    refine wk_aload_n C 0 rfl dJ3_init_4_36 ?_
    refine wk_null C dJ3_init_4_37 ?_
    obtain ⟨σ5, h_σ5, hf⟩ := ho_b hf
    refine wk_putR C px_J3_17 (Or.inr ⟨_, rfl⟩) (fun q => by cases q) h_σ5 dJ3_init_4_38 ?_
    refine wk_aload_n C 0 rfl dJ3_init_4_41 ?_
    refine wk_aload_n C 1 rfl dJ3_init_4_42 ?_
    obtain ⟨σ6, h_σ6, hf⟩ := ho_b hf
    refine wk_putR C px_J3_31 (Or.inl ⟨_, rfl⟩) (fun q => by cases q) h_σ6 dJ3_init_4_43 ?_
    refine wk_aload_n C 0 rfl dJ3_init_4_46 ?_
    refine wk_aload_n C 2 rfl dJ3_init_4_47 ?_
    obtain ⟨σ7, h_σ7, hf⟩ := ho_b hf
    refine wk_putR C px_J3_7 (Or.inl ⟨_, rfl⟩) (fun q => by cases q) h_σ7 dJ3_init_4_48 ?_
    refine wk_iload_n C 3 rfl dJ3_init_4_51 ?_
    refine wk_if_ne C 60 (by decide) dJ3_init_4_52 (fun c_ => ?_) (fun c_ => ?_)
    · rw [if_neg c_] at hf
      refine wk_sub (L' := []) [] rfl ?_
      exact wb_J3_init_4_b60 C   _ hf
    · rw [if_pos c_] at hf
      refine wk_aload_n C 0 rfl dJ3_init_4_55 ?_
      refine wk_null C dJ3_init_4_56 ?_
      obtain ⟨σ8, h_σ8, hf⟩ := ho_b hf
      refine wk_putR C px_J3_24 (Or.inl ⟨_, rfl⟩) (fun q => by cases q) h_σ8 dJ3_init_4_57 ?_
      refine wk_sub (L' := []) [] rfl ?_
      exact wb_J3_init_4_b60 C   _ hf
  · rw [if_neg c_] at hf
    refine wk_aload_n C 0 rfl dJ3_init_4_28 ?_
    cases hf
set_option maxHeartbeats 4000000 in
theorem mt_J4_init_4 {E : Ev} {l : Launch} (hl : l.stackTraces = false) {p0 : Option Nat} {p1 : Option Nat} {p2 : Option Nat} {p3 : Int32} {p4 : Int32} {σ : Hs} {σ' : Hs} (hf : fn_J4_init_4 E.2.2.1 p0 p1 p2 p3 p4 σ = some σ') : wk_M E l yJ4_init_4 (ws_ yJ4_init_4 cJ4_init_4 5 (Option.none : Option FieldType)) 2 36 [vR p0, vR p1, vR p2, vI p3, vI p4] σ (.inl none) σ' := by
  refine wk_start (by decide +kernel) hl (Nat.le_of_ble_eq_true rfl) (fun K C hK => ?_)
  subst hK
  refine wk_L (L' := [(0, vR p0), (1, vR p1), (2, vR p2), (3, vI p3), (4, vI p4)]) rfl ?_
  unfold fn_J4_init_4 at hf
  refine wk_aload_n C 0 rfl dJ4_init_4_0 ?_
  refine wk_aload_n C 1 rfl dJ4_init_4_1 ?_
  refine wk_aload_n C 2 rfl dJ4_init_4_2 ?_
  refine wk_iload_n C 3 rfl dJ4_init_4_3 ?_
  refine wk_iload C 4 rfl dJ4_init_4_4 ?_
  obtain ⟨b1, h_b1, hf⟩ := ho_b hf
  obtain ⟨σ2, h_σ2, hf⟩ := ho_b hf
  refine wk_callI (av := [vR p1, vR p2, vI p3, vI p4]) (rest := []) C cx_J4_16 h_b1 (mt_J3_init_4 (wk_C.tr C) h_σ2) rfl (Nat.le_of_ble_eq_true rfl) (Nat.le_of_ble_eq_true rfl) (Nat.le_of_ble_eq_true rfl) dJ4_init_4_6 ?_
  obtain rfl := Option.some.inj hf
  exact wk_vret C rfl rfl dJ4_init_4_9
set_option maxHeartbeats 4000000 in
theorem mt_J24_checkIndex {E : Ev} {l : Launch} (hl : l.stackTraces = false) {p0 : Int32} {p1 : Int32} {σ : Hs} {r : Int32} {σ' : Hs} (hf : fn_J24_checkIndex p0 p1 σ = some (r, σ')) : wk_M E l yJ24_checkIndex (ws_ yJ24_checkIndex cJ24_checkIndex 2 (Option.some FieldType.int)) 1 22 [vI p0, vI p1] σ (.inl (some (.int r))) σ' := by
  refine wk_start (by decide +kernel) hl (Nat.le_of_ble_eq_true rfl) (fun K C hK => ?_)
  subst hK
  refine wk_L (L' := [(0, vI p0), (1, vI p1)]) rfl ?_
  unfold fn_J24_checkIndex at hf
  refine wk_iload_n C 0 rfl dJ24_checkIndex_0 ?_
  refine wk_iload_n C 1 rfl dJ24_checkIndex_1 ?_
  refine wk_null C dJ24_checkIndex_2 ?_
  obtain ⟨v2, σ1, h_σ1, hf⟩ := ho_e2 hf
  refine wk_callS (av := [vI p0, vI p1, vR none]) (rest := []) (rv := some (vI v2)) C cx_J24_105 (mt_J14_checkIndex (wk_C.tr C) h_σ1) rfl rfl (Nat.le_of_ble_eq_true rfl) (Nat.le_of_ble_eq_true rfl) (Nat.le_of_ble_eq_true rfl) dJ24_checkIndex_3 ?_
  obtain ⟨rfl, rfl⟩ := Prod.mk.inj (Option.some.inj hf)
  exact wk_iret C rfl rfl dJ24_checkIndex_6
set_option maxHeartbeats 4000000 in
theorem wb_J11_newLength_b21 {E : Ev} {K : Kx} (C : wk_C E K yJ11_newLength cJ11_newLength 4 (Option.some FieldType.int) 1 21 []) {r : Int32} {σ' : Hs} (l0 : Int32) (l1 : Int32) (σ : Hs) (hf : fn_J11_newLength_b21 l0 l1 σ = some (r, σ')) : wk_V E K (.inl (some (.int r))) σ' σ 21 [(0, vI l0), (1, vI l1)] [] := by
  unfold fn_J11_newLength_b21 at hf
  refine wk_iload_n C 0 rfl dJ11_newLength_21 ?_
  refine wk_iload_n C 1 rfl dJ11_newLength_22 ?_
  cases hf
set_option maxHeartbeats 4000000 in
theorem mt_J11_newLength {E : Ev} {l : Launch} (hl : l.stackTraces = false) {p0 : Int32} {p1 : Int32} {p2 : Int32} {σ : Hs} {r : Int32} {σ' : Hs} (hf : fn_J11_newLength p0 p1 p2 σ = some (r, σ')) : wk_M E l yJ11_newLength (ws_ yJ11_newLength cJ11_newLength 4 (Option.some FieldType.int)) 1 21 [vI p0, vI p1, vI p2] σ (.inl (some (.int r))) σ' := by
  refine wk_start (by decide +kernel) hl (Nat.le_of_ble_eq_true rfl) (fun K C hK => ?_)
  subst hK
  refine wk_L (L' := [(0, vI p0), (1, vI p1), (2, vI p2)]) rfl ?_
  unfold fn_J11_newLength at hf
  refine wk_iload_n C 0 rfl dJ11_newLength_0 ?_
  refine wk_iload_n C 1 rfl dJ11_newLength_1 ?_
  refine wk_iload_n C 2 rfl dJ11_newLength_2 ?_
  obtain ⟨v2, σ1, h_σ1, hf⟩ := ho_e2 hf
  refine wk_callS (av := [vI p1, vI p2]) (rest := [vI p0]) (rv := some (vI v2)) C cx_J11_194 (mt_J12_max (wk_C.tr C) h_σ1) rfl rfl (Nat.le_of_ble_eq_true rfl) (Nat.le_of_ble_eq_true rfl) (Nat.le_of_ble_eq_true rfl) dJ11_newLength_3 ?_
  refine wk_iadd C dJ11_newLength_6 ?_
  obtain ⟨v3, e_v3, hf⟩ := ho_b hf
  refine wk_tI (Option.some.inj e_v3) ?_
  refine wk_istore_n (L' := [(0, vI p0), (1, vI p1), (2, vI p2), (3, vI v3)]) C (by decide) rfl dJ11_newLength_7 ?_
  refine wk_iconst (v := 0) C dJ11_newLength_8 rfl ?_
  refine wk_iload_n C 3 rfl dJ11_newLength_9 ?_
  refine wk_icmp_ge C 21 (by decide) dJ11_newLength_10 (fun c_ => ?_) (fun c_ => ?_)
  · rw [if_pos c_] at hf
    refine wk_sub (L' := [(0, vI p0), (1, vI p1)]) [0, 1] rfl ?_
    exact wb_J11_newLength_b21 C  _ _ _ hf
  · rw [if_neg c_] at hf
    refine wk_iload_n C 3 rfl dJ11_newLength_13 ?_
    refine wk_ldc C q309 dJ11_newLength_14 ?_
    refine wk_icmp_gt C 21 (by decide) dJ11_newLength_16 (fun c_ => ?_) (fun c_ => ?_)
    · rw [if_pos c_] at hf
      refine wk_sub (L' := [(0, vI p0), (1, vI p1)]) [0, 1] rfl ?_
      exact wb_J11_newLength_b21 C  _ _ _ hf
    · rw [if_neg c_] at hf
      refine wk_iload_n C 3 rfl dJ11_newLength_19 ?_
      obtain ⟨rfl, rfl⟩ := Prod.mk.inj (Option.some.inj hf)
      exact wk_iret C rfl rfl dJ11_newLength_20
set_option maxHeartbeats 4000000 in
theorem mt_J13_copyOf_3 {E : Ev} {l : Launch} (hl : l.stackTraces = false) {p0 : Option Nat} {p1 : Int32} {p2 : Option Nat} {σ : Hs} {r : Option Nat} {σ' : Hs} (hf : fn_J13_copyOf_3 E.2.2.1 p0 p1 p2 σ = some (r, σ')) : wk_M E l yJ13_copyOf_3 (ws_ yJ13_copyOf_3 cJ13_copyOf_3 4 (Option.some (FieldType.array (FieldType.object "java/lang/Object")))) 1 30 [vR p0, vI p1, vR p2] σ (.inl (some (va_rf r))) σ' := by
  refine wk_start (by decide +kernel) hl (Nat.le_of_ble_eq_true rfl) (fun K C hK => ?_)
  subst hK
  refine wk_L (L' := [(0, vR p0), (1, vI p1), (2, vR p2)]) rfl ?_
  unfold fn_J13_copyOf_3 at hf
  refine wk_aload_n C 2 rfl dJ13_copyOf_3_0 ?_
  refine wk_ldcM C q2609 dJ13_copyOf_3_1 ?_
  refine wk_acmp_ne C 13 (by decide) dJ13_copyOf_3_3 (fun c_ => ?_) (fun c_ => ?_)
  · rw [if_neg c_] at hf
    refine wk_aload_n C 2 rfl dJ13_copyOf_3_13 ?_
    cases hf
  · rw [if_pos c_] at hf
    refine wk_iload_n C 1 rfl dJ13_copyOf_3_6 ?_
    obtain ⟨v1, σ2, h_σ2, hf⟩ := ho_e2 hf
    refine wk_anew C (k := 3) (Nat.le_of_ble_eq_true rfl) rfl q2610 (by decide +kernel) h_σ2 dJ13_copyOf_3_7 ?_
    refine wk_goto C 24 (by decide) dJ13_copyOf_3_10 ?_
    refine wk_astore_n (L' := [(0, vR p0), (1, vI p1), (2, vR p2), (3, vR v1)]) C (by decide) rfl dJ13_copyOf_3_24 ?_
    refine wk_aload_n C 0 rfl dJ13_copyOf_3_25 ?_
    refine wk_iconst (v := 0) C dJ13_copyOf_3_26 rfl ?_
    refine wk_aload_n C 3 rfl dJ13_copyOf_3_27 ?_
    refine wk_iconst (v := 0) C dJ13_copyOf_3_28 rfl ?_
    refine wk_aload_n C 0 rfl dJ13_copyOf_3_29 ?_
    obtain ⟨v3, h_v3, hf⟩ := ho_b hf
    refine wk_alen C h_v3 dJ13_copyOf_3_30 ?_
    refine wk_iload_n C 1 rfl dJ13_copyOf_3_31 ?_
    obtain ⟨v5, σ4, h_σ4, hf⟩ := ho_e2 hf
    refine wk_callS (av := [vI v3, vI p1]) (rest := [vI (0 : Int32), vR v1, vI (0 : Int32), vR p0]) (rv := some (vI v5)) C cx_J13_304 (mt_J12_min (wk_C.tr C) h_σ4) rfl rfl (Nat.le_of_ble_eq_true rfl) (Nat.le_of_ble_eq_true rfl) (Nat.le_of_ble_eq_true rfl) dJ13_copyOf_3_32 ?_
    obtain ⟨σ6, h_σ6, hf⟩ := ho_b hf
    refine wk_copy C (Nat.le_of_ble_eq_true rfl) (Nat.le_of_ble_eq_true rfl) rfl rfl (List.forall_mem_cons.mpr ⟨ax_cast rx_5 q3859, List.forall_mem_cons.mpr ⟨ax_cast rx_8 q3865, (List.forall_mem_nil _)⟩⟩) h_σ6 q327 q329 q328 q118 (Nat.le_of_ble_eq_true rfl) (by decide +kernel) dJ13_copyOf_3_35 ?_
    refine wk_aload_n C 3 rfl dJ13_copyOf_3_38 ?_
    obtain ⟨rfl, rfl⟩ := Prod.mk.inj (Option.some.inj hf)
    exact wk_aret C (Or.inr ⟨_, rfl⟩) rfl rfl dJ13_copyOf_3_39
set_option maxHeartbeats 4000000 in
theorem mt_J13_copyOf_2 {E : Ev} {l : Launch} (hl : l.stackTraces = false) {p0 : Option Nat} {p1 : Int32} {σ : Hs} {r : Option Nat} {σ' : Hs} (hf : fn_J13_copyOf_2 E.2.2.1 p0 p1 σ = some (r, σ')) : wk_M E l yJ13_copyOf_2 (ws_ yJ13_copyOf_2 cJ13_copyOf_2 2 (Option.some (FieldType.array (FieldType.object "java/lang/Object")))) 2 53 [vR p0, vI p1] σ (.inl (some (va_rf r))) σ' := by
  refine wk_start (by decide +kernel) hl (Nat.le_of_ble_eq_true rfl) (fun K C hK => ?_)
  subst hK
  refine wk_L (L' := [(0, vR p0), (1, vI p1)]) rfl ?_
  unfold fn_J13_copyOf_2 at hf
  refine wk_aload_n C 0 rfl dJ13_copyOf_2_0 ?_
  refine wk_iload_n C 1 rfl dJ13_copyOf_2_1 ?_
  refine wk_aload_n C 0 rfl dJ13_copyOf_2_2 ?_
  obtain ⟨x1, h_x1, hf⟩ := ho_b hf
  by_cases c_ : x1.1 = 3
  · rw [if_pos c_] at hf
    refine wk_getC C h_x1 c_ q2605 (lw_n q3898 rfl) q3897 q1676 q1722 (Nat.le_of_ble_eq_true rfl) (Nat.le_of_ble_eq_true rfl) dJ13_copyOf_2_3 ?_
    obtain ⟨v3, σ2, h_σ2, hf⟩ := ho_e2 hf
    refine wk_callS (av := [vR p0, vI p1, vR (E.2.2.1 90)]) (rest := []) (rv := some (vR v3)) C cx_J13_300 (mt_J13_copyOf_3 (wk_C.tr C) h_σ2) rfl rfl (Nat.le_of_ble_eq_true rfl) (Nat.le_of_ble_eq_true rfl) (Nat.le_of_ble_eq_true rfl) dJ13_copyOf_2_6 ?_
    obtain ⟨rfl, rfl⟩ := Prod.mk.inj (Option.some.inj hf)
    exact wk_aret C (Or.inr ⟨_, rfl⟩) rfl rfl dJ13_copyOf_2_9
  · rw [if_neg c_] at hf
    cases hf
set_option maxHeartbeats 4000000 in
theorem wb_J13_fill_b6 {E : Ev} {K : Kx} (C : wk_C E K yJ13_fill cJ13_fill 5 (Option.none : Option FieldType) 0 0 []) {σ' : Hs} : ∀ (n : Nat) (l0 : Option Nat) (l1 : Int64) (l3 : Int32) (l4 : Int32) (σ : Hs), fn_J13_fill_b6 n l0 l1 l3 l4 σ = some σ' → wk_V E K (.inl none) σ' σ 6 [(0, vR l0), (1, vJ l1), (3, vI l3), (4, vI l4)] [] := by
  intro n
  induction n with
  | zero =>
    intro l0 l1 l3 l4 σ hf
    rw [fn_J13_fill_b6] at hf
    cases hf
  | succ n ih =>
    intro l0 l1 l3 l4 σ hf
    rw [fn_J13_fill_b6] at hf
    refine wk_iload_n C 2 rfl dJ13_fill_6 ?_
    refine wk_iload C 3 rfl dJ13_fill_7 ?_
    refine wk_icmp_ge C 22 (by decide) dJ13_fill_9 (fun c_ => ?_) (fun c_ => ?_)
    · rw [if_pos c_] at hf
      obtain rfl := Option.some.inj hf
      exact wk_vret C rfl rfl dJ13_fill_22
    · rw [if_neg c_] at hf
      refine wk_aload_n C 0 rfl dJ13_fill_12 ?_
      refine wk_iload_n C 2 rfl dJ13_fill_13 ?_
      refine wk_lload_n C 1 rfl dJ13_fill_14 ?_
      obtain ⟨σ1, h_σ1, hf⟩ := ho_b hf
      refine wk_last C h_σ1 dJ13_fill_15 ?_
      refine wk_iinc (v := l3 + 1) (L' := [(0, vR l0), (1, vJ l1), (3, vI (l3 + 1)), (4, vI l4)]) C 2 rfl (by decide) rfl rfl dJ13_fill_16 ?_
      refine wk_goto C 6 (by decide) dJ13_fill_19 ?_
      exact ih _ _ _ _ _ hf
set_option maxHeartbeats 4000000 in
theorem mt_J13_fill {E : Ev} {l : Launch} (hl : l.stackTraces = false) {p0 : Option Nat} {p1 : Int64} {σ : Hs} {σ' : Hs} (hf : fn_J13_fill p0 p1 σ = some σ') : wk_M E l yJ13_fill (ws_ yJ13_fill cJ13_fill 5 (Option.none : Option FieldType)) 0 0 [vR p0, vJ p1] σ (.inl none) σ' := by
  refine wk_start (by decide +kernel) hl (Nat.le_of_ble_eq_true rfl) (fun K C hK => ?_)
  subst hK
  refine wk_L (L' := [(0, vR p0), (1, vJ p1)]) rfl ?_
  unfold fn_J13_fill at hf
  refine wk_iconst (v := 0) C dJ13_fill_0 rfl ?_
  refine wk_istore_n (L' := [(0, vR p0), (1, vJ p1), (3, vI (0 : Int32))]) C (by decide) rfl dJ13_fill_1 ?_
  refine wk_aload_n C 0 rfl dJ13_fill_2 ?_
  obtain ⟨v2, h_v2, hf⟩ := ho_b hf
  refine wk_alen C h_v2 dJ13_fill_3 ?_
  refine wk_istore (L' := [(0, vR p0), (1, vJ p1), (3, vI (0 : Int32)), (4, vI v2)]) C (by decide) rfl dJ13_fill_4 ?_
  exact wb_J13_fill_b6 C  _ _ _ _ _ _ hf
set_option maxHeartbeats 4000000 in
theorem wb_J2_init_b60 {E : Ev} {K : Kx} (C : wk_C E K yJ2_init cJ2_init 2 (Option.none : Option FieldType) 3 52 []) {σ' : Hs}  (σ : Hs) (hf : fn_J2_init_b60 E.2.2.1  σ = some σ') : wk_V E K (.inl none) σ' σ 60 [] [] := by
  unfold fn_J2_init_b60 at hf
  obtain rfl := Option.some.inj hf
  exact wk_vret C rfl rfl dJ2_init_60
set_option maxHeartbeats 4000000 in
theorem mt_J2_init {E : Ev} {l : Launch} (hl : l.stackTraces = false) {p0 : Option Nat} {p1 : Int32} {σ : Hs} {σ' : Hs} (hf : fn_J2_init E.2.2.1 p0 p1 σ = some σ') : wk_M E l yJ2_init (ws_ yJ2_init cJ2_init 2 (Option.none : Option FieldType)) 3 52 [vR p0, vI p1] σ (.inl none) σ' := by
  refine wk_start (by decide +kernel) hl (Nat.le_of_ble_eq_true rfl) (fun K C hK => ?_)
  subst hK
  refine wk_L (L' := [(0, vR p0), (1, vI p1)]) rfl ?_
  unfold fn_J2_init at hf
  refine wk_aload_n C 0 rfl dJ2_init_0 ?_
  obtain ⟨b1, h_b1, hf⟩ := ho_b hf
  obtain ⟨σ2, h_σ2, hf⟩ := ho_b hf
  refine wk_callI (av := []) (rest := []) C cx_J2_1 h_b1 (mt_J1_init (wk_C.tr C) h_σ2) rfl (Nat.le_of_ble_eq_true rfl) (Nat.le_of_ble_eq_true rfl) (Nat.le_of_ble_eq_true rfl) dJ2_init_1 ?_
  refine wk_iload_n C 1 rfl dJ2_init_4 ?_
  refine wk_if_le C 19 (by decide) dJ2_init_5 (fun c_ => ?_) (fun c_ => ?_)
  · rw [if_pos c_] at hf
    refine wk_iload_n C 1 rfl dJ2_init_19 ?_
    refine wk_if_ne C 33 (by decide) dJ2_init_20 (fun c_ => ?_) (fun c_ => ?_)
    · rw [if_neg c_] at hf
      cases hf
    · rw [if_pos c_] at hf
      refine wk_aload_n C 0 rfl dJ2_init_23 ?_
      refine wk_getsR C (j := 5) sx_J2_15 rfl dJ2_init_24 ?_
      obtain ⟨σ3, h_σ3, hf⟩ := ho_b hf
      refine wk_putR C px_J2_9 (Or.inr ⟨_, rfl⟩) (fun q => by cases q) h_σ3 dJ2_init_27 ?_
      refine wk_goto C 60 (by decide) dJ2_init_30 ?_
      refine wk_sub (L' := []) [] rfl ?_
      exact wb_J2_init_b60 C   _ hf
  · rw [if_neg c_] at hf
    refine wk_aload_n C 0 rfl dJ2_init_8 ?_
    refine wk_iload_n C 1 rfl dJ2_init_9 ?_
    obtain ⟨v4, σ5, h_σ5, hf⟩ := ho_e2 hf
    refine wk_anew C (k := 3) (Nat.le_of_ble_eq_true rfl) rfl q202 (by decide +kernel) h_σ5 dJ2_init_10 ?_
    obtain ⟨σ6, h_σ6, hf⟩ := ho_b hf
    refine wk_putR C px_J2_9 (Or.inr ⟨_, rfl⟩) (fun q => by cases q) h_σ6 dJ2_init_13 ?_
    refine wk_goto C 60 (by decide) dJ2_init_16 ?_
    refine wk_sub (L' := []) [] rfl ?_
    exact wb_J2_init_b60 C   _ hf
set_option maxHeartbeats 4000000 in
theorem mt_J2_size {E : Ev} {l : Launch} (hl : l.stackTraces = false) {p0 : Option Nat} {σ : Hs} {r : Int32} {σ' : Hs} (hf : fn_J2_size p0 σ = some (r, σ')) : wk_M E l yJ2_size (ws_ yJ2_size cJ2_size 1 (Option.some FieldType.int)) 0 0 [vR p0] σ (.inl (some (.int r))) σ' := by
  refine wk_start (by decide +kernel) hl (Nat.le_of_ble_eq_true rfl) (fun K C hK => ?_)
  subst hK
  refine wk_L (L' := [(0, vR p0)]) rfl ?_
  unfold fn_J2_size at hf
  refine wk_aload_n C 0 rfl dJ2_size_0 ?_
  obtain ⟨v1, h_v1, hf⟩ := ho_b hf
  refine wk_getI C fx_J2_48 h_v1 dJ2_size_1 ?_
  obtain ⟨rfl, rfl⟩ := Prod.mk.inj (Option.some.inj hf)
  exact wk_iret C rfl rfl dJ2_size_4
set_option maxHeartbeats 4000000 in
theorem mt_J2_elementData {E : Ev} {l : Launch} (hl : l.stackTraces = false) {p0 : Option Nat} {p1 : Int32} {σ : Hs} {r : Option Nat} {σ' : Hs} (hf : fn_J2_elementData p0 p1 σ = some (r, σ')) : wk_M E l yJ2_elementData (ws_ yJ2_elementData cJ2_elementData 2 (Option.some (FieldType.object "java/lang/Object"))) 0 0 [vR p0, vI p1] σ (.inl (some (va_rf r))) σ' := by
  refine wk_start (by decide +kernel) hl (Nat.le_of_ble_eq_true rfl) (fun K C hK => ?_)
  subst hK
  refine wk_L (L' := [(0, vR p0), (1, vI p1)]) rfl ?_
  unfold fn_J2_elementData at hf
  refine wk_aload_n C 0 rfl dJ2_elementData_0 ?_
  obtain ⟨v1, h_v1, hf⟩ := ho_b hf
  refine wk_getR C fx_J2_9 h_v1 dJ2_elementData_1 ?_
  refine wk_iload_n C 1 rfl dJ2_elementData_4 ?_
  obtain ⟨v2, h_v2, hf⟩ := ho_b hf
  refine wk_aald C h_v2 dJ2_elementData_5 ?_
  obtain ⟨rfl, rfl⟩ := Prod.mk.inj (Option.some.inj hf)
  exact wk_aret C (Or.inl ⟨_, rfl⟩) rfl rfl dJ2_elementData_6
set_option maxHeartbeats 4000000 in
theorem mt_J2_get {E : Ev} {l : Launch} (hl : l.stackTraces = false) {p0 : Option Nat} {p1 : Int32} {σ : Hs} {r : Option Nat} {σ' : Hs} (hf : fn_J2_get p0 p1 σ = some (r, σ')) : wk_M E l yJ2_get (ws_ yJ2_get cJ2_get 2 (Option.some (FieldType.object "java/lang/Object"))) 2 43 [vR p0, vI p1] σ (.inl (some (va_rf r))) σ' := by
  refine wk_start (by decide +kernel) hl (Nat.le_of_ble_eq_true rfl) (fun K C hK => ?_)
  subst hK
  refine wk_L (L' := [(0, vR p0), (1, vI p1)]) rfl ?_
  unfold fn_J2_get at hf
  refine wk_iload_n C 1 rfl dJ2_get_0 ?_
  refine wk_aload_n C 0 rfl dJ2_get_1 ?_
  obtain ⟨v1, h_v1, hf⟩ := ho_b hf
  refine wk_getI C fx_J2_48 h_v1 dJ2_get_2 ?_
  obtain ⟨v3, σ2, h_σ2, hf⟩ := ho_e2 hf
  refine wk_callS (av := [vI p1, vI v1]) (rest := []) (rv := some (vI v3)) C cx_J2_118 (mt_J24_checkIndex (wk_C.tr C) h_σ2) rfl rfl (Nat.le_of_ble_eq_true rfl) (Nat.le_of_ble_eq_true rfl) (Nat.le_of_ble_eq_true rfl) dJ2_get_5 ?_
  refine wk_pop C rfl dJ2_get_8 ?_
  refine wk_aload_n C 0 rfl dJ2_get_9 ?_
  refine wk_iload_n C 1 rfl dJ2_get_10 ?_
  obtain ⟨b4, h_b4, hf⟩ := ho_b hf
  obtain ⟨v6, σ5, h_σ5, hf⟩ := ho_e2 hf
  refine wk_callV (av := [vI p1]) (rest := []) (rv := some (vR v6)) C h_b4 rx_13 cx_J2_123 (mt_J2_elementData (wk_C.tr C) h_σ5) rfl rfl (Nat.le_of_ble_eq_true rfl) (Nat.le_of_ble_eq_true rfl) (Nat.le_of_ble_eq_true rfl) dJ2_get_11 ?_
  obtain ⟨rfl, rfl⟩ := Prod.mk.inj (Option.some.inj hf)
  exact wk_aret C (Or.inl ⟨_, rfl⟩) rfl rfl dJ2_get_14
set_option maxHeartbeats 4000000 in
theorem wb_J2_grow_2_b20 {E : Ev} {K : Kx} (C : wk_C E K yJ2_grow_2 cJ2_grow_2 4 (Option.some (FieldType.array (FieldType.object "java/lang/Object"))) 3 74 []) {r : Option Nat} {σ' : Hs} (l0 : Option Nat) (l1 : Int32) (l2 : Int32) (σ : Hs) (hf : fn_J2_grow_2_b20 E.2.2.1 l0 l1 l2 σ = some (r, σ')) : wk_V E K (.inl (some (va_rf r))) σ' σ 20 [(0, vR l0), (1, vI l1), (2, vI l2)] [] := by
  unfold fn_J2_grow_2_b20 at hf
  refine wk_iload_n C 2 rfl dJ2_grow_2_20 ?_
  refine wk_iload_n C 1 rfl dJ2_grow_2_21 ?_
  refine wk_iload_n C 2 rfl dJ2_grow_2_22 ?_
  refine wk_isub C dJ2_grow_2_23 ?_
  refine wk_iload_n C 2 rfl dJ2_grow_2_24 ?_
  refine wk_iconst (v := 1) C dJ2_grow_2_25 rfl ?_
  refine wk_ishr C dJ2_grow_2_26 ?_
  obtain ⟨v2, σ1, h_σ1, hf⟩ := ho_e2 hf
  refine wk_callS (av := [vI l2, vI (l1 - l2), vI (l2 >>> ((1 : Int32) &&& 31))]) (rest := []) (rv := some (vI v2)) C cx_J2_73 (mt_J11_newLength (wk_C.tr C) h_σ1) rfl rfl (Nat.le_of_ble_eq_true rfl) (Nat.le_of_ble_eq_true rfl) (Nat.le_of_ble_eq_true rfl) dJ2_grow_2_27 ?_
  refine wk_istore_n (L' := [(0, vR l0), (1, vI l1), (2, vI l2), (3, vI v2)]) C (by decide) rfl dJ2_grow_2_30 ?_
  refine wk_aload_n C 0 rfl dJ2_grow_2_31 ?_
  refine wk_aload_n C 0 rfl dJ2_grow_2_32 ?_
  obtain ⟨v3, h_v3, hf⟩ := ho_b hf
  refine wk_getR C fx_J2_9 h_v3 dJ2_grow_2_33 ?_
  refine wk_iload_n C 3 rfl dJ2_grow_2_36 ?_
  obtain ⟨v5, σ4, h_σ4, hf⟩ := ho_e2 hf
  refine wk_callS (av := [vR v3, vI v2]) (rest := [vR l0]) (rv := some (vR v5)) C cx_J2_66 (mt_J13_copyOf_2 (wk_C.tr C) h_σ4) rfl rfl (Nat.le_of_ble_eq_true rfl) (Nat.le_of_ble_eq_true rfl) (Nat.le_of_ble_eq_true rfl) dJ2_grow_2_37 ?_
  refine wk_dup_x1 C rfl rfl dJ2_grow_2_40 ?_
  obtain ⟨σ6, h_σ6, hf⟩ := ho_b hf
  refine wk_putR C px_J2_9 (Or.inr ⟨_, rfl⟩) (fun q => by cases q) h_σ6 dJ2_grow_2_41 ?_
  obtain ⟨rfl, rfl⟩ := Prod.mk.inj (Option.some.inj hf)
  exact wk_aret C (Or.inr ⟨_, rfl⟩) rfl rfl dJ2_grow_2_44
set_option maxHeartbeats 4000000 in
theorem mt_J2_grow_2 {E : Ev} {l : Launch} (hl : l.stackTraces = false) {p0 : Option Nat} {p1 : Int32} {σ : Hs} {r : Option Nat} {σ' : Hs} (hf : fn_J2_grow_2 E.2.2.1 p0 p1 σ = some (r, σ')) : wk_M E l yJ2_grow_2 (ws_ yJ2_grow_2 cJ2_grow_2 4 (Option.some (FieldType.array (FieldType.object "java/lang/Object")))) 3 74 [vR p0, vI p1] σ (.inl (some (va_rf r))) σ' := by
  refine wk_start (by decide +kernel) hl (Nat.le_of_ble_eq_true rfl) (fun K C hK => ?_)
  subst hK
  refine wk_L (L' := [(0, vR p0), (1, vI p1)]) rfl ?_
  unfold fn_J2_grow_2 at hf
  refine wk_aload_n C 0 rfl dJ2_grow_2_0 ?_
  obtain ⟨v7, h_v7, hf⟩ := ho_b hf
  refine wk_getR C fx_J2_9 h_v7 dJ2_grow_2_1 ?_
  obtain ⟨v8, h_v8, hf⟩ := ho_b hf
  refine wk_alen C h_v8 dJ2_grow_2_4 ?_
  refine wk_istore_n (L' := [(0, vR p0), (1, vI p1), (2, vI v8)]) C (by decide) rfl dJ2_grow_2_5 ?_
  refine wk_iload_n C 2 rfl dJ2_grow_2_6 ?_
  refine wk_if_gt C 20 (by decide) dJ2_grow_2_7 (fun c_ => ?_) (fun c_ => ?_)
  · rw [if_pos c_] at hf
    exact wb_J2_grow_2_b20 C  _ _ _ _ hf
  · rw [if_neg c_] at hf
    refine wk_aload_n C 0 rfl dJ2_grow_2_10 ?_
    obtain ⟨v9, h_v9, hf⟩ := ho_b hf
    refine wk_getR C fx_J2_9 h_v9 dJ2_grow_2_11 ?_
    refine wk_getsR C (j := 6) sx_J2_39 rfl dJ2_grow_2_14 ?_
    refine wk_acmp_eq C 45 (by decide) dJ2_grow_2_17 (fun c_ => ?_) (fun c_ => ?_)
    · rw [if_pos c_] at hf
      refine wk_aload_n C 0 rfl dJ2_grow_2_45 ?_
      refine wk_bipush (v := 10) C dJ2_grow_2_46 rfl ?_
      refine wk_iload_n C 1 rfl dJ2_grow_2_48 ?_
      obtain ⟨v11, σ10, h_σ10, hf⟩ := ho_e2 hf
      refine wk_callS (av := [vI (10 : Int32), vI p1]) (rest := [vR p0]) (rv := some (vI v11)) C cx_J2_79 (mt_J12_max (wk_C.tr C) h_σ10) rfl rfl (Nat.le_of_ble_eq_true rfl) (Nat.le_of_ble_eq_true rfl) (Nat.le_of_ble_eq_true rfl) dJ2_grow_2_49 ?_
      obtain ⟨v12, σ13, h_σ13, hf⟩ := ho_e2 hf
      refine wk_anew C (k := 3) (Nat.le_of_ble_eq_true rfl) rfl q202 (by decide +kernel) h_σ13 dJ2_grow_2_52 ?_
      refine wk_dup_x1 C rfl rfl dJ2_grow_2_55 ?_
      obtain ⟨σ14, h_σ14, hf⟩ := ho_b hf
      refine wk_putR C px_J2_9 (Or.inr ⟨_, rfl⟩) (fun q => by cases q) h_σ14 dJ2_grow_2_56 ?_
      obtain ⟨rfl, rfl⟩ := Prod.mk.inj (Option.some.inj hf)
      exact wk_aret C (Or.inr ⟨_, rfl⟩) rfl rfl dJ2_grow_2_59
    · rw [if_neg c_] at hf
      exact wb_J2_grow_2_b20 C  _ _ _ _ hf
set_option maxHeartbeats 4000000 in
theorem mt_J2_grow {E : Ev} {l : Launch} (hl : l.stackTraces = false) {p0 : Option Nat} {σ : Hs} {r : Option Nat} {σ' : Hs} (hf : fn_J2_grow E.2.2.1 p0 σ = some (r, σ')) : wk_M E l yJ2_grow (ws_ yJ2_grow cJ2_grow 1 (Option.some (FieldType.array (FieldType.object "java/lang/Object")))) 4 97 [vR p0] σ (.inl (some (va_rf r))) σ' := by
  refine wk_start (by decide +kernel) hl (Nat.le_of_ble_eq_true rfl) (fun K C hK => ?_)
  subst hK
  refine wk_L (L' := [(0, vR p0)]) rfl ?_
  unfold fn_J2_grow at hf
  refine wk_aload_n C 0 rfl dJ2_grow_0 ?_
  refine wk_aload_n C 0 rfl dJ2_grow_1 ?_
  obtain ⟨v1, h_v1, hf⟩ := ho_b hf
  refine wk_getI C fx_J2_48 h_v1 dJ2_grow_2 ?_
  refine wk_iconst (v := 1) C dJ2_grow_5 rfl ?_
  refine wk_iadd C dJ2_grow_6 ?_
  obtain ⟨b2, h_b2, hf⟩ := ho_b hf
  obtain ⟨v4, σ3, h_σ3, hf⟩ := ho_e2 hf
  refine wk_callV (av := [vI (v1 + (1 : Int32))]) (rest := []) (rv := some (vR v4)) C h_b2 rx_13 cx_J2_69 (mt_J2_grow_2 (wk_C.tr C) h_σ3) rfl rfl (Nat.le_of_ble_eq_true rfl) (Nat.le_of_ble_eq_true rfl) (Nat.le_of_ble_eq_true rfl) dJ2_grow_7 ?_
  obtain ⟨rfl, rfl⟩ := Prod.mk.inj (Option.some.inj hf)
  exact wk_aret C (Or.inr ⟨_, rfl⟩) rfl rfl dJ2_grow_10
set_option maxHeartbeats 4000000 in
theorem wb_J2_add_2_b11 {E : Ev} {K : Kx} (C : wk_C E K yJ2_add_2 cJ2_add_2 4 (Option.none : Option FieldType) 5 117 []) {σ' : Hs} (l0 : Option Nat) (l1 : Option Nat) (l2 : Option Nat) (l3 : Int32) (σ : Hs) (hf : fn_J2_add_2_b11 E.2.2.1 l0 l1 l2 l3 σ = some σ') : wk_V E K (.inl none) σ' σ 11 [(0, vR l0), (1, vR l1), (2, vR l2), (3, vI l3)] [] := by
  unfold fn_J2_add_2_b11 at hf
  refine wk_aload_n C 2 rfl dJ2_add_2_11 ?_
  refine wk_iload_n C 3 rfl dJ2_add_2_12 ?_
  refine wk_aload_n C 1 rfl dJ2_add_2_13 ?_
  obtain ⟨σ1, h_σ1, hf⟩ := ho_b hf
  refine wk_aast C (Nat.le_of_ble_eq_true rfl) rfl (List.forall_mem_cons.mpr ⟨ax_cast rx_5 q3859, List.forall_mem_cons.mpr ⟨ax_cast rx_8 q3865, (List.forall_mem_nil _)⟩⟩) h_σ1 dJ2_add_2_14 ?_
  refine wk_aload_n C 0 rfl dJ2_add_2_15 ?_
  refine wk_iload_n C 3 rfl dJ2_add_2_16 ?_
  refine wk_iconst (v := 1) C dJ2_add_2_17 rfl ?_
  refine wk_iadd C dJ2_add_2_18 ?_
  obtain ⟨σ2, h_σ2, hf⟩ := ho_b hf
  refine wk_putI C px_J2_48 (fun q => by cases q) h_σ2 dJ2_add_2_19 ?_
  obtain rfl := Option.some.inj hf
  exact wk_vret C rfl rfl dJ2_add_2_22
set_option maxHeartbeats 4000000 in
theorem mt_J2_add_2 {E : Ev} {l : Launch} (hl : l.stackTraces = false) {p0 : Option Nat} {p1 : Option Nat} {p2 : Option Nat} {p3 : Int32} {σ : Hs} {σ' : Hs} (hf : fn_J2_add_2 E.2.2.1 p0 p1 p2 p3 σ = some σ') : wk_M E l yJ2_add_2 (ws_ yJ2_add_2 cJ2_add_2 4 (Option.none : Option FieldType)) 5 117 [vR p0, vR p1, vR p2, vI p3] σ (.inl none) σ' := by
  refine wk_start (by decide +kernel) hl (Nat.le_of_ble_eq_true rfl) (fun K C hK => ?_)
  subst hK
  refine wk_L (L' := [(0, vR p0), (1, vR p1), (2, vR p2), (3, vI p3)]) rfl ?_
  unfold fn_J2_add_2 at hf
  refine wk_iload_n C 3 rfl dJ2_add_2_0 ?_
  refine wk_aload_n C 2 rfl dJ2_add_2_1 ?_
  obtain ⟨v3, h_v3, hf⟩ := ho_b hf
  refine wk_alen C h_v3 dJ2_add_2_2 ?_
  refine wk_icmp_ne C 11 (by decide) dJ2_add_2_3 (fun c_ => ?_) (fun c_ => ?_)
  · rw [if_neg c_] at hf
    exact wb_J2_add_2_b11 C  _ _ _ _ _ hf
  · rw [if_pos c_] at hf
    refine wk_aload_n C 0 rfl dJ2_add_2_6 ?_
    obtain ⟨b4, h_b4, hf⟩ := ho_b hf
    obtain ⟨v6, σ5, h_σ5, hf⟩ := ho_e2 hf
    refine wk_callV (av := []) (rest := []) (rv := some (vR v6)) C h_b4 rx_13 cx_J2_129 (mt_J2_grow (wk_C.tr C) h_σ5) rfl rfl (Nat.le_of_ble_eq_true rfl) (Nat.le_of_ble_eq_true rfl) (Nat.le_of_ble_eq_true rfl) dJ2_add_2_7 ?_
    refine wk_astore_n (L' := [(0, vR p0), (1, vR p1), (2, vR v6), (3, vI p3)]) C (by decide) rfl dJ2_add_2_10 ?_
    exact wb_J2_add_2_b11 C  _ _ _ _ _ hf
set_option maxHeartbeats 4000000 in
theorem mt_J2_add {E : Ev} {l : Launch} (hl : l.stackTraces = false) {p0 : Option Nat} {p1 : Option Nat} {σ : Hs} {r : Int32} {σ' : Hs} (hf : fn_J2_add E.2.2.1 p0 p1 σ = some (r, σ')) : wk_M E l yJ2_add (ws_ yJ2_add cJ2_add 2 (Option.some FieldType.boolean)) 6 140 [vR p0, vR p1] σ (.inl (some (.int r))) σ' := by
  refine wk_start (by decide +kernel) hl (Nat.le_of_ble_eq_true rfl) (fun K C hK => ?_)
  subst hK
  refine wk_L (L' := [(0, vR p0), (1, vR p1)]) rfl ?_
  unfold fn_J2_add at hf
  refine wk_aload_n C 0 rfl dJ2_add_0 ?_
  refine wk_dup C rfl dJ2_add_1 ?_
  obtain ⟨v1, h_v1, hf⟩ := ho_b hf
  refine wk_getI C fx_J2_63 h_v1 dJ2_add_2 ?_
  refine wk_iconst (v := 1) C dJ2_add_5 rfl ?_
  refine wk_iadd C dJ2_add_6 ?_
  obtain ⟨σ2, h_σ2, hf⟩ := ho_b hf
  refine wk_putI C px_J2_63 (fun q => by cases q) h_σ2 dJ2_add_7 ?_
  refine wk_aload_n C 0 rfl dJ2_add_10 ?_
  refine wk_aload_n C 1 rfl dJ2_add_11 ?_
  refine wk_aload_n C 0 rfl dJ2_add_12 ?_
  obtain ⟨v3, h_v3, hf⟩ := ho_b hf
  refine wk_getR C fx_J2_9 h_v3 dJ2_add_13 ?_
  refine wk_aload_n C 0 rfl dJ2_add_16 ?_
  obtain ⟨v4, h_v4, hf⟩ := ho_b hf
  refine wk_getI C fx_J2_48 h_v4 dJ2_add_17 ?_
  obtain ⟨b5, h_b5, hf⟩ := ho_b hf
  obtain ⟨σ6, h_σ6, hf⟩ := ho_b hf
  refine wk_callV (av := [vR p1, vR v3, vI v4]) (rest := []) (rv := none) C h_b5 rx_13 cx_J2_131 (mt_J2_add_2 (wk_C.tr C) h_σ6) rfl rfl (Nat.le_of_ble_eq_true rfl) (Nat.le_of_ble_eq_true rfl) (Nat.le_of_ble_eq_true rfl) dJ2_add_20 ?_
  refine wk_iconst (v := 1) C dJ2_add_23 rfl ?_
  obtain ⟨rfl, rfl⟩ := Prod.mk.inj (Option.some.inj hf)
  exact wk_zret C (v := (1 : Int32)) rfl rfl rfl dJ2_add_24
set_option maxHeartbeats 4000000 in
theorem mt_J21_init {E : Ev} {l : Launch} (hl : l.stackTraces = false) {p0 : Option Nat} {p1 : Option Nat} {σ : Hs} {σ' : Hs} (hf : fn_J21_init p0 p1 σ = some σ') : wk_M E l yJ21_init (ws_ yJ21_init cJ21_init 2 (Option.none : Option FieldType)) 1 12 [vR p0, vR p1] σ (.inl none) σ' := by
  refine wk_start (by decide +kernel) hl (Nat.le_of_ble_eq_true rfl) (fun K C hK => ?_)
  subst hK
  refine wk_L (L' := [(0, vR p0), (1, vR p1)]) rfl ?_
  unfold fn_J21_init at hf
  refine wk_aload_n C 0 rfl dJ21_init_0 ?_
  refine wk_aload_n C 1 rfl dJ21_init_1 ?_
  obtain ⟨σ1, h_σ1, hf⟩ := ho_b hf
  refine wk_putR C px_J21_1 (Or.inl ⟨_, rfl⟩) (fun _ => rfl) h_σ1 dJ21_init_2 ?_
  refine wk_aload_n C 0 rfl dJ21_init_5 ?_
  obtain ⟨b2, h_b2, hf⟩ := ho_b hf
  refine wk_objI C h_b2 q755 q179 q180 (Nat.le_of_ble_eq_true rfl) (Nat.le_of_ble_eq_true rfl) dJ21_init_6 ?_
  refine wk_aload_n C 0 rfl dJ21_init_9 ?_
  refine wk_iconst (v := -1) C dJ21_init_10 rfl ?_
  obtain ⟨σ3, h_σ3, hf⟩ := ho_b hf
  refine wk_putI C px_J21_13 (fun q => by cases q) h_σ3 dJ21_init_11 ?_
  refine wk_aload_n C 0 rfl dJ21_init_14 ?_
  refine wk_aload_n C 0 rfl dJ21_init_15 ?_
  obtain ⟨v4, h_v4, hf⟩ := ho_b hf
  refine wk_getR C fx_J21_1 h_v4 dJ21_init_16 ?_
  obtain ⟨v5, h_v5, hf⟩ := ho_b hf
  refine wk_getI C fx_J21_17 h_v5 dJ21_init_19 ?_
  obtain ⟨σ6, h_σ6, hf⟩ := ho_b hf
  refine wk_putI C px_J21_22 (fun q => by cases q) h_σ6 dJ21_init_22 ?_
  obtain rfl := Option.some.inj hf
  exact wk_vret C rfl rfl dJ21_init_25
set_option maxHeartbeats 4000000 in
theorem wb_J21_hasNext_b19 {E : Ev} {K : Kx} (C : wk_C E K yJ21_hasNext cJ21_hasNext 1 (Option.some FieldType.boolean) 0 0 []) {r : Int32} {σ' : Hs} (t0 : Int32) (σ : Hs) (hf : fn_J21_hasNext_b19 t0 σ = some (r, σ')) : wk_V E K (.inl (some (.int r))) σ' σ 19 [] [vI t0] := by
  unfold fn_J21_hasNext_b19 at hf
  obtain ⟨v1, h_v1, hf⟩ := ho_b hf
  obtain ⟨rfl, rfl⟩ := Prod.mk.inj (Option.some.inj hf)
  exact wk_zret C h_v1 rfl rfl dJ21_hasNext_19
set_option maxHeartbeats 4000000 in
theorem mt_J21_hasNext {E : Ev} {l : Launch} (hl : l.stackTraces = false) {p0 : Option Nat} {σ : Hs} {r : Int32} {σ' : Hs} (hf : fn_J21_hasNext p0 σ = some (r, σ')) : wk_M E l yJ21_hasNext (ws_ yJ21_hasNext cJ21_hasNext 1 (Option.some FieldType.boolean)) 0 0 [vR p0] σ (.inl (some (.int r))) σ' := by
  refine wk_start (by decide +kernel) hl (Nat.le_of_ble_eq_true rfl) (fun K C hK => ?_)
  subst hK
  refine wk_L (L' := [(0, vR p0)]) rfl ?_
  unfold fn_J21_hasNext at hf
  refine wk_aload_n C 0 rfl dJ21_hasNext_0 ?_
  obtain ⟨v2, h_v2, hf⟩ := ho_b hf
  refine wk_getI C fx_J21_25 h_v2 dJ21_hasNext_1 ?_
  refine wk_aload_n C 0 rfl dJ21_hasNext_4 ?_
  obtain ⟨v3, h_v3, hf⟩ := ho_b hf
  refine wk_getR C fx_J21_1 h_v3 dJ21_hasNext_5 ?_
  obtain ⟨v4, h_v4, hf⟩ := ho_b hf
  refine wk_getI C fx_J21_28 h_v4 dJ21_hasNext_8 ?_
  refine wk_icmp_eq C 18 (by decide) dJ21_hasNext_11 (fun c_ => ?_) (fun c_ => ?_)
  · rw [if_pos c_] at hf
    refine wk_iconst (v := 0) C dJ21_hasNext_18 rfl ?_
    refine wk_sub (L' := []) [] rfl ?_
    exact wb_J21_hasNext_b19 C  _ _ hf
  · rw [if_neg c_] at hf
    refine wk_iconst (v := 1) C dJ21_hasNext_14 rfl ?_
    refine wk_goto C 19 (by decide) dJ21_hasNext_15 ?_
    refine wk_sub (L' := []) [] rfl ?_
    exact wb_J21_hasNext_b19 C  _ _ hf
set_option maxHeartbeats 4000000 in
theorem mt_J21_checkForComodification {E : Ev} {l : Launch} (hl : l.stackTraces = false) {p0 : Option Nat} {σ : Hs} {σ' : Hs} (hf : fn_J21_checkForComodification p0 σ = some σ') : wk_M E l yJ21_checkForComodification (ws_ yJ21_checkForComodification cJ21_checkForComodification 1 (Option.none : Option FieldType)) 0 0 [vR p0] σ (.inl none) σ' := by
  refine wk_start (by decide +kernel) hl (Nat.le_of_ble_eq_true rfl) (fun K C hK => ?_)
  subst hK
  refine wk_L (L' := [(0, vR p0)]) rfl ?_
  unfold fn_J21_checkForComodification at hf
  refine wk_aload_n C 0 rfl dJ21_checkForComodification_0 ?_
  obtain ⟨v1, h_v1, hf⟩ := ho_b hf
  refine wk_getR C fx_J21_1 h_v1 dJ21_checkForComodification_1 ?_
  obtain ⟨v2, h_v2, hf⟩ := ho_b hf
  refine wk_getI C fx_J21_17 h_v2 dJ21_checkForComodification_4 ?_
  refine wk_aload_n C 0 rfl dJ21_checkForComodification_7 ?_
  obtain ⟨v3, h_v3, hf⟩ := ho_b hf
  refine wk_getI C fx_J21_22 h_v3 dJ21_checkForComodification_8 ?_
  refine wk_icmp_eq C 22 (by decide) dJ21_checkForComodification_11 (fun c_ => ?_) (fun c_ => ?_)
  · rw [if_pos c_] at hf
    obtain rfl := Option.some.inj hf
    exact wk_vret C rfl rfl dJ21_checkForComodification_22
  · rw [if_neg c_] at hf
    cases hf
set_option maxHeartbeats 4000000 in
theorem mt_J21_next {E : Ev} {l : Launch} (hl : l.stackTraces = false) {p0 : Option Nat} {σ : Hs} {r : Option Nat} {σ' : Hs} (hf : fn_J21_next p0 σ = some (r, σ')) : wk_M E l yJ21_next (ws_ yJ21_next cJ21_next 3 (Option.some (FieldType.object "java/lang/Object"))) 1 20 [vR p0] σ (.inl (some (va_rf r))) σ' := by
  refine wk_start (by decide +kernel) hl (Nat.le_of_ble_eq_true rfl) (fun K C hK => ?_)
  subst hK
  refine wk_L (L' := [(0, vR p0)]) rfl ?_
  unfold fn_J21_next at hf
  refine wk_aload_n C 0 rfl dJ21_next_0 ?_
  obtain ⟨b1, h_b1, hf⟩ := ho_b hf
  obtain ⟨σ2, h_σ2, hf⟩ := ho_b hf
  refine wk_callV (av := []) (rest := []) (rv := none) C h_b1 rx_14 cx_J21_31 (mt_J21_checkForComodification (wk_C.tr C) h_σ2) rfl rfl (Nat.le_of_ble_eq_true rfl) (Nat.le_of_ble_eq_true rfl) (Nat.le_of_ble_eq_true rfl) dJ21_next_1 ?_
  refine wk_aload_n C 0 rfl dJ21_next_4 ?_
  obtain ⟨v3, h_v3, hf⟩ := ho_b hf
  refine wk_getI C fx_J21_25 h_v3 dJ21_next_5 ?_
  refine wk_istore_n (L' := [(0, vR p0), (1, vI v3)]) C (by decide) rfl dJ21_next_8 ?_
  refine wk_iload_n C 1 rfl dJ21_next_9 ?_
  refine wk_aload_n C 0 rfl dJ21_next_10 ?_
  obtain ⟨v4, h_v4, hf⟩ := ho_b hf
  refine wk_getR C fx_J21_1 h_v4 dJ21_next_11 ?_
  obtain ⟨v5, h_v5, hf⟩ := ho_b hf
  refine wk_getI C fx_J21_28 h_v5 dJ21_next_14 ?_
  refine wk_icmp_lt C 28 (by decide) dJ21_next_17 (fun c_ => ?_) (fun c_ => ?_)
  · rw [if_pos c_] at hf
    refine wk_aload_n C 0 rfl dJ21_next_28 ?_
    obtain ⟨v6, h_v6, hf⟩ := ho_b hf
    refine wk_getR C fx_J21_1 h_v6 dJ21_next_29 ?_
    obtain ⟨v7, h_v7, hf⟩ := ho_b hf
    refine wk_getR C fx_J21_37 h_v7 dJ21_next_32 ?_
    refine wk_astore_n (L' := [(0, vR p0), (1, vI v3), (2, vR v7)]) C (by decide) rfl dJ21_next_35 ?_
    refine wk_iload_n C 1 rfl dJ21_next_36 ?_
    refine wk_aload_n C 2 rfl dJ21_next_37 ?_
    obtain ⟨v8, h_v8, hf⟩ := ho_b hf
    refine wk_alen C h_v8 dJ21_next_38 ?_
    refine wk_icmp_lt C 50 (by decide) dJ21_next_39 (fun c_ => ?_) (fun c_ => ?_)
    · rw [if_pos c_] at hf
      refine wk_aload_n C 0 rfl dJ21_next_50 ?_
      refine wk_iload_n C 1 rfl dJ21_next_51 ?_
      refine wk_iconst (v := 1) C dJ21_next_52 rfl ?_
      refine wk_iadd C dJ21_next_53 ?_
      obtain ⟨σ9, h_σ9, hf⟩ := ho_b hf
      refine wk_putI C px_J21_25 (fun q => by cases q) h_σ9 dJ21_next_54 ?_
      refine wk_aload_n C 2 rfl dJ21_next_57 ?_
      refine wk_aload_n C 0 rfl dJ21_next_58 ?_
      refine wk_iload_n C 1 rfl dJ21_next_59 ?_
      refine wk_dup_x1 C rfl rfl dJ21_next_60 ?_
      obtain ⟨σ10, h_σ10, hf⟩ := ho_b hf
      refine wk_putI C px_J21_13 (fun q => by cases q) h_σ10 dJ21_next_61 ?_
      obtain ⟨v11, h_v11, hf⟩ := ho_b hf
      refine wk_aald C h_v11 dJ21_next_64 ?_
      obtain ⟨rfl, rfl⟩ := Prod.mk.inj (Option.some.inj hf)
      exact wk_aret C (Or.inl ⟨_, rfl⟩) rfl rfl dJ21_next_65
    · rw [if_neg c_] at hf
      cases hf
  · rw [if_neg c_] at hf
    cases hf
set_option maxHeartbeats 4000000 in
theorem mt_J2_iterator {E : Ev} {l : Launch} (hl : l.stackTraces = false) {p0 : Option Nat} {σ : Hs} {r : Option Nat} {σ' : Hs} (hf : fn_J2_iterator p0 σ = some (r, σ')) : wk_M E l yJ2_iterator (ws_ yJ2_iterator cJ2_iterator 1 (Option.some (FieldType.object "java/util/Iterator"))) 2 33 [vR p0] σ (.inl (some (va_rf r))) σ' := by
  refine wk_start (by decide +kernel) hl (Nat.le_of_ble_eq_true rfl) (fun K C hK => ?_)
  subst hK
  refine wk_L (L' := [(0, vR p0)]) rfl ?_
  unfold fn_J2_iterator at hf
  obtain ⟨v1, σ2, h_σ2, hf⟩ := ho_e2 hf
  refine wk_new C nx_J2_267 h_σ2 dJ2_iterator_0 ?_
  refine wk_dup C rfl dJ2_iterator_3 ?_
  refine wk_aload_n C 0 rfl dJ2_iterator_4 ?_
  obtain ⟨b3, h_b3, hf⟩ := ho_b hf
  obtain ⟨σ4, h_σ4, hf⟩ := ho_b hf
  refine wk_callI (av := [vR p0]) (rest := [vR v1]) C cx_J2_269 h_b3 (mt_J21_init (wk_C.tr C) h_σ4) rfl (Nat.le_of_ble_eq_true rfl) (Nat.le_of_ble_eq_true rfl) (Nat.le_of_ble_eq_true rfl) dJ2_iterator_5 ?_
  obtain ⟨rfl, rfl⟩ := Prod.mk.inj (Option.some.inj hf)
  exact wk_aret C (Or.inl ⟨_, rfl⟩) rfl rfl dJ2_iterator_8
set_option maxHeartbeats 4000000 in
theorem wb_J20_inc_b10 {E : Ev} {K : Kx} (C : wk_C E K yJ20_inc cJ20_inc 2 (Option.some FieldType.int) 0 0 []) {r : Int32} {σ' : Hs} (l0 : Int32) (σ : Hs) (hf : fn_J20_inc_b10 l0 σ = some (r, σ')) : wk_V E K (.inl (some (.int r))) σ' σ 10 [(0, vI l0)] [] := by
  unfold fn_J20_inc_b10 at hf
  refine wk_iload_n C 0 rfl dJ20_inc_10 ?_
  obtain ⟨rfl, rfl⟩ := Prod.mk.inj (Option.some.inj hf)
  exact wk_iret C rfl rfl dJ20_inc_11
set_option maxHeartbeats 4000000 in
theorem mt_J20_inc {E : Ev} {l : Launch} (hl : l.stackTraces = false) {p0 : Int32} {p1 : Int32} {σ : Hs} {r : Int32} {σ' : Hs} (hf : fn_J20_inc p0 p1 σ = some (r, σ')) : wk_M E l yJ20_inc (ws_ yJ20_inc cJ20_inc 2 (Option.some FieldType.int)) 0 0 [vI p0, vI p1] σ (.inl (some (.int r))) σ' := by
  refine wk_start (by decide +kernel) hl (Nat.le_of_ble_eq_true rfl) (fun K C hK => ?_)
  subst hK
  refine wk_L (L' := [(0, vI p0), (1, vI p1)]) rfl ?_
  unfold fn_J20_inc at hf
  refine wk_iinc (v := p0 + 1) (L' := [(0, vI (p0 + 1)), (1, vI p1)]) C 0 rfl (by decide) rfl rfl dJ20_inc_0 ?_
  refine wk_iload_n C 0 rfl dJ20_inc_3 ?_
  refine wk_iload_n C 1 rfl dJ20_inc_4 ?_
  refine wk_icmp_lt C 10 (by decide) dJ20_inc_5 (fun c_ => ?_) (fun c_ => ?_)
  · rw [if_pos c_] at hf
    refine wk_sub (L' := [(0, vI (p0 + 1))]) [0] rfl ?_
    exact wb_J20_inc_b10 C  _ _ hf
  · rw [if_neg c_] at hf
    refine wk_iconst (v := 0) C dJ20_inc_8 rfl ?_
    refine wk_istore_n (L' := [(0, vI (0 : Int32)), (1, vI p1)]) C (by decide) rfl dJ20_inc_9 ?_
    refine wk_sub (L' := [(0, vI (0 : Int32))]) [0] rfl ?_
    exact wb_J20_inc_b10 C  _ _ hf
set_option maxHeartbeats 4000000 in
theorem wb_J20_dec_b11 {E : Ev} {K : Kx} (C : wk_C E K yJ20_dec cJ20_dec 2 (Option.some FieldType.int) 0 0 []) {r : Int32} {σ' : Hs} (l0 : Int32) (σ : Hs) (hf : fn_J20_dec_b11 l0 σ = some (r, σ')) : wk_V E K (.inl (some (.int r))) σ' σ 11 [(0, vI l0)] [] := by
  unfold fn_J20_dec_b11 at hf
  refine wk_iload_n C 0 rfl dJ20_dec_11 ?_
  obtain ⟨rfl, rfl⟩ := Prod.mk.inj (Option.some.inj hf)
  exact wk_iret C rfl rfl dJ20_dec_12
set_option maxHeartbeats 4000000 in
theorem mt_J20_dec {E : Ev} {l : Launch} (hl : l.stackTraces = false) {p0 : Int32} {p1 : Int32} {σ : Hs} {r : Int32} {σ' : Hs} (hf : fn_J20_dec p0 p1 σ = some (r, σ')) : wk_M E l yJ20_dec (ws_ yJ20_dec cJ20_dec 2 (Option.some FieldType.int)) 0 0 [vI p0, vI p1] σ (.inl (some (.int r))) σ' := by
  refine wk_start (by decide +kernel) hl (Nat.le_of_ble_eq_true rfl) (fun K C hK => ?_)
  subst hK
  refine wk_L (L' := [(0, vI p0), (1, vI p1)]) rfl ?_
  unfold fn_J20_dec at hf
  refine wk_iinc (v := p0 + (-1)) (L' := [(0, vI (p0 + (-1))), (1, vI p1)]) C 0 rfl (by decide) (by rw [show Int32.ofInt (-1) = (-1 : Int32) from by decide]) rfl dJ20_dec_0 ?_
  refine wk_iload_n C 0 rfl dJ20_dec_3 ?_
  refine wk_if_ge C 11 (by decide) dJ20_dec_4 (fun c_ => ?_) (fun c_ => ?_)
  · rw [if_pos c_] at hf
    refine wk_sub (L' := [(0, vI (p0 + (-1)))]) [0] rfl ?_
    exact wb_J20_dec_b11 C  _ _ hf
  · rw [if_neg c_] at hf
    refine wk_iload_n C 1 rfl dJ20_dec_7 ?_
    refine wk_iconst (v := 1) C dJ20_dec_8 rfl ?_
    refine wk_isub C dJ20_dec_9 ?_
    obtain ⟨v1, e_v1, hf⟩ := ho_b hf
    refine wk_tI (Option.some.inj e_v1) ?_
    refine wk_istore_n (L' := [(0, vI v1), (1, vI p1)]) C (by decide) rfl dJ20_dec_10 ?_
    refine wk_sub (L' := [(0, vI v1)]) [0] rfl ?_
    exact wb_J20_dec_b11 C  _ _ hf
set_option maxHeartbeats 4000000 in
theorem wb_J20_sub_b12 {E : Ev} {K : Kx} (C : wk_C E K yJ20_sub cJ20_sub 3 (Option.some FieldType.int) 0 0 []) {r : Int32} {σ' : Hs} (l0 : Int32) (σ : Hs) (hf : fn_J20_sub_b12 l0 σ = some (r, σ')) : wk_V E K (.inl (some (.int r))) σ' σ 12 [(0, vI l0)] [] := by
  unfold fn_J20_sub_b12 at hf
  refine wk_iload_n C 0 rfl dJ20_sub_12 ?_
  obtain ⟨rfl, rfl⟩ := Prod.mk.inj (Option.some.inj hf)
  exact wk_iret C rfl rfl dJ20_sub_13
set_option maxHeartbeats 4000000 in
theorem mt_J20_sub {E : Ev} {l : Launch} (hl : l.stackTraces = false) {p0 : Int32} {p1 : Int32} {p2 : Int32} {σ : Hs} {r : Int32} {σ' : Hs} (hf : fn_J20_sub p0 p1 p2 σ = some (r, σ')) : wk_M E l yJ20_sub (ws_ yJ20_sub cJ20_sub 3 (Option.some FieldType.int)) 0 0 [vI p0, vI p1, vI p2] σ (.inl (some (.int r))) σ' := by
  refine wk_start (by decide +kernel) hl (Nat.le_of_ble_eq_true rfl) (fun K C hK => ?_)
  subst hK
  refine wk_L (L' := [(0, vI p0), (1, vI p1), (2, vI p2)]) rfl ?_
  unfold fn_J20_sub at hf
  refine wk_iload_n C 0 rfl dJ20_sub_0 ?_
  refine wk_iload_n C 1 rfl dJ20_sub_1 ?_
  refine wk_isub C dJ20_sub_2 ?_
  refine wk_dup C rfl dJ20_sub_3 ?_
  obtain ⟨v1, e_v1, hf⟩ := ho_b hf
  refine wk_tI (Option.some.inj e_v1) ?_
  refine wk_istore_n (L' := [(0, vI v1), (1, vI p1), (2, vI p2)]) C (by decide) rfl dJ20_sub_4 ?_
  refine wk_if_ge C 12 (by decide) dJ20_sub_5 (fun c_ => ?_) (fun c_ => ?_)
  · rw [if_pos c_] at hf
    refine wk_sub (L' := [(0, vI v1)]) [0] rfl ?_
    exact wb_J20_sub_b12 C  _ _ hf
  · rw [if_neg c_] at hf
    refine wk_iload_n C 0 rfl dJ20_sub_8 ?_
    refine wk_iload_n C 2 rfl dJ20_sub_9 ?_
    refine wk_iadd C dJ20_sub_10 ?_
    obtain ⟨v2, e_v2, hf⟩ := ho_b hf
    refine wk_tI (Option.some.inj e_v2) ?_
    refine wk_istore_n (L' := [(0, vI v2), (1, vI p1), (2, vI p2)]) C (by decide) rfl dJ20_sub_11 ?_
    refine wk_sub (L' := [(0, vI v2)]) [0] rfl ?_
    exact wb_J20_sub_b12 C  _ _ hf
set_option maxHeartbeats 4000000 in
theorem mt_J20_elementAt {E : Ev} {l : Launch} (hl : l.stackTraces = false) {p0 : Option Nat} {p1 : Int32} {σ : Hs} {r : Option Nat} {σ' : Hs} (hf : fn_J20_elementAt p0 p1 σ = some (r, σ')) : wk_M E l yJ20_elementAt (ws_ yJ20_elementAt cJ20_elementAt 2 (Option.some (FieldType.object "java/lang/Object"))) 0 0 [vR p0, vI p1] σ (.inl (some (va_rf r))) σ' := by
  refine wk_start (by decide +kernel) hl (Nat.le_of_ble_eq_true rfl) (fun K C hK => ?_)
  subst hK
  refine wk_L (L' := [(0, vR p0), (1, vI p1)]) rfl ?_
  unfold fn_J20_elementAt at hf
  refine wk_aload_n C 0 rfl dJ20_elementAt_0 ?_
  refine wk_iload_n C 1 rfl dJ20_elementAt_1 ?_
  obtain ⟨v1, h_v1, hf⟩ := ho_b hf
  refine wk_aald C h_v1 dJ20_elementAt_2 ?_
  obtain ⟨rfl, rfl⟩ := Prod.mk.inj (Option.some.inj hf)
  exact wk_aret C (Or.inl ⟨_, rfl⟩) rfl rfl dJ20_elementAt_3
set_option maxHeartbeats 4000000 in
theorem wb_J20_init_b28 {E : Ev} {K : Kx} (C : wk_C E K yJ20_init cJ20_init 2 (Option.none : Option FieldType) 2 32 []) {σ' : Hs} (t0 : Option Nat) (t1 : Int32) (σ : Hs) (hf : fn_J20_init_b28 t0 t1 σ = some σ') : wk_V E K (.inl none) σ' σ 28 [] [vI t1, vR t0] := by
  unfold fn_J20_init_b28 at hf
  obtain ⟨v1, σ2, h_σ2, hf⟩ := ho_e2 hf
  refine wk_anew C (k := 3) (Nat.le_of_ble_eq_true rfl) rfl q659 (by decide +kernel) h_σ2 dJ20_init_28 ?_
  obtain ⟨σ3, h_σ3, hf⟩ := ho_b hf
  refine wk_putR C px_J20_3 (Or.inr ⟨_, rfl⟩) (fun q => by cases q) h_σ3 dJ20_init_31 ?_
  obtain rfl := Option.some.inj hf
  exact wk_vret C rfl rfl dJ20_init_34
set_option maxHeartbeats 4000000 in
theorem mt_J20_init {E : Ev} {l : Launch} (hl : l.stackTraces = false) {p0 : Option Nat} {p1 : Int32} {σ : Hs} {σ' : Hs} (hf : fn_J20_init p0 p1 σ = some σ') : wk_M E l yJ20_init (ws_ yJ20_init cJ20_init 2 (Option.none : Option FieldType)) 2 32 [vR p0, vI p1] σ (.inl none) σ' := by
  refine wk_start (by decide +kernel) hl (Nat.le_of_ble_eq_true rfl) (fun K C hK => ?_)
  subst hK
  refine wk_L (L' := [(0, vR p0), (1, vI p1)]) rfl ?_
  unfold fn_J20_init at hf
  refine wk_aload_n C 0 rfl dJ20_init_0 ?_
  obtain ⟨b4, h_b4, hf⟩ := ho_b hf
  obtain ⟨σ5, h_σ5, hf⟩ := ho_b hf
  refine wk_callI (av := []) (rest := []) C cx_J20_42 h_b4 (mt_J0_init (wk_C.tr C) h_σ5) rfl (Nat.le_of_ble_eq_true rfl) (Nat.le_of_ble_eq_true rfl) (Nat.le_of_ble_eq_true rfl) dJ20_init_1 ?_
  refine wk_aload_n C 0 rfl dJ20_init_4 ?_
  refine wk_iload_n C 1 rfl dJ20_init_5 ?_
  refine wk_iconst (v := 1) C dJ20_init_6 rfl ?_
  refine wk_icmp_ge C 14 (by decide) dJ20_init_7 (fun c_ => ?_) (fun c_ => ?_)
  · rw [if_pos c_] at hf
    refine wk_iload_n C 1 rfl dJ20_init_14 ?_
    refine wk_ldc C q658 dJ20_init_15 ?_
    refine wk_icmp_ne C 25 (by decide) dJ20_init_17 (fun c_ => ?_) (fun c_ => ?_)
    · rw [if_neg c_] at hf
      refine wk_iload_n C 1 rfl dJ20_init_25 ?_
      refine wk_iconst (v := 1) C dJ20_init_26 rfl ?_
      refine wk_iadd C dJ20_init_27 ?_
      refine wk_sub (L' := []) [] rfl ?_
      exact wb_J20_init_b28 C  _ _ _ hf
    · rw [if_pos c_] at hf
      refine wk_ldc C q658 dJ20_init_20 ?_
      refine wk_goto C 28 (by decide) dJ20_init_22 ?_
      refine wk_sub (L' := []) [] rfl ?_
      exact wb_J20_init_b28 C  _ _ _ hf
  · rw [if_neg c_] at hf
    refine wk_iconst (v := 1) C dJ20_init_10 rfl ?_
    refine wk_goto C 28 (by decide) dJ20_init_11 ?_
    refine wk_sub (L' := []) [] rfl ?_
    exact wb_J20_init_b28 C  _ _ _ hf
set_option maxHeartbeats 4000000 in
theorem mt_J20_size {E : Ev} {l : Launch} (hl : l.stackTraces = false) {p0 : Option Nat} {σ : Hs} {r : Int32} {σ' : Hs} (hf : fn_J20_size p0 σ = some (r, σ')) : wk_M E l yJ20_size (ws_ yJ20_size cJ20_size 1 (Option.some FieldType.int)) 1 22 [vR p0] σ (.inl (some (.int r))) σ' := by
  refine wk_start (by decide +kernel) hl (Nat.le_of_ble_eq_true rfl) (fun K C hK => ?_)
  subst hK
  refine wk_L (L' := [(0, vR p0)]) rfl ?_
  unfold fn_J20_size at hf
  refine wk_aload_n C 0 rfl dJ20_size_0 ?_
  obtain ⟨v1, h_v1, hf⟩ := ho_b hf
  refine wk_getI C fx_J20_20 h_v1 dJ20_size_1 ?_
  refine wk_aload_n C 0 rfl dJ20_size_4 ?_
  obtain ⟨v2, h_v2, hf⟩ := ho_b hf
  refine wk_getI C fx_J20_24 h_v2 dJ20_size_5 ?_
  refine wk_aload_n C 0 rfl dJ20_size_8 ?_
  obtain ⟨v3, h_v3, hf⟩ := ho_b hf
  refine wk_getR C fx_J20_3 h_v3 dJ20_size_9 ?_
  obtain ⟨v4, h_v4, hf⟩ := ho_b hf
  refine wk_alen C h_v4 dJ20_size_12 ?_
  obtain ⟨v6, σ5, h_σ5, hf⟩ := ho_e2 hf
  refine wk_callS (av := [vI v1, vI v2, vI v4]) (rest := []) (rv := some (vI v6)) C cx_J20_127 (mt_J20_sub (wk_C.tr C) h_σ5) rfl rfl (Nat.le_of_ble_eq_true rfl) (Nat.le_of_ble_eq_true rfl) (Nat.le_of_ble_eq_true rfl) dJ20_size_13 ?_
  obtain ⟨rfl, rfl⟩ := Prod.mk.inj (Option.some.inj hf)
  exact wk_iret C rfl rfl dJ20_size_16
set_option maxHeartbeats 4000000 in
theorem wb_J20_isEmpty_b16 {E : Ev} {K : Kx} (C : wk_C E K yJ20_isEmpty cJ20_isEmpty 1 (Option.some FieldType.boolean) 0 0 []) {r : Int32} {σ' : Hs} (t0 : Int32) (σ : Hs) (hf : fn_J20_isEmpty_b16 t0 σ = some (r, σ')) : wk_V E K (.inl (some (.int r))) σ' σ 16 [] [vI t0] := by
  unfold fn_J20_isEmpty_b16 at hf
  obtain ⟨v1, h_v1, hf⟩ := ho_b hf
  obtain ⟨rfl, rfl⟩ := Prod.mk.inj (Option.some.inj hf)
  exact wk_zret C h_v1 rfl rfl dJ20_isEmpty_16
set_option maxHeartbeats 4000000 in
theorem mt_J20_isEmpty {E : Ev} {l : Launch} (hl : l.stackTraces = false) {p0 : Option Nat} {σ : Hs} {r : Int32} {σ' : Hs} (hf : fn_J20_isEmpty p0 σ = some (r, σ')) : wk_M E l yJ20_isEmpty (ws_ yJ20_isEmpty cJ20_isEmpty 1 (Option.some FieldType.boolean)) 0 0 [vR p0] σ (.inl (some (.int r))) σ' := by
  refine wk_start (by decide +kernel) hl (Nat.le_of_ble_eq_true rfl) (fun K C hK => ?_)
  subst hK
  refine wk_L (L' := [(0, vR p0)]) rfl ?_
  unfold fn_J20_isEmpty at hf
  refine wk_aload_n C 0 rfl dJ20_isEmpty_0 ?_
  obtain ⟨v2, h_v2, hf⟩ := ho_b hf
  refine wk_getI C fx_J20_24 h_v2 dJ20_isEmpty_1 ?_
  refine wk_aload_n C 0 rfl dJ20_isEmpty_4 ?_
  obtain ⟨v3, h_v3, hf⟩ := ho_b hf
  refine wk_getI C fx_J20_20 h_v3 dJ20_isEmpty_5 ?_
  refine wk_icmp_ne C 15 (by decide) dJ20_isEmpty_8 (fun c_ => ?_) (fun c_ => ?_)
  · rw [if_neg c_] at hf
    refine wk_iconst (v := 0) C dJ20_isEmpty_15 rfl ?_
    refine wk_sub (L' := []) [] rfl ?_
    exact wb_J20_isEmpty_b16 C  _ _ hf
  · rw [if_pos c_] at hf
    refine wk_iconst (v := 1) C dJ20_isEmpty_11 rfl ?_
    refine wk_goto C 16 (by decide) dJ20_isEmpty_12 ?_
    refine wk_sub (L' := []) [] rfl ?_
    exact wb_J20_isEmpty_b16 C  _ _ hf
set_option maxHeartbeats 4000000 in
theorem mt_J20_addLast {E : Ev} {l : Launch} (hl : l.stackTraces = false) {p0 : Option Nat} {p1 : Option Nat} {σ : Hs} {σ' : Hs} (hf : fn_J20_addLast p0 p1 σ = some σ') : wk_M E l yJ20_addLast (ws_ yJ20_addLast cJ20_addLast 3 (Option.none : Option FieldType)) 1 21 [vR p0, vR p1] σ (.inl none) σ' := by
  refine wk_start (by decide +kernel) hl (Nat.le_of_ble_eq_true rfl) (fun K C hK => ?_)
  subst hK
  refine wk_L (L' := [(0, vR p0), (1, vR p1)]) rfl ?_
  unfold fn_J20_addLast at hf
  refine wk_aload_n C 1 rfl dJ20_addLast_0 ?_
  refine wk_ifnonnull C 12 (by decide) dJ20_addLast_1 (fun c_ => ?_) (fun c_ => ?_)
  · rw [if_neg c_] at hf
    refine wk_aload_n C 0 rfl dJ20_addLast_12 ?_
    obtain ⟨v1, h_v1, hf⟩ := ho_b hf
    refine wk_getR C fx_J20_3 h_v1 dJ20_addLast_13 ?_
    refine wk_astore_n (L' := [(0, vR p0), (1, vR p1), (2, vR v1)]) C (by decide) rfl dJ20_addLast_16 ?_
    refine wk_aload_n C 2 rfl dJ20_addLast_17 ?_
    refine wk_aload_n C 0 rfl dJ20_addLast_18 ?_
    obtain ⟨v2, h_v2, hf⟩ := ho_b hf
    refine wk_getI C fx_J20_20 h_v2 dJ20_addLast_19 ?_
    refine wk_aload_n C 1 rfl dJ20_addLast_22 ?_
    obtain ⟨σ3, h_σ3, hf⟩ := ho_b hf
    refine wk_aast C (Nat.le_of_ble_eq_true rfl) rfl (List.forall_mem_cons.mpr ⟨ax_cast rx_1 q3848, (List.forall_mem_nil _)⟩) h_σ3 dJ20_addLast_23 ?_
    refine wk_aload_n C 0 rfl dJ20_addLast_24 ?_
    obtain ⟨v4, h_v4, hf⟩ := ho_b hf
    refine wk_getI C fx_J20_24 h_v4 dJ20_addLast_25 ?_
    refine wk_aload_n C 0 rfl dJ20_addLast_28 ?_
    refine wk_aload_n C 0 rfl dJ20_addLast_29 ?_
    obtain ⟨v5, h_v5, hf⟩ := ho_b hf
    refine wk_getI C fx_J20_20 h_v5 dJ20_addLast_30 ?_
    refine wk_aload_n C 2 rfl dJ20_addLast_33 ?_
    obtain ⟨v6, h_v6, hf⟩ := ho_b hf
    refine wk_alen C h_v6 dJ20_addLast_34 ?_
    obtain ⟨v8, σ7, h_σ7, hf⟩ := ho_e2 hf
    refine wk_callS (av := [vI v5, vI v6]) (rest := [vR p0, vI v4]) (rv := some (vI v8)) C cx_J20_74 (mt_J20_inc (wk_C.tr C) h_σ7) rfl rfl (Nat.le_of_ble_eq_true rfl) (Nat.le_of_ble_eq_true rfl) (Nat.le_of_ble_eq_true rfl) dJ20_addLast_35 ?_
    refine wk_dup_x1 C rfl rfl dJ20_addLast_38 ?_
    obtain ⟨σ9, h_σ9, hf⟩ := ho_b hf
    refine wk_putI C px_J20_20 (fun q => by cases q) h_σ9 dJ20_addLast_39 ?_
    refine wk_icmp_ne C 50 (by decide) dJ20_addLast_42 (fun c_ => ?_) (fun c_ => ?_)
    · rw [if_neg c_] at hf
      obtain rfl := Option.some.inj hf
      exact wk_vret C rfl rfl dJ20_addLast_50
    · rw [if_pos c_] at hf
      refine wk_aload_n C 0 rfl dJ20_addLast_45 ?_
      refine wk_iconst (v := 1) C dJ20_addLast_46 rfl ?_
      cases hf
  · rw [if_pos c_] at hf
    cases hf
set_option maxHeartbeats 4000000 in
theorem wb_J20_pollFirst_b34 {E : Ev} {K : Kx} (C : wk_C E K yJ20_pollFirst cJ20_pollFirst 4 (Option.some (FieldType.object "java/lang/Object")) 1 21 []) {r : Option Nat} {σ' : Hs} (l3 : Option Nat) (σ : Hs) (hf : fn_J20_pollFirst_b34 l3 σ = some (r, σ')) : wk_V E K (.inl (some (va_rf r))) σ' σ 34 [(3, vR l3)] [] := by
  unfold fn_J20_pollFirst_b34 at hf
  refine wk_aload_n C 0 rfl dJ20_pollFirst_34 ?_
  obtain ⟨rfl, rfl⟩ := Prod.mk.inj (Option.some.inj hf)
  exact wk_aret C (Or.inl ⟨_, rfl⟩) rfl rfl dJ20_pollFirst_35
set_option maxHeartbeats 4000000 in
theorem mt_J20_pollFirst {E : Ev} {l : Launch} (hl : l.stackTraces = false) {p0 : Option Nat} {σ : Hs} {r : Option Nat} {σ' : Hs} (hf : fn_J20_pollFirst p0 σ = some (r, σ')) : wk_M E l yJ20_pollFirst (ws_ yJ20_pollFirst cJ20_pollFirst 4 (Option.some (FieldType.object "java/lang/Object"))) 1 21 [vR p0] σ (.inl (some (va_rf r))) σ' := by
  refine wk_start (by decide +kernel) hl (Nat.le_of_ble_eq_true rfl) (fun K C hK => ?_)
  subst hK
  refine wk_L (L' := [(0, vR p0)]) rfl ?_
  unfold fn_J20_pollFirst at hf
  refine wk_aload_n C 0 rfl dJ20_pollFirst_0 ?_
  obtain ⟨v1, h_v1, hf⟩ := ho_b hf
  refine wk_getR C fx_J20_3 h_v1 dJ20_pollFirst_1 ?_
  refine wk_dup C rfl dJ20_pollFirst_4 ?_
  refine wk_astore_n (L' := [(0, vR p0), (1, vR v1)]) C (by decide) rfl dJ20_pollFirst_5 ?_
  refine wk_aload_n C 0 rfl dJ20_pollFirst_6 ?_
  obtain ⟨v2, h_v2, hf⟩ := ho_b hf
  refine wk_getI C fx_J20_24 h_v2 dJ20_pollFirst_7 ?_
  refine wk_dup C rfl dJ20_pollFirst_10 ?_
  refine wk_istore_n (L' := [(0, vR p0), (1, vR v1), (2, vI v2)]) C (by decide) rfl dJ20_pollFirst_11 ?_
  obtain ⟨v4, σ3, h_σ3, hf⟩ := ho_e2 hf
  refine wk_callS (av := [vR v1, vI v2]) (rest := []) (rv := some (vR v4)) C cx_J20_103 (mt_J20_elementAt (wk_C.tr C) h_σ3) rfl rfl (Nat.le_of_ble_eq_true rfl) (Nat.le_of_ble_eq_true rfl) (Nat.le_of_ble_eq_true rfl) dJ20_pollFirst_12 ?_
  refine wk_astore_n (L' := [(0, vR p0), (1, vR v1), (2, vI v2), (3, vR v4)]) C (by decide) rfl dJ20_pollFirst_15 ?_
  refine wk_aload_n C 3 rfl dJ20_pollFirst_16 ?_
  refine wk_ifnull C 34 (by decide) dJ20_pollFirst_17 (fun c_ => ?_) (fun c_ => ?_)
  · rw [if_pos c_] at hf
    refine wk_sub (L' := [(3, vR v4)]) [3] rfl ?_
    exact wb_J20_pollFirst_b34 C  _ _ hf
  · rw [if_neg c_] at hf
    refine wk_aload_n C 1 rfl dJ20_pollFirst_20 ?_
    refine wk_iload_n C 2 rfl dJ20_pollFirst_21 ?_
    refine wk_null C dJ20_pollFirst_22 ?_
    obtain ⟨σ5, h_σ5, hf⟩ := ho_b hf
    refine wk_aast C (Nat.le_of_ble_eq_true rfl) rfl (List.forall_mem_cons.mpr ⟨ax_cast rx_1 q3848, (List.forall_mem_nil _)⟩) h_σ5 dJ20_pollFirst_23 ?_
    refine wk_aload_n C 0 rfl dJ20_pollFirst_24 ?_
    refine wk_iload_n C 2 rfl dJ20_pollFirst_25 ?_
    refine wk_aload_n C 1 rfl dJ20_pollFirst_26 ?_
    obtain ⟨v6, h_v6, hf⟩ := ho_b hf
    refine wk_alen C h_v6 dJ20_pollFirst_27 ?_
    obtain ⟨v8, σ7, h_σ7, hf⟩ := ho_e2 hf
    refine wk_callS (av := [vI v2, vI v6]) (rest := [vR p0]) (rv := some (vI v8)) C cx_J20_74 (mt_J20_inc (wk_C.tr C) h_σ7) rfl rfl (Nat.le_of_ble_eq_true rfl) (Nat.le_of_ble_eq_true rfl) (Nat.le_of_ble_eq_true rfl) dJ20_pollFirst_28 ?_
    obtain ⟨σ9, h_σ9, hf⟩ := ho_b hf
    refine wk_putI C px_J20_24 (fun q => by cases q) h_σ9 dJ20_pollFirst_31 ?_
    refine wk_sub (L' := [(3, vR v4)]) [3] rfl ?_
    exact wb_J20_pollFirst_b34 C  _ _ hf
set_option maxHeartbeats 4000000 in
theorem mt_J20_removeFirst {E : Ev} {l : Launch} (hl : l.stackTraces = false) {p0 : Option Nat} {σ : Hs} {r : Option Nat} {σ' : Hs} (hf : fn_J20_removeFirst p0 σ = some (r, σ')) : wk_M E l yJ20_removeFirst (ws_ yJ20_removeFirst cJ20_removeFirst 2 (Option.some (FieldType.object "java/lang/Object"))) 2 44 [vR p0] σ (.inl (some (va_rf r))) σ' := by
  refine wk_start (by decide +kernel) hl (Nat.le_of_ble_eq_true rfl) (fun K C hK => ?_)
  subst hK
  refine wk_L (L' := [(0, vR p0)]) rfl ?_
  unfold fn_J20_removeFirst at hf
  refine wk_aload_n C 0 rfl dJ20_removeFirst_0 ?_
  obtain ⟨b1, h_b1, hf⟩ := ho_b hf
  obtain ⟨v3, σ2, h_σ2, hf⟩ := ho_e2 hf
  refine wk_callV (av := []) (rest := []) (rv := some (vR v3)) C h_b1 rx_17 cx_J20_93 (mt_J20_pollFirst (wk_C.tr C) h_σ2) rfl rfl (Nat.le_of_ble_eq_true rfl) (Nat.le_of_ble_eq_true rfl) (Nat.le_of_ble_eq_true rfl) dJ20_removeFirst_1 ?_
  refine wk_astore_n (L' := [(0, vR p0), (1, vR v3)]) C (by decide) rfl dJ20_removeFirst_4 ?_
  refine wk_aload_n C 1 rfl dJ20_removeFirst_5 ?_
  refine wk_ifnonnull C 17 (by decide) dJ20_removeFirst_6 (fun c_ => ?_) (fun c_ => ?_)
  · rw [if_neg c_] at hf
    refine wk_aload_n C 1 rfl dJ20_removeFirst_17 ?_
    obtain ⟨rfl, rfl⟩ := Prod.mk.inj (Option.some.inj hf)
    exact wk_aret C (Or.inl ⟨_, rfl⟩) rfl rfl dJ20_removeFirst_18
  · rw [if_pos c_] at hf
    cases hf
set_option maxHeartbeats 4000000 in
theorem wb_J20_pollLast_b34 {E : Ev} {K : Kx} (C : wk_C E K yJ20_pollLast cJ20_pollLast 4 (Option.some (FieldType.object "java/lang/Object")) 1 21 []) {r : Option Nat} {σ' : Hs} (l3 : Option Nat) (σ : Hs) (hf : fn_J20_pollLast_b34 l3 σ = some (r, σ')) : wk_V E K (.inl (some (va_rf r))) σ' σ 34 [(3, vR l3)] [] := by
  unfold fn_J20_pollLast_b34 at hf
  refine wk_aload_n C 0 rfl dJ20_pollLast_34 ?_
  obtain ⟨rfl, rfl⟩ := Prod.mk.inj (Option.some.inj hf)
  exact wk_aret C (Or.inl ⟨_, rfl⟩) rfl rfl dJ20_pollLast_35
set_option maxHeartbeats 4000000 in
theorem mt_J20_pollLast {E : Ev} {l : Launch} (hl : l.stackTraces = false) {p0 : Option Nat} {σ : Hs} {r : Option Nat} {σ' : Hs} (hf : fn_J20_pollLast p0 σ = some (r, σ')) : wk_M E l yJ20_pollLast (ws_ yJ20_pollLast cJ20_pollLast 4 (Option.some (FieldType.object "java/lang/Object"))) 1 21 [vR p0] σ (.inl (some (va_rf r))) σ' := by
  refine wk_start (by decide +kernel) hl (Nat.le_of_ble_eq_true rfl) (fun K C hK => ?_)
  subst hK
  refine wk_L (L' := [(0, vR p0)]) rfl ?_
  unfold fn_J20_pollLast at hf
  refine wk_aload_n C 0 rfl dJ20_pollLast_0 ?_
  obtain ⟨v1, h_v1, hf⟩ := ho_b hf
  refine wk_getR C fx_J20_3 h_v1 dJ20_pollLast_1 ?_
  refine wk_dup C rfl dJ20_pollLast_4 ?_
  refine wk_astore_n (L' := [(0, vR p0), (1, vR v1)]) C (by decide) rfl dJ20_pollLast_5 ?_
  refine wk_aload_n C 0 rfl dJ20_pollLast_6 ?_
  obtain ⟨v2, h_v2, hf⟩ := ho_b hf
  refine wk_getI C fx_J20_20 h_v2 dJ20_pollLast_7 ?_
  refine wk_aload_n C 1 rfl dJ20_pollLast_10 ?_
  obtain ⟨v3, h_v3, hf⟩ := ho_b hf
  refine wk_alen C h_v3 dJ20_pollLast_11 ?_
  obtain ⟨v5, σ4, h_σ4, hf⟩ := ho_e2 hf
  refine wk_callS (av := [vI v2, vI v3]) (rest := [vR v1]) (rv := some (vI v5)) C cx_J20_68 (mt_J20_dec (wk_C.tr C) h_σ4) rfl rfl (Nat.le_of_ble_eq_true rfl) (Nat.le_of_ble_eq_true rfl) (Nat.le_of_ble_eq_true rfl) dJ20_pollLast_12 ?_
  refine wk_dup C rfl dJ20_pollLast_15 ?_
  refine wk_istore_n (L' := [(0, vR p0), (1, vR v1), (2, vI v5)]) C (by decide) rfl dJ20_pollLast_16 ?_
  obtain ⟨v7, σ6, h_σ6, hf⟩ := ho_e2 hf
  refine wk_callS (av := [vR v1, vI v5]) (rest := []) (rv := some (vR v7)) C cx_J20_103 (mt_J20_elementAt (wk_C.tr C) h_σ6) rfl rfl (Nat.le_of_ble_eq_true rfl) (Nat.le_of_ble_eq_true rfl) (Nat.le_of_ble_eq_true rfl) dJ20_pollLast_17 ?_
  refine wk_astore_n (L' := [(0, vR p0), (1, vR v1), (2, vI v5), (3, vR v7)]) C (by decide) rfl dJ20_pollLast_20 ?_
  refine wk_aload_n C 3 rfl dJ20_pollLast_21 ?_
  refine wk_ifnull C 34 (by decide) dJ20_pollLast_22 (fun c_ => ?_) (fun c_ => ?_)
  · rw [if_pos c_] at hf
    refine wk_sub (L' := [(3, vR v7)]) [3] rfl ?_
    exact wb_J20_pollLast_b34 C  _ _ hf
  · rw [if_neg c_] at hf
    refine wk_aload_n C 1 rfl dJ20_pollLast_25 ?_
    refine wk_aload_n C 0 rfl dJ20_pollLast_26 ?_
    refine wk_iload_n C 2 rfl dJ20_pollLast_27 ?_
    refine wk_dup_x1 C rfl rfl dJ20_pollLast_28 ?_
    obtain ⟨σ8, h_σ8, hf⟩ := ho_b hf
    refine wk_putI C px_J20_20 (fun q => by cases q) h_σ8 dJ20_pollLast_29 ?_
    refine wk_null C dJ20_pollLast_32 ?_
    obtain ⟨σ9, h_σ9, hf⟩ := ho_b hf
    refine wk_aast C (Nat.le_of_ble_eq_true rfl) rfl (List.forall_mem_cons.mpr ⟨ax_cast rx_1 q3848, (List.forall_mem_nil _)⟩) h_σ9 dJ20_pollLast_33 ?_
    refine wk_sub (L' := [(3, vR v7)]) [3] rfl ?_
    exact wb_J20_pollLast_b34 C  _ _ hf
set_option maxHeartbeats 4000000 in
theorem mt_J20_removeLast {E : Ev} {l : Launch} (hl : l.stackTraces = false) {p0 : Option Nat} {σ : Hs} {r : Option Nat} {σ' : Hs} (hf : fn_J20_removeLast p0 σ = some (r, σ')) : wk_M E l yJ20_removeLast (ws_ yJ20_removeLast cJ20_removeLast 2 (Option.some (FieldType.object "java/lang/Object"))) 2 44 [vR p0] σ (.inl (some (va_rf r))) σ' := by
  refine wk_start (by decide +kernel) hl (Nat.le_of_ble_eq_true rfl) (fun K C hK => ?_)
  subst hK
  refine wk_L (L' := [(0, vR p0)]) rfl ?_
  unfold fn_J20_removeLast at hf
  refine wk_aload_n C 0 rfl dJ20_removeLast_0 ?_
  obtain ⟨b1, h_b1, hf⟩ := ho_b hf
  obtain ⟨v3, σ2, h_σ2, hf⟩ := ho_e2 hf
  refine wk_callV (av := []) (rest := []) (rv := some (vR v3)) C h_b1 rx_17 cx_J20_100 (mt_J20_pollLast (wk_C.tr C) h_σ2) rfl rfl (Nat.le_of_ble_eq_true rfl) (Nat.le_of_ble_eq_true rfl) (Nat.le_of_ble_eq_true rfl) dJ20_removeLast_1 ?_
  refine wk_astore_n (L' := [(0, vR p0), (1, vR v3)]) C (by decide) rfl dJ20_removeLast_4 ?_
  refine wk_aload_n C 1 rfl dJ20_removeLast_5 ?_
  refine wk_ifnonnull C 17 (by decide) dJ20_removeLast_6 (fun c_ => ?_) (fun c_ => ?_)
  · rw [if_neg c_] at hf
    refine wk_aload_n C 1 rfl dJ20_removeLast_17 ?_
    obtain ⟨rfl, rfl⟩ := Prod.mk.inj (Option.some.inj hf)
    exact wk_aret C (Or.inl ⟨_, rfl⟩) rfl rfl dJ20_removeLast_18
  · rw [if_pos c_] at hf
    cases hf
