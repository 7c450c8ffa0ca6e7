def fn_X0_load_b12 (ev : Nat → Option Nat)  (t0 : Option Nat) (σ : Hs) : Option (Int32 × Hs) := some ((1 : Int32), σ)
def fn_X0_load (ev : Nat → Option Nat) (p0 : Option Nat) (p1 : Int32) (p2 : Option Nat) (σ : Hs) : Option (Int32 × Hs) := (ho_is σ p0 [0]).bind fun b1 => ho_b2 (fn_X1_load ev p0 p1 σ) fun v3 σ2 => ho_x v3 (fun x4 => (ho_tJ σ2 p2 1 (0 : Int32) x4.toInt64).bind fun σ6 => some ((0 : Int32), σ6)) (fun q5 => if ho_k σ2 (some q5) = some 221 then fn_X0_load_b12 ev (some q5) σ2 else none)
def fn_X0_area_b12  (t0 : Option Nat) (σ : Hs) : Option (Int32 × Hs) := some ((1 : Int32), σ)
def fn_X0_area (p0 : Option Nat) (p1 : Int32) (p2 : Option Nat) (σ : Hs) : Option (Int32 × Hs) := (ho_is σ p0 [0]).bind fun b1 => ho_b2 (fn_X1_area p0 p1 σ) fun v3 σ2 => ho_x v3 (fun x4 => (ho_tJ σ2 p2 1 (0 : Int32) x4.toInt64).bind fun σ6 => some ((0 : Int32), σ6)) (fun q5 => if ho_k σ2 (some q5) = some 220 then fn_X0_area_b12 (some q5) σ2 else none)
def fn_X0_member_b13  (t0 : Option Nat) (σ : Hs) : Option (Int32 × Hs) := some ((1 : Int32), σ)
def fn_X0_member_b17  (t0 : Option Nat) (σ : Hs) : Option (Int32 × Hs) := some ((2 : Int32), σ)
def fn_X0_member (p0 : Option Nat) (p1 : Int32) (p2 : Int32) (p3 : Option Nat) (σ : Hs) : Option (Int32 × Hs) := (ho_is σ p0 [0]).bind fun b1 => ho_b2 (fn_X1_member p0 p1 p2 σ) fun v3 σ2 => ho_x v3 (fun x4 => (ho_tJ σ2 p3 1 (0 : Int32) x4.toInt64).bind fun σ6 => some ((0 : Int32), σ6)) (fun q5 => if ho_k σ2 (some q5) = some 220 then fn_X0_member_b13 (some q5) σ2 else if ho_k σ2 (some q5) = some 221 then fn_X0_member_b17 (some q5) σ2 else none)
def fn_X0_between_b13  (t0 : Option Nat) (σ : Hs) : Option (Int32 × Hs) := some ((1 : Int32), σ)
def fn_X0_between (p0 : Option Nat) (p1 : Int32) (p2 : Int32) (p3 : Option Nat) (σ : Hs) : Option (Int32 × Hs) := (ho_is σ p0 [0]).bind fun b1 => ho_b2 (fn_X1_between p0 p1 p2 σ) fun v3 σ2 => ho_x v3 (fun x4 => (ho_tJ σ2 p3 1 (0 : Int32) x4.toInt64).bind fun σ6 => some ((0 : Int32), σ6)) (fun q5 => if ho_k σ2 (some q5) = some 220 then fn_X0_between_b13 (some q5) σ2 else none)
def fn_X0_degree_b12  (t0 : Option Nat) (σ : Hs) : Option (Int32 × Hs) := some ((1 : Int32), σ)
def fn_X0_degree (p0 : Option Nat) (p1 : Int32) (p2 : Option Nat) (σ : Hs) : Option (Int32 × Hs) := (ho_is σ p0 [0]).bind fun b1 => ho_b2 (fn_X1_degree p0 p1 σ) fun v3 σ2 => ho_x v3 (fun x4 => (ho_tJ σ2 p2 1 (0 : Int32) x4.toInt64).bind fun σ6 => some ((0 : Int32), σ6)) (fun q5 => if ho_k σ2 (some q5) = some 220 then fn_X0_degree_b12 (some q5) σ2 else none)
def fn_X0_displacement_b15  (t0 : Option Nat) (σ : Hs) : Option (Int32 × Hs) := some ((1 : Int32), σ)
def fn_X0_displacement (p0 : Option Nat) (p1 : Int32) (p2 : Int32) (p3 : Int32) (p4 : Option Nat) (σ : Hs) : Option (Int32 × Hs) := (ho_is σ p0 [0]).bind fun b1 => ho_b2 (fn_X1_displacement p0 p1 p2 p3 σ) fun v3 σ2 => ho_x v3 (fun x4 => (ho_tJ σ2 p4 1 (0 : Int32) x4.toInt64).bind fun σ6 => some ((0 : Int32), σ6)) (fun q5 => if ho_k σ2 (some q5) = some 220 then fn_X0_displacement_b15 (some q5) σ2 else none)
def fn_X0_force_b13  (t0 : Option Nat) (σ : Hs) : Option (Int32 × Hs) := some ((1 : Int32), σ)
def fn_X0_force (p0 : Option Nat) (p1 : Int32) (p2 : Int32) (p3 : Option Nat) (σ : Hs) : Option (Int32 × Hs) := (ho_is σ p0 [0]).bind fun b1 => ho_b2 (fn_X1_force p0 p1 p2 σ) fun v3 σ2 => ho_x v3 (fun x4 => (ho_tJ σ2 p3 1 (0 : Int32) x4.toInt64).bind fun σ6 => some ((0 : Int32), σ6)) (fun q5 => if ho_k σ2 (some q5) = some 220 then fn_X0_force_b13 (some q5) σ2 else none)
def fn_X0_residual_b15  (t0 : Option Nat) (σ : Hs) : Option (Int32 × Hs) := some ((1 : Int32), σ)
def fn_X0_residual (p0 : Option Nat) (p1 : Int32) (p2 : Int32) (p3 : Int32) (p4 : Option Nat) (σ : Hs) : Option (Int32 × Hs) := (ho_is σ p0 [0]).bind fun b1 => ho_b2 (fn_X1_residual p0 p1 p2 p3 σ) fun v3 σ2 => ho_x v3 (fun x4 => (ho_tJ σ2 p4 1 (0 : Int32) x4.toInt64).bind fun σ6 => some ((0 : Int32), σ6)) (fun q5 => if ho_k σ2 (some q5) = some 220 then fn_X0_residual_b15 (some q5) σ2 else none)
def fn_X0_buckling_b12  (t0 : Option Nat) (σ : Hs) : Option (Int32 × Hs) := some ((1 : Int32), σ)
def fn_X0_buckling (p0 : Option Nat) (p1 : Int32) (p2 : Option Nat) (σ : Hs) : Option (Int32 × Hs) := (ho_is σ p0 [0]).bind fun b1 => ho_b2 (fn_X1_buckling p0 p1 σ) fun v3 σ2 => ho_x v3 (fun x4 => (ho_tJ σ2 p2 1 (0 : Int32) x4.toInt64).bind fun σ6 => some ((0 : Int32), σ6)) (fun q5 => if ho_k σ2 (some q5) = some 220 then fn_X0_buckling_b12 (some q5) σ2 else none)
def fn_X0_capacity_b13  (t0 : Option Nat) (σ : Hs) : Option (Int32 × Hs) := some ((1 : Int32), σ)
def fn_X0_capacity (p0 : Option Nat) (p1 : Int32) (p2 : Int32) (p3 : Option Nat) (σ : Hs) : Option (Int32 × Hs) := (ho_is σ p0 [0]).bind fun b1 => ho_b2 (fn_X1_capacity p0 p1 p2 σ) fun v3 σ2 => ho_x v3 (fun x4 => (ho_tJ σ2 p3 1 (0 : Int32) x4.toInt64).bind fun σ6 => some ((0 : Int32), σ6)) (fun q5 => if ho_k σ2 (some q5) = some 220 then fn_X0_capacity_b13 (some q5) σ2 else none)
def fn_X0_use_b13  (t0 : Option Nat) (σ : Hs) : Option (Int32 × Hs) := some ((1 : Int32), σ)
def fn_X0_use (p0 : Option Nat) (p1 : Int32) (p2 : Int32) (p3 : Option Nat) (σ : Hs) : Option (Int32 × Hs) := (ho_is σ p0 [0]).bind fun b1 => ho_b2 (fn_X1_use p0 p1 p2 σ) fun v3 σ2 => ho_x v3 (fun x4 => (ho_tJ σ2 p3 1 (0 : Int32) x4.toInt64).bind fun σ6 => some ((0 : Int32), σ6)) (fun q5 => if ho_k σ2 (some q5) = some 220 then fn_X0_use_b13 (some q5) σ2 else none)
def fn_X0_failure_b13 (ev : Nat → Option Nat)  (t0 : Option Nat) (σ : Hs) : Option (Int32 × Hs) := some ((1 : Int32), σ)
def fn_X0_failure (ev : Nat → Option Nat) (p0 : Option Nat) (p1 : Int32) (p2 : Int32) (p3 : Option Nat) (σ : Hs) : Option (Int32 × Hs) := (ho_is σ p0 [0]).bind fun b1 => ho_b2 (fn_X1_failure ev p0 p1 p2 σ) fun v3 σ2 => ho_x v3 (fun x4 => (ho_tJ σ2 p3 1 (0 : Int32) x4.toInt64).bind fun σ6 => some ((0 : Int32), σ6)) (fun q5 => if ho_k σ2 (some q5) = some 220 then fn_X0_failure_b13 ev (some q5) σ2 else none)
def fn_X0_isRemovable_b15 (ev : Nat → Option Nat)  (t0 : Option Nat) (t1 : Int32) (t2 : Int64) (σ : Hs) : Option (Int32 × Hs) := (ho_tJ σ t0 1 t1 t2).bind fun σ1 => some ((0 : Int32), σ1)
def fn_X0_isRemovable_b19 (ev : Nat → Option Nat)  (t0 : Option Nat) (σ : Hs) : Option (Int32 × Hs) := some ((1 : Int32), σ)
def fn_X0_isRemovable (ev : Nat → Option Nat) (p0 : Option Nat) (p1 : Int32) (p2 : Option Nat) (σ : Hs) : Option (Int32 × Hs) := (ho_is σ p0 [0]).bind fun b2 => ho_b2 (fn_X1_isRemovable ev p0 p1 σ) fun v4 σ3 => ho_x v4 (fun x5 => if x5 = 0 then fn_X0_isRemovable_b15 ev p2 (0 : Int32) (0 : Int64) σ3 else fn_X0_isRemovable_b15 ev p2 (0 : Int32) (1 : Int64) σ3) (fun q6 => if ho_k σ3 (some q6) = some 220 then fn_X0_isRemovable_b19 ev (some q6) σ3 else none)
def fn_X0_smallestArea_b12 (ev : Nat → Option Nat)  (t0 : Option Nat) (σ : Hs) : Option (Int32 × Hs) := some ((1 : Int32), σ)
def fn_X0_smallestArea (ev : Nat → Option Nat) (p0 : Option Nat) (p1 : Int32) (p2 : Option Nat) (σ : Hs) : Option (Int32 × Hs) := (ho_is σ p0 [0]).bind fun b1 => ho_b2 (fn_X1_smallestArea ev p0 p1 σ) fun v3 σ2 => ho_x v3 (fun x4 => (ho_tJ σ2 p2 1 (0 : Int32) x4.toInt64).bind fun σ6 => some ((0 : Int32), σ6)) (fun q5 => if ho_k σ2 (some q5) = some 220 then fn_X0_smallestArea_b12 ev (some q5) σ2 else none)
def fn_X0_setArea_b13 (ev : Nat → Option Nat)  (t0 : Option Nat) (σ : Hs) : Option (Int32 × Hs) := some ((1 : Int32), σ)
def fn_X0_setArea_b17 (ev : Nat → Option Nat)  (t0 : Option Nat) (σ : Hs) : Option (Int32 × Hs) := some ((2 : Int32), σ)
def fn_X0_setArea (ev : Nat → Option Nat) (p0 : Option Nat) (p1 : Int32) (p2 : Int32) (p3 : Option Nat) (σ : Hs) : Option (Int32 × Hs) := (ho_is σ p0 [0]).bind fun b1 => ho_b2 (fn_X1_setArea ev p0 p1 p2 σ) fun v3 σ2 => ho_x v3 (fun x4 => (ho_tJ σ2 p3 1 (0 : Int32) x4.toInt64).bind fun σ6 => some ((0 : Int32), σ6)) (fun q5 => if ho_k σ2 (some q5) = some 220 then fn_X0_setArea_b13 ev (some q5) σ2 else if ho_k σ2 (some q5) = some 221 then fn_X0_setArea_b17 ev (some q5) σ2 else none)
def fn_X0_addMember_b15 (ev : Nat → Option Nat)  (t0 : Option Nat) (σ : Hs) : Option (Int32 × Hs) := some ((1 : Int32), σ)
def fn_X0_addMember_b19 (ev : Nat → Option Nat)  (t0 : Option Nat) (σ : Hs) : Option (Int32 × Hs) := some ((2 : Int32), σ)
def fn_X0_addMember_b23 (ev : Nat → Option Nat)  (t0 : Option Nat) (σ : Hs) : Option (Int32 × Hs) := some ((3 : Int32), σ)
def fn_X0_addMember (ev : Nat → Option Nat) (p0 : Option Nat) (p1 : Int32) (p2 : Int32) (p3 : Int32) (p4 : Option Nat) (σ : Hs) : Option (Int32 × Hs) := (ho_is σ p0 [0]).bind fun b1 => ho_b2 (fn_X1_addMember ev p0 p1 p2 p3 σ) fun v3 σ2 => ho_x v3 (fun x4 => (ho_tJ σ2 p4 1 (0 : Int32) x4.toInt64).bind fun σ6 => some ((0 : Int32), σ6)) (fun q5 => if ho_k σ2 (some q5) = some 220 then fn_X0_addMember_b15 ev (some q5) σ2 else if ho_k σ2 (some q5) = some 221 then fn_X0_addMember_b19 ev (some q5) σ2 else if ho_k σ2 (some q5) = some 222 then fn_X0_addMember_b23 ev (some q5) σ2 else none)
def fn_X0_removeMember_b12 (ev : Nat → Option Nat)  (t0 : Option Nat) (σ : Hs) : Option (Int32 × Hs) := some ((1 : Int32), σ)
def fn_X0_removeMember (ev : Nat → Option Nat) (p0 : Option Nat) (p1 : Int32) (p2 : Option Nat) (σ : Hs) : Option (Int32 × Hs) := (ho_is σ p0 [0]).bind fun b1 => ho_b2 (fn_X1_removeMember ev p0 p1 σ) fun v3 σ2 => ho_x v3 (fun x4 => (ho_tJ σ2 p2 1 (0 : Int32) x4.toInt64).bind fun σ6 => some ((0 : Int32), σ6)) (fun q5 => if ho_k σ2 (some q5) = some 220 then fn_X0_removeMember_b12 ev (some q5) σ2 else none)
def fn_X0_prune_b11 (ev : Nat → Option Nat)  (t0 : Option Nat) (σ : Hs) : Option (Int32 × Hs) := some ((1 : Int32), σ)
def fn_X0_prune (ev : Nat → Option Nat) (p0 : Option Nat) (p1 : Option Nat) (σ : Hs) : Option (Int32 × Hs) := (ho_is σ p0 [0]).bind fun b1 => ho_b2 (fn_X1_prune ev p0 σ) fun v3 σ2 => ho_x v3 (fun x4 => (ho_tJ σ2 p1 1 (0 : Int32) x4.toInt64).bind fun σ6 => some ((0 : Int32), σ6)) (fun q5 => if ho_k σ2 (some q5) = some 222 then fn_X0_prune_b11 ev (some q5) σ2 else none)
def fn_X0_shrink_b12 (ev : Nat → Option Nat)  (t0 : Option Nat) (σ : Hs) : Option (Int32 × Hs) := some ((1 : Int32), σ)
def fn_X0_shrink_b15 (ev : Nat → Option Nat)  (t0 : Option Nat) (σ : Hs) : Option (Int32 × Hs) := some ((2 : Int32), σ)
def fn_X0_shrink (ev : Nat → Option Nat) (p0 : Option Nat) (p1 : Int32) (p2 : Option Nat) (σ : Hs) : Option (Int32 × Hs) := (ho_is σ p0 [0]).bind fun b1 => ho_b2 (fn_X1_shrink ev p0 p1 σ) fun v3 σ2 => ho_x v3 (fun x4 => (ho_tJ σ2 p2 1 (0 : Int32) x4.toInt64).bind fun σ6 => some ((0 : Int32), σ6)) (fun q5 => if ho_k σ2 (some q5) = some 220 then fn_X0_shrink_b12 ev (some q5) σ2 else if ho_k σ2 (some q5) = some 222 then fn_X0_shrink_b15 ev (some q5) σ2 else none)
theorem cx_X0_7 : cxVW "ElasticTrussLaw" "ElasticTruss" 7 yX1_load cX1_load 3 (Option.some FieldType.int) [(19, 52, 53, 136)] 1 := ⟨q2671, q2672, q2673, q102, q2674, ⟨by decide +kernel, by decide +kernel⟩, fun sig h => by have e := (show (parseMethodDescriptor (yX1_load).desc).map (fun d => d.parameters.length) = some 1 by decide +kernel); rw [h] at e; exact (Option.some.inj e).symm⟩
theorem rx_221 : rx 221 "java/lang/IllegalArgumentException" := Or.inr ⟨(Nat.le_of_ble_eq_true rfl), rfl⟩
theorem cx_X0_15 : cxV "ElasticTrussLaw" "ElasticTruss" 15 yX1_area cX1_area 2 (Option.some FieldType.int) 1 := ⟨q3115, q3116, q3117, q102, q3118, ⟨by decide +kernel, by decide +kernel⟩, fun sig h => by have e := (show (parseMethodDescriptor (yX1_area).desc).map (fun d => d.parameters.length) = some 1 by decide +kernel); rw [h] at e; exact (Option.some.inj e).symm⟩
theorem rx_220 : rx 220 "java/lang/IndexOutOfBoundsException" := Or.inr ⟨(Nat.le_of_ble_eq_true rfl), rfl⟩
theorem cx_X0_20 : cxV "ElasticTrussLaw" "ElasticTruss" 20 yX1_member cX1_member 4 (Option.some FieldType.int) 2 := ⟨q3144, q3145, q3146, q102, q3147, ⟨by decide +kernel, by decide +kernel⟩, fun sig h => by have e := (show (parseMethodDescriptor (yX1_member).desc).map (fun d => d.parameters.length) = some 2 by decide +kernel); rw [h] at e; exact (Option.some.inj e).symm⟩
theorem cx_X0_24 : cxV "ElasticTrussLaw" "ElasticTruss" 24 yX1_between cX1_between 7 (Option.some FieldType.int) 2 := ⟨q3157, q3158, q3159, q102, q3160, ⟨by decide +kernel, by decide +kernel⟩, fun sig h => by have e := (show (parseMethodDescriptor (yX1_between).desc).map (fun d => d.parameters.length) = some 2 by decide +kernel); rw [h] at e; exact (Option.some.inj e).symm⟩
theorem cx_X0_27 : cxV "ElasticTrussLaw" "ElasticTruss" 27 yX1_degree cX1_degree 2 (Option.some FieldType.int) 1 := ⟨q3182, q3183, q3184, q102, q3185, ⟨by decide +kernel, by decide +kernel⟩, fun sig h => by have e := (show (parseMethodDescriptor (yX1_degree).desc).map (fun d => d.parameters.length) = some 1 by decide +kernel); rw [h] at e; exact (Option.some.inj e).symm⟩
theorem cx_X0_30 : cxV "ElasticTrussLaw" "ElasticTruss" 30 yX1_displacement cX1_displacement 5 (Option.some FieldType.int) 3 := ⟨q3189, q3190, q3191, q102, q3192, ⟨by decide +kernel, by decide +kernel⟩, fun sig h => by have e := (show (parseMethodDescriptor (yX1_displacement).desc).map (fun d => d.parameters.length) = some 3 by decide +kernel); rw [h] at e; exact (Option.some.inj e).symm⟩
theorem cx_X0_34 : cxV "ElasticTrussLaw" "ElasticTruss" 34 yX1_force cX1_force 4 (Option.some FieldType.int) 2 := ⟨q3204, q3205, q3206, q102, q3207, ⟨by decide +kernel, by decide +kernel⟩, fun sig h => by have e := (show (parseMethodDescriptor (yX1_force).desc).map (fun d => d.parameters.length) = some 2 by decide +kernel); rw [h] at e; exact (Option.some.inj e).symm⟩
theorem cx_X0_37 : cxV "ElasticTrussLaw" "ElasticTruss" 37 yX1_residual cX1_residual 5 (Option.some FieldType.int) 3 := ⟨q3211, q3212, q3213, q102, q3214, ⟨by decide +kernel, by decide +kernel⟩, fun sig h => by have e := (show (parseMethodDescriptor (yX1_residual).desc).map (fun d => d.parameters.length) = some 3 by decide +kernel); rw [h] at e; exact (Option.some.inj e).symm⟩
theorem cx_X0_40 : cxV "ElasticTrussLaw" "ElasticTruss" 40 yX1_buckling cX1_buckling 2 (Option.some FieldType.int) 1 := ⟨q3219, q3220, q3221, q102, q3222, ⟨by decide +kernel, by decide +kernel⟩, fun sig h => by have e := (show (parseMethodDescriptor (yX1_buckling).desc).map (fun d => d.parameters.length) = some 1 by decide +kernel); rw [h] at e; exact (Option.some.inj e).symm⟩
theorem cx_X0_43 : cxV "ElasticTrussLaw" "ElasticTruss" 43 yX1_capacity cX1_capacity 3 (Option.some FieldType.int) 2 := ⟨q3227, q3228, q3229, q102, q3230, ⟨by decide +kernel, by decide +kernel⟩, fun sig h => by have e := (show (parseMethodDescriptor (yX1_capacity).desc).map (fun d => d.parameters.length) = some 2 by decide +kernel); rw [h] at e; exact (Option.some.inj e).symm⟩
theorem cx_X0_47 : cxV "ElasticTrussLaw" "ElasticTruss" 47 yX1_use cX1_use 4 (Option.some FieldType.int) 2 := ⟨q3235, q3236, q3237, q102, q3238, ⟨by decide +kernel, by decide +kernel⟩, fun sig h => by have e := (show (parseMethodDescriptor (yX1_use).desc).map (fun d => d.parameters.length) = some 2 by decide +kernel); rw [h] at e; exact (Option.some.inj e).symm⟩
theorem cx_X0_50 : cxV "ElasticTrussLaw" "ElasticTruss" 50 yX1_failure cX1_failure 7 (Option.some FieldType.int) 2 := ⟨q3242, q3243, q3244, q102, q3245, ⟨by decide +kernel, by decide +kernel⟩, fun sig h => by have e := (show (parseMethodDescriptor (yX1_failure).desc).map (fun d => d.parameters.length) = some 2 by decide +kernel); rw [h] at e; exact (Option.some.inj e).symm⟩
theorem cx_X0_53 : cxV "ElasticTrussLaw" "ElasticTruss" 53 yX1_isRemovable cX1_isRemovable 4 (Option.some FieldType.boolean) 1 := ⟨q3250, q3251, q3252, q102, q3253, ⟨by decide +kernel, by decide +kernel⟩, fun sig h => by have e := (show (parseMethodDescriptor (yX1_isRemovable).desc).map (fun d => d.parameters.length) = some 1 by decide +kernel); rw [h] at e; exact (Option.some.inj e).symm⟩
theorem cx_X0_57 : cxV "ElasticTrussLaw" "ElasticTruss" 57 yX1_smallestArea cX1_smallestArea 2 (Option.some FieldType.int) 1 := ⟨q3293, q3294, q3295, q102, q3296, ⟨by decide +kernel, by decide +kernel⟩, fun sig h => by have e := (show (parseMethodDescriptor (yX1_smallestArea).desc).map (fun d => d.parameters.length) = some 1 by decide +kernel); rw [h] at e; exact (Option.some.inj e).symm⟩
theorem cx_X0_60 : cxV "ElasticTrussLaw" "ElasticTruss" 60 yX1_setArea cX1_setArea 3 (Option.some FieldType.int) 2 := ⟨q3300, q3301, q3302, q102, q3303, ⟨by decide +kernel, by decide +kernel⟩, fun sig h => by have e := (show (parseMethodDescriptor (yX1_setArea).desc).map (fun d => d.parameters.length) = some 2 by decide +kernel); rw [h] at e; exact (Option.some.inj e).symm⟩
theorem cx_X0_63 : cxV "ElasticTrussLaw" "ElasticTruss" 63 yX1_addMember cX1_addMember 4 (Option.some FieldType.int) 3 := ⟨q3309, q3310, q3311, q102, q3312, ⟨by decide +kernel, by decide +kernel⟩, fun sig h => by have e := (show (parseMethodDescriptor (yX1_addMember).desc).map (fun d => d.parameters.length) = some 3 by decide +kernel); rw [h] at e; exact (Option.some.inj e).symm⟩
theorem rx_222 : rx 222 "java/lang/IllegalStateException" := Or.inr ⟨(Nat.le_of_ble_eq_true rfl), rfl⟩
theorem cx_X0_69 : cxV "ElasticTrussLaw" "ElasticTruss" 69 yX1_removeMember cX1_removeMember 3 (Option.some FieldType.int) 1 := ⟨q3326, q3327, q3328, q102, q3329, ⟨by decide +kernel, by decide +kernel⟩, fun sig h => by have e := (show (parseMethodDescriptor (yX1_removeMember).desc).map (fun d => d.parameters.length) = some 1 by decide +kernel); rw [h] at e; exact (Option.some.inj e).symm⟩
theorem cx_X0_72 : cxV "ElasticTrussLaw" "ElasticTruss" 72 yX1_prune cX1_prune 6 (Option.some FieldType.int) 0 := ⟨q3333, q3334, q3335, q102, q3336, ⟨by decide +kernel, by decide +kernel⟩, fun sig h => by have e := (show (parseMethodDescriptor (yX1_prune).desc).map (fun d => d.parameters.length) = some 0 by decide +kernel); rw [h] at e; exact (Option.some.inj e).symm⟩
theorem cx_X0_76 : cxV "ElasticTrussLaw" "ElasticTruss" 76 yX1_shrink cX1_shrink 4 (Option.some FieldType.int) 1 := ⟨q3340, q3341, q3342, q102, q3343, ⟨by decide +kernel, by decide +kernel⟩, fun sig h => by have e := (show (parseMethodDescriptor (yX1_shrink).desc).map (fun d => d.parameters.length) = some 1 by decide +kernel); rw [h] at e; exact (Option.some.inj e).symm⟩
set_option maxHeartbeats 4000000 in
theorem wb_X0_load_b12 {E : Ev} {K : Kx} (C : wk_C E K yX0_load cX0_load 4 (Option.some FieldType.int) 52 19137 (tableOf [(0, 9, 12, 13)])) {r : Int32} {σ' : Hs} (t0 : Option Nat) (σ : Hs) (hf : fn_X0_load_b12 E.2.2.1 t0 σ = some (r, σ')) : wk_V E K (.inl (some (.int r))) σ' σ 12 [] [vR t0] := by
  unfold fn_X0_load_b12 at hf
  refine wk_astore_n (L' := [(3, vR t0)]) C (by decide) rfl dX0_load_12 ?_
  refine wk_iconst (v := 1) C dX0_load_13 rfl ?_
  obtain ⟨rfl, rfl⟩ := Prod.mk.inj (Option.some.inj hf)
  exact wk_iret C rfl rfl dX0_load_14
set_option maxHeartbeats 4000000 in
theorem mt_X0_load {E : Ev} {l : Launch} (hl : l.stackTraces = false) {p0 : Option Nat} {p1 : Int32} {p2 : Option Nat} {σ : Hs} {r : Int32} {σ' : Hs} (hf : fn_X0_load E.2.2.1 p0 p1 p2 σ = some (r, σ')) : wk_M E l yX0_load (wsW_ yX0_load cX0_load 4 (Option.some FieldType.int) [(0, 9, 12, 13)]) 52 19137 [vR p0, vI p1, vR p2] σ (.inl (some (.int r))) σ' := by
  refine wk_startW (by decide +kernel) hl (Nat.le_of_ble_eq_true rfl) (fun K C hK => ?_)
  subst hK
  refine wk_L (L' := [(0, vR p0), (1, vI p1), (2, vR p2)]) rfl ?_
  unfold fn_X0_load at hf
  refine wk_aload_n C 2 rfl dX0_load_0 ?_
  refine wk_iconst (v := 0) C dX0_load_1 rfl ?_
  refine wk_aload_n C 0 rfl dX0_load_2 ?_
  refine wk_iload_n C 1 rfl dX0_load_3 ?_
  obtain ⟨b1, h_b1, hf⟩ := ho_b hf
  obtain ⟨v3, σ2, h_σ2, hf⟩ := ho_e2 hf
  rcases ho_xe hf with ⟨x4, rfl, hf⟩ | ⟨q5, rfl, hf⟩
  · refine wk_callVW (av := [vI p1]) (rest := [vI (0 : Int32), vR p2]) (rv := some (vI x4)) C h_b1 rx_0 cx_X0_7 (mt_X1_load (wk_C.tr C) h_σ2) rfl rfl (Nat.le_of_ble_eq_true rfl) (Nat.le_of_ble_eq_true rfl) (Nat.le_of_ble_eq_true rfl) dX0_load_4 ?_
    refine wk_i2l C dX0_load_7 ?_
    obtain ⟨σ6, h_σ6, hf⟩ := ho_b hf
    refine wk_last C h_σ6 dX0_load_8 ?_
    refine wk_goto C 15 (by decide) dX0_load_9 ?_
    refine wk_iconst (v := 0) C dX0_load_15 rfl ?_
    obtain ⟨rfl, rfl⟩ := Prod.mk.inj (Option.some.inj hf)
    exact wk_iret C rfl rfl dX0_load_16
  · refine wk_callVWT (av := [vI p1]) (rest := [vI (0 : Int32), vR p2]) C h_b1 rx_0 cx_X0_7 (mt_X1_load (wk_C.tr C) h_σ2) rfl (Nat.le_of_ble_eq_true rfl) (Nat.le_of_ble_eq_true rfl) (Nat.le_of_ble_eq_true rfl) dX0_load_4 ?_
    by_cases c_ : ho_k σ2 (some q5) = some 221
    · rw [if_pos c_] at hf
      refine wk_catchK C c_ rx_221 [] ⟨0, 9, 12, 13⟩ [] rfl ((List.forall_mem_nil _)) (by decide +kernel) (by decide) q2670 q208 rfl ?_
      refine wk_sub (L' := []) [] rfl ?_
      exact wb_X0_load_b12 C  _ _ hf
    rw [if_neg c_] at hf
    clear c_
    cases hf
set_option maxHeartbeats 4000000 in
theorem wb_X0_area_b12 {E : Ev} {K : Kx} (C : wk_C E K yX0_area cX0_area 4 (Option.some FieldType.int) 9 143 (tableOf [(0, 9, 12, 18)])) {r : Int32} {σ' : Hs} (t0 : Option Nat) (σ : Hs) (hf : fn_X0_area_b12 t0 σ = some (r, σ')) : wk_V E K (.inl (some (.int r))) σ' σ 12 [] [vR t0] := by
  unfold fn_X0_area_b12 at hf
  refine wk_astore_n (L' := [(3, vR t0)]) C (by decide) rfl dX0_area_12 ?_
  refine wk_iconst (v := 1) C dX0_area_13 rfl ?_
  obtain ⟨rfl, rfl⟩ := Prod.mk.inj (Option.some.inj hf)
  exact wk_iret C rfl rfl dX0_area_14
set_option maxHeartbeats 4000000 in
theorem mt_X0_area {E : Ev} {l : Launch} (hl : l.stackTraces = false) {p0 : Option Nat} {p1 : Int32} {p2 : Option Nat} {σ : Hs} {r : Int32} {σ' : Hs} (hf : fn_X0_area p0 p1 p2 σ = some (r, σ')) : wk_M E l yX0_area (wsW_ yX0_area cX0_area 4 (Option.some FieldType.int) [(0, 9, 12, 18)]) 9 143 [vR p0, vI p1, vR p2] σ (.inl (some (.int r))) σ' := by
  refine wk_startW (by decide +kernel) hl (Nat.le_of_ble_eq_true rfl) (fun K C hK => ?_)
  subst hK
  refine wk_L (L' := [(0, vR p0), (1, vI p1), (2, vR p2)]) rfl ?_
  unfold fn_X0_area at hf
  refine wk_aload_n C 2 rfl dX0_area_0 ?_
  refine wk_iconst (v := 0) C dX0_area_1 rfl ?_
  refine wk_aload_n C 0 rfl dX0_area_2 ?_
  refine wk_iload_n C 1 rfl dX0_area_3 ?_
  obtain ⟨b1, h_b1, hf⟩ := ho_b hf
  obtain ⟨v3, σ2, h_σ2, hf⟩ := ho_e2 hf
  rcases ho_xe hf with ⟨x4, rfl, hf⟩ | ⟨q5, rfl, hf⟩
  · refine wk_callV (av := [vI p1]) (rest := [vI (0 : Int32), vR p2]) (rv := some (vI x4)) C h_b1 rx_0 cx_X0_15 (mt_X1_area (wk_C.tr C) h_σ2) rfl rfl (Nat.le_of_ble_eq_true rfl) (Nat.le_of_ble_eq_true rfl) (Nat.le_of_ble_eq_true rfl) dX0_area_4 ?_
    refine wk_i2l C dX0_area_7 ?_
    obtain ⟨σ6, h_σ6, hf⟩ := ho_b hf
    refine wk_last C h_σ6 dX0_area_8 ?_
    refine wk_goto C 15 (by decide) dX0_area_9 ?_
    refine wk_iconst (v := 0) C dX0_area_15 rfl ?_
    obtain ⟨rfl, rfl⟩ := Prod.mk.inj (Option.some.inj hf)
    exact wk_iret C rfl rfl dX0_area_16
  · refine wk_callVT (av := [vI p1]) (rest := [vI (0 : Int32), vR p2]) C h_b1 rx_0 cx_X0_15 (mt_X1_area (wk_C.tr C) h_σ2) rfl (Nat.le_of_ble_eq_true rfl) (Nat.le_of_ble_eq_true rfl) (Nat.le_of_ble_eq_true rfl) dX0_area_4 ?_
    by_cases c_ : ho_k σ2 (some q5) = some 220
    · rw [if_pos c_] at hf
      refine wk_catchK C c_ rx_220 [] ⟨0, 9, 12, 18⟩ [] rfl ((List.forall_mem_nil _)) (by decide +kernel) (by decide) q3096 q3128 rfl ?_
      refine wk_sub (L' := []) [] rfl ?_
      exact wb_X0_area_b12 C  _ _ hf
    rw [if_neg c_] at hf
    clear c_
    cases hf
set_option maxHeartbeats 4000000 in
theorem wb_X0_member_b13 {E : Ev} {K : Kx} (C : wk_C E K yX0_member cX0_member 5 (Option.some FieldType.int) 9 164 (tableOf [(0, 10, 13, 18), (0, 10, 17, 13)])) {r : Int32} {σ' : Hs} (t0 : Option Nat) (σ : Hs) (hf : fn_X0_member_b13 t0 σ = some (r, σ')) : wk_V E K (.inl (some (.int r))) σ' σ 13 [] [vR t0] := by
  unfold fn_X0_member_b13 at hf
  refine wk_astore (L' := [(4, vR t0)]) C (by decide) rfl dX0_member_13 ?_
  refine wk_iconst (v := 1) C dX0_member_15 rfl ?_
  obtain ⟨rfl, rfl⟩ := Prod.mk.inj (Option.some.inj hf)
  exact wk_iret C rfl rfl dX0_member_16
set_option maxHeartbeats 4000000 in
theorem wb_X0_member_b17 {E : Ev} {K : Kx} (C : wk_C E K yX0_member cX0_member 5 (Option.some FieldType.int) 9 164 (tableOf [(0, 10, 13, 18), (0, 10, 17, 13)])) {r : Int32} {σ' : Hs} (t0 : Option Nat) (σ : Hs) (hf : fn_X0_member_b17 t0 σ = some (r, σ')) : wk_V E K (.inl (some (.int r))) σ' σ 17 [] [vR t0] := by
  unfold fn_X0_member_b17 at hf
  refine wk_astore (L' := [(4, vR t0)]) C (by decide) rfl dX0_member_17 ?_
  refine wk_iconst (v := 2) C dX0_member_19 rfl ?_
  obtain ⟨rfl, rfl⟩ := Prod.mk.inj (Option.some.inj hf)
  exact wk_iret C rfl rfl dX0_member_20
set_option maxHeartbeats 4000000 in
theorem mt_X0_member {E : Ev} {l : Launch} (hl : l.stackTraces = false) {p0 : Option Nat} {p1 : Int32} {p2 : Int32} {p3 : Option Nat} {σ : Hs} {r : Int32} {σ' : Hs} (hf : fn_X0_member p0 p1 p2 p3 σ = some (r, σ')) : wk_M E l yX0_member (wsW_ yX0_member cX0_member 5 (Option.some FieldType.int) [(0, 10, 13, 18), (0, 10, 17, 13)]) 9 164 [vR p0, vI p1, vI p2, vR p3] σ (.inl (some (.int r))) σ' := by
  refine wk_startW (by decide +kernel) hl (Nat.le_of_ble_eq_true rfl) (fun K C hK => ?_)
  subst hK
  refine wk_L (L' := [(0, vR p0), (1, vI p1), (2, vI p2), (3, vR p3)]) rfl ?_
  unfold fn_X0_member at hf
  refine wk_aload_n C 3 rfl dX0_member_0 ?_
  refine wk_iconst (v := 0) C dX0_member_1 rfl ?_
  refine wk_aload_n C 0 rfl dX0_member_2 ?_
  refine wk_iload_n C 1 rfl dX0_member_3 ?_
  refine wk_iload_n C 2 rfl dX0_member_4 ?_
  obtain ⟨b1, h_b1, hf⟩ := ho_b hf
  obtain ⟨v3, σ2, h_σ2, hf⟩ := ho_e2 hf
  rcases ho_xe hf with ⟨x4, rfl, hf⟩ | ⟨q5, rfl, hf⟩
  · refine wk_callV (av := [vI p1, vI p2]) (rest := [vI (0 : Int32), vR p3]) (rv := some (vI x4)) C h_b1 rx_0 cx_X0_20 (mt_X1_member (wk_C.tr C) h_σ2) rfl rfl (Nat.le_of_ble_eq_true rfl) (Nat.le_of_ble_eq_true rfl) (Nat.le_of_ble_eq_true rfl) dX0_member_5 ?_
    refine wk_i2l C dX0_member_8 ?_
    obtain ⟨σ6, h_σ6, hf⟩ := ho_b hf
    refine wk_last C h_σ6 dX0_member_9 ?_
    refine wk_goto C 21 (by decide) dX0_member_10 ?_
    refine wk_iconst (v := 0) C dX0_member_21 rfl ?_
    obtain ⟨rfl, rfl⟩ := Prod.mk.inj (Option.some.inj hf)
    exact wk_iret C rfl rfl dX0_member_22
  · refine wk_callVT (av := [vI p1, vI p2]) (rest := [vI (0 : Int32), vR p3]) C h_b1 rx_0 cx_X0_20 (mt_X1_member (wk_C.tr C) h_σ2) rfl (Nat.le_of_ble_eq_true rfl) (Nat.le_of_ble_eq_true rfl) (Nat.le_of_ble_eq_true rfl) dX0_member_5 ?_
    by_cases c_ : ho_k σ2 (some q5) = some 220
    · rw [if_pos c_] at hf
      refine wk_catchK C c_ rx_220 [] ⟨0, 10, 13, 18⟩ [⟨0, 10, 17, 13⟩] rfl ((List.forall_mem_nil _)) (by decide +kernel) (by decide) q3096 q3128 rfl ?_
      refine wk_sub (L' := []) [] rfl ?_
      exact wb_X0_member_b13 C  _ _ hf
    rw [if_neg c_] at hf
    clear c_
    by_cases c_ : ho_k σ2 (some q5) = some 221
    · rw [if_pos c_] at hf
      refine wk_catchK C c_ rx_221 [⟨0, 10, 13, 18⟩] ⟨0, 10, 17, 13⟩ [] rfl (List.forall_mem_cons.mpr ⟨Or.inr ⟨by decide, "java/lang/IndexOutOfBoundsException", q3096, by decide +kernel⟩, (List.forall_mem_nil _)⟩) (by decide +kernel) (by decide) q2670 q208 rfl ?_
      refine wk_sub (L' := []) [] rfl ?_
      exact wb_X0_member_b17 C  _ _ hf
    rw [if_neg c_] at hf
    clear c_
    cases hf
set_option maxHeartbeats 4000000 in
theorem wb_X0_between_b13 {E : Ev} {K : Kx} (C : wk_C E K yX0_between cX0_between 5 (Option.some FieldType.int) 9 152 (tableOf [(0, 10, 13, 18)])) {r : Int32} {σ' : Hs} (t0 : Option Nat) (σ : Hs) (hf : fn_X0_between_b13 t0 σ = some (r, σ')) : wk_V E K (.inl (some (.int r))) σ' σ 13 [] [vR t0] := by
  unfold fn_X0_between_b13 at hf
  refine wk_astore (L' := [(4, vR t0)]) C (by decide) rfl dX0_between_13 ?_
  refine wk_iconst (v := 1) C dX0_between_15 rfl ?_
  obtain ⟨rfl, rfl⟩ := Prod.mk.inj (Option.some.inj hf)
  exact wk_iret C rfl rfl dX0_between_16
set_option maxHeartbeats 4000000 in
theorem mt_X0_between {E : Ev} {l : Launch} (hl : l.stackTraces = false) {p0 : Option Nat} {p1 : Int32} {p2 : Int32} {p3 : Option Nat} {σ : Hs} {r : Int32} {σ' : Hs} (hf : fn_X0_between p0 p1 p2 p3 σ = some (r, σ')) : wk_M E l yX0_between (wsW_ yX0_between cX0_between 5 (Option.some FieldType.int) [(0, 10, 13, 18)]) 9 152 [vR p0, vI p1, vI p2, vR p3] σ (.inl (some (.int r))) σ' := by
  refine wk_startW (by decide +kernel) hl (Nat.le_of_ble_eq_true rfl) (fun K C hK => ?_)
  subst hK
  refine wk_L (L' := [(0, vR p0), (1, vI p1), (2, vI p2), (3, vR p3)]) rfl ?_
  unfold fn_X0_between at hf
  refine wk_aload_n C 3 rfl dX0_between_0 ?_
  refine wk_iconst (v := 0) C dX0_between_1 rfl ?_
  refine wk_aload_n C 0 rfl dX0_between_2 ?_
  refine wk_iload_n C 1 rfl dX0_between_3 ?_
  refine wk_iload_n C 2 rfl dX0_between_4 ?_
  obtain ⟨b1, h_b1, hf⟩ := ho_b hf
  obtain ⟨v3, σ2, h_σ2, hf⟩ := ho_e2 hf
  rcases ho_xe hf with ⟨x4, rfl, hf⟩ | ⟨q5, rfl, hf⟩
  · refine wk_callV (av := [vI p1, vI p2]) (rest := [vI (0 : Int32), vR p3]) (rv := some (vI x4)) C h_b1 rx_0 cx_X0_24 (mt_X1_between (wk_C.tr C) h_σ2) rfl rfl (Nat.le_of_ble_eq_true rfl) (Nat.le_of_ble_eq_true rfl) (Nat.le_of_ble_eq_true rfl) dX0_between_5 ?_
    refine wk_i2l C dX0_between_8 ?_
    obtain ⟨σ6, h_σ6, hf⟩ := ho_b hf
    refine wk_last C h_σ6 dX0_between_9 ?_
    refine wk_goto C 17 (by decide) dX0_between_10 ?_
    refine wk_iconst (v := 0) C dX0_between_17 rfl ?_
    obtain ⟨rfl, rfl⟩ := Prod.mk.inj (Option.some.inj hf)
    exact wk_iret C rfl rfl dX0_between_18
  · refine wk_callVT (av := [vI p1, vI p2]) (rest := [vI (0 : Int32), vR p3]) C h_b1 rx_0 cx_X0_24 (mt_X1_between (wk_C.tr C) h_σ2) rfl (Nat.le_of_ble_eq_true rfl) (Nat.le_of_ble_eq_true rfl) (Nat.le_of_ble_eq_true rfl) dX0_between_5 ?_
    by_cases c_ : ho_k σ2 (some q5) = some 220
    · rw [if_pos c_] at hf
      refine wk_catchK C c_ rx_220 [] ⟨0, 10, 13, 18⟩ [] rfl ((List.forall_mem_nil _)) (by decide +kernel) (by decide) q3096 q3128 rfl ?_
      refine wk_sub (L' := []) [] rfl ?_
      exact wb_X0_between_b13 C  _ _ hf
    rw [if_neg c_] at hf
    clear c_
    cases hf
set_option maxHeartbeats 4000000 in
theorem wb_X0_degree_b12 {E : Ev} {K : Kx} (C : wk_C E K yX0_degree cX0_degree 4 (Option.some FieldType.int) 9 163 (tableOf [(0, 9, 12, 18)])) {r : Int32} {σ' : Hs} (t0 : Option Nat) (σ : Hs) (hf : fn_X0_degree_b12 t0 σ = some (r, σ')) : wk_V E K (.inl (some (.int r))) σ' σ 12 [] [vR t0] := by
  unfold fn_X0_degree_b12 at hf
  refine wk_astore_n (L' := [(3, vR t0)]) C (by decide) rfl dX0_degree_12 ?_
  refine wk_iconst (v := 1) C dX0_degree_13 rfl ?_
  obtain ⟨rfl, rfl⟩ := Prod.mk.inj (Option.some.inj hf)
  exact wk_iret C rfl rfl dX0_degree_14
set_option maxHeartbeats 4000000 in
theorem mt_X0_degree {E : Ev} {l : Launch} (hl : l.stackTraces = false) {p0 : Option Nat} {p1 : Int32} {p2 : Option Nat} {σ : Hs} {r : Int32} {σ' : Hs} (hf : fn_X0_degree p0 p1 p2 σ = some (r, σ')) : wk_M E l yX0_degree (wsW_ yX0_degree cX0_degree 4 (Option.some FieldType.int) [(0, 9, 12, 18)]) 9 163 [vR p0, vI p1, vR p2] σ (.inl (some (.int r))) σ' := by
  refine wk_startW (by decide +kernel) hl (Nat.le_of_ble_eq_true rfl) (fun K C hK => ?_)
  subst hK
  refine wk_L (L' := [(0, vR p0), (1, vI p1), (2, vR p2)]) rfl ?_
  unfold fn_X0_degree at hf
  refine wk_aload_n C 2 rfl dX0_degree_0 ?_
  refine wk_iconst (v := 0) C dX0_degree_1 rfl ?_
  refine wk_aload_n C 0 rfl dX0_degree_2 ?_
  refine wk_iload_n C 1 rfl dX0_degree_3 ?_
  obtain ⟨b1, h_b1, hf⟩ := ho_b hf
  obtain ⟨v3, σ2, h_σ2, hf⟩ := ho_e2 hf
  rcases ho_xe hf with ⟨x4, rfl, hf⟩ | ⟨q5, rfl, hf⟩
  · refine wk_callV (av := [vI p1]) (rest := [vI (0 : Int32), vR p2]) (rv := some (vI x4)) C h_b1 rx_0 cx_X0_27 (mt_X1_degree (wk_C.tr C) h_σ2) rfl rfl (Nat.le_of_ble_eq_true rfl) (Nat.le_of_ble_eq_true rfl) (Nat.le_of_ble_eq_true rfl) dX0_degree_4 ?_
    refine wk_i2l C dX0_degree_7 ?_
    obtain ⟨σ6, h_σ6, hf⟩ := ho_b hf
    refine wk_last C h_σ6 dX0_degree_8 ?_
    refine wk_goto C 15 (by decide) dX0_degree_9 ?_
    refine wk_iconst (v := 0) C dX0_degree_15 rfl ?_
    obtain ⟨rfl, rfl⟩ := Prod.mk.inj (Option.some.inj hf)
    exact wk_iret C rfl rfl dX0_degree_16
  · refine wk_callVT (av := [vI p1]) (rest := [vI (0 : Int32), vR p2]) C h_b1 rx_0 cx_X0_27 (mt_X1_degree (wk_C.tr C) h_σ2) rfl (Nat.le_of_ble_eq_true rfl) (Nat.le_of_ble_eq_true rfl) (Nat.le_of_ble_eq_true rfl) dX0_degree_4 ?_
    by_cases c_ : ho_k σ2 (some q5) = some 220
    · rw [if_pos c_] at hf
      refine wk_catchK C c_ rx_220 [] ⟨0, 9, 12, 18⟩ [] rfl ((List.forall_mem_nil _)) (by decide +kernel) (by decide) q3096 q3128 rfl ?_
      refine wk_sub (L' := []) [] rfl ?_
      exact wb_X0_degree_b12 C  _ _ hf
    rw [if_neg c_] at hf
    clear c_
    cases hf
set_option maxHeartbeats 4000000 in
theorem wb_X0_displacement_b15 {E : Ev} {K : Kx} (C : wk_C E K yX0_displacement cX0_displacement 6 (Option.some FieldType.int) 10 188 (tableOf [(0, 12, 15, 18)])) {r : Int32} {σ' : Hs} (t0 : Option Nat) (σ : Hs) (hf : fn_X0_displacement_b15 t0 σ = some (r, σ')) : wk_V E K (.inl (some (.int r))) σ' σ 15 [] [vR t0] := by
  unfold fn_X0_displacement_b15 at hf
  refine wk_astore (L' := [(5, vR t0)]) C (by decide) rfl dX0_displacement_15 ?_
  refine wk_iconst (v := 1) C dX0_displacement_17 rfl ?_
  obtain ⟨rfl, rfl⟩ := Prod.mk.inj (Option.some.inj hf)
  exact wk_iret C rfl rfl dX0_displacement_18
set_option maxHeartbeats 4000000 in
theorem mt_X0_displacement {E : Ev} {l : Launch} (hl : l.stackTraces = false) {p0 : Option Nat} {p1 : Int32} {p2 : Int32} {p3 : Int32} {p4 : Option Nat} {σ : Hs} {r : Int32} {σ' : Hs} (hf : fn_X0_displacement p0 p1 p2 p3 p4 σ = some (r, σ')) : wk_M E l yX0_displacement (wsW_ yX0_displacement cX0_displacement 6 (Option.some FieldType.int) [(0, 12, 15, 18)]) 10 188 [vR p0, vI p1, vI p2, vI p3, vR p4] σ (.inl (some (.int r))) σ' := by
  refine wk_startW (by decide +kernel) hl (Nat.le_of_ble_eq_true rfl) (fun K C hK => ?_)
  subst hK
  refine wk_L (L' := [(0, vR p0), (1, vI p1), (2, vI p2), (3, vI p3), (4, vR p4)]) rfl ?_
  unfold fn_X0_displacement at hf
  refine wk_aload C 4 rfl dX0_displacement_0 ?_
  refine wk_iconst (v := 0) C dX0_displacement_2 rfl ?_
  refine wk_aload_n C 0 rfl dX0_displacement_3 ?_
  refine wk_iload_n C 1 rfl dX0_displacement_4 ?_
  refine wk_iload_n C 2 rfl dX0_displacement_5 ?_
  refine wk_iload_n C 3 rfl dX0_displacement_6 ?_
  obtain ⟨b1, h_b1, hf⟩ := ho_b hf
  obtain ⟨v3, σ2, h_σ2, hf⟩ := ho_e2 hf
  rcases ho_xe hf with ⟨x4, rfl, hf⟩ | ⟨q5, rfl, hf⟩
  · refine wk_callV (av := [vI p1, vI p2, vI p3]) (rest := [vI (0 : Int32), vR p4]) (rv := some (vI x4)) C h_b1 rx_0 cx_X0_30 (mt_X1_displacement (wk_C.tr C) h_σ2) rfl rfl (Nat.le_of_ble_eq_true rfl) (Nat.le_of_ble_eq_true rfl) (Nat.le_of_ble_eq_true rfl) dX0_displacement_7 ?_
    refine wk_i2l C dX0_displacement_10 ?_
    obtain ⟨σ6, h_σ6, hf⟩ := ho_b hf
    refine wk_last C h_σ6 dX0_displacement_11 ?_
    refine wk_goto C 19 (by decide) dX0_displacement_12 ?_
    refine wk_iconst (v := 0) C dX0_displacement_19 rfl ?_
    obtain ⟨rfl, rfl⟩ := Prod.mk.inj (Option.some.inj hf)
    exact wk_iret C rfl rfl dX0_displacement_20
  · refine wk_callVT (av := [vI p1, vI p2, vI p3]) (rest := [vI (0 : Int32), vR p4]) C h_b1 rx_0 cx_X0_30 (mt_X1_displacement (wk_C.tr C) h_σ2) rfl (Nat.le_of_ble_eq_true rfl) (Nat.le_of_ble_eq_true rfl) (Nat.le_of_ble_eq_true rfl) dX0_displacement_7 ?_
    by_cases c_ : ho_k σ2 (some q5) = some 220
    · rw [if_pos c_] at hf
      refine wk_catchK C c_ rx_220 [] ⟨0, 12, 15, 18⟩ [] rfl ((List.forall_mem_nil _)) (by decide +kernel) (by decide) q3096 q3128 rfl ?_
      refine wk_sub (L' := []) [] rfl ?_
      exact wb_X0_displacement_b15 C  _ _ hf
    rw [if_neg c_] at hf
    clear c_
    cases hf
set_option maxHeartbeats 4000000 in
theorem wb_X0_force_b13 {E : Ev} {K : Kx} (C : wk_C E K yX0_force cX0_force 5 (Option.some FieldType.int) 10 187 (tableOf [(0, 10, 13, 18)])) {r : Int32} {σ' : Hs} (t0 : Option Nat) (σ : Hs) (hf : fn_X0_force_b13 t0 σ = some (r, σ')) : wk_V E K (.inl (some (.int r))) σ' σ 13 [] [vR t0] := by
  unfold fn_X0_force_b13 at hf
  refine wk_astore (L' := [(4, vR t0)]) C (by decide) rfl dX0_force_13 ?_
  refine wk_iconst (v := 1) C dX0_force_15 rfl ?_
  obtain ⟨rfl, rfl⟩ := Prod.mk.inj (Option.some.inj hf)
  exact wk_iret C rfl rfl dX0_force_16
set_option maxHeartbeats 4000000 in
theorem mt_X0_force {E : Ev} {l : Launch} (hl : l.stackTraces = false) {p0 : Option Nat} {p1 : Int32} {p2 : Int32} {p3 : Option Nat} {σ : Hs} {r : Int32} {σ' : Hs} (hf : fn_X0_force p0 p1 p2 p3 σ = some (r, σ')) : wk_M E l yX0_force (wsW_ yX0_force cX0_force 5 (Option.some FieldType.int) [(0, 10, 13, 18)]) 10 187 [vR p0, vI p1, vI p2, vR p3] σ (.inl (some (.int r))) σ' := by
  refine wk_startW (by decide +kernel) hl (Nat.le_of_ble_eq_true rfl) (fun K C hK => ?_)
  subst hK
  refine wk_L (L' := [(0, vR p0), (1, vI p1), (2, vI p2), (3, vR p3)]) rfl ?_
  unfold fn_X0_force at hf
  refine wk_aload_n C 3 rfl dX0_force_0 ?_
  refine wk_iconst (v := 0) C dX0_force_1 rfl ?_
  refine wk_aload_n C 0 rfl dX0_force_2 ?_
  refine wk_iload_n C 1 rfl dX0_force_3 ?_
  refine wk_iload_n C 2 rfl dX0_force_4 ?_
  obtain ⟨b1, h_b1, hf⟩ := ho_b hf
  obtain ⟨v3, σ2, h_σ2, hf⟩ := ho_e2 hf
  rcases ho_xe hf with ⟨x4, rfl, hf⟩ | ⟨q5, rfl, hf⟩
  · refine wk_callV (av := [vI p1, vI p2]) (rest := [vI (0 : Int32), vR p3]) (rv := some (vI x4)) C h_b1 rx_0 cx_X0_34 (mt_X1_force (wk_C.tr C) h_σ2) rfl rfl (Nat.le_of_ble_eq_true rfl) (Nat.le_of_ble_eq_true rfl) (Nat.le_of_ble_eq_true rfl) dX0_force_5 ?_
    refine wk_i2l C dX0_force_8 ?_
    obtain ⟨σ6, h_σ6, hf⟩ := ho_b hf
    refine wk_last C h_σ6 dX0_force_9 ?_
    refine wk_goto C 17 (by decide) dX0_force_10 ?_
    refine wk_iconst (v := 0) C dX0_force_17 rfl ?_
    obtain ⟨rfl, rfl⟩ := Prod.mk.inj (Option.some.inj hf)
    exact wk_iret C rfl rfl dX0_force_18
  · refine wk_callVT (av := [vI p1, vI p2]) (rest := [vI (0 : Int32), vR p3]) C h_b1 rx_0 cx_X0_34 (mt_X1_force (wk_C.tr C) h_σ2) rfl (Nat.le_of_ble_eq_true rfl) (Nat.le_of_ble_eq_true rfl) (Nat.le_of_ble_eq_true rfl) dX0_force_5 ?_
    by_cases c_ : ho_k σ2 (some q5) = some 220
    · rw [if_pos c_] at hf
      refine wk_catchK C c_ rx_220 [] ⟨0, 10, 13, 18⟩ [] rfl ((List.forall_mem_nil _)) (by decide +kernel) (by decide) q3096 q3128 rfl ?_
      refine wk_sub (L' := []) [] rfl ?_
      exact wb_X0_force_b13 C  _ _ hf
    rw [if_neg c_] at hf
    clear c_
    cases hf
set_option maxHeartbeats 4000000 in
theorem wb_X0_residual_b15 {E : Ev} {K : Kx} (C : wk_C E K yX0_residual cX0_residual 6 (Option.some FieldType.int) 10 188 (tableOf [(0, 12, 15, 18)])) {r : Int32} {σ' : Hs} (t0 : Option Nat) (σ : Hs) (hf : fn_X0_residual_b15 t0 σ = some (r, σ')) : wk_V E K (.inl (some (.int r))) σ' σ 15 [] [vR t0] := by
  unfold fn_X0_residual_b15 at hf
  refine wk_astore (L' := [(5, vR t0)]) C (by decide) rfl dX0_residual_15 ?_
  refine wk_iconst (v := 1) C dX0_residual_17 rfl ?_
  obtain ⟨rfl, rfl⟩ := Prod.mk.inj (Option.some.inj hf)
  exact wk_iret C rfl rfl dX0_residual_18
set_option maxHeartbeats 4000000 in
theorem mt_X0_residual {E : Ev} {l : Launch} (hl : l.stackTraces = false) {p0 : Option Nat} {p1 : Int32} {p2 : Int32} {p3 : Int32} {p4 : Option Nat} {σ : Hs} {r : Int32} {σ' : Hs} (hf : fn_X0_residual p0 p1 p2 p3 p4 σ = some (r, σ')) : wk_M E l yX0_residual (wsW_ yX0_residual cX0_residual 6 (Option.some FieldType.int) [(0, 12, 15, 18)]) 10 188 [vR p0, vI p1, vI p2, vI p3, vR p4] σ (.inl (some (.int r))) σ' := by
  refine wk_startW (by decide +kernel) hl (Nat.le_of_ble_eq_true rfl) (fun K C hK => ?_)
  subst hK
  refine wk_L (L' := [(0, vR p0), (1, vI p1), (2, vI p2), (3, vI p3), (4, vR p4)]) rfl ?_
  unfold fn_X0_residual at hf
  refine wk_aload C 4 rfl dX0_residual_0 ?_
  refine wk_iconst (v := 0) C dX0_residual_2 rfl ?_
  refine wk_aload_n C 0 rfl dX0_residual_3 ?_
  refine wk_iload_n C 1 rfl dX0_residual_4 ?_
  refine wk_iload_n C 2 rfl dX0_residual_5 ?_
  refine wk_iload_n C 3 rfl dX0_residual_6 ?_
  obtain ⟨b1, h_b1, hf⟩ := ho_b hf
  obtain ⟨v3, σ2, h_σ2, hf⟩ := ho_e2 hf
  rcases ho_xe hf with ⟨x4, rfl, hf⟩ | ⟨q5, rfl, hf⟩
  · refine wk_callV (av := [vI p1, vI p2, vI p3]) (rest := [vI (0 : Int32), vR p4]) (rv := some (vI x4)) C h_b1 rx_0 cx_X0_37 (mt_X1_residual (wk_C.tr C) h_σ2) rfl rfl (Nat.le_of_ble_eq_true rfl) (Nat.le_of_ble_eq_true rfl) (Nat.le_of_ble_eq_true rfl) dX0_residual_7 ?_
    refine wk_i2l C dX0_residual_10 ?_
    obtain ⟨σ6, h_σ6, hf⟩ := ho_b hf
    refine wk_last C h_σ6 dX0_residual_11 ?_
    refine wk_goto C 19 (by decide) dX0_residual_12 ?_
    refine wk_iconst (v := 0) C dX0_residual_19 rfl ?_
    obtain ⟨rfl, rfl⟩ := Prod.mk.inj (Option.some.inj hf)
    exact wk_iret C rfl rfl dX0_residual_20
  · refine wk_callVT (av := [vI p1, vI p2, vI p3]) (rest := [vI (0 : Int32), vR p4]) C h_b1 rx_0 cx_X0_37 (mt_X1_residual (wk_C.tr C) h_σ2) rfl (Nat.le_of_ble_eq_true rfl) (Nat.le_of_ble_eq_true rfl) (Nat.le_of_ble_eq_true rfl) dX0_residual_7 ?_
    by_cases c_ : ho_k σ2 (some q5) = some 220
    · rw [if_pos c_] at hf
      refine wk_catchK C c_ rx_220 [] ⟨0, 12, 15, 18⟩ [] rfl ((List.forall_mem_nil _)) (by decide +kernel) (by decide) q3096 q3128 rfl ?_
      refine wk_sub (L' := []) [] rfl ?_
      exact wb_X0_residual_b15 C  _ _ hf
    rw [if_neg c_] at hf
    clear c_
    cases hf
set_option maxHeartbeats 4000000 in
theorem wb_X0_buckling_b12 {E : Ev} {K : Kx} (C : wk_C E K yX0_buckling cX0_buckling 4 (Option.some FieldType.int) 9 162 (tableOf [(0, 9, 12, 18)])) {r : Int32} {σ' : Hs} (t0 : Option Nat) (σ : Hs) (hf : fn_X0_buckling_b12 t0 σ = some (r, σ')) : wk_V E K (.inl (some (.int r))) σ' σ 12 [] [vR t0] := by
  unfold fn_X0_buckling_b12 at hf
  refine wk_astore_n (L' := [(3, vR t0)]) C (by decide) rfl dX0_buckling_12 ?_
  refine wk_iconst (v := 1) C dX0_buckling_13 rfl ?_
  obtain ⟨rfl, rfl⟩ := Prod.mk.inj (Option.some.inj hf)
  exact wk_iret C rfl rfl dX0_buckling_14
set_option maxHeartbeats 4000000 in
theorem mt_X0_buckling {E : Ev} {l : Launch} (hl : l.stackTraces = false) {p0 : Option Nat} {p1 : Int32} {p2 : Option Nat} {σ : Hs} {r : Int32} {σ' : Hs} (hf : fn_X0_buckling p0 p1 p2 σ = some (r, σ')) : wk_M E l yX0_buckling (wsW_ yX0_buckling cX0_buckling 4 (Option.some FieldType.int) [(0, 9, 12, 18)]) 9 162 [vR p0, vI p1, vR p2] σ (.inl (some (.int r))) σ' := by
  refine wk_startW (by decide +kernel) hl (Nat.le_of_ble_eq_true rfl) (fun K C hK => ?_)
  subst hK
  refine wk_L (L' := [(0, vR p0), (1, vI p1), (2, vR p2)]) rfl ?_
  unfold fn_X0_buckling at hf
  refine wk_aload_n C 2 rfl dX0_buckling_0 ?_
  refine wk_iconst (v := 0) C dX0_buckling_1 rfl ?_
  refine wk_aload_n C 0 rfl dX0_buckling_2 ?_
  refine wk_iload_n C 1 rfl dX0_buckling_3 ?_
  obtain ⟨b1, h_b1, hf⟩ := ho_b hf
  obtain ⟨v3, σ2, h_σ2, hf⟩ := ho_e2 hf
  rcases ho_xe hf with ⟨x4, rfl, hf⟩ | ⟨q5, rfl, hf⟩
  · refine wk_callV (av := [vI p1]) (rest := [vI (0 : Int32), vR p2]) (rv := some (vI x4)) C h_b1 rx_0 cx_X0_40 (mt_X1_buckling (wk_C.tr C) h_σ2) rfl rfl (Nat.le_of_ble_eq_true rfl) (Nat.le_of_ble_eq_true rfl) (Nat.le_of_ble_eq_true rfl) dX0_buckling_4 ?_
    refine wk_i2l C dX0_buckling_7 ?_
    obtain ⟨σ6, h_σ6, hf⟩ := ho_b hf
    refine wk_last C h_σ6 dX0_buckling_8 ?_
    refine wk_goto C 15 (by decide) dX0_buckling_9 ?_
    refine wk_iconst (v := 0) C dX0_buckling_15 rfl ?_
    obtain ⟨rfl, rfl⟩ := Prod.mk.inj (Option.some.inj hf)
    exact wk_iret C rfl rfl dX0_buckling_16
  · refine wk_callVT (av := [vI p1]) (rest := [vI (0 : Int32), vR p2]) C h_b1 rx_0 cx_X0_40 (mt_X1_buckling (wk_C.tr C) h_σ2) rfl (Nat.le_of_ble_eq_true rfl) (Nat.le_of_ble_eq_true rfl) (Nat.le_of_ble_eq_true rfl) dX0_buckling_4 ?_
    by_cases c_ : ho_k σ2 (some q5) = some 220
    · rw [if_pos c_] at hf
      refine wk_catchK C c_ rx_220 [] ⟨0, 9, 12, 18⟩ [] rfl ((List.forall_mem_nil _)) (by decide +kernel) (by decide) q3096 q3128 rfl ?_
      refine wk_sub (L' := []) [] rfl ?_
      exact wb_X0_buckling_b12 C  _ _ hf
    rw [if_neg c_] at hf
    clear c_
    cases hf
set_option maxHeartbeats 4000000 in
theorem wb_X0_capacity_b13 {E : Ev} {K : Kx} (C : wk_C E K yX0_capacity cX0_capacity 5 (Option.some FieldType.int) 9 163 (tableOf [(0, 10, 13, 18)])) {r : Int32} {σ' : Hs} (t0 : Option Nat) (σ : Hs) (hf : fn_X0_capacity_b13 t0 σ = some (r, σ')) : wk_V E K (.inl (some (.int r))) σ' σ 13 [] [vR t0] := by
  unfold fn_X0_capacity_b13 at hf
  refine wk_astore (L' := [(4, vR t0)]) C (by decide) rfl dX0_capacity_13 ?_
  refine wk_iconst (v := 1) C dX0_capacity_15 rfl ?_
  obtain ⟨rfl, rfl⟩ := Prod.mk.inj (Option.some.inj hf)
  exact wk_iret C rfl rfl dX0_capacity_16
set_option maxHeartbeats 4000000 in
theorem mt_X0_capacity {E : Ev} {l : Launch} (hl : l.stackTraces = false) {p0 : Option Nat} {p1 : Int32} {p2 : Int32} {p3 : Option Nat} {σ : Hs} {r : Int32} {σ' : Hs} (hf : fn_X0_capacity p0 p1 p2 p3 σ = some (r, σ')) : wk_M E l yX0_capacity (wsW_ yX0_capacity cX0_capacity 5 (Option.some FieldType.int) [(0, 10, 13, 18)]) 9 163 [vR p0, vI p1, vI p2, vR p3] σ (.inl (some (.int r))) σ' := by
  refine wk_startW (by decide +kernel) hl (Nat.le_of_ble_eq_true rfl) (fun K C hK => ?_)
  subst hK
  refine wk_L (L' := [(0, vR p0), (1, vI p1), (2, vI p2), (3, vR p3)]) rfl ?_
  unfold fn_X0_capacity at hf
  refine wk_aload_n C 3 rfl dX0_capacity_0 ?_
  refine wk_iconst (v := 0) C dX0_capacity_1 rfl ?_
  refine wk_aload_n C 0 rfl dX0_capacity_2 ?_
  refine wk_iload_n C 1 rfl dX0_capacity_3 ?_
  refine wk_iload_n C 2 rfl dX0_capacity_4 ?_
  obtain ⟨b1, h_b1, hf⟩ := ho_b hf
  obtain ⟨v3, σ2, h_σ2, hf⟩ := ho_e2 hf
  rcases ho_xe hf with ⟨x4, rfl, hf⟩ | ⟨q5, rfl, hf⟩
  · refine wk_callV (av := [vI p1, vI p2]) (rest := [vI (0 : Int32), vR p3]) (rv := some (vI x4)) C h_b1 rx_0 cx_X0_43 (mt_X1_capacity (wk_C.tr C) h_σ2) rfl rfl (Nat.le_of_ble_eq_true rfl) (Nat.le_of_ble_eq_true rfl) (Nat.le_of_ble_eq_true rfl) dX0_capacity_5 ?_
    refine wk_i2l C dX0_capacity_8 ?_
    obtain ⟨σ6, h_σ6, hf⟩ := ho_b hf
    refine wk_last C h_σ6 dX0_capacity_9 ?_
    refine wk_goto C 17 (by decide) dX0_capacity_10 ?_
    refine wk_iconst (v := 0) C dX0_capacity_17 rfl ?_
    obtain ⟨rfl, rfl⟩ := Prod.mk.inj (Option.some.inj hf)
    exact wk_iret C rfl rfl dX0_capacity_18
  · refine wk_callVT (av := [vI p1, vI p2]) (rest := [vI (0 : Int32), vR p3]) C h_b1 rx_0 cx_X0_43 (mt_X1_capacity (wk_C.tr C) h_σ2) rfl (Nat.le_of_ble_eq_true rfl) (Nat.le_of_ble_eq_true rfl) (Nat.le_of_ble_eq_true rfl) dX0_capacity_5 ?_
    by_cases c_ : ho_k σ2 (some q5) = some 220
    · rw [if_pos c_] at hf
      refine wk_catchK C c_ rx_220 [] ⟨0, 10, 13, 18⟩ [] rfl ((List.forall_mem_nil _)) (by decide +kernel) (by decide) q3096 q3128 rfl ?_
      refine wk_sub (L' := []) [] rfl ?_
      exact wb_X0_capacity_b13 C  _ _ hf
    rw [if_neg c_] at hf
    clear c_
    cases hf
set_option maxHeartbeats 4000000 in
theorem wb_X0_use_b13 {E : Ev} {K : Kx} (C : wk_C E K yX0_use cX0_use 5 (Option.some FieldType.int) 10 187 (tableOf [(0, 10, 13, 18)])) {r : Int32} {σ' : Hs} (t0 : Option Nat) (σ : Hs) (hf : fn_X0_use_b13 t0 σ = some (r, σ')) : wk_V E K (.inl (some (.int r))) σ' σ 13 [] [vR t0] := by
  unfold fn_X0_use_b13 at hf
  refine wk_astore (L' := [(4, vR t0)]) C (by decide) rfl dX0_use_13 ?_
  refine wk_iconst (v := 1) C dX0_use_15 rfl ?_
  obtain ⟨rfl, rfl⟩ := Prod.mk.inj (Option.some.inj hf)
  exact wk_iret C rfl rfl dX0_use_16
set_option maxHeartbeats 4000000 in
theorem mt_X0_use {E : Ev} {l : Launch} (hl : l.stackTraces = false) {p0 : Option Nat} {p1 : Int32} {p2 : Int32} {p3 : Option Nat} {σ : Hs} {r : Int32} {σ' : Hs} (hf : fn_X0_use p0 p1 p2 p3 σ = some (r, σ')) : wk_M E l yX0_use (wsW_ yX0_use cX0_use 5 (Option.some FieldType.int) [(0, 10, 13, 18)]) 10 187 [vR p0, vI p1, vI p2, vR p3] σ (.inl (some (.int r))) σ' := by
  refine wk_startW (by decide +kernel) hl (Nat.le_of_ble_eq_true rfl) (fun K C hK => ?_)
  subst hK
  refine wk_L (L' := [(0, vR p0), (1, vI p1), (2, vI p2), (3, vR p3)]) rfl ?_
  unfold fn_X0_use at hf
  refine wk_aload_n C 3 rfl dX0_use_0 ?_
  refine wk_iconst (v := 0) C dX0_use_1 rfl ?_
  refine wk_aload_n C 0 rfl dX0_use_2 ?_
  refine wk_iload_n C 1 rfl dX0_use_3 ?_
  refine wk_iload_n C 2 rfl dX0_use_4 ?_
  obtain ⟨b1, h_b1, hf⟩ := ho_b hf
  obtain ⟨v3, σ2, h_σ2, hf⟩ := ho_e2 hf
  rcases ho_xe hf with ⟨x4, rfl, hf⟩ | ⟨q5, rfl, hf⟩
  · refine wk_callV (av := [vI p1, vI p2]) (rest := [vI (0 : Int32), vR p3]) (rv := some (vI x4)) C h_b1 rx_0 cx_X0_47 (mt_X1_use (wk_C.tr C) h_σ2) rfl rfl (Nat.le_of_ble_eq_true rfl) (Nat.le_of_ble_eq_true rfl) (Nat.le_of_ble_eq_true rfl) dX0_use_5 ?_
    refine wk_i2l C dX0_use_8 ?_
    obtain ⟨σ6, h_σ6, hf⟩ := ho_b hf
    refine wk_last C h_σ6 dX0_use_9 ?_
    refine wk_goto C 17 (by decide) dX0_use_10 ?_
    refine wk_iconst (v := 0) C dX0_use_17 rfl ?_
    obtain ⟨rfl, rfl⟩ := Prod.mk.inj (Option.some.inj hf)
    exact wk_iret C rfl rfl dX0_use_18
  · refine wk_callVT (av := [vI p1, vI p2]) (rest := [vI (0 : Int32), vR p3]) C h_b1 rx_0 cx_X0_47 (mt_X1_use (wk_C.tr C) h_σ2) rfl (Nat.le_of_ble_eq_true rfl) (Nat.le_of_ble_eq_true rfl) (Nat.le_of_ble_eq_true rfl) dX0_use_5 ?_
    by_cases c_ : ho_k σ2 (some q5) = some 220
    · rw [if_pos c_] at hf
      refine wk_catchK C c_ rx_220 [] ⟨0, 10, 13, 18⟩ [] rfl ((List.forall_mem_nil _)) (by decide +kernel) (by decide) q3096 q3128 rfl ?_
      refine wk_sub (L' := []) [] rfl ?_
      exact wb_X0_use_b13 C  _ _ hf
    rw [if_neg c_] at hf
    clear c_
    cases hf
set_option maxHeartbeats 4000000 in
theorem wb_X0_failure_b13 {E : Ev} {K : Kx} (C : wk_C E K yX0_failure cX0_failure 5 (Option.some FieldType.int) 9 210 (tableOf [(0, 10, 13, 18)])) {r : Int32} {σ' : Hs} (t0 : Option Nat) (σ : Hs) (hf : fn_X0_failure_b13 E.2.2.1 t0 σ = some (r, σ')) : wk_V E K (.inl (some (.int r))) σ' σ 13 [] [vR t0] := by
  unfold fn_X0_failure_b13 at hf
  refine wk_astore (L' := [(4, vR t0)]) C (by decide) rfl dX0_failure_13 ?_
  refine wk_iconst (v := 1) C dX0_failure_15 rfl ?_
  obtain ⟨rfl, rfl⟩ := Prod.mk.inj (Option.some.inj hf)
  exact wk_iret C rfl rfl dX0_failure_16
set_option maxHeartbeats 4000000 in
theorem mt_X0_failure {E : Ev} {l : Launch} (hl : l.stackTraces = false) {p0 : Option Nat} {p1 : Int32} {p2 : Int32} {p3 : Option Nat} {σ : Hs} {r : Int32} {σ' : Hs} (hf : fn_X0_failure E.2.2.1 p0 p1 p2 p3 σ = some (r, σ')) : wk_M E l yX0_failure (wsW_ yX0_failure cX0_failure 5 (Option.some FieldType.int) [(0, 10, 13, 18)]) 9 210 [vR p0, vI p1, vI p2, vR p3] σ (.inl (some (.int r))) σ' := by
  refine wk_startW (by decide +kernel) hl (Nat.le_of_ble_eq_true rfl) (fun K C hK => ?_)
  subst hK
  refine wk_L (L' := [(0, vR p0), (1, vI p1), (2, vI p2), (3, vR p3)]) rfl ?_
  unfold fn_X0_failure at hf
  refine wk_aload_n C 3 rfl dX0_failure_0 ?_
  refine wk_iconst (v := 0) C dX0_failure_1 rfl ?_
  refine wk_aload_n C 0 rfl dX0_failure_2 ?_
  refine wk_iload_n C 1 rfl dX0_failure_3 ?_
  refine wk_iload_n C 2 rfl dX0_failure_4 ?_
  obtain ⟨b1, h_b1, hf⟩ := ho_b hf
  obtain ⟨v3, σ2, h_σ2, hf⟩ := ho_e2 hf
  rcases ho_xe hf with ⟨x4, rfl, hf⟩ | ⟨q5, rfl, hf⟩
  · refine wk_callV (av := [vI p1, vI p2]) (rest := [vI (0 : Int32), vR p3]) (rv := some (vI x4)) C h_b1 rx_0 cx_X0_50 (mt_X1_failure (wk_C.tr C) h_σ2) rfl rfl (Nat.le_of_ble_eq_true rfl) (Nat.le_of_ble_eq_true rfl) (Nat.le_of_ble_eq_true rfl) dX0_failure_5 ?_
    refine wk_i2l C dX0_failure_8 ?_
    obtain ⟨σ6, h_σ6, hf⟩ := ho_b hf
    refine wk_last C h_σ6 dX0_failure_9 ?_
    refine wk_goto C 17 (by decide) dX0_failure_10 ?_
    refine wk_iconst (v := 0) C dX0_failure_17 rfl ?_
    obtain ⟨rfl, rfl⟩ := Prod.mk.inj (Option.some.inj hf)
    exact wk_iret C rfl rfl dX0_failure_18
  · refine wk_callVT (av := [vI p1, vI p2]) (rest := [vI (0 : Int32), vR p3]) C h_b1 rx_0 cx_X0_50 (mt_X1_failure (wk_C.tr C) h_σ2) rfl (Nat.le_of_ble_eq_true rfl) (Nat.le_of_ble_eq_true rfl) (Nat.le_of_ble_eq_true rfl) dX0_failure_5 ?_
    by_cases c_ : ho_k σ2 (some q5) = some 220
    · rw [if_pos c_] at hf
      refine wk_catchK C c_ rx_220 [] ⟨0, 10, 13, 18⟩ [] rfl ((List.forall_mem_nil _)) (by decide +kernel) (by decide) q3096 q3128 rfl ?_
      refine wk_sub (L' := []) [] rfl ?_
      exact wb_X0_failure_b13 C  _ _ hf
    rw [if_neg c_] at hf
    clear c_
    cases hf
set_option maxHeartbeats 4000000 in
theorem wb_X0_isRemovable_b15 {E : Ev} {K : Kx} (C : wk_C E K yX0_isRemovable cX0_isRemovable 4 (Option.some FieldType.int) 10 3199 (tableOf [(0, 16, 19, 18)])) {r : Int32} {σ' : Hs} (t0 : Option Nat) (t1 : Int32) (t2 : Int64) (σ : Hs) (hf : fn_X0_isRemovable_b15 E.2.2.1 t0 t1 t2 σ = some (r, σ')) : wk_V E K (.inl (some (.int r))) σ' σ 15 [] [vJ t2, vI t1, vR t0] := by
  unfold fn_X0_isRemovable_b15 at hf
  obtain ⟨σ1, h_σ1, hf⟩ := ho_b hf
  refine wk_last C h_σ1 dX0_isRemovable_15 ?_
  refine wk_goto C 22 (by decide) dX0_isRemovable_16 ?_
  refine wk_iconst (v := 0) C dX0_isRemovable_22 rfl ?_
  obtain ⟨rfl, rfl⟩ := Prod.mk.inj (Option.some.inj hf)
  exact wk_iret C rfl rfl dX0_isRemovable_23
set_option maxHeartbeats 4000000 in
theorem wb_X0_isRemovable_b19 {E : Ev} {K : Kx} (C : wk_C E K yX0_isRemovable cX0_isRemovable 4 (Option.some FieldType.int) 10 3199 (tableOf [(0, 16, 19, 18)])) {r : Int32} {σ' : Hs} (t0 : Option Nat) (σ : Hs) (hf : fn_X0_isRemovable_b19 E.2.2.1 t0 σ = some (r, σ')) : wk_V E K (.inl (some (.int r))) σ' σ 19 [] [vR t0] := by
  unfold fn_X0_isRemovable_b19 at hf
  refine wk_astore_n (L' := [(3, vR t0)]) C (by decide) rfl dX0_isRemovable_19 ?_
  refine wk_iconst (v := 1) C dX0_isRemovable_20 rfl ?_
  obtain ⟨rfl, rfl⟩ := Prod.mk.inj (Option.some.inj hf)
  exact wk_iret C rfl rfl dX0_isRemovable_21
set_option maxHeartbeats 4000000 in
theorem mt_X0_isRemovable {E : Ev} {l : Launch} (hl : l.stackTraces = false) {p0 : Option Nat} {p1 : Int32} {p2 : Option Nat} {σ : Hs} {r : Int32} {σ' : Hs} (hf : fn_X0_isRemovable E.2.2.1 p0 p1 p2 σ = some (r, σ')) : wk_M E l yX0_isRemovable (wsW_ yX0_isRemovable cX0_isRemovable 4 (Option.some FieldType.int) [(0, 16, 19, 18)]) 10 3199 [vR p0, vI p1, vR p2] σ (.inl (some (.int r))) σ' := by
  refine wk_startW (by decide +kernel) hl (Nat.le_of_ble_eq_true rfl) (fun K C hK => ?_)
  subst hK
  refine wk_L (L' := [(0, vR p0), (1, vI p1), (2, vR p2)]) rfl ?_
  unfold fn_X0_isRemovable at hf
  refine wk_aload_n C 2 rfl dX0_isRemovable_0 ?_
  refine wk_iconst (v := 0) C dX0_isRemovable_1 rfl ?_
  refine wk_aload_n C 0 rfl dX0_isRemovable_2 ?_
  refine wk_iload_n C 1 rfl dX0_isRemovable_3 ?_
  obtain ⟨b2, h_b2, hf⟩ := ho_b hf
  obtain ⟨v4, σ3, h_σ3, hf⟩ := ho_e2 hf
  rcases ho_xe hf with ⟨x5, rfl, hf⟩ | ⟨q6, rfl, hf⟩
  · refine wk_callV (av := [vI p1]) (rest := [vI (0 : Int32), vR p2]) (rv := some (vI x5)) C h_b2 rx_0 cx_X0_53 (mt_X1_isRemovable (wk_C.tr C) h_σ3) rfl rfl (Nat.le_of_ble_eq_true rfl) (Nat.le_of_ble_eq_true rfl) (Nat.le_of_ble_eq_true rfl) dX0_isRemovable_4 ?_
    refine wk_if_eq C 14 (by decide) dX0_isRemovable_7 (fun c_ => ?_) (fun c_ => ?_)
    · rw [if_pos c_] at hf
      refine wk_lconst (v := 0) C dX0_isRemovable_14 rfl ?_
      refine wk_sub (L' := []) [] rfl ?_
      exact wb_X0_isRemovable_b15 C  _ _ _ _ hf
    · rw [if_neg c_] at hf
      refine wk_lconst (v := 1) C dX0_isRemovable_10 rfl ?_
      refine wk_goto C 15 (by decide) dX0_isRemovable_11 ?_
      refine wk_sub (L' := []) [] rfl ?_
      exact wb_X0_isRemovable_b15 C  _ _ _ _ hf
  · refine wk_callVT (av := [vI p1]) (rest := [vI (0 : Int32), vR p2]) C h_b2 rx_0 cx_X0_53 (mt_X1_isRemovable (wk_C.tr C) h_σ3) rfl (Nat.le_of_ble_eq_true rfl) (Nat.le_of_ble_eq_true rfl) (Nat.le_of_ble_eq_true rfl) dX0_isRemovable_4 ?_
    by_cases c_ : ho_k σ3 (some q6) = some 220
    · rw [if_pos c_] at hf
      refine wk_catchK C c_ rx_220 [] ⟨0, 16, 19, 18⟩ [] rfl ((List.forall_mem_nil _)) (by decide +kernel) (by decide) q3096 q3128 rfl ?_
      refine wk_sub (L' := []) [] rfl ?_
      exact wb_X0_isRemovable_b19 C  _ _ hf
    rw [if_neg c_] at hf
    clear c_
    cases hf
set_option maxHeartbeats 4000000 in
theorem wb_X0_smallestArea_b12 {E : Ev} {K : Kx} (C : wk_C E K yX0_smallestArea cX0_smallestArea 4 (Option.some FieldType.int) 10 3197 (tableOf [(0, 9, 12, 18)])) {r : Int32} {σ' : Hs} (t0 : Option Nat) (σ : Hs) (hf : fn_X0_smallestArea_b12 E.2.2.1 t0 σ = some (r, σ')) : wk_V E K (.inl (some (.int r))) σ' σ 12 [] [vR t0] := by
  unfold fn_X0_smallestArea_b12 at hf
  refine wk_astore_n (L' := [(3, vR t0)]) C (by decide) rfl dX0_smallestArea_12 ?_
  refine wk_iconst (v := 1) C dX0_smallestArea_13 rfl ?_
  obtain ⟨rfl, rfl⟩ := Prod.mk.inj (Option.some.inj hf)
  exact wk_iret C rfl rfl dX0_smallestArea_14
set_option maxHeartbeats 4000000 in
theorem mt_X0_smallestArea {E : Ev} {l : Launch} (hl : l.stackTraces = false) {p0 : Option Nat} {p1 : Int32} {p2 : Option Nat} {σ : Hs} {r : Int32} {σ' : Hs} (hf : fn_X0_smallestArea E.2.2.1 p0 p1 p2 σ = some (r, σ')) : wk_M E l yX0_smallestArea (wsW_ yX0_smallestArea cX0_smallestArea 4 (Option.some FieldType.int) [(0, 9, 12, 18)]) 10 3197 [vR p0, vI p1, vR p2] σ (.inl (some (.int r))) σ' := by
  refine wk_startW (by decide +kernel) hl (Nat.le_of_ble_eq_true rfl) (fun K C hK => ?_)
  subst hK
  refine wk_L (L' := [(0, vR p0), (1, vI p1), (2, vR p2)]) rfl ?_
  unfold fn_X0_smallestArea at hf
  refine wk_aload_n C 2 rfl dX0_smallestArea_0 ?_
  refine wk_iconst (v := 0) C dX0_smallestArea_1 rfl ?_
  refine wk_aload_n C 0 rfl dX0_smallestArea_2 ?_
  refine wk_iload_n C 1 rfl dX0_smallestArea_3 ?_
  obtain ⟨b1, h_b1, hf⟩ := ho_b hf
  obtain ⟨v3, σ2, h_σ2, hf⟩ := ho_e2 hf
  rcases ho_xe hf with ⟨x4, rfl, hf⟩ | ⟨q5, rfl, hf⟩
  · refine wk_callV (av := [vI p1]) (rest := [vI (0 : Int32), vR p2]) (rv := some (vI x4)) C h_b1 rx_0 cx_X0_57 (mt_X1_smallestArea (wk_C.tr C) h_σ2) rfl rfl (Nat.le_of_ble_eq_true rfl) (Nat.le_of_ble_eq_true rfl) (Nat.le_of_ble_eq_true rfl) dX0_smallestArea_4 ?_
    refine wk_i2l C dX0_smallestArea_7 ?_
    obtain ⟨σ6, h_σ6, hf⟩ := ho_b hf
    refine wk_last C h_σ6 dX0_smallestArea_8 ?_
    refine wk_goto C 15 (by decide) dX0_smallestArea_9 ?_
    refine wk_iconst (v := 0) C dX0_smallestArea_15 rfl ?_
    obtain ⟨rfl, rfl⟩ := Prod.mk.inj (Option.some.inj hf)
    exact wk_iret C rfl rfl dX0_smallestArea_16
  · refine wk_callVT (av := [vI p1]) (rest := [vI (0 : Int32), vR p2]) C h_b1 rx_0 cx_X0_57 (mt_X1_smallestArea (wk_C.tr C) h_σ2) rfl (Nat.le_of_ble_eq_true rfl) (Nat.le_of_ble_eq_true rfl) (Nat.le_of_ble_eq_true rfl) dX0_smallestArea_4 ?_
    by_cases c_ : ho_k σ2 (some q5) = some 220
    · rw [if_pos c_] at hf
      refine wk_catchK C c_ rx_220 [] ⟨0, 9, 12, 18⟩ [] rfl ((List.forall_mem_nil _)) (by decide +kernel) (by decide) q3096 q3128 rfl ?_
      refine wk_sub (L' := []) [] rfl ?_
      exact wb_X0_smallestArea_b12 C  _ _ hf
    rw [if_neg c_] at hf
    clear c_
    cases hf
set_option maxHeartbeats 4000000 in
theorem wb_X0_setArea_b13 {E : Ev} {K : Kx} (C : wk_C E K yX0_setArea cX0_setArea 5 (Option.some FieldType.int) 10 3198 (tableOf [(0, 10, 13, 18), (0, 10, 17, 13)])) {r : Int32} {σ' : Hs} (t0 : Option Nat) (σ : Hs) (hf : fn_X0_setArea_b13 E.2.2.1 t0 σ = some (r, σ')) : wk_V E K (.inl (some (.int r))) σ' σ 13 [] [vR t0] := by
  unfold fn_X0_setArea_b13 at hf
  refine wk_astore (L' := [(4, vR t0)]) C (by decide) rfl dX0_setArea_13 ?_
  refine wk_iconst (v := 1) C dX0_setArea_15 rfl ?_
  obtain ⟨rfl, rfl⟩ := Prod.mk.inj (Option.some.inj hf)
  exact wk_iret C rfl rfl dX0_setArea_16
set_option maxHeartbeats 4000000 in
theorem wb_X0_setArea_b17 {E : Ev} {K : Kx} (C : wk_C E K yX0_setArea cX0_setArea 5 (Option.some FieldType.int) 10 3198 (tableOf [(0, 10, 13, 18), (0, 10, 17, 13)])) {r : Int32} {σ' : Hs} (t0 : Option Nat) (σ : Hs) (hf : fn_X0_setArea_b17 E.2.2.1 t0 σ = some (r, σ')) : wk_V E K (.inl (some (.int r))) σ' σ 17 [] [vR t0] := by
  unfold fn_X0_setArea_b17 at hf
  refine wk_astore (L' := [(4, vR t0)]) C (by decide) rfl dX0_setArea_17 ?_
  refine wk_iconst (v := 2) C dX0_setArea_19 rfl ?_
  obtain ⟨rfl, rfl⟩ := Prod.mk.inj (Option.some.inj hf)
  exact wk_iret C rfl rfl dX0_setArea_20
set_option maxHeartbeats 4000000 in
theorem mt_X0_setArea {E : Ev} {l : Launch} (hl : l.stackTraces = false) {p0 : Option Nat} {p1 : Int32} {p2 : Int32} {p3 : Option Nat} {σ : Hs} {r : Int32} {σ' : Hs} (hf : fn_X0_setArea E.2.2.1 p0 p1 p2 p3 σ = some (r, σ')) : wk_M E l yX0_setArea (wsW_ yX0_setArea cX0_setArea 5 (Option.some FieldType.int) [(0, 10, 13, 18), (0, 10, 17, 13)]) 10 3198 [vR p0, vI p1, vI p2, vR p3] σ (.inl (some (.int r))) σ' := by
  refine wk_startW (by decide +kernel) hl (Nat.le_of_ble_eq_true rfl) (fun K C hK => ?_)
  subst hK
  refine wk_L (L' := [(0, vR p0), (1, vI p1), (2, vI p2), (3, vR p3)]) rfl ?_
  unfold fn_X0_setArea at hf
  refine wk_aload_n C 3 rfl dX0_setArea_0 ?_
  refine wk_iconst (v := 0) C dX0_setArea_1 rfl ?_
  refine wk_aload_n C 0 rfl dX0_setArea_2 ?_
  refine wk_iload_n C 1 rfl dX0_setArea_3 ?_
  refine wk_iload_n C 2 rfl dX0_setArea_4 ?_
  obtain ⟨b1, h_b1, hf⟩ := ho_b hf
  obtain ⟨v3, σ2, h_σ2, hf⟩ := ho_e2 hf
  rcases ho_xe hf with ⟨x4, rfl, hf⟩ | ⟨q5, rfl, hf⟩
  · refine wk_callV (av := [vI p1, vI p2]) (rest := [vI (0 : Int32), vR p3]) (rv := some (vI x4)) C h_b1 rx_0 cx_X0_60 (mt_X1_setArea (wk_C.tr C) h_σ2) rfl rfl (Nat.le_of_ble_eq_true rfl) (Nat.le_of_ble_eq_true rfl) (Nat.le_of_ble_eq_true rfl) dX0_setArea_5 ?_
    refine wk_i2l C dX0_setArea_8 ?_
    obtain ⟨σ6, h_σ6, hf⟩ := ho_b hf
    refine wk_last C h_σ6 dX0_setArea_9 ?_
    refine wk_goto C 21 (by decide) dX0_setArea_10 ?_
    refine wk_iconst (v := 0) C dX0_setArea_21 rfl ?_
    obtain ⟨rfl, rfl⟩ := Prod.mk.inj (Option.some.inj hf)
    exact wk_iret C rfl rfl dX0_setArea_22
  · refine wk_callVT (av := [vI p1, vI p2]) (rest := [vI (0 : Int32), vR p3]) C h_b1 rx_0 cx_X0_60 (mt_X1_setArea (wk_C.tr C) h_σ2) rfl (Nat.le_of_ble_eq_true rfl) (Nat.le_of_ble_eq_true rfl) (Nat.le_of_ble_eq_true rfl) dX0_setArea_5 ?_
    by_cases c_ : ho_k σ2 (some q5) = some 220
    · rw [if_pos c_] at hf
      refine wk_catchK C c_ rx_220 [] ⟨0, 10, 13, 18⟩ [⟨0, 10, 17, 13⟩] rfl ((List.forall_mem_nil _)) (by decide +kernel) (by decide) q3096 q3128 rfl ?_
      refine wk_sub (L' := []) [] rfl ?_
      exact wb_X0_setArea_b13 C  _ _ hf
    rw [if_neg c_] at hf
    clear c_
    by_cases c_ : ho_k σ2 (some q5) = some 221
    · rw [if_pos c_] at hf
      refine wk_catchK C c_ rx_221 [⟨0, 10, 13, 18⟩] ⟨0, 10, 17, 13⟩ [] rfl (List.forall_mem_cons.mpr ⟨Or.inr ⟨by decide, "java/lang/IndexOutOfBoundsException", q3096, by decide +kernel⟩, (List.forall_mem_nil _)⟩) (by decide +kernel) (by decide) q2670 q208 rfl ?_
      refine wk_sub (L' := []) [] rfl ?_
      exact wb_X0_setArea_b17 C  _ _ hf
    rw [if_neg c_] at hf
    clear c_
    cases hf
set_option maxHeartbeats 4000000 in
theorem wb_X0_addMember_b15 {E : Ev} {K : Kx} (C : wk_C E K yX0_addMember cX0_addMember 6 (Option.some FieldType.int) 10 3199 (tableOf [(0, 12, 15, 18), (0, 12, 19, 13), (0, 12, 23, 67)])) {r : Int32} {σ' : Hs} (t0 : Option Nat) (σ : Hs) (hf : fn_X0_addMember_b15 E.2.2.1 t0 σ = some (r, σ')) : wk_V E K (.inl (some (.int r))) σ' σ 15 [] [vR t0] := by
  unfold fn_X0_addMember_b15 at hf
  refine wk_astore (L' := [(5, vR t0)]) C (by decide) rfl dX0_addMember_15 ?_
  refine wk_iconst (v := 1) C dX0_addMember_17 rfl ?_
  obtain ⟨rfl, rfl⟩ := Prod.mk.inj (Option.some.inj hf)
  exact wk_iret C rfl rfl dX0_addMember_18
set_option maxHeartbeats 4000000 in
theorem wb_X0_addMember_b19 {E : Ev} {K : Kx} (C : wk_C E K yX0_addMember cX0_addMember 6 (Option.some FieldType.int) 10 3199 (tableOf [(0, 12, 15, 18), (0, 12, 19, 13), (0, 12, 23, 67)])) {r : Int32} {σ' : Hs} (t0 : Option Nat) (σ : Hs) (hf : fn_X0_addMember_b19 E.2.2.1 t0 σ = some (r, σ')) : wk_V E K (.inl (some (.int r))) σ' σ 19 [] [vR t0] := by
  unfold fn_X0_addMember_b19 at hf
  refine wk_astore (L' := [(5, vR t0)]) C (by decide) rfl dX0_addMember_19 ?_
  refine wk_iconst (v := 2) C dX0_addMember_21 rfl ?_
  obtain ⟨rfl, rfl⟩ := Prod.mk.inj (Option.some.inj hf)
  exact wk_iret C rfl rfl dX0_addMember_22
set_option maxHeartbeats 4000000 in
theorem wb_X0_addMember_b23 {E : Ev} {K : Kx} (C : wk_C E K yX0_addMember cX0_addMember 6 (Option.some FieldType.int) 10 3199 (tableOf [(0, 12, 15, 18), (0, 12, 19, 13), (0, 12, 23, 67)])) {r : Int32} {σ' : Hs} (t0 : Option Nat) (σ : Hs) (hf : fn_X0_addMember_b23 E.2.2.1 t0 σ = some (r, σ')) : wk_V E K (.inl (some (.int r))) σ' σ 23 [] [vR t0] := by
  unfold fn_X0_addMember_b23 at hf
  refine wk_astore (L' := [(5, vR t0)]) C (by decide) rfl dX0_addMember_23 ?_
  refine wk_iconst (v := 3) C dX0_addMember_25 rfl ?_
  obtain ⟨rfl, rfl⟩ := Prod.mk.inj (Option.some.inj hf)
  exact wk_iret C rfl rfl dX0_addMember_26
set_option maxHeartbeats 4000000 in
theorem mt_X0_addMember {E : Ev} {l : Launch} (hl : l.stackTraces = false) {p0 : Option Nat} {p1 : Int32} {p2 : Int32} {p3 : Int32} {p4 : Option Nat} {σ : Hs} {r : Int32} {σ' : Hs} (hf : fn_X0_addMember E.2.2.1 p0 p1 p2 p3 p4 σ = some (r, σ')) : wk_M E l yX0_addMember (wsW_ yX0_addMember cX0_addMember 6 (Option.some FieldType.int) [(0, 12, 15, 18), (0, 12, 19, 13), (0, 12, 23, 67)]) 10 3199 [vR p0, vI p1, vI p2, vI p3, vR p4] σ (.inl (some (.int r))) σ' := by
  refine wk_startW (by decide +kernel) hl (Nat.le_of_ble_eq_true rfl) (fun K C hK => ?_)
  subst hK
  refine wk_L (L' := [(0, vR p0), (1, vI p1), (2, vI p2), (3, vI p3), (4, vR p4)]) rfl ?_
  unfold fn_X0_addMember at hf
  refine wk_aload C 4 rfl dX0_addMember_0 ?_
  refine wk_iconst (v := 0) C dX0_addMember_2 rfl ?_
  refine wk_aload_n C 0 rfl dX0_addMember_3 ?_
  refine wk_iload_n C 1 rfl dX0_addMember_4 ?_
  refine wk_iload_n C 2 rfl dX0_addMember_5 ?_
  refine wk_iload_n C 3 rfl dX0_addMember_6 ?_
  obtain ⟨b1, h_b1, hf⟩ := ho_b hf
  obtain ⟨v3, σ2, h_σ2, hf⟩ := ho_e2 hf
  rcases ho_xe hf with ⟨x4, rfl, hf⟩ | ⟨q5, rfl, hf⟩
  · refine wk_callV (av := [vI p1, vI p2, vI p3]) (rest := [vI (0 : Int32), vR p4]) (rv := some (vI x4)) C h_b1 rx_0 cx_X0_63 (mt_X1_addMember (wk_C.tr C) h_σ2) rfl rfl (Nat.le_of_ble_eq_true rfl) (Nat.le_of_ble_eq_true rfl) (Nat.le_of_ble_eq_true rfl) dX0_addMember_7 ?_
    refine wk_i2l C dX0_addMember_10 ?_
    obtain ⟨σ6, h_σ6, hf⟩ := ho_b hf
    refine wk_last C h_σ6 dX0_addMember_11 ?_
    refine wk_goto C 27 (by decide) dX0_addMember_12 ?_
    refine wk_iconst (v := 0) C dX0_addMember_27 rfl ?_
    obtain ⟨rfl, rfl⟩ := Prod.mk.inj (Option.some.inj hf)
    exact wk_iret C rfl rfl dX0_addMember_28
  · refine wk_callVT (av := [vI p1, vI p2, vI p3]) (rest := [vI (0 : Int32), vR p4]) C h_b1 rx_0 cx_X0_63 (mt_X1_addMember (wk_C.tr C) h_σ2) rfl (Nat.le_of_ble_eq_true rfl) (Nat.le_of_ble_eq_true rfl) (Nat.le_of_ble_eq_true rfl) dX0_addMember_7 ?_
    by_cases c_ : ho_k σ2 (some q5) = some 220
    · rw [if_pos c_] at hf
      refine wk_catchK C c_ rx_220 [] ⟨0, 12, 15, 18⟩ [⟨0, 12, 19, 13⟩, ⟨0, 12, 23, 67⟩] rfl ((List.forall_mem_nil _)) (by decide +kernel) (by decide) q3096 q3128 rfl ?_
      refine wk_sub (L' := []) [] rfl ?_
      exact wb_X0_addMember_b15 C  _ _ hf
    rw [if_neg c_] at hf
    clear c_
    by_cases c_ : ho_k σ2 (some q5) = some 221
    · rw [if_pos c_] at hf
      refine wk_catchK C c_ rx_221 [⟨0, 12, 15, 18⟩] ⟨0, 12, 19, 13⟩ [⟨0, 12, 23, 67⟩] rfl (List.forall_mem_cons.mpr ⟨Or.inr ⟨by decide, "java/lang/IndexOutOfBoundsException", q3096, by decide +kernel⟩, (List.forall_mem_nil _)⟩) (by decide +kernel) (by decide) q2670 q208 rfl ?_
      refine wk_sub (L' := []) [] rfl ?_
      exact wb_X0_addMember_b19 C  _ _ hf
    rw [if_neg c_] at hf
    clear c_
    by_cases c_ : ho_k σ2 (some q5) = some 222
    · rw [if_pos c_] at hf
      refine wk_catchK C c_ rx_222 [⟨0, 12, 15, 18⟩, ⟨0, 12, 19, 13⟩] ⟨0, 12, 23, 67⟩ [] rfl (List.forall_mem_cons.mpr ⟨Or.inr ⟨by decide, "java/lang/IndexOutOfBoundsException", q3096, by decide +kernel⟩, List.forall_mem_cons.mpr ⟨Or.inr ⟨by decide, "java/lang/IllegalArgumentException", q2670, by decide +kernel⟩, (List.forall_mem_nil _)⟩⟩) (by decide +kernel) (by decide) q3308 q1782 rfl ?_
      refine wk_sub (L' := []) [] rfl ?_
      exact wb_X0_addMember_b23 C  _ _ hf
    rw [if_neg c_] at hf
    clear c_
    cases hf
set_option maxHeartbeats 4000000 in
theorem wb_X0_removeMember_b12 {E : Ev} {K : Kx} (C : wk_C E K yX0_removeMember cX0_removeMember 4 (Option.some FieldType.int) 10 3198 (tableOf [(0, 9, 12, 18)])) {r : Int32} {σ' : Hs} (t0 : Option Nat) (σ : Hs) (hf : fn_X0_removeMember_b12 E.2.2.1 t0 σ = some (r, σ')) : wk_V E K (.inl (some (.int r))) σ' σ 12 [] [vR t0] := by
  unfold fn_X0_removeMember_b12 at hf
  refine wk_astore_n (L' := [(3, vR t0)]) C (by decide) rfl dX0_removeMember_12 ?_
  refine wk_iconst (v := 1) C dX0_removeMember_13 rfl ?_
  obtain ⟨rfl, rfl⟩ := Prod.mk.inj (Option.some.inj hf)
  exact wk_iret C rfl rfl dX0_removeMember_14
set_option maxHeartbeats 4000000 in
theorem mt_X0_removeMember {E : Ev} {l : Launch} (hl : l.stackTraces = false) {p0 : Option Nat} {p1 : Int32} {p2 : Option Nat} {σ : Hs} {r : Int32} {σ' : Hs} (hf : fn_X0_removeMember E.2.2.1 p0 p1 p2 σ = some (r, σ')) : wk_M E l yX0_removeMember (wsW_ yX0_removeMember cX0_removeMember 4 (Option.some FieldType.int) [(0, 9, 12, 18)]) 10 3198 [vR p0, vI p1, vR p2] σ (.inl (some (.int r))) σ' := by
  refine wk_startW (by decide +kernel) hl (Nat.le_of_ble_eq_true rfl) (fun K C hK => ?_)
  subst hK
  refine wk_L (L' := [(0, vR p0), (1, vI p1), (2, vR p2)]) rfl ?_
  unfold fn_X0_removeMember at hf
  refine wk_aload_n C 2 rfl dX0_removeMember_0 ?_
  refine wk_iconst (v := 0) C dX0_removeMember_1 rfl ?_
  refine wk_aload_n C 0 rfl dX0_removeMember_2 ?_
  refine wk_iload_n C 1 rfl dX0_removeMember_3 ?_
  obtain ⟨b1, h_b1, hf⟩ := ho_b hf
  obtain ⟨v3, σ2, h_σ2, hf⟩ := ho_e2 hf
  rcases ho_xe hf with ⟨x4, rfl, hf⟩ | ⟨q5, rfl, hf⟩
  · refine wk_callV (av := [vI p1]) (rest := [vI (0 : Int32), vR p2]) (rv := some (vI x4)) C h_b1 rx_0 cx_X0_69 (mt_X1_removeMember (wk_C.tr C) h_σ2) rfl rfl (Nat.le_of_ble_eq_true rfl) (Nat.le_of_ble_eq_true rfl) (Nat.le_of_ble_eq_true rfl) dX0_removeMember_4 ?_
    refine wk_i2l C dX0_removeMember_7 ?_
    obtain ⟨σ6, h_σ6, hf⟩ := ho_b hf
    refine wk_last C h_σ6 dX0_removeMember_8 ?_
    refine wk_goto C 15 (by decide) dX0_removeMember_9 ?_
    refine wk_iconst (v := 0) C dX0_removeMember_15 rfl ?_
    obtain ⟨rfl, rfl⟩ := Prod.mk.inj (Option.some.inj hf)
    exact wk_iret C rfl rfl dX0_removeMember_16
  · refine wk_callVT (av := [vI p1]) (rest := [vI (0 : Int32), vR p2]) C h_b1 rx_0 cx_X0_69 (mt_X1_removeMember (wk_C.tr C) h_σ2) rfl (Nat.le_of_ble_eq_true rfl) (Nat.le_of_ble_eq_true rfl) (Nat.le_of_ble_eq_true rfl) dX0_removeMember_4 ?_
    by_cases c_ : ho_k σ2 (some q5) = some 220
    · rw [if_pos c_] at hf
      refine wk_catchK C c_ rx_220 [] ⟨0, 9, 12, 18⟩ [] rfl ((List.forall_mem_nil _)) (by decide +kernel) (by decide) q3096 q3128 rfl ?_
      refine wk_sub (L' := []) [] rfl ?_
      exact wb_X0_removeMember_b12 C  _ _ hf
    rw [if_neg c_] at hf
    clear c_
    cases hf
set_option maxHeartbeats 4000000 in
theorem wb_X0_prune_b11 {E : Ev} {K : Kx} (C : wk_C E K yX0_prune cX0_prune 3 (Option.some FieldType.int) 10 3201 (tableOf [(0, 8, 11, 67)])) {r : Int32} {σ' : Hs} (t0 : Option Nat) (σ : Hs) (hf : fn_X0_prune_b11 E.2.2.1 t0 σ = some (r, σ')) : wk_V E K (.inl (some (.int r))) σ' σ 11 [] [vR t0] := by
  unfold fn_X0_prune_b11 at hf
  refine wk_astore_n (L' := [(2, vR t0)]) C (by decide) rfl dX0_prune_11 ?_
  refine wk_iconst (v := 1) C dX0_prune_12 rfl ?_
  obtain ⟨rfl, rfl⟩ := Prod.mk.inj (Option.some.inj hf)
  exact wk_iret C rfl rfl dX0_prune_13
set_option maxHeartbeats 4000000 in
theorem mt_X0_prune {E : Ev} {l : Launch} (hl : l.stackTraces = false) {p0 : Option Nat} {p1 : Option Nat} {σ : Hs} {r : Int32} {σ' : Hs} (hf : fn_X0_prune E.2.2.1 p0 p1 σ = some (r, σ')) : wk_M E l yX0_prune (wsW_ yX0_prune cX0_prune 3 (Option.some FieldType.int) [(0, 8, 11, 67)]) 10 3201 [vR p0, vR p1] σ (.inl (some (.int r))) σ' := by
  refine wk_startW (by decide +kernel) hl (Nat.le_of_ble_eq_true rfl) (fun K C hK => ?_)
  subst hK
  refine wk_L (L' := [(0, vR p0), (1, vR p1)]) rfl ?_
  unfold fn_X0_prune at hf
  refine wk_aload_n C 1 rfl dX0_prune_0 ?_
  refine wk_iconst (v := 0) C dX0_prune_1 rfl ?_
  refine wk_aload_n C 0 rfl dX0_prune_2 ?_
  obtain ⟨b1, h_b1, hf⟩ := ho_b hf
  obtain ⟨v3, σ2, h_σ2, hf⟩ := ho_e2 hf
  rcases ho_xe hf with ⟨x4, rfl, hf⟩ | ⟨q5, rfl, hf⟩
  · refine wk_callV (av := []) (rest := [vI (0 : Int32), vR p1]) (rv := some (vI x4)) C h_b1 rx_0 cx_X0_72 (mt_X1_prune (wk_C.tr C) h_σ2) rfl rfl (Nat.le_of_ble_eq_true rfl) (Nat.le_of_ble_eq_true rfl) (Nat.le_of_ble_eq_true rfl) dX0_prune_3 ?_
    refine wk_i2l C dX0_prune_6 ?_
    obtain ⟨σ6, h_σ6, hf⟩ := ho_b hf
    refine wk_last C h_σ6 dX0_prune_7 ?_
    refine wk_goto C 14 (by decide) dX0_prune_8 ?_
    refine wk_iconst (v := 0) C dX0_prune_14 rfl ?_
    obtain ⟨rfl, rfl⟩ := Prod.mk.inj (Option.some.inj hf)
    exact wk_iret C rfl rfl dX0_prune_15
  · refine wk_callVT (av := []) (rest := [vI (0 : Int32), vR p1]) C h_b1 rx_0 cx_X0_72 (mt_X1_prune (wk_C.tr C) h_σ2) rfl (Nat.le_of_ble_eq_true rfl) (Nat.le_of_ble_eq_true rfl) (Nat.le_of_ble_eq_true rfl) dX0_prune_3 ?_
    by_cases c_ : ho_k σ2 (some q5) = some 222
    · rw [if_pos c_] at hf
      refine wk_catchK C c_ rx_222 [] ⟨0, 8, 11, 67⟩ [] rfl ((List.forall_mem_nil _)) (by decide +kernel) (by decide) q3308 q1782 rfl ?_
      refine wk_sub (L' := []) [] rfl ?_
      exact wb_X0_prune_b11 C  _ _ hf
    rw [if_neg c_] at hf
    clear c_
    cases hf
set_option maxHeartbeats 4000000 in
theorem wb_X0_shrink_b12 {E : Ev} {K : Kx} (C : wk_C E K yX0_shrink cX0_shrink 4 (Option.some FieldType.int) 11 3220 (tableOf [(0, 9, 12, 18), (0, 9, 15, 67)])) {r : Int32} {σ' : Hs} (t0 : Option Nat) (σ : Hs) (hf : fn_X0_shrink_b12 E.2.2.1 t0 σ = some (r, σ')) : wk_V E K (.inl (some (.int r))) σ' σ 12 [] [vR t0] := by
  unfold fn_X0_shrink_b12 at hf
  refine wk_astore_n (L' := [(3, vR t0)]) C (by decide) rfl dX0_shrink_12 ?_
  refine wk_iconst (v := 1) C dX0_shrink_13 rfl ?_
  obtain ⟨rfl, rfl⟩ := Prod.mk.inj (Option.some.inj hf)
  exact wk_iret C rfl rfl dX0_shrink_14
set_option maxHeartbeats 4000000 in
theorem wb_X0_shrink_b15 {E : Ev} {K : Kx} (C : wk_C E K yX0_shrink cX0_shrink 4 (Option.some FieldType.int) 11 3220 (tableOf [(0, 9, 12, 18), (0, 9, 15, 67)])) {r : Int32} {σ' : Hs} (t0 : Option Nat) (σ : Hs) (hf : fn_X0_shrink_b15 E.2.2.1 t0 σ = some (r, σ')) : wk_V E K (.inl (some (.int r))) σ' σ 15 [] [vR t0] := by
  unfold fn_X0_shrink_b15 at hf
  refine wk_astore_n (L' := [(3, vR t0)]) C (by decide) rfl dX0_shrink_15 ?_
  refine wk_iconst (v := 2) C dX0_shrink_16 rfl ?_
  obtain ⟨rfl, rfl⟩ := Prod.mk.inj (Option.some.inj hf)
  exact wk_iret C rfl rfl dX0_shrink_17
set_option maxHeartbeats 4000000 in
theorem mt_X0_shrink {E : Ev} {l : Launch} (hl : l.stackTraces = false) {p0 : Option Nat} {p1 : Int32} {p2 : Option Nat} {σ : Hs} {r : Int32} {σ' : Hs} (hf : fn_X0_shrink E.2.2.1 p0 p1 p2 σ = some (r, σ')) : wk_M E l yX0_shrink (wsW_ yX0_shrink cX0_shrink 4 (Option.some FieldType.int) [(0, 9, 12, 18), (0, 9, 15, 67)]) 11 3220 [vR p0, vI p1, vR p2] σ (.inl (some (.int r))) σ' := by
  refine wk_startW (by decide +kernel) hl (Nat.le_of_ble_eq_true rfl) (fun K C hK => ?_)
  subst hK
  refine wk_L (L' := [(0, vR p0), (1, vI p1), (2, vR p2)]) rfl ?_
  unfold fn_X0_shrink at hf
  refine wk_aload_n C 2 rfl dX0_shrink_0 ?_
  refine wk_iconst (v := 0) C dX0_shrink_1 rfl ?_
  refine wk_aload_n C 0 rfl dX0_shrink_2 ?_
  refine wk_iload_n C 1 rfl dX0_shrink_3 ?_
  obtain ⟨b1, h_b1, hf⟩ := ho_b hf
  obtain ⟨v3, σ2, h_σ2, hf⟩ := ho_e2 hf
  rcases ho_xe hf with ⟨x4, rfl, hf⟩ | ⟨q5, rfl, hf⟩
  · refine wk_callV (av := [vI p1]) (rest := [vI (0 : Int32), vR p2]) (rv := some (vI x4)) C h_b1 rx_0 cx_X0_76 (mt_X1_shrink (wk_C.tr C) h_σ2) rfl rfl (Nat.le_of_ble_eq_true rfl) (Nat.le_of_ble_eq_true rfl) (Nat.le_of_ble_eq_true rfl) dX0_shrink_4 ?_
    refine wk_i2l C dX0_shrink_7 ?_
    obtain ⟨σ6, h_σ6, hf⟩ := ho_b hf
    refine wk_last C h_σ6 dX0_shrink_8 ?_
    refine wk_goto C 18 (by decide) dX0_shrink_9 ?_
    refine wk_iconst (v := 0) C dX0_shrink_18 rfl ?_
    obtain ⟨rfl, rfl⟩ := Prod.mk.inj (Option.some.inj hf)
    exact wk_iret C rfl rfl dX0_shrink_19
  · refine wk_callVT (av := [vI p1]) (rest := [vI (0 : Int32), vR p2]) C h_b1 rx_0 cx_X0_76 (mt_X1_shrink (wk_C.tr C) h_σ2) rfl (Nat.le_of_ble_eq_true rfl) (Nat.le_of_ble_eq_true rfl) (Nat.le_of_ble_eq_true rfl) dX0_shrink_4 ?_
    by_cases c_ : ho_k σ2 (some q5) = some 220
    · rw [if_pos c_] at hf
      refine wk_catchK C c_ rx_220 [] ⟨0, 9, 12, 18⟩ [⟨0, 9, 15, 67⟩] rfl ((List.forall_mem_nil _)) (by decide +kernel) (by decide) q3096 q3128 rfl ?_
      refine wk_sub (L' := []) [] rfl ?_
      exact wb_X0_shrink_b12 C  _ _ hf
    rw [if_neg c_] at hf
    clear c_
    by_cases c_ : ho_k σ2 (some q5) = some 222
    · rw [if_pos c_] at hf
      refine wk_catchK C c_ rx_222 [⟨0, 9, 12, 18⟩] ⟨0, 9, 15, 67⟩ [] rfl (List.forall_mem_cons.mpr ⟨Or.inr ⟨by decide, "java/lang/IndexOutOfBoundsException", q3096, by decide +kernel⟩, (List.forall_mem_nil _)⟩) (by decide +kernel) (by decide) q3308 q1782 rfl ?_
      refine wk_sub (L' := []) [] rfl ?_
      exact wb_X0_shrink_b15 C  _ _ hf
    rw [if_neg c_] at hf
    clear c_
    cases hf
