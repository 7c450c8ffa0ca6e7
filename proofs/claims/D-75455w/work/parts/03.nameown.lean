-- X0.ElasticTrussLaw.lean.txt
/-! ElasticTrussLaw -/
set_option maxRecDepth 100000
def RX0 : String := "ElasticTrussLaw"
abbrev cX0_load : ByteArray := method_3_code
def yX0_load : MethodName := ⟨RX0, "load", "(LElasticTruss;I[J)I"⟩
def dkwX0_load_0 : List UInt8 := [44, 3, 42, 27, 182, 0, 7, 133, 80, 167, 0, 6, 78, 4, 172, 3, 172]
abbrev dktX0_load_0 : List UInt8 := dkwX0_load_0 ++ []
theorem dksX0_load_0 : cX0_load.data.toList.drop 0 = dktX0_load_0 := by decide +kernel
theorem dX0_load_0 : decode cX0_load 0 = .ok (.aload_n 2, 1) := dk_44 (dk_at dksX0_load_0 0 rfl rfl)
theorem dX0_load_1 : decode cX0_load 1 = .ok (.iconst 0, 1) := dk_3 (dk_at dksX0_load_0 1 rfl rfl)
theorem dX0_load_2 : decode cX0_load 2 = .ok (.aload_n 0, 1) := dk_42 (dk_at dksX0_load_0 2 rfl rfl)
theorem dX0_load_3 : decode cX0_load 3 = .ok (.iload_n 1, 1) := dk_27 (dk_at dksX0_load_0 3 rfl rfl)
theorem dX0_load_4 : decode cX0_load 4 = .ok (.invokevirtual 7, 3) := dk_182 0 7 (dk_at dksX0_load_0 4 rfl rfl)
theorem dX0_load_7 : decode cX0_load 7 = .ok (.i2l, 1) := dk_133 (dk_at dksX0_load_0 7 rfl rfl)
theorem dX0_load_8 : decode cX0_load 8 = .ok (.lastore, 1) := dk_80 (dk_at dksX0_load_0 8 rfl rfl)
theorem dX0_load_9 : decode cX0_load 9 = .ok (.goto 6, 3) := dk_167 0 6 (dk_at dksX0_load_0 9 rfl rfl)
theorem dX0_load_12 : decode cX0_load 12 = .ok (.astore_n 3, 1) := dk_78 (dk_at dksX0_load_0 12 rfl rfl)
theorem dX0_load_13 : decode cX0_load 13 = .ok (.iconst 1, 1) := dk_4 (dk_at dksX0_load_0 13 rfl rfl)
theorem dX0_load_14 : decode cX0_load 14 = .ok (.ireturn, 1) := dk_172 (dk_at dksX0_load_0 14 rfl rfl)
theorem dX0_load_15 : decode cX0_load 15 = .ok (.iconst 0, 1) := dk_3 (dk_at dksX0_load_0 15 rfl rfl)
theorem dX0_load_16 : decode cX0_load 16 = .ok (.ireturn, 1) := dk_172 (dk_at dksX0_load_0 16 rfl rfl)
abbrev cX0_area : ByteArray := method_4_code
def yX0_area : MethodName := ⟨RX0, "area", "(LElasticTruss;I[J)I"⟩
def dkwX0_area_0 : List UInt8 := [44, 3, 42, 27, 182, 0, 15, 133, 80, 167, 0, 6, 78, 4, 172, 3, 172]
abbrev dktX0_area_0 : List UInt8 := dkwX0_area_0 ++ []
theorem dksX0_area_0 : cX0_area.data.toList.drop 0 = dktX0_area_0 := by decide +kernel
theorem dX0_area_0 : decode cX0_area 0 = .ok (.aload_n 2, 1) := dk_44 (dk_at dksX0_area_0 0 rfl rfl)
theorem dX0_area_1 : decode cX0_area 1 = .ok (.iconst 0, 1) := dk_3 (dk_at dksX0_area_0 1 rfl rfl)
theorem dX0_area_2 : decode cX0_area 2 = .ok (.aload_n 0, 1) := dk_42 (dk_at dksX0_area_0 2 rfl rfl)
theorem dX0_area_3 : decode cX0_area 3 = .ok (.iload_n 1, 1) := dk_27 (dk_at dksX0_area_0 3 rfl rfl)
theorem dX0_area_4 : decode cX0_area 4 = .ok (.invokevirtual 15, 3) := dk_182 0 15 (dk_at dksX0_area_0 4 rfl rfl)
theorem dX0_area_7 : decode cX0_area 7 = .ok (.i2l, 1) := dk_133 (dk_at dksX0_area_0 7 rfl rfl)
theorem dX0_area_8 : decode cX0_area 8 = .ok (.lastore, 1) := dk_80 (dk_at dksX0_area_0 8 rfl rfl)
theorem dX0_area_9 : decode cX0_area 9 = .ok (.goto 6, 3) := dk_167 0 6 (dk_at dksX0_area_0 9 rfl rfl)
theorem dX0_area_12 : decode cX0_area 12 = .ok (.astore_n 3, 1) := dk_78 (dk_at dksX0_area_0 12 rfl rfl)
theorem dX0_area_13 : decode cX0_area 13 = .ok (.iconst 1, 1) := dk_4 (dk_at dksX0_area_0 13 rfl rfl)
theorem dX0_area_14 : decode cX0_area 14 = .ok (.ireturn, 1) := dk_172 (dk_at dksX0_area_0 14 rfl rfl)
theorem dX0_area_15 : decode cX0_area 15 = .ok (.iconst 0, 1) := dk_3 (dk_at dksX0_area_0 15 rfl rfl)
theorem dX0_area_16 : decode cX0_area 16 = .ok (.ireturn, 1) := dk_172 (dk_at dksX0_area_0 16 rfl rfl)
abbrev cX0_member : ByteArray := method_5_code
def yX0_member : MethodName := ⟨RX0, "member", "(LElasticTruss;II[J)I"⟩
def dkwX0_member_0 : List UInt8 := [45, 3, 42, 27, 28, 182, 0, 20, 133, 80, 167, 0, 11, 58, 4, 4, 172, 58, 4, 5, 172, 3, 172]
abbrev dktX0_member_0 : List UInt8 := dkwX0_member_0 ++ []
theorem dksX0_member_0 : cX0_member.data.toList.drop 0 = dktX0_member_0 := by decide +kernel
theorem dX0_member_0 : decode cX0_member 0 = .ok (.aload_n 3, 1) := dk_45 (dk_at dksX0_member_0 0 rfl rfl)
theorem dX0_member_1 : decode cX0_member 1 = .ok (.iconst 0, 1) := dk_3 (dk_at dksX0_member_0 1 rfl rfl)
theorem dX0_member_2 : decode cX0_member 2 = .ok (.aload_n 0, 1) := dk_42 (dk_at dksX0_member_0 2 rfl rfl)
theorem dX0_member_3 : decode cX0_member 3 = .ok (.iload_n 1, 1) := dk_27 (dk_at dksX0_member_0 3 rfl rfl)
theorem dX0_member_4 : decode cX0_member 4 = .ok (.iload_n 2, 1) := dk_28 (dk_at dksX0_member_0 4 rfl rfl)
theorem dX0_member_5 : decode cX0_member 5 = .ok (.invokevirtual 20, 3) := dk_182 0 20 (dk_at dksX0_member_0 5 rfl rfl)
theorem dX0_member_8 : decode cX0_member 8 = .ok (.i2l, 1) := dk_133 (dk_at dksX0_member_0 8 rfl rfl)
theorem dX0_member_9 : decode cX0_member 9 = .ok (.lastore, 1) := dk_80 (dk_at dksX0_member_0 9 rfl rfl)
theorem dX0_member_10 : decode cX0_member 10 = .ok (.goto 11, 3) := dk_167 0 11 (dk_at dksX0_member_0 10 rfl rfl)
theorem dX0_member_13 : decode cX0_member 13 = .ok (.astore 4, 2) := dk_58 4 (dk_at dksX0_member_0 13 rfl rfl)
theorem dX0_member_15 : decode cX0_member 15 = .ok (.iconst 1, 1) := dk_4 (dk_at dksX0_member_0 15 rfl rfl)
theorem dX0_member_16 : decode cX0_member 16 = .ok (.ireturn, 1) := dk_172 (dk_at dksX0_member_0 16 rfl rfl)
theorem dX0_member_17 : decode cX0_member 17 = .ok (.astore 4, 2) := dk_58 4 (dk_at dksX0_member_0 17 rfl rfl)
theorem dX0_member_19 : decode cX0_member 19 = .ok (.iconst 2, 1) := dk_5 (dk_at dksX0_member_0 19 rfl rfl)
theorem dX0_member_20 : decode cX0_member 20 = .ok (.ireturn, 1) := dk_172 (dk_at dksX0_member_0 20 rfl rfl)
theorem dX0_member_21 : decode cX0_member 21 = .ok (.iconst 0, 1) := dk_3 (dk_at dksX0_member_0 21 rfl rfl)
theorem dX0_member_22 : decode cX0_member 22 = .ok (.ireturn, 1) := dk_172 (dk_at dksX0_member_0 22 rfl rfl)
abbrev cX0_between : ByteArray := method_6_code
def yX0_between : MethodName := ⟨RX0, "between", "(LElasticTruss;II[J)I"⟩
def dkwX0_between_0 : List UInt8 := [45, 3, 42, 27, 28, 182, 0, 24, 133, 80, 167, 0, 7, 58, 4, 4, 172, 3, 172]
abbrev dktX0_between_0 : List UInt8 := dkwX0_between_0 ++ []
theorem dksX0_between_0 : cX0_between.data.toList.drop 0 = dktX0_between_0 := by decide +kernel
theorem dX0_between_0 : decode cX0_between 0 = .ok (.aload_n 3, 1) := dk_45 (dk_at dksX0_between_0 0 rfl rfl)
theorem dX0_between_1 : decode cX0_between 1 = .ok (.iconst 0, 1) := dk_3 (dk_at dksX0_between_0 1 rfl rfl)
theorem dX0_between_2 : decode cX0_between 2 = .ok (.aload_n 0, 1) := dk_42 (dk_at dksX0_between_0 2 rfl rfl)
theorem dX0_between_3 : decode cX0_between 3 = .ok (.iload_n 1, 1) := dk_27 (dk_at dksX0_between_0 3 rfl rfl)
theorem dX0_between_4 : decode cX0_between 4 = .ok (.iload_n 2, 1) := dk_28 (dk_at dksX0_between_0 4 rfl rfl)
theorem dX0_between_5 : decode cX0_between 5 = .ok (.invokevirtual 24, 3) := dk_182 0 24 (dk_at dksX0_between_0 5 rfl rfl)
theorem dX0_between_8 : decode cX0_between 8 = .ok (.i2l, 1) := dk_133 (dk_at dksX0_between_0 8 rfl rfl)
theorem dX0_between_9 : decode cX0_between 9 = .ok (.lastore, 1) := dk_80 (dk_at dksX0_between_0 9 rfl rfl)
theorem dX0_between_10 : decode cX0_between 10 = .ok (.goto 7, 3) := dk_167 0 7 (dk_at dksX0_between_0 10 rfl rfl)
theorem dX0_between_13 : decode cX0_between 13 = .ok (.astore 4, 2) := dk_58 4 (dk_at dksX0_between_0 13 rfl rfl)
theorem dX0_between_15 : decode cX0_between 15 = .ok (.iconst 1, 1) := dk_4 (dk_at dksX0_between_0 15 rfl rfl)
theorem dX0_between_16 : decode cX0_between 16 = .ok (.ireturn, 1) := dk_172 (dk_at dksX0_between_0 16 rfl rfl)
theorem dX0_between_17 : decode cX0_between 17 = .ok (.iconst 0, 1) := dk_3 (dk_at dksX0_between_0 17 rfl rfl)
theorem dX0_between_18 : decode cX0_between 18 = .ok (.ireturn, 1) := dk_172 (dk_at dksX0_between_0 18 rfl rfl)
abbrev cX0_degree : ByteArray := method_7_code
def yX0_degree : MethodName := ⟨RX0, "degree", "(LElasticTruss;I[J)I"⟩
def dkwX0_degree_0 : List UInt8 := [44, 3, 42, 27, 182, 0, 27, 133, 80, 167, 0, 6, 78, 4, 172, 3, 172]
abbrev dktX0_degree_0 : List UInt8 := dkwX0_degree_0 ++ []
theorem dksX0_degree_0 : cX0_degree.data.toList.drop 0 = dktX0_degree_0 := by decide +kernel
theorem dX0_degree_0 : decode cX0_degree 0 = .ok (.aload_n 2, 1) := dk_44 (dk_at dksX0_degree_0 0 rfl rfl)
theorem dX0_degree_1 : decode cX0_degree 1 = .ok (.iconst 0, 1) := dk_3 (dk_at dksX0_degree_0 1 rfl rfl)
theorem dX0_degree_2 : decode cX0_degree 2 = .ok (.aload_n 0, 1) := dk_42 (dk_at dksX0_degree_0 2 rfl rfl)
theorem dX0_degree_3 : decode cX0_degree 3 = .ok (.iload_n 1, 1) := dk_27 (dk_at dksX0_degree_0 3 rfl rfl)
theorem dX0_degree_4 : decode cX0_degree 4 = .ok (.invokevirtual 27, 3) := dk_182 0 27 (dk_at dksX0_degree_0 4 rfl rfl)
theorem dX0_degree_7 : decode cX0_degree 7 = .ok (.i2l, 1) := dk_133 (dk_at dksX0_degree_0 7 rfl rfl)
theorem dX0_degree_8 : decode cX0_degree 8 = .ok (.lastore, 1) := dk_80 (dk_at dksX0_degree_0 8 rfl rfl)
theorem dX0_degree_9 : decode cX0_degree 9 = .ok (.goto 6, 3) := dk_167 0 6 (dk_at dksX0_degree_0 9 rfl rfl)
theorem dX0_degree_12 : decode cX0_degree 12 = .ok (.astore_n 3, 1) := dk_78 (dk_at dksX0_degree_0 12 rfl rfl)
theorem dX0_degree_13 : decode cX0_degree 13 = .ok (.iconst 1, 1) := dk_4 (dk_at dksX0_degree_0 13 rfl rfl)
theorem dX0_degree_14 : decode cX0_degree 14 = .ok (.ireturn, 1) := dk_172 (dk_at dksX0_degree_0 14 rfl rfl)
theorem dX0_degree_15 : decode cX0_degree 15 = .ok (.iconst 0, 1) := dk_3 (dk_at dksX0_degree_0 15 rfl rfl)
theorem dX0_degree_16 : decode cX0_degree 16 = .ok (.ireturn, 1) := dk_172 (dk_at dksX0_degree_0 16 rfl rfl)
abbrev cX0_displacement : ByteArray := method_8_code
def yX0_displacement : MethodName := ⟨RX0, "displacement", "(LElasticTruss;IIZ[J)I"⟩
def dkwX0_displacement_0 : List UInt8 := [25, 4, 3, 42, 27, 28, 29, 182, 0, 30, 133, 80, 167, 0, 7, 58, 5, 4, 172, 3, 172]
abbrev dktX0_displacement_0 : List UInt8 := dkwX0_displacement_0 ++ []
theorem dksX0_displacement_0 : cX0_displacement.data.toList.drop 0 = dktX0_displacement_0 := by decide +kernel
theorem dX0_displacement_0 : decode cX0_displacement 0 = .ok (.aload 4, 2) := dk_25 4 (dk_at dksX0_displacement_0 0 rfl rfl)
theorem dX0_displacement_2 : decode cX0_displacement 2 = .ok (.iconst 0, 1) := dk_3 (dk_at dksX0_displacement_0 2 rfl rfl)
theorem dX0_displacement_3 : decode cX0_displacement 3 = .ok (.aload_n 0, 1) := dk_42 (dk_at dksX0_displacement_0 3 rfl rfl)
theorem dX0_displacement_4 : decode cX0_displacement 4 = .ok (.iload_n 1, 1) := dk_27 (dk_at dksX0_displacement_0 4 rfl rfl)
theorem dX0_displacement_5 : decode cX0_displacement 5 = .ok (.iload_n 2, 1) := dk_28 (dk_at dksX0_displacement_0 5 rfl rfl)
theorem dX0_displacement_6 : decode cX0_displacement 6 = .ok (.iload_n 3, 1) := dk_29 (dk_at dksX0_displacement_0 6 rfl rfl)
theorem dX0_displacement_7 : decode cX0_displacement 7 = .ok (.invokevirtual 30, 3) := dk_182 0 30 (dk_at dksX0_displacement_0 7 rfl rfl)
theorem dX0_displacement_10 : decode cX0_displacement 10 = .ok (.i2l, 1) := dk_133 (dk_at dksX0_displacement_0 10 rfl rfl)
theorem dX0_displacement_11 : decode cX0_displacement 11 = .ok (.lastore, 1) := dk_80 (dk_at dksX0_displacement_0 11 rfl rfl)
theorem dX0_displacement_12 : decode cX0_displacement 12 = .ok (.goto 7, 3) := dk_167 0 7 (dk_at dksX0_displacement_0 12 rfl rfl)
theorem dX0_displacement_15 : decode cX0_displacement 15 = .ok (.astore 5, 2) := dk_58 5 (dk_at dksX0_displacement_0 15 rfl rfl)
theorem dX0_displacement_17 : decode cX0_displacement 17 = .ok (.iconst 1, 1) := dk_4 (dk_at dksX0_displacement_0 17 rfl rfl)
theorem dX0_displacement_18 : decode cX0_displacement 18 = .ok (.ireturn, 1) := dk_172 (dk_at dksX0_displacement_0 18 rfl rfl)
theorem dX0_displacement_19 : decode cX0_displacement 19 = .ok (.iconst 0, 1) := dk_3 (dk_at dksX0_displacement_0 19 rfl rfl)
theorem dX0_displacement_20 : decode cX0_displacement 20 = .ok (.ireturn, 1) := dk_172 (dk_at dksX0_displacement_0 20 rfl rfl)
abbrev cX0_force : ByteArray := method_9_code
def yX0_force : MethodName := ⟨RX0, "force", "(LElasticTruss;II[J)I"⟩
def dkwX0_force_0 : List UInt8 := [45, 3, 42, 27, 28, 182, 0, 34, 133, 80, 167, 0, 7, 58, 4, 4, 172, 3, 172]
abbrev dktX0_force_0 : List UInt8 := dkwX0_force_0 ++ []
theorem dksX0_force_0 : cX0_force.data.toList.drop 0 = dktX0_force_0 := by decide +kernel
theorem dX0_force_0 : decode cX0_force 0 = .ok (.aload_n 3, 1) := dk_45 (dk_at dksX0_force_0 0 rfl rfl)
theorem dX0_force_1 : decode cX0_force 1 = .ok (.iconst 0, 1) := dk_3 (dk_at dksX0_force_0 1 rfl rfl)
theorem dX0_force_2 : decode cX0_force 2 = .ok (.aload_n 0, 1) := dk_42 (dk_at dksX0_force_0 2 rfl rfl)
theorem dX0_force_3 : decode cX0_force 3 = .ok (.iload_n 1, 1) := dk_27 (dk_at dksX0_force_0 3 rfl rfl)
theorem dX0_force_4 : decode cX0_force 4 = .ok (.iload_n 2, 1) := dk_28 (dk_at dksX0_force_0 4 rfl rfl)
theorem dX0_force_5 : decode cX0_force 5 = .ok (.invokevirtual 34, 3) := dk_182 0 34 (dk_at dksX0_force_0 5 rfl rfl)
theorem dX0_force_8 : decode cX0_force 8 = .ok (.i2l, 1) := dk_133 (dk_at dksX0_force_0 8 rfl rfl)
theorem dX0_force_9 : decode cX0_force 9 = .ok (.lastore, 1) := dk_80 (dk_at dksX0_force_0 9 rfl rfl)
theorem dX0_force_10 : decode cX0_force 10 = .ok (.goto 7, 3) := dk_167 0 7 (dk_at dksX0_force_0 10 rfl rfl)
theorem dX0_force_13 : decode cX0_force 13 = .ok (.astore 4, 2) := dk_58 4 (dk_at dksX0_force_0 13 rfl rfl)
theorem dX0_force_15 : decode cX0_force 15 = .ok (.iconst 1, 1) := dk_4 (dk_at dksX0_force_0 15 rfl rfl)
theorem dX0_force_16 : decode cX0_force 16 = .ok (.ireturn, 1) := dk_172 (dk_at dksX0_force_0 16 rfl rfl)
theorem dX0_force_17 : decode cX0_force 17 = .ok (.iconst 0, 1) := dk_3 (dk_at dksX0_force_0 17 rfl rfl)
theorem dX0_force_18 : decode cX0_force 18 = .ok (.ireturn, 1) := dk_172 (dk_at dksX0_force_0 18 rfl rfl)
abbrev cX0_residual : ByteArray := method_10_code
def yX0_residual : MethodName := ⟨RX0, "residual", "(LElasticTruss;IIZ[J)I"⟩
def dkwX0_residual_0 : List UInt8 := [25, 4, 3, 42, 27, 28, 29, 182, 0, 37, 133, 80, 167, 0, 7, 58, 5, 4, 172, 3, 172]
abbrev dktX0_residual_0 : List UInt8 := dkwX0_residual_0 ++ []
theorem dksX0_residual_0 : cX0_residual.data.toList.drop 0 = dktX0_residual_0 := by decide +kernel
theorem dX0_residual_0 : decode cX0_residual 0 = .ok (.aload 4, 2) := dk_25 4 (dk_at dksX0_residual_0 0 rfl rfl)
theorem dX0_residual_2 : decode cX0_residual 2 = .ok (.iconst 0, 1) := dk_3 (dk_at dksX0_residual_0 2 rfl rfl)
theorem dX0_residual_3 : decode cX0_residual 3 = .ok (.aload_n 0, 1) := dk_42 (dk_at dksX0_residual_0 3 rfl rfl)
theorem dX0_residual_4 : decode cX0_residual 4 = .ok (.iload_n 1, 1) := dk_27 (dk_at dksX0_residual_0 4 rfl rfl)
theorem dX0_residual_5 : decode cX0_residual 5 = .ok (.iload_n 2, 1) := dk_28 (dk_at dksX0_residual_0 5 rfl rfl)
theorem dX0_residual_6 : decode cX0_residual 6 = .ok (.iload_n 3, 1) := dk_29 (dk_at dksX0_residual_0 6 rfl rfl)
theorem dX0_residual_7 : decode cX0_residual 7 = .ok (.invokevirtual 37, 3) := dk_182 0 37 (dk_at dksX0_residual_0 7 rfl rfl)
theorem dX0_residual_10 : decode cX0_residual 10 = .ok (.i2l, 1) := dk_133 (dk_at dksX0_residual_0 10 rfl rfl)
theorem dX0_residual_11 : decode cX0_residual 11 = .ok (.lastore, 1) := dk_80 (dk_at dksX0_residual_0 11 rfl rfl)
theorem dX0_residual_12 : decode cX0_residual 12 = .ok (.goto 7, 3) := dk_167 0 7 (dk_at dksX0_residual_0 12 rfl rfl)
theorem dX0_residual_15 : decode cX0_residual 15 = .ok (.astore 5, 2) := dk_58 5 (dk_at dksX0_residual_0 15 rfl rfl)
theorem dX0_residual_17 : decode cX0_residual 17 = .ok (.iconst 1, 1) := dk_4 (dk_at dksX0_residual_0 17 rfl rfl)
theorem dX0_residual_18 : decode cX0_residual 18 = .ok (.ireturn, 1) := dk_172 (dk_at dksX0_residual_0 18 rfl rfl)
theorem dX0_residual_19 : decode cX0_residual 19 = .ok (.iconst 0, 1) := dk_3 (dk_at dksX0_residual_0 19 rfl rfl)
theorem dX0_residual_20 : decode cX0_residual 20 = .ok (.ireturn, 1) := dk_172 (dk_at dksX0_residual_0 20 rfl rfl)
abbrev cX0_buckling : ByteArray := method_11_code
def yX0_buckling : MethodName := ⟨RX0, "buckling", "(LElasticTruss;I[J)I"⟩
def dkwX0_buckling_0 : List UInt8 := [44, 3, 42, 27, 182, 0, 40, 133, 80, 167, 0, 6, 78, 4, 172, 3, 172]
abbrev dktX0_buckling_0 : List UInt8 := dkwX0_buckling_0 ++ []
theorem dksX0_buckling_0 : cX0_buckling.data.toList.drop 0 = dktX0_buckling_0 := by decide +kernel
theorem dX0_buckling_0 : decode cX0_buckling 0 = .ok (.aload_n 2, 1) := dk_44 (dk_at dksX0_buckling_0 0 rfl rfl)
theorem dX0_buckling_1 : decode cX0_buckling 1 = .ok (.iconst 0, 1) := dk_3 (dk_at dksX0_buckling_0 1 rfl rfl)
theorem dX0_buckling_2 : decode cX0_buckling 2 = .ok (.aload_n 0, 1) := dk_42 (dk_at dksX0_buckling_0 2 rfl rfl)
theorem dX0_buckling_3 : decode cX0_buckling 3 = .ok (.iload_n 1, 1) := dk_27 (dk_at dksX0_buckling_0 3 rfl rfl)
theorem dX0_buckling_4 : decode cX0_buckling 4 = .ok (.invokevirtual 40, 3) := dk_182 0 40 (dk_at dksX0_buckling_0 4 rfl rfl)
theorem dX0_buckling_7 : decode cX0_buckling 7 = .ok (.i2l, 1) := dk_133 (dk_at dksX0_buckling_0 7 rfl rfl)
theorem dX0_buckling_8 : decode cX0_buckling 8 = .ok (.lastore, 1) := dk_80 (dk_at dksX0_buckling_0 8 rfl rfl)
theorem dX0_buckling_9 : decode cX0_buckling 9 = .ok (.goto 6, 3) := dk_167 0 6 (dk_at dksX0_buckling_0 9 rfl rfl)
theorem dX0_buckling_12 : decode cX0_buckling 12 = .ok (.astore_n 3, 1) := dk_78 (dk_at dksX0_buckling_0 12 rfl rfl)
theorem dX0_buckling_13 : decode cX0_buckling 13 = .ok (.iconst 1, 1) := dk_4 (dk_at dksX0_buckling_0 13 rfl rfl)
theorem dX0_buckling_14 : decode cX0_buckling 14 = .ok (.ireturn, 1) := dk_172 (dk_at dksX0_buckling_0 14 rfl rfl)
theorem dX0_buckling_15 : decode cX0_buckling 15 = .ok (.iconst 0, 1) := dk_3 (dk_at dksX0_buckling_0 15 rfl rfl)
theorem dX0_buckling_16 : decode cX0_buckling 16 = .ok (.ireturn, 1) := dk_172 (dk_at dksX0_buckling_0 16 rfl rfl)
abbrev cX0_capacity : ByteArray := method_12_code
def yX0_capacity : MethodName := ⟨RX0, "capacity", "(LElasticTruss;IZ[J)I"⟩
def dkwX0_capacity_0 : List UInt8 := [45, 3, 42, 27, 28, 182, 0, 43, 133, 80, 167, 0, 7, 58, 4, 4, 172, 3, 172]
abbrev dktX0_capacity_0 : List UInt8 := dkwX0_capacity_0 ++ []
theorem dksX0_capacity_0 : cX0_capacity.data.toList.drop 0 = dktX0_capacity_0 := by decide +kernel
theorem dX0_capacity_0 : decode cX0_capacity 0 = .ok (.aload_n 3, 1) := dk_45 (dk_at dksX0_capacity_0 0 rfl rfl)
theorem dX0_capacity_1 : decode cX0_capacity 1 = .ok (.iconst 0, 1) := dk_3 (dk_at dksX0_capacity_0 1 rfl rfl)
theorem dX0_capacity_2 : decode cX0_capacity 2 = .ok (.aload_n 0, 1) := dk_42 (dk_at dksX0_capacity_0 2 rfl rfl)
theorem dX0_capacity_3 : decode cX0_capacity 3 = .ok (.iload_n 1, 1) := dk_27 (dk_at dksX0_capacity_0 3 rfl rfl)
theorem dX0_capacity_4 : decode cX0_capacity 4 = .ok (.iload_n 2, 1) := dk_28 (dk_at dksX0_capacity_0 4 rfl rfl)
theorem dX0_capacity_5 : decode cX0_capacity 5 = .ok (.invokevirtual 43, 3) := dk_182 0 43 (dk_at dksX0_capacity_0 5 rfl rfl)
theorem dX0_capacity_8 : decode cX0_capacity 8 = .ok (.i2l, 1) := dk_133 (dk_at dksX0_capacity_0 8 rfl rfl)
theorem dX0_capacity_9 : decode cX0_capacity 9 = .ok (.lastore, 1) := dk_80 (dk_at dksX0_capacity_0 9 rfl rfl)
theorem dX0_capacity_10 : decode cX0_capacity 10 = .ok (.goto 7, 3) := dk_167 0 7 (dk_at dksX0_capacity_0 10 rfl rfl)
theorem dX0_capacity_13 : decode cX0_capacity 13 = .ok (.astore 4, 2) := dk_58 4 (dk_at dksX0_capacity_0 13 rfl rfl)
theorem dX0_capacity_15 : decode cX0_capacity 15 = .ok (.iconst 1, 1) := dk_4 (dk_at dksX0_capacity_0 15 rfl rfl)
theorem dX0_capacity_16 : decode cX0_capacity 16 = .ok (.ireturn, 1) := dk_172 (dk_at dksX0_capacity_0 16 rfl rfl)
theorem dX0_capacity_17 : decode cX0_capacity 17 = .ok (.iconst 0, 1) := dk_3 (dk_at dksX0_capacity_0 17 rfl rfl)
theorem dX0_capacity_18 : decode cX0_capacity 18 = .ok (.ireturn, 1) := dk_172 (dk_at dksX0_capacity_0 18 rfl rfl)
abbrev cX0_use : ByteArray := method_13_code
def yX0_use : MethodName := ⟨RX0, "use", "(LElasticTruss;II[J)I"⟩
def dkwX0_use_0 : List UInt8 := [45, 3, 42, 27, 28, 182, 0, 47, 133, 80, 167, 0, 7, 58, 4, 4, 172, 3, 172]
abbrev dktX0_use_0 : List UInt8 := dkwX0_use_0 ++ []
theorem dksX0_use_0 : cX0_use.data.toList.drop 0 = dktX0_use_0 := by decide +kernel
theorem dX0_use_0 : decode cX0_use 0 = .ok (.aload_n 3, 1) := dk_45 (dk_at dksX0_use_0 0 rfl rfl)
theorem dX0_use_1 : decode cX0_use 1 = .ok (.iconst 0, 1) := dk_3 (dk_at dksX0_use_0 1 rfl rfl)
theorem dX0_use_2 : decode cX0_use 2 = .ok (.aload_n 0, 1) := dk_42 (dk_at dksX0_use_0 2 rfl rfl)
theorem dX0_use_3 : decode cX0_use 3 = .ok (.iload_n 1, 1) := dk_27 (dk_at dksX0_use_0 3 rfl rfl)
theorem dX0_use_4 : decode cX0_use 4 = .ok (.iload_n 2, 1) := dk_28 (dk_at dksX0_use_0 4 rfl rfl)
theorem dX0_use_5 : decode cX0_use 5 = .ok (.invokevirtual 47, 3) := dk_182 0 47 (dk_at dksX0_use_0 5 rfl rfl)
theorem dX0_use_8 : decode cX0_use 8 = .ok (.i2l, 1) := dk_133 (dk_at dksX0_use_0 8 rfl rfl)
theorem dX0_use_9 : decode cX0_use 9 = .ok (.lastore, 1) := dk_80 (dk_at dksX0_use_0 9 rfl rfl)
theorem dX0_use_10 : decode cX0_use 10 = .ok (.goto 7, 3) := dk_167 0 7 (dk_at dksX0_use_0 10 rfl rfl)
theorem dX0_use_13 : decode cX0_use 13 = .ok (.astore 4, 2) := dk_58 4 (dk_at dksX0_use_0 13 rfl rfl)
theorem dX0_use_15 : decode cX0_use 15 = .ok (.iconst 1, 1) := dk_4 (dk_at dksX0_use_0 15 rfl rfl)
theorem dX0_use_16 : decode cX0_use 16 = .ok (.ireturn, 1) := dk_172 (dk_at dksX0_use_0 16 rfl rfl)
theorem dX0_use_17 : decode cX0_use 17 = .ok (.iconst 0, 1) := dk_3 (dk_at dksX0_use_0 17 rfl rfl)
theorem dX0_use_18 : decode cX0_use 18 = .ok (.ireturn, 1) := dk_172 (dk_at dksX0_use_0 18 rfl rfl)
abbrev cX0_failure : ByteArray := method_14_code
def yX0_failure : MethodName := ⟨RX0, "failure", "(LElasticTruss;IZ[J)I"⟩
def dkwX0_failure_0 : List UInt8 := [45, 3, 42, 27, 28, 182, 0, 50, 133, 80, 167, 0, 7, 58, 4, 4, 172, 3, 172]
abbrev dktX0_failure_0 : List UInt8 := dkwX0_failure_0 ++ []
theorem dksX0_failure_0 : cX0_failure.data.toList.drop 0 = dktX0_failure_0 := by decide +kernel
theorem dX0_failure_0 : decode cX0_failure 0 = .ok (.aload_n 3, 1) := dk_45 (dk_at dksX0_failure_0 0 rfl rfl)
theorem dX0_failure_1 : decode cX0_failure 1 = .ok (.iconst 0, 1) := dk_3 (dk_at dksX0_failure_0 1 rfl rfl)
theorem dX0_failure_2 : decode cX0_failure 2 = .ok (.aload_n 0, 1) := dk_42 (dk_at dksX0_failure_0 2 rfl rfl)
theorem dX0_failure_3 : decode cX0_failure 3 = .ok (.iload_n 1, 1) := dk_27 (dk_at dksX0_failure_0 3 rfl rfl)
theorem dX0_failure_4 : decode cX0_failure 4 = .ok (.iload_n 2, 1) := dk_28 (dk_at dksX0_failure_0 4 rfl rfl)
theorem dX0_failure_5 : decode cX0_failure 5 = .ok (.invokevirtual 50, 3) := dk_182 0 50 (dk_at dksX0_failure_0 5 rfl rfl)
theorem dX0_failure_8 : decode cX0_failure 8 = .ok (.i2l, 1) := dk_133 (dk_at dksX0_failure_0 8 rfl rfl)
theorem dX0_failure_9 : decode cX0_failure 9 = .ok (.lastore, 1) := dk_80 (dk_at dksX0_failure_0 9 rfl rfl)
theorem dX0_failure_10 : decode cX0_failure 10 = .ok (.goto 7, 3) := dk_167 0 7 (dk_at dksX0_failure_0 10 rfl rfl)
theorem dX0_failure_13 : decode cX0_failure 13 = .ok (.astore 4, 2) := dk_58 4 (dk_at dksX0_failure_0 13 rfl rfl)
theorem dX0_failure_15 : decode cX0_failure 15 = .ok (.iconst 1, 1) := dk_4 (dk_at dksX0_failure_0 15 rfl rfl)
theorem dX0_failure_16 : decode cX0_failure 16 = .ok (.ireturn, 1) := dk_172 (dk_at dksX0_failure_0 16 rfl rfl)
theorem dX0_failure_17 : decode cX0_failure 17 = .ok (.iconst 0, 1) := dk_3 (dk_at dksX0_failure_0 17 rfl rfl)
theorem dX0_failure_18 : decode cX0_failure 18 = .ok (.ireturn, 1) := dk_172 (dk_at dksX0_failure_0 18 rfl rfl)
abbrev cX0_isRemovable : ByteArray := method_15_code
def yX0_isRemovable : MethodName := ⟨RX0, "isRemovable", "(LElasticTruss;I[J)I"⟩
def dkwX0_isRemovable_0 : List UInt8 := [44, 3, 42, 27, 182, 0, 53, 153, 0, 7, 10, 167, 0, 4, 9, 80, 167, 0, 6, 78, 4, 172, 3, 172]
abbrev dktX0_isRemovable_0 : List UInt8 := dkwX0_isRemovable_0 ++ []
theorem dksX0_isRemovable_0 : cX0_isRemovable.data.toList.drop 0 = dktX0_isRemovable_0 := by decide +kernel
theorem dX0_isRemovable_0 : decode cX0_isRemovable 0 = .ok (.aload_n 2, 1) := dk_44 (dk_at dksX0_isRemovable_0 0 rfl rfl)
theorem dX0_isRemovable_1 : decode cX0_isRemovable 1 = .ok (.iconst 0, 1) := dk_3 (dk_at dksX0_isRemovable_0 1 rfl rfl)
theorem dX0_isRemovable_2 : decode cX0_isRemovable 2 = .ok (.aload_n 0, 1) := dk_42 (dk_at dksX0_isRemovable_0 2 rfl rfl)
theorem dX0_isRemovable_3 : decode cX0_isRemovable 3 = .ok (.iload_n 1, 1) := dk_27 (dk_at dksX0_isRemovable_0 3 rfl rfl)
theorem dX0_isRemovable_4 : decode cX0_isRemovable 4 = .ok (.invokevirtual 53, 3) := dk_182 0 53 (dk_at dksX0_isRemovable_0 4 rfl rfl)
theorem dX0_isRemovable_7 : decode cX0_isRemovable 7 = .ok (.ifCond .eq 7, 3) := dk_153 0 7 (dk_at dksX0_isRemovable_0 7 rfl rfl)
theorem dX0_isRemovable_10 : decode cX0_isRemovable 10 = .ok (.lconst 1, 1) := dk_10 (dk_at dksX0_isRemovable_0 10 rfl rfl)
theorem dX0_isRemovable_11 : decode cX0_isRemovable 11 = .ok (.goto 4, 3) := dk_167 0 4 (dk_at dksX0_isRemovable_0 11 rfl rfl)
theorem dX0_isRemovable_14 : decode cX0_isRemovable 14 = .ok (.lconst 0, 1) := dk_9 (dk_at dksX0_isRemovable_0 14 rfl rfl)
theorem dX0_isRemovable_15 : decode cX0_isRemovable 15 = .ok (.lastore, 1) := dk_80 (dk_at dksX0_isRemovable_0 15 rfl rfl)
theorem dX0_isRemovable_16 : decode cX0_isRemovable 16 = .ok (.goto 6, 3) := dk_167 0 6 (dk_at dksX0_isRemovable_0 16 rfl rfl)
theorem dX0_isRemovable_19 : decode cX0_isRemovable 19 = .ok (.astore_n 3, 1) := dk_78 (dk_at dksX0_isRemovable_0 19 rfl rfl)
theorem dX0_isRemovable_20 : decode cX0_isRemovable 20 = .ok (.iconst 1, 1) := dk_4 (dk_at dksX0_isRemovable_0 20 rfl rfl)
theorem dX0_isRemovable_21 : decode cX0_isRemovable 21 = .ok (.ireturn, 1) := dk_172 (dk_at dksX0_isRemovable_0 21 rfl rfl)
theorem dX0_isRemovable_22 : decode cX0_isRemovable 22 = .ok (.iconst 0, 1) := dk_3 (dk_at dksX0_isRemovable_0 22 rfl rfl)
theorem dX0_isRemovable_23 : decode cX0_isRemovable 23 = .ok (.ireturn, 1) := dk_172 (dk_at dksX0_isRemovable_0 23 rfl rfl)
abbrev cX0_smallestArea : ByteArray := method_16_code
def yX0_smallestArea : MethodName := ⟨RX0, "smallestArea", "(LElasticTruss;I[J)I"⟩
def dkwX0_smallestArea_0 : List UInt8 := [44, 3, 42, 27, 182, 0, 57, 133, 80, 167, 0, 6, 78, 4, 172, 3, 172]
abbrev dktX0_smallestArea_0 : List UInt8 := dkwX0_smallestArea_0 ++ []
theorem dksX0_smallestArea_0 : cX0_smallestArea.data.toList.drop 0 = dktX0_smallestArea_0 := by decide +kernel
theorem dX0_smallestArea_0 : decode cX0_smallestArea 0 = .ok (.aload_n 2, 1) := dk_44 (dk_at dksX0_smallestArea_0 0 rfl rfl)
theorem dX0_smallestArea_1 : decode cX0_smallestArea 1 = .ok (.iconst 0, 1) := dk_3 (dk_at dksX0_smallestArea_0 1 rfl rfl)
theorem dX0_smallestArea_2 : decode cX0_smallestArea 2 = .ok (.aload_n 0, 1) := dk_42 (dk_at dksX0_smallestArea_0 2 rfl rfl)
theorem dX0_smallestArea_3 : decode cX0_smallestArea 3 = .ok (.iload_n 1, 1) := dk_27 (dk_at dksX0_smallestArea_0 3 rfl rfl)
theorem dX0_smallestArea_4 : decode cX0_smallestArea 4 = .ok (.invokevirtual 57, 3) := dk_182 0 57 (dk_at dksX0_smallestArea_0 4 rfl rfl)
theorem dX0_smallestArea_7 : decode cX0_smallestArea 7 = .ok (.i2l, 1) := dk_133 (dk_at dksX0_smallestArea_0 7 rfl rfl)
theorem dX0_smallestArea_8 : decode cX0_smallestArea 8 = .ok (.lastore, 1) := dk_80 (dk_at dksX0_smallestArea_0 8 rfl rfl)
theorem dX0_smallestArea_9 : decode cX0_smallestArea 9 = .ok (.goto 6, 3) := dk_167 0 6 (dk_at dksX0_smallestArea_0 9 rfl rfl)
theorem dX0_smallestArea_12 : decode cX0_smallestArea 12 = .ok (.astore_n 3, 1) := dk_78 (dk_at dksX0_smallestArea_0 12 rfl rfl)
theorem dX0_smallestArea_13 : decode cX0_smallestArea 13 = .ok (.iconst 1, 1) := dk_4 (dk_at dksX0_smallestArea_0 13 rfl rfl)
theorem dX0_smallestArea_14 : decode cX0_smallestArea 14 = .ok (.ireturn, 1) := dk_172 (dk_at dksX0_smallestArea_0 14 rfl rfl)
theorem dX0_smallestArea_15 : decode cX0_smallestArea 15 = .ok (.iconst 0, 1) := dk_3 (dk_at dksX0_smallestArea_0 15 rfl rfl)
theorem dX0_smallestArea_16 : decode cX0_smallestArea 16 = .ok (.ireturn, 1) := dk_172 (dk_at dksX0_smallestArea_0 16 rfl rfl)
abbrev cX0_setArea : ByteArray := method_17_code
def yX0_setArea : MethodName := ⟨RX0, "setArea", "(LElasticTruss;II[J)I"⟩
def dkwX0_setArea_0 : List UInt8 := [45, 3, 42, 27, 28, 182, 0, 60, 133, 80, 167, 0, 11, 58, 4, 4, 172, 58, 4, 5, 172, 3, 172]
abbrev dktX0_setArea_0 : List UInt8 := dkwX0_setArea_0 ++ []
theorem dksX0_setArea_0 : cX0_setArea.data.toList.drop 0 = dktX0_setArea_0 := by decide +kernel
theorem dX0_setArea_0 : decode cX0_setArea 0 = .ok (.aload_n 3, 1) := dk_45 (dk_at dksX0_setArea_0 0 rfl rfl)
theorem dX0_setArea_1 : decode cX0_setArea 1 = .ok (.iconst 0, 1) := dk_3 (dk_at dksX0_setArea_0 1 rfl rfl)
theorem dX0_setArea_2 : decode cX0_setArea 2 = .ok (.aload_n 0, 1) := dk_42 (dk_at dksX0_setArea_0 2 rfl rfl)
theorem dX0_setArea_3 : decode cX0_setArea 3 = .ok (.iload_n 1, 1) := dk_27 (dk_at dksX0_setArea_0 3 rfl rfl)
theorem dX0_setArea_4 : decode cX0_setArea 4 = .ok (.iload_n 2, 1) := dk_28 (dk_at dksX0_setArea_0 4 rfl rfl)
theorem dX0_setArea_5 : decode cX0_setArea 5 = .ok (.invokevirtual 60, 3) := dk_182 0 60 (dk_at dksX0_setArea_0 5 rfl rfl)
theorem dX0_setArea_8 : decode cX0_setArea 8 = .ok (.i2l, 1) := dk_133 (dk_at dksX0_setArea_0 8 rfl rfl)
theorem dX0_setArea_9 : decode cX0_setArea 9 = .ok (.lastore, 1) := dk_80 (dk_at dksX0_setArea_0 9 rfl rfl)
theorem dX0_setArea_10 : decode cX0_setArea 10 = .ok (.goto 11, 3) := dk_167 0 11 (dk_at dksX0_setArea_0 10 rfl rfl)
theorem dX0_setArea_13 : decode cX0_setArea 13 = .ok (.astore 4, 2) := dk_58 4 (dk_at dksX0_setArea_0 13 rfl rfl)
theorem dX0_setArea_15 : decode cX0_setArea 15 = .ok (.iconst 1, 1) := dk_4 (dk_at dksX0_setArea_0 15 rfl rfl)
theorem dX0_setArea_16 : decode cX0_setArea 16 = .ok (.ireturn, 1) := dk_172 (dk_at dksX0_setArea_0 16 rfl rfl)
theorem dX0_setArea_17 : decode cX0_setArea 17 = .ok (.astore 4, 2) := dk_58 4 (dk_at dksX0_setArea_0 17 rfl rfl)
theorem dX0_setArea_19 : decode cX0_setArea 19 = .ok (.iconst 2, 1) := dk_5 (dk_at dksX0_setArea_0 19 rfl rfl)
theorem dX0_setArea_20 : decode cX0_setArea 20 = .ok (.ireturn, 1) := dk_172 (dk_at dksX0_setArea_0 20 rfl rfl)
theorem dX0_setArea_21 : decode cX0_setArea 21 = .ok (.iconst 0, 1) := dk_3 (dk_at dksX0_setArea_0 21 rfl rfl)
theorem dX0_setArea_22 : decode cX0_setArea 22 = .ok (.ireturn, 1) := dk_172 (dk_at dksX0_setArea_0 22 rfl rfl)
abbrev cX0_addMember : ByteArray := method_18_code
def yX0_addMember : MethodName := ⟨RX0, "addMember", "(LElasticTruss;III[J)I"⟩
def dkwX0_addMember_1 : List UInt8 := [58, 5, 6, 172, 3, 172]
abbrev dktX0_addMember_1 : List UInt8 := dkwX0_addMember_1 ++ []
def dkwX0_addMember_0 : List UInt8 := [25, 4, 3, 42, 27, 28, 29, 182, 0, 63, 133, 80, 167, 0, 15, 58, 5, 4, 172, 58, 5, 5, 172]
abbrev dktX0_addMember_0 : List UInt8 := dkwX0_addMember_0 ++ dktX0_addMember_1
theorem dksX0_addMember_0 : cX0_addMember.data.toList.drop 0 = dktX0_addMember_0 := by decide +kernel
theorem dksX0_addMember_1 : cX0_addMember.data.toList.drop 23 = dktX0_addMember_1 := dk_seg dksX0_addMember_0 23 rfl rfl
theorem dX0_addMember_0 : decode cX0_addMember 0 = .ok (.aload 4, 2) := dk_25 4 (dk_at dksX0_addMember_0 0 rfl rfl)
theorem dX0_addMember_2 : decode cX0_addMember 2 = .ok (.iconst 0, 1) := dk_3 (dk_at dksX0_addMember_0 2 rfl rfl)
theorem dX0_addMember_3 : decode cX0_addMember 3 = .ok (.aload_n 0, 1) := dk_42 (dk_at dksX0_addMember_0 3 rfl rfl)
theorem dX0_addMember_4 : decode cX0_addMember 4 = .ok (.iload_n 1, 1) := dk_27 (dk_at dksX0_addMember_0 4 rfl rfl)
theorem dX0_addMember_5 : decode cX0_addMember 5 = .ok (.iload_n 2, 1) := dk_28 (dk_at dksX0_addMember_0 5 rfl rfl)
theorem dX0_addMember_6 : decode cX0_addMember 6 = .ok (.iload_n 3, 1) := dk_29 (dk_at dksX0_addMember_0 6 rfl rfl)
theorem dX0_addMember_7 : decode cX0_addMember 7 = .ok (.invokevirtual 63, 3) := dk_182 0 63 (dk_at dksX0_addMember_0 7 rfl rfl)
theorem dX0_addMember_10 : decode cX0_addMember 10 = .ok (.i2l, 1) := dk_133 (dk_at dksX0_addMember_0 10 rfl rfl)
theorem dX0_addMember_11 : decode cX0_addMember 11 = .ok (.lastore, 1) := dk_80 (dk_at dksX0_addMember_0 11 rfl rfl)
theorem dX0_addMember_12 : decode cX0_addMember 12 = .ok (.goto 15, 3) := dk_167 0 15 (dk_at dksX0_addMember_0 12 rfl rfl)
theorem dX0_addMember_15 : decode cX0_addMember 15 = .ok (.astore 5, 2) := dk_58 5 (dk_at dksX0_addMember_0 15 rfl rfl)
theorem dX0_addMember_17 : decode cX0_addMember 17 = .ok (.iconst 1, 1) := dk_4 (dk_at dksX0_addMember_0 17 rfl rfl)
theorem dX0_addMember_18 : decode cX0_addMember 18 = .ok (.ireturn, 1) := dk_172 (dk_at dksX0_addMember_0 18 rfl rfl)
theorem dX0_addMember_19 : decode cX0_addMember 19 = .ok (.astore 5, 2) := dk_58 5 (dk_at dksX0_addMember_0 19 rfl rfl)
theorem dX0_addMember_21 : decode cX0_addMember 21 = .ok (.iconst 2, 1) := dk_5 (dk_at dksX0_addMember_0 21 rfl rfl)
theorem dX0_addMember_22 : decode cX0_addMember 22 = .ok (.ireturn, 1) := dk_172 (dk_at dksX0_addMember_0 22 rfl rfl)
theorem dX0_addMember_23 : decode cX0_addMember 23 = .ok (.astore 5, 2) := dk_58 5 (dk_at dksX0_addMember_1 0 rfl rfl)
theorem dX0_addMember_25 : decode cX0_addMember 25 = .ok (.iconst 3, 1) := dk_6 (dk_at dksX0_addMember_1 2 rfl rfl)
theorem dX0_addMember_26 : decode cX0_addMember 26 = .ok (.ireturn, 1) := dk_172 (dk_at dksX0_addMember_1 3 rfl rfl)
theorem dX0_addMember_27 : decode cX0_addMember 27 = .ok (.iconst 0, 1) := dk_3 (dk_at dksX0_addMember_1 4 rfl rfl)
theorem dX0_addMember_28 : decode cX0_addMember 28 = .ok (.ireturn, 1) := dk_172 (dk_at dksX0_addMember_1 5 rfl rfl)
abbrev cX0_removeMember : ByteArray := method_19_code
def yX0_removeMember : MethodName := ⟨RX0, "removeMember", "(LElasticTruss;I[J)I"⟩
def dkwX0_removeMember_0 : List UInt8 := [44, 3, 42, 27, 182, 0, 69, 133, 80, 167, 0, 6, 78, 4, 172, 3, 172]
abbrev dktX0_removeMember_0 : List UInt8 := dkwX0_removeMember_0 ++ []
theorem dksX0_removeMember_0 : cX0_removeMember.data.toList.drop 0 = dktX0_removeMember_0 := by decide +kernel
theorem dX0_removeMember_0 : decode cX0_removeMember 0 = .ok (.aload_n 2, 1) := dk_44 (dk_at dksX0_removeMember_0 0 rfl rfl)
theorem dX0_removeMember_1 : decode cX0_removeMember 1 = .ok (.iconst 0, 1) := dk_3 (dk_at dksX0_removeMember_0 1 rfl rfl)
theorem dX0_removeMember_2 : decode cX0_removeMember 2 = .ok (.aload_n 0, 1) := dk_42 (dk_at dksX0_removeMember_0 2 rfl rfl)
theorem dX0_removeMember_3 : decode cX0_removeMember 3 = .ok (.iload_n 1, 1) := dk_27 (dk_at dksX0_removeMember_0 3 rfl rfl)
theorem dX0_removeMember_4 : decode cX0_removeMember 4 = .ok (.invokevirtual 69, 3) := dk_182 0 69 (dk_at dksX0_removeMember_0 4 rfl rfl)
theorem dX0_removeMember_7 : decode cX0_removeMember 7 = .ok (.i2l, 1) := dk_133 (dk_at dksX0_removeMember_0 7 rfl rfl)
theorem dX0_removeMember_8 : decode cX0_removeMember 8 = .ok (.lastore, 1) := dk_80 (dk_at dksX0_removeMember_0 8 rfl rfl)
theorem dX0_removeMember_9 : decode cX0_removeMember 9 = .ok (.goto 6, 3) := dk_167 0 6 (dk_at dksX0_removeMember_0 9 rfl rfl)
theorem dX0_removeMember_12 : decode cX0_removeMember 12 = .ok (.astore_n 3, 1) := dk_78 (dk_at dksX0_removeMember_0 12 rfl rfl)
theorem dX0_removeMember_13 : decode cX0_removeMember 13 = .ok (.iconst 1, 1) := dk_4 (dk_at dksX0_removeMember_0 13 rfl rfl)
theorem dX0_removeMember_14 : decode cX0_removeMember 14 = .ok (.ireturn, 1) := dk_172 (dk_at dksX0_removeMember_0 14 rfl rfl)
theorem dX0_removeMember_15 : decode cX0_removeMember 15 = .ok (.iconst 0, 1) := dk_3 (dk_at dksX0_removeMember_0 15 rfl rfl)
theorem dX0_removeMember_16 : decode cX0_removeMember 16 = .ok (.ireturn, 1) := dk_172 (dk_at dksX0_removeMember_0 16 rfl rfl)
abbrev cX0_prune : ByteArray := method_20_code
def yX0_prune : MethodName := ⟨RX0, "prune", "(LElasticTruss;[J)I"⟩
def dkwX0_prune_0 : List UInt8 := [43, 3, 42, 182, 0, 72, 133, 80, 167, 0, 6, 77, 4, 172, 3, 172]
abbrev dktX0_prune_0 : List UInt8 := dkwX0_prune_0 ++ []
theorem dksX0_prune_0 : cX0_prune.data.toList.drop 0 = dktX0_prune_0 := by decide +kernel
theorem dX0_prune_0 : decode cX0_prune 0 = .ok (.aload_n 1, 1) := dk_43 (dk_at dksX0_prune_0 0 rfl rfl)
theorem dX0_prune_1 : decode cX0_prune 1 = .ok (.iconst 0, 1) := dk_3 (dk_at dksX0_prune_0 1 rfl rfl)
theorem dX0_prune_2 : decode cX0_prune 2 = .ok (.aload_n 0, 1) := dk_42 (dk_at dksX0_prune_0 2 rfl rfl)
theorem dX0_prune_3 : decode cX0_prune 3 = .ok (.invokevirtual 72, 3) := dk_182 0 72 (dk_at dksX0_prune_0 3 rfl rfl)
theorem dX0_prune_6 : decode cX0_prune 6 = .ok (.i2l, 1) := dk_133 (dk_at dksX0_prune_0 6 rfl rfl)
theorem dX0_prune_7 : decode cX0_prune 7 = .ok (.lastore, 1) := dk_80 (dk_at dksX0_prune_0 7 rfl rfl)
theorem dX0_prune_8 : decode cX0_prune 8 = .ok (.goto 6, 3) := dk_167 0 6 (dk_at dksX0_prune_0 8 rfl rfl)
theorem dX0_prune_11 : decode cX0_prune 11 = .ok (.astore_n 2, 1) := dk_77 (dk_at dksX0_prune_0 11 rfl rfl)
theorem dX0_prune_12 : decode cX0_prune 12 = .ok (.iconst 1, 1) := dk_4 (dk_at dksX0_prune_0 12 rfl rfl)
theorem dX0_prune_13 : decode cX0_prune 13 = .ok (.ireturn, 1) := dk_172 (dk_at dksX0_prune_0 13 rfl rfl)
theorem dX0_prune_14 : decode cX0_prune 14 = .ok (.iconst 0, 1) := dk_3 (dk_at dksX0_prune_0 14 rfl rfl)
theorem dX0_prune_15 : decode cX0_prune 15 = .ok (.ireturn, 1) := dk_172 (dk_at dksX0_prune_0 15 rfl rfl)
abbrev cX0_shrink : ByteArray := method_21_code
def yX0_shrink : MethodName := ⟨RX0, "shrink", "(LElasticTruss;I[J)I"⟩
def dkwX0_shrink_0 : List UInt8 := [44, 3, 42, 27, 182, 0, 76, 133, 80, 167, 0, 9, 78, 4, 172, 78, 5, 172, 3, 172]
abbrev dktX0_shrink_0 : List UInt8 := dkwX0_shrink_0 ++ []
theorem dksX0_shrink_0 : cX0_shrink.data.toList.drop 0 = dktX0_shrink_0 := by decide +kernel
theorem dX0_shrink_0 : decode cX0_shrink 0 = .ok (.aload_n 2, 1) := dk_44 (dk_at dksX0_shrink_0 0 rfl rfl)
theorem dX0_shrink_1 : decode cX0_shrink 1 = .ok (.iconst 0, 1) := dk_3 (dk_at dksX0_shrink_0 1 rfl rfl)
theorem dX0_shrink_2 : decode cX0_shrink 2 = .ok (.aload_n 0, 1) := dk_42 (dk_at dksX0_shrink_0 2 rfl rfl)
theorem dX0_shrink_3 : decode cX0_shrink 3 = .ok (.iload_n 1, 1) := dk_27 (dk_at dksX0_shrink_0 3 rfl rfl)
theorem dX0_shrink_4 : decode cX0_shrink 4 = .ok (.invokevirtual 76, 3) := dk_182 0 76 (dk_at dksX0_shrink_0 4 rfl rfl)
theorem dX0_shrink_7 : decode cX0_shrink 7 = .ok (.i2l, 1) := dk_133 (dk_at dksX0_shrink_0 7 rfl rfl)
theorem dX0_shrink_8 : decode cX0_shrink 8 = .ok (.lastore, 1) := dk_80 (dk_at dksX0_shrink_0 8 rfl rfl)
theorem dX0_shrink_9 : decode cX0_shrink 9 = .ok (.goto 9, 3) := dk_167 0 9 (dk_at dksX0_shrink_0 9 rfl rfl)
theorem dX0_shrink_12 : decode cX0_shrink 12 = .ok (.astore_n 3, 1) := dk_78 (dk_at dksX0_shrink_0 12 rfl rfl)
theorem dX0_shrink_13 : decode cX0_shrink 13 = .ok (.iconst 1, 1) := dk_4 (dk_at dksX0_shrink_0 13 rfl rfl)
theorem dX0_shrink_14 : decode cX0_shrink 14 = .ok (.ireturn, 1) := dk_172 (dk_at dksX0_shrink_0 14 rfl rfl)
theorem dX0_shrink_15 : decode cX0_shrink 15 = .ok (.astore_n 3, 1) := dk_78 (dk_at dksX0_shrink_0 15 rfl rfl)
theorem dX0_shrink_16 : decode cX0_shrink 16 = .ok (.iconst 2, 1) := dk_5 (dk_at dksX0_shrink_0 16 rfl rfl)
theorem dX0_shrink_17 : decode cX0_shrink 17 = .ok (.ireturn, 1) := dk_172 (dk_at dksX0_shrink_0 17 rfl rfl)
theorem dX0_shrink_18 : decode cX0_shrink 18 = .ok (.iconst 0, 1) := dk_3 (dk_at dksX0_shrink_0 18 rfl rfl)
theorem dX0_shrink_19 : decode cX0_shrink 19 = .ok (.ireturn, 1) := dk_172 (dk_at dksX0_shrink_0 19 rfl rfl)
theorem q101 : (Jvm.Cond.initialized "ElasticTrussLaw") ∈ lw_all := lw_g (lw_at lw_m1 0 rfl) rfl
theorem q173 : (Jvm.Cond.classLink "ElasticTrussLaw" (8 : Nat) "ElasticTruss") ∈ lw_all := lw_g (lw_at lw_m1 72 rfl) rfl
theorem q175 : (Jvm.Cond.methodLink "ElasticTrussLaw" (79 : Nat) ({ cls := "ElasticTruss", name := "<init>", desc := "()V" } : Jvm.MethodName)) ∈ lw_all := lw_g (lw_at lw_m1 74 rfl) rfl
theorem q689 : (Jvm.Cond.methodLink "ElasticTrussLaw" (83 : Nat) ({ cls := "ElasticTruss", name := "append", desc := "(IIIII)I" } : Jvm.MethodName)) ∈ lw_all := lw_g (lw_at lw_m3 108 rfl) rfl
theorem q697 : (Jvm.Cond.methodLink "ElasticTrussLaw" (97 : Nat) ({ cls := "ElasticTruss", name := "errorOffset", desc := "()I" } : Jvm.MethodName)) ∈ lw_all := lw_g (lw_at lw_m3 116 rfl) rfl
theorem q701 : (Jvm.Cond.methodLink "ElasticTrussLaw" (101 : Nat) ({ cls := "ElasticTruss", name := "nodeCount", desc := "()I" } : Jvm.MethodName)) ∈ lw_all := lw_g (lw_at lw_m3 120 rfl) rfl
theorem q715 : (Jvm.Cond.methodLink "ElasticTrussLaw" (105 : Nat) ({ cls := "ElasticTruss", name := "groupCount", desc := "()I" } : Jvm.MethodName)) ∈ lw_all := lw_g (lw_at lw_m3 134 rfl) rfl
theorem q719 : (Jvm.Cond.methodLink "ElasticTrussLaw" (109 : Nat) ({ cls := "ElasticTruss", name := "memberCount", desc := "()I" } : Jvm.MethodName)) ∈ lw_all := lw_g (lw_at lw_m3 138 rfl) rfl
theorem q733 : (Jvm.Cond.methodLink "ElasticTrussLaw" (113 : Nat) ({ cls := "ElasticTruss", name := "stageCount", desc := "()I" } : Jvm.MethodName)) ∈ lw_all := lw_g (lw_at lw_m3 152 rfl) rfl
theorem q882 : (Jvm.Cond.methodLink "ElasticTrussLaw" (117 : Nat) ({ cls := "ElasticTruss", name := "weight", desc := "()I" } : Jvm.MethodName)) ∈ lw_all := lw_g (lw_at lw_m4 61 rfl) rfl
theorem q1104 : (Jvm.Cond.methodLink "ElasticTrussLaw" (134 : Nat) ({ cls := "ElasticTruss", name := "parts", desc := "()I" } : Jvm.MethodName)) ∈ lw_all := lw_g (lw_at lw_m5 43 rfl) rfl
theorem q1117 : (Jvm.Cond.methodLink "ElasticTrussLaw" (158 : Nat) ({ cls := "ElasticTruss", name := "greatestUse", desc := "()I" } : Jvm.MethodName)) ∈ lw_all := lw_g (lw_at lw_m5 56 rfl) rfl
theorem q1296 : (Jvm.Cond.methodLink "ElasticTrussLaw" (162 : Nat) ({ cls := "ElasticTruss", name := "failureCount", desc := "()I" } : Jvm.MethodName)) ∈ lw_all := lw_g (lw_at lw_m5 235 rfl) rfl
theorem q2461 : (Jvm.Cond.methodLink "ElasticTrussLaw" (192 : Nat) ({ cls := "ElasticTruss", name := "shrinkAll", desc := "()I" } : Jvm.MethodName)) ∈ lw_all := lw_g (lw_at lw_m10 200 rfl) rfl
theorem q2638 : (Jvm.Cond.methodLink "ElasticTrussLaw" (196 : Nat) ({ cls := "ElasticTruss", name := "undo", desc := "()I" } : Jvm.MethodName)) ∈ lw_all := lw_g (lw_at lw_m11 137 rfl) rfl
theorem q2657 : (Jvm.Cond.methodLink "ElasticTrussLaw" (200 : Nat) ({ cls := "ElasticTruss", name := "checksum", desc := "()J" } : Jvm.MethodName)) ∈ lw_all := lw_g (lw_at lw_m11 156 rfl) rfl
theorem q2667 : (Jvm.Cond.methodLink "ElasticTrussLaw" (88 : Nat) ({ cls := "ElasticTrussLaw", name := "load", desc := "(LElasticTruss;I[J)I" } : Jvm.MethodName)) ∈ lw_all := lw_g (lw_at lw_m11 166 rfl) rfl
theorem q2668 : (Jvm.Cond.static ({ cls := "ElasticTrussLaw", name := "load", desc := "(LElasticTruss;I[J)I" } : Jvm.MethodName)) ∈ lw_all := lw_g (lw_at lw_m11 167 rfl) rfl
theorem q2669 : (Jvm.Cond.codeWith ({ cls := "ElasticTrussLaw", name := "load", desc := "(LElasticTruss;I[J)I" } : Jvm.MethodName) method_3_code (4 : Nat) (Option.some Jvm.ClassFile.FieldType.int) [((0 : Nat), (9 : Nat), (12 : Nat), (13 : Nat))]) ∈ lw_all := lw_g (lw_at lw_m11 168 rfl) rfl
theorem q2670 : (Jvm.Cond.classLink "ElasticTrussLaw" (13 : Nat) "java/lang/IllegalArgumentException") ∈ lw_all := lw_g (lw_at lw_m11 169 rfl) rfl
theorem q2671 : (Jvm.Cond.methodLink "ElasticTrussLaw" (7 : Nat) ({ cls := "ElasticTruss", name := "load", desc := "(I)I" } : Jvm.MethodName)) ∈ lw_all := lw_g (lw_at lw_m11 170 rfl) rfl
theorem q3093 : (Jvm.Cond.methodLink "ElasticTrussLaw" (121 : Nat) ({ cls := "ElasticTrussLaw", name := "area", desc := "(LElasticTruss;I[J)I" } : Jvm.MethodName)) ∈ lw_all := lw_g (lw_at lw_m13 112 rfl) rfl
theorem q3094 : (Jvm.Cond.static ({ cls := "ElasticTrussLaw", name := "area", desc := "(LElasticTruss;I[J)I" } : Jvm.MethodName)) ∈ lw_all := lw_g (lw_at lw_m13 113 rfl) rfl
theorem q3095 : (Jvm.Cond.codeWith ({ cls := "ElasticTrussLaw", name := "area", desc := "(LElasticTruss;I[J)I" } : Jvm.MethodName) method_4_code (4 : Nat) (Option.some Jvm.ClassFile.FieldType.int) [((0 : Nat), (9 : Nat), (12 : Nat), (18 : Nat))]) ∈ lw_all := lw_g (lw_at lw_m13 114 rfl) rfl
theorem q3096 : (Jvm.Cond.classLink "ElasticTrussLaw" (18 : Nat) "java/lang/IndexOutOfBoundsException") ∈ lw_all := lw_g (lw_at lw_m13 115 rfl) rfl
theorem q3115 : (Jvm.Cond.methodLink "ElasticTrussLaw" (15 : Nat) ({ cls := "ElasticTruss", name := "area", desc := "(I)I" } : Jvm.MethodName)) ∈ lw_all := lw_g (lw_at lw_m13 134 rfl) rfl
theorem q3141 : (Jvm.Cond.methodLink "ElasticTrussLaw" (124 : Nat) ({ cls := "ElasticTrussLaw", name := "member", desc := "(LElasticTruss;II[J)I" } : Jvm.MethodName)) ∈ lw_all := lw_g (lw_at lw_m13 160 rfl) rfl
theorem q3142 : (Jvm.Cond.static ({ cls := "ElasticTrussLaw", name := "member", desc := "(LElasticTruss;II[J)I" } : Jvm.MethodName)) ∈ lw_all := lw_g (lw_at lw_m13 161 rfl) rfl
theorem q3143 : (Jvm.Cond.codeWith ({ cls := "ElasticTrussLaw", name := "member", desc := "(LElasticTruss;II[J)I" } : Jvm.MethodName) method_5_code (5 : Nat) (Option.some Jvm.ClassFile.FieldType.int) [((0 : Nat), (10 : Nat), (13 : Nat), (18 : Nat)), ((0 : Nat), (10 : Nat), (17 : Nat), (13 : Nat))]) ∈ lw_all := lw_g (lw_at lw_m13 162 rfl) rfl
theorem q3144 : (Jvm.Cond.methodLink "ElasticTrussLaw" (20 : Nat) ({ cls := "ElasticTruss", name := "member", desc := "(II)I" } : Jvm.MethodName)) ∈ lw_all := lw_g (lw_at lw_m13 163 rfl) rfl
theorem q3154 : (Jvm.Cond.methodLink "ElasticTrussLaw" (128 : Nat) ({ cls := "ElasticTrussLaw", name := "between", desc := "(LElasticTruss;II[J)I" } : Jvm.MethodName)) ∈ lw_all := lw_g (lw_at lw_m13 173 rfl) rfl
theorem q3155 : (Jvm.Cond.static ({ cls := "ElasticTrussLaw", name := "between", desc := "(LElasticTruss;II[J)I" } : Jvm.MethodName)) ∈ lw_all := lw_g (lw_at lw_m13 174 rfl) rfl
theorem q3156 : (Jvm.Cond.codeWith ({ cls := "ElasticTrussLaw", name := "between", desc := "(LElasticTruss;II[J)I" } : Jvm.MethodName) method_6_code (5 : Nat) (Option.some Jvm.ClassFile.FieldType.int) [((0 : Nat), (10 : Nat), (13 : Nat), (18 : Nat))]) ∈ lw_all := lw_g (lw_at lw_m13 175 rfl) rfl
theorem q3157 : (Jvm.Cond.methodLink "ElasticTrussLaw" (24 : Nat) ({ cls := "ElasticTruss", name := "between", desc := "(II)I" } : Jvm.MethodName)) ∈ lw_all := lw_g (lw_at lw_m13 176 rfl) rfl
theorem q3179 : (Jvm.Cond.methodLink "ElasticTrussLaw" (131 : Nat) ({ cls := "ElasticTrussLaw", name := "degree", desc := "(LElasticTruss;I[J)I" } : Jvm.MethodName)) ∈ lw_all := lw_g (lw_at lw_m13 198 rfl) rfl
theorem q3180 : (Jvm.Cond.static ({ cls := "ElasticTrussLaw", name := "degree", desc := "(LElasticTruss;I[J)I" } : Jvm.MethodName)) ∈ lw_all := lw_g (lw_at lw_m13 199 rfl) rfl
theorem q3181 : (Jvm.Cond.codeWith ({ cls := "ElasticTrussLaw", name := "degree", desc := "(LElasticTruss;I[J)I" } : Jvm.MethodName) method_7_code (4 : Nat) (Option.some Jvm.ClassFile.FieldType.int) [((0 : Nat), (9 : Nat), (12 : Nat), (18 : Nat))]) ∈ lw_all := lw_g (lw_at lw_m13 200 rfl) rfl
theorem q3182 : (Jvm.Cond.methodLink "ElasticTrussLaw" (27 : Nat) ({ cls := "ElasticTruss", name := "degree", desc := "(I)I" } : Jvm.MethodName)) ∈ lw_all := lw_g (lw_at lw_m13 201 rfl) rfl
theorem q3186 : (Jvm.Cond.methodLink "ElasticTrussLaw" (138 : Nat) ({ cls := "ElasticTrussLaw", name := "displacement", desc := "(LElasticTruss;IIZ[J)I" } : Jvm.MethodName)) ∈ lw_all := lw_g (lw_at lw_m13 205 rfl) rfl
theorem q3187 : (Jvm.Cond.static ({ cls := "ElasticTrussLaw", name := "displacement", desc := "(LElasticTruss;IIZ[J)I" } : Jvm.MethodName)) ∈ lw_all := lw_g (lw_at lw_m13 206 rfl) rfl
theorem q3188 : (Jvm.Cond.codeWith ({ cls := "ElasticTrussLaw", name := "displacement", desc := "(LElasticTruss;IIZ[J)I" } : Jvm.MethodName) method_8_code (6 : Nat) (Option.some Jvm.ClassFile.FieldType.int) [((0 : Nat), (12 : Nat), (15 : Nat), (18 : Nat))]) ∈ lw_all := lw_g (lw_at lw_m13 207 rfl) rfl
theorem q3189 : (Jvm.Cond.methodLink "ElasticTrussLaw" (30 : Nat) ({ cls := "ElasticTruss", name := "displacement", desc := "(IIZ)I" } : Jvm.MethodName)) ∈ lw_all := lw_g (lw_at lw_m13 208 rfl) rfl
theorem q3201 : (Jvm.Cond.methodLink "ElasticTrussLaw" (142 : Nat) ({ cls := "ElasticTrussLaw", name := "force", desc := "(LElasticTruss;II[J)I" } : Jvm.MethodName)) ∈ lw_all := lw_g (lw_at lw_m13 220 rfl) rfl
theorem q3202 : (Jvm.Cond.static ({ cls := "ElasticTrussLaw", name := "force", desc := "(LElasticTruss;II[J)I" } : Jvm.MethodName)) ∈ lw_all := lw_g (lw_at lw_m13 221 rfl) rfl
theorem q3203 : (Jvm.Cond.codeWith ({ cls := "ElasticTrussLaw", name := "force", desc := "(LElasticTruss;II[J)I" } : Jvm.MethodName) method_9_code (5 : Nat) (Option.some Jvm.ClassFile.FieldType.int) [((0 : Nat), (10 : Nat), (13 : Nat), (18 : Nat))]) ∈ lw_all := lw_g (lw_at lw_m13 222 rfl) rfl
theorem q3204 : (Jvm.Cond.methodLink "ElasticTrussLaw" (34 : Nat) ({ cls := "ElasticTruss", name := "force", desc := "(II)I" } : Jvm.MethodName)) ∈ lw_all := lw_g (lw_at lw_m13 223 rfl) rfl
theorem q3208 : (Jvm.Cond.methodLink "ElasticTrussLaw" (145 : Nat) ({ cls := "ElasticTrussLaw", name := "residual", desc := "(LElasticTruss;IIZ[J)I" } : Jvm.MethodName)) ∈ lw_all := lw_g (lw_at lw_m13 227 rfl) rfl
theorem q3209 : (Jvm.Cond.static ({ cls := "ElasticTrussLaw", name := "residual", desc := "(LElasticTruss;IIZ[J)I" } : Jvm.MethodName)) ∈ lw_all := lw_g (lw_at lw_m13 228 rfl) rfl
theorem q3210 : (Jvm.Cond.codeWith ({ cls := "ElasticTrussLaw", name := "residual", desc := "(LElasticTruss;IIZ[J)I" } : Jvm.MethodName) method_10_code (6 : Nat) (Option.some Jvm.ClassFile.FieldType.int) [((0 : Nat), (12 : Nat), (15 : Nat), (18 : Nat))]) ∈ lw_all := lw_g (lw_at lw_m13 229 rfl) rfl
theorem q3211 : (Jvm.Cond.methodLink "ElasticTrussLaw" (37 : Nat) ({ cls := "ElasticTruss", name := "residual", desc := "(IIZ)I" } : Jvm.MethodName)) ∈ lw_all := lw_g (lw_at lw_m13 230 rfl) rfl
theorem q3216 : (Jvm.Cond.methodLink "ElasticTrussLaw" (148 : Nat) ({ cls := "ElasticTrussLaw", name := "buckling", desc := "(LElasticTruss;I[J)I" } : Jvm.MethodName)) ∈ lw_all := lw_g (lw_at lw_m13 235 rfl) rfl
theorem q3217 : (Jvm.Cond.static ({ cls := "ElasticTrussLaw", name := "buckling", desc := "(LElasticTruss;I[J)I" } : Jvm.MethodName)) ∈ lw_all := lw_g (lw_at lw_m13 236 rfl) rfl
theorem q3218 : (Jvm.Cond.codeWith ({ cls := "ElasticTrussLaw", name := "buckling", desc := "(LElasticTruss;I[J)I" } : Jvm.MethodName) method_11_code (4 : Nat) (Option.some Jvm.ClassFile.FieldType.int) [((0 : Nat), (9 : Nat), (12 : Nat), (18 : Nat))]) ∈ lw_all := lw_g (lw_at lw_m13 237 rfl) rfl
theorem q3219 : (Jvm.Cond.methodLink "ElasticTrussLaw" (40 : Nat) ({ cls := "ElasticTruss", name := "buckling", desc := "(I)I" } : Jvm.MethodName)) ∈ lw_all := lw_g (lw_at lw_m13 238 rfl) rfl
theorem q3224 : (Jvm.Cond.methodLink "ElasticTrussLaw" (151 : Nat) ({ cls := "ElasticTrussLaw", name := "capacity", desc := "(LElasticTruss;IZ[J)I" } : Jvm.MethodName)) ∈ lw_all := lw_g (lw_at lw_m14 3 rfl) rfl
theorem q3225 : (Jvm.Cond.static ({ cls := "ElasticTrussLaw", name := "capacity", desc := "(LElasticTruss;IZ[J)I" } : Jvm.MethodName)) ∈ lw_all := lw_g (lw_at lw_m14 4 rfl) rfl
theorem q3226 : (Jvm.Cond.codeWith ({ cls := "ElasticTrussLaw", name := "capacity", desc := "(LElasticTruss;IZ[J)I" } : Jvm.MethodName) method_12_code (5 : Nat) (Option.some Jvm.ClassFile.FieldType.int) [((0 : Nat), (10 : Nat), (13 : Nat), (18 : Nat))]) ∈ lw_all := lw_g (lw_at lw_m14 5 rfl) rfl
theorem q3227 : (Jvm.Cond.methodLink "ElasticTrussLaw" (43 : Nat) ({ cls := "ElasticTruss", name := "capacity", desc := "(IZ)I" } : Jvm.MethodName)) ∈ lw_all := lw_g (lw_at lw_m14 6 rfl) rfl
theorem q3232 : (Jvm.Cond.methodLink "ElasticTrussLaw" (155 : Nat) ({ cls := "ElasticTrussLaw", name := "use", desc := "(LElasticTruss;II[J)I" } : Jvm.MethodName)) ∈ lw_all := lw_g (lw_at lw_m14 11 rfl) rfl
theorem q3233 : (Jvm.Cond.static ({ cls := "ElasticTrussLaw", name := "use", desc := "(LElasticTruss;II[J)I" } : Jvm.MethodName)) ∈ lw_all := lw_g (lw_at lw_m14 12 rfl) rfl
theorem q3234 : (Jvm.Cond.codeWith ({ cls := "ElasticTrussLaw", name := "use", desc := "(LElasticTruss;II[J)I" } : Jvm.MethodName) method_13_code (5 : Nat) (Option.some Jvm.ClassFile.FieldType.int) [((0 : Nat), (10 : Nat), (13 : Nat), (18 : Nat))]) ∈ lw_all := lw_g (lw_at lw_m14 13 rfl) rfl
theorem q3235 : (Jvm.Cond.methodLink "ElasticTrussLaw" (47 : Nat) ({ cls := "ElasticTruss", name := "use", desc := "(II)I" } : Jvm.MethodName)) ∈ lw_all := lw_g (lw_at lw_m14 14 rfl) rfl
theorem q3239 : (Jvm.Cond.methodLink "ElasticTrussLaw" (166 : Nat) ({ cls := "ElasticTrussLaw", name := "failure", desc := "(LElasticTruss;IZ[J)I" } : Jvm.MethodName)) ∈ lw_all := lw_g (lw_at lw_m14 18 rfl) rfl
theorem q3240 : (Jvm.Cond.static ({ cls := "ElasticTrussLaw", name := "failure", desc := "(LElasticTruss;IZ[J)I" } : Jvm.MethodName)) ∈ lw_all := lw_g (lw_at lw_m14 19 rfl) rfl
theorem q3241 : (Jvm.Cond.codeWith ({ cls := "ElasticTrussLaw", name := "failure", desc := "(LElasticTruss;IZ[J)I" } : Jvm.MethodName) method_14_code (5 : Nat) (Option.some Jvm.ClassFile.FieldType.int) [((0 : Nat), (10 : Nat), (13 : Nat), (18 : Nat))]) ∈ lw_all := lw_g (lw_at lw_m14 20 rfl) rfl
theorem q3242 : (Jvm.Cond.methodLink "ElasticTrussLaw" (50 : Nat) ({ cls := "ElasticTruss", name := "failure", desc := "(IZ)I" } : Jvm.MethodName)) ∈ lw_all := lw_g (lw_at lw_m14 21 rfl) rfl
theorem q3247 : (Jvm.Cond.methodLink "ElasticTrussLaw" (169 : Nat) ({ cls := "ElasticTrussLaw", name := "isRemovable", desc := "(LElasticTruss;I[J)I" } : Jvm.MethodName)) ∈ lw_all := lw_g (lw_at lw_m14 26 rfl) rfl
theorem q3248 : (Jvm.Cond.static ({ cls := "ElasticTrussLaw", name := "isRemovable", desc := "(LElasticTruss;I[J)I" } : Jvm.MethodName)) ∈ lw_all := lw_g (lw_at lw_m14 27 rfl) rfl
theorem q3249 : (Jvm.Cond.codeWith ({ cls := "ElasticTrussLaw", name := "isRemovable", desc := "(LElasticTruss;I[J)I" } : Jvm.MethodName) method_15_code (4 : Nat) (Option.some Jvm.ClassFile.FieldType.int) [((0 : Nat), (16 : Nat), (19 : Nat), (18 : Nat))]) ∈ lw_all := lw_g (lw_at lw_m14 28 rfl) rfl
theorem q3250 : (Jvm.Cond.methodLink "ElasticTrussLaw" (53 : Nat) ({ cls := "ElasticTruss", name := "isRemovable", desc := "(I)Z" } : Jvm.MethodName)) ∈ lw_all := lw_g (lw_at lw_m14 29 rfl) rfl
theorem q3290 : (Jvm.Cond.methodLink "ElasticTrussLaw" (172 : Nat) ({ cls := "ElasticTrussLaw", name := "smallestArea", desc := "(LElasticTruss;I[J)I" } : Jvm.MethodName)) ∈ lw_all := lw_g (lw_at lw_m14 69 rfl) rfl
theorem q3291 : (Jvm.Cond.static ({ cls := "ElasticTrussLaw", name := "smallestArea", desc := "(LElasticTruss;I[J)I" } : Jvm.MethodName)) ∈ lw_all := lw_g (lw_at lw_m14 70 rfl) rfl
theorem q3292 : (Jvm.Cond.codeWith ({ cls := "ElasticTrussLaw", name := "smallestArea", desc := "(LElasticTruss;I[J)I" } : Jvm.MethodName) method_16_code (4 : Nat) (Option.some Jvm.ClassFile.FieldType.int) [((0 : Nat), (9 : Nat), (12 : Nat), (18 : Nat))]) ∈ lw_all := lw_g (lw_at lw_m14 71 rfl) rfl
theorem q3293 : (Jvm.Cond.methodLink "ElasticTrussLaw" (57 : Nat) ({ cls := "ElasticTruss", name := "smallestArea", desc := "(I)I" } : Jvm.MethodName)) ∈ lw_all := lw_g (lw_at lw_m14 72 rfl) rfl
theorem q3297 : (Jvm.Cond.methodLink "ElasticTrussLaw" (175 : Nat) ({ cls := "ElasticTrussLaw", name := "setArea", desc := "(LElasticTruss;II[J)I" } : Jvm.MethodName)) ∈ lw_all := lw_g (lw_at lw_m14 76 rfl) rfl
theorem q3298 : (Jvm.Cond.static ({ cls := "ElasticTrussLaw", name := "setArea", desc := "(LElasticTruss;II[J)I" } : Jvm.MethodName)) ∈ lw_all := lw_g (lw_at lw_m14 77 rfl) rfl
theorem q3299 : (Jvm.Cond.codeWith ({ cls := "ElasticTrussLaw", name := "setArea", desc := "(LElasticTruss;II[J)I" } : Jvm.MethodName) method_17_code (5 : Nat) (Option.some Jvm.ClassFile.FieldType.int) [((0 : Nat), (10 : Nat), (13 : Nat), (18 : Nat)), ((0 : Nat), (10 : Nat), (17 : Nat), (13 : Nat))]) ∈ lw_all := lw_g (lw_at lw_m14 78 rfl) rfl
theorem q3300 : (Jvm.Cond.methodLink "ElasticTrussLaw" (60 : Nat) ({ cls := "ElasticTruss", name := "setArea", desc := "(II)I" } : Jvm.MethodName)) ∈ lw_all := lw_g (lw_at lw_m14 79 rfl) rfl
theorem q3305 : (Jvm.Cond.methodLink "ElasticTrussLaw" (178 : Nat) ({ cls := "ElasticTrussLaw", name := "addMember", desc := "(LElasticTruss;III[J)I" } : Jvm.MethodName)) ∈ lw_all := lw_g (lw_at lw_m14 84 rfl) rfl
theorem q3306 : (Jvm.Cond.static ({ cls := "ElasticTrussLaw", name := "addMember", desc := "(LElasticTruss;III[J)I" } : Jvm.MethodName)) ∈ lw_all := lw_g (lw_at lw_m14 85 rfl) rfl
theorem q3307 : (Jvm.Cond.codeWith ({ cls := "ElasticTrussLaw", name := "addMember", desc := "(LElasticTruss;III[J)I" } : Jvm.MethodName) method_18_code (6 : Nat) (Option.some Jvm.ClassFile.FieldType.int) [((0 : Nat), (12 : Nat), (15 : Nat), (18 : Nat)), ((0 : Nat), (12 : Nat), (19 : Nat), (13 : Nat)), ((0 : Nat), (12 : Nat), (23 : Nat), (67 : Nat))]) ∈ lw_all := lw_g (lw_at lw_m14 86 rfl) rfl
theorem q3308 : (Jvm.Cond.classLink "ElasticTrussLaw" (67 : Nat) "java/lang/IllegalStateException") ∈ lw_all := lw_g (lw_at lw_m14 87 rfl) rfl
theorem q3309 : (Jvm.Cond.methodLink "ElasticTrussLaw" (63 : Nat) ({ cls := "ElasticTruss", name := "addMember", desc := "(III)I" } : Jvm.MethodName)) ∈ lw_all := lw_g (lw_at lw_m14 88 rfl) rfl
theorem q3323 : (Jvm.Cond.methodLink "ElasticTrussLaw" (182 : Nat) ({ cls := "ElasticTrussLaw", name := "removeMember", desc := "(LElasticTruss;I[J)I" } : Jvm.MethodName)) ∈ lw_all := lw_g (lw_at lw_m14 102 rfl) rfl
theorem q3324 : (Jvm.Cond.static ({ cls := "ElasticTrussLaw", name := "removeMember", desc := "(LElasticTruss;I[J)I" } : Jvm.MethodName)) ∈ lw_all := lw_g (lw_at lw_m14 103 rfl) rfl
theorem q3325 : (Jvm.Cond.codeWith ({ cls := "ElasticTrussLaw", name := "removeMember", desc := "(LElasticTruss;I[J)I" } : Jvm.MethodName) method_19_code (4 : Nat) (Option.some Jvm.ClassFile.FieldType.int) [((0 : Nat), (9 : Nat), (12 : Nat), (18 : Nat))]) ∈ lw_all := lw_g (lw_at lw_m14 104 rfl) rfl
theorem q3326 : (Jvm.Cond.methodLink "ElasticTrussLaw" (69 : Nat) ({ cls := "ElasticTruss", name := "removeMember", desc := "(I)I" } : Jvm.MethodName)) ∈ lw_all := lw_g (lw_at lw_m14 105 rfl) rfl
theorem q3330 : (Jvm.Cond.methodLink "ElasticTrussLaw" (185 : Nat) ({ cls := "ElasticTrussLaw", name := "prune", desc := "(LElasticTruss;[J)I" } : Jvm.MethodName)) ∈ lw_all := lw_g (lw_at lw_m14 109 rfl) rfl
theorem q3331 : (Jvm.Cond.static ({ cls := "ElasticTrussLaw", name := "prune", desc := "(LElasticTruss;[J)I" } : Jvm.MethodName)) ∈ lw_all := lw_g (lw_at lw_m14 110 rfl) rfl
theorem q3332 : (Jvm.Cond.codeWith ({ cls := "ElasticTrussLaw", name := "prune", desc := "(LElasticTruss;[J)I" } : Jvm.MethodName) method_20_code (3 : Nat) (Option.some Jvm.ClassFile.FieldType.int) [((0 : Nat), (8 : Nat), (11 : Nat), (67 : Nat))]) ∈ lw_all := lw_g (lw_at lw_m14 111 rfl) rfl
theorem q3333 : (Jvm.Cond.methodLink "ElasticTrussLaw" (72 : Nat) ({ cls := "ElasticTruss", name := "prune", desc := "()I" } : Jvm.MethodName)) ∈ lw_all := lw_g (lw_at lw_m14 112 rfl) rfl
theorem q3337 : (Jvm.Cond.methodLink "ElasticTrussLaw" (189 : Nat) ({ cls := "ElasticTrussLaw", name := "shrink", desc := "(LElasticTruss;I[J)I" } : Jvm.MethodName)) ∈ lw_all := lw_g (lw_at lw_m14 116 rfl) rfl
theorem q3338 : (Jvm.Cond.static ({ cls := "ElasticTrussLaw", name := "shrink", desc := "(LElasticTruss;I[J)I" } : Jvm.MethodName)) ∈ lw_all := lw_g (lw_at lw_m14 117 rfl) rfl
theorem q3339 : (Jvm.Cond.codeWith ({ cls := "ElasticTrussLaw", name := "shrink", desc := "(LElasticTruss;I[J)I" } : Jvm.MethodName) method_21_code (4 : Nat) (Option.some Jvm.ClassFile.FieldType.int) [((0 : Nat), (9 : Nat), (12 : Nat), (18 : Nat)), ((0 : Nat), (9 : Nat), (15 : Nat), (67 : Nat))]) ∈ lw_all := lw_g (lw_at lw_m14 118 rfl) rfl
theorem q3340 : (Jvm.Cond.methodLink "ElasticTrussLaw" (76 : Nat) ({ cls := "ElasticTruss", name := "shrink", desc := "(I)I" } : Jvm.MethodName)) ∈ lw_all := lw_g (lw_at lw_m14 119 rfl) rfl
theorem q3345 : (Jvm.Cond.classLink "ElasticTrussLaw" (80 : Nat) "ElasticTrussModel") ∈ lw_all := lw_g (lw_at lw_m14 124 rfl) rfl
theorem q3347 : (Jvm.Cond.methodLink "ElasticTrussLaw" (82 : Nat) ({ cls := "ElasticTrussModel", name := "<init>", desc := "()V" } : Jvm.MethodName)) ∈ lw_all := lw_g (lw_at lw_m14 126 rfl) rfl
theorem q3421 : (Jvm.Cond.methodLink "ElasticTrussLaw" (94 : Nat) ({ cls := "ElasticTrussModel", name := "thrown", desc := "()I" } : Jvm.MethodName)) ∈ lw_all := lw_g (lw_at lw_m14 200 rfl) rfl
theorem q3425 : (Jvm.Cond.methodLink "ElasticTrussLaw" (87 : Nat) ({ cls := "ElasticTrussModel", name := "append", desc := "(IIIII)I" } : Jvm.MethodName)) ∈ lw_all := lw_g (lw_at lw_m14 204 rfl) rfl
theorem q3429 : (Jvm.Cond.methodLink "ElasticTrussLaw" (93 : Nat) ({ cls := "ElasticTrussModel", name := "load", desc := "(I)I" } : Jvm.MethodName)) ∈ lw_all := lw_g (lw_at lw_m14 208 rfl) rfl
theorem q3554 : (Jvm.Cond.methodLink "ElasticTrussLaw" (100 : Nat) ({ cls := "ElasticTrussModel", name := "errorOffset", desc := "()I" } : Jvm.MethodName)) ∈ lw_all := lw_g (lw_at lw_m15 93 rfl) rfl
theorem q3558 : (Jvm.Cond.methodLink "ElasticTrussLaw" (104 : Nat) ({ cls := "ElasticTrussModel", name := "nodeCount", desc := "()I" } : Jvm.MethodName)) ∈ lw_all := lw_g (lw_at lw_m15 97 rfl) rfl
theorem q3562 : (Jvm.Cond.methodLink "ElasticTrussLaw" (108 : Nat) ({ cls := "ElasticTrussModel", name := "groupCount", desc := "()I" } : Jvm.MethodName)) ∈ lw_all := lw_g (lw_at lw_m15 101 rfl) rfl
theorem q3566 : (Jvm.Cond.methodLink "ElasticTrussLaw" (112 : Nat) ({ cls := "ElasticTrussModel", name := "memberCount", desc := "()I" } : Jvm.MethodName)) ∈ lw_all := lw_g (lw_at lw_m15 105 rfl) rfl
theorem q3570 : (Jvm.Cond.methodLink "ElasticTrussLaw" (116 : Nat) ({ cls := "ElasticTrussModel", name := "stageCount", desc := "()I" } : Jvm.MethodName)) ∈ lw_all := lw_g (lw_at lw_m15 109 rfl) rfl
theorem q3580 : (Jvm.Cond.methodLink "ElasticTrussLaw" (120 : Nat) ({ cls := "ElasticTrussModel", name := "weight", desc := "()I" } : Jvm.MethodName)) ∈ lw_all := lw_g (lw_at lw_m15 119 rfl) rfl
theorem q3609 : (Jvm.Cond.methodLink "ElasticTrussLaw" (123 : Nat) ({ cls := "ElasticTrussModel", name := "area", desc := "(I)I" } : Jvm.MethodName)) ∈ lw_all := lw_g (lw_at lw_m15 148 rfl) rfl
theorem q3617 : (Jvm.Cond.methodLink "ElasticTrussLaw" (127 : Nat) ({ cls := "ElasticTrussModel", name := "member", desc := "(II)I" } : Jvm.MethodName)) ∈ lw_all := lw_g (lw_at lw_m15 156 rfl) rfl
theorem q3621 : (Jvm.Cond.methodLink "ElasticTrussLaw" (130 : Nat) ({ cls := "ElasticTrussModel", name := "between", desc := "(II)I" } : Jvm.MethodName)) ∈ lw_all := lw_g (lw_at lw_m15 160 rfl) rfl
theorem q3629 : (Jvm.Cond.methodLink "ElasticTrussLaw" (133 : Nat) ({ cls := "ElasticTrussModel", name := "degree", desc := "(I)I" } : Jvm.MethodName)) ∈ lw_all := lw_g (lw_at lw_m15 168 rfl) rfl
theorem q3633 : (Jvm.Cond.methodLink "ElasticTrussLaw" (137 : Nat) ({ cls := "ElasticTrussModel", name := "parts", desc := "()I" } : Jvm.MethodName)) ∈ lw_all := lw_g (lw_at lw_m15 172 rfl) rfl
theorem q3637 : (Jvm.Cond.methodLink "ElasticTrussLaw" (141 : Nat) ({ cls := "ElasticTrussModel", name := "displacement", desc := "(IIZ)I" } : Jvm.MethodName)) ∈ lw_all := lw_g (lw_at lw_m15 176 rfl) rfl
theorem q3674 : (Jvm.Cond.methodLink "ElasticTrussLaw" (144 : Nat) ({ cls := "ElasticTrussModel", name := "force", desc := "(II)I" } : Jvm.MethodName)) ∈ lw_all := lw_g (lw_at lw_m15 213 rfl) rfl
theorem q3678 : (Jvm.Cond.methodLink "ElasticTrussLaw" (147 : Nat) ({ cls := "ElasticTrussModel", name := "residual", desc := "(IIZ)I" } : Jvm.MethodName)) ∈ lw_all := lw_g (lw_at lw_m15 217 rfl) rfl
theorem q3682 : (Jvm.Cond.methodLink "ElasticTrussLaw" (150 : Nat) ({ cls := "ElasticTrussModel", name := "buckling", desc := "(I)I" } : Jvm.MethodName)) ∈ lw_all := lw_g (lw_at lw_m15 221 rfl) rfl
theorem q3693 : (Jvm.Cond.methodLink "ElasticTrussLaw" (154 : Nat) ({ cls := "ElasticTrussModel", name := "capacity", desc := "(IZ)I" } : Jvm.MethodName)) ∈ lw_all := lw_g (lw_at lw_m15 232 rfl) rfl
theorem q3701 : (Jvm.Cond.methodLink "ElasticTrussLaw" (157 : Nat) ({ cls := "ElasticTrussModel", name := "use", desc := "(II)I" } : Jvm.MethodName)) ∈ lw_all := lw_g (lw_at lw_m16 0 rfl) rfl
theorem q3712 : (Jvm.Cond.methodLink "ElasticTrussLaw" (161 : Nat) ({ cls := "ElasticTrussModel", name := "greatestUse", desc := "()I" } : Jvm.MethodName)) ∈ lw_all := lw_g (lw_at lw_m16 11 rfl) rfl
theorem q3716 : (Jvm.Cond.methodLink "ElasticTrussLaw" (165 : Nat) ({ cls := "ElasticTrussModel", name := "failureCount", desc := "()I" } : Jvm.MethodName)) ∈ lw_all := lw_g (lw_at lw_m16 15 rfl) rfl
theorem q3728 : (Jvm.Cond.methodLink "ElasticTrussLaw" (168 : Nat) ({ cls := "ElasticTrussModel", name := "failure", desc := "(IZ)I" } : Jvm.MethodName)) ∈ lw_all := lw_g (lw_at lw_m16 27 rfl) rfl
theorem q3732 : (Jvm.Cond.methodLink "ElasticTrussLaw" (171 : Nat) ({ cls := "ElasticTrussModel", name := "isRemovable", desc := "(I)Z" } : Jvm.MethodName)) ∈ lw_all := lw_g (lw_at lw_m16 31 rfl) rfl
theorem q3756 : (Jvm.Cond.methodLink "ElasticTrussLaw" (174 : Nat) ({ cls := "ElasticTrussModel", name := "smallestArea", desc := "(I)I" } : Jvm.MethodName)) ∈ lw_all := lw_g (lw_at lw_m16 55 rfl) rfl
theorem q3764 : (Jvm.Cond.methodLink "ElasticTrussLaw" (177 : Nat) ({ cls := "ElasticTrussModel", name := "setArea", desc := "(II)I" } : Jvm.MethodName)) ∈ lw_all := lw_g (lw_at lw_m16 63 rfl) rfl
theorem q3768 : (Jvm.Cond.methodLink "ElasticTrussLaw" (181 : Nat) ({ cls := "ElasticTrussModel", name := "addMember", desc := "(III)I" } : Jvm.MethodName)) ∈ lw_all := lw_g (lw_at lw_m16 67 rfl) rfl
theorem q3773 : (Jvm.Cond.methodLink "ElasticTrussLaw" (184 : Nat) ({ cls := "ElasticTrussModel", name := "removeMember", desc := "(I)I" } : Jvm.MethodName)) ∈ lw_all := lw_g (lw_at lw_m16 72 rfl) rfl
theorem q3777 : (Jvm.Cond.methodLink "ElasticTrussLaw" (188 : Nat) ({ cls := "ElasticTrussModel", name := "prune", desc := "()I" } : Jvm.MethodName)) ∈ lw_all := lw_g (lw_at lw_m16 76 rfl) rfl
theorem q3781 : (Jvm.Cond.methodLink "ElasticTrussLaw" (191 : Nat) ({ cls := "ElasticTrussModel", name := "shrink", desc := "(I)I" } : Jvm.MethodName)) ∈ lw_all := lw_g (lw_at lw_m16 80 rfl) rfl
theorem q3785 : (Jvm.Cond.methodLink "ElasticTrussLaw" (195 : Nat) ({ cls := "ElasticTrussModel", name := "shrinkAll", desc := "()I" } : Jvm.MethodName)) ∈ lw_all := lw_g (lw_at lw_m16 84 rfl) rfl
theorem q3789 : (Jvm.Cond.methodLink "ElasticTrussLaw" (199 : Nat) ({ cls := "ElasticTrussModel", name := "undo", desc := "()I" } : Jvm.MethodName)) ∈ lw_all := lw_g (lw_at lw_m16 88 rfl) rfl
theorem q3793 : (Jvm.Cond.methodLink "ElasticTrussLaw" (204 : Nat) ({ cls := "ElasticTrussModel", name := "checksum", desc := "()J" } : Jvm.MethodName)) ∈ lw_all := lw_g (lw_at lw_m16 92 rfl) rfl

-- X1.ElasticTruss.lean.txt
/-! ElasticTruss -/
set_option maxRecDepth 100000
def RX1 : String := "ElasticTruss"
def TX1 : u_T := fun k => match k with
  | 0 => ("ElasticTruss", "buffer", "[B", true)
  | 1 => ("ElasticTruss", "bufferLength", "I", false)
  | 2 => ("ElasticTruss", "errorOffset", "I", false)
  | 3 => ("ElasticTruss", "truss", "LElasticTruss$Truss;", false)
  | _ => ("ElasticTruss", "history", "Ljava/util/ArrayDeque;", true)
def tyX1 : Nat → FieldType := fun k => match k with
  | 0 => .array .byte
  | 1 => .int
  | 2 => .int
  | 3 => .object "ElasticTruss$Truss"
  | _ => .object "java/util/ArrayDeque"
abbrev wsX10 : List Cond := u_ws RX1 TX1 5
theorem nmX1 : ∀ a, a < 5 → ∀ b, b < 5 → a ≠ b → (TX1 a).2.1 ≠ (TX1 b).2.1 := by decide +kernel
theorem tyX1_ok : ∀ k, k < 5 → parseFieldDescriptor (TX1 k).2.2.1 = some (tyX1 k) := by decide +kernel
abbrev cX1_init : ByteArray := prog_1_method_4_code
def yX1_init : MethodName := ⟨RX1, "<init>", "()V"⟩
def dkwX1_init_1 : List UInt8 := [183, 0, 36, 181, 0, 37, 42, 187, 0, 41, 89, 16, 9, 183, 0, 43, 181, 0, 46, 177]
abbrev dktX1_init_1 : List UInt8 := dkwX1_init_1 ++ []
def dkwX1_init_0 : List UInt8 := [42, 183, 0, 20, 42, 17, 3, 32, 188, 8, 181, 0, 26, 42, 2, 181, 0, 30, 42, 187, 0, 34, 89]
abbrev dktX1_init_0 : List UInt8 := dkwX1_init_0 ++ dktX1_init_1
theorem dksX1_init_0 : cX1_init.data.toList.drop 0 = dktX1_init_0 := by decide +kernel
theorem dksX1_init_1 : cX1_init.data.toList.drop 23 = dktX1_init_1 := dk_seg dksX1_init_0 23 rfl rfl
theorem dX1_init_0 : decode cX1_init 0 = .ok (.aload_n 0, 1) := dk_42 (dk_at dksX1_init_0 0 rfl rfl)
theorem dX1_init_1 : decode cX1_init 1 = .ok (.invokespecial 20, 3) := dk_183 0 20 (dk_at dksX1_init_0 1 rfl rfl)
theorem dX1_init_4 : decode cX1_init 4 = .ok (.aload_n 0, 1) := dk_42 (dk_at dksX1_init_0 4 rfl rfl)
theorem dX1_init_5 : decode cX1_init 5 = .ok (.sipush 800, 3) := dk_17 3 32 (dk_at dksX1_init_0 5 rfl rfl)
theorem dX1_init_8 : decode cX1_init 8 = .ok (.newarray .byte, 2) := dk_188_8 (dk_at dksX1_init_0 8 rfl rfl)
theorem dX1_init_10 : decode cX1_init 10 = .ok (.putfield 26, 3) := dk_181 0 26 (dk_at dksX1_init_0 10 rfl rfl)
theorem dX1_init_13 : decode cX1_init 13 = .ok (.aload_n 0, 1) := dk_42 (dk_at dksX1_init_0 13 rfl rfl)
theorem dX1_init_14 : decode cX1_init 14 = .ok (.iconst (-1), 1) := dk_2 (dk_at dksX1_init_0 14 rfl rfl)
theorem dX1_init_15 : decode cX1_init 15 = .ok (.putfield 30, 3) := dk_181 0 30 (dk_at dksX1_init_0 15 rfl rfl)
theorem dX1_init_18 : decode cX1_init 18 = .ok (.aload_n 0, 1) := dk_42 (dk_at dksX1_init_0 18 rfl rfl)
theorem dX1_init_19 : decode cX1_init 19 = .ok (.new 34, 3) := dk_187 0 34 (dk_at dksX1_init_0 19 rfl rfl)
theorem dX1_init_22 : decode cX1_init 22 = .ok (.dup, 1) := dk_89 (dk_at dksX1_init_0 22 rfl rfl)
theorem dX1_init_23 : decode cX1_init 23 = .ok (.invokespecial 36, 3) := dk_183 0 36 (dk_at dksX1_init_1 0 rfl rfl)
theorem dX1_init_26 : decode cX1_init 26 = .ok (.putfield 37, 3) := dk_181 0 37 (dk_at dksX1_init_1 3 rfl rfl)
theorem dX1_init_29 : decode cX1_init 29 = .ok (.aload_n 0, 1) := dk_42 (dk_at dksX1_init_1 6 rfl rfl)
theorem dX1_init_30 : decode cX1_init 30 = .ok (.new 41, 3) := dk_187 0 41 (dk_at dksX1_init_1 7 rfl rfl)
theorem dX1_init_33 : decode cX1_init 33 = .ok (.dup, 1) := dk_89 (dk_at dksX1_init_1 10 rfl rfl)
theorem dX1_init_34 : decode cX1_init 34 = .ok (.bipush 9, 2) := dk_16 9 (dk_at dksX1_init_1 11 rfl rfl)
theorem dX1_init_36 : decode cX1_init 36 = .ok (.invokespecial 43, 3) := dk_183 0 43 (dk_at dksX1_init_1 13 rfl rfl)
theorem dX1_init_39 : decode cX1_init 39 = .ok (.putfield 46, 3) := dk_181 0 46 (dk_at dksX1_init_1 16 rfl rfl)
theorem dX1_init_42 : decode cX1_init 42 = .ok (.return_, 1) := dk_177 (dk_at dksX1_init_1 19 rfl rfl)
abbrev cX1_append : ByteArray := prog_1_method_5_code
def yX1_append : MethodName := ⟨RX1, "append", "(IIIII)I"⟩
def dkwX1_append_2 : List UInt8 := [172]
abbrev dktX1_append_2 : List UInt8 := dkwX1_append_2 ++ []
def dkwX1_append_1 : List UInt8 := [4, 28, 79, 89, 5, 29, 79, 89, 6, 21, 4, 79, 89, 7, 21, 5, 79, 182, 0, 53, 42, 180, 0, 50]
abbrev dktX1_append_1 : List UInt8 := dkwX1_append_1 ++ dktX1_append_2
def dkwX1_append_0 : List UInt8 := [42, 180, 0, 50, 16, 20, 96, 17, 3, 32, 164, 0, 5, 2, 172, 42, 8, 188, 10, 89, 3, 27, 79, 89]
abbrev dktX1_append_0 : List UInt8 := dkwX1_append_0 ++ dktX1_append_1
theorem dksX1_append_0 : cX1_append.data.toList.drop 0 = dktX1_append_0 := by decide +kernel
theorem dksX1_append_1 : cX1_append.data.toList.drop 24 = dktX1_append_1 := dk_seg dksX1_append_0 24 rfl rfl
theorem dksX1_append_2 : cX1_append.data.toList.drop 48 = dktX1_append_2 := dk_seg dksX1_append_1 24 rfl rfl
theorem dX1_append_0 : decode cX1_append 0 = .ok (.aload_n 0, 1) := dk_42 (dk_at dksX1_append_0 0 rfl rfl)
theorem dX1_append_1 : decode cX1_append 1 = .ok (.getfield 50, 3) := dk_180 0 50 (dk_at dksX1_append_0 1 rfl rfl)
theorem dX1_append_4 : decode cX1_append 4 = .ok (.bipush 20, 2) := dk_16 20 (dk_at dksX1_append_0 4 rfl rfl)
theorem dX1_append_6 : decode cX1_append 6 = .ok (.iadd, 1) := dk_96 (dk_at dksX1_append_0 6 rfl rfl)
theorem dX1_append_7 : decode cX1_append 7 = .ok (.sipush 800, 3) := dk_17 3 32 (dk_at dksX1_append_0 7 rfl rfl)
theorem dX1_append_10 : decode cX1_append 10 = .ok (.if_icmp .le 5, 3) := dk_164 0 5 (dk_at dksX1_append_0 10 rfl rfl)
theorem dX1_append_13 : decode cX1_append 13 = .ok (.iconst (-1), 1) := dk_2 (dk_at dksX1_append_0 13 rfl rfl)
theorem dX1_append_14 : decode cX1_append 14 = .ok (.ireturn, 1) := dk_172 (dk_at dksX1_append_0 14 rfl rfl)
theorem dX1_append_15 : decode cX1_append 15 = .ok (.aload_n 0, 1) := dk_42 (dk_at dksX1_append_0 15 rfl rfl)
theorem dX1_append_16 : decode cX1_append 16 = .ok (.iconst 5, 1) := dk_8 (dk_at dksX1_append_0 16 rfl rfl)
theorem dX1_append_17 : decode cX1_append 17 = .ok (.newarray .int, 2) := dk_188_10 (dk_at dksX1_append_0 17 rfl rfl)
theorem dX1_append_19 : decode cX1_append 19 = .ok (.dup, 1) := dk_89 (dk_at dksX1_append_0 19 rfl rfl)
theorem dX1_append_20 : decode cX1_append 20 = .ok (.iconst 0, 1) := dk_3 (dk_at dksX1_append_0 20 rfl rfl)
theorem dX1_append_21 : decode cX1_append 21 = .ok (.iload_n 1, 1) := dk_27 (dk_at dksX1_append_0 21 rfl rfl)
theorem dX1_append_22 : decode cX1_append 22 = .ok (.iastore, 1) := dk_79 (dk_at dksX1_append_0 22 rfl rfl)
theorem dX1_append_23 : decode cX1_append 23 = .ok (.dup, 1) := dk_89 (dk_at dksX1_append_0 23 rfl rfl)
theorem dX1_append_24 : decode cX1_append 24 = .ok (.iconst 1, 1) := dk_4 (dk_at dksX1_append_1 0 rfl rfl)
theorem dX1_append_25 : decode cX1_append 25 = .ok (.iload_n 2, 1) := dk_28 (dk_at dksX1_append_1 1 rfl rfl)
theorem dX1_append_26 : decode cX1_append 26 = .ok (.iastore, 1) := dk_79 (dk_at dksX1_append_1 2 rfl rfl)
theorem dX1_append_27 : decode cX1_append 27 = .ok (.dup, 1) := dk_89 (dk_at dksX1_append_1 3 rfl rfl)
theorem dX1_append_28 : decode cX1_append 28 = .ok (.iconst 2, 1) := dk_5 (dk_at dksX1_append_1 4 rfl rfl)
theorem dX1_append_29 : decode cX1_append 29 = .ok (.iload_n 3, 1) := dk_29 (dk_at dksX1_append_1 5 rfl rfl)
theorem dX1_append_30 : decode cX1_append 30 = .ok (.iastore, 1) := dk_79 (dk_at dksX1_append_1 6 rfl rfl)
theorem dX1_append_31 : decode cX1_append 31 = .ok (.dup, 1) := dk_89 (dk_at dksX1_append_1 7 rfl rfl)
theorem dX1_append_32 : decode cX1_append 32 = .ok (.iconst 3, 1) := dk_6 (dk_at dksX1_append_1 8 rfl rfl)
theorem dX1_append_33 : decode cX1_append 33 = .ok (.iload 4, 2) := dk_21 4 (dk_at dksX1_append_1 9 rfl rfl)
theorem dX1_append_35 : decode cX1_append 35 = .ok (.iastore, 1) := dk_79 (dk_at dksX1_append_1 11 rfl rfl)
theorem dX1_append_36 : decode cX1_append 36 = .ok (.dup, 1) := dk_89 (dk_at dksX1_append_1 12 rfl rfl)
theorem dX1_append_37 : decode cX1_append 37 = .ok (.iconst 4, 1) := dk_7 (dk_at dksX1_append_1 13 rfl rfl)
theorem dX1_append_38 : decode cX1_append 38 = .ok (.iload 5, 2) := dk_21 5 (dk_at dksX1_append_1 14 rfl rfl)
theorem dX1_append_40 : decode cX1_append 40 = .ok (.iastore, 1) := dk_79 (dk_at dksX1_append_1 16 rfl rfl)
theorem dX1_append_41 : decode cX1_append 41 = .ok (.invokevirtual 53, 3) := dk_182 0 53 (dk_at dksX1_append_1 17 rfl rfl)
theorem dX1_append_44 : decode cX1_append 44 = .ok (.aload_n 0, 1) := dk_42 (dk_at dksX1_append_1 20 rfl rfl)
theorem dX1_append_45 : decode cX1_append 45 = .ok (.getfield 50, 3) := dk_180 0 50 (dk_at dksX1_append_1 21 rfl rfl)
theorem dX1_append_48 : decode cX1_append 48 = .ok (.ireturn, 1) := dk_172 (dk_at dksX1_append_2 0 rfl rfl)
abbrev cX1_put : ByteArray := prog_1_method_6_code
def yX1_put : MethodName := ⟨RX1, "put", "([I)V"⟩
def dkwX1_put_2 : List UInt8 := [180, 0, 50, 4, 96, 181, 0, 50, 132, 6, 248, 167, 255, 223, 132, 4, 1, 167, 255, 201, 177]
abbrev dktX1_put_2 : List UInt8 := dkwX1_put_2 ++ []
def dkwX1_put_1 : List UInt8 := [21, 6, 155, 0, 34, 42, 180, 0, 26, 42, 180, 0, 50, 21, 5, 21, 6, 122, 145, 84, 42, 89]
abbrev dktX1_put_1 : List UInt8 := dkwX1_put_1 ++ dktX1_put_2
def dkwX1_put_0 : List UInt8 := [43, 77, 44, 190, 62, 3, 54, 4, 21, 4, 29, 162, 0, 55, 44, 21, 4, 46, 54, 5, 16, 24, 54, 6]
abbrev dktX1_put_0 : List UInt8 := dkwX1_put_0 ++ dktX1_put_1
theorem dksX1_put_0 : cX1_put.data.toList.drop 0 = dktX1_put_0 := by decide +kernel
theorem dksX1_put_1 : cX1_put.data.toList.drop 24 = dktX1_put_1 := dk_seg dksX1_put_0 24 rfl rfl
theorem dksX1_put_2 : cX1_put.data.toList.drop 46 = dktX1_put_2 := dk_seg dksX1_put_1 22 rfl rfl
theorem dX1_put_0 : decode cX1_put 0 = .ok (.aload_n 1, 1) := dk_43 (dk_at dksX1_put_0 0 rfl rfl)
theorem dX1_put_1 : decode cX1_put 1 = .ok (.astore_n 2, 1) := dk_77 (dk_at dksX1_put_0 1 rfl rfl)
theorem dX1_put_2 : decode cX1_put 2 = .ok (.aload_n 2, 1) := dk_44 (dk_at dksX1_put_0 2 rfl rfl)
theorem dX1_put_3 : decode cX1_put 3 = .ok (.arraylength, 1) := dk_190 (dk_at dksX1_put_0 3 rfl rfl)
theorem dX1_put_4 : decode cX1_put 4 = .ok (.istore_n 3, 1) := dk_62 (dk_at dksX1_put_0 4 rfl rfl)
theorem dX1_put_5 : decode cX1_put 5 = .ok (.iconst 0, 1) := dk_3 (dk_at dksX1_put_0 5 rfl rfl)
theorem dX1_put_6 : decode cX1_put 6 = .ok (.istore 4, 2) := dk_54 4 (dk_at dksX1_put_0 6 rfl rfl)
theorem dX1_put_8 : decode cX1_put 8 = .ok (.iload 4, 2) := dk_21 4 (dk_at dksX1_put_0 8 rfl rfl)
theorem dX1_put_10 : decode cX1_put 10 = .ok (.iload_n 3, 1) := dk_29 (dk_at dksX1_put_0 10 rfl rfl)
theorem dX1_put_11 : decode cX1_put 11 = .ok (.if_icmp .ge 55, 3) := dk_162 0 55 (dk_at dksX1_put_0 11 rfl rfl)
theorem dX1_put_14 : decode cX1_put 14 = .ok (.aload_n 2, 1) := dk_44 (dk_at dksX1_put_0 14 rfl rfl)
theorem dX1_put_15 : decode cX1_put 15 = .ok (.iload 4, 2) := dk_21 4 (dk_at dksX1_put_0 15 rfl rfl)
theorem dX1_put_17 : decode cX1_put 17 = .ok (.iaload, 1) := dk_46 (dk_at dksX1_put_0 17 rfl rfl)
theorem dX1_put_18 : decode cX1_put 18 = .ok (.istore 5, 2) := dk_54 5 (dk_at dksX1_put_0 18 rfl rfl)
theorem dX1_put_20 : decode cX1_put 20 = .ok (.bipush 24, 2) := dk_16 24 (dk_at dksX1_put_0 20 rfl rfl)
theorem dX1_put_22 : decode cX1_put 22 = .ok (.istore 6, 2) := dk_54 6 (dk_at dksX1_put_0 22 rfl rfl)
theorem dX1_put_24 : decode cX1_put 24 = .ok (.iload 6, 2) := dk_21 6 (dk_at dksX1_put_1 0 rfl rfl)
theorem dX1_put_26 : decode cX1_put 26 = .ok (.ifCond .lt 34, 3) := dk_155 0 34 (dk_at dksX1_put_1 2 rfl rfl)
theorem dX1_put_29 : decode cX1_put 29 = .ok (.aload_n 0, 1) := dk_42 (dk_at dksX1_put_1 5 rfl rfl)
theorem dX1_put_30 : decode cX1_put 30 = .ok (.getfield 26, 3) := dk_180 0 26 (dk_at dksX1_put_1 6 rfl rfl)
theorem dX1_put_33 : decode cX1_put 33 = .ok (.aload_n 0, 1) := dk_42 (dk_at dksX1_put_1 9 rfl rfl)
theorem dX1_put_34 : decode cX1_put 34 = .ok (.getfield 50, 3) := dk_180 0 50 (dk_at dksX1_put_1 10 rfl rfl)
theorem dX1_put_37 : decode cX1_put 37 = .ok (.iload 5, 2) := dk_21 5 (dk_at dksX1_put_1 13 rfl rfl)
theorem dX1_put_39 : decode cX1_put 39 = .ok (.iload 6, 2) := dk_21 6 (dk_at dksX1_put_1 15 rfl rfl)
theorem dX1_put_41 : decode cX1_put 41 = .ok (.ishr, 1) := dk_122 (dk_at dksX1_put_1 17 rfl rfl)
theorem dX1_put_42 : decode cX1_put 42 = .ok (.i2b, 1) := dk_145 (dk_at dksX1_put_1 18 rfl rfl)
theorem dX1_put_43 : decode cX1_put 43 = .ok (.bastore, 1) := dk_84 (dk_at dksX1_put_1 19 rfl rfl)
theorem dX1_put_44 : decode cX1_put 44 = .ok (.aload_n 0, 1) := dk_42 (dk_at dksX1_put_1 20 rfl rfl)
theorem dX1_put_45 : decode cX1_put 45 = .ok (.dup, 1) := dk_89 (dk_at dksX1_put_1 21 rfl rfl)
theorem dX1_put_46 : decode cX1_put 46 = .ok (.getfield 50, 3) := dk_180 0 50 (dk_at dksX1_put_2 0 rfl rfl)
theorem dX1_put_49 : decode cX1_put 49 = .ok (.iconst 1, 1) := dk_4 (dk_at dksX1_put_2 3 rfl rfl)
theorem dX1_put_50 : decode cX1_put 50 = .ok (.iadd, 1) := dk_96 (dk_at dksX1_put_2 4 rfl rfl)
theorem dX1_put_51 : decode cX1_put 51 = .ok (.putfield 50, 3) := dk_181 0 50 (dk_at dksX1_put_2 5 rfl rfl)
theorem dX1_put_54 : decode cX1_put 54 = .ok (.iinc 6 (-8), 3) := dk_132 6 248 (dk_at dksX1_put_2 8 rfl rfl)
theorem dX1_put_57 : decode cX1_put 57 = .ok (.goto (-33), 3) := dk_167 255 223 (dk_at dksX1_put_2 11 rfl rfl)
theorem dX1_put_60 : decode cX1_put 60 = .ok (.iinc 4 1, 3) := dk_132 4 1 (dk_at dksX1_put_2 14 rfl rfl)
theorem dX1_put_63 : decode cX1_put 63 = .ok (.goto (-55), 3) := dk_167 255 201 (dk_at dksX1_put_2 17 rfl rfl)
theorem dX1_put_66 : decode cX1_put 66 = .ok (.return_, 1) := dk_177 (dk_at dksX1_put_2 20 rfl rfl)
abbrev cX1_errorOffset : ByteArray := prog_1_method_17_code
def yX1_errorOffset : MethodName := ⟨RX1, "errorOffset", "()I"⟩
theorem dX1_errorOffset_0 : decode cX1_errorOffset 0 = .ok (.aload_n 0, 1) := by decide +kernel
theorem dX1_errorOffset_1 : decode cX1_errorOffset 1 = .ok (.getfield 30, 3) := by decide +kernel
theorem dX1_errorOffset_4 : decode cX1_errorOffset 4 = .ok (.ireturn, 1) := by decide +kernel
abbrev cX1_nodeCount : ByteArray := prog_1_method_18_code
def yX1_nodeCount : MethodName := ⟨RX1, "nodeCount", "()I"⟩
def dkwX1_nodeCount_0 : List UInt8 := [42, 180, 0, 37, 180, 0, 66, 185, 0, 70, 1, 0, 172]
abbrev dktX1_nodeCount_0 : List UInt8 := dkwX1_nodeCount_0 ++ []
theorem dksX1_nodeCount_0 : cX1_nodeCount.data.toList.drop 0 = dktX1_nodeCount_0 := by decide +kernel
theorem dX1_nodeCount_0 : decode cX1_nodeCount 0 = .ok (.aload_n 0, 1) := dk_42 (dk_at dksX1_nodeCount_0 0 rfl rfl)
theorem dX1_nodeCount_1 : decode cX1_nodeCount 1 = .ok (.getfield 37, 3) := dk_180 0 37 (dk_at dksX1_nodeCount_0 1 rfl rfl)
theorem dX1_nodeCount_4 : decode cX1_nodeCount 4 = .ok (.getfield 66, 3) := dk_180 0 66 (dk_at dksX1_nodeCount_0 4 rfl rfl)
theorem dX1_nodeCount_7 : decode cX1_nodeCount 7 = .ok (.invokeinterface 70 1, 5) := by decide +kernel
theorem dX1_nodeCount_12 : decode cX1_nodeCount 12 = .ok (.ireturn, 1) := dk_172 (dk_at dksX1_nodeCount_0 12 rfl rfl)
abbrev cX1_groupCount : ByteArray := prog_1_method_19_code
def yX1_groupCount : MethodName := ⟨RX1, "groupCount", "()I"⟩
def dkwX1_groupCount_0 : List UInt8 := [42, 180, 0, 37, 180, 0, 84, 172]
abbrev dktX1_groupCount_0 : List UInt8 := dkwX1_groupCount_0 ++ []
theorem dksX1_groupCount_0 : cX1_groupCount.data.toList.drop 0 = dktX1_groupCount_0 := by decide +kernel
theorem dX1_groupCount_0 : decode cX1_groupCount 0 = .ok (.aload_n 0, 1) := dk_42 (dk_at dksX1_groupCount_0 0 rfl rfl)
theorem dX1_groupCount_1 : decode cX1_groupCount 1 = .ok (.getfield 37, 3) := dk_180 0 37 (dk_at dksX1_groupCount_0 1 rfl rfl)
theorem dX1_groupCount_4 : decode cX1_groupCount 4 = .ok (.getfield 84, 3) := dk_180 0 84 (dk_at dksX1_groupCount_0 4 rfl rfl)
theorem dX1_groupCount_7 : decode cX1_groupCount 7 = .ok (.ireturn, 1) := dk_172 (dk_at dksX1_groupCount_0 7 rfl rfl)
abbrev cX1_memberCount : ByteArray := prog_1_method_20_code
def yX1_memberCount : MethodName := ⟨RX1, "memberCount", "()I"⟩
def dkwX1_memberCount_0 : List UInt8 := [42, 180, 0, 37, 180, 0, 90, 185, 0, 94, 1, 0, 172]
abbrev dktX1_memberCount_0 : List UInt8 := dkwX1_memberCount_0 ++ []
theorem dksX1_memberCount_0 : cX1_memberCount.data.toList.drop 0 = dktX1_memberCount_0 := by decide +kernel
theorem dX1_memberCount_0 : decode cX1_memberCount 0 = .ok (.aload_n 0, 1) := dk_42 (dk_at dksX1_memberCount_0 0 rfl rfl)
theorem dX1_memberCount_1 : decode cX1_memberCount 1 = .ok (.getfield 37, 3) := dk_180 0 37 (dk_at dksX1_memberCount_0 1 rfl rfl)
theorem dX1_memberCount_4 : decode cX1_memberCount 4 = .ok (.getfield 90, 3) := dk_180 0 90 (dk_at dksX1_memberCount_0 4 rfl rfl)
theorem dX1_memberCount_7 : decode cX1_memberCount 7 = .ok (.invokeinterface 94 1, 5) := by decide +kernel
theorem dX1_memberCount_12 : decode cX1_memberCount 12 = .ok (.ireturn, 1) := dk_172 (dk_at dksX1_memberCount_0 12 rfl rfl)
abbrev cX1_stageCount : ByteArray := prog_1_method_21_code
def yX1_stageCount : MethodName := ⟨RX1, "stageCount", "()I"⟩
def dkwX1_stageCount_0 : List UInt8 := [42, 180, 0, 37, 182, 0, 87, 172]
abbrev dktX1_stageCount_0 : List UInt8 := dkwX1_stageCount_0 ++ []
theorem dksX1_stageCount_0 : cX1_stageCount.data.toList.drop 0 = dktX1_stageCount_0 := by decide +kernel
theorem dX1_stageCount_0 : decode cX1_stageCount 0 = .ok (.aload_n 0, 1) := dk_42 (dk_at dksX1_stageCount_0 0 rfl rfl)
theorem dX1_stageCount_1 : decode cX1_stageCount 1 = .ok (.getfield 37, 3) := dk_180 0 37 (dk_at dksX1_stageCount_0 1 rfl rfl)
theorem dX1_stageCount_4 : decode cX1_stageCount 4 = .ok (.invokevirtual 87, 3) := dk_182 0 87 (dk_at dksX1_stageCount_0 4 rfl rfl)
theorem dX1_stageCount_7 : decode cX1_stageCount 7 = .ok (.ireturn, 1) := dk_172 (dk_at dksX1_stageCount_0 7 rfl rfl)
abbrev cX1_weight : ByteArray := prog_1_method_22_code
def yX1_weight : MethodName := ⟨RX1, "weight", "()I"⟩
def dkwX1_weight_0 : List UInt8 := [42, 180, 0, 37, 182, 0, 144, 172]
abbrev dktX1_weight_0 : List UInt8 := dkwX1_weight_0 ++ []
theorem dksX1_weight_0 : cX1_weight.data.toList.drop 0 = dktX1_weight_0 := by decide +kernel
theorem dX1_weight_0 : decode cX1_weight 0 = .ok (.aload_n 0, 1) := dk_42 (dk_at dksX1_weight_0 0 rfl rfl)
theorem dX1_weight_1 : decode cX1_weight 1 = .ok (.getfield 37, 3) := dk_180 0 37 (dk_at dksX1_weight_0 1 rfl rfl)
theorem dX1_weight_4 : decode cX1_weight 4 = .ok (.invokevirtual 144, 3) := dk_182 0 144 (dk_at dksX1_weight_0 4 rfl rfl)
theorem dX1_weight_7 : decode cX1_weight 7 = .ok (.ireturn, 1) := dk_172 (dk_at dksX1_weight_0 7 rfl rfl)
abbrev cX1_parts : ByteArray := prog_1_method_27_code
def yX1_parts : MethodName := ⟨RX1, "parts", "()I"⟩
def dkwX1_parts_6 : List UInt8 := [167, 255, 231, 167, 255, 174, 28, 172]
abbrev dktX1_parts_6 : List UInt8 := dkwX1_parts_6 ++ []
def dkwX1_parts_5 : List UInt8 := [43, 190, 162, 0, 24, 43, 21, 7, 46, 21, 5, 160, 0, 9, 43, 21, 7, 21, 6, 79, 132, 7, 1]
abbrev dktX1_parts_5 : List UInt8 := dkwX1_parts_5 ++ dktX1_parts_6
def dkwX1_parts_4 : List UInt8 := [180, 0, 164, 46, 54, 6, 21, 5, 21, 6, 160, 0, 6, 167, 255, 211, 132, 2, 255, 3, 54, 7, 21, 7]
abbrev dktX1_parts_4 : List UInt8 := dkwX1_parts_4 ++ dktX1_parts_5
def dkwX1_parts_3 : List UInt8 := [185, 0, 201, 1, 0, 192, 0, 160, 58, 4, 43, 25, 4, 180, 0, 159, 46, 54, 5, 43, 25, 4]
abbrev dktX1_parts_3 : List UInt8 := dkwX1_parts_3 ++ dktX1_parts_4
def dkwX1_parts_2 : List UInt8 := [185, 0, 211, 1, 0, 185, 0, 215, 1, 0, 78, 45, 185, 0, 195, 1, 0, 153, 0, 79, 45]
abbrev dktX1_parts_2 : List UInt8 := dkwX1_parts_2 ++ dktX1_parts_3
def dkwX1_parts_1 : List UInt8 := [162, 0, 13, 43, 29, 29, 79, 132, 3, 1, 167, 255, 243, 42, 180, 0, 37, 180, 0, 90]
abbrev dktX1_parts_1 : List UInt8 := dkwX1_parts_1 ++ dktX1_parts_2
def dkwX1_parts_0 : List UInt8 := [42, 180, 0, 37, 180, 0, 66, 185, 0, 70, 1, 0, 188, 10, 76, 43, 190, 61, 3, 62, 29, 43, 190]
abbrev dktX1_parts_0 : List UInt8 := dkwX1_parts_0 ++ dktX1_parts_1
theorem dksX1_parts_0 : cX1_parts.data.toList.drop 0 = dktX1_parts_0 := by decide +kernel
theorem dksX1_parts_1 : cX1_parts.data.toList.drop 23 = dktX1_parts_1 := dk_seg dksX1_parts_0 23 rfl rfl
theorem dksX1_parts_2 : cX1_parts.data.toList.drop 43 = dktX1_parts_2 := dk_seg dksX1_parts_1 20 rfl rfl
theorem dksX1_parts_3 : cX1_parts.data.toList.drop 64 = dktX1_parts_3 := dk_seg dksX1_parts_2 21 rfl rfl
theorem dksX1_parts_4 : cX1_parts.data.toList.drop 86 = dktX1_parts_4 := dk_seg dksX1_parts_3 22 rfl rfl
theorem dksX1_parts_5 : cX1_parts.data.toList.drop 110 = dktX1_parts_5 := dk_seg dksX1_parts_4 24 rfl rfl
theorem dksX1_parts_6 : cX1_parts.data.toList.drop 133 = dktX1_parts_6 := dk_seg dksX1_parts_5 23 rfl rfl
theorem dX1_parts_0 : decode cX1_parts 0 = .ok (.aload_n 0, 1) := dk_42 (dk_at dksX1_parts_0 0 rfl rfl)
theorem dX1_parts_1 : decode cX1_parts 1 = .ok (.getfield 37, 3) := dk_180 0 37 (dk_at dksX1_parts_0 1 rfl rfl)
theorem dX1_parts_4 : decode cX1_parts 4 = .ok (.getfield 66, 3) := dk_180 0 66 (dk_at dksX1_parts_0 4 rfl rfl)
theorem dX1_parts_7 : decode cX1_parts 7 = .ok (.invokeinterface 70 1, 5) := by decide +kernel
theorem dX1_parts_12 : decode cX1_parts 12 = .ok (.newarray .int, 2) := dk_188_10 (dk_at dksX1_parts_0 12 rfl rfl)
theorem dX1_parts_14 : decode cX1_parts 14 = .ok (.astore_n 1, 1) := dk_76 (dk_at dksX1_parts_0 14 rfl rfl)
theorem dX1_parts_15 : decode cX1_parts 15 = .ok (.aload_n 1, 1) := dk_43 (dk_at dksX1_parts_0 15 rfl rfl)
theorem dX1_parts_16 : decode cX1_parts 16 = .ok (.arraylength, 1) := dk_190 (dk_at dksX1_parts_0 16 rfl rfl)
theorem dX1_parts_17 : decode cX1_parts 17 = .ok (.istore_n 2, 1) := dk_61 (dk_at dksX1_parts_0 17 rfl rfl)
theorem dX1_parts_18 : decode cX1_parts 18 = .ok (.iconst 0, 1) := dk_3 (dk_at dksX1_parts_0 18 rfl rfl)
theorem dX1_parts_19 : decode cX1_parts 19 = .ok (.istore_n 3, 1) := dk_62 (dk_at dksX1_parts_0 19 rfl rfl)
theorem dX1_parts_20 : decode cX1_parts 20 = .ok (.iload_n 3, 1) := dk_29 (dk_at dksX1_parts_0 20 rfl rfl)
theorem dX1_parts_21 : decode cX1_parts 21 = .ok (.aload_n 1, 1) := dk_43 (dk_at dksX1_parts_0 21 rfl rfl)
theorem dX1_parts_22 : decode cX1_parts 22 = .ok (.arraylength, 1) := dk_190 (dk_at dksX1_parts_0 22 rfl rfl)
theorem dX1_parts_23 : decode cX1_parts 23 = .ok (.if_icmp .ge 13, 3) := dk_162 0 13 (dk_at dksX1_parts_1 0 rfl rfl)
theorem dX1_parts_26 : decode cX1_parts 26 = .ok (.aload_n 1, 1) := dk_43 (dk_at dksX1_parts_1 3 rfl rfl)
theorem dX1_parts_27 : decode cX1_parts 27 = .ok (.iload_n 3, 1) := dk_29 (dk_at dksX1_parts_1 4 rfl rfl)
theorem dX1_parts_28 : decode cX1_parts 28 = .ok (.iload_n 3, 1) := dk_29 (dk_at dksX1_parts_1 5 rfl rfl)
theorem dX1_parts_29 : decode cX1_parts 29 = .ok (.iastore, 1) := dk_79 (dk_at dksX1_parts_1 6 rfl rfl)
theorem dX1_parts_30 : decode cX1_parts 30 = .ok (.iinc 3 1, 3) := dk_132 3 1 (dk_at dksX1_parts_1 7 rfl rfl)
theorem dX1_parts_33 : decode cX1_parts 33 = .ok (.goto (-13), 3) := dk_167 255 243 (dk_at dksX1_parts_1 10 rfl rfl)
theorem dX1_parts_36 : decode cX1_parts 36 = .ok (.aload_n 0, 1) := dk_42 (dk_at dksX1_parts_1 13 rfl rfl)
theorem dX1_parts_37 : decode cX1_parts 37 = .ok (.getfield 37, 3) := dk_180 0 37 (dk_at dksX1_parts_1 14 rfl rfl)
theorem dX1_parts_40 : decode cX1_parts 40 = .ok (.getfield 90, 3) := dk_180 0 90 (dk_at dksX1_parts_1 17 rfl rfl)
theorem dX1_parts_43 : decode cX1_parts 43 = .ok (.invokeinterface 211 1, 5) := by decide +kernel
theorem dX1_parts_48 : decode cX1_parts 48 = .ok (.invokeinterface 215 1, 5) := by decide +kernel
theorem dX1_parts_53 : decode cX1_parts 53 = .ok (.astore_n 3, 1) := dk_78 (dk_at dksX1_parts_2 10 rfl rfl)
theorem dX1_parts_54 : decode cX1_parts 54 = .ok (.aload_n 3, 1) := dk_45 (dk_at dksX1_parts_2 11 rfl rfl)
theorem dX1_parts_55 : decode cX1_parts 55 = .ok (.invokeinterface 195 1, 5) := by decide +kernel
theorem dX1_parts_60 : decode cX1_parts 60 = .ok (.ifCond .eq 79, 3) := dk_153 0 79 (dk_at dksX1_parts_2 17 rfl rfl)
theorem dX1_parts_63 : decode cX1_parts 63 = .ok (.aload_n 3, 1) := dk_45 (dk_at dksX1_parts_2 20 rfl rfl)
theorem dX1_parts_64 : decode cX1_parts 64 = .ok (.invokeinterface 201 1, 5) := by decide +kernel
theorem dX1_parts_69 : decode cX1_parts 69 = .ok (.checkcast 160, 3) := dk_192 0 160 (dk_at dksX1_parts_3 5 rfl rfl)
theorem dX1_parts_72 : decode cX1_parts 72 = .ok (.astore 4, 2) := dk_58 4 (dk_at dksX1_parts_3 8 rfl rfl)
theorem dX1_parts_74 : decode cX1_parts 74 = .ok (.aload_n 1, 1) := dk_43 (dk_at dksX1_parts_3 10 rfl rfl)
theorem dX1_parts_75 : decode cX1_parts 75 = .ok (.aload 4, 2) := dk_25 4 (dk_at dksX1_parts_3 11 rfl rfl)
theorem dX1_parts_77 : decode cX1_parts 77 = .ok (.getfield 159, 3) := dk_180 0 159 (dk_at dksX1_parts_3 13 rfl rfl)
theorem dX1_parts_80 : decode cX1_parts 80 = .ok (.iaload, 1) := dk_46 (dk_at dksX1_parts_3 16 rfl rfl)
theorem dX1_parts_81 : decode cX1_parts 81 = .ok (.istore 5, 2) := dk_54 5 (dk_at dksX1_parts_3 17 rfl rfl)
theorem dX1_parts_83 : decode cX1_parts 83 = .ok (.aload_n 1, 1) := dk_43 (dk_at dksX1_parts_3 19 rfl rfl)
theorem dX1_parts_84 : decode cX1_parts 84 = .ok (.aload 4, 2) := dk_25 4 (dk_at dksX1_parts_3 20 rfl rfl)
theorem dX1_parts_86 : decode cX1_parts 86 = .ok (.getfield 164, 3) := dk_180 0 164 (dk_at dksX1_parts_4 0 rfl rfl)
theorem dX1_parts_89 : decode cX1_parts 89 = .ok (.iaload, 1) := dk_46 (dk_at dksX1_parts_4 3 rfl rfl)
theorem dX1_parts_90 : decode cX1_parts 90 = .ok (.istore 6, 2) := dk_54 6 (dk_at dksX1_parts_4 4 rfl rfl)
theorem dX1_parts_92 : decode cX1_parts 92 = .ok (.iload 5, 2) := dk_21 5 (dk_at dksX1_parts_4 6 rfl rfl)
theorem dX1_parts_94 : decode cX1_parts 94 = .ok (.iload 6, 2) := dk_21 6 (dk_at dksX1_parts_4 8 rfl rfl)
theorem dX1_parts_96 : decode cX1_parts 96 = .ok (.if_icmp .ne 6, 3) := dk_160 0 6 (dk_at dksX1_parts_4 10 rfl rfl)
theorem dX1_parts_99 : decode cX1_parts 99 = .ok (.goto (-45), 3) := dk_167 255 211 (dk_at dksX1_parts_4 13 rfl rfl)
theorem dX1_parts_102 : decode cX1_parts 102 = .ok (.iinc 2 (-1), 3) := dk_132 2 255 (dk_at dksX1_parts_4 16 rfl rfl)
theorem dX1_parts_105 : decode cX1_parts 105 = .ok (.iconst 0, 1) := dk_3 (dk_at dksX1_parts_4 19 rfl rfl)
theorem dX1_parts_106 : decode cX1_parts 106 = .ok (.istore 7, 2) := dk_54 7 (dk_at dksX1_parts_4 20 rfl rfl)
theorem dX1_parts_108 : decode cX1_parts 108 = .ok (.iload 7, 2) := dk_21 7 (dk_at dksX1_parts_4 22 rfl rfl)
theorem dX1_parts_110 : decode cX1_parts 110 = .ok (.aload_n 1, 1) := dk_43 (dk_at dksX1_parts_5 0 rfl rfl)
theorem dX1_parts_111 : decode cX1_parts 111 = .ok (.arraylength, 1) := dk_190 (dk_at dksX1_parts_5 1 rfl rfl)
theorem dX1_parts_112 : decode cX1_parts 112 = .ok (.if_icmp .ge 24, 3) := dk_162 0 24 (dk_at dksX1_parts_5 2 rfl rfl)
theorem dX1_parts_115 : decode cX1_parts 115 = .ok (.aload_n 1, 1) := dk_43 (dk_at dksX1_parts_5 5 rfl rfl)
theorem dX1_parts_116 : decode cX1_parts 116 = .ok (.iload 7, 2) := dk_21 7 (dk_at dksX1_parts_5 6 rfl rfl)
theorem dX1_parts_118 : decode cX1_parts 118 = .ok (.iaload, 1) := dk_46 (dk_at dksX1_parts_5 8 rfl rfl)
theorem dX1_parts_119 : decode cX1_parts 119 = .ok (.iload 5, 2) := dk_21 5 (dk_at dksX1_parts_5 9 rfl rfl)
theorem dX1_parts_121 : decode cX1_parts 121 = .ok (.if_icmp .ne 9, 3) := dk_160 0 9 (dk_at dksX1_parts_5 11 rfl rfl)
theorem dX1_parts_124 : decode cX1_parts 124 = .ok (.aload_n 1, 1) := dk_43 (dk_at dksX1_parts_5 14 rfl rfl)
theorem dX1_parts_125 : decode cX1_parts 125 = .ok (.iload 7, 2) := dk_21 7 (dk_at dksX1_parts_5 15 rfl rfl)
theorem dX1_parts_127 : decode cX1_parts 127 = .ok (.iload 6, 2) := dk_21 6 (dk_at dksX1_parts_5 17 rfl rfl)
theorem dX1_parts_129 : decode cX1_parts 129 = .ok (.iastore, 1) := dk_79 (dk_at dksX1_parts_5 19 rfl rfl)
theorem dX1_parts_130 : decode cX1_parts 130 = .ok (.iinc 7 1, 3) := dk_132 7 1 (dk_at dksX1_parts_5 20 rfl rfl)
theorem dX1_parts_133 : decode cX1_parts 133 = .ok (.goto (-25), 3) := dk_167 255 231 (dk_at dksX1_parts_6 0 rfl rfl)
theorem dX1_parts_136 : decode cX1_parts 136 = .ok (.goto (-82), 3) := dk_167 255 174 (dk_at dksX1_parts_6 3 rfl rfl)
theorem dX1_parts_139 : decode cX1_parts 139 = .ok (.iload_n 2, 1) := dk_28 (dk_at dksX1_parts_6 6 rfl rfl)
theorem dX1_parts_140 : decode cX1_parts 140 = .ok (.ireturn, 1) := dk_172 (dk_at dksX1_parts_6 7 rfl rfl)
abbrev cX1_greatestUse : ByteArray := prog_1_method_34_code
def yX1_greatestUse : MethodName := ⟨RX1, "greatestUse", "()I"⟩
def dkwX1_greatestUse_4 : List UInt8 := [167, 255, 187, 28, 172]
abbrev dktX1_greatestUse_4 : List UInt8 := dkwX1_greatestUse_4 ++ []
def dkwX1_greatestUse_3 : List UInt8 := [25, 8, 43, 25, 8, 182, 0, 229, 182, 0, 249, 184, 1, 0, 61, 132, 7, 1, 167, 255, 219, 132, 4, 1]
abbrev dktX1_greatestUse_3 : List UInt8 := dkwX1_greatestUse_3 ++ dktX1_greatestUse_4
def dkwX1_greatestUse_2 : List UInt8 := [54, 6, 3, 54, 7, 21, 7, 21, 6, 162, 0, 36, 25, 5, 21, 7, 50, 58, 8, 28, 42, 180, 0, 37]
abbrev dktX1_greatestUse_2 : List UInt8 := dkwX1_greatestUse_2 ++ dktX1_greatestUse_3
def dkwX1_greatestUse_1 : List UInt8 := [54, 4, 21, 4, 29, 162, 0, 69, 43, 21, 4, 182, 0, 109, 43, 180, 0, 253, 58, 5, 25, 5, 190]
abbrev dktX1_greatestUse_1 : List UInt8 := dkwX1_greatestUse_1 ++ dktX1_greatestUse_2
def dkwX1_greatestUse_0 : List UInt8 := [187, 0, 104, 89, 42, 180, 0, 37, 183, 0, 106, 76, 3, 61, 42, 180, 0, 37, 182, 0, 87, 62, 3]
abbrev dktX1_greatestUse_0 : List UInt8 := dkwX1_greatestUse_0 ++ dktX1_greatestUse_1
theorem dksX1_greatestUse_0 : cX1_greatestUse.data.toList.drop 0 = dktX1_greatestUse_0 := by decide +kernel
theorem dksX1_greatestUse_1 : cX1_greatestUse.data.toList.drop 23 = dktX1_greatestUse_1 := dk_seg dksX1_greatestUse_0 23 rfl rfl
theorem dksX1_greatestUse_2 : cX1_greatestUse.data.toList.drop 46 = dktX1_greatestUse_2 := dk_seg dksX1_greatestUse_1 23 rfl rfl
theorem dksX1_greatestUse_3 : cX1_greatestUse.data.toList.drop 70 = dktX1_greatestUse_3 := dk_seg dksX1_greatestUse_2 24 rfl rfl
theorem dksX1_greatestUse_4 : cX1_greatestUse.data.toList.drop 94 = dktX1_greatestUse_4 := dk_seg dksX1_greatestUse_3 24 rfl rfl
theorem dX1_greatestUse_0 : decode cX1_greatestUse 0 = .ok (.new 104, 3) := dk_187 0 104 (dk_at dksX1_greatestUse_0 0 rfl rfl)
theorem dX1_greatestUse_3 : decode cX1_greatestUse 3 = .ok (.dup, 1) := dk_89 (dk_at dksX1_greatestUse_0 3 rfl rfl)
theorem dX1_greatestUse_4 : decode cX1_greatestUse 4 = .ok (.aload_n 0, 1) := dk_42 (dk_at dksX1_greatestUse_0 4 rfl rfl)
theorem dX1_greatestUse_5 : decode cX1_greatestUse 5 = .ok (.getfield 37, 3) := dk_180 0 37 (dk_at dksX1_greatestUse_0 5 rfl rfl)
theorem dX1_greatestUse_8 : decode cX1_greatestUse 8 = .ok (.invokespecial 106, 3) := dk_183 0 106 (dk_at dksX1_greatestUse_0 8 rfl rfl)
theorem dX1_greatestUse_11 : decode cX1_greatestUse 11 = .ok (.astore_n 1, 1) := dk_76 (dk_at dksX1_greatestUse_0 11 rfl rfl)
theorem dX1_greatestUse_12 : decode cX1_greatestUse 12 = .ok (.iconst 0, 1) := dk_3 (dk_at dksX1_greatestUse_0 12 rfl rfl)
theorem dX1_greatestUse_13 : decode cX1_greatestUse 13 = .ok (.istore_n 2, 1) := dk_61 (dk_at dksX1_greatestUse_0 13 rfl rfl)
theorem dX1_greatestUse_14 : decode cX1_greatestUse 14 = .ok (.aload_n 0, 1) := dk_42 (dk_at dksX1_greatestUse_0 14 rfl rfl)
theorem dX1_greatestUse_15 : decode cX1_greatestUse 15 = .ok (.getfield 37, 3) := dk_180 0 37 (dk_at dksX1_greatestUse_0 15 rfl rfl)
theorem dX1_greatestUse_18 : decode cX1_greatestUse 18 = .ok (.invokevirtual 87, 3) := dk_182 0 87 (dk_at dksX1_greatestUse_0 18 rfl rfl)
theorem dX1_greatestUse_21 : decode cX1_greatestUse 21 = .ok (.istore_n 3, 1) := dk_62 (dk_at dksX1_greatestUse_0 21 rfl rfl)
theorem dX1_greatestUse_22 : decode cX1_greatestUse 22 = .ok (.iconst 0, 1) := dk_3 (dk_at dksX1_greatestUse_0 22 rfl rfl)
theorem dX1_greatestUse_23 : decode cX1_greatestUse 23 = .ok (.istore 4, 2) := dk_54 4 (dk_at dksX1_greatestUse_1 0 rfl rfl)
theorem dX1_greatestUse_25 : decode cX1_greatestUse 25 = .ok (.iload 4, 2) := dk_21 4 (dk_at dksX1_greatestUse_1 2 rfl rfl)
theorem dX1_greatestUse_27 : decode cX1_greatestUse 27 = .ok (.iload_n 3, 1) := dk_29 (dk_at dksX1_greatestUse_1 4 rfl rfl)
theorem dX1_greatestUse_28 : decode cX1_greatestUse 28 = .ok (.if_icmp .ge 69, 3) := dk_162 0 69 (dk_at dksX1_greatestUse_1 5 rfl rfl)
theorem dX1_greatestUse_31 : decode cX1_greatestUse 31 = .ok (.aload_n 1, 1) := dk_43 (dk_at dksX1_greatestUse_1 8 rfl rfl)
theorem dX1_greatestUse_32 : decode cX1_greatestUse 32 = .ok (.iload 4, 2) := dk_21 4 (dk_at dksX1_greatestUse_1 9 rfl rfl)
theorem dX1_greatestUse_34 : decode cX1_greatestUse 34 = .ok (.invokevirtual 109, 3) := dk_182 0 109 (dk_at dksX1_greatestUse_1 11 rfl rfl)
theorem dX1_greatestUse_37 : decode cX1_greatestUse 37 = .ok (.aload_n 1, 1) := dk_43 (dk_at dksX1_greatestUse_1 14 rfl rfl)
theorem dX1_greatestUse_38 : decode cX1_greatestUse 38 = .ok (.getfield 253, 3) := dk_180 0 253 (dk_at dksX1_greatestUse_1 15 rfl rfl)
theorem dX1_greatestUse_41 : decode cX1_greatestUse 41 = .ok (.astore 5, 2) := dk_58 5 (dk_at dksX1_greatestUse_1 18 rfl rfl)
theorem dX1_greatestUse_43 : decode cX1_greatestUse 43 = .ok (.aload 5, 2) := dk_25 5 (dk_at dksX1_greatestUse_1 20 rfl rfl)
theorem dX1_greatestUse_45 : decode cX1_greatestUse 45 = .ok (.arraylength, 1) := dk_190 (dk_at dksX1_greatestUse_1 22 rfl rfl)
theorem dX1_greatestUse_46 : decode cX1_greatestUse 46 = .ok (.istore 6, 2) := dk_54 6 (dk_at dksX1_greatestUse_2 0 rfl rfl)
theorem dX1_greatestUse_48 : decode cX1_greatestUse 48 = .ok (.iconst 0, 1) := dk_3 (dk_at dksX1_greatestUse_2 2 rfl rfl)
theorem dX1_greatestUse_49 : decode cX1_greatestUse 49 = .ok (.istore 7, 2) := dk_54 7 (dk_at dksX1_greatestUse_2 3 rfl rfl)
theorem dX1_greatestUse_51 : decode cX1_greatestUse 51 = .ok (.iload 7, 2) := dk_21 7 (dk_at dksX1_greatestUse_2 5 rfl rfl)
theorem dX1_greatestUse_53 : decode cX1_greatestUse 53 = .ok (.iload 6, 2) := dk_21 6 (dk_at dksX1_greatestUse_2 7 rfl rfl)
theorem dX1_greatestUse_55 : decode cX1_greatestUse 55 = .ok (.if_icmp .ge 36, 3) := dk_162 0 36 (dk_at dksX1_greatestUse_2 9 rfl rfl)
theorem dX1_greatestUse_58 : decode cX1_greatestUse 58 = .ok (.aload 5, 2) := dk_25 5 (dk_at dksX1_greatestUse_2 12 rfl rfl)
theorem dX1_greatestUse_60 : decode cX1_greatestUse 60 = .ok (.iload 7, 2) := dk_21 7 (dk_at dksX1_greatestUse_2 14 rfl rfl)
theorem dX1_greatestUse_62 : decode cX1_greatestUse 62 = .ok (.aaload, 1) := dk_50 (dk_at dksX1_greatestUse_2 16 rfl rfl)
theorem dX1_greatestUse_63 : decode cX1_greatestUse 63 = .ok (.astore 8, 2) := dk_58 8 (dk_at dksX1_greatestUse_2 17 rfl rfl)
theorem dX1_greatestUse_65 : decode cX1_greatestUse 65 = .ok (.iload_n 2, 1) := dk_28 (dk_at dksX1_greatestUse_2 19 rfl rfl)
theorem dX1_greatestUse_66 : decode cX1_greatestUse 66 = .ok (.aload_n 0, 1) := dk_42 (dk_at dksX1_greatestUse_2 20 rfl rfl)
theorem dX1_greatestUse_67 : decode cX1_greatestUse 67 = .ok (.getfield 37, 3) := dk_180 0 37 (dk_at dksX1_greatestUse_2 21 rfl rfl)
theorem dX1_greatestUse_70 : decode cX1_greatestUse 70 = .ok (.aload 8, 2) := dk_25 8 (dk_at dksX1_greatestUse_3 0 rfl rfl)
theorem dX1_greatestUse_72 : decode cX1_greatestUse 72 = .ok (.aload_n 1, 1) := dk_43 (dk_at dksX1_greatestUse_3 2 rfl rfl)
theorem dX1_greatestUse_73 : decode cX1_greatestUse 73 = .ok (.aload 8, 2) := dk_25 8 (dk_at dksX1_greatestUse_3 3 rfl rfl)
theorem dX1_greatestUse_75 : decode cX1_greatestUse 75 = .ok (.invokevirtual 229, 3) := dk_182 0 229 (dk_at dksX1_greatestUse_3 5 rfl rfl)
theorem dX1_greatestUse_78 : decode cX1_greatestUse 78 = .ok (.invokevirtual 249, 3) := dk_182 0 249 (dk_at dksX1_greatestUse_3 8 rfl rfl)
theorem dX1_greatestUse_81 : decode cX1_greatestUse 81 = .ok (.invokestatic 256, 3) := dk_184 1 0 (dk_at dksX1_greatestUse_3 11 rfl rfl)
theorem dX1_greatestUse_84 : decode cX1_greatestUse 84 = .ok (.istore_n 2, 1) := dk_61 (dk_at dksX1_greatestUse_3 14 rfl rfl)
theorem dX1_greatestUse_85 : decode cX1_greatestUse 85 = .ok (.iinc 7 1, 3) := dk_132 7 1 (dk_at dksX1_greatestUse_3 15 rfl rfl)
theorem dX1_greatestUse_88 : decode cX1_greatestUse 88 = .ok (.goto (-37), 3) := dk_167 255 219 (dk_at dksX1_greatestUse_3 18 rfl rfl)
theorem dX1_greatestUse_91 : decode cX1_greatestUse 91 = .ok (.iinc 4 1, 3) := dk_132 4 1 (dk_at dksX1_greatestUse_3 21 rfl rfl)
theorem dX1_greatestUse_94 : decode cX1_greatestUse 94 = .ok (.goto (-69), 3) := dk_167 255 187 (dk_at dksX1_greatestUse_4 0 rfl rfl)
theorem dX1_greatestUse_97 : decode cX1_greatestUse 97 = .ok (.iload_n 2, 1) := dk_28 (dk_at dksX1_greatestUse_4 3 rfl rfl)
theorem dX1_greatestUse_98 : decode cX1_greatestUse 98 = .ok (.ireturn, 1) := dk_172 (dk_at dksX1_greatestUse_4 4 rfl rfl)
abbrev cX1_limited : ByteArray := prog_1_method_2_code
def yX1_limited : MethodName := ⟨RX1, "limited", "(J)J"⟩
def dkwX1_limited_0 : List UInt8 := [20, 0, 3, 20, 0, 5, 30, 184, 0, 7, 184, 0, 13, 173]
abbrev dktX1_limited_0 : List UInt8 := dkwX1_limited_0 ++ []
theorem dksX1_limited_0 : cX1_limited.data.toList.drop 0 = dktX1_limited_0 := by decide +kernel
theorem dX1_limited_0 : decode cX1_limited 0 = .ok (.ldc2_w 3, 3) := dk_20 0 3 (dk_at dksX1_limited_0 0 rfl rfl)
theorem dX1_limited_3 : decode cX1_limited 3 = .ok (.ldc2_w 5, 3) := dk_20 0 5 (dk_at dksX1_limited_0 3 rfl rfl)
theorem dX1_limited_6 : decode cX1_limited 6 = .ok (.lload_n 0, 1) := dk_30 (dk_at dksX1_limited_0 6 rfl rfl)
theorem dX1_limited_7 : decode cX1_limited 7 = .ok (.invokestatic 7, 3) := dk_184 0 7 (dk_at dksX1_limited_0 7 rfl rfl)
theorem dX1_limited_10 : decode cX1_limited 10 = .ok (.invokestatic 13, 3) := dk_184 0 13 (dk_at dksX1_limited_0 10 rfl rfl)
theorem dX1_limited_13 : decode cX1_limited 13 = .ok (.lreturn, 1) := dk_173 (dk_at dksX1_limited_0 13 rfl rfl)
abbrev cX1_failureCount : ByteArray := prog_1_method_35_code
def yX1_failureCount : MethodName := ⟨RX1, "failureCount", "()I"⟩
def dkwX1_failureCount_0 : List UInt8 := [187, 0, 104, 89, 42, 180, 0, 37, 183, 0, 106, 182, 1, 3, 185, 1, 6, 1, 0, 172]
abbrev dktX1_failureCount_0 : List UInt8 := dkwX1_failureCount_0 ++ []
theorem dksX1_failureCount_0 : cX1_failureCount.data.toList.drop 0 = dktX1_failureCount_0 := by decide +kernel
theorem dX1_failureCount_0 : decode cX1_failureCount 0 = .ok (.new 104, 3) := dk_187 0 104 (dk_at dksX1_failureCount_0 0 rfl rfl)
theorem dX1_failureCount_3 : decode cX1_failureCount 3 = .ok (.dup, 1) := dk_89 (dk_at dksX1_failureCount_0 3 rfl rfl)
theorem dX1_failureCount_4 : decode cX1_failureCount 4 = .ok (.aload_n 0, 1) := dk_42 (dk_at dksX1_failureCount_0 4 rfl rfl)
theorem dX1_failureCount_5 : decode cX1_failureCount 5 = .ok (.getfield 37, 3) := dk_180 0 37 (dk_at dksX1_failureCount_0 5 rfl rfl)
theorem dX1_failureCount_8 : decode cX1_failureCount 8 = .ok (.invokespecial 106, 3) := dk_183 0 106 (dk_at dksX1_failureCount_0 8 rfl rfl)
theorem dX1_failureCount_11 : decode cX1_failureCount 11 = .ok (.invokevirtual 259, 3) := dk_182 1 3 (dk_at dksX1_failureCount_0 11 rfl rfl)
theorem dX1_failureCount_14 : decode cX1_failureCount 14 = .ok (.invokeinterface 262 1, 5) := by decide +kernel
theorem dX1_failureCount_19 : decode cX1_failureCount 19 = .ok (.ireturn, 1) := dk_172 (dk_at dksX1_failureCount_0 19 rfl rfl)
abbrev cX1_shrinkAll : ByteArray := prog_1_method_44_code
def yX1_shrinkAll : MethodName := ⟨RX1, "shrinkAll", "()I"⟩
def dkwX1_shrinkAll_2 : List UInt8 := [132, 1, 1, 167, 255, 219, 42, 180, 0, 37, 182, 0, 144, 172]
abbrev dktX1_shrinkAll_2 : List UInt8 := dkwX1_shrinkAll_2 ++ []
def dkwX1_shrinkAll_1 : List UInt8 := [42, 180, 0, 37, 27, 182, 1, 25, 61, 28, 158, 0, 13, 42, 180, 0, 37, 180, 0, 150, 27, 28, 79]
abbrev dktX1_shrinkAll_1 : List UInt8 := dkwX1_shrinkAll_1 ++ dktX1_shrinkAll_2
def dkwX1_shrinkAll_0 : List UInt8 := [42, 42, 180, 0, 37, 182, 1, 15, 182, 0, 133, 3, 60, 27, 42, 180, 0, 37, 180, 0, 84, 162, 0, 32]
abbrev dktX1_shrinkAll_0 : List UInt8 := dkwX1_shrinkAll_0 ++ dktX1_shrinkAll_1
theorem dksX1_shrinkAll_0 : cX1_shrinkAll.data.toList.drop 0 = dktX1_shrinkAll_0 := by decide +kernel
theorem dksX1_shrinkAll_1 : cX1_shrinkAll.data.toList.drop 24 = dktX1_shrinkAll_1 := dk_seg dksX1_shrinkAll_0 24 rfl rfl
theorem dksX1_shrinkAll_2 : cX1_shrinkAll.data.toList.drop 47 = dktX1_shrinkAll_2 := dk_seg dksX1_shrinkAll_1 23 rfl rfl
theorem dX1_shrinkAll_0 : decode cX1_shrinkAll 0 = .ok (.aload_n 0, 1) := dk_42 (dk_at dksX1_shrinkAll_0 0 rfl rfl)
theorem dX1_shrinkAll_1 : decode cX1_shrinkAll 1 = .ok (.aload_n 0, 1) := dk_42 (dk_at dksX1_shrinkAll_0 1 rfl rfl)
theorem dX1_shrinkAll_2 : decode cX1_shrinkAll 2 = .ok (.getfield 37, 3) := dk_180 0 37 (dk_at dksX1_shrinkAll_0 2 rfl rfl)
theorem dX1_shrinkAll_5 : decode cX1_shrinkAll 5 = .ok (.invokevirtual 271, 3) := dk_182 1 15 (dk_at dksX1_shrinkAll_0 5 rfl rfl)
theorem dX1_shrinkAll_8 : decode cX1_shrinkAll 8 = .ok (.invokevirtual 133, 3) := dk_182 0 133 (dk_at dksX1_shrinkAll_0 8 rfl rfl)
theorem dX1_shrinkAll_11 : decode cX1_shrinkAll 11 = .ok (.iconst 0, 1) := dk_3 (dk_at dksX1_shrinkAll_0 11 rfl rfl)
theorem dX1_shrinkAll_12 : decode cX1_shrinkAll 12 = .ok (.istore_n 1, 1) := dk_60 (dk_at dksX1_shrinkAll_0 12 rfl rfl)
theorem dX1_shrinkAll_13 : decode cX1_shrinkAll 13 = .ok (.iload_n 1, 1) := dk_27 (dk_at dksX1_shrinkAll_0 13 rfl rfl)
theorem dX1_shrinkAll_14 : decode cX1_shrinkAll 14 = .ok (.aload_n 0, 1) := dk_42 (dk_at dksX1_shrinkAll_0 14 rfl rfl)
theorem dX1_shrinkAll_15 : decode cX1_shrinkAll 15 = .ok (.getfield 37, 3) := dk_180 0 37 (dk_at dksX1_shrinkAll_0 15 rfl rfl)
theorem dX1_shrinkAll_18 : decode cX1_shrinkAll 18 = .ok (.getfield 84, 3) := dk_180 0 84 (dk_at dksX1_shrinkAll_0 18 rfl rfl)
theorem dX1_shrinkAll_21 : decode cX1_shrinkAll 21 = .ok (.if_icmp .ge 32, 3) := dk_162 0 32 (dk_at dksX1_shrinkAll_0 21 rfl rfl)
theorem dX1_shrinkAll_24 : decode cX1_shrinkAll 24 = .ok (.aload_n 0, 1) := dk_42 (dk_at dksX1_shrinkAll_1 0 rfl rfl)
theorem dX1_shrinkAll_25 : decode cX1_shrinkAll 25 = .ok (.getfield 37, 3) := dk_180 0 37 (dk_at dksX1_shrinkAll_1 1 rfl rfl)
theorem dX1_shrinkAll_28 : decode cX1_shrinkAll 28 = .ok (.iload_n 1, 1) := dk_27 (dk_at dksX1_shrinkAll_1 4 rfl rfl)
theorem dX1_shrinkAll_29 : decode cX1_shrinkAll 29 = .ok (.invokevirtual 281, 3) := dk_182 1 25 (dk_at dksX1_shrinkAll_1 5 rfl rfl)
theorem dX1_shrinkAll_32 : decode cX1_shrinkAll 32 = .ok (.istore_n 2, 1) := dk_61 (dk_at dksX1_shrinkAll_1 8 rfl rfl)
theorem dX1_shrinkAll_33 : decode cX1_shrinkAll 33 = .ok (.iload_n 2, 1) := dk_28 (dk_at dksX1_shrinkAll_1 9 rfl rfl)
theorem dX1_shrinkAll_34 : decode cX1_shrinkAll 34 = .ok (.ifCond .le 13, 3) := dk_158 0 13 (dk_at dksX1_shrinkAll_1 10 rfl rfl)
theorem dX1_shrinkAll_37 : decode cX1_shrinkAll 37 = .ok (.aload_n 0, 1) := dk_42 (dk_at dksX1_shrinkAll_1 13 rfl rfl)
theorem dX1_shrinkAll_38 : decode cX1_shrinkAll 38 = .ok (.getfield 37, 3) := dk_180 0 37 (dk_at dksX1_shrinkAll_1 14 rfl rfl)
theorem dX1_shrinkAll_41 : decode cX1_shrinkAll 41 = .ok (.getfield 150, 3) := dk_180 0 150 (dk_at dksX1_shrinkAll_1 17 rfl rfl)
theorem dX1_shrinkAll_44 : decode cX1_shrinkAll 44 = .ok (.iload_n 1, 1) := dk_27 (dk_at dksX1_shrinkAll_1 20 rfl rfl)
theorem dX1_shrinkAll_45 : decode cX1_shrinkAll 45 = .ok (.iload_n 2, 1) := dk_28 (dk_at dksX1_shrinkAll_1 21 rfl rfl)
theorem dX1_shrinkAll_46 : decode cX1_shrinkAll 46 = .ok (.iastore, 1) := dk_79 (dk_at dksX1_shrinkAll_1 22 rfl rfl)
theorem dX1_shrinkAll_47 : decode cX1_shrinkAll 47 = .ok (.iinc 1 1, 3) := dk_132 1 1 (dk_at dksX1_shrinkAll_2 0 rfl rfl)
theorem dX1_shrinkAll_50 : decode cX1_shrinkAll 50 = .ok (.goto (-37), 3) := dk_167 255 219 (dk_at dksX1_shrinkAll_2 3 rfl rfl)
theorem dX1_shrinkAll_53 : decode cX1_shrinkAll 53 = .ok (.aload_n 0, 1) := dk_42 (dk_at dksX1_shrinkAll_2 6 rfl rfl)
theorem dX1_shrinkAll_54 : decode cX1_shrinkAll 54 = .ok (.getfield 37, 3) := dk_180 0 37 (dk_at dksX1_shrinkAll_2 7 rfl rfl)
theorem dX1_shrinkAll_57 : decode cX1_shrinkAll 57 = .ok (.invokevirtual 144, 3) := dk_182 0 144 (dk_at dksX1_shrinkAll_2 10 rfl rfl)
theorem dX1_shrinkAll_60 : decode cX1_shrinkAll 60 = .ok (.ireturn, 1) := dk_172 (dk_at dksX1_shrinkAll_2 13 rfl rfl)
abbrev cX1_replaceBy : ByteArray := prog_1_method_15_code
def yX1_replaceBy : MethodName := ⟨RX1, "replaceBy", "(LElasticTruss$Truss;)V"⟩
def dkwX1_replaceBy_1 : List UInt8 := [180, 0, 46, 182, 0, 117, 87, 42, 43, 181, 0, 37, 177]
abbrev dktX1_replaceBy_1 : List UInt8 := dkwX1_replaceBy_1 ++ []
def dkwX1_replaceBy_0 : List UInt8 := [42, 180, 0, 46, 42, 180, 0, 37, 182, 0, 112, 42, 180, 0, 46, 182, 0, 116, 16, 8, 164, 0, 11, 42]
abbrev dktX1_replaceBy_0 : List UInt8 := dkwX1_replaceBy_0 ++ dktX1_replaceBy_1
theorem dksX1_replaceBy_0 : cX1_replaceBy.data.toList.drop 0 = dktX1_replaceBy_0 := by decide +kernel
theorem dksX1_replaceBy_1 : cX1_replaceBy.data.toList.drop 24 = dktX1_replaceBy_1 := dk_seg dksX1_replaceBy_0 24 rfl rfl
theorem dX1_replaceBy_0 : decode cX1_replaceBy 0 = .ok (.aload_n 0, 1) := dk_42 (dk_at dksX1_replaceBy_0 0 rfl rfl)
theorem dX1_replaceBy_1 : decode cX1_replaceBy 1 = .ok (.getfield 46, 3) := dk_180 0 46 (dk_at dksX1_replaceBy_0 1 rfl rfl)
theorem dX1_replaceBy_4 : decode cX1_replaceBy 4 = .ok (.aload_n 0, 1) := dk_42 (dk_at dksX1_replaceBy_0 4 rfl rfl)
theorem dX1_replaceBy_5 : decode cX1_replaceBy 5 = .ok (.getfield 37, 3) := dk_180 0 37 (dk_at dksX1_replaceBy_0 5 rfl rfl)
theorem dX1_replaceBy_8 : decode cX1_replaceBy 8 = .ok (.invokevirtual 112, 3) := dk_182 0 112 (dk_at dksX1_replaceBy_0 8 rfl rfl)
theorem dX1_replaceBy_11 : decode cX1_replaceBy 11 = .ok (.aload_n 0, 1) := dk_42 (dk_at dksX1_replaceBy_0 11 rfl rfl)
theorem dX1_replaceBy_12 : decode cX1_replaceBy 12 = .ok (.getfield 46, 3) := dk_180 0 46 (dk_at dksX1_replaceBy_0 12 rfl rfl)
theorem dX1_replaceBy_15 : decode cX1_replaceBy 15 = .ok (.invokevirtual 116, 3) := dk_182 0 116 (dk_at dksX1_replaceBy_0 15 rfl rfl)
theorem dX1_replaceBy_18 : decode cX1_replaceBy 18 = .ok (.bipush 8, 2) := dk_16 8 (dk_at dksX1_replaceBy_0 18 rfl rfl)
theorem dX1_replaceBy_20 : decode cX1_replaceBy 20 = .ok (.if_icmp .le 11, 3) := dk_164 0 11 (dk_at dksX1_replaceBy_0 20 rfl rfl)
theorem dX1_replaceBy_23 : decode cX1_replaceBy 23 = .ok (.aload_n 0, 1) := dk_42 (dk_at dksX1_replaceBy_0 23 rfl rfl)
theorem dX1_replaceBy_24 : decode cX1_replaceBy 24 = .ok (.getfield 46, 3) := dk_180 0 46 (dk_at dksX1_replaceBy_1 0 rfl rfl)
theorem dX1_replaceBy_27 : decode cX1_replaceBy 27 = .ok (.invokevirtual 117, 3) := dk_182 0 117 (dk_at dksX1_replaceBy_1 3 rfl rfl)
theorem dX1_replaceBy_30 : decode cX1_replaceBy 30 = .ok (.pop, 1) := dk_87 (dk_at dksX1_replaceBy_1 6 rfl rfl)
theorem dX1_replaceBy_31 : decode cX1_replaceBy 31 = .ok (.aload_n 0, 1) := dk_42 (dk_at dksX1_replaceBy_1 7 rfl rfl)
theorem dX1_replaceBy_32 : decode cX1_replaceBy 32 = .ok (.aload_n 1, 1) := dk_43 (dk_at dksX1_replaceBy_1 8 rfl rfl)
theorem dX1_replaceBy_33 : decode cX1_replaceBy 33 = .ok (.putfield 37, 3) := dk_181 0 37 (dk_at dksX1_replaceBy_1 9 rfl rfl)
theorem dX1_replaceBy_36 : decode cX1_replaceBy 36 = .ok (.return_, 1) := dk_177 (dk_at dksX1_replaceBy_1 12 rfl rfl)
abbrev cX1_undo : ByteArray := prog_1_method_45_code
def yX1_undo : MethodName := ⟨RX1, "undo", "()I"⟩
def dkwX1_undo_1 : List UInt8 := [181, 0, 37, 42, 180, 0, 46, 182, 0, 116, 172]
abbrev dktX1_undo_1 : List UInt8 := dkwX1_undo_1 ++ []
def dkwX1_undo_0 : List UInt8 := [42, 180, 0, 46, 182, 1, 45, 153, 0, 5, 2, 172, 42, 42, 180, 0, 46, 182, 1, 48, 192, 0, 34]
abbrev dktX1_undo_0 : List UInt8 := dkwX1_undo_0 ++ dktX1_undo_1
theorem dksX1_undo_0 : cX1_undo.data.toList.drop 0 = dktX1_undo_0 := by decide +kernel
theorem dksX1_undo_1 : cX1_undo.data.toList.drop 23 = dktX1_undo_1 := dk_seg dksX1_undo_0 23 rfl rfl
theorem dX1_undo_0 : decode cX1_undo 0 = .ok (.aload_n 0, 1) := dk_42 (dk_at dksX1_undo_0 0 rfl rfl)
theorem dX1_undo_1 : decode cX1_undo 1 = .ok (.getfield 46, 3) := dk_180 0 46 (dk_at dksX1_undo_0 1 rfl rfl)
theorem dX1_undo_4 : decode cX1_undo 4 = .ok (.invokevirtual 301, 3) := dk_182 1 45 (dk_at dksX1_undo_0 4 rfl rfl)
theorem dX1_undo_7 : decode cX1_undo 7 = .ok (.ifCond .eq 5, 3) := dk_153 0 5 (dk_at dksX1_undo_0 7 rfl rfl)
theorem dX1_undo_10 : decode cX1_undo 10 = .ok (.iconst (-1), 1) := dk_2 (dk_at dksX1_undo_0 10 rfl rfl)
theorem dX1_undo_11 : decode cX1_undo 11 = .ok (.ireturn, 1) := dk_172 (dk_at dksX1_undo_0 11 rfl rfl)
theorem dX1_undo_12 : decode cX1_undo 12 = .ok (.aload_n 0, 1) := dk_42 (dk_at dksX1_undo_0 12 rfl rfl)
theorem dX1_undo_13 : decode cX1_undo 13 = .ok (.aload_n 0, 1) := dk_42 (dk_at dksX1_undo_0 13 rfl rfl)
theorem dX1_undo_14 : decode cX1_undo 14 = .ok (.getfield 46, 3) := dk_180 0 46 (dk_at dksX1_undo_0 14 rfl rfl)
theorem dX1_undo_17 : decode cX1_undo 17 = .ok (.invokevirtual 304, 3) := dk_182 1 48 (dk_at dksX1_undo_0 17 rfl rfl)
theorem dX1_undo_20 : decode cX1_undo 20 = .ok (.checkcast 34, 3) := dk_192 0 34 (dk_at dksX1_undo_0 20 rfl rfl)
theorem dX1_undo_23 : decode cX1_undo 23 = .ok (.putfield 37, 3) := dk_181 0 37 (dk_at dksX1_undo_1 0 rfl rfl)
theorem dX1_undo_26 : decode cX1_undo 26 = .ok (.aload_n 0, 1) := dk_42 (dk_at dksX1_undo_1 3 rfl rfl)
theorem dX1_undo_27 : decode cX1_undo 27 = .ok (.getfield 46, 3) := dk_180 0 46 (dk_at dksX1_undo_1 4 rfl rfl)
theorem dX1_undo_30 : decode cX1_undo 30 = .ok (.invokevirtual 116, 3) := dk_182 0 116 (dk_at dksX1_undo_1 7 rfl rfl)
theorem dX1_undo_33 : decode cX1_undo 33 = .ok (.ireturn, 1) := dk_172 (dk_at dksX1_undo_1 10 rfl rfl)
abbrev cX1_checksum : ByteArray := prog_1_method_47_code
def yX1_checksum : MethodName := ⟨RX1, "checksum", "()J"⟩
def dkwX1_checksum_10 : List UInt8 := [167, 255, 167, 31, 4, 188, 10, 89, 3, 42, 180, 0, 37, 182, 0, 144, 79, 184, 1, 53, 173]
abbrev dktX1_checksum_10 : List UInt8 := dkwX1_checksum_10 ++ []
def dkwX1_checksum_9 : List UInt8 := [25, 5, 21, 8, 50, 21, 6, 46, 79, 184, 1, 53, 64, 132, 8, 1, 167, 255, 227, 132, 6, 1]
abbrev dktX1_checksum_9 : List UInt8 := dkwX1_checksum_9 ++ dktX1_checksum_10
def dkwX1_checksum_8 : List UInt8 := [180, 0, 167, 79, 184, 1, 53, 64, 3, 54, 8, 21, 8, 21, 4, 162, 0, 28, 31, 4, 188, 10, 89, 3]
abbrev dktX1_checksum_8 : List UInt8 := dkwX1_checksum_8 ++ dktX1_checksum_9
def dkwX1_checksum_7 : List UInt8 := [188, 10, 89, 3, 25, 7, 180, 0, 159, 79, 89, 4, 25, 7, 180, 0, 164, 79, 89, 5, 25, 7]
abbrev dktX1_checksum_7 : List UInt8 := dkwX1_checksum_7 ++ dktX1_checksum_8
def dkwX1_checksum_6 : List UInt8 := [54, 6, 21, 6, 45, 180, 0, 253, 190, 162, 0, 85, 45, 180, 0, 253, 21, 6, 50, 58, 7, 31, 6]
abbrev dktX1_checksum_6 : List UInt8 := dkwX1_checksum_6 ++ dktX1_checksum_7
def dkwX1_checksum_5 : List UInt8 := [180, 0, 253, 21, 7, 50, 182, 0, 229, 79, 132, 7, 1, 167, 255, 223, 132, 6, 1, 167, 255, 201, 3]
abbrev dktX1_checksum_5 : List UInt8 := dkwX1_checksum_5 ++ dktX1_checksum_6
def dkwX1_checksum_4 : List UInt8 := [54, 7, 21, 7, 25, 5, 21, 6, 50, 190, 162, 0, 28, 25, 5, 21, 6, 50, 21, 7, 45, 45]
abbrev dktX1_checksum_4 : List UInt8 := dkwX1_checksum_4 ++ dktX1_checksum_5
def dkwX1_checksum_3 : List UInt8 := [197, 1, 57, 2, 58, 5, 3, 54, 6, 21, 6, 21, 4, 162, 0, 54, 45, 21, 6, 182, 0, 109, 3]
abbrev dktX1_checksum_3 : List UInt8 := dkwX1_checksum_3 ++ dktX1_checksum_4
def dkwX1_checksum_2 : List UInt8 := [180, 0, 37, 183, 0, 106, 78, 42, 180, 0, 37, 182, 0, 87, 54, 4, 21, 4, 45, 180, 0, 253, 190]
abbrev dktX1_checksum_2 : List UInt8 := dkwX1_checksum_2 ++ dktX1_checksum_3
def dkwX1_checksum_1 : List UInt8 := [180, 0, 37, 180, 0, 150, 29, 46, 79, 184, 1, 53, 64, 132, 3, 1, 167, 255, 222, 187, 0, 104, 89, 42]
abbrev dktX1_checksum_1 : List UInt8 := dkwX1_checksum_1 ++ dktX1_checksum_2
def dkwX1_checksum_0 : List UInt8 := [9, 64, 3, 62, 29, 42, 180, 0, 37, 180, 0, 84, 162, 0, 29, 31, 4, 188, 10, 89, 3, 42]
abbrev dktX1_checksum_0 : List UInt8 := dkwX1_checksum_0 ++ dktX1_checksum_1
theorem dksX1_checksum_0 : cX1_checksum.data.toList.drop 0 = dktX1_checksum_0 := by decide +kernel
theorem dksX1_checksum_1 : cX1_checksum.data.toList.drop 22 = dktX1_checksum_1 := dk_seg dksX1_checksum_0 22 rfl rfl
theorem dksX1_checksum_2 : cX1_checksum.data.toList.drop 46 = dktX1_checksum_2 := dk_seg dksX1_checksum_1 24 rfl rfl
theorem dksX1_checksum_3 : cX1_checksum.data.toList.drop 69 = dktX1_checksum_3 := dk_seg dksX1_checksum_2 23 rfl rfl
theorem dksX1_checksum_4 : cX1_checksum.data.toList.drop 92 = dktX1_checksum_4 := dk_seg dksX1_checksum_3 23 rfl rfl
theorem dksX1_checksum_5 : cX1_checksum.data.toList.drop 114 = dktX1_checksum_5 := dk_seg dksX1_checksum_4 22 rfl rfl
theorem dksX1_checksum_6 : cX1_checksum.data.toList.drop 137 = dktX1_checksum_6 := dk_seg dksX1_checksum_5 23 rfl rfl
theorem dksX1_checksum_7 : cX1_checksum.data.toList.drop 160 = dktX1_checksum_7 := dk_seg dksX1_checksum_6 23 rfl rfl
theorem dksX1_checksum_8 : cX1_checksum.data.toList.drop 182 = dktX1_checksum_8 := dk_seg dksX1_checksum_7 22 rfl rfl
theorem dksX1_checksum_9 : cX1_checksum.data.toList.drop 206 = dktX1_checksum_9 := dk_seg dksX1_checksum_8 24 rfl rfl
theorem dksX1_checksum_10 : cX1_checksum.data.toList.drop 228 = dktX1_checksum_10 := dk_seg dksX1_checksum_9 22 rfl rfl
theorem dX1_checksum_0 : decode cX1_checksum 0 = .ok (.lconst 0, 1) := dk_9 (dk_at dksX1_checksum_0 0 rfl rfl)
theorem dX1_checksum_1 : decode cX1_checksum 1 = .ok (.lstore_n 1, 1) := dk_64 (dk_at dksX1_checksum_0 1 rfl rfl)
theorem dX1_checksum_2 : decode cX1_checksum 2 = .ok (.iconst 0, 1) := dk_3 (dk_at dksX1_checksum_0 2 rfl rfl)
theorem dX1_checksum_3 : decode cX1_checksum 3 = .ok (.istore_n 3, 1) := dk_62 (dk_at dksX1_checksum_0 3 rfl rfl)
theorem dX1_checksum_4 : decode cX1_checksum 4 = .ok (.iload_n 3, 1) := dk_29 (dk_at dksX1_checksum_0 4 rfl rfl)
theorem dX1_checksum_5 : decode cX1_checksum 5 = .ok (.aload_n 0, 1) := dk_42 (dk_at dksX1_checksum_0 5 rfl rfl)
theorem dX1_checksum_6 : decode cX1_checksum 6 = .ok (.getfield 37, 3) := dk_180 0 37 (dk_at dksX1_checksum_0 6 rfl rfl)
theorem dX1_checksum_9 : decode cX1_checksum 9 = .ok (.getfield 84, 3) := dk_180 0 84 (dk_at dksX1_checksum_0 9 rfl rfl)
theorem dX1_checksum_12 : decode cX1_checksum 12 = .ok (.if_icmp .ge 29, 3) := dk_162 0 29 (dk_at dksX1_checksum_0 12 rfl rfl)
theorem dX1_checksum_15 : decode cX1_checksum 15 = .ok (.lload_n 1, 1) := dk_31 (dk_at dksX1_checksum_0 15 rfl rfl)
theorem dX1_checksum_16 : decode cX1_checksum 16 = .ok (.iconst 1, 1) := dk_4 (dk_at dksX1_checksum_0 16 rfl rfl)
theorem dX1_checksum_17 : decode cX1_checksum 17 = .ok (.newarray .int, 2) := dk_188_10 (dk_at dksX1_checksum_0 17 rfl rfl)
theorem dX1_checksum_19 : decode cX1_checksum 19 = .ok (.dup, 1) := dk_89 (dk_at dksX1_checksum_0 19 rfl rfl)
theorem dX1_checksum_20 : decode cX1_checksum 20 = .ok (.iconst 0, 1) := dk_3 (dk_at dksX1_checksum_0 20 rfl rfl)
theorem dX1_checksum_21 : decode cX1_checksum 21 = .ok (.aload_n 0, 1) := dk_42 (dk_at dksX1_checksum_0 21 rfl rfl)
theorem dX1_checksum_22 : decode cX1_checksum 22 = .ok (.getfield 37, 3) := dk_180 0 37 (dk_at dksX1_checksum_1 0 rfl rfl)
theorem dX1_checksum_25 : decode cX1_checksum 25 = .ok (.getfield 150, 3) := dk_180 0 150 (dk_at dksX1_checksum_1 3 rfl rfl)
theorem dX1_checksum_28 : decode cX1_checksum 28 = .ok (.iload_n 3, 1) := dk_29 (dk_at dksX1_checksum_1 6 rfl rfl)
theorem dX1_checksum_29 : decode cX1_checksum 29 = .ok (.iaload, 1) := dk_46 (dk_at dksX1_checksum_1 7 rfl rfl)
theorem dX1_checksum_30 : decode cX1_checksum 30 = .ok (.iastore, 1) := dk_79 (dk_at dksX1_checksum_1 8 rfl rfl)
theorem dX1_checksum_31 : decode cX1_checksum 31 = .ok (.invokestatic 309, 3) := dk_184 1 53 (dk_at dksX1_checksum_1 9 rfl rfl)
theorem dX1_checksum_34 : decode cX1_checksum 34 = .ok (.lstore_n 1, 1) := dk_64 (dk_at dksX1_checksum_1 12 rfl rfl)
theorem dX1_checksum_35 : decode cX1_checksum 35 = .ok (.iinc 3 1, 3) := dk_132 3 1 (dk_at dksX1_checksum_1 13 rfl rfl)
theorem dX1_checksum_38 : decode cX1_checksum 38 = .ok (.goto (-34), 3) := dk_167 255 222 (dk_at dksX1_checksum_1 16 rfl rfl)
theorem dX1_checksum_41 : decode cX1_checksum 41 = .ok (.new 104, 3) := dk_187 0 104 (dk_at dksX1_checksum_1 19 rfl rfl)
theorem dX1_checksum_44 : decode cX1_checksum 44 = .ok (.dup, 1) := dk_89 (dk_at dksX1_checksum_1 22 rfl rfl)
theorem dX1_checksum_45 : decode cX1_checksum 45 = .ok (.aload_n 0, 1) := dk_42 (dk_at dksX1_checksum_1 23 rfl rfl)
theorem dX1_checksum_46 : decode cX1_checksum 46 = .ok (.getfield 37, 3) := dk_180 0 37 (dk_at dksX1_checksum_2 0 rfl rfl)
theorem dX1_checksum_49 : decode cX1_checksum 49 = .ok (.invokespecial 106, 3) := dk_183 0 106 (dk_at dksX1_checksum_2 3 rfl rfl)
theorem dX1_checksum_52 : decode cX1_checksum 52 = .ok (.astore_n 3, 1) := dk_78 (dk_at dksX1_checksum_2 6 rfl rfl)
theorem dX1_checksum_53 : decode cX1_checksum 53 = .ok (.aload_n 0, 1) := dk_42 (dk_at dksX1_checksum_2 7 rfl rfl)
theorem dX1_checksum_54 : decode cX1_checksum 54 = .ok (.getfield 37, 3) := dk_180 0 37 (dk_at dksX1_checksum_2 8 rfl rfl)
theorem dX1_checksum_57 : decode cX1_checksum 57 = .ok (.invokevirtual 87, 3) := dk_182 0 87 (dk_at dksX1_checksum_2 11 rfl rfl)
theorem dX1_checksum_60 : decode cX1_checksum 60 = .ok (.istore 4, 2) := dk_54 4 (dk_at dksX1_checksum_2 14 rfl rfl)
theorem dX1_checksum_62 : decode cX1_checksum 62 = .ok (.iload 4, 2) := dk_21 4 (dk_at dksX1_checksum_2 16 rfl rfl)
theorem dX1_checksum_64 : decode cX1_checksum 64 = .ok (.aload_n 3, 1) := dk_45 (dk_at dksX1_checksum_2 18 rfl rfl)
theorem dX1_checksum_65 : decode cX1_checksum 65 = .ok (.getfield 253, 3) := dk_180 0 253 (dk_at dksX1_checksum_2 19 rfl rfl)
theorem dX1_checksum_68 : decode cX1_checksum 68 = .ok (.arraylength, 1) := dk_190 (dk_at dksX1_checksum_2 22 rfl rfl)
theorem dX1_checksum_69 : decode cX1_checksum 69 = .ok (.multianewarray 313 2, 4) := by decide +kernel
theorem dX1_checksum_73 : decode cX1_checksum 73 = .ok (.astore 5, 2) := dk_58 5 (dk_at dksX1_checksum_3 4 rfl rfl)
theorem dX1_checksum_75 : decode cX1_checksum 75 = .ok (.iconst 0, 1) := dk_3 (dk_at dksX1_checksum_3 6 rfl rfl)
theorem dX1_checksum_76 : decode cX1_checksum 76 = .ok (.istore 6, 2) := dk_54 6 (dk_at dksX1_checksum_3 7 rfl rfl)
theorem dX1_checksum_78 : decode cX1_checksum 78 = .ok (.iload 6, 2) := dk_21 6 (dk_at dksX1_checksum_3 9 rfl rfl)
theorem dX1_checksum_80 : decode cX1_checksum 80 = .ok (.iload 4, 2) := dk_21 4 (dk_at dksX1_checksum_3 11 rfl rfl)
theorem dX1_checksum_82 : decode cX1_checksum 82 = .ok (.if_icmp .ge 54, 3) := dk_162 0 54 (dk_at dksX1_checksum_3 13 rfl rfl)
theorem dX1_checksum_85 : decode cX1_checksum 85 = .ok (.aload_n 3, 1) := dk_45 (dk_at dksX1_checksum_3 16 rfl rfl)
theorem dX1_checksum_86 : decode cX1_checksum 86 = .ok (.iload 6, 2) := dk_21 6 (dk_at dksX1_checksum_3 17 rfl rfl)
theorem dX1_checksum_88 : decode cX1_checksum 88 = .ok (.invokevirtual 109, 3) := dk_182 0 109 (dk_at dksX1_checksum_3 19 rfl rfl)
theorem dX1_checksum_91 : decode cX1_checksum 91 = .ok (.iconst 0, 1) := dk_3 (dk_at dksX1_checksum_3 22 rfl rfl)
theorem dX1_checksum_92 : decode cX1_checksum 92 = .ok (.istore 7, 2) := dk_54 7 (dk_at dksX1_checksum_4 0 rfl rfl)
theorem dX1_checksum_94 : decode cX1_checksum 94 = .ok (.iload 7, 2) := dk_21 7 (dk_at dksX1_checksum_4 2 rfl rfl)
theorem dX1_checksum_96 : decode cX1_checksum 96 = .ok (.aload 5, 2) := dk_25 5 (dk_at dksX1_checksum_4 4 rfl rfl)
theorem dX1_checksum_98 : decode cX1_checksum 98 = .ok (.iload 6, 2) := dk_21 6 (dk_at dksX1_checksum_4 6 rfl rfl)
theorem dX1_checksum_100 : decode cX1_checksum 100 = .ok (.aaload, 1) := dk_50 (dk_at dksX1_checksum_4 8 rfl rfl)
theorem dX1_checksum_101 : decode cX1_checksum 101 = .ok (.arraylength, 1) := dk_190 (dk_at dksX1_checksum_4 9 rfl rfl)
theorem dX1_checksum_102 : decode cX1_checksum 102 = .ok (.if_icmp .ge 28, 3) := dk_162 0 28 (dk_at dksX1_checksum_4 10 rfl rfl)
theorem dX1_checksum_105 : decode cX1_checksum 105 = .ok (.aload 5, 2) := dk_25 5 (dk_at dksX1_checksum_4 13 rfl rfl)
theorem dX1_checksum_107 : decode cX1_checksum 107 = .ok (.iload 6, 2) := dk_21 6 (dk_at dksX1_checksum_4 15 rfl rfl)
theorem dX1_checksum_109 : decode cX1_checksum 109 = .ok (.aaload, 1) := dk_50 (dk_at dksX1_checksum_4 17 rfl rfl)
theorem dX1_checksum_110 : decode cX1_checksum 110 = .ok (.iload 7, 2) := dk_21 7 (dk_at dksX1_checksum_4 18 rfl rfl)
theorem dX1_checksum_112 : decode cX1_checksum 112 = .ok (.aload_n 3, 1) := dk_45 (dk_at dksX1_checksum_4 20 rfl rfl)
theorem dX1_checksum_113 : decode cX1_checksum 113 = .ok (.aload_n 3, 1) := dk_45 (dk_at dksX1_checksum_4 21 rfl rfl)
theorem dX1_checksum_114 : decode cX1_checksum 114 = .ok (.getfield 253, 3) := dk_180 0 253 (dk_at dksX1_checksum_5 0 rfl rfl)
theorem dX1_checksum_117 : decode cX1_checksum 117 = .ok (.iload 7, 2) := dk_21 7 (dk_at dksX1_checksum_5 3 rfl rfl)
theorem dX1_checksum_119 : decode cX1_checksum 119 = .ok (.aaload, 1) := dk_50 (dk_at dksX1_checksum_5 5 rfl rfl)
theorem dX1_checksum_120 : decode cX1_checksum 120 = .ok (.invokevirtual 229, 3) := dk_182 0 229 (dk_at dksX1_checksum_5 6 rfl rfl)
theorem dX1_checksum_123 : decode cX1_checksum 123 = .ok (.iastore, 1) := dk_79 (dk_at dksX1_checksum_5 9 rfl rfl)
theorem dX1_checksum_124 : decode cX1_checksum 124 = .ok (.iinc 7 1, 3) := dk_132 7 1 (dk_at dksX1_checksum_5 10 rfl rfl)
theorem dX1_checksum_127 : decode cX1_checksum 127 = .ok (.goto (-33), 3) := dk_167 255 223 (dk_at dksX1_checksum_5 13 rfl rfl)
theorem dX1_checksum_130 : decode cX1_checksum 130 = .ok (.iinc 6 1, 3) := dk_132 6 1 (dk_at dksX1_checksum_5 16 rfl rfl)
theorem dX1_checksum_133 : decode cX1_checksum 133 = .ok (.goto (-55), 3) := dk_167 255 201 (dk_at dksX1_checksum_5 19 rfl rfl)
theorem dX1_checksum_136 : decode cX1_checksum 136 = .ok (.iconst 0, 1) := dk_3 (dk_at dksX1_checksum_5 22 rfl rfl)
theorem dX1_checksum_137 : decode cX1_checksum 137 = .ok (.istore 6, 2) := dk_54 6 (dk_at dksX1_checksum_6 0 rfl rfl)
theorem dX1_checksum_139 : decode cX1_checksum 139 = .ok (.iload 6, 2) := dk_21 6 (dk_at dksX1_checksum_6 2 rfl rfl)
theorem dX1_checksum_141 : decode cX1_checksum 141 = .ok (.aload_n 3, 1) := dk_45 (dk_at dksX1_checksum_6 4 rfl rfl)
theorem dX1_checksum_142 : decode cX1_checksum 142 = .ok (.getfield 253, 3) := dk_180 0 253 (dk_at dksX1_checksum_6 5 rfl rfl)
theorem dX1_checksum_145 : decode cX1_checksum 145 = .ok (.arraylength, 1) := dk_190 (dk_at dksX1_checksum_6 8 rfl rfl)
theorem dX1_checksum_146 : decode cX1_checksum 146 = .ok (.if_icmp .ge 85, 3) := dk_162 0 85 (dk_at dksX1_checksum_6 9 rfl rfl)
theorem dX1_checksum_149 : decode cX1_checksum 149 = .ok (.aload_n 3, 1) := dk_45 (dk_at dksX1_checksum_6 12 rfl rfl)
theorem dX1_checksum_150 : decode cX1_checksum 150 = .ok (.getfield 253, 3) := dk_180 0 253 (dk_at dksX1_checksum_6 13 rfl rfl)
theorem dX1_checksum_153 : decode cX1_checksum 153 = .ok (.iload 6, 2) := dk_21 6 (dk_at dksX1_checksum_6 16 rfl rfl)
theorem dX1_checksum_155 : decode cX1_checksum 155 = .ok (.aaload, 1) := dk_50 (dk_at dksX1_checksum_6 18 rfl rfl)
theorem dX1_checksum_156 : decode cX1_checksum 156 = .ok (.astore 7, 2) := dk_58 7 (dk_at dksX1_checksum_6 19 rfl rfl)
theorem dX1_checksum_158 : decode cX1_checksum 158 = .ok (.lload_n 1, 1) := dk_31 (dk_at dksX1_checksum_6 21 rfl rfl)
theorem dX1_checksum_159 : decode cX1_checksum 159 = .ok (.iconst 3, 1) := dk_6 (dk_at dksX1_checksum_6 22 rfl rfl)
theorem dX1_checksum_160 : decode cX1_checksum 160 = .ok (.newarray .int, 2) := dk_188_10 (dk_at dksX1_checksum_7 0 rfl rfl)
theorem dX1_checksum_162 : decode cX1_checksum 162 = .ok (.dup, 1) := dk_89 (dk_at dksX1_checksum_7 2 rfl rfl)
theorem dX1_checksum_163 : decode cX1_checksum 163 = .ok (.iconst 0, 1) := dk_3 (dk_at dksX1_checksum_7 3 rfl rfl)
theorem dX1_checksum_164 : decode cX1_checksum 164 = .ok (.aload 7, 2) := dk_25 7 (dk_at dksX1_checksum_7 4 rfl rfl)
theorem dX1_checksum_166 : decode cX1_checksum 166 = .ok (.getfield 159, 3) := dk_180 0 159 (dk_at dksX1_checksum_7 6 rfl rfl)
theorem dX1_checksum_169 : decode cX1_checksum 169 = .ok (.iastore, 1) := dk_79 (dk_at dksX1_checksum_7 9 rfl rfl)
theorem dX1_checksum_170 : decode cX1_checksum 170 = .ok (.dup, 1) := dk_89 (dk_at dksX1_checksum_7 10 rfl rfl)
theorem dX1_checksum_171 : decode cX1_checksum 171 = .ok (.iconst 1, 1) := dk_4 (dk_at dksX1_checksum_7 11 rfl rfl)
theorem dX1_checksum_172 : decode cX1_checksum 172 = .ok (.aload 7, 2) := dk_25 7 (dk_at dksX1_checksum_7 12 rfl rfl)
theorem dX1_checksum_174 : decode cX1_checksum 174 = .ok (.getfield 164, 3) := dk_180 0 164 (dk_at dksX1_checksum_7 14 rfl rfl)
theorem dX1_checksum_177 : decode cX1_checksum 177 = .ok (.iastore, 1) := dk_79 (dk_at dksX1_checksum_7 17 rfl rfl)
theorem dX1_checksum_178 : decode cX1_checksum 178 = .ok (.dup, 1) := dk_89 (dk_at dksX1_checksum_7 18 rfl rfl)
theorem dX1_checksum_179 : decode cX1_checksum 179 = .ok (.iconst 2, 1) := dk_5 (dk_at dksX1_checksum_7 19 rfl rfl)
theorem dX1_checksum_180 : decode cX1_checksum 180 = .ok (.aload 7, 2) := dk_25 7 (dk_at dksX1_checksum_7 20 rfl rfl)
theorem dX1_checksum_182 : decode cX1_checksum 182 = .ok (.getfield 167, 3) := dk_180 0 167 (dk_at dksX1_checksum_8 0 rfl rfl)
theorem dX1_checksum_185 : decode cX1_checksum 185 = .ok (.iastore, 1) := dk_79 (dk_at dksX1_checksum_8 3 rfl rfl)
theorem dX1_checksum_186 : decode cX1_checksum 186 = .ok (.invokestatic 309, 3) := dk_184 1 53 (dk_at dksX1_checksum_8 4 rfl rfl)
theorem dX1_checksum_189 : decode cX1_checksum 189 = .ok (.lstore_n 1, 1) := dk_64 (dk_at dksX1_checksum_8 7 rfl rfl)
theorem dX1_checksum_190 : decode cX1_checksum 190 = .ok (.iconst 0, 1) := dk_3 (dk_at dksX1_checksum_8 8 rfl rfl)
theorem dX1_checksum_191 : decode cX1_checksum 191 = .ok (.istore 8, 2) := dk_54 8 (dk_at dksX1_checksum_8 9 rfl rfl)
theorem dX1_checksum_193 : decode cX1_checksum 193 = .ok (.iload 8, 2) := dk_21 8 (dk_at dksX1_checksum_8 11 rfl rfl)
theorem dX1_checksum_195 : decode cX1_checksum 195 = .ok (.iload 4, 2) := dk_21 4 (dk_at dksX1_checksum_8 13 rfl rfl)
theorem dX1_checksum_197 : decode cX1_checksum 197 = .ok (.if_icmp .ge 28, 3) := dk_162 0 28 (dk_at dksX1_checksum_8 15 rfl rfl)
theorem dX1_checksum_200 : decode cX1_checksum 200 = .ok (.lload_n 1, 1) := dk_31 (dk_at dksX1_checksum_8 18 rfl rfl)
theorem dX1_checksum_201 : decode cX1_checksum 201 = .ok (.iconst 1, 1) := dk_4 (dk_at dksX1_checksum_8 19 rfl rfl)
theorem dX1_checksum_202 : decode cX1_checksum 202 = .ok (.newarray .int, 2) := dk_188_10 (dk_at dksX1_checksum_8 20 rfl rfl)
theorem dX1_checksum_204 : decode cX1_checksum 204 = .ok (.dup, 1) := dk_89 (dk_at dksX1_checksum_8 22 rfl rfl)
theorem dX1_checksum_205 : decode cX1_checksum 205 = .ok (.iconst 0, 1) := dk_3 (dk_at dksX1_checksum_8 23 rfl rfl)
theorem dX1_checksum_206 : decode cX1_checksum 206 = .ok (.aload 5, 2) := dk_25 5 (dk_at dksX1_checksum_9 0 rfl rfl)
theorem dX1_checksum_208 : decode cX1_checksum 208 = .ok (.iload 8, 2) := dk_21 8 (dk_at dksX1_checksum_9 2 rfl rfl)
theorem dX1_checksum_210 : decode cX1_checksum 210 = .ok (.aaload, 1) := dk_50 (dk_at dksX1_checksum_9 4 rfl rfl)
theorem dX1_checksum_211 : decode cX1_checksum 211 = .ok (.iload 6, 2) := dk_21 6 (dk_at dksX1_checksum_9 5 rfl rfl)
theorem dX1_checksum_213 : decode cX1_checksum 213 = .ok (.iaload, 1) := dk_46 (dk_at dksX1_checksum_9 7 rfl rfl)
theorem dX1_checksum_214 : decode cX1_checksum 214 = .ok (.iastore, 1) := dk_79 (dk_at dksX1_checksum_9 8 rfl rfl)
theorem dX1_checksum_215 : decode cX1_checksum 215 = .ok (.invokestatic 309, 3) := dk_184 1 53 (dk_at dksX1_checksum_9 9 rfl rfl)
theorem dX1_checksum_218 : decode cX1_checksum 218 = .ok (.lstore_n 1, 1) := dk_64 (dk_at dksX1_checksum_9 12 rfl rfl)
theorem dX1_checksum_219 : decode cX1_checksum 219 = .ok (.iinc 8 1, 3) := dk_132 8 1 (dk_at dksX1_checksum_9 13 rfl rfl)
theorem dX1_checksum_222 : decode cX1_checksum 222 = .ok (.goto (-29), 3) := dk_167 255 227 (dk_at dksX1_checksum_9 16 rfl rfl)
theorem dX1_checksum_225 : decode cX1_checksum 225 = .ok (.iinc 6 1, 3) := dk_132 6 1 (dk_at dksX1_checksum_9 19 rfl rfl)
theorem dX1_checksum_228 : decode cX1_checksum 228 = .ok (.goto (-89), 3) := dk_167 255 167 (dk_at dksX1_checksum_10 0 rfl rfl)
theorem dX1_checksum_231 : decode cX1_checksum 231 = .ok (.lload_n 1, 1) := dk_31 (dk_at dksX1_checksum_10 3 rfl rfl)
theorem dX1_checksum_232 : decode cX1_checksum 232 = .ok (.iconst 1, 1) := dk_4 (dk_at dksX1_checksum_10 4 rfl rfl)
theorem dX1_checksum_233 : decode cX1_checksum 233 = .ok (.newarray .int, 2) := dk_188_10 (dk_at dksX1_checksum_10 5 rfl rfl)
theorem dX1_checksum_235 : decode cX1_checksum 235 = .ok (.dup, 1) := dk_89 (dk_at dksX1_checksum_10 7 rfl rfl)
theorem dX1_checksum_236 : decode cX1_checksum 236 = .ok (.iconst 0, 1) := dk_3 (dk_at dksX1_checksum_10 8 rfl rfl)
theorem dX1_checksum_237 : decode cX1_checksum 237 = .ok (.aload_n 0, 1) := dk_42 (dk_at dksX1_checksum_10 9 rfl rfl)
theorem dX1_checksum_238 : decode cX1_checksum 238 = .ok (.getfield 37, 3) := dk_180 0 37 (dk_at dksX1_checksum_10 10 rfl rfl)
theorem dX1_checksum_241 : decode cX1_checksum 241 = .ok (.invokevirtual 144, 3) := dk_182 0 144 (dk_at dksX1_checksum_10 13 rfl rfl)
theorem dX1_checksum_244 : decode cX1_checksum 244 = .ok (.iastore, 1) := dk_79 (dk_at dksX1_checksum_10 16 rfl rfl)
theorem dX1_checksum_245 : decode cX1_checksum 245 = .ok (.invokestatic 309, 3) := dk_184 1 53 (dk_at dksX1_checksum_10 17 rfl rfl)
theorem dX1_checksum_248 : decode cX1_checksum 248 = .ok (.lreturn, 1) := dk_173 (dk_at dksX1_checksum_10 20 rfl rfl)
abbrev cX1_mixed : ByteArray := prog_1_method_46_code
def yX1_mixed : MethodName := ⟨RX1, "mixed", "(J[I)J"⟩
def dkwX1_mixed_1 : List UInt8 := [46, 54, 8, 20, 1, 51, 33, 105, 21, 8, 133, 97, 66, 132, 7, 1, 167, 255, 229, 33, 173]
abbrev dktX1_mixed_1 : List UInt8 := dkwX1_mixed_1 ++ []
def dkwX1_mixed_0 : List UInt8 := [30, 66, 44, 58, 5, 25, 5, 190, 54, 6, 3, 54, 7, 21, 7, 21, 6, 162, 0, 26, 25, 5, 21, 7]
abbrev dktX1_mixed_0 : List UInt8 := dkwX1_mixed_0 ++ dktX1_mixed_1
theorem dksX1_mixed_0 : cX1_mixed.data.toList.drop 0 = dktX1_mixed_0 := by decide +kernel
theorem dksX1_mixed_1 : cX1_mixed.data.toList.drop 24 = dktX1_mixed_1 := dk_seg dksX1_mixed_0 24 rfl rfl
theorem dX1_mixed_0 : decode cX1_mixed 0 = .ok (.lload_n 0, 1) := dk_30 (dk_at dksX1_mixed_0 0 rfl rfl)
theorem dX1_mixed_1 : decode cX1_mixed 1 = .ok (.lstore_n 3, 1) := dk_66 (dk_at dksX1_mixed_0 1 rfl rfl)
theorem dX1_mixed_2 : decode cX1_mixed 2 = .ok (.aload_n 2, 1) := dk_44 (dk_at dksX1_mixed_0 2 rfl rfl)
theorem dX1_mixed_3 : decode cX1_mixed 3 = .ok (.astore 5, 2) := dk_58 5 (dk_at dksX1_mixed_0 3 rfl rfl)
theorem dX1_mixed_5 : decode cX1_mixed 5 = .ok (.aload 5, 2) := dk_25 5 (dk_at dksX1_mixed_0 5 rfl rfl)
theorem dX1_mixed_7 : decode cX1_mixed 7 = .ok (.arraylength, 1) := dk_190 (dk_at dksX1_mixed_0 7 rfl rfl)
theorem dX1_mixed_8 : decode cX1_mixed 8 = .ok (.istore 6, 2) := dk_54 6 (dk_at dksX1_mixed_0 8 rfl rfl)
theorem dX1_mixed_10 : decode cX1_mixed 10 = .ok (.iconst 0, 1) := dk_3 (dk_at dksX1_mixed_0 10 rfl rfl)
theorem dX1_mixed_11 : decode cX1_mixed 11 = .ok (.istore 7, 2) := dk_54 7 (dk_at dksX1_mixed_0 11 rfl rfl)
theorem dX1_mixed_13 : decode cX1_mixed 13 = .ok (.iload 7, 2) := dk_21 7 (dk_at dksX1_mixed_0 13 rfl rfl)
theorem dX1_mixed_15 : decode cX1_mixed 15 = .ok (.iload 6, 2) := dk_21 6 (dk_at dksX1_mixed_0 15 rfl rfl)
theorem dX1_mixed_17 : decode cX1_mixed 17 = .ok (.if_icmp .ge 26, 3) := dk_162 0 26 (dk_at dksX1_mixed_0 17 rfl rfl)
theorem dX1_mixed_20 : decode cX1_mixed 20 = .ok (.aload 5, 2) := dk_25 5 (dk_at dksX1_mixed_0 20 rfl rfl)
theorem dX1_mixed_22 : decode cX1_mixed 22 = .ok (.iload 7, 2) := dk_21 7 (dk_at dksX1_mixed_0 22 rfl rfl)
theorem dX1_mixed_24 : decode cX1_mixed 24 = .ok (.iaload, 1) := dk_46 (dk_at dksX1_mixed_1 0 rfl rfl)
theorem dX1_mixed_25 : decode cX1_mixed 25 = .ok (.istore 8, 2) := dk_54 8 (dk_at dksX1_mixed_1 1 rfl rfl)
theorem dX1_mixed_27 : decode cX1_mixed 27 = .ok (.ldc2_w 307, 3) := dk_20 1 51 (dk_at dksX1_mixed_1 3 rfl rfl)
theorem dX1_mixed_30 : decode cX1_mixed 30 = .ok (.lload_n 3, 1) := dk_33 (dk_at dksX1_mixed_1 6 rfl rfl)
theorem dX1_mixed_31 : decode cX1_mixed 31 = .ok (.lmul, 1) := dk_105 (dk_at dksX1_mixed_1 7 rfl rfl)
theorem dX1_mixed_32 : decode cX1_mixed 32 = .ok (.iload 8, 2) := dk_21 8 (dk_at dksX1_mixed_1 8 rfl rfl)
theorem dX1_mixed_34 : decode cX1_mixed 34 = .ok (.i2l, 1) := dk_133 (dk_at dksX1_mixed_1 10 rfl rfl)
theorem dX1_mixed_35 : decode cX1_mixed 35 = .ok (.ladd, 1) := dk_97 (dk_at dksX1_mixed_1 11 rfl rfl)
theorem dX1_mixed_36 : decode cX1_mixed 36 = .ok (.lstore_n 3, 1) := dk_66 (dk_at dksX1_mixed_1 12 rfl rfl)
theorem dX1_mixed_37 : decode cX1_mixed 37 = .ok (.iinc 7 1, 3) := dk_132 7 1 (dk_at dksX1_mixed_1 13 rfl rfl)
theorem dX1_mixed_40 : decode cX1_mixed 40 = .ok (.goto (-27), 3) := dk_167 255 229 (dk_at dksX1_mixed_1 16 rfl rfl)
theorem dX1_mixed_43 : decode cX1_mixed 43 = .ok (.lload_n 3, 1) := dk_33 (dk_at dksX1_mixed_1 19 rfl rfl)
theorem dX1_mixed_44 : decode cX1_mixed 44 = .ok (.lreturn, 1) := dk_173 (dk_at dksX1_mixed_1 20 rfl rfl)
abbrev cX1_load : ByteArray := prog_1_method_16_code
def yX1_load : MethodName := ⟨RX1, "load", "(I)I"⟩
def dkwX1_load_2 : List UInt8 := [185, 0, 94, 1, 0, 172, 77, 42, 44, 180, 0, 138, 181, 0, 30, 44, 180, 0, 141, 172]
abbrev dktX1_load_2 : List UInt8 := dkwX1_load_2 ++ []
def dkwX1_load_1 : List UInt8 := [42, 27, 183, 0, 126, 182, 0, 129, 182, 0, 133, 42, 2, 181, 0, 30, 42, 180, 0, 37, 180, 0, 90]
abbrev dktX1_load_1 : List UInt8 := dkwX1_load_1 ++ dktX1_load_2
def dkwX1_load_0 : List UInt8 := [9, 42, 180, 0, 50, 133, 27, 133, 184, 0, 76, 184, 0, 121, 42, 3, 181, 0, 50, 42, 187, 0, 124, 89]
abbrev dktX1_load_0 : List UInt8 := dkwX1_load_0 ++ dktX1_load_1
theorem dksX1_load_0 : cX1_load.data.toList.drop 0 = dktX1_load_0 := by decide +kernel
theorem dksX1_load_1 : cX1_load.data.toList.drop 24 = dktX1_load_1 := dk_seg dksX1_load_0 24 rfl rfl
theorem dksX1_load_2 : cX1_load.data.toList.drop 47 = dktX1_load_2 := dk_seg dksX1_load_1 23 rfl rfl
theorem dX1_load_0 : decode cX1_load 0 = .ok (.lconst 0, 1) := dk_9 (dk_at dksX1_load_0 0 rfl rfl)
theorem dX1_load_1 : decode cX1_load 1 = .ok (.aload_n 0, 1) := dk_42 (dk_at dksX1_load_0 1 rfl rfl)
theorem dX1_load_2 : decode cX1_load 2 = .ok (.getfield 50, 3) := dk_180 0 50 (dk_at dksX1_load_0 2 rfl rfl)
theorem dX1_load_5 : decode cX1_load 5 = .ok (.i2l, 1) := dk_133 (dk_at dksX1_load_0 5 rfl rfl)
theorem dX1_load_6 : decode cX1_load 6 = .ok (.iload_n 1, 1) := dk_27 (dk_at dksX1_load_0 6 rfl rfl)
theorem dX1_load_7 : decode cX1_load 7 = .ok (.i2l, 1) := dk_133 (dk_at dksX1_load_0 7 rfl rfl)
theorem dX1_load_8 : decode cX1_load 8 = .ok (.invokestatic 76, 3) := dk_184 0 76 (dk_at dksX1_load_0 8 rfl rfl)
theorem dX1_load_11 : decode cX1_load 11 = .ok (.invokestatic 121, 3) := dk_184 0 121 (dk_at dksX1_load_0 11 rfl rfl)
theorem dX1_load_14 : decode cX1_load 14 = .ok (.aload_n 0, 1) := dk_42 (dk_at dksX1_load_0 14 rfl rfl)
theorem dX1_load_15 : decode cX1_load 15 = .ok (.iconst 0, 1) := dk_3 (dk_at dksX1_load_0 15 rfl rfl)
theorem dX1_load_16 : decode cX1_load 16 = .ok (.putfield 50, 3) := dk_181 0 50 (dk_at dksX1_load_0 16 rfl rfl)
theorem dX1_load_19 : decode cX1_load 19 = .ok (.aload_n 0, 1) := dk_42 (dk_at dksX1_load_0 19 rfl rfl)
theorem dX1_load_20 : decode cX1_load 20 = .ok (.new 124, 3) := dk_187 0 124 (dk_at dksX1_load_0 20 rfl rfl)
theorem dX1_load_23 : decode cX1_load 23 = .ok (.dup, 1) := dk_89 (dk_at dksX1_load_0 23 rfl rfl)
theorem dX1_load_24 : decode cX1_load 24 = .ok (.aload_n 0, 1) := dk_42 (dk_at dksX1_load_1 0 rfl rfl)
theorem dX1_load_25 : decode cX1_load 25 = .ok (.iload_n 1, 1) := dk_27 (dk_at dksX1_load_1 1 rfl rfl)
theorem dX1_load_26 : decode cX1_load 26 = .ok (.invokespecial 126, 3) := dk_183 0 126 (dk_at dksX1_load_1 2 rfl rfl)
theorem dX1_load_29 : decode cX1_load 29 = .ok (.invokevirtual 129, 3) := dk_182 0 129 (dk_at dksX1_load_1 5 rfl rfl)
theorem dX1_load_32 : decode cX1_load 32 = .ok (.invokevirtual 133, 3) := dk_182 0 133 (dk_at dksX1_load_1 8 rfl rfl)
theorem dX1_load_35 : decode cX1_load 35 = .ok (.aload_n 0, 1) := dk_42 (dk_at dksX1_load_1 11 rfl rfl)
theorem dX1_load_36 : decode cX1_load 36 = .ok (.iconst (-1), 1) := dk_2 (dk_at dksX1_load_1 12 rfl rfl)
theorem dX1_load_37 : decode cX1_load 37 = .ok (.putfield 30, 3) := dk_181 0 30 (dk_at dksX1_load_1 13 rfl rfl)
theorem dX1_load_40 : decode cX1_load 40 = .ok (.aload_n 0, 1) := dk_42 (dk_at dksX1_load_1 16 rfl rfl)
theorem dX1_load_41 : decode cX1_load 41 = .ok (.getfield 37, 3) := dk_180 0 37 (dk_at dksX1_load_1 17 rfl rfl)
theorem dX1_load_44 : decode cX1_load 44 = .ok (.getfield 90, 3) := dk_180 0 90 (dk_at dksX1_load_1 20 rfl rfl)
theorem dX1_load_47 : decode cX1_load 47 = .ok (.invokeinterface 94 1, 5) := by decide +kernel
theorem dX1_load_52 : decode cX1_load 52 = .ok (.ireturn, 1) := dk_172 (dk_at dksX1_load_2 5 rfl rfl)
theorem dX1_load_53 : decode cX1_load 53 = .ok (.astore_n 2, 1) := dk_77 (dk_at dksX1_load_2 6 rfl rfl)
theorem dX1_load_54 : decode cX1_load 54 = .ok (.aload_n 0, 1) := dk_42 (dk_at dksX1_load_2 7 rfl rfl)
theorem dX1_load_55 : decode cX1_load 55 = .ok (.aload_n 2, 1) := dk_44 (dk_at dksX1_load_2 8 rfl rfl)
theorem dX1_load_56 : decode cX1_load 56 = .ok (.getfield 138, 3) := dk_180 0 138 (dk_at dksX1_load_2 9 rfl rfl)
theorem dX1_load_59 : decode cX1_load 59 = .ok (.putfield 30, 3) := dk_181 0 30 (dk_at dksX1_load_2 12 rfl rfl)
theorem dX1_load_62 : decode cX1_load 62 = .ok (.aload_n 2, 1) := dk_44 (dk_at dksX1_load_2 15 rfl rfl)
theorem dX1_load_63 : decode cX1_load 63 = .ok (.getfield 141, 3) := dk_180 0 141 (dk_at dksX1_load_2 16 rfl rfl)
theorem dX1_load_66 : decode cX1_load 66 = .ok (.ireturn, 1) := dk_172 (dk_at dksX1_load_2 19 rfl rfl)
abbrev cX1_isIn : ByteArray := prog_1_method_1_code
def yX1_isIn : MethodName := ⟨RX1, "isIn", "(JJJ)Z"⟩
def dkwX1_isIn_0 : List UInt8 := [22, 4, 30, 148, 155, 0, 14, 22, 4, 32, 148, 157, 0, 7, 4, 167, 0, 4, 3, 172]
abbrev dktX1_isIn_0 : List UInt8 := dkwX1_isIn_0 ++ []
theorem dksX1_isIn_0 : cX1_isIn.data.toList.drop 0 = dktX1_isIn_0 := by decide +kernel
theorem dX1_isIn_0 : decode cX1_isIn 0 = .ok (.lload 4, 2) := dk_22 4 (dk_at dksX1_isIn_0 0 rfl rfl)
theorem dX1_isIn_2 : decode cX1_isIn 2 = .ok (.lload_n 0, 1) := dk_30 (dk_at dksX1_isIn_0 2 rfl rfl)
theorem dX1_isIn_3 : decode cX1_isIn 3 = .ok (.lcmp, 1) := dk_148 (dk_at dksX1_isIn_0 3 rfl rfl)
theorem dX1_isIn_4 : decode cX1_isIn 4 = .ok (.ifCond .lt 14, 3) := dk_155 0 14 (dk_at dksX1_isIn_0 4 rfl rfl)
theorem dX1_isIn_7 : decode cX1_isIn 7 = .ok (.lload 4, 2) := dk_22 4 (dk_at dksX1_isIn_0 7 rfl rfl)
theorem dX1_isIn_9 : decode cX1_isIn 9 = .ok (.lload_n 2, 1) := dk_32 (dk_at dksX1_isIn_0 9 rfl rfl)
theorem dX1_isIn_10 : decode cX1_isIn 10 = .ok (.lcmp, 1) := dk_148 (dk_at dksX1_isIn_0 10 rfl rfl)
theorem dX1_isIn_11 : decode cX1_isIn 11 = .ok (.ifCond .gt 7, 3) := dk_157 0 7 (dk_at dksX1_isIn_0 11 rfl rfl)
theorem dX1_isIn_14 : decode cX1_isIn 14 = .ok (.iconst 1, 1) := dk_4 (dk_at dksX1_isIn_0 14 rfl rfl)
theorem dX1_isIn_15 : decode cX1_isIn 15 = .ok (.goto 4, 3) := dk_167 0 4 (dk_at dksX1_isIn_0 15 rfl rfl)
theorem dX1_isIn_18 : decode cX1_isIn 18 = .ok (.iconst 0, 1) := dk_3 (dk_at dksX1_isIn_0 18 rfl rfl)
theorem dX1_isIn_19 : decode cX1_isIn 19 = .ok (.ireturn, 1) := dk_172 (dk_at dksX1_isIn_0 19 rfl rfl)
abbrev cX1_checkArgument : ByteArray := prog_1_method_8_code
def yX1_checkArgument : MethodName := ⟨RX1, "checkArgument", "(Z)V"⟩
def dkwX1_checkArgument_0 : List UInt8 := [26, 154, 0, 11, 187, 0, 60, 89, 183, 0, 62, 191, 177]
abbrev dktX1_checkArgument_0 : List UInt8 := dkwX1_checkArgument_0 ++ []
theorem dksX1_checkArgument_0 : cX1_checkArgument.data.toList.drop 0 = dktX1_checkArgument_0 := by decide +kernel
theorem dX1_checkArgument_0 : decode cX1_checkArgument 0 = .ok (.iload_n 0, 1) := dk_26 (dk_at dksX1_checkArgument_0 0 rfl rfl)
theorem dX1_checkArgument_1 : decode cX1_checkArgument 1 = .ok (.ifCond .ne 11, 3) := dk_154 0 11 (dk_at dksX1_checkArgument_0 1 rfl rfl)
theorem dX1_checkArgument_4 : decode cX1_checkArgument 4 = .ok (.new 60, 3) := dk_187 0 60 (dk_at dksX1_checkArgument_0 4 rfl rfl)
theorem dX1_checkArgument_7 : decode cX1_checkArgument 7 = .ok (.dup, 1) := dk_89 (dk_at dksX1_checkArgument_0 7 rfl rfl)
theorem dX1_checkArgument_8 : decode cX1_checkArgument 8 = .ok (.invokespecial 62, 3) := dk_183 0 62 (dk_at dksX1_checkArgument_0 8 rfl rfl)
theorem dX1_checkArgument_11 : decode cX1_checkArgument 11 = .ok (.athrow, 1) := dk_191 (dk_at dksX1_checkArgument_0 11 rfl rfl)
theorem dX1_checkArgument_12 : decode cX1_checkArgument 12 = .ok (.return_, 1) := dk_177 (dk_at dksX1_checkArgument_0 12 rfl rfl)
abbrev cX1_root : ByteArray := prog_1_method_3_code
def yX1_root : MethodName := ⟨RX1, "root", "(I)I"⟩
def dkwX1_root_2 : List UInt8 := [104, 62, 29, 4, 96, 29, 4, 96, 104, 26, 163, 0, 9, 132, 3, 1, 167, 255, 242, 29, 172]
abbrev dktX1_root_2 : List UInt8 := dkwX1_root_2 ++ []
def dkwX1_root_1 : List UInt8 := [178, 0, 16, 29, 46, 26, 163, 0, 8, 29, 60, 167, 0, 7, 29, 4, 100, 61, 167, 255, 223, 16, 8, 27]
abbrev dktX1_root_1 : List UInt8 := dkwX1_root_1 ++ dktX1_root_2
def dkwX1_root_0 : List UInt8 := [3, 60, 178, 0, 16, 190, 4, 100, 61, 27, 28, 162, 0, 34, 27, 28, 27, 100, 4, 96, 5, 108, 96, 62]
abbrev dktX1_root_0 : List UInt8 := dkwX1_root_0 ++ dktX1_root_1
theorem dksX1_root_0 : cX1_root.data.toList.drop 0 = dktX1_root_0 := by decide +kernel
theorem dksX1_root_1 : cX1_root.data.toList.drop 24 = dktX1_root_1 := dk_seg dksX1_root_0 24 rfl rfl
theorem dksX1_root_2 : cX1_root.data.toList.drop 48 = dktX1_root_2 := dk_seg dksX1_root_1 24 rfl rfl
theorem dX1_root_0 : decode cX1_root 0 = .ok (.iconst 0, 1) := dk_3 (dk_at dksX1_root_0 0 rfl rfl)
theorem dX1_root_1 : decode cX1_root 1 = .ok (.istore_n 1, 1) := dk_60 (dk_at dksX1_root_0 1 rfl rfl)
theorem dX1_root_2 : decode cX1_root 2 = .ok (.getstatic 16, 3) := dk_178 0 16 (dk_at dksX1_root_0 2 rfl rfl)
theorem dX1_root_5 : decode cX1_root 5 = .ok (.arraylength, 1) := dk_190 (dk_at dksX1_root_0 5 rfl rfl)
theorem dX1_root_6 : decode cX1_root 6 = .ok (.iconst 1, 1) := dk_4 (dk_at dksX1_root_0 6 rfl rfl)
theorem dX1_root_7 : decode cX1_root 7 = .ok (.isub, 1) := dk_100 (dk_at dksX1_root_0 7 rfl rfl)
theorem dX1_root_8 : decode cX1_root 8 = .ok (.istore_n 2, 1) := dk_61 (dk_at dksX1_root_0 8 rfl rfl)
theorem dX1_root_9 : decode cX1_root 9 = .ok (.iload_n 1, 1) := dk_27 (dk_at dksX1_root_0 9 rfl rfl)
theorem dX1_root_10 : decode cX1_root 10 = .ok (.iload_n 2, 1) := dk_28 (dk_at dksX1_root_0 10 rfl rfl)
theorem dX1_root_11 : decode cX1_root 11 = .ok (.if_icmp .ge 34, 3) := dk_162 0 34 (dk_at dksX1_root_0 11 rfl rfl)
theorem dX1_root_14 : decode cX1_root 14 = .ok (.iload_n 1, 1) := dk_27 (dk_at dksX1_root_0 14 rfl rfl)
theorem dX1_root_15 : decode cX1_root 15 = .ok (.iload_n 2, 1) := dk_28 (dk_at dksX1_root_0 15 rfl rfl)
theorem dX1_root_16 : decode cX1_root 16 = .ok (.iload_n 1, 1) := dk_27 (dk_at dksX1_root_0 16 rfl rfl)
theorem dX1_root_17 : decode cX1_root 17 = .ok (.isub, 1) := dk_100 (dk_at dksX1_root_0 17 rfl rfl)
theorem dX1_root_18 : decode cX1_root 18 = .ok (.iconst 1, 1) := dk_4 (dk_at dksX1_root_0 18 rfl rfl)
theorem dX1_root_19 : decode cX1_root 19 = .ok (.iadd, 1) := dk_96 (dk_at dksX1_root_0 19 rfl rfl)
theorem dX1_root_20 : decode cX1_root 20 = .ok (.iconst 2, 1) := dk_5 (dk_at dksX1_root_0 20 rfl rfl)
theorem dX1_root_21 : decode cX1_root 21 = .ok (.idiv, 1) := dk_108 (dk_at dksX1_root_0 21 rfl rfl)
theorem dX1_root_22 : decode cX1_root 22 = .ok (.iadd, 1) := dk_96 (dk_at dksX1_root_0 22 rfl rfl)
theorem dX1_root_23 : decode cX1_root 23 = .ok (.istore_n 3, 1) := dk_62 (dk_at dksX1_root_0 23 rfl rfl)
theorem dX1_root_24 : decode cX1_root 24 = .ok (.getstatic 16, 3) := dk_178 0 16 (dk_at dksX1_root_1 0 rfl rfl)
theorem dX1_root_27 : decode cX1_root 27 = .ok (.iload_n 3, 1) := dk_29 (dk_at dksX1_root_1 3 rfl rfl)
theorem dX1_root_28 : decode cX1_root 28 = .ok (.iaload, 1) := dk_46 (dk_at dksX1_root_1 4 rfl rfl)
theorem dX1_root_29 : decode cX1_root 29 = .ok (.iload_n 0, 1) := dk_26 (dk_at dksX1_root_1 5 rfl rfl)
theorem dX1_root_30 : decode cX1_root 30 = .ok (.if_icmp .gt 8, 3) := dk_163 0 8 (dk_at dksX1_root_1 6 rfl rfl)
theorem dX1_root_33 : decode cX1_root 33 = .ok (.iload_n 3, 1) := dk_29 (dk_at dksX1_root_1 9 rfl rfl)
theorem dX1_root_34 : decode cX1_root 34 = .ok (.istore_n 1, 1) := dk_60 (dk_at dksX1_root_1 10 rfl rfl)
theorem dX1_root_35 : decode cX1_root 35 = .ok (.goto 7, 3) := dk_167 0 7 (dk_at dksX1_root_1 11 rfl rfl)
theorem dX1_root_38 : decode cX1_root 38 = .ok (.iload_n 3, 1) := dk_29 (dk_at dksX1_root_1 14 rfl rfl)
theorem dX1_root_39 : decode cX1_root 39 = .ok (.iconst 1, 1) := dk_4 (dk_at dksX1_root_1 15 rfl rfl)
theorem dX1_root_40 : decode cX1_root 40 = .ok (.isub, 1) := dk_100 (dk_at dksX1_root_1 16 rfl rfl)
theorem dX1_root_41 : decode cX1_root 41 = .ok (.istore_n 2, 1) := dk_61 (dk_at dksX1_root_1 17 rfl rfl)
theorem dX1_root_42 : decode cX1_root 42 = .ok (.goto (-33), 3) := dk_167 255 223 (dk_at dksX1_root_1 18 rfl rfl)
theorem dX1_root_45 : decode cX1_root 45 = .ok (.bipush 8, 2) := dk_16 8 (dk_at dksX1_root_1 21 rfl rfl)
theorem dX1_root_47 : decode cX1_root 47 = .ok (.iload_n 1, 1) := dk_27 (dk_at dksX1_root_1 23 rfl rfl)
theorem dX1_root_48 : decode cX1_root 48 = .ok (.imul, 1) := dk_104 (dk_at dksX1_root_2 0 rfl rfl)
theorem dX1_root_49 : decode cX1_root 49 = .ok (.istore_n 3, 1) := dk_62 (dk_at dksX1_root_2 1 rfl rfl)
theorem dX1_root_50 : decode cX1_root 50 = .ok (.iload_n 3, 1) := dk_29 (dk_at dksX1_root_2 2 rfl rfl)
theorem dX1_root_51 : decode cX1_root 51 = .ok (.iconst 1, 1) := dk_4 (dk_at dksX1_root_2 3 rfl rfl)
theorem dX1_root_52 : decode cX1_root 52 = .ok (.iadd, 1) := dk_96 (dk_at dksX1_root_2 4 rfl rfl)
theorem dX1_root_53 : decode cX1_root 53 = .ok (.iload_n 3, 1) := dk_29 (dk_at dksX1_root_2 5 rfl rfl)
theorem dX1_root_54 : decode cX1_root 54 = .ok (.iconst 1, 1) := dk_4 (dk_at dksX1_root_2 6 rfl rfl)
theorem dX1_root_55 : decode cX1_root 55 = .ok (.iadd, 1) := dk_96 (dk_at dksX1_root_2 7 rfl rfl)
theorem dX1_root_56 : decode cX1_root 56 = .ok (.imul, 1) := dk_104 (dk_at dksX1_root_2 8 rfl rfl)
theorem dX1_root_57 : decode cX1_root 57 = .ok (.iload_n 0, 1) := dk_26 (dk_at dksX1_root_2 9 rfl rfl)
theorem dX1_root_58 : decode cX1_root 58 = .ok (.if_icmp .gt 9, 3) := dk_163 0 9 (dk_at dksX1_root_2 10 rfl rfl)
theorem dX1_root_61 : decode cX1_root 61 = .ok (.iinc 3 1, 3) := dk_132 3 1 (dk_at dksX1_root_2 13 rfl rfl)
theorem dX1_root_64 : decode cX1_root 64 = .ok (.goto (-14), 3) := dk_167 255 242 (dk_at dksX1_root_2 16 rfl rfl)
theorem dX1_root_67 : decode cX1_root 67 = .ok (.iload_n 3, 1) := dk_29 (dk_at dksX1_root_2 19 rfl rfl)
theorem dX1_root_68 : decode cX1_root 68 = .ok (.ireturn, 1) := dk_172 (dk_at dksX1_root_2 20 rfl rfl)
abbrev cX1_area : ByteArray := prog_1_method_23_code
def yX1_area : MethodName := ⟨RX1, "area", "(I)I"⟩
def dkwX1_area_0 : List UInt8 := [42, 27, 182, 0, 147, 42, 180, 0, 37, 180, 0, 150, 27, 46, 172]
abbrev dktX1_area_0 : List UInt8 := dkwX1_area_0 ++ []
theorem dksX1_area_0 : cX1_area.data.toList.drop 0 = dktX1_area_0 := by decide +kernel
theorem dX1_area_0 : decode cX1_area 0 = .ok (.aload_n 0, 1) := dk_42 (dk_at dksX1_area_0 0 rfl rfl)
theorem dX1_area_1 : decode cX1_area 1 = .ok (.iload_n 1, 1) := dk_27 (dk_at dksX1_area_0 1 rfl rfl)
theorem dX1_area_2 : decode cX1_area 2 = .ok (.invokevirtual 147, 3) := dk_182 0 147 (dk_at dksX1_area_0 2 rfl rfl)
theorem dX1_area_5 : decode cX1_area 5 = .ok (.aload_n 0, 1) := dk_42 (dk_at dksX1_area_0 5 rfl rfl)
theorem dX1_area_6 : decode cX1_area 6 = .ok (.getfield 37, 3) := dk_180 0 37 (dk_at dksX1_area_0 6 rfl rfl)
theorem dX1_area_9 : decode cX1_area 9 = .ok (.getfield 150, 3) := dk_180 0 150 (dk_at dksX1_area_0 9 rfl rfl)
theorem dX1_area_12 : decode cX1_area 12 = .ok (.iload_n 1, 1) := dk_27 (dk_at dksX1_area_0 12 rfl rfl)
theorem dX1_area_13 : decode cX1_area 13 = .ok (.iaload, 1) := dk_46 (dk_at dksX1_area_0 13 rfl rfl)
theorem dX1_area_14 : decode cX1_area 14 = .ok (.ireturn, 1) := dk_172 (dk_at dksX1_area_0 14 rfl rfl)
abbrev cX1_checkGroup : ByteArray := prog_1_method_11_code
def yX1_checkGroup : MethodName := ⟨RX1, "checkGroup", "(I)V"⟩
def dkwX1_checkGroup_0 : List UInt8 := [9, 42, 180, 0, 37, 180, 0, 84, 133, 10, 101, 27, 133, 184, 0, 76, 184, 0, 80, 177]
abbrev dktX1_checkGroup_0 : List UInt8 := dkwX1_checkGroup_0 ++ []
theorem dksX1_checkGroup_0 : cX1_checkGroup.data.toList.drop 0 = dktX1_checkGroup_0 := by decide +kernel
theorem dX1_checkGroup_0 : decode cX1_checkGroup 0 = .ok (.lconst 0, 1) := dk_9 (dk_at dksX1_checkGroup_0 0 rfl rfl)
theorem dX1_checkGroup_1 : decode cX1_checkGroup 1 = .ok (.aload_n 0, 1) := dk_42 (dk_at dksX1_checkGroup_0 1 rfl rfl)
theorem dX1_checkGroup_2 : decode cX1_checkGroup 2 = .ok (.getfield 37, 3) := dk_180 0 37 (dk_at dksX1_checkGroup_0 2 rfl rfl)
theorem dX1_checkGroup_5 : decode cX1_checkGroup 5 = .ok (.getfield 84, 3) := dk_180 0 84 (dk_at dksX1_checkGroup_0 5 rfl rfl)
theorem dX1_checkGroup_8 : decode cX1_checkGroup 8 = .ok (.i2l, 1) := dk_133 (dk_at dksX1_checkGroup_0 8 rfl rfl)
theorem dX1_checkGroup_9 : decode cX1_checkGroup 9 = .ok (.lconst 1, 1) := dk_10 (dk_at dksX1_checkGroup_0 9 rfl rfl)
theorem dX1_checkGroup_10 : decode cX1_checkGroup 10 = .ok (.lsub, 1) := dk_101 (dk_at dksX1_checkGroup_0 10 rfl rfl)
theorem dX1_checkGroup_11 : decode cX1_checkGroup 11 = .ok (.iload_n 1, 1) := dk_27 (dk_at dksX1_checkGroup_0 11 rfl rfl)
theorem dX1_checkGroup_12 : decode cX1_checkGroup 12 = .ok (.i2l, 1) := dk_133 (dk_at dksX1_checkGroup_0 12 rfl rfl)
theorem dX1_checkGroup_13 : decode cX1_checkGroup 13 = .ok (.invokestatic 76, 3) := dk_184 0 76 (dk_at dksX1_checkGroup_0 13 rfl rfl)
theorem dX1_checkGroup_16 : decode cX1_checkGroup 16 = .ok (.invokestatic 80, 3) := dk_184 0 80 (dk_at dksX1_checkGroup_0 16 rfl rfl)
theorem dX1_checkGroup_19 : decode cX1_checkGroup 19 = .ok (.return_, 1) := dk_177 (dk_at dksX1_checkGroup_0 19 rfl rfl)
abbrev cX1_checkIndex : ByteArray := prog_1_method_7_code
def yX1_checkIndex : MethodName := ⟨RX1, "checkIndex", "(Z)V"⟩
def dkwX1_checkIndex_0 : List UInt8 := [26, 154, 0, 11, 187, 0, 57, 89, 183, 0, 59, 191, 177]
abbrev dktX1_checkIndex_0 : List UInt8 := dkwX1_checkIndex_0 ++ []
theorem dksX1_checkIndex_0 : cX1_checkIndex.data.toList.drop 0 = dktX1_checkIndex_0 := by decide +kernel
theorem dX1_checkIndex_0 : decode cX1_checkIndex 0 = .ok (.iload_n 0, 1) := dk_26 (dk_at dksX1_checkIndex_0 0 rfl rfl)
theorem dX1_checkIndex_1 : decode cX1_checkIndex 1 = .ok (.ifCond .ne 11, 3) := dk_154 0 11 (dk_at dksX1_checkIndex_0 1 rfl rfl)
theorem dX1_checkIndex_4 : decode cX1_checkIndex 4 = .ok (.new 57, 3) := dk_187 0 57 (dk_at dksX1_checkIndex_0 4 rfl rfl)
theorem dX1_checkIndex_7 : decode cX1_checkIndex 7 = .ok (.dup, 1) := dk_89 (dk_at dksX1_checkIndex_0 7 rfl rfl)
theorem dX1_checkIndex_8 : decode cX1_checkIndex 8 = .ok (.invokespecial 59, 3) := dk_183 0 59 (dk_at dksX1_checkIndex_0 8 rfl rfl)
theorem dX1_checkIndex_11 : decode cX1_checkIndex 11 = .ok (.athrow, 1) := dk_191 (dk_at dksX1_checkIndex_0 11 rfl rfl)
theorem dX1_checkIndex_12 : decode cX1_checkIndex 12 = .ok (.return_, 1) := dk_177 (dk_at dksX1_checkIndex_0 12 rfl rfl)
abbrev cX1_member : ByteArray := prog_1_method_24_code
def yX1_member : MethodName := ⟨RX1, "member", "(II)I"⟩
def dkwX1_member_2 : List UInt8 := [180, 0, 167, 167, 0, 7, 45, 180, 0, 170, 172]
abbrev dktX1_member_2 : List UInt8 := dkwX1_member_2 ++ []
def dkwX1_member_1 : List UInt8 := [180, 0, 159, 167, 0, 31, 28, 4, 160, 0, 10, 45, 180, 0, 164, 167, 0, 19, 28, 5, 160, 0, 10, 45]
abbrev dktX1_member_1 : List UInt8 := dkwX1_member_1 ++ dktX1_member_2
def dkwX1_member_0 : List UInt8 := [42, 27, 182, 0, 153, 78, 9, 20, 0, 157, 28, 133, 184, 0, 76, 184, 0, 121, 28, 154, 0, 10, 45]
abbrev dktX1_member_0 : List UInt8 := dkwX1_member_0 ++ dktX1_member_1
theorem dksX1_member_0 : cX1_member.data.toList.drop 0 = dktX1_member_0 := by decide +kernel
theorem dksX1_member_1 : cX1_member.data.toList.drop 23 = dktX1_member_1 := dk_seg dksX1_member_0 23 rfl rfl
theorem dksX1_member_2 : cX1_member.data.toList.drop 47 = dktX1_member_2 := dk_seg dksX1_member_1 24 rfl rfl
theorem dX1_member_0 : decode cX1_member 0 = .ok (.aload_n 0, 1) := dk_42 (dk_at dksX1_member_0 0 rfl rfl)
theorem dX1_member_1 : decode cX1_member 1 = .ok (.iload_n 1, 1) := dk_27 (dk_at dksX1_member_0 1 rfl rfl)
theorem dX1_member_2 : decode cX1_member 2 = .ok (.invokevirtual 153, 3) := dk_182 0 153 (dk_at dksX1_member_0 2 rfl rfl)
theorem dX1_member_5 : decode cX1_member 5 = .ok (.astore_n 3, 1) := dk_78 (dk_at dksX1_member_0 5 rfl rfl)
theorem dX1_member_6 : decode cX1_member 6 = .ok (.lconst 0, 1) := dk_9 (dk_at dksX1_member_0 6 rfl rfl)
theorem dX1_member_7 : decode cX1_member 7 = .ok (.ldc2_w 157, 3) := dk_20 0 157 (dk_at dksX1_member_0 7 rfl rfl)
theorem dX1_member_10 : decode cX1_member 10 = .ok (.iload_n 2, 1) := dk_28 (dk_at dksX1_member_0 10 rfl rfl)
theorem dX1_member_11 : decode cX1_member 11 = .ok (.i2l, 1) := dk_133 (dk_at dksX1_member_0 11 rfl rfl)
theorem dX1_member_12 : decode cX1_member 12 = .ok (.invokestatic 76, 3) := dk_184 0 76 (dk_at dksX1_member_0 12 rfl rfl)
theorem dX1_member_15 : decode cX1_member 15 = .ok (.invokestatic 121, 3) := dk_184 0 121 (dk_at dksX1_member_0 15 rfl rfl)
theorem dX1_member_18 : decode cX1_member 18 = .ok (.iload_n 2, 1) := dk_28 (dk_at dksX1_member_0 18 rfl rfl)
theorem dX1_member_19 : decode cX1_member 19 = .ok (.ifCond .ne 10, 3) := dk_154 0 10 (dk_at dksX1_member_0 19 rfl rfl)
theorem dX1_member_22 : decode cX1_member 22 = .ok (.aload_n 3, 1) := dk_45 (dk_at dksX1_member_0 22 rfl rfl)
theorem dX1_member_23 : decode cX1_member 23 = .ok (.getfield 159, 3) := dk_180 0 159 (dk_at dksX1_member_1 0 rfl rfl)
theorem dX1_member_26 : decode cX1_member 26 = .ok (.goto 31, 3) := dk_167 0 31 (dk_at dksX1_member_1 3 rfl rfl)
theorem dX1_member_29 : decode cX1_member 29 = .ok (.iload_n 2, 1) := dk_28 (dk_at dksX1_member_1 6 rfl rfl)
theorem dX1_member_30 : decode cX1_member 30 = .ok (.iconst 1, 1) := dk_4 (dk_at dksX1_member_1 7 rfl rfl)
theorem dX1_member_31 : decode cX1_member 31 = .ok (.if_icmp .ne 10, 3) := dk_160 0 10 (dk_at dksX1_member_1 8 rfl rfl)
theorem dX1_member_34 : decode cX1_member 34 = .ok (.aload_n 3, 1) := dk_45 (dk_at dksX1_member_1 11 rfl rfl)
theorem dX1_member_35 : decode cX1_member 35 = .ok (.getfield 164, 3) := dk_180 0 164 (dk_at dksX1_member_1 12 rfl rfl)
theorem dX1_member_38 : decode cX1_member 38 = .ok (.goto 19, 3) := dk_167 0 19 (dk_at dksX1_member_1 15 rfl rfl)
theorem dX1_member_41 : decode cX1_member 41 = .ok (.iload_n 2, 1) := dk_28 (dk_at dksX1_member_1 18 rfl rfl)
theorem dX1_member_42 : decode cX1_member 42 = .ok (.iconst 2, 1) := dk_5 (dk_at dksX1_member_1 19 rfl rfl)
theorem dX1_member_43 : decode cX1_member 43 = .ok (.if_icmp .ne 10, 3) := dk_160 0 10 (dk_at dksX1_member_1 20 rfl rfl)
theorem dX1_member_46 : decode cX1_member 46 = .ok (.aload_n 3, 1) := dk_45 (dk_at dksX1_member_1 23 rfl rfl)
theorem dX1_member_47 : decode cX1_member 47 = .ok (.getfield 167, 3) := dk_180 0 167 (dk_at dksX1_member_2 0 rfl rfl)
theorem dX1_member_50 : decode cX1_member 50 = .ok (.goto 7, 3) := dk_167 0 7 (dk_at dksX1_member_2 3 rfl rfl)
theorem dX1_member_53 : decode cX1_member 53 = .ok (.aload_n 3, 1) := dk_45 (dk_at dksX1_member_2 6 rfl rfl)
theorem dX1_member_54 : decode cX1_member 54 = .ok (.getfield 170, 3) := dk_180 0 170 (dk_at dksX1_member_2 7 rfl rfl)
theorem dX1_member_57 : decode cX1_member 57 = .ok (.ireturn, 1) := dk_172 (dk_at dksX1_member_2 10 rfl rfl)
abbrev cX1_memberAt : ByteArray := prog_1_method_13_code
def yX1_memberAt : MethodName := ⟨RX1, "memberAt", "(I)LElasticTruss$Member;"⟩
def dkwX1_memberAt_1 : List UInt8 := [42, 180, 0, 37, 182, 0, 97, 27, 50, 176]
abbrev dktX1_memberAt_1 : List UInt8 := dkwX1_memberAt_1 ++ []
def dkwX1_memberAt_0 : List UInt8 := [9, 42, 180, 0, 37, 180, 0, 90, 185, 0, 94, 1, 0, 133, 10, 101, 27, 133, 184, 0, 76, 184, 0, 80]
abbrev dktX1_memberAt_0 : List UInt8 := dkwX1_memberAt_0 ++ dktX1_memberAt_1
theorem dksX1_memberAt_0 : cX1_memberAt.data.toList.drop 0 = dktX1_memberAt_0 := by decide +kernel
theorem dksX1_memberAt_1 : cX1_memberAt.data.toList.drop 24 = dktX1_memberAt_1 := dk_seg dksX1_memberAt_0 24 rfl rfl
theorem dX1_memberAt_0 : decode cX1_memberAt 0 = .ok (.lconst 0, 1) := dk_9 (dk_at dksX1_memberAt_0 0 rfl rfl)
theorem dX1_memberAt_1 : decode cX1_memberAt 1 = .ok (.aload_n 0, 1) := dk_42 (dk_at dksX1_memberAt_0 1 rfl rfl)
theorem dX1_memberAt_2 : decode cX1_memberAt 2 = .ok (.getfield 37, 3) := dk_180 0 37 (dk_at dksX1_memberAt_0 2 rfl rfl)
theorem dX1_memberAt_5 : decode cX1_memberAt 5 = .ok (.getfield 90, 3) := dk_180 0 90 (dk_at dksX1_memberAt_0 5 rfl rfl)
theorem dX1_memberAt_8 : decode cX1_memberAt 8 = .ok (.invokeinterface 94 1, 5) := by decide +kernel
theorem dX1_memberAt_13 : decode cX1_memberAt 13 = .ok (.i2l, 1) := dk_133 (dk_at dksX1_memberAt_0 13 rfl rfl)
theorem dX1_memberAt_14 : decode cX1_memberAt 14 = .ok (.lconst 1, 1) := dk_10 (dk_at dksX1_memberAt_0 14 rfl rfl)
theorem dX1_memberAt_15 : decode cX1_memberAt 15 = .ok (.lsub, 1) := dk_101 (dk_at dksX1_memberAt_0 15 rfl rfl)
theorem dX1_memberAt_16 : decode cX1_memberAt 16 = .ok (.iload_n 1, 1) := dk_27 (dk_at dksX1_memberAt_0 16 rfl rfl)
theorem dX1_memberAt_17 : decode cX1_memberAt 17 = .ok (.i2l, 1) := dk_133 (dk_at dksX1_memberAt_0 17 rfl rfl)
theorem dX1_memberAt_18 : decode cX1_memberAt 18 = .ok (.invokestatic 76, 3) := dk_184 0 76 (dk_at dksX1_memberAt_0 18 rfl rfl)
theorem dX1_memberAt_21 : decode cX1_memberAt 21 = .ok (.invokestatic 80, 3) := dk_184 0 80 (dk_at dksX1_memberAt_0 21 rfl rfl)
theorem dX1_memberAt_24 : decode cX1_memberAt 24 = .ok (.aload_n 0, 1) := dk_42 (dk_at dksX1_memberAt_1 0 rfl rfl)
theorem dX1_memberAt_25 : decode cX1_memberAt 25 = .ok (.getfield 37, 3) := dk_180 0 37 (dk_at dksX1_memberAt_1 1 rfl rfl)
theorem dX1_memberAt_28 : decode cX1_memberAt 28 = .ok (.invokevirtual 97, 3) := dk_182 0 97 (dk_at dksX1_memberAt_1 4 rfl rfl)
theorem dX1_memberAt_31 : decode cX1_memberAt 31 = .ok (.iload_n 1, 1) := dk_27 (dk_at dksX1_memberAt_1 7 rfl rfl)
theorem dX1_memberAt_32 : decode cX1_memberAt 32 = .ok (.aaload, 1) := dk_50 (dk_at dksX1_memberAt_1 8 rfl rfl)
theorem dX1_memberAt_33 : decode cX1_memberAt 33 = .ok (.areturn, 1) := dk_176 (dk_at dksX1_memberAt_1 9 rfl rfl)
abbrev cX1_between : ByteArray := prog_1_method_25_code
def yX1_between : MethodName := ⟨RX1, "between", "(II)I"⟩
def dkwX1_between_4 : List UInt8 := [182, 0, 204, 153, 0, 6, 167, 0, 9, 132, 4, 1, 167, 255, 219, 21, 4, 172]
abbrev dktX1_between_4 : List UInt8 := dkwX1_between_4 ++ []
def dkwX1_between_3 : List UInt8 := [185, 0, 195, 1, 0, 153, 0, 33, 25, 5, 185, 0, 201, 1, 0, 192, 0, 176, 58, 6, 25, 6, 45]
abbrev dktX1_between_3 : List UInt8 := dkwX1_between_3 ++ dktX1_between_4
def dkwX1_between_2 : List UInt8 := [180, 0, 37, 180, 0, 90, 185, 0, 185, 1, 0, 185, 0, 189, 1, 0, 58, 5, 25, 5]
abbrev dktX1_between_2 : List UInt8 := dkwX1_between_2 ++ dktX1_between_3
def dkwX1_between_1 : List UInt8 := [78, 42, 180, 0, 37, 180, 0, 90, 45, 185, 0, 181, 2, 0, 154, 0, 5, 2, 172, 3, 54, 4, 42]
abbrev dktX1_between_1 : List UInt8 := dkwX1_between_1 ++ dktX1_between_2
def dkwX1_between_0 : List UInt8 := [42, 5, 188, 10, 89, 3, 27, 79, 89, 4, 28, 79, 182, 0, 173, 187, 0, 176, 89, 27, 28, 183, 0, 178]
abbrev dktX1_between_0 : List UInt8 := dkwX1_between_0 ++ dktX1_between_1
theorem dksX1_between_0 : cX1_between.data.toList.drop 0 = dktX1_between_0 := by decide +kernel
theorem dksX1_between_1 : cX1_between.data.toList.drop 24 = dktX1_between_1 := dk_seg dksX1_between_0 24 rfl rfl
theorem dksX1_between_2 : cX1_between.data.toList.drop 47 = dktX1_between_2 := dk_seg dksX1_between_1 23 rfl rfl
theorem dksX1_between_3 : cX1_between.data.toList.drop 67 = dktX1_between_3 := dk_seg dksX1_between_2 20 rfl rfl
theorem dksX1_between_4 : cX1_between.data.toList.drop 90 = dktX1_between_4 := dk_seg dksX1_between_3 23 rfl rfl
theorem dX1_between_0 : decode cX1_between 0 = .ok (.aload_n 0, 1) := dk_42 (dk_at dksX1_between_0 0 rfl rfl)
theorem dX1_between_1 : decode cX1_between 1 = .ok (.iconst 2, 1) := dk_5 (dk_at dksX1_between_0 1 rfl rfl)
theorem dX1_between_2 : decode cX1_between 2 = .ok (.newarray .int, 2) := dk_188_10 (dk_at dksX1_between_0 2 rfl rfl)
theorem dX1_between_4 : decode cX1_between 4 = .ok (.dup, 1) := dk_89 (dk_at dksX1_between_0 4 rfl rfl)
theorem dX1_between_5 : decode cX1_between 5 = .ok (.iconst 0, 1) := dk_3 (dk_at dksX1_between_0 5 rfl rfl)
theorem dX1_between_6 : decode cX1_between 6 = .ok (.iload_n 1, 1) := dk_27 (dk_at dksX1_between_0 6 rfl rfl)
theorem dX1_between_7 : decode cX1_between 7 = .ok (.iastore, 1) := dk_79 (dk_at dksX1_between_0 7 rfl rfl)
theorem dX1_between_8 : decode cX1_between 8 = .ok (.dup, 1) := dk_89 (dk_at dksX1_between_0 8 rfl rfl)
theorem dX1_between_9 : decode cX1_between 9 = .ok (.iconst 1, 1) := dk_4 (dk_at dksX1_between_0 9 rfl rfl)
theorem dX1_between_10 : decode cX1_between 10 = .ok (.iload_n 2, 1) := dk_28 (dk_at dksX1_between_0 10 rfl rfl)
theorem dX1_between_11 : decode cX1_between 11 = .ok (.iastore, 1) := dk_79 (dk_at dksX1_between_0 11 rfl rfl)
theorem dX1_between_12 : decode cX1_between 12 = .ok (.invokevirtual 173, 3) := dk_182 0 173 (dk_at dksX1_between_0 12 rfl rfl)
theorem dX1_between_15 : decode cX1_between 15 = .ok (.new 176, 3) := dk_187 0 176 (dk_at dksX1_between_0 15 rfl rfl)
theorem dX1_between_18 : decode cX1_between 18 = .ok (.dup, 1) := dk_89 (dk_at dksX1_between_0 18 rfl rfl)
theorem dX1_between_19 : decode cX1_between 19 = .ok (.iload_n 1, 1) := dk_27 (dk_at dksX1_between_0 19 rfl rfl)
theorem dX1_between_20 : decode cX1_between 20 = .ok (.iload_n 2, 1) := dk_28 (dk_at dksX1_between_0 20 rfl rfl)
theorem dX1_between_21 : decode cX1_between 21 = .ok (.invokespecial 178, 3) := dk_183 0 178 (dk_at dksX1_between_0 21 rfl rfl)
theorem dX1_between_24 : decode cX1_between 24 = .ok (.astore_n 3, 1) := dk_78 (dk_at dksX1_between_1 0 rfl rfl)
theorem dX1_between_25 : decode cX1_between 25 = .ok (.aload_n 0, 1) := dk_42 (dk_at dksX1_between_1 1 rfl rfl)
theorem dX1_between_26 : decode cX1_between 26 = .ok (.getfield 37, 3) := dk_180 0 37 (dk_at dksX1_between_1 2 rfl rfl)
theorem dX1_between_29 : decode cX1_between 29 = .ok (.getfield 90, 3) := dk_180 0 90 (dk_at dksX1_between_1 5 rfl rfl)
theorem dX1_between_32 : decode cX1_between 32 = .ok (.aload_n 3, 1) := dk_45 (dk_at dksX1_between_1 8 rfl rfl)
theorem dX1_between_33 : decode cX1_between 33 = .ok (.invokeinterface 181 2, 5) := by decide +kernel
theorem dX1_between_38 : decode cX1_between 38 = .ok (.ifCond .ne 5, 3) := dk_154 0 5 (dk_at dksX1_between_1 14 rfl rfl)
theorem dX1_between_41 : decode cX1_between 41 = .ok (.iconst (-1), 1) := dk_2 (dk_at dksX1_between_1 17 rfl rfl)
theorem dX1_between_42 : decode cX1_between 42 = .ok (.ireturn, 1) := dk_172 (dk_at dksX1_between_1 18 rfl rfl)
theorem dX1_between_43 : decode cX1_between 43 = .ok (.iconst 0, 1) := dk_3 (dk_at dksX1_between_1 19 rfl rfl)
theorem dX1_between_44 : decode cX1_between 44 = .ok (.istore 4, 2) := dk_54 4 (dk_at dksX1_between_1 20 rfl rfl)
theorem dX1_between_46 : decode cX1_between 46 = .ok (.aload_n 0, 1) := dk_42 (dk_at dksX1_between_1 22 rfl rfl)
theorem dX1_between_47 : decode cX1_between 47 = .ok (.getfield 37, 3) := dk_180 0 37 (dk_at dksX1_between_2 0 rfl rfl)
theorem dX1_between_50 : decode cX1_between 50 = .ok (.getfield 90, 3) := dk_180 0 90 (dk_at dksX1_between_2 3 rfl rfl)
theorem dX1_between_53 : decode cX1_between 53 = .ok (.invokeinterface 185 1, 5) := by decide +kernel
theorem dX1_between_58 : decode cX1_between 58 = .ok (.invokeinterface 189 1, 5) := by decide +kernel
theorem dX1_between_63 : decode cX1_between 63 = .ok (.astore 5, 2) := dk_58 5 (dk_at dksX1_between_2 16 rfl rfl)
theorem dX1_between_65 : decode cX1_between 65 = .ok (.aload 5, 2) := dk_25 5 (dk_at dksX1_between_2 18 rfl rfl)
theorem dX1_between_67 : decode cX1_between 67 = .ok (.invokeinterface 195 1, 5) := by decide +kernel
theorem dX1_between_72 : decode cX1_between 72 = .ok (.ifCond .eq 33, 3) := dk_153 0 33 (dk_at dksX1_between_3 5 rfl rfl)
theorem dX1_between_75 : decode cX1_between 75 = .ok (.aload 5, 2) := dk_25 5 (dk_at dksX1_between_3 8 rfl rfl)
theorem dX1_between_77 : decode cX1_between 77 = .ok (.invokeinterface 201 1, 5) := by decide +kernel
theorem dX1_between_82 : decode cX1_between 82 = .ok (.checkcast 176, 3) := dk_192 0 176 (dk_at dksX1_between_3 15 rfl rfl)
theorem dX1_between_85 : decode cX1_between 85 = .ok (.astore 6, 2) := dk_58 6 (dk_at dksX1_between_3 18 rfl rfl)
theorem dX1_between_87 : decode cX1_between 87 = .ok (.aload 6, 2) := dk_25 6 (dk_at dksX1_between_3 20 rfl rfl)
theorem dX1_between_89 : decode cX1_between 89 = .ok (.aload_n 3, 1) := dk_45 (dk_at dksX1_between_3 22 rfl rfl)
theorem dX1_between_90 : decode cX1_between 90 = .ok (.invokevirtual 204, 3) := dk_182 0 204 (dk_at dksX1_between_4 0 rfl rfl)
theorem dX1_between_93 : decode cX1_between 93 = .ok (.ifCond .eq 6, 3) := dk_153 0 6 (dk_at dksX1_between_4 3 rfl rfl)
theorem dX1_between_96 : decode cX1_between 96 = .ok (.goto 9, 3) := dk_167 0 9 (dk_at dksX1_between_4 6 rfl rfl)
theorem dX1_between_99 : decode cX1_between 99 = .ok (.iinc 4 1, 3) := dk_132 4 1 (dk_at dksX1_between_4 9 rfl rfl)
theorem dX1_between_102 : decode cX1_between 102 = .ok (.goto (-37), 3) := dk_167 255 219 (dk_at dksX1_between_4 12 rfl rfl)
theorem dX1_between_105 : decode cX1_between 105 = .ok (.iload 4, 2) := dk_21 4 (dk_at dksX1_between_4 15 rfl rfl)
theorem dX1_between_107 : decode cX1_between 107 = .ok (.ireturn, 1) := dk_172 (dk_at dksX1_between_4 17 rfl rfl)
abbrev cX1_checkNodes : ByteArray := prog_1_method_10_code
def yX1_checkNodes : MethodName := ⟨RX1, "checkNodes", "([I)V"⟩
def dkwX1_checkNodes_2 : List UInt8 := [132, 4, 1, 167, 255, 216, 177]
abbrev dktX1_checkNodes_2 : List UInt8 := dkwX1_checkNodes_2 ++ []
def dkwX1_checkNodes_1 : List UInt8 := [180, 0, 37, 180, 0, 66, 185, 0, 70, 1, 0, 133, 10, 101, 21, 5, 133, 184, 0, 76, 184, 0, 80]
abbrev dktX1_checkNodes_1 : List UInt8 := dkwX1_checkNodes_1 ++ dktX1_checkNodes_2
def dkwX1_checkNodes_0 : List UInt8 := [43, 77, 44, 190, 62, 3, 54, 4, 21, 4, 29, 162, 0, 40, 44, 21, 4, 46, 54, 5, 9, 42]
abbrev dktX1_checkNodes_0 : List UInt8 := dkwX1_checkNodes_0 ++ dktX1_checkNodes_1
theorem dksX1_checkNodes_0 : cX1_checkNodes.data.toList.drop 0 = dktX1_checkNodes_0 := by decide +kernel
theorem dksX1_checkNodes_1 : cX1_checkNodes.data.toList.drop 22 = dktX1_checkNodes_1 := dk_seg dksX1_checkNodes_0 22 rfl rfl
theorem dksX1_checkNodes_2 : cX1_checkNodes.data.toList.drop 45 = dktX1_checkNodes_2 := dk_seg dksX1_checkNodes_1 23 rfl rfl
theorem dX1_checkNodes_0 : decode cX1_checkNodes 0 = .ok (.aload_n 1, 1) := dk_43 (dk_at dksX1_checkNodes_0 0 rfl rfl)
theorem dX1_checkNodes_1 : decode cX1_checkNodes 1 = .ok (.astore_n 2, 1) := dk_77 (dk_at dksX1_checkNodes_0 1 rfl rfl)
theorem dX1_checkNodes_2 : decode cX1_checkNodes 2 = .ok (.aload_n 2, 1) := dk_44 (dk_at dksX1_checkNodes_0 2 rfl rfl)
theorem dX1_checkNodes_3 : decode cX1_checkNodes 3 = .ok (.arraylength, 1) := dk_190 (dk_at dksX1_checkNodes_0 3 rfl rfl)
theorem dX1_checkNodes_4 : decode cX1_checkNodes 4 = .ok (.istore_n 3, 1) := dk_62 (dk_at dksX1_checkNodes_0 4 rfl rfl)
theorem dX1_checkNodes_5 : decode cX1_checkNodes 5 = .ok (.iconst 0, 1) := dk_3 (dk_at dksX1_checkNodes_0 5 rfl rfl)
theorem dX1_checkNodes_6 : decode cX1_checkNodes 6 = .ok (.istore 4, 2) := dk_54 4 (dk_at dksX1_checkNodes_0 6 rfl rfl)
theorem dX1_checkNodes_8 : decode cX1_checkNodes 8 = .ok (.iload 4, 2) := dk_21 4 (dk_at dksX1_checkNodes_0 8 rfl rfl)
theorem dX1_checkNodes_10 : decode cX1_checkNodes 10 = .ok (.iload_n 3, 1) := dk_29 (dk_at dksX1_checkNodes_0 10 rfl rfl)
theorem dX1_checkNodes_11 : decode cX1_checkNodes 11 = .ok (.if_icmp .ge 40, 3) := dk_162 0 40 (dk_at dksX1_checkNodes_0 11 rfl rfl)
theorem dX1_checkNodes_14 : decode cX1_checkNodes 14 = .ok (.aload_n 2, 1) := dk_44 (dk_at dksX1_checkNodes_0 14 rfl rfl)
theorem dX1_checkNodes_15 : decode cX1_checkNodes 15 = .ok (.iload 4, 2) := dk_21 4 (dk_at dksX1_checkNodes_0 15 rfl rfl)
theorem dX1_checkNodes_17 : decode cX1_checkNodes 17 = .ok (.iaload, 1) := dk_46 (dk_at dksX1_checkNodes_0 17 rfl rfl)
theorem dX1_checkNodes_18 : decode cX1_checkNodes 18 = .ok (.istore 5, 2) := dk_54 5 (dk_at dksX1_checkNodes_0 18 rfl rfl)
theorem dX1_checkNodes_20 : decode cX1_checkNodes 20 = .ok (.lconst 0, 1) := dk_9 (dk_at dksX1_checkNodes_0 20 rfl rfl)
theorem dX1_checkNodes_21 : decode cX1_checkNodes 21 = .ok (.aload_n 0, 1) := dk_42 (dk_at dksX1_checkNodes_0 21 rfl rfl)
theorem dX1_checkNodes_22 : decode cX1_checkNodes 22 = .ok (.getfield 37, 3) := dk_180 0 37 (dk_at dksX1_checkNodes_1 0 rfl rfl)
theorem dX1_checkNodes_25 : decode cX1_checkNodes 25 = .ok (.getfield 66, 3) := dk_180 0 66 (dk_at dksX1_checkNodes_1 3 rfl rfl)
theorem dX1_checkNodes_28 : decode cX1_checkNodes 28 = .ok (.invokeinterface 70 1, 5) := by decide +kernel
theorem dX1_checkNodes_33 : decode cX1_checkNodes 33 = .ok (.i2l, 1) := dk_133 (dk_at dksX1_checkNodes_1 11 rfl rfl)
theorem dX1_checkNodes_34 : decode cX1_checkNodes 34 = .ok (.lconst 1, 1) := dk_10 (dk_at dksX1_checkNodes_1 12 rfl rfl)
theorem dX1_checkNodes_35 : decode cX1_checkNodes 35 = .ok (.lsub, 1) := dk_101 (dk_at dksX1_checkNodes_1 13 rfl rfl)
theorem dX1_checkNodes_36 : decode cX1_checkNodes 36 = .ok (.iload 5, 2) := dk_21 5 (dk_at dksX1_checkNodes_1 14 rfl rfl)
theorem dX1_checkNodes_38 : decode cX1_checkNodes 38 = .ok (.i2l, 1) := dk_133 (dk_at dksX1_checkNodes_1 16 rfl rfl)
theorem dX1_checkNodes_39 : decode cX1_checkNodes 39 = .ok (.invokestatic 76, 3) := dk_184 0 76 (dk_at dksX1_checkNodes_1 17 rfl rfl)
theorem dX1_checkNodes_42 : decode cX1_checkNodes 42 = .ok (.invokestatic 80, 3) := dk_184 0 80 (dk_at dksX1_checkNodes_1 20 rfl rfl)
theorem dX1_checkNodes_45 : decode cX1_checkNodes 45 = .ok (.iinc 4 1, 3) := dk_132 4 1 (dk_at dksX1_checkNodes_2 0 rfl rfl)
theorem dX1_checkNodes_48 : decode cX1_checkNodes 48 = .ok (.goto (-40), 3) := dk_167 255 216 (dk_at dksX1_checkNodes_2 3 rfl rfl)
theorem dX1_checkNodes_51 : decode cX1_checkNodes 51 = .ok (.return_, 1) := dk_177 (dk_at dksX1_checkNodes_2 6 rfl rfl)
abbrev cX1_degree : ByteArray := prog_1_method_26_code
def yX1_degree : MethodName := ⟨RX1, "degree", "(I)I"⟩
def dkwX1_degree_1 : List UInt8 := [180, 0, 207, 27, 50, 190, 172]
abbrev dktX1_degree_1 : List UInt8 := dkwX1_degree_1 ++ []
def dkwX1_degree_0 : List UInt8 := [42, 4, 188, 10, 89, 3, 27, 79, 182, 0, 173, 187, 0, 104, 89, 42, 180, 0, 37, 183, 0, 106]
abbrev dktX1_degree_0 : List UInt8 := dkwX1_degree_0 ++ dktX1_degree_1
theorem dksX1_degree_0 : cX1_degree.data.toList.drop 0 = dktX1_degree_0 := by decide +kernel
theorem dksX1_degree_1 : cX1_degree.data.toList.drop 22 = dktX1_degree_1 := dk_seg dksX1_degree_0 22 rfl rfl
theorem dX1_degree_0 : decode cX1_degree 0 = .ok (.aload_n 0, 1) := dk_42 (dk_at dksX1_degree_0 0 rfl rfl)
theorem dX1_degree_1 : decode cX1_degree 1 = .ok (.iconst 1, 1) := dk_4 (dk_at dksX1_degree_0 1 rfl rfl)
theorem dX1_degree_2 : decode cX1_degree 2 = .ok (.newarray .int, 2) := dk_188_10 (dk_at dksX1_degree_0 2 rfl rfl)
theorem dX1_degree_4 : decode cX1_degree 4 = .ok (.dup, 1) := dk_89 (dk_at dksX1_degree_0 4 rfl rfl)
theorem dX1_degree_5 : decode cX1_degree 5 = .ok (.iconst 0, 1) := dk_3 (dk_at dksX1_degree_0 5 rfl rfl)
theorem dX1_degree_6 : decode cX1_degree 6 = .ok (.iload_n 1, 1) := dk_27 (dk_at dksX1_degree_0 6 rfl rfl)
theorem dX1_degree_7 : decode cX1_degree 7 = .ok (.iastore, 1) := dk_79 (dk_at dksX1_degree_0 7 rfl rfl)
theorem dX1_degree_8 : decode cX1_degree 8 = .ok (.invokevirtual 173, 3) := dk_182 0 173 (dk_at dksX1_degree_0 8 rfl rfl)
theorem dX1_degree_11 : decode cX1_degree 11 = .ok (.new 104, 3) := dk_187 0 104 (dk_at dksX1_degree_0 11 rfl rfl)
theorem dX1_degree_14 : decode cX1_degree 14 = .ok (.dup, 1) := dk_89 (dk_at dksX1_degree_0 14 rfl rfl)
theorem dX1_degree_15 : decode cX1_degree 15 = .ok (.aload_n 0, 1) := dk_42 (dk_at dksX1_degree_0 15 rfl rfl)
theorem dX1_degree_16 : decode cX1_degree 16 = .ok (.getfield 37, 3) := dk_180 0 37 (dk_at dksX1_degree_0 16 rfl rfl)
theorem dX1_degree_19 : decode cX1_degree 19 = .ok (.invokespecial 106, 3) := dk_183 0 106 (dk_at dksX1_degree_0 19 rfl rfl)
theorem dX1_degree_22 : decode cX1_degree 22 = .ok (.getfield 207, 3) := dk_180 0 207 (dk_at dksX1_degree_1 0 rfl rfl)
theorem dX1_degree_25 : decode cX1_degree 25 = .ok (.iload_n 1, 1) := dk_27 (dk_at dksX1_degree_1 3 rfl rfl)
theorem dX1_degree_26 : decode cX1_degree 26 = .ok (.aaload, 1) := dk_50 (dk_at dksX1_degree_1 4 rfl rfl)
theorem dX1_degree_27 : decode cX1_degree 27 = .ok (.arraylength, 1) := dk_190 (dk_at dksX1_degree_1 5 rfl rfl)
theorem dX1_degree_28 : decode cX1_degree 28 = .ok (.ireturn, 1) := dk_172 (dk_at dksX1_degree_1 6 rfl rfl)
abbrev cX1_displacement : ByteArray := prog_1_method_28_code
def yX1_displacement : MethodName := ⟨RX1, "displacement", "(IIZ)I"⟩
def dkwX1_displacement_1 : List UInt8 := [180, 0, 222, 27, 47, 167, 0, 10, 25, 4, 180, 0, 226, 27, 47, 136, 172]
abbrev dktX1_displacement_1 : List UInt8 := dkwX1_displacement_1 ++ []
def dkwX1_displacement_0 : List UInt8 := [42, 4, 188, 10, 89, 3, 27, 79, 182, 0, 173, 42, 28, 182, 0, 218, 58, 4, 29, 153, 0, 13, 25, 4]
abbrev dktX1_displacement_0 : List UInt8 := dkwX1_displacement_0 ++ dktX1_displacement_1
theorem dksX1_displacement_0 : cX1_displacement.data.toList.drop 0 = dktX1_displacement_0 := by decide +kernel
theorem dksX1_displacement_1 : cX1_displacement.data.toList.drop 24 = dktX1_displacement_1 := dk_seg dksX1_displacement_0 24 rfl rfl
theorem dX1_displacement_0 : decode cX1_displacement 0 = .ok (.aload_n 0, 1) := dk_42 (dk_at dksX1_displacement_0 0 rfl rfl)
theorem dX1_displacement_1 : decode cX1_displacement 1 = .ok (.iconst 1, 1) := dk_4 (dk_at dksX1_displacement_0 1 rfl rfl)
theorem dX1_displacement_2 : decode cX1_displacement 2 = .ok (.newarray .int, 2) := dk_188_10 (dk_at dksX1_displacement_0 2 rfl rfl)
theorem dX1_displacement_4 : decode cX1_displacement 4 = .ok (.dup, 1) := dk_89 (dk_at dksX1_displacement_0 4 rfl rfl)
theorem dX1_displacement_5 : decode cX1_displacement 5 = .ok (.iconst 0, 1) := dk_3 (dk_at dksX1_displacement_0 5 rfl rfl)
theorem dX1_displacement_6 : decode cX1_displacement 6 = .ok (.iload_n 1, 1) := dk_27 (dk_at dksX1_displacement_0 6 rfl rfl)
theorem dX1_displacement_7 : decode cX1_displacement 7 = .ok (.iastore, 1) := dk_79 (dk_at dksX1_displacement_0 7 rfl rfl)
theorem dX1_displacement_8 : decode cX1_displacement 8 = .ok (.invokevirtual 173, 3) := dk_182 0 173 (dk_at dksX1_displacement_0 8 rfl rfl)
theorem dX1_displacement_11 : decode cX1_displacement 11 = .ok (.aload_n 0, 1) := dk_42 (dk_at dksX1_displacement_0 11 rfl rfl)
theorem dX1_displacement_12 : decode cX1_displacement 12 = .ok (.iload_n 2, 1) := dk_28 (dk_at dksX1_displacement_0 12 rfl rfl)
theorem dX1_displacement_13 : decode cX1_displacement 13 = .ok (.invokevirtual 218, 3) := dk_182 0 218 (dk_at dksX1_displacement_0 13 rfl rfl)
theorem dX1_displacement_16 : decode cX1_displacement 16 = .ok (.astore 4, 2) := dk_58 4 (dk_at dksX1_displacement_0 16 rfl rfl)
theorem dX1_displacement_18 : decode cX1_displacement 18 = .ok (.iload_n 3, 1) := dk_29 (dk_at dksX1_displacement_0 18 rfl rfl)
theorem dX1_displacement_19 : decode cX1_displacement 19 = .ok (.ifCond .eq 13, 3) := dk_153 0 13 (dk_at dksX1_displacement_0 19 rfl rfl)
theorem dX1_displacement_22 : decode cX1_displacement 22 = .ok (.aload 4, 2) := dk_25 4 (dk_at dksX1_displacement_0 22 rfl rfl)
theorem dX1_displacement_24 : decode cX1_displacement 24 = .ok (.getfield 222, 3) := dk_180 0 222 (dk_at dksX1_displacement_1 0 rfl rfl)
theorem dX1_displacement_27 : decode cX1_displacement 27 = .ok (.iload_n 1, 1) := dk_27 (dk_at dksX1_displacement_1 3 rfl rfl)
theorem dX1_displacement_28 : decode cX1_displacement 28 = .ok (.laload, 1) := dk_47 (dk_at dksX1_displacement_1 4 rfl rfl)
theorem dX1_displacement_29 : decode cX1_displacement 29 = .ok (.goto 10, 3) := dk_167 0 10 (dk_at dksX1_displacement_1 5 rfl rfl)
theorem dX1_displacement_32 : decode cX1_displacement 32 = .ok (.aload 4, 2) := dk_25 4 (dk_at dksX1_displacement_1 8 rfl rfl)
theorem dX1_displacement_34 : decode cX1_displacement 34 = .ok (.getfield 226, 3) := dk_180 0 226 (dk_at dksX1_displacement_1 10 rfl rfl)
theorem dX1_displacement_37 : decode cX1_displacement 37 = .ok (.iload_n 1, 1) := dk_27 (dk_at dksX1_displacement_1 13 rfl rfl)
theorem dX1_displacement_38 : decode cX1_displacement 38 = .ok (.laload, 1) := dk_47 (dk_at dksX1_displacement_1 14 rfl rfl)
theorem dX1_displacement_39 : decode cX1_displacement 39 = .ok (.l2i, 1) := dk_136 (dk_at dksX1_displacement_1 15 rfl rfl)
theorem dX1_displacement_40 : decode cX1_displacement 40 = .ok (.ireturn, 1) := dk_172 (dk_at dksX1_displacement_1 16 rfl rfl)
abbrev cX1_relaxed : ByteArray := prog_1_method_14_code
def yX1_relaxed : MethodName := ⟨RX1, "relaxed", "(I)LElasticTruss$Relaxation;"⟩
def dkwX1_relaxed_0 : List UInt8 := [42, 27, 182, 0, 101, 187, 0, 104, 89, 42, 180, 0, 37, 183, 0, 106, 77, 44, 27, 182, 0, 109, 44, 176]
abbrev dktX1_relaxed_0 : List UInt8 := dkwX1_relaxed_0 ++ []
theorem dksX1_relaxed_0 : cX1_relaxed.data.toList.drop 0 = dktX1_relaxed_0 := by decide +kernel
theorem dX1_relaxed_0 : decode cX1_relaxed 0 = .ok (.aload_n 0, 1) := dk_42 (dk_at dksX1_relaxed_0 0 rfl rfl)
theorem dX1_relaxed_1 : decode cX1_relaxed 1 = .ok (.iload_n 1, 1) := dk_27 (dk_at dksX1_relaxed_0 1 rfl rfl)
theorem dX1_relaxed_2 : decode cX1_relaxed 2 = .ok (.invokevirtual 101, 3) := dk_182 0 101 (dk_at dksX1_relaxed_0 2 rfl rfl)
theorem dX1_relaxed_5 : decode cX1_relaxed 5 = .ok (.new 104, 3) := dk_187 0 104 (dk_at dksX1_relaxed_0 5 rfl rfl)
theorem dX1_relaxed_8 : decode cX1_relaxed 8 = .ok (.dup, 1) := dk_89 (dk_at dksX1_relaxed_0 8 rfl rfl)
theorem dX1_relaxed_9 : decode cX1_relaxed 9 = .ok (.aload_n 0, 1) := dk_42 (dk_at dksX1_relaxed_0 9 rfl rfl)
theorem dX1_relaxed_10 : decode cX1_relaxed 10 = .ok (.getfield 37, 3) := dk_180 0 37 (dk_at dksX1_relaxed_0 10 rfl rfl)
theorem dX1_relaxed_13 : decode cX1_relaxed 13 = .ok (.invokespecial 106, 3) := dk_183 0 106 (dk_at dksX1_relaxed_0 13 rfl rfl)
theorem dX1_relaxed_16 : decode cX1_relaxed 16 = .ok (.astore_n 2, 1) := dk_77 (dk_at dksX1_relaxed_0 16 rfl rfl)
theorem dX1_relaxed_17 : decode cX1_relaxed 17 = .ok (.aload_n 2, 1) := dk_44 (dk_at dksX1_relaxed_0 17 rfl rfl)
theorem dX1_relaxed_18 : decode cX1_relaxed 18 = .ok (.iload_n 1, 1) := dk_27 (dk_at dksX1_relaxed_0 18 rfl rfl)
theorem dX1_relaxed_19 : decode cX1_relaxed 19 = .ok (.invokevirtual 109, 3) := dk_182 0 109 (dk_at dksX1_relaxed_0 19 rfl rfl)
theorem dX1_relaxed_22 : decode cX1_relaxed 22 = .ok (.aload_n 2, 1) := dk_44 (dk_at dksX1_relaxed_0 22 rfl rfl)
theorem dX1_relaxed_23 : decode cX1_relaxed 23 = .ok (.areturn, 1) := dk_176 (dk_at dksX1_relaxed_0 23 rfl rfl)
abbrev cX1_checkStage : ByteArray := prog_1_method_12_code
def yX1_checkStage : MethodName := ⟨RX1, "checkStage", "(I)V"⟩
def dkwX1_checkStage_0 : List UInt8 := [9, 42, 180, 0, 37, 182, 0, 87, 133, 10, 101, 27, 133, 184, 0, 76, 184, 0, 80, 177]
abbrev dktX1_checkStage_0 : List UInt8 := dkwX1_checkStage_0 ++ []
theorem dksX1_checkStage_0 : cX1_checkStage.data.toList.drop 0 = dktX1_checkStage_0 := by decide +kernel
theorem dX1_checkStage_0 : decode cX1_checkStage 0 = .ok (.lconst 0, 1) := dk_9 (dk_at dksX1_checkStage_0 0 rfl rfl)
theorem dX1_checkStage_1 : decode cX1_checkStage 1 = .ok (.aload_n 0, 1) := dk_42 (dk_at dksX1_checkStage_0 1 rfl rfl)
theorem dX1_checkStage_2 : decode cX1_checkStage 2 = .ok (.getfield 37, 3) := dk_180 0 37 (dk_at dksX1_checkStage_0 2 rfl rfl)
theorem dX1_checkStage_5 : decode cX1_checkStage 5 = .ok (.invokevirtual 87, 3) := dk_182 0 87 (dk_at dksX1_checkStage_0 5 rfl rfl)
theorem dX1_checkStage_8 : decode cX1_checkStage 8 = .ok (.i2l, 1) := dk_133 (dk_at dksX1_checkStage_0 8 rfl rfl)
theorem dX1_checkStage_9 : decode cX1_checkStage 9 = .ok (.lconst 1, 1) := dk_10 (dk_at dksX1_checkStage_0 9 rfl rfl)
theorem dX1_checkStage_10 : decode cX1_checkStage 10 = .ok (.lsub, 1) := dk_101 (dk_at dksX1_checkStage_0 10 rfl rfl)
theorem dX1_checkStage_11 : decode cX1_checkStage 11 = .ok (.iload_n 1, 1) := dk_27 (dk_at dksX1_checkStage_0 11 rfl rfl)
theorem dX1_checkStage_12 : decode cX1_checkStage 12 = .ok (.i2l, 1) := dk_133 (dk_at dksX1_checkStage_0 12 rfl rfl)
theorem dX1_checkStage_13 : decode cX1_checkStage 13 = .ok (.invokestatic 76, 3) := dk_184 0 76 (dk_at dksX1_checkStage_0 13 rfl rfl)
theorem dX1_checkStage_16 : decode cX1_checkStage 16 = .ok (.invokestatic 80, 3) := dk_184 0 80 (dk_at dksX1_checkStage_0 16 rfl rfl)
theorem dX1_checkStage_19 : decode cX1_checkStage 19 = .ok (.return_, 1) := dk_177 (dk_at dksX1_checkStage_0 19 rfl rfl)
abbrev cX1_force : ByteArray := prog_1_method_29_code
def yX1_force : MethodName := ⟨RX1, "force", "(II)I"⟩
def dkwX1_force_0 : List UInt8 := [42, 27, 182, 0, 153, 78, 42, 28, 182, 0, 218, 45, 182, 0, 229, 172]
abbrev dktX1_force_0 : List UInt8 := dkwX1_force_0 ++ []
theorem dksX1_force_0 : cX1_force.data.toList.drop 0 = dktX1_force_0 := by decide +kernel
theorem dX1_force_0 : decode cX1_force 0 = .ok (.aload_n 0, 1) := dk_42 (dk_at dksX1_force_0 0 rfl rfl)
theorem dX1_force_1 : decode cX1_force 1 = .ok (.iload_n 1, 1) := dk_27 (dk_at dksX1_force_0 1 rfl rfl)
theorem dX1_force_2 : decode cX1_force 2 = .ok (.invokevirtual 153, 3) := dk_182 0 153 (dk_at dksX1_force_0 2 rfl rfl)
theorem dX1_force_5 : decode cX1_force 5 = .ok (.astore_n 3, 1) := dk_78 (dk_at dksX1_force_0 5 rfl rfl)
theorem dX1_force_6 : decode cX1_force 6 = .ok (.aload_n 0, 1) := dk_42 (dk_at dksX1_force_0 6 rfl rfl)
theorem dX1_force_7 : decode cX1_force 7 = .ok (.iload_n 2, 1) := dk_28 (dk_at dksX1_force_0 7 rfl rfl)
theorem dX1_force_8 : decode cX1_force 8 = .ok (.invokevirtual 218, 3) := dk_182 0 218 (dk_at dksX1_force_0 8 rfl rfl)
theorem dX1_force_11 : decode cX1_force 11 = .ok (.aload_n 3, 1) := dk_45 (dk_at dksX1_force_0 11 rfl rfl)
theorem dX1_force_12 : decode cX1_force 12 = .ok (.invokevirtual 229, 3) := dk_182 0 229 (dk_at dksX1_force_0 12 rfl rfl)
theorem dX1_force_15 : decode cX1_force 15 = .ok (.ireturn, 1) := dk_172 (dk_at dksX1_force_0 15 rfl rfl)
abbrev cX1_residual : ByteArray := prog_1_method_30_code
def yX1_residual : MethodName := ⟨RX1, "residual", "(IIZ)I"⟩
def dkwX1_residual_2 : List UInt8 := [136, 172]
abbrev dktX1_residual_2 : List UInt8 := dkwX1_residual_2 ++ []
def dkwX1_residual_1 : List UInt8 := [182, 0, 233, 29, 153, 0, 13, 25, 4, 180, 0, 236, 27, 47, 167, 0, 10, 25, 4, 180, 0, 239, 27, 47]
abbrev dktX1_residual_1 : List UInt8 := dkwX1_residual_1 ++ dktX1_residual_2
def dkwX1_residual_0 : List UInt8 := [42, 4, 188, 10, 89, 3, 27, 79, 182, 0, 173, 42, 28, 182, 0, 218, 58, 4, 25, 4, 27, 28]
abbrev dktX1_residual_0 : List UInt8 := dkwX1_residual_0 ++ dktX1_residual_1
theorem dksX1_residual_0 : cX1_residual.data.toList.drop 0 = dktX1_residual_0 := by decide +kernel
theorem dksX1_residual_1 : cX1_residual.data.toList.drop 22 = dktX1_residual_1 := dk_seg dksX1_residual_0 22 rfl rfl
theorem dksX1_residual_2 : cX1_residual.data.toList.drop 46 = dktX1_residual_2 := dk_seg dksX1_residual_1 24 rfl rfl
theorem dX1_residual_0 : decode cX1_residual 0 = .ok (.aload_n 0, 1) := dk_42 (dk_at dksX1_residual_0 0 rfl rfl)
theorem dX1_residual_1 : decode cX1_residual 1 = .ok (.iconst 1, 1) := dk_4 (dk_at dksX1_residual_0 1 rfl rfl)
theorem dX1_residual_2 : decode cX1_residual 2 = .ok (.newarray .int, 2) := dk_188_10 (dk_at dksX1_residual_0 2 rfl rfl)
theorem dX1_residual_4 : decode cX1_residual 4 = .ok (.dup, 1) := dk_89 (dk_at dksX1_residual_0 4 rfl rfl)
theorem dX1_residual_5 : decode cX1_residual 5 = .ok (.iconst 0, 1) := dk_3 (dk_at dksX1_residual_0 5 rfl rfl)
theorem dX1_residual_6 : decode cX1_residual 6 = .ok (.iload_n 1, 1) := dk_27 (dk_at dksX1_residual_0 6 rfl rfl)
theorem dX1_residual_7 : decode cX1_residual 7 = .ok (.iastore, 1) := dk_79 (dk_at dksX1_residual_0 7 rfl rfl)
theorem dX1_residual_8 : decode cX1_residual 8 = .ok (.invokevirtual 173, 3) := dk_182 0 173 (dk_at dksX1_residual_0 8 rfl rfl)
theorem dX1_residual_11 : decode cX1_residual 11 = .ok (.aload_n 0, 1) := dk_42 (dk_at dksX1_residual_0 11 rfl rfl)
theorem dX1_residual_12 : decode cX1_residual 12 = .ok (.iload_n 2, 1) := dk_28 (dk_at dksX1_residual_0 12 rfl rfl)
theorem dX1_residual_13 : decode cX1_residual 13 = .ok (.invokevirtual 218, 3) := dk_182 0 218 (dk_at dksX1_residual_0 13 rfl rfl)
theorem dX1_residual_16 : decode cX1_residual 16 = .ok (.astore 4, 2) := dk_58 4 (dk_at dksX1_residual_0 16 rfl rfl)
theorem dX1_residual_18 : decode cX1_residual 18 = .ok (.aload 4, 2) := dk_25 4 (dk_at dksX1_residual_0 18 rfl rfl)
theorem dX1_residual_20 : decode cX1_residual 20 = .ok (.iload_n 1, 1) := dk_27 (dk_at dksX1_residual_0 20 rfl rfl)
theorem dX1_residual_21 : decode cX1_residual 21 = .ok (.iload_n 2, 1) := dk_28 (dk_at dksX1_residual_0 21 rfl rfl)
theorem dX1_residual_22 : decode cX1_residual 22 = .ok (.invokevirtual 233, 3) := dk_182 0 233 (dk_at dksX1_residual_1 0 rfl rfl)
theorem dX1_residual_25 : decode cX1_residual 25 = .ok (.iload_n 3, 1) := dk_29 (dk_at dksX1_residual_1 3 rfl rfl)
theorem dX1_residual_26 : decode cX1_residual 26 = .ok (.ifCond .eq 13, 3) := dk_153 0 13 (dk_at dksX1_residual_1 4 rfl rfl)
theorem dX1_residual_29 : decode cX1_residual 29 = .ok (.aload 4, 2) := dk_25 4 (dk_at dksX1_residual_1 7 rfl rfl)
theorem dX1_residual_31 : decode cX1_residual 31 = .ok (.getfield 236, 3) := dk_180 0 236 (dk_at dksX1_residual_1 9 rfl rfl)
theorem dX1_residual_34 : decode cX1_residual 34 = .ok (.iload_n 1, 1) := dk_27 (dk_at dksX1_residual_1 12 rfl rfl)
theorem dX1_residual_35 : decode cX1_residual 35 = .ok (.laload, 1) := dk_47 (dk_at dksX1_residual_1 13 rfl rfl)
theorem dX1_residual_36 : decode cX1_residual 36 = .ok (.goto 10, 3) := dk_167 0 10 (dk_at dksX1_residual_1 14 rfl rfl)
theorem dX1_residual_39 : decode cX1_residual 39 = .ok (.aload 4, 2) := dk_25 4 (dk_at dksX1_residual_1 17 rfl rfl)
theorem dX1_residual_41 : decode cX1_residual 41 = .ok (.getfield 239, 3) := dk_180 0 239 (dk_at dksX1_residual_1 19 rfl rfl)
theorem dX1_residual_44 : decode cX1_residual 44 = .ok (.iload_n 1, 1) := dk_27 (dk_at dksX1_residual_1 22 rfl rfl)
theorem dX1_residual_45 : decode cX1_residual 45 = .ok (.laload, 1) := dk_47 (dk_at dksX1_residual_1 23 rfl rfl)
theorem dX1_residual_46 : decode cX1_residual 46 = .ok (.l2i, 1) := dk_136 (dk_at dksX1_residual_2 0 rfl rfl)
theorem dX1_residual_47 : decode cX1_residual 47 = .ok (.ireturn, 1) := dk_172 (dk_at dksX1_residual_2 1 rfl rfl)
abbrev cX1_buckling : ByteArray := prog_1_method_31_code
def yX1_buckling : MethodName := ⟨RX1, "buckling", "(I)I"⟩
def dkwX1_buckling_0 : List UInt8 := [42, 180, 0, 37, 42, 27, 182, 0, 153, 182, 0, 242, 172]
abbrev dktX1_buckling_0 : List UInt8 := dkwX1_buckling_0 ++ []
theorem dksX1_buckling_0 : cX1_buckling.data.toList.drop 0 = dktX1_buckling_0 := by decide +kernel
theorem dX1_buckling_0 : decode cX1_buckling 0 = .ok (.aload_n 0, 1) := dk_42 (dk_at dksX1_buckling_0 0 rfl rfl)
theorem dX1_buckling_1 : decode cX1_buckling 1 = .ok (.getfield 37, 3) := dk_180 0 37 (dk_at dksX1_buckling_0 1 rfl rfl)
theorem dX1_buckling_4 : decode cX1_buckling 4 = .ok (.aload_n 0, 1) := dk_42 (dk_at dksX1_buckling_0 4 rfl rfl)
theorem dX1_buckling_5 : decode cX1_buckling 5 = .ok (.iload_n 1, 1) := dk_27 (dk_at dksX1_buckling_0 5 rfl rfl)
theorem dX1_buckling_6 : decode cX1_buckling 6 = .ok (.invokevirtual 153, 3) := dk_182 0 153 (dk_at dksX1_buckling_0 6 rfl rfl)
theorem dX1_buckling_9 : decode cX1_buckling 9 = .ok (.invokevirtual 242, 3) := dk_182 0 242 (dk_at dksX1_buckling_0 9 rfl rfl)
theorem dX1_buckling_12 : decode cX1_buckling 12 = .ok (.ireturn, 1) := dk_172 (dk_at dksX1_buckling_0 12 rfl rfl)
abbrev cX1_capacity : ByteArray := prog_1_method_32_code
def yX1_capacity : MethodName := ⟨RX1, "capacity", "(IZ)I"⟩
def dkwX1_capacity_0 : List UInt8 := [42, 180, 0, 37, 42, 27, 182, 0, 153, 28, 182, 0, 245, 172]
abbrev dktX1_capacity_0 : List UInt8 := dkwX1_capacity_0 ++ []
theorem dksX1_capacity_0 : cX1_capacity.data.toList.drop 0 = dktX1_capacity_0 := by decide +kernel
theorem dX1_capacity_0 : decode cX1_capacity 0 = .ok (.aload_n 0, 1) := dk_42 (dk_at dksX1_capacity_0 0 rfl rfl)
theorem dX1_capacity_1 : decode cX1_capacity 1 = .ok (.getfield 37, 3) := dk_180 0 37 (dk_at dksX1_capacity_0 1 rfl rfl)
theorem dX1_capacity_4 : decode cX1_capacity 4 = .ok (.aload_n 0, 1) := dk_42 (dk_at dksX1_capacity_0 4 rfl rfl)
theorem dX1_capacity_5 : decode cX1_capacity 5 = .ok (.iload_n 1, 1) := dk_27 (dk_at dksX1_capacity_0 5 rfl rfl)
theorem dX1_capacity_6 : decode cX1_capacity 6 = .ok (.invokevirtual 153, 3) := dk_182 0 153 (dk_at dksX1_capacity_0 6 rfl rfl)
theorem dX1_capacity_9 : decode cX1_capacity 9 = .ok (.iload_n 2, 1) := dk_28 (dk_at dksX1_capacity_0 9 rfl rfl)
theorem dX1_capacity_10 : decode cX1_capacity 10 = .ok (.invokevirtual 245, 3) := dk_182 0 245 (dk_at dksX1_capacity_0 10 rfl rfl)
theorem dX1_capacity_13 : decode cX1_capacity 13 = .ok (.ireturn, 1) := dk_172 (dk_at dksX1_capacity_0 13 rfl rfl)
abbrev cX1_use : ByteArray := prog_1_method_33_code
def yX1_use : MethodName := ⟨RX1, "use", "(II)I"⟩
def dkwX1_use_0 : List UInt8 := [42, 27, 182, 0, 153, 78, 42, 180, 0, 37, 45, 42, 28, 182, 0, 218, 45, 182, 0, 229, 182, 0, 249, 172]
abbrev dktX1_use_0 : List UInt8 := dkwX1_use_0 ++ []
theorem dksX1_use_0 : cX1_use.data.toList.drop 0 = dktX1_use_0 := by decide +kernel
theorem dX1_use_0 : decode cX1_use 0 = .ok (.aload_n 0, 1) := dk_42 (dk_at dksX1_use_0 0 rfl rfl)
theorem dX1_use_1 : decode cX1_use 1 = .ok (.iload_n 1, 1) := dk_27 (dk_at dksX1_use_0 1 rfl rfl)
theorem dX1_use_2 : decode cX1_use 2 = .ok (.invokevirtual 153, 3) := dk_182 0 153 (dk_at dksX1_use_0 2 rfl rfl)
theorem dX1_use_5 : decode cX1_use 5 = .ok (.astore_n 3, 1) := dk_78 (dk_at dksX1_use_0 5 rfl rfl)
theorem dX1_use_6 : decode cX1_use 6 = .ok (.aload_n 0, 1) := dk_42 (dk_at dksX1_use_0 6 rfl rfl)
theorem dX1_use_7 : decode cX1_use 7 = .ok (.getfield 37, 3) := dk_180 0 37 (dk_at dksX1_use_0 7 rfl rfl)
theorem dX1_use_10 : decode cX1_use 10 = .ok (.aload_n 3, 1) := dk_45 (dk_at dksX1_use_0 10 rfl rfl)
theorem dX1_use_11 : decode cX1_use 11 = .ok (.aload_n 0, 1) := dk_42 (dk_at dksX1_use_0 11 rfl rfl)
theorem dX1_use_12 : decode cX1_use 12 = .ok (.iload_n 2, 1) := dk_28 (dk_at dksX1_use_0 12 rfl rfl)
theorem dX1_use_13 : decode cX1_use 13 = .ok (.invokevirtual 218, 3) := dk_182 0 218 (dk_at dksX1_use_0 13 rfl rfl)
theorem dX1_use_16 : decode cX1_use 16 = .ok (.aload_n 3, 1) := dk_45 (dk_at dksX1_use_0 16 rfl rfl)
theorem dX1_use_17 : decode cX1_use 17 = .ok (.invokevirtual 229, 3) := dk_182 0 229 (dk_at dksX1_use_0 17 rfl rfl)
theorem dX1_use_20 : decode cX1_use 20 = .ok (.invokevirtual 249, 3) := dk_182 0 249 (dk_at dksX1_use_0 20 rfl rfl)
theorem dX1_use_23 : decode cX1_use 23 = .ok (.ireturn, 1) := dk_172 (dk_at dksX1_use_0 23 rfl rfl)
abbrev cX1_failure : ByteArray := prog_1_method_36_code
def yX1_failure : MethodName := ⟨RX1, "failure", "(IZ)I"⟩
def dkwX1_failure_4 : List UInt8 := [167, 255, 208, 187, 0, 57, 89, 183, 0, 59, 191]
abbrev dktX1_failure_4 : List UInt8 := dkwX1_failure_4 ++ []
def dkwX1_failure_3 : List UInt8 := [154, 0, 21, 28, 153, 0, 11, 25, 6, 180, 1, 9, 167, 0, 8, 25, 6, 180, 1, 12, 172, 132, 4, 255]
abbrev dktX1_failure_3 : List UInt8 := dkwX1_failure_3 ++ dktX1_failure_4
def dkwX1_failure_2 : List UInt8 := [185, 0, 195, 1, 0, 153, 0, 44, 25, 5, 185, 0, 201, 1, 0, 192, 1, 7, 58, 6, 21, 4]
abbrev dktX1_failure_2 : List UInt8 := dkwX1_failure_2 ++ dktX1_failure_3
def dkwX1_failure_1 : List UInt8 := [101, 27, 133, 184, 0, 76, 184, 0, 80, 27, 54, 4, 45, 185, 0, 189, 1, 0, 58, 5, 25, 5]
abbrev dktX1_failure_1 : List UInt8 := dkwX1_failure_1 ++ dktX1_failure_2
def dkwX1_failure_0 : List UInt8 := [187, 0, 104, 89, 42, 180, 0, 37, 183, 0, 106, 182, 1, 3, 78, 9, 45, 185, 1, 6, 1, 0, 133, 10]
abbrev dktX1_failure_0 : List UInt8 := dkwX1_failure_0 ++ dktX1_failure_1
theorem dksX1_failure_0 : cX1_failure.data.toList.drop 0 = dktX1_failure_0 := by decide +kernel
theorem dksX1_failure_1 : cX1_failure.data.toList.drop 24 = dktX1_failure_1 := dk_seg dksX1_failure_0 24 rfl rfl
theorem dksX1_failure_2 : cX1_failure.data.toList.drop 46 = dktX1_failure_2 := dk_seg dksX1_failure_1 22 rfl rfl
theorem dksX1_failure_3 : cX1_failure.data.toList.drop 68 = dktX1_failure_3 := dk_seg dksX1_failure_2 22 rfl rfl
theorem dksX1_failure_4 : cX1_failure.data.toList.drop 92 = dktX1_failure_4 := dk_seg dksX1_failure_3 24 rfl rfl
theorem dX1_failure_0 : decode cX1_failure 0 = .ok (.new 104, 3) := dk_187 0 104 (dk_at dksX1_failure_0 0 rfl rfl)
theorem dX1_failure_3 : decode cX1_failure 3 = .ok (.dup, 1) := dk_89 (dk_at dksX1_failure_0 3 rfl rfl)
theorem dX1_failure_4 : decode cX1_failure 4 = .ok (.aload_n 0, 1) := dk_42 (dk_at dksX1_failure_0 4 rfl rfl)
theorem dX1_failure_5 : decode cX1_failure 5 = .ok (.getfield 37, 3) := dk_180 0 37 (dk_at dksX1_failure_0 5 rfl rfl)
theorem dX1_failure_8 : decode cX1_failure 8 = .ok (.invokespecial 106, 3) := dk_183 0 106 (dk_at dksX1_failure_0 8 rfl rfl)
theorem dX1_failure_11 : decode cX1_failure 11 = .ok (.invokevirtual 259, 3) := dk_182 1 3 (dk_at dksX1_failure_0 11 rfl rfl)
theorem dX1_failure_14 : decode cX1_failure 14 = .ok (.astore_n 3, 1) := dk_78 (dk_at dksX1_failure_0 14 rfl rfl)
theorem dX1_failure_15 : decode cX1_failure 15 = .ok (.lconst 0, 1) := dk_9 (dk_at dksX1_failure_0 15 rfl rfl)
theorem dX1_failure_16 : decode cX1_failure 16 = .ok (.aload_n 3, 1) := dk_45 (dk_at dksX1_failure_0 16 rfl rfl)
theorem dX1_failure_17 : decode cX1_failure 17 = .ok (.invokeinterface 262 1, 5) := by decide +kernel
theorem dX1_failure_22 : decode cX1_failure 22 = .ok (.i2l, 1) := dk_133 (dk_at dksX1_failure_0 22 rfl rfl)
theorem dX1_failure_23 : decode cX1_failure 23 = .ok (.lconst 1, 1) := dk_10 (dk_at dksX1_failure_0 23 rfl rfl)
theorem dX1_failure_24 : decode cX1_failure 24 = .ok (.lsub, 1) := dk_101 (dk_at dksX1_failure_1 0 rfl rfl)
theorem dX1_failure_25 : decode cX1_failure 25 = .ok (.iload_n 1, 1) := dk_27 (dk_at dksX1_failure_1 1 rfl rfl)
theorem dX1_failure_26 : decode cX1_failure 26 = .ok (.i2l, 1) := dk_133 (dk_at dksX1_failure_1 2 rfl rfl)
theorem dX1_failure_27 : decode cX1_failure 27 = .ok (.invokestatic 76, 3) := dk_184 0 76 (dk_at dksX1_failure_1 3 rfl rfl)
theorem dX1_failure_30 : decode cX1_failure 30 = .ok (.invokestatic 80, 3) := dk_184 0 80 (dk_at dksX1_failure_1 6 rfl rfl)
theorem dX1_failure_33 : decode cX1_failure 33 = .ok (.iload_n 1, 1) := dk_27 (dk_at dksX1_failure_1 9 rfl rfl)
theorem dX1_failure_34 : decode cX1_failure 34 = .ok (.istore 4, 2) := dk_54 4 (dk_at dksX1_failure_1 10 rfl rfl)
theorem dX1_failure_36 : decode cX1_failure 36 = .ok (.aload_n 3, 1) := dk_45 (dk_at dksX1_failure_1 12 rfl rfl)
theorem dX1_failure_37 : decode cX1_failure 37 = .ok (.invokeinterface 189 1, 5) := by decide +kernel
theorem dX1_failure_42 : decode cX1_failure 42 = .ok (.astore 5, 2) := dk_58 5 (dk_at dksX1_failure_1 18 rfl rfl)
theorem dX1_failure_44 : decode cX1_failure 44 = .ok (.aload 5, 2) := dk_25 5 (dk_at dksX1_failure_1 20 rfl rfl)
theorem dX1_failure_46 : decode cX1_failure 46 = .ok (.invokeinterface 195 1, 5) := by decide +kernel
theorem dX1_failure_51 : decode cX1_failure 51 = .ok (.ifCond .eq 44, 3) := dk_153 0 44 (dk_at dksX1_failure_2 5 rfl rfl)
theorem dX1_failure_54 : decode cX1_failure 54 = .ok (.aload 5, 2) := dk_25 5 (dk_at dksX1_failure_2 8 rfl rfl)
theorem dX1_failure_56 : decode cX1_failure 56 = .ok (.invokeinterface 201 1, 5) := by decide +kernel
theorem dX1_failure_61 : decode cX1_failure 61 = .ok (.checkcast 263, 3) := dk_192 1 7 (dk_at dksX1_failure_2 15 rfl rfl)
theorem dX1_failure_64 : decode cX1_failure 64 = .ok (.astore 6, 2) := dk_58 6 (dk_at dksX1_failure_2 18 rfl rfl)
theorem dX1_failure_66 : decode cX1_failure 66 = .ok (.iload 4, 2) := dk_21 4 (dk_at dksX1_failure_2 20 rfl rfl)
theorem dX1_failure_68 : decode cX1_failure 68 = .ok (.ifCond .ne 21, 3) := dk_154 0 21 (dk_at dksX1_failure_3 0 rfl rfl)
theorem dX1_failure_71 : decode cX1_failure 71 = .ok (.iload_n 2, 1) := dk_28 (dk_at dksX1_failure_3 3 rfl rfl)
theorem dX1_failure_72 : decode cX1_failure 72 = .ok (.ifCond .eq 11, 3) := dk_153 0 11 (dk_at dksX1_failure_3 4 rfl rfl)
theorem dX1_failure_75 : decode cX1_failure 75 = .ok (.aload 6, 2) := dk_25 6 (dk_at dksX1_failure_3 7 rfl rfl)
theorem dX1_failure_77 : decode cX1_failure 77 = .ok (.getfield 265, 3) := dk_180 1 9 (dk_at dksX1_failure_3 9 rfl rfl)
theorem dX1_failure_80 : decode cX1_failure 80 = .ok (.goto 8, 3) := dk_167 0 8 (dk_at dksX1_failure_3 12 rfl rfl)
theorem dX1_failure_83 : decode cX1_failure 83 = .ok (.aload 6, 2) := dk_25 6 (dk_at dksX1_failure_3 15 rfl rfl)
theorem dX1_failure_85 : decode cX1_failure 85 = .ok (.getfield 268, 3) := dk_180 1 12 (dk_at dksX1_failure_3 17 rfl rfl)
theorem dX1_failure_88 : decode cX1_failure 88 = .ok (.ireturn, 1) := dk_172 (dk_at dksX1_failure_3 20 rfl rfl)
theorem dX1_failure_89 : decode cX1_failure 89 = .ok (.iinc 4 (-1), 3) := dk_132 4 255 (dk_at dksX1_failure_3 21 rfl rfl)
theorem dX1_failure_92 : decode cX1_failure 92 = .ok (.goto (-48), 3) := dk_167 255 208 (dk_at dksX1_failure_4 0 rfl rfl)
theorem dX1_failure_95 : decode cX1_failure 95 = .ok (.new 57, 3) := dk_187 0 57 (dk_at dksX1_failure_4 3 rfl rfl)
theorem dX1_failure_98 : decode cX1_failure 98 = .ok (.dup, 1) := dk_89 (dk_at dksX1_failure_4 6 rfl rfl)
theorem dX1_failure_99 : decode cX1_failure 99 = .ok (.invokespecial 59, 3) := dk_183 0 59 (dk_at dksX1_failure_4 7 rfl rfl)
theorem dX1_failure_102 : decode cX1_failure 102 = .ok (.athrow, 1) := dk_191 (dk_at dksX1_failure_4 10 rfl rfl)
abbrev cX1_isRemovable : ByteArray := prog_1_method_37_code
def yX1_isRemovable : MethodName := ⟨RX1, "isRemovable", "(I)Z"⟩
def dkwX1_isRemovable_0 : List UInt8 := [42, 27, 182, 0, 153, 77, 42, 180, 0, 37, 182, 1, 15, 78, 45, 44, 182, 1, 18, 45, 182, 1, 22, 172]
abbrev dktX1_isRemovable_0 : List UInt8 := dkwX1_isRemovable_0 ++ []
theorem dksX1_isRemovable_0 : cX1_isRemovable.data.toList.drop 0 = dktX1_isRemovable_0 := by decide +kernel
theorem dX1_isRemovable_0 : decode cX1_isRemovable 0 = .ok (.aload_n 0, 1) := dk_42 (dk_at dksX1_isRemovable_0 0 rfl rfl)
theorem dX1_isRemovable_1 : decode cX1_isRemovable 1 = .ok (.iload_n 1, 1) := dk_27 (dk_at dksX1_isRemovable_0 1 rfl rfl)
theorem dX1_isRemovable_2 : decode cX1_isRemovable 2 = .ok (.invokevirtual 153, 3) := dk_182 0 153 (dk_at dksX1_isRemovable_0 2 rfl rfl)
theorem dX1_isRemovable_5 : decode cX1_isRemovable 5 = .ok (.astore_n 2, 1) := dk_77 (dk_at dksX1_isRemovable_0 5 rfl rfl)
theorem dX1_isRemovable_6 : decode cX1_isRemovable 6 = .ok (.aload_n 0, 1) := dk_42 (dk_at dksX1_isRemovable_0 6 rfl rfl)
theorem dX1_isRemovable_7 : decode cX1_isRemovable 7 = .ok (.getfield 37, 3) := dk_180 0 37 (dk_at dksX1_isRemovable_0 7 rfl rfl)
theorem dX1_isRemovable_10 : decode cX1_isRemovable 10 = .ok (.invokevirtual 271, 3) := dk_182 1 15 (dk_at dksX1_isRemovable_0 10 rfl rfl)
theorem dX1_isRemovable_13 : decode cX1_isRemovable 13 = .ok (.astore_n 3, 1) := dk_78 (dk_at dksX1_isRemovable_0 13 rfl rfl)
theorem dX1_isRemovable_14 : decode cX1_isRemovable 14 = .ok (.aload_n 3, 1) := dk_45 (dk_at dksX1_isRemovable_0 14 rfl rfl)
theorem dX1_isRemovable_15 : decode cX1_isRemovable 15 = .ok (.aload_n 2, 1) := dk_44 (dk_at dksX1_isRemovable_0 15 rfl rfl)
theorem dX1_isRemovable_16 : decode cX1_isRemovable 16 = .ok (.invokevirtual 274, 3) := dk_182 1 18 (dk_at dksX1_isRemovable_0 16 rfl rfl)
theorem dX1_isRemovable_19 : decode cX1_isRemovable 19 = .ok (.aload_n 3, 1) := dk_45 (dk_at dksX1_isRemovable_0 19 rfl rfl)
theorem dX1_isRemovable_20 : decode cX1_isRemovable 20 = .ok (.invokevirtual 278, 3) := dk_182 1 22 (dk_at dksX1_isRemovable_0 20 rfl rfl)
theorem dX1_isRemovable_23 : decode cX1_isRemovable 23 = .ok (.ireturn, 1) := dk_172 (dk_at dksX1_isRemovable_0 23 rfl rfl)
abbrev cX1_smallestArea : ByteArray := prog_1_method_38_code
def yX1_smallestArea : MethodName := ⟨RX1, "smallestArea", "(I)I"⟩
def dkwX1_smallestArea_0 : List UInt8 := [42, 27, 182, 0, 147, 42, 180, 0, 37, 182, 1, 15, 27, 182, 1, 25, 172]
abbrev dktX1_smallestArea_0 : List UInt8 := dkwX1_smallestArea_0 ++ []
theorem dksX1_smallestArea_0 : cX1_smallestArea.data.toList.drop 0 = dktX1_smallestArea_0 := by decide +kernel
theorem dX1_smallestArea_0 : decode cX1_smallestArea 0 = .ok (.aload_n 0, 1) := dk_42 (dk_at dksX1_smallestArea_0 0 rfl rfl)
theorem dX1_smallestArea_1 : decode cX1_smallestArea 1 = .ok (.iload_n 1, 1) := dk_27 (dk_at dksX1_smallestArea_0 1 rfl rfl)
theorem dX1_smallestArea_2 : decode cX1_smallestArea 2 = .ok (.invokevirtual 147, 3) := dk_182 0 147 (dk_at dksX1_smallestArea_0 2 rfl rfl)
theorem dX1_smallestArea_5 : decode cX1_smallestArea 5 = .ok (.aload_n 0, 1) := dk_42 (dk_at dksX1_smallestArea_0 5 rfl rfl)
theorem dX1_smallestArea_6 : decode cX1_smallestArea 6 = .ok (.getfield 37, 3) := dk_180 0 37 (dk_at dksX1_smallestArea_0 6 rfl rfl)
theorem dX1_smallestArea_9 : decode cX1_smallestArea 9 = .ok (.invokevirtual 271, 3) := dk_182 1 15 (dk_at dksX1_smallestArea_0 9 rfl rfl)
theorem dX1_smallestArea_12 : decode cX1_smallestArea 12 = .ok (.iload_n 1, 1) := dk_27 (dk_at dksX1_smallestArea_0 12 rfl rfl)
theorem dX1_smallestArea_13 : decode cX1_smallestArea 13 = .ok (.invokevirtual 281, 3) := dk_182 1 25 (dk_at dksX1_smallestArea_0 13 rfl rfl)
theorem dX1_smallestArea_16 : decode cX1_smallestArea 16 = .ok (.ireturn, 1) := dk_172 (dk_at dksX1_smallestArea_0 16 rfl rfl)
abbrev cX1_setArea : ByteArray := prog_1_method_39_code
def yX1_setArea : MethodName := ⟨RX1, "setArea", "(II)I"⟩
def dkwX1_setArea_1 : List UInt8 := [182, 1, 15, 182, 0, 133, 42, 180, 0, 37, 180, 0, 150, 27, 28, 79, 42, 180, 0, 37, 182, 0, 144, 172]
abbrev dktX1_setArea_1 : List UInt8 := dkwX1_setArea_1 ++ []
def dkwX1_setArea_0 : List UInt8 := [42, 27, 182, 0, 147, 10, 20, 1, 29, 28, 133, 184, 0, 76, 184, 0, 121, 42, 42, 180, 0, 37]
abbrev dktX1_setArea_0 : List UInt8 := dkwX1_setArea_0 ++ dktX1_setArea_1
theorem dksX1_setArea_0 : cX1_setArea.data.toList.drop 0 = dktX1_setArea_0 := by decide +kernel
theorem dksX1_setArea_1 : cX1_setArea.data.toList.drop 22 = dktX1_setArea_1 := dk_seg dksX1_setArea_0 22 rfl rfl
theorem dX1_setArea_0 : decode cX1_setArea 0 = .ok (.aload_n 0, 1) := dk_42 (dk_at dksX1_setArea_0 0 rfl rfl)
theorem dX1_setArea_1 : decode cX1_setArea 1 = .ok (.iload_n 1, 1) := dk_27 (dk_at dksX1_setArea_0 1 rfl rfl)
theorem dX1_setArea_2 : decode cX1_setArea 2 = .ok (.invokevirtual 147, 3) := dk_182 0 147 (dk_at dksX1_setArea_0 2 rfl rfl)
theorem dX1_setArea_5 : decode cX1_setArea 5 = .ok (.lconst 1, 1) := dk_10 (dk_at dksX1_setArea_0 5 rfl rfl)
theorem dX1_setArea_6 : decode cX1_setArea 6 = .ok (.ldc2_w 285, 3) := dk_20 1 29 (dk_at dksX1_setArea_0 6 rfl rfl)
theorem dX1_setArea_9 : decode cX1_setArea 9 = .ok (.iload_n 2, 1) := dk_28 (dk_at dksX1_setArea_0 9 rfl rfl)
theorem dX1_setArea_10 : decode cX1_setArea 10 = .ok (.i2l, 1) := dk_133 (dk_at dksX1_setArea_0 10 rfl rfl)
theorem dX1_setArea_11 : decode cX1_setArea 11 = .ok (.invokestatic 76, 3) := dk_184 0 76 (dk_at dksX1_setArea_0 11 rfl rfl)
theorem dX1_setArea_14 : decode cX1_setArea 14 = .ok (.invokestatic 121, 3) := dk_184 0 121 (dk_at dksX1_setArea_0 14 rfl rfl)
theorem dX1_setArea_17 : decode cX1_setArea 17 = .ok (.aload_n 0, 1) := dk_42 (dk_at dksX1_setArea_0 17 rfl rfl)
theorem dX1_setArea_18 : decode cX1_setArea 18 = .ok (.aload_n 0, 1) := dk_42 (dk_at dksX1_setArea_0 18 rfl rfl)
theorem dX1_setArea_19 : decode cX1_setArea 19 = .ok (.getfield 37, 3) := dk_180 0 37 (dk_at dksX1_setArea_0 19 rfl rfl)
theorem dX1_setArea_22 : decode cX1_setArea 22 = .ok (.invokevirtual 271, 3) := dk_182 1 15 (dk_at dksX1_setArea_1 0 rfl rfl)
theorem dX1_setArea_25 : decode cX1_setArea 25 = .ok (.invokevirtual 133, 3) := dk_182 0 133 (dk_at dksX1_setArea_1 3 rfl rfl)
theorem dX1_setArea_28 : decode cX1_setArea 28 = .ok (.aload_n 0, 1) := dk_42 (dk_at dksX1_setArea_1 6 rfl rfl)
theorem dX1_setArea_29 : decode cX1_setArea 29 = .ok (.getfield 37, 3) := dk_180 0 37 (dk_at dksX1_setArea_1 7 rfl rfl)
theorem dX1_setArea_32 : decode cX1_setArea 32 = .ok (.getfield 150, 3) := dk_180 0 150 (dk_at dksX1_setArea_1 10 rfl rfl)
theorem dX1_setArea_35 : decode cX1_setArea 35 = .ok (.iload_n 1, 1) := dk_27 (dk_at dksX1_setArea_1 13 rfl rfl)
theorem dX1_setArea_36 : decode cX1_setArea 36 = .ok (.iload_n 2, 1) := dk_28 (dk_at dksX1_setArea_1 14 rfl rfl)
theorem dX1_setArea_37 : decode cX1_setArea 37 = .ok (.iastore, 1) := dk_79 (dk_at dksX1_setArea_1 15 rfl rfl)
theorem dX1_setArea_38 : decode cX1_setArea 38 = .ok (.aload_n 0, 1) := dk_42 (dk_at dksX1_setArea_1 16 rfl rfl)
theorem dX1_setArea_39 : decode cX1_setArea 39 = .ok (.getfield 37, 3) := dk_180 0 37 (dk_at dksX1_setArea_1 17 rfl rfl)
theorem dX1_setArea_42 : decode cX1_setArea 42 = .ok (.invokevirtual 144, 3) := dk_182 0 144 (dk_at dksX1_setArea_1 20 rfl rfl)
theorem dX1_setArea_45 : decode cX1_setArea 45 = .ok (.ireturn, 1) := dk_172 (dk_at dksX1_setArea_1 23 rfl rfl)
abbrev cX1_addMember : ByteArray := prog_1_method_40_code
def yX1_addMember : MethodName := ⟨RX1, "addMember", "(III)I"⟩
def dkwX1_addMember_4 : List UInt8 := [180, 0, 37, 180, 0, 90, 185, 0, 94, 1, 0, 4, 100, 172]
abbrev dktX1_addMember_4 : List UInt8 := dkwX1_addMember_4 ++ []
def dkwX1_addMember_3 : List UInt8 := [42, 42, 180, 0, 37, 182, 1, 15, 182, 0, 133, 42, 180, 0, 37, 27, 28, 29, 182, 1, 38, 42]
abbrev dktX1_addMember_3 : List UInt8 := dkwX1_addMember_3 ++ dktX1_addMember_4
def dkwX1_addMember_2 : List UInt8 := [180, 0, 37, 180, 0, 90, 185, 0, 94, 1, 0, 16, 16, 162, 0, 7, 4, 167, 0, 4, 3, 184, 1, 35]
abbrev dktX1_addMember_2 : List UInt8 := dkwX1_addMember_2 ++ dktX1_addMember_3
def dkwX1_addMember_1 : List UInt8 := [159, 0, 7, 4, 167, 0, 4, 3, 184, 0, 121, 42, 180, 0, 37, 27, 28, 182, 1, 31, 154, 0, 24, 42]
abbrev dktX1_addMember_1 : List UInt8 := dkwX1_addMember_1 ++ dktX1_addMember_2
def dkwX1_addMember_0 : List UInt8 := [42, 5, 188, 10, 89, 3, 27, 79, 89, 4, 28, 79, 182, 0, 173, 42, 29, 182, 0, 147, 27, 28]
abbrev dktX1_addMember_0 : List UInt8 := dkwX1_addMember_0 ++ dktX1_addMember_1
theorem dksX1_addMember_0 : cX1_addMember.data.toList.drop 0 = dktX1_addMember_0 := by decide +kernel
theorem dksX1_addMember_1 : cX1_addMember.data.toList.drop 22 = dktX1_addMember_1 := dk_seg dksX1_addMember_0 22 rfl rfl
theorem dksX1_addMember_2 : cX1_addMember.data.toList.drop 46 = dktX1_addMember_2 := dk_seg dksX1_addMember_1 24 rfl rfl
theorem dksX1_addMember_3 : cX1_addMember.data.toList.drop 70 = dktX1_addMember_3 := dk_seg dksX1_addMember_2 24 rfl rfl
theorem dksX1_addMember_4 : cX1_addMember.data.toList.drop 92 = dktX1_addMember_4 := dk_seg dksX1_addMember_3 22 rfl rfl
theorem dX1_addMember_0 : decode cX1_addMember 0 = .ok (.aload_n 0, 1) := dk_42 (dk_at dksX1_addMember_0 0 rfl rfl)
theorem dX1_addMember_1 : decode cX1_addMember 1 = .ok (.iconst 2, 1) := dk_5 (dk_at dksX1_addMember_0 1 rfl rfl)
theorem dX1_addMember_2 : decode cX1_addMember 2 = .ok (.newarray .int, 2) := dk_188_10 (dk_at dksX1_addMember_0 2 rfl rfl)
theorem dX1_addMember_4 : decode cX1_addMember 4 = .ok (.dup, 1) := dk_89 (dk_at dksX1_addMember_0 4 rfl rfl)
theorem dX1_addMember_5 : decode cX1_addMember 5 = .ok (.iconst 0, 1) := dk_3 (dk_at dksX1_addMember_0 5 rfl rfl)
theorem dX1_addMember_6 : decode cX1_addMember 6 = .ok (.iload_n 1, 1) := dk_27 (dk_at dksX1_addMember_0 6 rfl rfl)
theorem dX1_addMember_7 : decode cX1_addMember 7 = .ok (.iastore, 1) := dk_79 (dk_at dksX1_addMember_0 7 rfl rfl)
theorem dX1_addMember_8 : decode cX1_addMember 8 = .ok (.dup, 1) := dk_89 (dk_at dksX1_addMember_0 8 rfl rfl)
theorem dX1_addMember_9 : decode cX1_addMember 9 = .ok (.iconst 1, 1) := dk_4 (dk_at dksX1_addMember_0 9 rfl rfl)
theorem dX1_addMember_10 : decode cX1_addMember 10 = .ok (.iload_n 2, 1) := dk_28 (dk_at dksX1_addMember_0 10 rfl rfl)
theorem dX1_addMember_11 : decode cX1_addMember 11 = .ok (.iastore, 1) := dk_79 (dk_at dksX1_addMember_0 11 rfl rfl)
theorem dX1_addMember_12 : decode cX1_addMember 12 = .ok (.invokevirtual 173, 3) := dk_182 0 173 (dk_at dksX1_addMember_0 12 rfl rfl)
theorem dX1_addMember_15 : decode cX1_addMember 15 = .ok (.aload_n 0, 1) := dk_42 (dk_at dksX1_addMember_0 15 rfl rfl)
theorem dX1_addMember_16 : decode cX1_addMember 16 = .ok (.iload_n 3, 1) := dk_29 (dk_at dksX1_addMember_0 16 rfl rfl)
theorem dX1_addMember_17 : decode cX1_addMember 17 = .ok (.invokevirtual 147, 3) := dk_182 0 147 (dk_at dksX1_addMember_0 17 rfl rfl)
theorem dX1_addMember_20 : decode cX1_addMember 20 = .ok (.iload_n 1, 1) := dk_27 (dk_at dksX1_addMember_0 20 rfl rfl)
theorem dX1_addMember_21 : decode cX1_addMember 21 = .ok (.iload_n 2, 1) := dk_28 (dk_at dksX1_addMember_0 21 rfl rfl)
theorem dX1_addMember_22 : decode cX1_addMember 22 = .ok (.if_icmp .eq 7, 3) := dk_159 0 7 (dk_at dksX1_addMember_1 0 rfl rfl)
theorem dX1_addMember_25 : decode cX1_addMember 25 = .ok (.iconst 1, 1) := dk_4 (dk_at dksX1_addMember_1 3 rfl rfl)
theorem dX1_addMember_26 : decode cX1_addMember 26 = .ok (.goto 4, 3) := dk_167 0 4 (dk_at dksX1_addMember_1 4 rfl rfl)
theorem dX1_addMember_29 : decode cX1_addMember 29 = .ok (.iconst 0, 1) := dk_3 (dk_at dksX1_addMember_1 7 rfl rfl)
theorem dX1_addMember_30 : decode cX1_addMember 30 = .ok (.invokestatic 121, 3) := dk_184 0 121 (dk_at dksX1_addMember_1 8 rfl rfl)
theorem dX1_addMember_33 : decode cX1_addMember 33 = .ok (.aload_n 0, 1) := dk_42 (dk_at dksX1_addMember_1 11 rfl rfl)
theorem dX1_addMember_34 : decode cX1_addMember 34 = .ok (.getfield 37, 3) := dk_180 0 37 (dk_at dksX1_addMember_1 12 rfl rfl)
theorem dX1_addMember_37 : decode cX1_addMember 37 = .ok (.iload_n 1, 1) := dk_27 (dk_at dksX1_addMember_1 15 rfl rfl)
theorem dX1_addMember_38 : decode cX1_addMember 38 = .ok (.iload_n 2, 1) := dk_28 (dk_at dksX1_addMember_1 16 rfl rfl)
theorem dX1_addMember_39 : decode cX1_addMember 39 = .ok (.invokevirtual 287, 3) := dk_182 1 31 (dk_at dksX1_addMember_1 17 rfl rfl)
theorem dX1_addMember_42 : decode cX1_addMember 42 = .ok (.ifCond .ne 24, 3) := dk_154 0 24 (dk_at dksX1_addMember_1 20 rfl rfl)
theorem dX1_addMember_45 : decode cX1_addMember 45 = .ok (.aload_n 0, 1) := dk_42 (dk_at dksX1_addMember_1 23 rfl rfl)
theorem dX1_addMember_46 : decode cX1_addMember 46 = .ok (.getfield 37, 3) := dk_180 0 37 (dk_at dksX1_addMember_2 0 rfl rfl)
theorem dX1_addMember_49 : decode cX1_addMember 49 = .ok (.getfield 90, 3) := dk_180 0 90 (dk_at dksX1_addMember_2 3 rfl rfl)
theorem dX1_addMember_52 : decode cX1_addMember 52 = .ok (.invokeinterface 94 1, 5) := by decide +kernel
theorem dX1_addMember_57 : decode cX1_addMember 57 = .ok (.bipush 16, 2) := dk_16 16 (dk_at dksX1_addMember_2 11 rfl rfl)
theorem dX1_addMember_59 : decode cX1_addMember 59 = .ok (.if_icmp .ge 7, 3) := dk_162 0 7 (dk_at dksX1_addMember_2 13 rfl rfl)
theorem dX1_addMember_62 : decode cX1_addMember 62 = .ok (.iconst 1, 1) := dk_4 (dk_at dksX1_addMember_2 16 rfl rfl)
theorem dX1_addMember_63 : decode cX1_addMember 63 = .ok (.goto 4, 3) := dk_167 0 4 (dk_at dksX1_addMember_2 17 rfl rfl)
theorem dX1_addMember_66 : decode cX1_addMember 66 = .ok (.iconst 0, 1) := dk_3 (dk_at dksX1_addMember_2 20 rfl rfl)
theorem dX1_addMember_67 : decode cX1_addMember 67 = .ok (.invokestatic 291, 3) := dk_184 1 35 (dk_at dksX1_addMember_2 21 rfl rfl)
theorem dX1_addMember_70 : decode cX1_addMember 70 = .ok (.aload_n 0, 1) := dk_42 (dk_at dksX1_addMember_3 0 rfl rfl)
theorem dX1_addMember_71 : decode cX1_addMember 71 = .ok (.aload_n 0, 1) := dk_42 (dk_at dksX1_addMember_3 1 rfl rfl)
theorem dX1_addMember_72 : decode cX1_addMember 72 = .ok (.getfield 37, 3) := dk_180 0 37 (dk_at dksX1_addMember_3 2 rfl rfl)
theorem dX1_addMember_75 : decode cX1_addMember 75 = .ok (.invokevirtual 271, 3) := dk_182 1 15 (dk_at dksX1_addMember_3 5 rfl rfl)
theorem dX1_addMember_78 : decode cX1_addMember 78 = .ok (.invokevirtual 133, 3) := dk_182 0 133 (dk_at dksX1_addMember_3 8 rfl rfl)
theorem dX1_addMember_81 : decode cX1_addMember 81 = .ok (.aload_n 0, 1) := dk_42 (dk_at dksX1_addMember_3 11 rfl rfl)
theorem dX1_addMember_82 : decode cX1_addMember 82 = .ok (.getfield 37, 3) := dk_180 0 37 (dk_at dksX1_addMember_3 12 rfl rfl)
theorem dX1_addMember_85 : decode cX1_addMember 85 = .ok (.iload_n 1, 1) := dk_27 (dk_at dksX1_addMember_3 15 rfl rfl)
theorem dX1_addMember_86 : decode cX1_addMember 86 = .ok (.iload_n 2, 1) := dk_28 (dk_at dksX1_addMember_3 16 rfl rfl)
theorem dX1_addMember_87 : decode cX1_addMember 87 = .ok (.iload_n 3, 1) := dk_29 (dk_at dksX1_addMember_3 17 rfl rfl)
theorem dX1_addMember_88 : decode cX1_addMember 88 = .ok (.invokevirtual 294, 3) := dk_182 1 38 (dk_at dksX1_addMember_3 18 rfl rfl)
theorem dX1_addMember_91 : decode cX1_addMember 91 = .ok (.aload_n 0, 1) := dk_42 (dk_at dksX1_addMember_3 21 rfl rfl)
theorem dX1_addMember_92 : decode cX1_addMember 92 = .ok (.getfield 37, 3) := dk_180 0 37 (dk_at dksX1_addMember_4 0 rfl rfl)
theorem dX1_addMember_95 : decode cX1_addMember 95 = .ok (.getfield 90, 3) := dk_180 0 90 (dk_at dksX1_addMember_4 3 rfl rfl)
theorem dX1_addMember_98 : decode cX1_addMember 98 = .ok (.invokeinterface 94 1, 5) := by decide +kernel
theorem dX1_addMember_103 : decode cX1_addMember 103 = .ok (.iconst 1, 1) := dk_4 (dk_at dksX1_addMember_4 11 rfl rfl)
theorem dX1_addMember_104 : decode cX1_addMember 104 = .ok (.isub, 1) := dk_100 (dk_at dksX1_addMember_4 12 rfl rfl)
theorem dX1_addMember_105 : decode cX1_addMember 105 = .ok (.ireturn, 1) := dk_172 (dk_at dksX1_addMember_4 13 rfl rfl)
abbrev cX1_checkState : ByteArray := prog_1_method_9_code
def yX1_checkState : MethodName := ⟨RX1, "checkState", "(Z)V"⟩
def dkwX1_checkState_0 : List UInt8 := [26, 154, 0, 11, 187, 0, 63, 89, 183, 0, 65, 191, 177]
abbrev dktX1_checkState_0 : List UInt8 := dkwX1_checkState_0 ++ []
theorem dksX1_checkState_0 : cX1_checkState.data.toList.drop 0 = dktX1_checkState_0 := by decide +kernel
theorem dX1_checkState_0 : decode cX1_checkState 0 = .ok (.iload_n 0, 1) := dk_26 (dk_at dksX1_checkState_0 0 rfl rfl)
theorem dX1_checkState_1 : decode cX1_checkState 1 = .ok (.ifCond .ne 11, 3) := dk_154 0 11 (dk_at dksX1_checkState_0 1 rfl rfl)
theorem dX1_checkState_4 : decode cX1_checkState 4 = .ok (.new 63, 3) := dk_187 0 63 (dk_at dksX1_checkState_0 4 rfl rfl)
theorem dX1_checkState_7 : decode cX1_checkState 7 = .ok (.dup, 1) := dk_89 (dk_at dksX1_checkState_0 7 rfl rfl)
theorem dX1_checkState_8 : decode cX1_checkState 8 = .ok (.invokespecial 65, 3) := dk_183 0 65 (dk_at dksX1_checkState_0 8 rfl rfl)
theorem dX1_checkState_11 : decode cX1_checkState 11 = .ok (.athrow, 1) := dk_191 (dk_at dksX1_checkState_0 11 rfl rfl)
theorem dX1_checkState_12 : decode cX1_checkState 12 = .ok (.return_, 1) := dk_177 (dk_at dksX1_checkState_0 12 rfl rfl)
abbrev cX1_removeMember : ByteArray := prog_1_method_41_code
def yX1_removeMember : MethodName := ⟨RX1, "removeMember", "(I)I"⟩
def dkwX1_removeMember_1 : List UInt8 := [182, 1, 18, 42, 180, 0, 37, 180, 0, 90, 185, 0, 94, 1, 0, 172]
abbrev dktX1_removeMember_1 : List UInt8 := dkwX1_removeMember_1 ++ []
def dkwX1_removeMember_0 : List UInt8 := [42, 27, 182, 0, 153, 77, 42, 42, 180, 0, 37, 182, 1, 15, 182, 0, 133, 42, 180, 0, 37, 44]
abbrev dktX1_removeMember_0 : List UInt8 := dkwX1_removeMember_0 ++ dktX1_removeMember_1
theorem dksX1_removeMember_0 : cX1_removeMember.data.toList.drop 0 = dktX1_removeMember_0 := by decide +kernel
theorem dksX1_removeMember_1 : cX1_removeMember.data.toList.drop 22 = dktX1_removeMember_1 := dk_seg dksX1_removeMember_0 22 rfl rfl
theorem dX1_removeMember_0 : decode cX1_removeMember 0 = .ok (.aload_n 0, 1) := dk_42 (dk_at dksX1_removeMember_0 0 rfl rfl)
theorem dX1_removeMember_1 : decode cX1_removeMember 1 = .ok (.iload_n 1, 1) := dk_27 (dk_at dksX1_removeMember_0 1 rfl rfl)
theorem dX1_removeMember_2 : decode cX1_removeMember 2 = .ok (.invokevirtual 153, 3) := dk_182 0 153 (dk_at dksX1_removeMember_0 2 rfl rfl)
theorem dX1_removeMember_5 : decode cX1_removeMember 5 = .ok (.astore_n 2, 1) := dk_77 (dk_at dksX1_removeMember_0 5 rfl rfl)
theorem dX1_removeMember_6 : decode cX1_removeMember 6 = .ok (.aload_n 0, 1) := dk_42 (dk_at dksX1_removeMember_0 6 rfl rfl)
theorem dX1_removeMember_7 : decode cX1_removeMember 7 = .ok (.aload_n 0, 1) := dk_42 (dk_at dksX1_removeMember_0 7 rfl rfl)
theorem dX1_removeMember_8 : decode cX1_removeMember 8 = .ok (.getfield 37, 3) := dk_180 0 37 (dk_at dksX1_removeMember_0 8 rfl rfl)
theorem dX1_removeMember_11 : decode cX1_removeMember 11 = .ok (.invokevirtual 271, 3) := dk_182 1 15 (dk_at dksX1_removeMember_0 11 rfl rfl)
theorem dX1_removeMember_14 : decode cX1_removeMember 14 = .ok (.invokevirtual 133, 3) := dk_182 0 133 (dk_at dksX1_removeMember_0 14 rfl rfl)
theorem dX1_removeMember_17 : decode cX1_removeMember 17 = .ok (.aload_n 0, 1) := dk_42 (dk_at dksX1_removeMember_0 17 rfl rfl)
theorem dX1_removeMember_18 : decode cX1_removeMember 18 = .ok (.getfield 37, 3) := dk_180 0 37 (dk_at dksX1_removeMember_0 18 rfl rfl)
theorem dX1_removeMember_21 : decode cX1_removeMember 21 = .ok (.aload_n 2, 1) := dk_44 (dk_at dksX1_removeMember_0 21 rfl rfl)
theorem dX1_removeMember_22 : decode cX1_removeMember 22 = .ok (.invokevirtual 274, 3) := dk_182 1 18 (dk_at dksX1_removeMember_1 0 rfl rfl)
theorem dX1_removeMember_25 : decode cX1_removeMember 25 = .ok (.aload_n 0, 1) := dk_42 (dk_at dksX1_removeMember_1 3 rfl rfl)
theorem dX1_removeMember_26 : decode cX1_removeMember 26 = .ok (.getfield 37, 3) := dk_180 0 37 (dk_at dksX1_removeMember_1 4 rfl rfl)
theorem dX1_removeMember_29 : decode cX1_removeMember 29 = .ok (.getfield 90, 3) := dk_180 0 90 (dk_at dksX1_removeMember_1 7 rfl rfl)
theorem dX1_removeMember_32 : decode cX1_removeMember 32 = .ok (.invokeinterface 94 1, 5) := by decide +kernel
theorem dX1_removeMember_37 : decode cX1_removeMember 37 = .ok (.ireturn, 1) := dk_172 (dk_at dksX1_removeMember_1 15 rfl rfl)
abbrev cX1_prune : ByteArray := prog_1_method_42_code
def yX1_prune : MethodName := ⟨RX1, "prune", "()I"⟩
def dkwX1_prune_3 : List UInt8 := [167, 255, 216, 42, 43, 182, 0, 133, 29, 172]
abbrev dktX1_prune_3 : List UInt8 := dkwX1_prune_3 ++ []
def dkwX1_prune_2 : List UInt8 := [182, 1, 18, 25, 5, 182, 1, 22, 154, 0, 6, 167, 0, 9, 25, 5, 76, 132, 3, 1, 132, 4, 255]
abbrev dktX1_prune_2 : List UInt8 := dkwX1_prune_2 ++ dktX1_prune_3
def dkwX1_prune_1 : List UInt8 := [62, 44, 190, 4, 100, 54, 4, 21, 4, 155, 0, 41, 43, 182, 1, 15, 58, 5, 25, 5, 44, 21, 4, 50]
abbrev dktX1_prune_1 : List UInt8 := dkwX1_prune_1 ++ dktX1_prune_2
def dkwX1_prune_0 : List UInt8 := [42, 180, 0, 37, 182, 1, 22, 184, 1, 35, 42, 180, 0, 37, 182, 1, 15, 76, 43, 182, 0, 97, 77, 3]
abbrev dktX1_prune_0 : List UInt8 := dkwX1_prune_0 ++ dktX1_prune_1
theorem dksX1_prune_0 : cX1_prune.data.toList.drop 0 = dktX1_prune_0 := by decide +kernel
theorem dksX1_prune_1 : cX1_prune.data.toList.drop 24 = dktX1_prune_1 := dk_seg dksX1_prune_0 24 rfl rfl
theorem dksX1_prune_2 : cX1_prune.data.toList.drop 48 = dktX1_prune_2 := dk_seg dksX1_prune_1 24 rfl rfl
theorem dksX1_prune_3 : cX1_prune.data.toList.drop 71 = dktX1_prune_3 := dk_seg dksX1_prune_2 23 rfl rfl
theorem dX1_prune_0 : decode cX1_prune 0 = .ok (.aload_n 0, 1) := dk_42 (dk_at dksX1_prune_0 0 rfl rfl)
theorem dX1_prune_1 : decode cX1_prune 1 = .ok (.getfield 37, 3) := dk_180 0 37 (dk_at dksX1_prune_0 1 rfl rfl)
theorem dX1_prune_4 : decode cX1_prune 4 = .ok (.invokevirtual 278, 3) := dk_182 1 22 (dk_at dksX1_prune_0 4 rfl rfl)
theorem dX1_prune_7 : decode cX1_prune 7 = .ok (.invokestatic 291, 3) := dk_184 1 35 (dk_at dksX1_prune_0 7 rfl rfl)
theorem dX1_prune_10 : decode cX1_prune 10 = .ok (.aload_n 0, 1) := dk_42 (dk_at dksX1_prune_0 10 rfl rfl)
theorem dX1_prune_11 : decode cX1_prune 11 = .ok (.getfield 37, 3) := dk_180 0 37 (dk_at dksX1_prune_0 11 rfl rfl)
theorem dX1_prune_14 : decode cX1_prune 14 = .ok (.invokevirtual 271, 3) := dk_182 1 15 (dk_at dksX1_prune_0 14 rfl rfl)
theorem dX1_prune_17 : decode cX1_prune 17 = .ok (.astore_n 1, 1) := dk_76 (dk_at dksX1_prune_0 17 rfl rfl)
theorem dX1_prune_18 : decode cX1_prune 18 = .ok (.aload_n 1, 1) := dk_43 (dk_at dksX1_prune_0 18 rfl rfl)
theorem dX1_prune_19 : decode cX1_prune 19 = .ok (.invokevirtual 97, 3) := dk_182 0 97 (dk_at dksX1_prune_0 19 rfl rfl)
theorem dX1_prune_22 : decode cX1_prune 22 = .ok (.astore_n 2, 1) := dk_77 (dk_at dksX1_prune_0 22 rfl rfl)
theorem dX1_prune_23 : decode cX1_prune 23 = .ok (.iconst 0, 1) := dk_3 (dk_at dksX1_prune_0 23 rfl rfl)
theorem dX1_prune_24 : decode cX1_prune 24 = .ok (.istore_n 3, 1) := dk_62 (dk_at dksX1_prune_1 0 rfl rfl)
theorem dX1_prune_25 : decode cX1_prune 25 = .ok (.aload_n 2, 1) := dk_44 (dk_at dksX1_prune_1 1 rfl rfl)
theorem dX1_prune_26 : decode cX1_prune 26 = .ok (.arraylength, 1) := dk_190 (dk_at dksX1_prune_1 2 rfl rfl)
theorem dX1_prune_27 : decode cX1_prune 27 = .ok (.iconst 1, 1) := dk_4 (dk_at dksX1_prune_1 3 rfl rfl)
theorem dX1_prune_28 : decode cX1_prune 28 = .ok (.isub, 1) := dk_100 (dk_at dksX1_prune_1 4 rfl rfl)
theorem dX1_prune_29 : decode cX1_prune 29 = .ok (.istore 4, 2) := dk_54 4 (dk_at dksX1_prune_1 5 rfl rfl)
theorem dX1_prune_31 : decode cX1_prune 31 = .ok (.iload 4, 2) := dk_21 4 (dk_at dksX1_prune_1 7 rfl rfl)
theorem dX1_prune_33 : decode cX1_prune 33 = .ok (.ifCond .lt 41, 3) := dk_155 0 41 (dk_at dksX1_prune_1 9 rfl rfl)
theorem dX1_prune_36 : decode cX1_prune 36 = .ok (.aload_n 1, 1) := dk_43 (dk_at dksX1_prune_1 12 rfl rfl)
theorem dX1_prune_37 : decode cX1_prune 37 = .ok (.invokevirtual 271, 3) := dk_182 1 15 (dk_at dksX1_prune_1 13 rfl rfl)
theorem dX1_prune_40 : decode cX1_prune 40 = .ok (.astore 5, 2) := dk_58 5 (dk_at dksX1_prune_1 16 rfl rfl)
theorem dX1_prune_42 : decode cX1_prune 42 = .ok (.aload 5, 2) := dk_25 5 (dk_at dksX1_prune_1 18 rfl rfl)
theorem dX1_prune_44 : decode cX1_prune 44 = .ok (.aload_n 2, 1) := dk_44 (dk_at dksX1_prune_1 20 rfl rfl)
theorem dX1_prune_45 : decode cX1_prune 45 = .ok (.iload 4, 2) := dk_21 4 (dk_at dksX1_prune_1 21 rfl rfl)
theorem dX1_prune_47 : decode cX1_prune 47 = .ok (.aaload, 1) := dk_50 (dk_at dksX1_prune_1 23 rfl rfl)
theorem dX1_prune_48 : decode cX1_prune 48 = .ok (.invokevirtual 274, 3) := dk_182 1 18 (dk_at dksX1_prune_2 0 rfl rfl)
theorem dX1_prune_51 : decode cX1_prune 51 = .ok (.aload 5, 2) := dk_25 5 (dk_at dksX1_prune_2 3 rfl rfl)
theorem dX1_prune_53 : decode cX1_prune 53 = .ok (.invokevirtual 278, 3) := dk_182 1 22 (dk_at dksX1_prune_2 5 rfl rfl)
theorem dX1_prune_56 : decode cX1_prune 56 = .ok (.ifCond .ne 6, 3) := dk_154 0 6 (dk_at dksX1_prune_2 8 rfl rfl)
theorem dX1_prune_59 : decode cX1_prune 59 = .ok (.goto 9, 3) := dk_167 0 9 (dk_at dksX1_prune_2 11 rfl rfl)
theorem dX1_prune_62 : decode cX1_prune 62 = .ok (.aload 5, 2) := dk_25 5 (dk_at dksX1_prune_2 14 rfl rfl)
theorem dX1_prune_64 : decode cX1_prune 64 = .ok (.astore_n 1, 1) := dk_76 (dk_at dksX1_prune_2 16 rfl rfl)
theorem dX1_prune_65 : decode cX1_prune 65 = .ok (.iinc 3 1, 3) := dk_132 3 1 (dk_at dksX1_prune_2 17 rfl rfl)
theorem dX1_prune_68 : decode cX1_prune 68 = .ok (.iinc 4 (-1), 3) := dk_132 4 255 (dk_at dksX1_prune_2 20 rfl rfl)
theorem dX1_prune_71 : decode cX1_prune 71 = .ok (.goto (-40), 3) := dk_167 255 216 (dk_at dksX1_prune_3 0 rfl rfl)
theorem dX1_prune_74 : decode cX1_prune 74 = .ok (.aload_n 0, 1) := dk_42 (dk_at dksX1_prune_3 3 rfl rfl)
theorem dX1_prune_75 : decode cX1_prune 75 = .ok (.aload_n 1, 1) := dk_43 (dk_at dksX1_prune_3 4 rfl rfl)
theorem dX1_prune_76 : decode cX1_prune 76 = .ok (.invokevirtual 133, 3) := dk_182 0 133 (dk_at dksX1_prune_3 5 rfl rfl)
theorem dX1_prune_79 : decode cX1_prune 79 = .ok (.iload_n 3, 1) := dk_29 (dk_at dksX1_prune_3 8 rfl rfl)
theorem dX1_prune_80 : decode cX1_prune 80 = .ok (.ireturn, 1) := dk_172 (dk_at dksX1_prune_3 9 rfl rfl)
abbrev cX1_shrink : ByteArray := prog_1_method_43_code
def yX1_shrink : MethodName := ⟨RX1, "shrink", "(I)I"⟩
def dkwX1_shrink_2 : List UInt8 := [27, 28, 79, 29, 172]
abbrev dktX1_shrink_2 : List UInt8 := dkwX1_shrink_2 ++ []
def dkwX1_shrink_1 : List UInt8 := [180, 0, 150, 27, 46, 62, 42, 42, 180, 0, 37, 182, 1, 15, 182, 0, 133, 42, 180, 0, 37, 180, 0, 150]
abbrev dktX1_shrink_1 : List UInt8 := dkwX1_shrink_1 ++ dktX1_shrink_2
def dkwX1_shrink_0 : List UInt8 := [42, 27, 182, 1, 42, 61, 28, 158, 0, 7, 4, 167, 0, 4, 3, 184, 1, 35, 42, 180, 0, 37]
abbrev dktX1_shrink_0 : List UInt8 := dkwX1_shrink_0 ++ dktX1_shrink_1
theorem dksX1_shrink_0 : cX1_shrink.data.toList.drop 0 = dktX1_shrink_0 := by decide +kernel
theorem dksX1_shrink_1 : cX1_shrink.data.toList.drop 22 = dktX1_shrink_1 := dk_seg dksX1_shrink_0 22 rfl rfl
theorem dksX1_shrink_2 : cX1_shrink.data.toList.drop 46 = dktX1_shrink_2 := dk_seg dksX1_shrink_1 24 rfl rfl
theorem dX1_shrink_0 : decode cX1_shrink 0 = .ok (.aload_n 0, 1) := dk_42 (dk_at dksX1_shrink_0 0 rfl rfl)
theorem dX1_shrink_1 : decode cX1_shrink 1 = .ok (.iload_n 1, 1) := dk_27 (dk_at dksX1_shrink_0 1 rfl rfl)
theorem dX1_shrink_2 : decode cX1_shrink 2 = .ok (.invokevirtual 298, 3) := dk_182 1 42 (dk_at dksX1_shrink_0 2 rfl rfl)
theorem dX1_shrink_5 : decode cX1_shrink 5 = .ok (.istore_n 2, 1) := dk_61 (dk_at dksX1_shrink_0 5 rfl rfl)
theorem dX1_shrink_6 : decode cX1_shrink 6 = .ok (.iload_n 2, 1) := dk_28 (dk_at dksX1_shrink_0 6 rfl rfl)
theorem dX1_shrink_7 : decode cX1_shrink 7 = .ok (.ifCond .le 7, 3) := dk_158 0 7 (dk_at dksX1_shrink_0 7 rfl rfl)
theorem dX1_shrink_10 : decode cX1_shrink 10 = .ok (.iconst 1, 1) := dk_4 (dk_at dksX1_shrink_0 10 rfl rfl)
theorem dX1_shrink_11 : decode cX1_shrink 11 = .ok (.goto 4, 3) := dk_167 0 4 (dk_at dksX1_shrink_0 11 rfl rfl)
theorem dX1_shrink_14 : decode cX1_shrink 14 = .ok (.iconst 0, 1) := dk_3 (dk_at dksX1_shrink_0 14 rfl rfl)
theorem dX1_shrink_15 : decode cX1_shrink 15 = .ok (.invokestatic 291, 3) := dk_184 1 35 (dk_at dksX1_shrink_0 15 rfl rfl)
theorem dX1_shrink_18 : decode cX1_shrink 18 = .ok (.aload_n 0, 1) := dk_42 (dk_at dksX1_shrink_0 18 rfl rfl)
theorem dX1_shrink_19 : decode cX1_shrink 19 = .ok (.getfield 37, 3) := dk_180 0 37 (dk_at dksX1_shrink_0 19 rfl rfl)
theorem dX1_shrink_22 : decode cX1_shrink 22 = .ok (.getfield 150, 3) := dk_180 0 150 (dk_at dksX1_shrink_1 0 rfl rfl)
theorem dX1_shrink_25 : decode cX1_shrink 25 = .ok (.iload_n 1, 1) := dk_27 (dk_at dksX1_shrink_1 3 rfl rfl)
theorem dX1_shrink_26 : decode cX1_shrink 26 = .ok (.iaload, 1) := dk_46 (dk_at dksX1_shrink_1 4 rfl rfl)
theorem dX1_shrink_27 : decode cX1_shrink 27 = .ok (.istore_n 3, 1) := dk_62 (dk_at dksX1_shrink_1 5 rfl rfl)
theorem dX1_shrink_28 : decode cX1_shrink 28 = .ok (.aload_n 0, 1) := dk_42 (dk_at dksX1_shrink_1 6 rfl rfl)
theorem dX1_shrink_29 : decode cX1_shrink 29 = .ok (.aload_n 0, 1) := dk_42 (dk_at dksX1_shrink_1 7 rfl rfl)
theorem dX1_shrink_30 : decode cX1_shrink 30 = .ok (.getfield 37, 3) := dk_180 0 37 (dk_at dksX1_shrink_1 8 rfl rfl)
theorem dX1_shrink_33 : decode cX1_shrink 33 = .ok (.invokevirtual 271, 3) := dk_182 1 15 (dk_at dksX1_shrink_1 11 rfl rfl)
theorem dX1_shrink_36 : decode cX1_shrink 36 = .ok (.invokevirtual 133, 3) := dk_182 0 133 (dk_at dksX1_shrink_1 14 rfl rfl)
theorem dX1_shrink_39 : decode cX1_shrink 39 = .ok (.aload_n 0, 1) := dk_42 (dk_at dksX1_shrink_1 17 rfl rfl)
theorem dX1_shrink_40 : decode cX1_shrink 40 = .ok (.getfield 37, 3) := dk_180 0 37 (dk_at dksX1_shrink_1 18 rfl rfl)
theorem dX1_shrink_43 : decode cX1_shrink 43 = .ok (.getfield 150, 3) := dk_180 0 150 (dk_at dksX1_shrink_1 21 rfl rfl)
theorem dX1_shrink_46 : decode cX1_shrink 46 = .ok (.iload_n 1, 1) := dk_27 (dk_at dksX1_shrink_2 0 rfl rfl)
theorem dX1_shrink_47 : decode cX1_shrink 47 = .ok (.iload_n 2, 1) := dk_28 (dk_at dksX1_shrink_2 1 rfl rfl)
theorem dX1_shrink_48 : decode cX1_shrink 48 = .ok (.iastore, 1) := dk_79 (dk_at dksX1_shrink_2 2 rfl rfl)
theorem dX1_shrink_49 : decode cX1_shrink 49 = .ok (.iload_n 3, 1) := dk_29 (dk_at dksX1_shrink_2 3 rfl rfl)
theorem dX1_shrink_50 : decode cX1_shrink 50 = .ok (.ireturn, 1) := dk_172 (dk_at dksX1_shrink_2 4 rfl rfl)
theorem q102 : (Jvm.Cond.initialized "ElasticTruss") ∈ lw_all := lw_g (lw_at lw_m1 1 rfl) rfl
theorem q174 : (Jvm.Cond.instantiable "ElasticTruss" (5 : Nat)) ∈ lw_all := lw_g (lw_at lw_m1 73 rfl) rfl
theorem q176 : (Jvm.Cond.instanceMethod ({ cls := "ElasticTruss", name := "<init>", desc := "()V" } : Jvm.MethodName)) ∈ lw_all := lw_g (lw_at lw_m1 75 rfl) rfl
theorem q177 : (Jvm.Cond.code ({ cls := "ElasticTruss", name := "<init>", desc := "()V" } : Jvm.MethodName) prog_1_method_4_code (1 : Nat) (Option.none : Option Jvm.ClassFile.FieldType)) ∈ lw_all := lw_g (lw_at lw_m1 76 rfl) rfl
theorem q178 : (Jvm.Cond.methodLink "ElasticTruss" (20 : Nat) ({ cls := "java/lang/Object", name := "<init>", desc := "()V" } : Jvm.MethodName)) ∈ lw_all := lw_g (lw_at lw_m1 77 rfl) rfl
theorem q181 : (Jvm.Cond.classLink "ElasticTruss" (34 : Nat) "ElasticTruss$Truss") ∈ lw_all := lw_g (lw_at lw_m1 80 rfl) rfl
theorem q183 : (Jvm.Cond.methodLink "ElasticTruss" (36 : Nat) ({ cls := "ElasticTruss$Truss", name := "<init>", desc := "()V" } : Jvm.MethodName)) ∈ lw_all := lw_g (lw_at lw_m1 82 rfl) rfl
theorem q617 : (Jvm.Cond.fieldLinkNest "ElasticTruss" (66 : Nat) "ElasticTruss$Truss" "nodes" "Ljava/util/List;" "ElasticTruss") ∈ lw_tbl := lw_at lw_m3 36 rfl
theorem q626 : (Jvm.Cond.fieldLinkNest "ElasticTruss" (150 : Nat) "ElasticTruss$Truss" "areas" "[I" "ElasticTruss") ∈ lw_tbl := lw_at lw_m3 45 rfl
theorem q628 : (Jvm.Cond.fieldLinkNest "ElasticTruss" (84 : Nat) "ElasticTruss$Truss" "groupCount" "I" "ElasticTruss") ∈ lw_tbl := lw_at lw_m3 47 rfl
theorem q631 : (Jvm.Cond.fieldLinkNest "ElasticTruss" (90 : Nat) "ElasticTruss$Truss" "members" "Ljava/util/Map;" "ElasticTruss") ∈ lw_tbl := lw_at lw_m3 50 rfl
theorem q652 : (Jvm.Cond.classLink "ElasticTruss" (41 : Nat) "java/util/ArrayDeque") ∈ lw_all := lw_g (lw_at lw_m3 71 rfl) rfl
theorem q654 : (Jvm.Cond.methodLink "ElasticTruss" (43 : Nat) ({ cls := "java/util/ArrayDeque", name := "<init>", desc := "(I)V" } : Jvm.MethodName)) ∈ lw_all := lw_g (lw_at lw_m3 73 rfl) rfl
theorem q673 : (Jvm.Cond.fieldLink "ElasticTruss" (26 : Nat) "ElasticTruss" "buffer" "[B") ∈ lw_all := lw_g (lw_at lw_m3 92 rfl) rfl
theorem q674 : (Jvm.Cond.fieldLink "ElasticTruss" (50 : Nat) "ElasticTruss" "bufferLength" "I") ∈ lw_all := lw_g (lw_at lw_m3 93 rfl) rfl
theorem q675 : (Jvm.Cond.fieldLink "ElasticTruss" (30 : Nat) "ElasticTruss" "errorOffset" "I") ∈ lw_all := lw_g (lw_at lw_m3 94 rfl) rfl
theorem q676 : (Jvm.Cond.fieldLink "ElasticTruss" (37 : Nat) "ElasticTruss" "truss" "LElasticTruss$Truss;") ∈ lw_all := lw_g (lw_at lw_m3 95 rfl) rfl
theorem q677 : (Jvm.Cond.fieldLink "ElasticTruss" (46 : Nat) "ElasticTruss" "history" "Ljava/util/ArrayDeque;") ∈ lw_all := lw_g (lw_at lw_m3 96 rfl) rfl
theorem q678 : (Jvm.Cond.laysFinal "ElasticTruss" "ElasticTruss" "buffer" "[B") ∈ lw_all := lw_g (lw_at lw_m3 97 rfl) rfl
theorem q679 : (Jvm.Cond.soleField "ElasticTruss" "buffer") ∈ lw_all := lw_g (lw_at lw_m3 98 rfl) rfl
theorem q680 : (Jvm.Cond.lays "ElasticTruss" "ElasticTruss" "bufferLength" "I") ∈ lw_all := lw_g (lw_at lw_m3 99 rfl) rfl
theorem q681 : (Jvm.Cond.soleField "ElasticTruss" "bufferLength") ∈ lw_all := lw_g (lw_at lw_m3 100 rfl) rfl
theorem q682 : (Jvm.Cond.lays "ElasticTruss" "ElasticTruss" "errorOffset" "I") ∈ lw_all := lw_g (lw_at lw_m3 101 rfl) rfl
theorem q683 : (Jvm.Cond.soleField "ElasticTruss" "errorOffset") ∈ lw_all := lw_g (lw_at lw_m3 102 rfl) rfl
theorem q684 : (Jvm.Cond.lays "ElasticTruss" "ElasticTruss" "truss" "LElasticTruss$Truss;") ∈ lw_all := lw_g (lw_at lw_m3 103 rfl) rfl
theorem q685 : (Jvm.Cond.soleField "ElasticTruss" "truss") ∈ lw_all := lw_g (lw_at lw_m3 104 rfl) rfl
theorem q686 : (Jvm.Cond.laysFinal "ElasticTruss" "ElasticTruss" "history" "Ljava/util/ArrayDeque;") ∈ lw_all := lw_g (lw_at lw_m3 105 rfl) rfl
theorem q687 : (Jvm.Cond.soleField "ElasticTruss" "history") ∈ lw_all := lw_g (lw_at lw_m3 106 rfl) rfl
theorem q688 : (Jvm.Cond.superclass "ElasticTruss" "java/lang/Object") ∈ lw_all := lw_g (lw_at lw_m3 107 rfl) rfl
theorem q690 : (Jvm.Cond.instanceMethod ({ cls := "ElasticTruss", name := "append", desc := "(IIIII)I" } : Jvm.MethodName)) ∈ lw_all := lw_g (lw_at lw_m3 109 rfl) rfl
theorem q691 : (Jvm.Cond.selects "ElasticTruss" ({ cls := "ElasticTruss", name := "append", desc := "(IIIII)I" } : Jvm.MethodName) ({ cls := "ElasticTruss", name := "append", desc := "(IIIII)I" } : Jvm.MethodName)) ∈ lw_all := lw_g (lw_at lw_m3 110 rfl) rfl
theorem q692 : (Jvm.Cond.code ({ cls := "ElasticTruss", name := "append", desc := "(IIIII)I" } : Jvm.MethodName) prog_1_method_5_code (6 : Nat) (Option.some Jvm.ClassFile.FieldType.int)) ∈ lw_all := lw_g (lw_at lw_m3 111 rfl) rfl
theorem q693 : (Jvm.Cond.methodLink "ElasticTruss" (53 : Nat) ({ cls := "ElasticTruss", name := "put", desc := "([I)V" } : Jvm.MethodName)) ∈ lw_all := lw_g (lw_at lw_m3 112 rfl) rfl
theorem q694 : (Jvm.Cond.privateMethod ({ cls := "ElasticTruss", name := "put", desc := "([I)V" } : Jvm.MethodName)) ∈ lw_tbl := lw_at lw_m3 113 rfl
theorem q695 : (Jvm.Cond.instanceMethod ({ cls := "ElasticTruss", name := "put", desc := "([I)V" } : Jvm.MethodName)) ∈ lw_all := lw_g (lw_at lw_m3 114 rfl) rfl
theorem q696 : (Jvm.Cond.code ({ cls := "ElasticTruss", name := "put", desc := "([I)V" } : Jvm.MethodName) prog_1_method_6_code (7 : Nat) (Option.none : Option Jvm.ClassFile.FieldType)) ∈ lw_all := lw_g (lw_at lw_m3 115 rfl) rfl
theorem q698 : (Jvm.Cond.instanceMethod ({ cls := "ElasticTruss", name := "errorOffset", desc := "()I" } : Jvm.MethodName)) ∈ lw_all := lw_g (lw_at lw_m3 117 rfl) rfl
theorem q699 : (Jvm.Cond.selects "ElasticTruss" ({ cls := "ElasticTruss", name := "errorOffset", desc := "()I" } : Jvm.MethodName) ({ cls := "ElasticTruss", name := "errorOffset", desc := "()I" } : Jvm.MethodName)) ∈ lw_all := lw_g (lw_at lw_m3 118 rfl) rfl
theorem q700 : (Jvm.Cond.code ({ cls := "ElasticTruss", name := "errorOffset", desc := "()I" } : Jvm.MethodName) prog_1_method_17_code (1 : Nat) (Option.some Jvm.ClassFile.FieldType.int)) ∈ lw_all := lw_g (lw_at lw_m3 119 rfl) rfl
theorem q702 : (Jvm.Cond.instanceMethod ({ cls := "ElasticTruss", name := "nodeCount", desc := "()I" } : Jvm.MethodName)) ∈ lw_all := lw_g (lw_at lw_m3 121 rfl) rfl
theorem q703 : (Jvm.Cond.selects "ElasticTruss" ({ cls := "ElasticTruss", name := "nodeCount", desc := "()I" } : Jvm.MethodName) ({ cls := "ElasticTruss", name := "nodeCount", desc := "()I" } : Jvm.MethodName)) ∈ lw_all := lw_g (lw_at lw_m3 122 rfl) rfl
theorem q704 : (Jvm.Cond.code ({ cls := "ElasticTruss", name := "nodeCount", desc := "()I" } : Jvm.MethodName) prog_1_method_18_code (1 : Nat) (Option.some Jvm.ClassFile.FieldType.int)) ∈ lw_all := lw_g (lw_at lw_m3 123 rfl) rfl
theorem q705 : (Jvm.Cond.interfaceEntry "ElasticTruss" (70 : Nat)) ∈ lw_tbl := lw_at lw_m3 124 rfl
theorem q706 : (Jvm.Cond.methodLink "ElasticTruss" (70 : Nat) ({ cls := "java/util/List", name := "size", desc := "()I" } : Jvm.MethodName)) ∈ lw_all := lw_g (lw_at lw_m3 125 rfl) rfl
theorem q716 : (Jvm.Cond.instanceMethod ({ cls := "ElasticTruss", name := "groupCount", desc := "()I" } : Jvm.MethodName)) ∈ lw_all := lw_g (lw_at lw_m3 135 rfl) rfl
theorem q717 : (Jvm.Cond.selects "ElasticTruss" ({ cls := "ElasticTruss", name := "groupCount", desc := "()I" } : Jvm.MethodName) ({ cls := "ElasticTruss", name := "groupCount", desc := "()I" } : Jvm.MethodName)) ∈ lw_all := lw_g (lw_at lw_m3 136 rfl) rfl
theorem q718 : (Jvm.Cond.code ({ cls := "ElasticTruss", name := "groupCount", desc := "()I" } : Jvm.MethodName) prog_1_method_19_code (1 : Nat) (Option.some Jvm.ClassFile.FieldType.int)) ∈ lw_all := lw_g (lw_at lw_m3 137 rfl) rfl
theorem q720 : (Jvm.Cond.instanceMethod ({ cls := "ElasticTruss", name := "memberCount", desc := "()I" } : Jvm.MethodName)) ∈ lw_all := lw_g (lw_at lw_m3 139 rfl) rfl
theorem q721 : (Jvm.Cond.selects "ElasticTruss" ({ cls := "ElasticTruss", name := "memberCount", desc := "()I" } : Jvm.MethodName) ({ cls := "ElasticTruss", name := "memberCount", desc := "()I" } : Jvm.MethodName)) ∈ lw_all := lw_g (lw_at lw_m3 140 rfl) rfl
theorem q722 : (Jvm.Cond.code ({ cls := "ElasticTruss", name := "memberCount", desc := "()I" } : Jvm.MethodName) prog_1_method_20_code (1 : Nat) (Option.some Jvm.ClassFile.FieldType.int)) ∈ lw_all := lw_g (lw_at lw_m3 141 rfl) rfl
theorem q723 : (Jvm.Cond.interfaceEntry "ElasticTruss" (94 : Nat)) ∈ lw_tbl := lw_at lw_m3 142 rfl
theorem q724 : (Jvm.Cond.methodLink "ElasticTruss" (94 : Nat) ({ cls := "java/util/Map", name := "size", desc := "()I" } : Jvm.MethodName)) ∈ lw_all := lw_g (lw_at lw_m3 143 rfl) rfl
theorem q734 : (Jvm.Cond.instanceMethod ({ cls := "ElasticTruss", name := "stageCount", desc := "()I" } : Jvm.MethodName)) ∈ lw_all := lw_g (lw_at lw_m3 153 rfl) rfl
theorem q735 : (Jvm.Cond.selects "ElasticTruss" ({ cls := "ElasticTruss", name := "stageCount", desc := "()I" } : Jvm.MethodName) ({ cls := "ElasticTruss", name := "stageCount", desc := "()I" } : Jvm.MethodName)) ∈ lw_all := lw_g (lw_at lw_m3 154 rfl) rfl
theorem q736 : (Jvm.Cond.code ({ cls := "ElasticTruss", name := "stageCount", desc := "()I" } : Jvm.MethodName) prog_1_method_21_code (1 : Nat) (Option.some Jvm.ClassFile.FieldType.int)) ∈ lw_all := lw_g (lw_at lw_m3 155 rfl) rfl
theorem q737 : (Jvm.Cond.methodLink "ElasticTruss" (87 : Nat) ({ cls := "ElasticTruss$Truss", name := "countStages", desc := "()I" } : Jvm.MethodName)) ∈ lw_all := lw_g (lw_at lw_m3 156 rfl) rfl
theorem q883 : (Jvm.Cond.instanceMethod ({ cls := "ElasticTruss", name := "weight", desc := "()I" } : Jvm.MethodName)) ∈ lw_all := lw_g (lw_at lw_m4 62 rfl) rfl
theorem q884 : (Jvm.Cond.selects "ElasticTruss" ({ cls := "ElasticTruss", name := "weight", desc := "()I" } : Jvm.MethodName) ({ cls := "ElasticTruss", name := "weight", desc := "()I" } : Jvm.MethodName)) ∈ lw_all := lw_g (lw_at lw_m4 63 rfl) rfl
theorem q885 : (Jvm.Cond.code ({ cls := "ElasticTruss", name := "weight", desc := "()I" } : Jvm.MethodName) prog_1_method_22_code (1 : Nat) (Option.some Jvm.ClassFile.FieldType.int)) ∈ lw_all := lw_g (lw_at lw_m4 64 rfl) rfl
theorem q886 : (Jvm.Cond.methodLink "ElasticTruss" (144 : Nat) ({ cls := "ElasticTruss$Truss", name := "weightOf", desc := "()I" } : Jvm.MethodName)) ∈ lw_all := lw_g (lw_at lw_m4 65 rfl) rfl
theorem q1105 : (Jvm.Cond.instanceMethod ({ cls := "ElasticTruss", name := "parts", desc := "()I" } : Jvm.MethodName)) ∈ lw_all := lw_g (lw_at lw_m5 44 rfl) rfl
theorem q1106 : (Jvm.Cond.selects "ElasticTruss" ({ cls := "ElasticTruss", name := "parts", desc := "()I" } : Jvm.MethodName) ({ cls := "ElasticTruss", name := "parts", desc := "()I" } : Jvm.MethodName)) ∈ lw_all := lw_g (lw_at lw_m5 45 rfl) rfl
theorem q1107 : (Jvm.Cond.code ({ cls := "ElasticTruss", name := "parts", desc := "()I" } : Jvm.MethodName) prog_1_method_27_code (8 : Nat) (Option.some Jvm.ClassFile.FieldType.int)) ∈ lw_all := lw_g (lw_at lw_m5 46 rfl) rfl
theorem q1108 : (Jvm.Cond.interfaceEntry "ElasticTruss" (211 : Nat)) ∈ lw_tbl := lw_at lw_m5 47 rfl
theorem q1109 : (Jvm.Cond.methodLink "ElasticTruss" (211 : Nat) ({ cls := "java/util/Map", name := "values", desc := "()Ljava/util/Collection;" } : Jvm.MethodName)) ∈ lw_all := lw_g (lw_at lw_m5 48 rfl) rfl
theorem q1110 : (Jvm.Cond.interfaceEntry "ElasticTruss" (215 : Nat)) ∈ lw_tbl := lw_at lw_m5 49 rfl
theorem q1111 : (Jvm.Cond.methodLink "ElasticTruss" (215 : Nat) ({ cls := "java/util/Collection", name := "iterator", desc := "()Ljava/util/Iterator;" } : Jvm.MethodName)) ∈ lw_all := lw_g (lw_at lw_m5 50 rfl) rfl
theorem q1112 : (Jvm.Cond.interfaceEntry "ElasticTruss" (195 : Nat)) ∈ lw_tbl := lw_at lw_m5 51 rfl
theorem q1113 : (Jvm.Cond.methodLink "ElasticTruss" (195 : Nat) ({ cls := "java/util/Iterator", name := "hasNext", desc := "()Z" } : Jvm.MethodName)) ∈ lw_all := lw_g (lw_at lw_m5 52 rfl) rfl
theorem q1114 : (Jvm.Cond.interfaceEntry "ElasticTruss" (201 : Nat)) ∈ lw_tbl := lw_at lw_m5 53 rfl
theorem q1115 : (Jvm.Cond.methodLink "ElasticTruss" (201 : Nat) ({ cls := "java/util/Iterator", name := "next", desc := "()Ljava/lang/Object;" } : Jvm.MethodName)) ∈ lw_all := lw_g (lw_at lw_m5 54 rfl) rfl
theorem q1116 : (Jvm.Cond.classLink "ElasticTruss" (160 : Nat) "ElasticTruss$Member") ∈ lw_all := lw_g (lw_at lw_m5 55 rfl) rfl
theorem q1118 : (Jvm.Cond.instanceMethod ({ cls := "ElasticTruss", name := "greatestUse", desc := "()I" } : Jvm.MethodName)) ∈ lw_all := lw_g (lw_at lw_m5 57 rfl) rfl
theorem q1119 : (Jvm.Cond.selects "ElasticTruss" ({ cls := "ElasticTruss", name := "greatestUse", desc := "()I" } : Jvm.MethodName) ({ cls := "ElasticTruss", name := "greatestUse", desc := "()I" } : Jvm.MethodName)) ∈ lw_all := lw_g (lw_at lw_m5 58 rfl) rfl
theorem q1120 : (Jvm.Cond.code ({ cls := "ElasticTruss", name := "greatestUse", desc := "()I" } : Jvm.MethodName) prog_1_method_34_code (9 : Nat) (Option.some Jvm.ClassFile.FieldType.int)) ∈ lw_all := lw_g (lw_at lw_m5 59 rfl) rfl
theorem q1121 : (Jvm.Cond.classLink "ElasticTruss" (104 : Nat) "ElasticTruss$Relaxation") ∈ lw_all := lw_g (lw_at lw_m5 60 rfl) rfl
theorem q1123 : (Jvm.Cond.methodLink "ElasticTruss" (106 : Nat) ({ cls := "ElasticTruss$Relaxation", name := "<init>", desc := "(LElasticTruss$Truss;)V" } : Jvm.MethodName)) ∈ lw_all := lw_g (lw_at lw_m5 62 rfl) rfl
theorem q1149 : (Jvm.Cond.fieldLinkNest "ElasticTruss" (253 : Nat) "ElasticTruss$Relaxation" "members" "[LElasticTruss$Member;" "ElasticTruss") ∈ lw_tbl := lw_at lw_m5 88 rfl
theorem q1152 : (Jvm.Cond.fieldLinkNest "ElasticTruss" (207 : Nat) "ElasticTruss$Relaxation" "joined" "[[LElasticTruss$Member;" "ElasticTruss") ∈ lw_tbl := lw_at lw_m5 91 rfl
theorem q1154 : (Jvm.Cond.fieldLinkNest "ElasticTruss" (222 : Nat) "ElasticTruss$Relaxation" "ux" "[J" "ElasticTruss") ∈ lw_tbl := lw_at lw_m5 93 rfl
theorem q1156 : (Jvm.Cond.fieldLinkNest "ElasticTruss" (226 : Nat) "ElasticTruss$Relaxation" "uy" "[J" "ElasticTruss") ∈ lw_tbl := lw_at lw_m5 95 rfl
theorem q1158 : (Jvm.Cond.fieldLinkNest "ElasticTruss" (236 : Nat) "ElasticTruss$Relaxation" "rx" "[J" "ElasticTruss") ∈ lw_tbl := lw_at lw_m5 97 rfl
theorem q1160 : (Jvm.Cond.fieldLinkNest "ElasticTruss" (239 : Nat) "ElasticTruss$Relaxation" "ry" "[J" "ElasticTruss") ∈ lw_tbl := lw_at lw_m5 99 rfl
theorem q1179 : (Jvm.Cond.methodLink "ElasticTruss" (109 : Nat) ({ cls := "ElasticTruss$Relaxation", name := "relax", desc := "(I)V" } : Jvm.MethodName)) ∈ lw_all := lw_g (lw_at lw_m5 118 rfl) rfl
theorem q1231 : (Jvm.Cond.static ({ cls := "ElasticTruss", name := "limited", desc := "(J)J" } : Jvm.MethodName)) ∈ lw_all := lw_g (lw_at lw_m5 170 rfl) rfl
theorem q1232 : (Jvm.Cond.code ({ cls := "ElasticTruss", name := "limited", desc := "(J)J" } : Jvm.MethodName) prog_1_method_2_code (2 : Nat) (Option.some Jvm.ClassFile.FieldType.long)) ∈ lw_all := lw_g (lw_at lw_m5 171 rfl) rfl
theorem q1233 : (Jvm.Cond.constantLong "ElasticTruss" (3 : Nat) (-1000000 : Int64)) ∈ lw_all := lw_g (lw_at lw_m5 172 rfl) rfl
theorem q1234 : (Jvm.Cond.constantLong "ElasticTruss" (5 : Nat) (1000000 : Int64)) ∈ lw_all := lw_g (lw_at lw_m5 173 rfl) rfl
theorem q1235 : (Jvm.Cond.methodLink "ElasticTruss" (7 : Nat) ({ cls := "java/lang/Math", name := "min", desc := "(JJ)J" } : Jvm.MethodName)) ∈ lw_all := lw_g (lw_at lw_m5 174 rfl) rfl
theorem q1238 : (Jvm.Cond.methodLink "ElasticTruss" (13 : Nat) ({ cls := "java/lang/Math", name := "max", desc := "(JJ)J" } : Jvm.MethodName)) ∈ lw_all := lw_g (lw_at lw_m5 177 rfl) rfl
theorem q1246 : (Jvm.Cond.methodLink "ElasticTruss" (229 : Nat) ({ cls := "ElasticTruss$Relaxation", name := "forceIn", desc := "(LElasticTruss$Member;)I" } : Jvm.MethodName)) ∈ lw_all := lw_g (lw_at lw_m5 185 rfl) rfl
theorem q1247 : (Jvm.Cond.methodLink "ElasticTruss" (249 : Nat) ({ cls := "ElasticTruss$Truss", name := "useOf", desc := "(LElasticTruss$Member;I)I" } : Jvm.MethodName)) ∈ lw_all := lw_g (lw_at lw_m5 186 rfl) rfl
theorem q1295 : (Jvm.Cond.methodLink "ElasticTruss" (256 : Nat) ({ cls := "java/lang/Math", name := "max", desc := "(II)I" } : Jvm.MethodName)) ∈ lw_all := lw_g (lw_at lw_m5 234 rfl) rfl
theorem q1297 : (Jvm.Cond.instanceMethod ({ cls := "ElasticTruss", name := "failureCount", desc := "()I" } : Jvm.MethodName)) ∈ lw_all := lw_g (lw_at lw_m5 236 rfl) rfl
theorem q1298 : (Jvm.Cond.selects "ElasticTruss" ({ cls := "ElasticTruss", name := "failureCount", desc := "()I" } : Jvm.MethodName) ({ cls := "ElasticTruss", name := "failureCount", desc := "()I" } : Jvm.MethodName)) ∈ lw_all := lw_g (lw_at lw_m5 237 rfl) rfl
theorem q1299 : (Jvm.Cond.code ({ cls := "ElasticTruss", name := "failureCount", desc := "()I" } : Jvm.MethodName) prog_1_method_35_code (1 : Nat) (Option.some Jvm.ClassFile.FieldType.int)) ∈ lw_all := lw_g (lw_at lw_m5 238 rfl) rfl
theorem q1300 : (Jvm.Cond.methodLink "ElasticTruss" (259 : Nat) ({ cls := "ElasticTruss$Relaxation", name := "failures", desc := "()Ljava/util/Set;" } : Jvm.MethodName)) ∈ lw_all := lw_g (lw_at lw_m5 239 rfl) rfl
theorem q1658 : (Jvm.Cond.selects "ElasticTruss" ({ cls := "java/lang/Object", name := "toString", desc := "()Ljava/lang/String;" } : Jvm.MethodName) ({ cls := "java/lang/Object", name := "toString", desc := "()Ljava/lang/String;" } : Jvm.MethodName)) ∈ lw_all := lw_g (lw_at lw_m7 117 rfl) rfl
theorem q1678 : (Jvm.Cond.selects "ElasticTruss" ({ cls := "java/lang/Object", name := "getClass", desc := "()Ljava/lang/Class;" } : Jvm.MethodName) ({ cls := "java/lang/Object", name := "getClass", desc := "()Ljava/lang/Class;" } : Jvm.MethodName)) ∈ lw_all := lw_g (lw_at lw_m7 137 rfl) rfl
theorem q1836 : (Jvm.Cond.fieldLinkNest "ElasticTruss" (268 : Nat) "ElasticTruss$Failure" "stage" "I" "ElasticTruss") ∈ lw_tbl := lw_at lw_m8 55 rfl
theorem q1838 : (Jvm.Cond.fieldLinkNest "ElasticTruss" (265 : Nat) "ElasticTruss$Failure" "member" "I" "ElasticTruss") ∈ lw_tbl := lw_at lw_m8 57 rfl
theorem q1876 : (Jvm.Cond.selects "ElasticTruss" ({ cls := "java/lang/Object", name := "hashCode", desc := "()I" } : Jvm.MethodName) ({ cls := "java/lang/Object", name := "hashCode", desc := "()I" } : Jvm.MethodName)) ∈ lw_all := lw_g (lw_at lw_m8 95 rfl) rfl
theorem q2313 : (Jvm.Cond.selects "ElasticTruss" ({ cls := "java/lang/Object", name := "equals", desc := "(Ljava/lang/Object;)Z" } : Jvm.MethodName) ({ cls := "java/lang/Object", name := "equals", desc := "(Ljava/lang/Object;)Z" } : Jvm.MethodName)) ∈ lw_all := lw_g (lw_at lw_m10 52 rfl) rfl
theorem q2436 : (Jvm.Cond.interfaceEntry "ElasticTruss" (262 : Nat)) ∈ lw_tbl := lw_at lw_m10 175 rfl
theorem q2437 : (Jvm.Cond.methodLink "ElasticTruss" (262 : Nat) ({ cls := "java/util/Set", name := "size", desc := "()I" } : Jvm.MethodName)) ∈ lw_all := lw_g (lw_at lw_m10 176 rfl) rfl
theorem q2462 : (Jvm.Cond.instanceMethod ({ cls := "ElasticTruss", name := "shrinkAll", desc := "()I" } : Jvm.MethodName)) ∈ lw_all := lw_g (lw_at lw_m10 201 rfl) rfl
theorem q2463 : (Jvm.Cond.selects "ElasticTruss" ({ cls := "ElasticTruss", name := "shrinkAll", desc := "()I" } : Jvm.MethodName) ({ cls := "ElasticTruss", name := "shrinkAll", desc := "()I" } : Jvm.MethodName)) ∈ lw_all := lw_g (lw_at lw_m10 202 rfl) rfl
theorem q2464 : (Jvm.Cond.code ({ cls := "ElasticTruss", name := "shrinkAll", desc := "()I" } : Jvm.MethodName) prog_1_method_44_code (3 : Nat) (Option.some Jvm.ClassFile.FieldType.int)) ∈ lw_all := lw_g (lw_at lw_m10 203 rfl) rfl
theorem q2465 : (Jvm.Cond.methodLink "ElasticTruss" (271 : Nat) ({ cls := "ElasticTruss$Truss", name := "copy", desc := "()LElasticTruss$Truss;" } : Jvm.MethodName)) ∈ lw_all := lw_g (lw_at lw_m10 204 rfl) rfl
theorem q2578 : (Jvm.Cond.methodLink "ElasticTruss" (133 : Nat) ({ cls := "ElasticTruss", name := "replaceBy", desc := "(LElasticTruss$Truss;)V" } : Jvm.MethodName)) ∈ lw_all := lw_g (lw_at lw_m11 77 rfl) rfl
theorem q2579 : (Jvm.Cond.privateMethod ({ cls := "ElasticTruss", name := "replaceBy", desc := "(LElasticTruss$Truss;)V" } : Jvm.MethodName)) ∈ lw_tbl := lw_at lw_m11 78 rfl
theorem q2580 : (Jvm.Cond.instanceMethod ({ cls := "ElasticTruss", name := "replaceBy", desc := "(LElasticTruss$Truss;)V" } : Jvm.MethodName)) ∈ lw_all := lw_g (lw_at lw_m11 79 rfl) rfl
theorem q2581 : (Jvm.Cond.code ({ cls := "ElasticTruss", name := "replaceBy", desc := "(LElasticTruss$Truss;)V" } : Jvm.MethodName) prog_1_method_15_code (2 : Nat) (Option.none : Option Jvm.ClassFile.FieldType)) ∈ lw_all := lw_g (lw_at lw_m11 80 rfl) rfl
theorem q2582 : (Jvm.Cond.methodLink "ElasticTruss" (112 : Nat) ({ cls := "java/util/ArrayDeque", name := "addLast", desc := "(Ljava/lang/Object;)V" } : Jvm.MethodName)) ∈ lw_all := lw_g (lw_at lw_m11 81 rfl) rfl
theorem q2612 : (Jvm.Cond.methodLink "ElasticTruss" (116 : Nat) ({ cls := "java/util/ArrayDeque", name := "size", desc := "()I" } : Jvm.MethodName)) ∈ lw_all := lw_g (lw_at lw_m11 111 rfl) rfl
theorem q2613 : (Jvm.Cond.methodLink "ElasticTruss" (117 : Nat) ({ cls := "java/util/ArrayDeque", name := "removeFirst", desc := "()Ljava/lang/Object;" } : Jvm.MethodName)) ∈ lw_all := lw_g (lw_at lw_m11 112 rfl) rfl
theorem q2624 : (Jvm.Cond.methodLink "ElasticTruss" (281 : Nat) ({ cls := "ElasticTruss$Truss", name := "leastArea", desc := "(I)I" } : Jvm.MethodName)) ∈ lw_all := lw_g (lw_at lw_m11 123 rfl) rfl
theorem q2639 : (Jvm.Cond.instanceMethod ({ cls := "ElasticTruss", name := "undo", desc := "()I" } : Jvm.MethodName)) ∈ lw_all := lw_g (lw_at lw_m11 138 rfl) rfl
theorem q2640 : (Jvm.Cond.selects "ElasticTruss" ({ cls := "ElasticTruss", name := "undo", desc := "()I" } : Jvm.MethodName) ({ cls := "ElasticTruss", name := "undo", desc := "()I" } : Jvm.MethodName)) ∈ lw_all := lw_g (lw_at lw_m11 139 rfl) rfl
theorem q2641 : (Jvm.Cond.code ({ cls := "ElasticTruss", name := "undo", desc := "()I" } : Jvm.MethodName) prog_1_method_45_code (1 : Nat) (Option.some Jvm.ClassFile.FieldType.int)) ∈ lw_all := lw_g (lw_at lw_m11 140 rfl) rfl
theorem q2642 : (Jvm.Cond.methodLink "ElasticTruss" (301 : Nat) ({ cls := "java/util/ArrayDeque", name := "isEmpty", desc := "()Z" } : Jvm.MethodName)) ∈ lw_all := lw_g (lw_at lw_m11 141 rfl) rfl
theorem q2646 : (Jvm.Cond.methodLink "ElasticTruss" (304 : Nat) ({ cls := "java/util/ArrayDeque", name := "removeLast", desc := "()Ljava/lang/Object;" } : Jvm.MethodName)) ∈ lw_all := lw_g (lw_at lw_m11 145 rfl) rfl
theorem q2658 : (Jvm.Cond.instanceMethod ({ cls := "ElasticTruss", name := "checksum", desc := "()J" } : Jvm.MethodName)) ∈ lw_all := lw_g (lw_at lw_m11 157 rfl) rfl
theorem q2659 : (Jvm.Cond.selects "ElasticTruss" ({ cls := "ElasticTruss", name := "checksum", desc := "()J" } : Jvm.MethodName) ({ cls := "ElasticTruss", name := "checksum", desc := "()J" } : Jvm.MethodName)) ∈ lw_all := lw_g (lw_at lw_m11 158 rfl) rfl
theorem q2660 : (Jvm.Cond.code ({ cls := "ElasticTruss", name := "checksum", desc := "()J" } : Jvm.MethodName) prog_1_method_47_code (9 : Nat) (Option.some Jvm.ClassFile.FieldType.long)) ∈ lw_all := lw_g (lw_at lw_m11 159 rfl) rfl
theorem q2661 : (Jvm.Cond.methodLink "ElasticTruss" (309 : Nat) ({ cls := "ElasticTruss", name := "mixed", desc := "(J[I)J" } : Jvm.MethodName)) ∈ lw_all := lw_g (lw_at lw_m11 160 rfl) rfl
theorem q2662 : (Jvm.Cond.static ({ cls := "ElasticTruss", name := "mixed", desc := "(J[I)J" } : Jvm.MethodName)) ∈ lw_all := lw_g (lw_at lw_m11 161 rfl) rfl
theorem q2663 : (Jvm.Cond.code ({ cls := "ElasticTruss", name := "mixed", desc := "(J[I)J" } : Jvm.MethodName) prog_1_method_46_code (9 : Nat) (Option.some Jvm.ClassFile.FieldType.long)) ∈ lw_all := lw_g (lw_at lw_m11 162 rfl) rfl
theorem q2664 : (Jvm.Cond.constantLong "ElasticTruss" (307 : Nat) (31 : Int64)) ∈ lw_all := lw_g (lw_at lw_m11 163 rfl) rfl
theorem q2665 : (Jvm.Cond.classLink "ElasticTruss" (313 : Nat) "[[I") ∈ lw_all := lw_g (lw_at lw_m11 164 rfl) rfl
theorem q2672 : (Jvm.Cond.instanceMethod ({ cls := "ElasticTruss", name := "load", desc := "(I)I" } : Jvm.MethodName)) ∈ lw_all := lw_g (lw_at lw_m11 171 rfl) rfl
theorem q2673 : (Jvm.Cond.selects "ElasticTruss" ({ cls := "ElasticTruss", name := "load", desc := "(I)I" } : Jvm.MethodName) ({ cls := "ElasticTruss", name := "load", desc := "(I)I" } : Jvm.MethodName)) ∈ lw_all := lw_g (lw_at lw_m11 172 rfl) rfl
theorem q2674 : (Jvm.Cond.codeWith ({ cls := "ElasticTruss", name := "load", desc := "(I)I" } : Jvm.MethodName) prog_1_method_16_code (3 : Nat) (Option.some Jvm.ClassFile.FieldType.int) [((19 : Nat), (52 : Nat), (53 : Nat), (136 : Nat))]) ∈ lw_all := lw_g (lw_at lw_m11 173 rfl) rfl
theorem q2675 : (Jvm.Cond.classLink "ElasticTruss" (136 : Nat) "ElasticTruss$SetupException") ∈ lw_all := lw_g (lw_at lw_m11 174 rfl) rfl
theorem q2676 : (Jvm.Cond.methodLink "ElasticTruss" (76 : Nat) ({ cls := "ElasticTruss", name := "isIn", desc := "(JJJ)Z" } : Jvm.MethodName)) ∈ lw_all := lw_g (lw_at lw_m11 175 rfl) rfl
theorem q2677 : (Jvm.Cond.static ({ cls := "ElasticTruss", name := "isIn", desc := "(JJJ)Z" } : Jvm.MethodName)) ∈ lw_all := lw_g (lw_at lw_m11 176 rfl) rfl
theorem q2678 : (Jvm.Cond.code ({ cls := "ElasticTruss", name := "isIn", desc := "(JJJ)Z" } : Jvm.MethodName) prog_1_method_1_code (6 : Nat) (Option.some Jvm.ClassFile.FieldType.boolean)) ∈ lw_all := lw_g (lw_at lw_m11 177 rfl) rfl
theorem q2679 : (Jvm.Cond.methodLink "ElasticTruss" (121 : Nat) ({ cls := "ElasticTruss", name := "checkArgument", desc := "(Z)V" } : Jvm.MethodName)) ∈ lw_all := lw_g (lw_at lw_m11 178 rfl) rfl
theorem q2680 : (Jvm.Cond.static ({ cls := "ElasticTruss", name := "checkArgument", desc := "(Z)V" } : Jvm.MethodName)) ∈ lw_all := lw_g (lw_at lw_m11 179 rfl) rfl
theorem q2681 : (Jvm.Cond.code ({ cls := "ElasticTruss", name := "checkArgument", desc := "(Z)V" } : Jvm.MethodName) prog_1_method_8_code (1 : Nat) (Option.none : Option Jvm.ClassFile.FieldType)) ∈ lw_all := lw_g (lw_at lw_m11 180 rfl) rfl
theorem q2682 : (Jvm.Cond.classLink "ElasticTruss" (60 : Nat) "java/lang/IllegalArgumentException") ∈ lw_all := lw_g (lw_at lw_m11 181 rfl) rfl
theorem q2683 : (Jvm.Cond.methodLink "ElasticTruss" (62 : Nat) ({ cls := "java/lang/IllegalArgumentException", name := "<init>", desc := "()V" } : Jvm.MethodName)) ∈ lw_all := lw_g (lw_at lw_m11 182 rfl) rfl
theorem q2693 : (Jvm.Cond.classLink "ElasticTruss" (124 : Nat) "ElasticTruss$SetupReader") ∈ lw_all := lw_g (lw_at lw_m11 192 rfl) rfl
theorem q2695 : (Jvm.Cond.methodLink "ElasticTruss" (126 : Nat) ({ cls := "ElasticTruss$SetupReader", name := "<init>", desc := "(LElasticTruss;I)V" } : Jvm.MethodName)) ∈ lw_all := lw_g (lw_at lw_m11 194 rfl) rfl
theorem q2723 : (Jvm.Cond.methodLink "ElasticTruss" (129 : Nat) ({ cls := "ElasticTruss$SetupReader", name := "read", desc := "()LElasticTruss$Truss;" } : Jvm.MethodName)) ∈ lw_all := lw_g (lw_at lw_m11 222 rfl) rfl
theorem q2768 : (Jvm.Cond.fieldLinkNest "ElasticTruss" (141 : Nat) "ElasticTruss$SetupException" "code" "I" "ElasticTruss") ∈ lw_tbl := lw_at lw_m12 27 rfl
theorem q2770 : (Jvm.Cond.fieldLinkNest "ElasticTruss" (138 : Nat) "ElasticTruss$SetupException" "offset" "I" "ElasticTruss") ∈ lw_tbl := lw_at lw_m12 29 rfl
theorem q2942 : (Jvm.Cond.static ({ cls := "ElasticTruss", name := "root", desc := "(I)I" } : Jvm.MethodName)) ∈ lw_all := lw_g (lw_at lw_m12 201 rfl) rfl
theorem q2943 : (Jvm.Cond.code ({ cls := "ElasticTruss", name := "root", desc := "(I)I" } : Jvm.MethodName) prog_1_method_3_code (4 : Nat) (Option.some Jvm.ClassFile.FieldType.int)) ∈ lw_all := lw_g (lw_at lw_m12 202 rfl) rfl
theorem q2944 : (Jvm.Cond.fieldLink "ElasticTruss" (16 : Nat) "ElasticTruss" "SQUARES" "[I") ∈ lw_all := lw_g (lw_at lw_m12 203 rfl) rfl
theorem q2945 : (Jvm.Cond.laysStatic "ElasticTruss" "SQUARES" "[I") ∈ lw_tbl := lw_at lw_m12 204 rfl
theorem q2949 : (Jvm.Cond.fieldLinkNest "ElasticTruss" (159 : Nat) "ElasticTruss$Member" "first" "I" "ElasticTruss") ∈ lw_tbl := lw_at lw_m12 208 rfl
theorem q2953 : (Jvm.Cond.fieldLinkNest "ElasticTruss" (164 : Nat) "ElasticTruss$Member" "second" "I" "ElasticTruss") ∈ lw_tbl := lw_at lw_m12 212 rfl
theorem q2956 : (Jvm.Cond.fieldLinkNest "ElasticTruss" (167 : Nat) "ElasticTruss$Member" "group" "I" "ElasticTruss") ∈ lw_tbl := lw_at lw_m12 215 rfl
theorem q2964 : (Jvm.Cond.fieldLinkNest "ElasticTruss" (170 : Nat) "ElasticTruss$Member" "length" "I" "ElasticTruss") ∈ lw_tbl := lw_at lw_m12 223 rfl
theorem q3116 : (Jvm.Cond.instanceMethod ({ cls := "ElasticTruss", name := "area", desc := "(I)I" } : Jvm.MethodName)) ∈ lw_all := lw_g (lw_at lw_m13 135 rfl) rfl
theorem q3117 : (Jvm.Cond.selects "ElasticTruss" ({ cls := "ElasticTruss", name := "area", desc := "(I)I" } : Jvm.MethodName) ({ cls := "ElasticTruss", name := "area", desc := "(I)I" } : Jvm.MethodName)) ∈ lw_all := lw_g (lw_at lw_m13 136 rfl) rfl
theorem q3118 : (Jvm.Cond.code ({ cls := "ElasticTruss", name := "area", desc := "(I)I" } : Jvm.MethodName) prog_1_method_23_code (2 : Nat) (Option.some Jvm.ClassFile.FieldType.int)) ∈ lw_all := lw_g (lw_at lw_m13 137 rfl) rfl
theorem q3119 : (Jvm.Cond.methodLink "ElasticTruss" (147 : Nat) ({ cls := "ElasticTruss", name := "checkGroup", desc := "(I)V" } : Jvm.MethodName)) ∈ lw_all := lw_g (lw_at lw_m13 138 rfl) rfl
theorem q3120 : (Jvm.Cond.privateMethod ({ cls := "ElasticTruss", name := "checkGroup", desc := "(I)V" } : Jvm.MethodName)) ∈ lw_tbl := lw_at lw_m13 139 rfl
theorem q3121 : (Jvm.Cond.instanceMethod ({ cls := "ElasticTruss", name := "checkGroup", desc := "(I)V" } : Jvm.MethodName)) ∈ lw_all := lw_g (lw_at lw_m13 140 rfl) rfl
theorem q3122 : (Jvm.Cond.code ({ cls := "ElasticTruss", name := "checkGroup", desc := "(I)V" } : Jvm.MethodName) prog_1_method_11_code (2 : Nat) (Option.none : Option Jvm.ClassFile.FieldType)) ∈ lw_all := lw_g (lw_at lw_m13 141 rfl) rfl
theorem q3123 : (Jvm.Cond.methodLink "ElasticTruss" (80 : Nat) ({ cls := "ElasticTruss", name := "checkIndex", desc := "(Z)V" } : Jvm.MethodName)) ∈ lw_all := lw_g (lw_at lw_m13 142 rfl) rfl
theorem q3124 : (Jvm.Cond.static ({ cls := "ElasticTruss", name := "checkIndex", desc := "(Z)V" } : Jvm.MethodName)) ∈ lw_all := lw_g (lw_at lw_m13 143 rfl) rfl
theorem q3125 : (Jvm.Cond.code ({ cls := "ElasticTruss", name := "checkIndex", desc := "(Z)V" } : Jvm.MethodName) prog_1_method_7_code (1 : Nat) (Option.none : Option Jvm.ClassFile.FieldType)) ∈ lw_all := lw_g (lw_at lw_m13 144 rfl) rfl
theorem q3126 : (Jvm.Cond.classLink "ElasticTruss" (57 : Nat) "java/lang/IndexOutOfBoundsException") ∈ lw_all := lw_g (lw_at lw_m13 145 rfl) rfl
theorem q3135 : (Jvm.Cond.methodLink "ElasticTruss" (59 : Nat) ({ cls := "java/lang/IndexOutOfBoundsException", name := "<init>", desc := "()V" } : Jvm.MethodName)) ∈ lw_all := lw_g (lw_at lw_m13 154 rfl) rfl
theorem q3145 : (Jvm.Cond.instanceMethod ({ cls := "ElasticTruss", name := "member", desc := "(II)I" } : Jvm.MethodName)) ∈ lw_all := lw_g (lw_at lw_m13 164 rfl) rfl
theorem q3146 : (Jvm.Cond.selects "ElasticTruss" ({ cls := "ElasticTruss", name := "member", desc := "(II)I" } : Jvm.MethodName) ({ cls := "ElasticTruss", name := "member", desc := "(II)I" } : Jvm.MethodName)) ∈ lw_all := lw_g (lw_at lw_m13 165 rfl) rfl
theorem q3147 : (Jvm.Cond.code ({ cls := "ElasticTruss", name := "member", desc := "(II)I" } : Jvm.MethodName) prog_1_method_24_code (4 : Nat) (Option.some Jvm.ClassFile.FieldType.int)) ∈ lw_all := lw_g (lw_at lw_m13 166 rfl) rfl
theorem q3148 : (Jvm.Cond.methodLink "ElasticTruss" (153 : Nat) ({ cls := "ElasticTruss", name := "memberAt", desc := "(I)LElasticTruss$Member;" } : Jvm.MethodName)) ∈ lw_all := lw_g (lw_at lw_m13 167 rfl) rfl
theorem q3149 : (Jvm.Cond.privateMethod ({ cls := "ElasticTruss", name := "memberAt", desc := "(I)LElasticTruss$Member;" } : Jvm.MethodName)) ∈ lw_tbl := lw_at lw_m13 168 rfl
theorem q3150 : (Jvm.Cond.instanceMethod ({ cls := "ElasticTruss", name := "memberAt", desc := "(I)LElasticTruss$Member;" } : Jvm.MethodName)) ∈ lw_all := lw_g (lw_at lw_m13 169 rfl) rfl
theorem q3151 : (Jvm.Cond.code ({ cls := "ElasticTruss", name := "memberAt", desc := "(I)LElasticTruss$Member;" } : Jvm.MethodName) prog_1_method_13_code (2 : Nat) (Option.some (Jvm.ClassFile.FieldType.object "ElasticTruss$Member"))) ∈ lw_all := lw_g (lw_at lw_m13 170 rfl) rfl
theorem q3152 : (Jvm.Cond.methodLink "ElasticTruss" (97 : Nat) ({ cls := "ElasticTruss$Truss", name := "row", desc := "()[LElasticTruss$Member;" } : Jvm.MethodName)) ∈ lw_all := lw_g (lw_at lw_m13 171 rfl) rfl
theorem q3153 : (Jvm.Cond.constantLong "ElasticTruss" (157 : Nat) (3 : Int64)) ∈ lw_all := lw_g (lw_at lw_m13 172 rfl) rfl
theorem q3158 : (Jvm.Cond.instanceMethod ({ cls := "ElasticTruss", name := "between", desc := "(II)I" } : Jvm.MethodName)) ∈ lw_all := lw_g (lw_at lw_m13 177 rfl) rfl
theorem q3159 : (Jvm.Cond.selects "ElasticTruss" ({ cls := "ElasticTruss", name := "between", desc := "(II)I" } : Jvm.MethodName) ({ cls := "ElasticTruss", name := "between", desc := "(II)I" } : Jvm.MethodName)) ∈ lw_all := lw_g (lw_at lw_m13 178 rfl) rfl
theorem q3160 : (Jvm.Cond.code ({ cls := "ElasticTruss", name := "between", desc := "(II)I" } : Jvm.MethodName) prog_1_method_25_code (7 : Nat) (Option.some Jvm.ClassFile.FieldType.int)) ∈ lw_all := lw_g (lw_at lw_m13 179 rfl) rfl
theorem q3161 : (Jvm.Cond.methodLink "ElasticTruss" (173 : Nat) ({ cls := "ElasticTruss", name := "checkNodes", desc := "([I)V" } : Jvm.MethodName)) ∈ lw_all := lw_g (lw_at lw_m13 180 rfl) rfl
theorem q3162 : (Jvm.Cond.privateMethod ({ cls := "ElasticTruss", name := "checkNodes", desc := "([I)V" } : Jvm.MethodName)) ∈ lw_tbl := lw_at lw_m13 181 rfl
theorem q3163 : (Jvm.Cond.instanceMethod ({ cls := "ElasticTruss", name := "checkNodes", desc := "([I)V" } : Jvm.MethodName)) ∈ lw_all := lw_g (lw_at lw_m13 182 rfl) rfl
theorem q3164 : (Jvm.Cond.code ({ cls := "ElasticTruss", name := "checkNodes", desc := "([I)V" } : Jvm.MethodName) prog_1_method_10_code (6 : Nat) (Option.none : Option Jvm.ClassFile.FieldType)) ∈ lw_all := lw_g (lw_at lw_m13 183 rfl) rfl
theorem q3165 : (Jvm.Cond.classLink "ElasticTruss" (176 : Nat) "ElasticTruss$PairKey") ∈ lw_all := lw_g (lw_at lw_m13 184 rfl) rfl
theorem q3166 : (Jvm.Cond.methodLink "ElasticTruss" (178 : Nat) ({ cls := "ElasticTruss$PairKey", name := "<init>", desc := "(II)V" } : Jvm.MethodName)) ∈ lw_all := lw_g (lw_at lw_m13 185 rfl) rfl
theorem q3167 : (Jvm.Cond.interfaceEntry "ElasticTruss" (181 : Nat)) ∈ lw_tbl := lw_at lw_m13 186 rfl
theorem q3168 : (Jvm.Cond.methodLink "ElasticTruss" (181 : Nat) ({ cls := "java/util/Map", name := "containsKey", desc := "(Ljava/lang/Object;)Z" } : Jvm.MethodName)) ∈ lw_all := lw_g (lw_at lw_m13 187 rfl) rfl
theorem q3169 : (Jvm.Cond.interfaceEntry "ElasticTruss" (185 : Nat)) ∈ lw_tbl := lw_at lw_m13 188 rfl
theorem q3170 : (Jvm.Cond.methodLink "ElasticTruss" (185 : Nat) ({ cls := "java/util/Map", name := "keySet", desc := "()Ljava/util/Set;" } : Jvm.MethodName)) ∈ lw_all := lw_g (lw_at lw_m13 189 rfl) rfl
theorem q3176 : (Jvm.Cond.interfaceEntry "ElasticTruss" (189 : Nat)) ∈ lw_tbl := lw_at lw_m13 195 rfl
theorem q3177 : (Jvm.Cond.methodLink "ElasticTruss" (189 : Nat) ({ cls := "java/util/Set", name := "iterator", desc := "()Ljava/util/Iterator;" } : Jvm.MethodName)) ∈ lw_all := lw_g (lw_at lw_m13 196 rfl) rfl
theorem q3178 : (Jvm.Cond.methodLink "ElasticTruss" (204 : Nat) ({ cls := "ElasticTruss$PairKey", name := "equals", desc := "(Ljava/lang/Object;)Z" } : Jvm.MethodName)) ∈ lw_all := lw_g (lw_at lw_m13 197 rfl) rfl
theorem q3183 : (Jvm.Cond.instanceMethod ({ cls := "ElasticTruss", name := "degree", desc := "(I)I" } : Jvm.MethodName)) ∈ lw_all := lw_g (lw_at lw_m13 202 rfl) rfl
theorem q3184 : (Jvm.Cond.selects "ElasticTruss" ({ cls := "ElasticTruss", name := "degree", desc := "(I)I" } : Jvm.MethodName) ({ cls := "ElasticTruss", name := "degree", desc := "(I)I" } : Jvm.MethodName)) ∈ lw_all := lw_g (lw_at lw_m13 203 rfl) rfl
theorem q3185 : (Jvm.Cond.code ({ cls := "ElasticTruss", name := "degree", desc := "(I)I" } : Jvm.MethodName) prog_1_method_26_code (2 : Nat) (Option.some Jvm.ClassFile.FieldType.int)) ∈ lw_all := lw_g (lw_at lw_m13 204 rfl) rfl
theorem q3190 : (Jvm.Cond.instanceMethod ({ cls := "ElasticTruss", name := "displacement", desc := "(IIZ)I" } : Jvm.MethodName)) ∈ lw_all := lw_g (lw_at lw_m13 209 rfl) rfl
theorem q3191 : (Jvm.Cond.selects "ElasticTruss" ({ cls := "ElasticTruss", name := "displacement", desc := "(IIZ)I" } : Jvm.MethodName) ({ cls := "ElasticTruss", name := "displacement", desc := "(IIZ)I" } : Jvm.MethodName)) ∈ lw_all := lw_g (lw_at lw_m13 210 rfl) rfl
theorem q3192 : (Jvm.Cond.code ({ cls := "ElasticTruss", name := "displacement", desc := "(IIZ)I" } : Jvm.MethodName) prog_1_method_28_code (5 : Nat) (Option.some Jvm.ClassFile.FieldType.int)) ∈ lw_all := lw_g (lw_at lw_m13 211 rfl) rfl
theorem q3193 : (Jvm.Cond.methodLink "ElasticTruss" (218 : Nat) ({ cls := "ElasticTruss", name := "relaxed", desc := "(I)LElasticTruss$Relaxation;" } : Jvm.MethodName)) ∈ lw_all := lw_g (lw_at lw_m13 212 rfl) rfl
theorem q3194 : (Jvm.Cond.privateMethod ({ cls := "ElasticTruss", name := "relaxed", desc := "(I)LElasticTruss$Relaxation;" } : Jvm.MethodName)) ∈ lw_tbl := lw_at lw_m13 213 rfl
theorem q3195 : (Jvm.Cond.instanceMethod ({ cls := "ElasticTruss", name := "relaxed", desc := "(I)LElasticTruss$Relaxation;" } : Jvm.MethodName)) ∈ lw_all := lw_g (lw_at lw_m13 214 rfl) rfl
theorem q3196 : (Jvm.Cond.code ({ cls := "ElasticTruss", name := "relaxed", desc := "(I)LElasticTruss$Relaxation;" } : Jvm.MethodName) prog_1_method_14_code (3 : Nat) (Option.some (Jvm.ClassFile.FieldType.object "ElasticTruss$Relaxation"))) ∈ lw_all := lw_g (lw_at lw_m13 215 rfl) rfl
theorem q3197 : (Jvm.Cond.methodLink "ElasticTruss" (101 : Nat) ({ cls := "ElasticTruss", name := "checkStage", desc := "(I)V" } : Jvm.MethodName)) ∈ lw_all := lw_g (lw_at lw_m13 216 rfl) rfl
theorem q3198 : (Jvm.Cond.privateMethod ({ cls := "ElasticTruss", name := "checkStage", desc := "(I)V" } : Jvm.MethodName)) ∈ lw_tbl := lw_at lw_m13 217 rfl
theorem q3199 : (Jvm.Cond.instanceMethod ({ cls := "ElasticTruss", name := "checkStage", desc := "(I)V" } : Jvm.MethodName)) ∈ lw_all := lw_g (lw_at lw_m13 218 rfl) rfl
theorem q3200 : (Jvm.Cond.code ({ cls := "ElasticTruss", name := "checkStage", desc := "(I)V" } : Jvm.MethodName) prog_1_method_12_code (2 : Nat) (Option.none : Option Jvm.ClassFile.FieldType)) ∈ lw_all := lw_g (lw_at lw_m13 219 rfl) rfl
theorem q3205 : (Jvm.Cond.instanceMethod ({ cls := "ElasticTruss", name := "force", desc := "(II)I" } : Jvm.MethodName)) ∈ lw_all := lw_g (lw_at lw_m13 224 rfl) rfl
theorem q3206 : (Jvm.Cond.selects "ElasticTruss" ({ cls := "ElasticTruss", name := "force", desc := "(II)I" } : Jvm.MethodName) ({ cls := "ElasticTruss", name := "force", desc := "(II)I" } : Jvm.MethodName)) ∈ lw_all := lw_g (lw_at lw_m13 225 rfl) rfl
theorem q3207 : (Jvm.Cond.code ({ cls := "ElasticTruss", name := "force", desc := "(II)I" } : Jvm.MethodName) prog_1_method_29_code (4 : Nat) (Option.some Jvm.ClassFile.FieldType.int)) ∈ lw_all := lw_g (lw_at lw_m13 226 rfl) rfl
theorem q3212 : (Jvm.Cond.instanceMethod ({ cls := "ElasticTruss", name := "residual", desc := "(IIZ)I" } : Jvm.MethodName)) ∈ lw_all := lw_g (lw_at lw_m13 231 rfl) rfl
theorem q3213 : (Jvm.Cond.selects "ElasticTruss" ({ cls := "ElasticTruss", name := "residual", desc := "(IIZ)I" } : Jvm.MethodName) ({ cls := "ElasticTruss", name := "residual", desc := "(IIZ)I" } : Jvm.MethodName)) ∈ lw_all := lw_g (lw_at lw_m13 232 rfl) rfl
theorem q3214 : (Jvm.Cond.code ({ cls := "ElasticTruss", name := "residual", desc := "(IIZ)I" } : Jvm.MethodName) prog_1_method_30_code (5 : Nat) (Option.some Jvm.ClassFile.FieldType.int)) ∈ lw_all := lw_g (lw_at lw_m13 233 rfl) rfl
theorem q3215 : (Jvm.Cond.methodLink "ElasticTruss" (233 : Nat) ({ cls := "ElasticTruss$Relaxation", name := "balance", desc := "(II)V" } : Jvm.MethodName)) ∈ lw_all := lw_g (lw_at lw_m13 234 rfl) rfl
theorem q3220 : (Jvm.Cond.instanceMethod ({ cls := "ElasticTruss", name := "buckling", desc := "(I)I" } : Jvm.MethodName)) ∈ lw_all := lw_g (lw_at lw_m13 239 rfl) rfl
theorem q3221 : (Jvm.Cond.selects "ElasticTruss" ({ cls := "ElasticTruss", name := "buckling", desc := "(I)I" } : Jvm.MethodName) ({ cls := "ElasticTruss", name := "buckling", desc := "(I)I" } : Jvm.MethodName)) ∈ lw_all := lw_g (lw_at lw_m14 0 rfl) rfl
theorem q3222 : (Jvm.Cond.code ({ cls := "ElasticTruss", name := "buckling", desc := "(I)I" } : Jvm.MethodName) prog_1_method_31_code (2 : Nat) (Option.some Jvm.ClassFile.FieldType.int)) ∈ lw_all := lw_g (lw_at lw_m14 1 rfl) rfl
theorem q3223 : (Jvm.Cond.methodLink "ElasticTruss" (242 : Nat) ({ cls := "ElasticTruss$Truss", name := "bucklingOf", desc := "(LElasticTruss$Member;)I" } : Jvm.MethodName)) ∈ lw_all := lw_g (lw_at lw_m14 2 rfl) rfl
theorem q3228 : (Jvm.Cond.instanceMethod ({ cls := "ElasticTruss", name := "capacity", desc := "(IZ)I" } : Jvm.MethodName)) ∈ lw_all := lw_g (lw_at lw_m14 7 rfl) rfl
theorem q3229 : (Jvm.Cond.selects "ElasticTruss" ({ cls := "ElasticTruss", name := "capacity", desc := "(IZ)I" } : Jvm.MethodName) ({ cls := "ElasticTruss", name := "capacity", desc := "(IZ)I" } : Jvm.MethodName)) ∈ lw_all := lw_g (lw_at lw_m14 8 rfl) rfl
theorem q3230 : (Jvm.Cond.code ({ cls := "ElasticTruss", name := "capacity", desc := "(IZ)I" } : Jvm.MethodName) prog_1_method_32_code (3 : Nat) (Option.some Jvm.ClassFile.FieldType.int)) ∈ lw_all := lw_g (lw_at lw_m14 9 rfl) rfl
theorem q3231 : (Jvm.Cond.methodLink "ElasticTruss" (245 : Nat) ({ cls := "ElasticTruss$Truss", name := "capacityOf", desc := "(LElasticTruss$Member;Z)I" } : Jvm.MethodName)) ∈ lw_all := lw_g (lw_at lw_m14 10 rfl) rfl
theorem q3236 : (Jvm.Cond.instanceMethod ({ cls := "ElasticTruss", name := "use", desc := "(II)I" } : Jvm.MethodName)) ∈ lw_all := lw_g (lw_at lw_m14 15 rfl) rfl
theorem q3237 : (Jvm.Cond.selects "ElasticTruss" ({ cls := "ElasticTruss", name := "use", desc := "(II)I" } : Jvm.MethodName) ({ cls := "ElasticTruss", name := "use", desc := "(II)I" } : Jvm.MethodName)) ∈ lw_all := lw_g (lw_at lw_m14 16 rfl) rfl
theorem q3238 : (Jvm.Cond.code ({ cls := "ElasticTruss", name := "use", desc := "(II)I" } : Jvm.MethodName) prog_1_method_33_code (4 : Nat) (Option.some Jvm.ClassFile.FieldType.int)) ∈ lw_all := lw_g (lw_at lw_m14 17 rfl) rfl
theorem q3243 : (Jvm.Cond.instanceMethod ({ cls := "ElasticTruss", name := "failure", desc := "(IZ)I" } : Jvm.MethodName)) ∈ lw_all := lw_g (lw_at lw_m14 22 rfl) rfl
theorem q3244 : (Jvm.Cond.selects "ElasticTruss" ({ cls := "ElasticTruss", name := "failure", desc := "(IZ)I" } : Jvm.MethodName) ({ cls := "ElasticTruss", name := "failure", desc := "(IZ)I" } : Jvm.MethodName)) ∈ lw_all := lw_g (lw_at lw_m14 23 rfl) rfl
theorem q3245 : (Jvm.Cond.code ({ cls := "ElasticTruss", name := "failure", desc := "(IZ)I" } : Jvm.MethodName) prog_1_method_36_code (7 : Nat) (Option.some Jvm.ClassFile.FieldType.int)) ∈ lw_all := lw_g (lw_at lw_m14 24 rfl) rfl
theorem q3246 : (Jvm.Cond.classLink "ElasticTruss" (263 : Nat) "ElasticTruss$Failure") ∈ lw_all := lw_g (lw_at lw_m14 25 rfl) rfl
theorem q3251 : (Jvm.Cond.instanceMethod ({ cls := "ElasticTruss", name := "isRemovable", desc := "(I)Z" } : Jvm.MethodName)) ∈ lw_all := lw_g (lw_at lw_m14 30 rfl) rfl
theorem q3252 : (Jvm.Cond.selects "ElasticTruss" ({ cls := "ElasticTruss", name := "isRemovable", desc := "(I)Z" } : Jvm.MethodName) ({ cls := "ElasticTruss", name := "isRemovable", desc := "(I)Z" } : Jvm.MethodName)) ∈ lw_all := lw_g (lw_at lw_m14 31 rfl) rfl
theorem q3253 : (Jvm.Cond.code ({ cls := "ElasticTruss", name := "isRemovable", desc := "(I)Z" } : Jvm.MethodName) prog_1_method_37_code (4 : Nat) (Option.some Jvm.ClassFile.FieldType.boolean)) ∈ lw_all := lw_g (lw_at lw_m14 32 rfl) rfl
theorem q3254 : (Jvm.Cond.methodLink "ElasticTruss" (274 : Nat) ({ cls := "ElasticTruss$Truss", name := "remove", desc := "(LElasticTruss$Member;)V" } : Jvm.MethodName)) ∈ lw_all := lw_g (lw_at lw_m14 33 rfl) rfl
theorem q3286 : (Jvm.Cond.methodLink "ElasticTruss" (278 : Nat) ({ cls := "ElasticTruss$Truss", name := "bearsLoads", desc := "()Z" } : Jvm.MethodName)) ∈ lw_all := lw_g (lw_at lw_m14 65 rfl) rfl
theorem q3294 : (Jvm.Cond.instanceMethod ({ cls := "ElasticTruss", name := "smallestArea", desc := "(I)I" } : Jvm.MethodName)) ∈ lw_all := lw_g (lw_at lw_m14 73 rfl) rfl
theorem q3295 : (Jvm.Cond.selects "ElasticTruss" ({ cls := "ElasticTruss", name := "smallestArea", desc := "(I)I" } : Jvm.MethodName) ({ cls := "ElasticTruss", name := "smallestArea", desc := "(I)I" } : Jvm.MethodName)) ∈ lw_all := lw_g (lw_at lw_m14 74 rfl) rfl
theorem q3296 : (Jvm.Cond.code ({ cls := "ElasticTruss", name := "smallestArea", desc := "(I)I" } : Jvm.MethodName) prog_1_method_38_code (2 : Nat) (Option.some Jvm.ClassFile.FieldType.int)) ∈ lw_all := lw_g (lw_at lw_m14 75 rfl) rfl
theorem q3301 : (Jvm.Cond.instanceMethod ({ cls := "ElasticTruss", name := "setArea", desc := "(II)I" } : Jvm.MethodName)) ∈ lw_all := lw_g (lw_at lw_m14 80 rfl) rfl
theorem q3302 : (Jvm.Cond.selects "ElasticTruss" ({ cls := "ElasticTruss", name := "setArea", desc := "(II)I" } : Jvm.MethodName) ({ cls := "ElasticTruss", name := "setArea", desc := "(II)I" } : Jvm.MethodName)) ∈ lw_all := lw_g (lw_at lw_m14 81 rfl) rfl
theorem q3303 : (Jvm.Cond.code ({ cls := "ElasticTruss", name := "setArea", desc := "(II)I" } : Jvm.MethodName) prog_1_method_39_code (3 : Nat) (Option.some Jvm.ClassFile.FieldType.int)) ∈ lw_all := lw_g (lw_at lw_m14 82 rfl) rfl
theorem q3304 : (Jvm.Cond.constantLong "ElasticTruss" (285 : Nat) (50 : Int64)) ∈ lw_all := lw_g (lw_at lw_m14 83 rfl) rfl
theorem q3310 : (Jvm.Cond.instanceMethod ({ cls := "ElasticTruss", name := "addMember", desc := "(III)I" } : Jvm.MethodName)) ∈ lw_all := lw_g (lw_at lw_m14 89 rfl) rfl
theorem q3311 : (Jvm.Cond.selects "ElasticTruss" ({ cls := "ElasticTruss", name := "addMember", desc := "(III)I" } : Jvm.MethodName) ({ cls := "ElasticTruss", name := "addMember", desc := "(III)I" } : Jvm.MethodName)) ∈ lw_all := lw_g (lw_at lw_m14 90 rfl) rfl
theorem q3312 : (Jvm.Cond.code ({ cls := "ElasticTruss", name := "addMember", desc := "(III)I" } : Jvm.MethodName) prog_1_method_40_code (4 : Nat) (Option.some Jvm.ClassFile.FieldType.int)) ∈ lw_all := lw_g (lw_at lw_m14 91 rfl) rfl
theorem q3313 : (Jvm.Cond.methodLink "ElasticTruss" (287 : Nat) ({ cls := "ElasticTruss$Truss", name := "isJoined", desc := "(II)Z" } : Jvm.MethodName)) ∈ lw_all := lw_g (lw_at lw_m14 92 rfl) rfl
theorem q3314 : (Jvm.Cond.methodLink "ElasticTruss" (291 : Nat) ({ cls := "ElasticTruss", name := "checkState", desc := "(Z)V" } : Jvm.MethodName)) ∈ lw_all := lw_g (lw_at lw_m14 93 rfl) rfl
theorem q3315 : (Jvm.Cond.static ({ cls := "ElasticTruss", name := "checkState", desc := "(Z)V" } : Jvm.MethodName)) ∈ lw_all := lw_g (lw_at lw_m14 94 rfl) rfl
theorem q3316 : (Jvm.Cond.code ({ cls := "ElasticTruss", name := "checkState", desc := "(Z)V" } : Jvm.MethodName) prog_1_method_9_code (1 : Nat) (Option.none : Option Jvm.ClassFile.FieldType)) ∈ lw_all := lw_g (lw_at lw_m14 95 rfl) rfl
theorem q3317 : (Jvm.Cond.classLink "ElasticTruss" (63 : Nat) "java/lang/IllegalStateException") ∈ lw_all := lw_g (lw_at lw_m14 96 rfl) rfl
theorem q3318 : (Jvm.Cond.methodLink "ElasticTruss" (65 : Nat) ({ cls := "java/lang/IllegalStateException", name := "<init>", desc := "()V" } : Jvm.MethodName)) ∈ lw_all := lw_g (lw_at lw_m14 97 rfl) rfl
theorem q3322 : (Jvm.Cond.methodLink "ElasticTruss" (294 : Nat) ({ cls := "ElasticTruss$Truss", name := "join", desc := "(III)V" } : Jvm.MethodName)) ∈ lw_all := lw_g (lw_at lw_m14 101 rfl) rfl
theorem q3327 : (Jvm.Cond.instanceMethod ({ cls := "ElasticTruss", name := "removeMember", desc := "(I)I" } : Jvm.MethodName)) ∈ lw_all := lw_g (lw_at lw_m14 106 rfl) rfl
theorem q3328 : (Jvm.Cond.selects "ElasticTruss" ({ cls := "ElasticTruss", name := "removeMember", desc := "(I)I" } : Jvm.MethodName) ({ cls := "ElasticTruss", name := "removeMember", desc := "(I)I" } : Jvm.MethodName)) ∈ lw_all := lw_g (lw_at lw_m14 107 rfl) rfl
theorem q3329 : (Jvm.Cond.code ({ cls := "ElasticTruss", name := "removeMember", desc := "(I)I" } : Jvm.MethodName) prog_1_method_41_code (3 : Nat) (Option.some Jvm.ClassFile.FieldType.int)) ∈ lw_all := lw_g (lw_at lw_m14 108 rfl) rfl
theorem q3334 : (Jvm.Cond.instanceMethod ({ cls := "ElasticTruss", name := "prune", desc := "()I" } : Jvm.MethodName)) ∈ lw_all := lw_g (lw_at lw_m14 113 rfl) rfl
theorem q3335 : (Jvm.Cond.selects "ElasticTruss" ({ cls := "ElasticTruss", name := "prune", desc := "()I" } : Jvm.MethodName) ({ cls := "ElasticTruss", name := "prune", desc := "()I" } : Jvm.MethodName)) ∈ lw_all := lw_g (lw_at lw_m14 114 rfl) rfl
theorem q3336 : (Jvm.Cond.code ({ cls := "ElasticTruss", name := "prune", desc := "()I" } : Jvm.MethodName) prog_1_method_42_code (6 : Nat) (Option.some Jvm.ClassFile.FieldType.int)) ∈ lw_all := lw_g (lw_at lw_m14 115 rfl) rfl
theorem q3341 : (Jvm.Cond.instanceMethod ({ cls := "ElasticTruss", name := "shrink", desc := "(I)I" } : Jvm.MethodName)) ∈ lw_all := lw_g (lw_at lw_m14 120 rfl) rfl
theorem q3342 : (Jvm.Cond.selects "ElasticTruss" ({ cls := "ElasticTruss", name := "shrink", desc := "(I)I" } : Jvm.MethodName) ({ cls := "ElasticTruss", name := "shrink", desc := "(I)I" } : Jvm.MethodName)) ∈ lw_all := lw_g (lw_at lw_m14 121 rfl) rfl
theorem q3343 : (Jvm.Cond.code ({ cls := "ElasticTruss", name := "shrink", desc := "(I)I" } : Jvm.MethodName) prog_1_method_43_code (4 : Nat) (Option.some Jvm.ClassFile.FieldType.int)) ∈ lw_all := lw_g (lw_at lw_m14 122 rfl) rfl
theorem q3344 : (Jvm.Cond.methodLink "ElasticTruss" (298 : Nat) ({ cls := "ElasticTruss", name := "smallestArea", desc := "(I)I" } : Jvm.MethodName)) ∈ lw_all := lw_g (lw_at lw_m14 123 rfl) rfl
theorem q3847 : (Jvm.Cond.castable "ElasticTruss" "java/lang/Object") ∈ lw_tbl := lw_at lw_m16 146 rfl
theorem in_X1 : ∀ w ∈ wsX10, w ∈ lw_all := lw_in wsX10 [678, 680, 682, 684, 686] (by decide +kernel) (by decide +kernel)

-- X2.ElasticTruss_Truss.lean.txt
/-! ElasticTruss$Truss -/
set_option maxRecDepth 100000
def RX2 : String := "ElasticTruss$Truss"
def TX2 : u_T := fun k => match k with
  | 0 => ("ElasticTruss$Truss", "modulus", "I", true)
  | 1 => ("ElasticTruss$Truss", "strength", "I", true)
  | 2 => ("ElasticTruss$Truss", "sweeps", "I", true)
  | 3 => ("ElasticTruss$Truss", "nodes", "Ljava/util/List;", false)
  | 4 => ("ElasticTruss$Truss", "loads", "Ljava/util/List;", false)
  | 5 => ("ElasticTruss$Truss", "buckling", "LElasticTruss$Quantity;", false)
  | 6 => ("ElasticTruss$Truss", "areas", "[I", false)
  | 7 => ("ElasticTruss$Truss", "groupCount", "I", false)
  | _ => ("ElasticTruss$Truss", "members", "Ljava/util/Map;", true)
def tyX2 : Nat → FieldType := fun k => match k with
  | 0 => .int
  | 1 => .int
  | 2 => .int
  | 3 => .object "java/util/List"
  | 4 => .object "java/util/List"
  | 5 => .object "ElasticTruss$Quantity"
  | 6 => .array .int
  | 7 => .int
  | _ => .object "java/util/Map"
abbrev wsX20 : List Cond := u_ws RX2 TX2 9
theorem nmX2 : ∀ a, a < 9 → ∀ b, b < 9 → a ≠ b → (TX2 a).2.1 ≠ (TX2 b).2.1 := by decide +kernel
theorem tyX2_ok : ∀ k, k < 9 → parseFieldDescriptor (TX2 k).2.2.1 = some (tyX2 k) := by decide +kernel
abbrev cX2_init : ByteArray := prog_18_method_1_code
def yX2_init : MethodName := ⟨RX2, "<init>", "()V"⟩
def dkwX2_init_0 : List UInt8 := [42, 3, 3, 3, 183, 0, 3, 177]
abbrev dktX2_init_0 : List UInt8 := dkwX2_init_0 ++ []
theorem dksX2_init_0 : cX2_init.data.toList.drop 0 = dktX2_init_0 := by decide +kernel
theorem dX2_init_0 : decode cX2_init 0 = .ok (.aload_n 0, 1) := dk_42 (dk_at dksX2_init_0 0 rfl rfl)
theorem dX2_init_1 : decode cX2_init 1 = .ok (.iconst 0, 1) := dk_3 (dk_at dksX2_init_0 1 rfl rfl)
theorem dX2_init_2 : decode cX2_init 2 = .ok (.iconst 0, 1) := dk_3 (dk_at dksX2_init_0 2 rfl rfl)
theorem dX2_init_3 : decode cX2_init 3 = .ok (.iconst 0, 1) := dk_3 (dk_at dksX2_init_0 3 rfl rfl)
theorem dX2_init_4 : decode cX2_init 4 = .ok (.invokespecial 3, 3) := dk_183 0 3 (dk_at dksX2_init_0 4 rfl rfl)
theorem dX2_init_7 : decode cX2_init 7 = .ok (.return_, 1) := dk_177 (dk_at dksX2_init_0 7 rfl rfl)
abbrev cX2_init_2 : ByteArray := prog_18_method_2_code
def yX2_init_2 : MethodName := ⟨RX2, "<init>", "(III)V"⟩
def dkwX2_init_2_3 : List UInt8 := [177]
abbrev dktX2_init_2_3 : List UInt8 := dkwX2_init_2_3 ++ []
def dkwX2_init_2_2 : List UInt8 := [42, 186, 0, 37, 0, 0, 181, 0, 41, 42, 27, 181, 0, 45, 42, 28, 181, 0, 49, 42, 29, 181, 0, 52]
abbrev dktX2_init_2_2 : List UInt8 := dkwX2_init_2_2 ++ dktX2_init_2_3
def dkwX2_init_2_1 : List UInt8 := [183, 0, 16, 181, 0, 23, 42, 8, 188, 10, 181, 0, 26, 42, 187, 0, 30, 89, 183, 0, 32, 181, 0, 33]
abbrev dktX2_init_2_1 : List UInt8 := dkwX2_init_2_1 ++ dktX2_init_2_2
def dkwX2_init_2_0 : List UInt8 := [42, 183, 0, 9, 42, 187, 0, 14, 89, 16, 8, 183, 0, 16, 181, 0, 19, 42, 187, 0, 14, 89, 7]
abbrev dktX2_init_2_0 : List UInt8 := dkwX2_init_2_0 ++ dktX2_init_2_1
theorem dksX2_init_2_0 : cX2_init_2.data.toList.drop 0 = dktX2_init_2_0 := by decide +kernel
theorem dksX2_init_2_1 : cX2_init_2.data.toList.drop 23 = dktX2_init_2_1 := dk_seg dksX2_init_2_0 23 rfl rfl
theorem dksX2_init_2_2 : cX2_init_2.data.toList.drop 47 = dktX2_init_2_2 := dk_seg dksX2_init_2_1 24 rfl rfl
theorem dksX2_init_2_3 : cX2_init_2.data.toList.drop 71 = dktX2_init_2_3 := dk_seg dksX2_init_2_2 24 rfl rfl
theorem dX2_init_2_0 : decode cX2_init_2 0 = .ok (.aload_n 0, 1) := dk_42 (dk_at dksX2_init_2_0 0 rfl rfl)
theorem dX2_init_2_1 : decode cX2_init_2 1 = .ok (.invokespecial 9, 3) := dk_183 0 9 (dk_at dksX2_init_2_0 1 rfl rfl)
theorem dX2_init_2_4 : decode cX2_init_2 4 = .ok (.aload_n 0, 1) := dk_42 (dk_at dksX2_init_2_0 4 rfl rfl)
theorem dX2_init_2_5 : decode cX2_init_2 5 = .ok (.new 14, 3) := dk_187 0 14 (dk_at dksX2_init_2_0 5 rfl rfl)
theorem dX2_init_2_8 : decode cX2_init_2 8 = .ok (.dup, 1) := dk_89 (dk_at dksX2_init_2_0 8 rfl rfl)
theorem dX2_init_2_9 : decode cX2_init_2 9 = .ok (.bipush 8, 2) := dk_16 8 (dk_at dksX2_init_2_0 9 rfl rfl)
theorem dX2_init_2_11 : decode cX2_init_2 11 = .ok (.invokespecial 16, 3) := dk_183 0 16 (dk_at dksX2_init_2_0 11 rfl rfl)
theorem dX2_init_2_14 : decode cX2_init_2 14 = .ok (.putfield 19, 3) := dk_181 0 19 (dk_at dksX2_init_2_0 14 rfl rfl)
theorem dX2_init_2_17 : decode cX2_init_2 17 = .ok (.aload_n 0, 1) := dk_42 (dk_at dksX2_init_2_0 17 rfl rfl)
theorem dX2_init_2_18 : decode cX2_init_2 18 = .ok (.new 14, 3) := dk_187 0 14 (dk_at dksX2_init_2_0 18 rfl rfl)
theorem dX2_init_2_21 : decode cX2_init_2 21 = .ok (.dup, 1) := dk_89 (dk_at dksX2_init_2_0 21 rfl rfl)
theorem dX2_init_2_22 : decode cX2_init_2 22 = .ok (.iconst 4, 1) := dk_7 (dk_at dksX2_init_2_0 22 rfl rfl)
theorem dX2_init_2_23 : decode cX2_init_2 23 = .ok (.invokespecial 16, 3) := dk_183 0 16 (dk_at dksX2_init_2_1 0 rfl rfl)
theorem dX2_init_2_26 : decode cX2_init_2 26 = .ok (.putfield 23, 3) := dk_181 0 23 (dk_at dksX2_init_2_1 3 rfl rfl)
theorem dX2_init_2_29 : decode cX2_init_2 29 = .ok (.aload_n 0, 1) := dk_42 (dk_at dksX2_init_2_1 6 rfl rfl)
theorem dX2_init_2_30 : decode cX2_init_2 30 = .ok (.iconst 5, 1) := dk_8 (dk_at dksX2_init_2_1 7 rfl rfl)
theorem dX2_init_2_31 : decode cX2_init_2 31 = .ok (.newarray .int, 2) := dk_188_10 (dk_at dksX2_init_2_1 8 rfl rfl)
theorem dX2_init_2_33 : decode cX2_init_2 33 = .ok (.putfield 26, 3) := dk_181 0 26 (dk_at dksX2_init_2_1 10 rfl rfl)
theorem dX2_init_2_36 : decode cX2_init_2 36 = .ok (.aload_n 0, 1) := dk_42 (dk_at dksX2_init_2_1 13 rfl rfl)
theorem dX2_init_2_37 : decode cX2_init_2 37 = .ok (.new 30, 3) := dk_187 0 30 (dk_at dksX2_init_2_1 14 rfl rfl)
theorem dX2_init_2_40 : decode cX2_init_2 40 = .ok (.dup, 1) := dk_89 (dk_at dksX2_init_2_1 17 rfl rfl)
theorem dX2_init_2_41 : decode cX2_init_2 41 = .ok (.invokespecial 32, 3) := dk_183 0 32 (dk_at dksX2_init_2_1 18 rfl rfl)
theorem dX2_init_2_44 : decode cX2_init_2 44 = .ok (.putfield 33, 3) := dk_181 0 33 (dk_at dksX2_init_2_1 21 rfl rfl)
theorem dX2_init_2_47 : decode cX2_init_2 47 = .ok (.aload_n 0, 1) := dk_42 (dk_at dksX2_init_2_2 0 rfl rfl)
theorem dX2_init_2_48 : decode cX2_init_2 48 = .ok (.invokedynamic 37, 5) := by decide +kernel
theorem dX2_init_2_53 : decode cX2_init_2 53 = .ok (.putfield 41, 3) := dk_181 0 41 (dk_at dksX2_init_2_2 6 rfl rfl)
theorem dX2_init_2_56 : decode cX2_init_2 56 = .ok (.aload_n 0, 1) := dk_42 (dk_at dksX2_init_2_2 9 rfl rfl)
theorem dX2_init_2_57 : decode cX2_init_2 57 = .ok (.iload_n 1, 1) := dk_27 (dk_at dksX2_init_2_2 10 rfl rfl)
theorem dX2_init_2_58 : decode cX2_init_2 58 = .ok (.putfield 45, 3) := dk_181 0 45 (dk_at dksX2_init_2_2 11 rfl rfl)
theorem dX2_init_2_61 : decode cX2_init_2 61 = .ok (.aload_n 0, 1) := dk_42 (dk_at dksX2_init_2_2 14 rfl rfl)
theorem dX2_init_2_62 : decode cX2_init_2 62 = .ok (.iload_n 2, 1) := dk_28 (dk_at dksX2_init_2_2 15 rfl rfl)
theorem dX2_init_2_63 : decode cX2_init_2 63 = .ok (.putfield 49, 3) := dk_181 0 49 (dk_at dksX2_init_2_2 16 rfl rfl)
theorem dX2_init_2_66 : decode cX2_init_2 66 = .ok (.aload_n 0, 1) := dk_42 (dk_at dksX2_init_2_2 19 rfl rfl)
theorem dX2_init_2_67 : decode cX2_init_2 67 = .ok (.iload_n 3, 1) := dk_29 (dk_at dksX2_init_2_2 20 rfl rfl)
theorem dX2_init_2_68 : decode cX2_init_2 68 = .ok (.putfield 52, 3) := dk_181 0 52 (dk_at dksX2_init_2_2 21 rfl rfl)
theorem dX2_init_2_71 : decode cX2_init_2 71 = .ok (.return_, 1) := dk_177 (dk_at dksX2_init_2_3 0 rfl rfl)
abbrev cX2_lambda_new_0 : ByteArray := prog_18_method_17_code
def yX2_lambda_new_0 : MethodName := ⟨RX2, "lambda$new$0", "(LElasticTruss$Member;II)J"⟩
theorem dX2_lambda_new_0_0 : decode cX2_lambda_new_0 0 = .ok (.ldc2_w 156, 3) := by decide +kernel
theorem dX2_lambda_new_0_3 : decode cX2_lambda_new_0 3 = .ok (.lreturn, 1) := by decide +kernel
abbrev cX2_countStages : ByteArray := prog_18_method_8_code
def yX2_countStages : MethodName := ⟨RX2, "countStages", "()I"⟩
def dkwX2_countStages_2 : List UInt8 := [172]
abbrev dktX2_countStages_2 : List UInt8 := dkwX2_countStages_2 ++ []
def dkwX2_countStages_1 : List UInt8 := [185, 0, 121, 1, 0, 192, 0, 135, 78, 27, 45, 182, 0, 137, 4, 96, 184, 0, 140, 60, 167, 255, 226, 27]
abbrev dktX2_countStages_1 : List UInt8 := dkwX2_countStages_1 ++ dktX2_countStages_2
def dkwX2_countStages_0 : List UInt8 := [3, 60, 42, 180, 0, 23, 185, 0, 134, 1, 0, 77, 44, 185, 0, 115, 1, 0, 153, 0, 27, 44]
abbrev dktX2_countStages_0 : List UInt8 := dkwX2_countStages_0 ++ dktX2_countStages_1
theorem dksX2_countStages_0 : cX2_countStages.data.toList.drop 0 = dktX2_countStages_0 := by decide +kernel
theorem dksX2_countStages_1 : cX2_countStages.data.toList.drop 22 = dktX2_countStages_1 := dk_seg dksX2_countStages_0 22 rfl rfl
theorem dksX2_countStages_2 : cX2_countStages.data.toList.drop 46 = dktX2_countStages_2 := dk_seg dksX2_countStages_1 24 rfl rfl
theorem dX2_countStages_0 : decode cX2_countStages 0 = .ok (.iconst 0, 1) := dk_3 (dk_at dksX2_countStages_0 0 rfl rfl)
theorem dX2_countStages_1 : decode cX2_countStages 1 = .ok (.istore_n 1, 1) := dk_60 (dk_at dksX2_countStages_0 1 rfl rfl)
theorem dX2_countStages_2 : decode cX2_countStages 2 = .ok (.aload_n 0, 1) := dk_42 (dk_at dksX2_countStages_0 2 rfl rfl)
theorem dX2_countStages_3 : decode cX2_countStages 3 = .ok (.getfield 23, 3) := dk_180 0 23 (dk_at dksX2_countStages_0 3 rfl rfl)
theorem dX2_countStages_6 : decode cX2_countStages 6 = .ok (.invokeinterface 134 1, 5) := by decide +kernel
theorem dX2_countStages_11 : decode cX2_countStages 11 = .ok (.astore_n 2, 1) := dk_77 (dk_at dksX2_countStages_0 11 rfl rfl)
theorem dX2_countStages_12 : decode cX2_countStages 12 = .ok (.aload_n 2, 1) := dk_44 (dk_at dksX2_countStages_0 12 rfl rfl)
theorem dX2_countStages_13 : decode cX2_countStages 13 = .ok (.invokeinterface 115 1, 5) := by decide +kernel
theorem dX2_countStages_18 : decode cX2_countStages 18 = .ok (.ifCond .eq 27, 3) := dk_153 0 27 (dk_at dksX2_countStages_0 18 rfl rfl)
theorem dX2_countStages_21 : decode cX2_countStages 21 = .ok (.aload_n 2, 1) := dk_44 (dk_at dksX2_countStages_0 21 rfl rfl)
theorem dX2_countStages_22 : decode cX2_countStages 22 = .ok (.invokeinterface 121 1, 5) := by decide +kernel
theorem dX2_countStages_27 : decode cX2_countStages 27 = .ok (.checkcast 135, 3) := dk_192 0 135 (dk_at dksX2_countStages_1 5 rfl rfl)
theorem dX2_countStages_30 : decode cX2_countStages 30 = .ok (.astore_n 3, 1) := dk_78 (dk_at dksX2_countStages_1 8 rfl rfl)
theorem dX2_countStages_31 : decode cX2_countStages 31 = .ok (.iload_n 1, 1) := dk_27 (dk_at dksX2_countStages_1 9 rfl rfl)
theorem dX2_countStages_32 : decode cX2_countStages 32 = .ok (.aload_n 3, 1) := dk_45 (dk_at dksX2_countStages_1 10 rfl rfl)
theorem dX2_countStages_33 : decode cX2_countStages 33 = .ok (.invokevirtual 137, 3) := dk_182 0 137 (dk_at dksX2_countStages_1 11 rfl rfl)
theorem dX2_countStages_36 : decode cX2_countStages 36 = .ok (.iconst 1, 1) := dk_4 (dk_at dksX2_countStages_1 14 rfl rfl)
theorem dX2_countStages_37 : decode cX2_countStages 37 = .ok (.iadd, 1) := dk_96 (dk_at dksX2_countStages_1 15 rfl rfl)
theorem dX2_countStages_38 : decode cX2_countStages 38 = .ok (.invokestatic 140, 3) := dk_184 0 140 (dk_at dksX2_countStages_1 16 rfl rfl)
theorem dX2_countStages_41 : decode cX2_countStages 41 = .ok (.istore_n 1, 1) := dk_60 (dk_at dksX2_countStages_1 19 rfl rfl)
theorem dX2_countStages_42 : decode cX2_countStages 42 = .ok (.goto (-30), 3) := dk_167 255 226 (dk_at dksX2_countStages_1 20 rfl rfl)
theorem dX2_countStages_45 : decode cX2_countStages 45 = .ok (.iload_n 1, 1) := dk_27 (dk_at dksX2_countStages_1 23 rfl rfl)
theorem dX2_countStages_46 : decode cX2_countStages 46 = .ok (.ireturn, 1) := dk_172 (dk_at dksX2_countStages_2 0 rfl rfl)
abbrev cX2_weightOf : ByteArray := prog_18_method_10_code
def yX2_weightOf : MethodName := ⟨RX2, "weightOf", "()I"⟩
def dkwX2_weightOf_2 : List UInt8 := [96, 60, 167, 255, 224, 27, 172]
abbrev dktX2_weightOf_2 : List UInt8 := dkwX2_weightOf_2 ++ []
def dkwX2_weightOf_1 : List UInt8 := [153, 0, 29, 44, 185, 0, 121, 1, 0, 192, 0, 82, 78, 27, 42, 45, 182, 0, 149, 45, 180, 0, 153, 104]
abbrev dktX2_weightOf_1 : List UInt8 := dkwX2_weightOf_1 ++ dktX2_weightOf_2
def dkwX2_weightOf_0 : List UInt8 := [3, 60, 42, 180, 0, 33, 185, 0, 105, 1, 0, 185, 0, 109, 1, 0, 77, 44, 185, 0, 115, 1, 0]
abbrev dktX2_weightOf_0 : List UInt8 := dkwX2_weightOf_0 ++ dktX2_weightOf_1
theorem dksX2_weightOf_0 : cX2_weightOf.data.toList.drop 0 = dktX2_weightOf_0 := by decide +kernel
theorem dksX2_weightOf_1 : cX2_weightOf.data.toList.drop 23 = dktX2_weightOf_1 := dk_seg dksX2_weightOf_0 23 rfl rfl
theorem dksX2_weightOf_2 : cX2_weightOf.data.toList.drop 47 = dktX2_weightOf_2 := dk_seg dksX2_weightOf_1 24 rfl rfl
theorem dX2_weightOf_0 : decode cX2_weightOf 0 = .ok (.iconst 0, 1) := dk_3 (dk_at dksX2_weightOf_0 0 rfl rfl)
theorem dX2_weightOf_1 : decode cX2_weightOf 1 = .ok (.istore_n 1, 1) := dk_60 (dk_at dksX2_weightOf_0 1 rfl rfl)
theorem dX2_weightOf_2 : decode cX2_weightOf 2 = .ok (.aload_n 0, 1) := dk_42 (dk_at dksX2_weightOf_0 2 rfl rfl)
theorem dX2_weightOf_3 : decode cX2_weightOf 3 = .ok (.getfield 33, 3) := dk_180 0 33 (dk_at dksX2_weightOf_0 3 rfl rfl)
theorem dX2_weightOf_6 : decode cX2_weightOf 6 = .ok (.invokeinterface 105 1, 5) := by decide +kernel
theorem dX2_weightOf_11 : decode cX2_weightOf 11 = .ok (.invokeinterface 109 1, 5) := by decide +kernel
theorem dX2_weightOf_16 : decode cX2_weightOf 16 = .ok (.astore_n 2, 1) := dk_77 (dk_at dksX2_weightOf_0 16 rfl rfl)
theorem dX2_weightOf_17 : decode cX2_weightOf 17 = .ok (.aload_n 2, 1) := dk_44 (dk_at dksX2_weightOf_0 17 rfl rfl)
theorem dX2_weightOf_18 : decode cX2_weightOf 18 = .ok (.invokeinterface 115 1, 5) := by decide +kernel
theorem dX2_weightOf_23 : decode cX2_weightOf 23 = .ok (.ifCond .eq 29, 3) := dk_153 0 29 (dk_at dksX2_weightOf_1 0 rfl rfl)
theorem dX2_weightOf_26 : decode cX2_weightOf 26 = .ok (.aload_n 2, 1) := dk_44 (dk_at dksX2_weightOf_1 3 rfl rfl)
theorem dX2_weightOf_27 : decode cX2_weightOf 27 = .ok (.invokeinterface 121 1, 5) := by decide +kernel
theorem dX2_weightOf_32 : decode cX2_weightOf 32 = .ok (.checkcast 82, 3) := dk_192 0 82 (dk_at dksX2_weightOf_1 9 rfl rfl)
theorem dX2_weightOf_35 : decode cX2_weightOf 35 = .ok (.astore_n 3, 1) := dk_78 (dk_at dksX2_weightOf_1 12 rfl rfl)
theorem dX2_weightOf_36 : decode cX2_weightOf 36 = .ok (.iload_n 1, 1) := dk_27 (dk_at dksX2_weightOf_1 13 rfl rfl)
theorem dX2_weightOf_37 : decode cX2_weightOf 37 = .ok (.aload_n 0, 1) := dk_42 (dk_at dksX2_weightOf_1 14 rfl rfl)
theorem dX2_weightOf_38 : decode cX2_weightOf 38 = .ok (.aload_n 3, 1) := dk_45 (dk_at dksX2_weightOf_1 15 rfl rfl)
theorem dX2_weightOf_39 : decode cX2_weightOf 39 = .ok (.invokevirtual 149, 3) := dk_182 0 149 (dk_at dksX2_weightOf_1 16 rfl rfl)
theorem dX2_weightOf_42 : decode cX2_weightOf 42 = .ok (.aload_n 3, 1) := dk_45 (dk_at dksX2_weightOf_1 19 rfl rfl)
theorem dX2_weightOf_43 : decode cX2_weightOf 43 = .ok (.getfield 153, 3) := dk_180 0 153 (dk_at dksX2_weightOf_1 20 rfl rfl)
theorem dX2_weightOf_46 : decode cX2_weightOf 46 = .ok (.imul, 1) := dk_104 (dk_at dksX2_weightOf_1 23 rfl rfl)
theorem dX2_weightOf_47 : decode cX2_weightOf 47 = .ok (.iadd, 1) := dk_96 (dk_at dksX2_weightOf_2 0 rfl rfl)
theorem dX2_weightOf_48 : decode cX2_weightOf 48 = .ok (.istore_n 1, 1) := dk_60 (dk_at dksX2_weightOf_2 1 rfl rfl)
theorem dX2_weightOf_49 : decode cX2_weightOf 49 = .ok (.goto (-32), 3) := dk_167 255 224 (dk_at dksX2_weightOf_2 2 rfl rfl)
theorem dX2_weightOf_52 : decode cX2_weightOf 52 = .ok (.iload_n 1, 1) := dk_27 (dk_at dksX2_weightOf_2 5 rfl rfl)
theorem dX2_weightOf_53 : decode cX2_weightOf 53 = .ok (.ireturn, 1) := dk_172 (dk_at dksX2_weightOf_2 6 rfl rfl)
abbrev cX2_areaOf : ByteArray := prog_18_method_9_code
def yX2_areaOf : MethodName := ⟨RX2, "areaOf", "(LElasticTruss$Member;)I"⟩
def dkwX2_areaOf_0 : List UInt8 := [42, 180, 0, 26, 43, 180, 0, 146, 46, 172]
abbrev dktX2_areaOf_0 : List UInt8 := dkwX2_areaOf_0 ++ []
theorem dksX2_areaOf_0 : cX2_areaOf.data.toList.drop 0 = dktX2_areaOf_0 := by decide +kernel
theorem dX2_areaOf_0 : decode cX2_areaOf 0 = .ok (.aload_n 0, 1) := dk_42 (dk_at dksX2_areaOf_0 0 rfl rfl)
theorem dX2_areaOf_1 : decode cX2_areaOf 1 = .ok (.getfield 26, 3) := dk_180 0 26 (dk_at dksX2_areaOf_0 1 rfl rfl)
theorem dX2_areaOf_4 : decode cX2_areaOf 4 = .ok (.aload_n 1, 1) := dk_43 (dk_at dksX2_areaOf_0 4 rfl rfl)
theorem dX2_areaOf_5 : decode cX2_areaOf 5 = .ok (.getfield 146, 3) := dk_180 0 146 (dk_at dksX2_areaOf_0 5 rfl rfl)
theorem dX2_areaOf_8 : decode cX2_areaOf 8 = .ok (.iaload, 1) := dk_46 (dk_at dksX2_areaOf_0 8 rfl rfl)
theorem dX2_areaOf_9 : decode cX2_areaOf 9 = .ok (.ireturn, 1) := dk_172 (dk_at dksX2_areaOf_0 9 rfl rfl)
abbrev cX2_row : ByteArray := prog_18_method_6_code
def yX2_row : MethodName := ⟨RX2, "row", "()[LElasticTruss$Member;"⟩
def dkwX2_row_2 : List UInt8 := [58, 4, 43, 28, 25, 4, 83, 132, 2, 1, 167, 255, 228, 43, 176]
abbrev dktX2_row_2 : List UInt8 := dkwX2_row_2 ++ []
def dkwX2_row_1 : List UInt8 := [185, 0, 109, 1, 0, 78, 45, 185, 0, 115, 1, 0, 153, 0, 25, 45, 185, 0, 121, 1, 0, 192, 0, 82]
abbrev dktX2_row_1 : List UInt8 := dkwX2_row_1 ++ dktX2_row_2
def dkwX2_row_0 : List UInt8 := [42, 180, 0, 33, 185, 0, 101, 1, 0, 189, 0, 82, 76, 3, 61, 42, 180, 0, 33, 185, 0, 105, 1, 0]
abbrev dktX2_row_0 : List UInt8 := dkwX2_row_0 ++ dktX2_row_1
theorem dksX2_row_0 : cX2_row.data.toList.drop 0 = dktX2_row_0 := by decide +kernel
theorem dksX2_row_1 : cX2_row.data.toList.drop 24 = dktX2_row_1 := dk_seg dksX2_row_0 24 rfl rfl
theorem dksX2_row_2 : cX2_row.data.toList.drop 48 = dktX2_row_2 := dk_seg dksX2_row_1 24 rfl rfl
theorem dX2_row_0 : decode cX2_row 0 = .ok (.aload_n 0, 1) := dk_42 (dk_at dksX2_row_0 0 rfl rfl)
theorem dX2_row_1 : decode cX2_row 1 = .ok (.getfield 33, 3) := dk_180 0 33 (dk_at dksX2_row_0 1 rfl rfl)
theorem dX2_row_4 : decode cX2_row 4 = .ok (.invokeinterface 101 1, 5) := by decide +kernel
theorem dX2_row_9 : decode cX2_row 9 = .ok (.anewarray 82, 3) := dk_189 0 82 (dk_at dksX2_row_0 9 rfl rfl)
theorem dX2_row_12 : decode cX2_row 12 = .ok (.astore_n 1, 1) := dk_76 (dk_at dksX2_row_0 12 rfl rfl)
theorem dX2_row_13 : decode cX2_row 13 = .ok (.iconst 0, 1) := dk_3 (dk_at dksX2_row_0 13 rfl rfl)
theorem dX2_row_14 : decode cX2_row 14 = .ok (.istore_n 2, 1) := dk_61 (dk_at dksX2_row_0 14 rfl rfl)
theorem dX2_row_15 : decode cX2_row 15 = .ok (.aload_n 0, 1) := dk_42 (dk_at dksX2_row_0 15 rfl rfl)
theorem dX2_row_16 : decode cX2_row 16 = .ok (.getfield 33, 3) := dk_180 0 33 (dk_at dksX2_row_0 16 rfl rfl)
theorem dX2_row_19 : decode cX2_row 19 = .ok (.invokeinterface 105 1, 5) := by decide +kernel
theorem dX2_row_24 : decode cX2_row 24 = .ok (.invokeinterface 109 1, 5) := by decide +kernel
theorem dX2_row_29 : decode cX2_row 29 = .ok (.astore_n 3, 1) := dk_78 (dk_at dksX2_row_1 5 rfl rfl)
theorem dX2_row_30 : decode cX2_row 30 = .ok (.aload_n 3, 1) := dk_45 (dk_at dksX2_row_1 6 rfl rfl)
theorem dX2_row_31 : decode cX2_row 31 = .ok (.invokeinterface 115 1, 5) := by decide +kernel
theorem dX2_row_36 : decode cX2_row 36 = .ok (.ifCond .eq 25, 3) := dk_153 0 25 (dk_at dksX2_row_1 12 rfl rfl)
theorem dX2_row_39 : decode cX2_row 39 = .ok (.aload_n 3, 1) := dk_45 (dk_at dksX2_row_1 15 rfl rfl)
theorem dX2_row_40 : decode cX2_row 40 = .ok (.invokeinterface 121 1, 5) := by decide +kernel
theorem dX2_row_45 : decode cX2_row 45 = .ok (.checkcast 82, 3) := dk_192 0 82 (dk_at dksX2_row_1 21 rfl rfl)
theorem dX2_row_48 : decode cX2_row 48 = .ok (.astore 4, 2) := dk_58 4 (dk_at dksX2_row_2 0 rfl rfl)
theorem dX2_row_50 : decode cX2_row 50 = .ok (.aload_n 1, 1) := dk_43 (dk_at dksX2_row_2 2 rfl rfl)
theorem dX2_row_51 : decode cX2_row 51 = .ok (.iload_n 2, 1) := dk_28 (dk_at dksX2_row_2 3 rfl rfl)
theorem dX2_row_52 : decode cX2_row 52 = .ok (.aload 4, 2) := dk_25 4 (dk_at dksX2_row_2 4 rfl rfl)
theorem dX2_row_54 : decode cX2_row 54 = .ok (.aastore, 1) := dk_83 (dk_at dksX2_row_2 6 rfl rfl)
theorem dX2_row_55 : decode cX2_row 55 = .ok (.iinc 2 1, 3) := dk_132 2 1 (dk_at dksX2_row_2 7 rfl rfl)
theorem dX2_row_58 : decode cX2_row 58 = .ok (.goto (-28), 3) := dk_167 255 228 (dk_at dksX2_row_2 10 rfl rfl)
theorem dX2_row_61 : decode cX2_row 61 = .ok (.aload_n 1, 1) := dk_43 (dk_at dksX2_row_2 13 rfl rfl)
theorem dX2_row_62 : decode cX2_row 62 = .ok (.areturn, 1) := dk_176 (dk_at dksX2_row_2 14 rfl rfl)
abbrev cX2_useOf : ByteArray := prog_18_method_14_code
def yX2_useOf : MethodName := ⟨RX2, "useOf", "(LElasticTruss$Member;I)I"⟩
def dkwX2_useOf_2 : List UInt8 := [184, 0, 163, 136, 172]
abbrev dktX2_useOf_2 : List UInt8 := dkwX2_useOf_2 ++ []
def dkwX2_useOf_1 : List UInt8 := [154, 0, 9, 17, 39, 15, 167, 0, 22, 20, 0, 182, 20, 0, 184, 28, 184, 0, 174, 133, 105, 29, 133, 109]
abbrev dktX2_useOf_1 : List UInt8 := dkwX2_useOf_1 ++ dktX2_useOf_2
def dkwX2_useOf_0 : List UInt8 := [28, 154, 0, 5, 3, 172, 42, 43, 28, 156, 0, 7, 4, 167, 0, 4, 3, 182, 0, 178, 62, 29]
abbrev dktX2_useOf_0 : List UInt8 := dkwX2_useOf_0 ++ dktX2_useOf_1
theorem dksX2_useOf_0 : cX2_useOf.data.toList.drop 0 = dktX2_useOf_0 := by decide +kernel
theorem dksX2_useOf_1 : cX2_useOf.data.toList.drop 22 = dktX2_useOf_1 := dk_seg dksX2_useOf_0 22 rfl rfl
theorem dksX2_useOf_2 : cX2_useOf.data.toList.drop 46 = dktX2_useOf_2 := dk_seg dksX2_useOf_1 24 rfl rfl
theorem dX2_useOf_0 : decode cX2_useOf 0 = .ok (.iload_n 2, 1) := dk_28 (dk_at dksX2_useOf_0 0 rfl rfl)
theorem dX2_useOf_1 : decode cX2_useOf 1 = .ok (.ifCond .ne 5, 3) := dk_154 0 5 (dk_at dksX2_useOf_0 1 rfl rfl)
theorem dX2_useOf_4 : decode cX2_useOf 4 = .ok (.iconst 0, 1) := dk_3 (dk_at dksX2_useOf_0 4 rfl rfl)
theorem dX2_useOf_5 : decode cX2_useOf 5 = .ok (.ireturn, 1) := dk_172 (dk_at dksX2_useOf_0 5 rfl rfl)
theorem dX2_useOf_6 : decode cX2_useOf 6 = .ok (.aload_n 0, 1) := dk_42 (dk_at dksX2_useOf_0 6 rfl rfl)
theorem dX2_useOf_7 : decode cX2_useOf 7 = .ok (.aload_n 1, 1) := dk_43 (dk_at dksX2_useOf_0 7 rfl rfl)
theorem dX2_useOf_8 : decode cX2_useOf 8 = .ok (.iload_n 2, 1) := dk_28 (dk_at dksX2_useOf_0 8 rfl rfl)
theorem dX2_useOf_9 : decode cX2_useOf 9 = .ok (.ifCond .ge 7, 3) := dk_156 0 7 (dk_at dksX2_useOf_0 9 rfl rfl)
theorem dX2_useOf_12 : decode cX2_useOf 12 = .ok (.iconst 1, 1) := dk_4 (dk_at dksX2_useOf_0 12 rfl rfl)
theorem dX2_useOf_13 : decode cX2_useOf 13 = .ok (.goto 4, 3) := dk_167 0 4 (dk_at dksX2_useOf_0 13 rfl rfl)
theorem dX2_useOf_16 : decode cX2_useOf 16 = .ok (.iconst 0, 1) := dk_3 (dk_at dksX2_useOf_0 16 rfl rfl)
theorem dX2_useOf_17 : decode cX2_useOf 17 = .ok (.invokevirtual 178, 3) := dk_182 0 178 (dk_at dksX2_useOf_0 17 rfl rfl)
theorem dX2_useOf_20 : decode cX2_useOf 20 = .ok (.istore_n 3, 1) := dk_62 (dk_at dksX2_useOf_0 20 rfl rfl)
theorem dX2_useOf_21 : decode cX2_useOf 21 = .ok (.iload_n 3, 1) := dk_29 (dk_at dksX2_useOf_0 21 rfl rfl)
theorem dX2_useOf_22 : decode cX2_useOf 22 = .ok (.ifCond .ne 9, 3) := dk_154 0 9 (dk_at dksX2_useOf_1 0 rfl rfl)
theorem dX2_useOf_25 : decode cX2_useOf 25 = .ok (.sipush 9999, 3) := dk_17 39 15 (dk_at dksX2_useOf_1 3 rfl rfl)
theorem dX2_useOf_28 : decode cX2_useOf 28 = .ok (.goto 22, 3) := dk_167 0 22 (dk_at dksX2_useOf_1 6 rfl rfl)
theorem dX2_useOf_31 : decode cX2_useOf 31 = .ok (.ldc2_w 182, 3) := dk_20 0 182 (dk_at dksX2_useOf_1 9 rfl rfl)
theorem dX2_useOf_34 : decode cX2_useOf 34 = .ok (.ldc2_w 184, 3) := dk_20 0 184 (dk_at dksX2_useOf_1 12 rfl rfl)
theorem dX2_useOf_37 : decode cX2_useOf 37 = .ok (.iload_n 2, 1) := dk_28 (dk_at dksX2_useOf_1 15 rfl rfl)
theorem dX2_useOf_38 : decode cX2_useOf 38 = .ok (.invokestatic 174, 3) := dk_184 0 174 (dk_at dksX2_useOf_1 16 rfl rfl)
theorem dX2_useOf_41 : decode cX2_useOf 41 = .ok (.i2l, 1) := dk_133 (dk_at dksX2_useOf_1 19 rfl rfl)
theorem dX2_useOf_42 : decode cX2_useOf 42 = .ok (.lmul, 1) := dk_105 (dk_at dksX2_useOf_1 20 rfl rfl)
theorem dX2_useOf_43 : decode cX2_useOf 43 = .ok (.iload_n 3, 1) := dk_29 (dk_at dksX2_useOf_1 21 rfl rfl)
theorem dX2_useOf_44 : decode cX2_useOf 44 = .ok (.i2l, 1) := dk_133 (dk_at dksX2_useOf_1 22 rfl rfl)
theorem dX2_useOf_45 : decode cX2_useOf 45 = .ok (.ldiv, 1) := dk_109 (dk_at dksX2_useOf_1 23 rfl rfl)
theorem dX2_useOf_46 : decode cX2_useOf 46 = .ok (.invokestatic 163, 3) := dk_184 0 163 (dk_at dksX2_useOf_2 0 rfl rfl)
theorem dX2_useOf_49 : decode cX2_useOf 49 = .ok (.l2i, 1) := dk_136 (dk_at dksX2_useOf_2 3 rfl rfl)
theorem dX2_useOf_50 : decode cX2_useOf 50 = .ok (.ireturn, 1) := dk_172 (dk_at dksX2_useOf_2 4 rfl rfl)
abbrev cX2_capacityOf : ByteArray := prog_18_method_12_code
def yX2_capacityOf : MethodName := ⟨RX2, "capacityOf", "(LElasticTruss$Member;Z)I"⟩
def dkwX2_capacityOf_1 : List UInt8 := [167, 0, 4, 29, 172]
abbrev dktX2_capacityOf_1 : List UInt8 := dkwX2_capacityOf_1 ++ []
def dkwX2_capacityOf_0 : List UInt8 := [42, 180, 0, 49, 42, 43, 182, 0, 149, 104, 62, 28, 153, 0, 15, 29, 42, 43, 182, 0, 169, 184, 0, 172]
abbrev dktX2_capacityOf_0 : List UInt8 := dkwX2_capacityOf_0 ++ dktX2_capacityOf_1
theorem dksX2_capacityOf_0 : cX2_capacityOf.data.toList.drop 0 = dktX2_capacityOf_0 := by decide +kernel
theorem dksX2_capacityOf_1 : cX2_capacityOf.data.toList.drop 24 = dktX2_capacityOf_1 := dk_seg dksX2_capacityOf_0 24 rfl rfl
theorem dX2_capacityOf_0 : decode cX2_capacityOf 0 = .ok (.aload_n 0, 1) := dk_42 (dk_at dksX2_capacityOf_0 0 rfl rfl)
theorem dX2_capacityOf_1 : decode cX2_capacityOf 1 = .ok (.getfield 49, 3) := dk_180 0 49 (dk_at dksX2_capacityOf_0 1 rfl rfl)
theorem dX2_capacityOf_4 : decode cX2_capacityOf 4 = .ok (.aload_n 0, 1) := dk_42 (dk_at dksX2_capacityOf_0 4 rfl rfl)
theorem dX2_capacityOf_5 : decode cX2_capacityOf 5 = .ok (.aload_n 1, 1) := dk_43 (dk_at dksX2_capacityOf_0 5 rfl rfl)
theorem dX2_capacityOf_6 : decode cX2_capacityOf 6 = .ok (.invokevirtual 149, 3) := dk_182 0 149 (dk_at dksX2_capacityOf_0 6 rfl rfl)
theorem dX2_capacityOf_9 : decode cX2_capacityOf 9 = .ok (.imul, 1) := dk_104 (dk_at dksX2_capacityOf_0 9 rfl rfl)
theorem dX2_capacityOf_10 : decode cX2_capacityOf 10 = .ok (.istore_n 3, 1) := dk_62 (dk_at dksX2_capacityOf_0 10 rfl rfl)
theorem dX2_capacityOf_11 : decode cX2_capacityOf 11 = .ok (.iload_n 2, 1) := dk_28 (dk_at dksX2_capacityOf_0 11 rfl rfl)
theorem dX2_capacityOf_12 : decode cX2_capacityOf 12 = .ok (.ifCond .eq 15, 3) := dk_153 0 15 (dk_at dksX2_capacityOf_0 12 rfl rfl)
theorem dX2_capacityOf_15 : decode cX2_capacityOf 15 = .ok (.iload_n 3, 1) := dk_29 (dk_at dksX2_capacityOf_0 15 rfl rfl)
theorem dX2_capacityOf_16 : decode cX2_capacityOf 16 = .ok (.aload_n 0, 1) := dk_42 (dk_at dksX2_capacityOf_0 16 rfl rfl)
theorem dX2_capacityOf_17 : decode cX2_capacityOf 17 = .ok (.aload_n 1, 1) := dk_43 (dk_at dksX2_capacityOf_0 17 rfl rfl)
theorem dX2_capacityOf_18 : decode cX2_capacityOf 18 = .ok (.invokevirtual 169, 3) := dk_182 0 169 (dk_at dksX2_capacityOf_0 18 rfl rfl)
theorem dX2_capacityOf_21 : decode cX2_capacityOf 21 = .ok (.invokestatic 172, 3) := dk_184 0 172 (dk_at dksX2_capacityOf_0 21 rfl rfl)
theorem dX2_capacityOf_24 : decode cX2_capacityOf 24 = .ok (.goto 4, 3) := dk_167 0 4 (dk_at dksX2_capacityOf_1 0 rfl rfl)
theorem dX2_capacityOf_27 : decode cX2_capacityOf 27 = .ok (.iload_n 3, 1) := dk_29 (dk_at dksX2_capacityOf_1 3 rfl rfl)
theorem dX2_capacityOf_28 : decode cX2_capacityOf 28 = .ok (.ireturn, 1) := dk_172 (dk_at dksX2_capacityOf_1 4 rfl rfl)
abbrev cX2_bucklingOf : ByteArray := prog_18_method_11_code
def yX2_bucklingOf : MethodName := ⟨RX2, "bucklingOf", "(LElasticTruss$Member;)I"⟩
def dkwX2_bucklingOf_1 : List UInt8 := [184, 0, 163, 184, 0, 167, 136, 172]
abbrev dktX2_bucklingOf_1 : List UInt8 := dkwX2_bucklingOf_1 ++ []
def dkwX2_bucklingOf_0 : List UInt8 := [9, 20, 0, 156, 42, 180, 0, 41, 43, 42, 43, 182, 0, 149, 42, 180, 0, 45, 185, 0, 158, 4, 0]
abbrev dktX2_bucklingOf_0 : List UInt8 := dkwX2_bucklingOf_0 ++ dktX2_bucklingOf_1
theorem dksX2_bucklingOf_0 : cX2_bucklingOf.data.toList.drop 0 = dktX2_bucklingOf_0 := by decide +kernel
theorem dksX2_bucklingOf_1 : cX2_bucklingOf.data.toList.drop 23 = dktX2_bucklingOf_1 := dk_seg dksX2_bucklingOf_0 23 rfl rfl
theorem dX2_bucklingOf_0 : decode cX2_bucklingOf 0 = .ok (.lconst 0, 1) := dk_9 (dk_at dksX2_bucklingOf_0 0 rfl rfl)
theorem dX2_bucklingOf_1 : decode cX2_bucklingOf 1 = .ok (.ldc2_w 156, 3) := dk_20 0 156 (dk_at dksX2_bucklingOf_0 1 rfl rfl)
theorem dX2_bucklingOf_4 : decode cX2_bucklingOf 4 = .ok (.aload_n 0, 1) := dk_42 (dk_at dksX2_bucklingOf_0 4 rfl rfl)
theorem dX2_bucklingOf_5 : decode cX2_bucklingOf 5 = .ok (.getfield 41, 3) := dk_180 0 41 (dk_at dksX2_bucklingOf_0 5 rfl rfl)
theorem dX2_bucklingOf_8 : decode cX2_bucklingOf 8 = .ok (.aload_n 1, 1) := dk_43 (dk_at dksX2_bucklingOf_0 8 rfl rfl)
theorem dX2_bucklingOf_9 : decode cX2_bucklingOf 9 = .ok (.aload_n 0, 1) := dk_42 (dk_at dksX2_bucklingOf_0 9 rfl rfl)
theorem dX2_bucklingOf_10 : decode cX2_bucklingOf 10 = .ok (.aload_n 1, 1) := dk_43 (dk_at dksX2_bucklingOf_0 10 rfl rfl)
theorem dX2_bucklingOf_11 : decode cX2_bucklingOf 11 = .ok (.invokevirtual 149, 3) := dk_182 0 149 (dk_at dksX2_bucklingOf_0 11 rfl rfl)
theorem dX2_bucklingOf_14 : decode cX2_bucklingOf 14 = .ok (.aload_n 0, 1) := dk_42 (dk_at dksX2_bucklingOf_0 14 rfl rfl)
theorem dX2_bucklingOf_15 : decode cX2_bucklingOf 15 = .ok (.getfield 45, 3) := dk_180 0 45 (dk_at dksX2_bucklingOf_0 15 rfl rfl)
theorem dX2_bucklingOf_18 : decode cX2_bucklingOf 18 = .ok (.invokeinterface 158 4, 5) := by decide +kernel
theorem dX2_bucklingOf_23 : decode cX2_bucklingOf 23 = .ok (.invokestatic 163, 3) := dk_184 0 163 (dk_at dksX2_bucklingOf_1 0 rfl rfl)
theorem dX2_bucklingOf_26 : decode cX2_bucklingOf 26 = .ok (.invokestatic 167, 3) := dk_184 0 167 (dk_at dksX2_bucklingOf_1 3 rfl rfl)
theorem dX2_bucklingOf_29 : decode cX2_bucklingOf 29 = .ok (.l2i, 1) := dk_136 (dk_at dksX2_bucklingOf_1 6 rfl rfl)
theorem dX2_bucklingOf_30 : decode cX2_bucklingOf 30 = .ok (.ireturn, 1) := dk_172 (dk_at dksX2_bucklingOf_1 7 rfl rfl)
abbrev cX2_bears : ByteArray := prog_18_method_13_code
def yX2_bears : MethodName := ⟨RX2, "bears", "(LElasticTruss$Member;I)Z"⟩
def dkwX2_bears_1 : List UInt8 := [167, 0, 4, 3, 172]
abbrev dktX2_bears_1 : List UInt8 := dkwX2_bears_1 ++ []
def dkwX2_bears_0 : List UInt8 := [28, 184, 0, 174, 42, 43, 28, 156, 0, 7, 4, 167, 0, 4, 3, 182, 0, 178, 163, 0, 7, 4]
abbrev dktX2_bears_0 : List UInt8 := dkwX2_bears_0 ++ dktX2_bears_1
theorem dksX2_bears_0 : cX2_bears.data.toList.drop 0 = dktX2_bears_0 := by decide +kernel
theorem dksX2_bears_1 : cX2_bears.data.toList.drop 22 = dktX2_bears_1 := dk_seg dksX2_bears_0 22 rfl rfl
theorem dX2_bears_0 : decode cX2_bears 0 = .ok (.iload_n 2, 1) := dk_28 (dk_at dksX2_bears_0 0 rfl rfl)
theorem dX2_bears_1 : decode cX2_bears 1 = .ok (.invokestatic 174, 3) := dk_184 0 174 (dk_at dksX2_bears_0 1 rfl rfl)
theorem dX2_bears_4 : decode cX2_bears 4 = .ok (.aload_n 0, 1) := dk_42 (dk_at dksX2_bears_0 4 rfl rfl)
theorem dX2_bears_5 : decode cX2_bears 5 = .ok (.aload_n 1, 1) := dk_43 (dk_at dksX2_bears_0 5 rfl rfl)
theorem dX2_bears_6 : decode cX2_bears 6 = .ok (.iload_n 2, 1) := dk_28 (dk_at dksX2_bears_0 6 rfl rfl)
theorem dX2_bears_7 : decode cX2_bears 7 = .ok (.ifCond .ge 7, 3) := dk_156 0 7 (dk_at dksX2_bears_0 7 rfl rfl)
theorem dX2_bears_10 : decode cX2_bears 10 = .ok (.iconst 1, 1) := dk_4 (dk_at dksX2_bears_0 10 rfl rfl)
theorem dX2_bears_11 : decode cX2_bears 11 = .ok (.goto 4, 3) := dk_167 0 4 (dk_at dksX2_bears_0 11 rfl rfl)
theorem dX2_bears_14 : decode cX2_bears 14 = .ok (.iconst 0, 1) := dk_3 (dk_at dksX2_bears_0 14 rfl rfl)
theorem dX2_bears_15 : decode cX2_bears 15 = .ok (.invokevirtual 178, 3) := dk_182 0 178 (dk_at dksX2_bears_0 15 rfl rfl)
theorem dX2_bears_18 : decode cX2_bears 18 = .ok (.if_icmp .gt 7, 3) := dk_163 0 7 (dk_at dksX2_bears_0 18 rfl rfl)
theorem dX2_bears_21 : decode cX2_bears 21 = .ok (.iconst 1, 1) := dk_4 (dk_at dksX2_bears_0 21 rfl rfl)
theorem dX2_bears_22 : decode cX2_bears 22 = .ok (.goto 4, 3) := dk_167 0 4 (dk_at dksX2_bears_1 0 rfl rfl)
theorem dX2_bears_25 : decode cX2_bears 25 = .ok (.iconst 0, 1) := dk_3 (dk_at dksX2_bears_1 3 rfl rfl)
theorem dX2_bears_26 : decode cX2_bears 26 = .ok (.ireturn, 1) := dk_172 (dk_at dksX2_bears_1 4 rfl rfl)
abbrev cX2_copy : ByteArray := prog_18_method_3_code
def yX2_copy : MethodName := ⟨RX2, "copy", "()LElasticTruss$Truss;"⟩
def dkwX2_copy_3 : List UInt8 := [42, 180, 0, 33, 185, 0, 63, 2, 0, 43, 176]
abbrev dktX2_copy_3 : List UInt8 := dkwX2_copy_3 ++ []
def dkwX2_copy_2 : List UInt8 := [180, 0, 26, 182, 0, 55, 192, 0, 56, 181, 0, 26, 43, 42, 180, 0, 60, 181, 0, 60, 43, 180, 0, 33]
abbrev dktX2_copy_2 : List UInt8 := dkwX2_copy_2 ++ dktX2_copy_3
def dkwX2_copy_1 : List UInt8 := [180, 0, 19, 181, 0, 19, 43, 42, 180, 0, 23, 181, 0, 23, 43, 42, 180, 0, 41, 181, 0, 41, 43, 42]
abbrev dktX2_copy_1 : List UInt8 := dkwX2_copy_1 ++ dktX2_copy_2
def dkwX2_copy_0 : List UInt8 := [187, 0, 4, 89, 42, 180, 0, 45, 42, 180, 0, 49, 42, 180, 0, 52, 183, 0, 3, 76, 43, 42]
abbrev dktX2_copy_0 : List UInt8 := dkwX2_copy_0 ++ dktX2_copy_1
theorem dksX2_copy_0 : cX2_copy.data.toList.drop 0 = dktX2_copy_0 := by decide +kernel
theorem dksX2_copy_1 : cX2_copy.data.toList.drop 22 = dktX2_copy_1 := dk_seg dksX2_copy_0 22 rfl rfl
theorem dksX2_copy_2 : cX2_copy.data.toList.drop 46 = dktX2_copy_2 := dk_seg dksX2_copy_1 24 rfl rfl
theorem dksX2_copy_3 : cX2_copy.data.toList.drop 70 = dktX2_copy_3 := dk_seg dksX2_copy_2 24 rfl rfl
theorem dX2_copy_0 : decode cX2_copy 0 = .ok (.new 4, 3) := dk_187 0 4 (dk_at dksX2_copy_0 0 rfl rfl)
theorem dX2_copy_3 : decode cX2_copy 3 = .ok (.dup, 1) := dk_89 (dk_at dksX2_copy_0 3 rfl rfl)
theorem dX2_copy_4 : decode cX2_copy 4 = .ok (.aload_n 0, 1) := dk_42 (dk_at dksX2_copy_0 4 rfl rfl)
theorem dX2_copy_5 : decode cX2_copy 5 = .ok (.getfield 45, 3) := dk_180 0 45 (dk_at dksX2_copy_0 5 rfl rfl)
theorem dX2_copy_8 : decode cX2_copy 8 = .ok (.aload_n 0, 1) := dk_42 (dk_at dksX2_copy_0 8 rfl rfl)
theorem dX2_copy_9 : decode cX2_copy 9 = .ok (.getfield 49, 3) := dk_180 0 49 (dk_at dksX2_copy_0 9 rfl rfl)
theorem dX2_copy_12 : decode cX2_copy 12 = .ok (.aload_n 0, 1) := dk_42 (dk_at dksX2_copy_0 12 rfl rfl)
theorem dX2_copy_13 : decode cX2_copy 13 = .ok (.getfield 52, 3) := dk_180 0 52 (dk_at dksX2_copy_0 13 rfl rfl)
theorem dX2_copy_16 : decode cX2_copy 16 = .ok (.invokespecial 3, 3) := dk_183 0 3 (dk_at dksX2_copy_0 16 rfl rfl)
theorem dX2_copy_19 : decode cX2_copy 19 = .ok (.astore_n 1, 1) := dk_76 (dk_at dksX2_copy_0 19 rfl rfl)
theorem dX2_copy_20 : decode cX2_copy 20 = .ok (.aload_n 1, 1) := dk_43 (dk_at dksX2_copy_0 20 rfl rfl)
theorem dX2_copy_21 : decode cX2_copy 21 = .ok (.aload_n 0, 1) := dk_42 (dk_at dksX2_copy_0 21 rfl rfl)
theorem dX2_copy_22 : decode cX2_copy 22 = .ok (.getfield 19, 3) := dk_180 0 19 (dk_at dksX2_copy_1 0 rfl rfl)
theorem dX2_copy_25 : decode cX2_copy 25 = .ok (.putfield 19, 3) := dk_181 0 19 (dk_at dksX2_copy_1 3 rfl rfl)
theorem dX2_copy_28 : decode cX2_copy 28 = .ok (.aload_n 1, 1) := dk_43 (dk_at dksX2_copy_1 6 rfl rfl)
theorem dX2_copy_29 : decode cX2_copy 29 = .ok (.aload_n 0, 1) := dk_42 (dk_at dksX2_copy_1 7 rfl rfl)
theorem dX2_copy_30 : decode cX2_copy 30 = .ok (.getfield 23, 3) := dk_180 0 23 (dk_at dksX2_copy_1 8 rfl rfl)
theorem dX2_copy_33 : decode cX2_copy 33 = .ok (.putfield 23, 3) := dk_181 0 23 (dk_at dksX2_copy_1 11 rfl rfl)
theorem dX2_copy_36 : decode cX2_copy 36 = .ok (.aload_n 1, 1) := dk_43 (dk_at dksX2_copy_1 14 rfl rfl)
theorem dX2_copy_37 : decode cX2_copy 37 = .ok (.aload_n 0, 1) := dk_42 (dk_at dksX2_copy_1 15 rfl rfl)
theorem dX2_copy_38 : decode cX2_copy 38 = .ok (.getfield 41, 3) := dk_180 0 41 (dk_at dksX2_copy_1 16 rfl rfl)
theorem dX2_copy_41 : decode cX2_copy 41 = .ok (.putfield 41, 3) := dk_181 0 41 (dk_at dksX2_copy_1 19 rfl rfl)
theorem dX2_copy_44 : decode cX2_copy 44 = .ok (.aload_n 1, 1) := dk_43 (dk_at dksX2_copy_1 22 rfl rfl)
theorem dX2_copy_45 : decode cX2_copy 45 = .ok (.aload_n 0, 1) := dk_42 (dk_at dksX2_copy_1 23 rfl rfl)
theorem dX2_copy_46 : decode cX2_copy 46 = .ok (.getfield 26, 3) := dk_180 0 26 (dk_at dksX2_copy_2 0 rfl rfl)
theorem dX2_copy_49 : decode cX2_copy 49 = .ok (.invokevirtual 55, 3) := dk_182 0 55 (dk_at dksX2_copy_2 3 rfl rfl)
theorem dX2_copy_52 : decode cX2_copy 52 = .ok (.checkcast 56, 3) := dk_192 0 56 (dk_at dksX2_copy_2 6 rfl rfl)
theorem dX2_copy_55 : decode cX2_copy 55 = .ok (.putfield 26, 3) := dk_181 0 26 (dk_at dksX2_copy_2 9 rfl rfl)
theorem dX2_copy_58 : decode cX2_copy 58 = .ok (.aload_n 1, 1) := dk_43 (dk_at dksX2_copy_2 12 rfl rfl)
theorem dX2_copy_59 : decode cX2_copy 59 = .ok (.aload_n 0, 1) := dk_42 (dk_at dksX2_copy_2 13 rfl rfl)
theorem dX2_copy_60 : decode cX2_copy 60 = .ok (.getfield 60, 3) := dk_180 0 60 (dk_at dksX2_copy_2 14 rfl rfl)
theorem dX2_copy_63 : decode cX2_copy 63 = .ok (.putfield 60, 3) := dk_181 0 60 (dk_at dksX2_copy_2 17 rfl rfl)
theorem dX2_copy_66 : decode cX2_copy 66 = .ok (.aload_n 1, 1) := dk_43 (dk_at dksX2_copy_2 20 rfl rfl)
theorem dX2_copy_67 : decode cX2_copy 67 = .ok (.getfield 33, 3) := dk_180 0 33 (dk_at dksX2_copy_2 21 rfl rfl)
theorem dX2_copy_70 : decode cX2_copy 70 = .ok (.aload_n 0, 1) := dk_42 (dk_at dksX2_copy_3 0 rfl rfl)
theorem dX2_copy_71 : decode cX2_copy 71 = .ok (.getfield 33, 3) := dk_180 0 33 (dk_at dksX2_copy_3 1 rfl rfl)
theorem dX2_copy_74 : decode cX2_copy 74 = .ok (.invokeinterface 63 2, 5) := by decide +kernel
theorem dX2_copy_79 : decode cX2_copy 79 = .ok (.aload_n 1, 1) := dk_43 (dk_at dksX2_copy_3 9 rfl rfl)
theorem dX2_copy_80 : decode cX2_copy 80 = .ok (.areturn, 1) := dk_176 (dk_at dksX2_copy_3 10 rfl rfl)
abbrev cX2_leastArea : ByteArray := prog_18_method_16_code
def yX2_leastArea : MethodName := ⟨RX2, "leastArea", "(I)I"⟩
def dkwX2_leastArea_2 : List UInt8 := [153, 0, 7, 21, 5, 54, 4, 132, 5, 1, 167, 255, 222, 42, 180, 0, 26, 27, 28, 79, 21, 4, 172]
abbrev dktX2_leastArea_2 : List UInt8 := dkwX2_leastArea_2 ++ []
def dkwX2_leastArea_1 : List UInt8 := [16, 50, 163, 0, 33, 21, 4, 156, 0, 28, 42, 180, 0, 26, 27, 21, 5, 79, 45, 182, 0, 191]
abbrev dktX2_leastArea_1 : List UInt8 := dkwX2_leastArea_1 ++ dktX2_leastArea_2
def dkwX2_leastArea_0 : List UInt8 := [42, 180, 0, 26, 27, 46, 61, 187, 0, 186, 89, 42, 183, 0, 188, 78, 2, 54, 4, 4, 54, 5, 21, 5]
abbrev dktX2_leastArea_0 : List UInt8 := dkwX2_leastArea_0 ++ dktX2_leastArea_1
theorem dksX2_leastArea_0 : cX2_leastArea.data.toList.drop 0 = dktX2_leastArea_0 := by decide +kernel
theorem dksX2_leastArea_1 : cX2_leastArea.data.toList.drop 24 = dktX2_leastArea_1 := dk_seg dksX2_leastArea_0 24 rfl rfl
theorem dksX2_leastArea_2 : cX2_leastArea.data.toList.drop 46 = dktX2_leastArea_2 := dk_seg dksX2_leastArea_1 22 rfl rfl
theorem dX2_leastArea_0 : decode cX2_leastArea 0 = .ok (.aload_n 0, 1) := dk_42 (dk_at dksX2_leastArea_0 0 rfl rfl)
theorem dX2_leastArea_1 : decode cX2_leastArea 1 = .ok (.getfield 26, 3) := dk_180 0 26 (dk_at dksX2_leastArea_0 1 rfl rfl)
theorem dX2_leastArea_4 : decode cX2_leastArea 4 = .ok (.iload_n 1, 1) := dk_27 (dk_at dksX2_leastArea_0 4 rfl rfl)
theorem dX2_leastArea_5 : decode cX2_leastArea 5 = .ok (.iaload, 1) := dk_46 (dk_at dksX2_leastArea_0 5 rfl rfl)
theorem dX2_leastArea_6 : decode cX2_leastArea 6 = .ok (.istore_n 2, 1) := dk_61 (dk_at dksX2_leastArea_0 6 rfl rfl)
theorem dX2_leastArea_7 : decode cX2_leastArea 7 = .ok (.new 186, 3) := dk_187 0 186 (dk_at dksX2_leastArea_0 7 rfl rfl)
theorem dX2_leastArea_10 : decode cX2_leastArea 10 = .ok (.dup, 1) := dk_89 (dk_at dksX2_leastArea_0 10 rfl rfl)
theorem dX2_leastArea_11 : decode cX2_leastArea 11 = .ok (.aload_n 0, 1) := dk_42 (dk_at dksX2_leastArea_0 11 rfl rfl)
theorem dX2_leastArea_12 : decode cX2_leastArea 12 = .ok (.invokespecial 188, 3) := dk_183 0 188 (dk_at dksX2_leastArea_0 12 rfl rfl)
theorem dX2_leastArea_15 : decode cX2_leastArea 15 = .ok (.astore_n 3, 1) := dk_78 (dk_at dksX2_leastArea_0 15 rfl rfl)
theorem dX2_leastArea_16 : decode cX2_leastArea 16 = .ok (.iconst (-1), 1) := dk_2 (dk_at dksX2_leastArea_0 16 rfl rfl)
theorem dX2_leastArea_17 : decode cX2_leastArea 17 = .ok (.istore 4, 2) := dk_54 4 (dk_at dksX2_leastArea_0 17 rfl rfl)
theorem dX2_leastArea_19 : decode cX2_leastArea 19 = .ok (.iconst 1, 1) := dk_4 (dk_at dksX2_leastArea_0 19 rfl rfl)
theorem dX2_leastArea_20 : decode cX2_leastArea 20 = .ok (.istore 5, 2) := dk_54 5 (dk_at dksX2_leastArea_0 20 rfl rfl)
theorem dX2_leastArea_22 : decode cX2_leastArea 22 = .ok (.iload 5, 2) := dk_21 5 (dk_at dksX2_leastArea_0 22 rfl rfl)
theorem dX2_leastArea_24 : decode cX2_leastArea 24 = .ok (.bipush 50, 2) := dk_16 50 (dk_at dksX2_leastArea_1 0 rfl rfl)
theorem dX2_leastArea_26 : decode cX2_leastArea 26 = .ok (.if_icmp .gt 33, 3) := dk_163 0 33 (dk_at dksX2_leastArea_1 2 rfl rfl)
theorem dX2_leastArea_29 : decode cX2_leastArea 29 = .ok (.iload 4, 2) := dk_21 4 (dk_at dksX2_leastArea_1 5 rfl rfl)
theorem dX2_leastArea_31 : decode cX2_leastArea 31 = .ok (.ifCond .ge 28, 3) := dk_156 0 28 (dk_at dksX2_leastArea_1 7 rfl rfl)
theorem dX2_leastArea_34 : decode cX2_leastArea 34 = .ok (.aload_n 0, 1) := dk_42 (dk_at dksX2_leastArea_1 10 rfl rfl)
theorem dX2_leastArea_35 : decode cX2_leastArea 35 = .ok (.getfield 26, 3) := dk_180 0 26 (dk_at dksX2_leastArea_1 11 rfl rfl)
theorem dX2_leastArea_38 : decode cX2_leastArea 38 = .ok (.iload_n 1, 1) := dk_27 (dk_at dksX2_leastArea_1 14 rfl rfl)
theorem dX2_leastArea_39 : decode cX2_leastArea 39 = .ok (.iload 5, 2) := dk_21 5 (dk_at dksX2_leastArea_1 15 rfl rfl)
theorem dX2_leastArea_41 : decode cX2_leastArea 41 = .ok (.iastore, 1) := dk_79 (dk_at dksX2_leastArea_1 17 rfl rfl)
theorem dX2_leastArea_42 : decode cX2_leastArea 42 = .ok (.aload_n 3, 1) := dk_45 (dk_at dksX2_leastArea_1 18 rfl rfl)
theorem dX2_leastArea_43 : decode cX2_leastArea 43 = .ok (.invokevirtual 191, 3) := dk_182 0 191 (dk_at dksX2_leastArea_1 19 rfl rfl)
theorem dX2_leastArea_46 : decode cX2_leastArea 46 = .ok (.ifCond .eq 7, 3) := dk_153 0 7 (dk_at dksX2_leastArea_2 0 rfl rfl)
theorem dX2_leastArea_49 : decode cX2_leastArea 49 = .ok (.iload 5, 2) := dk_21 5 (dk_at dksX2_leastArea_2 3 rfl rfl)
theorem dX2_leastArea_51 : decode cX2_leastArea 51 = .ok (.istore 4, 2) := dk_54 4 (dk_at dksX2_leastArea_2 5 rfl rfl)
theorem dX2_leastArea_53 : decode cX2_leastArea 53 = .ok (.iinc 5 1, 3) := dk_132 5 1 (dk_at dksX2_leastArea_2 7 rfl rfl)
theorem dX2_leastArea_56 : decode cX2_leastArea 56 = .ok (.goto (-34), 3) := dk_167 255 222 (dk_at dksX2_leastArea_2 10 rfl rfl)
theorem dX2_leastArea_59 : decode cX2_leastArea 59 = .ok (.aload_n 0, 1) := dk_42 (dk_at dksX2_leastArea_2 13 rfl rfl)
theorem dX2_leastArea_60 : decode cX2_leastArea 60 = .ok (.getfield 26, 3) := dk_180 0 26 (dk_at dksX2_leastArea_2 14 rfl rfl)
theorem dX2_leastArea_63 : decode cX2_leastArea 63 = .ok (.iload_n 1, 1) := dk_27 (dk_at dksX2_leastArea_2 17 rfl rfl)
theorem dX2_leastArea_64 : decode cX2_leastArea 64 = .ok (.iload_n 2, 1) := dk_28 (dk_at dksX2_leastArea_2 18 rfl rfl)
theorem dX2_leastArea_65 : decode cX2_leastArea 65 = .ok (.iastore, 1) := dk_79 (dk_at dksX2_leastArea_2 19 rfl rfl)
theorem dX2_leastArea_66 : decode cX2_leastArea 66 = .ok (.iload 4, 2) := dk_21 4 (dk_at dksX2_leastArea_2 20 rfl rfl)
theorem dX2_leastArea_68 : decode cX2_leastArea 68 = .ok (.ireturn, 1) := dk_172 (dk_at dksX2_leastArea_2 22 rfl rfl)
abbrev cX2_isJoined : ByteArray := prog_18_method_5_code
def yX2_isJoined : MethodName := ⟨RX2, "isJoined", "(II)Z"⟩
def dkwX2_isJoined_0 : List UInt8 := [42, 180, 0, 33, 187, 0, 77, 89, 27, 28, 183, 0, 79, 185, 0, 97, 2, 0, 172]
abbrev dktX2_isJoined_0 : List UInt8 := dkwX2_isJoined_0 ++ []
theorem dksX2_isJoined_0 : cX2_isJoined.data.toList.drop 0 = dktX2_isJoined_0 := by decide +kernel
theorem dX2_isJoined_0 : decode cX2_isJoined 0 = .ok (.aload_n 0, 1) := dk_42 (dk_at dksX2_isJoined_0 0 rfl rfl)
theorem dX2_isJoined_1 : decode cX2_isJoined 1 = .ok (.getfield 33, 3) := dk_180 0 33 (dk_at dksX2_isJoined_0 1 rfl rfl)
theorem dX2_isJoined_4 : decode cX2_isJoined 4 = .ok (.new 77, 3) := dk_187 0 77 (dk_at dksX2_isJoined_0 4 rfl rfl)
theorem dX2_isJoined_7 : decode cX2_isJoined 7 = .ok (.dup, 1) := dk_89 (dk_at dksX2_isJoined_0 7 rfl rfl)
theorem dX2_isJoined_8 : decode cX2_isJoined 8 = .ok (.iload_n 1, 1) := dk_27 (dk_at dksX2_isJoined_0 8 rfl rfl)
theorem dX2_isJoined_9 : decode cX2_isJoined 9 = .ok (.iload_n 2, 1) := dk_28 (dk_at dksX2_isJoined_0 9 rfl rfl)
theorem dX2_isJoined_10 : decode cX2_isJoined 10 = .ok (.invokespecial 79, 3) := dk_183 0 79 (dk_at dksX2_isJoined_0 10 rfl rfl)
theorem dX2_isJoined_13 : decode cX2_isJoined 13 = .ok (.invokeinterface 97 2, 5) := by decide +kernel
theorem dX2_isJoined_18 : decode cX2_isJoined 18 = .ok (.ireturn, 1) := dk_172 (dk_at dksX2_isJoined_0 18 rfl rfl)
abbrev cX2_join : ByteArray := prog_18_method_4_code
def yX2_join : MethodName := ⟨RX2, "join", "(III)V"⟩
def dkwX2_join_3 : List UInt8 := [25, 4, 180, 0, 87, 100, 183, 0, 90, 185, 0, 93, 3, 0, 87, 177]
abbrev dktX2_join_3 : List UInt8 := dkwX2_join_3 ++ []
def dkwX2_join_2 : List UInt8 := [187, 0, 82, 89, 27, 28, 29, 25, 5, 180, 0, 84, 25, 4, 180, 0, 84, 100, 25, 5, 180, 0, 87]
abbrev dktX2_join_2 : List UInt8 := dkwX2_join_2 ++ dktX2_join_3
def dkwX2_join_1 : List UInt8 := [185, 0, 69, 2, 0, 192, 0, 75, 58, 5, 42, 180, 0, 33, 187, 0, 77, 89, 27, 28, 183, 0, 79]
abbrev dktX2_join_1 : List UInt8 := dkwX2_join_1 ++ dktX2_join_2
def dkwX2_join_0 : List UInt8 := [42, 180, 0, 19, 27, 185, 0, 69, 2, 0, 192, 0, 75, 58, 4, 42, 180, 0, 19, 28]
abbrev dktX2_join_0 : List UInt8 := dkwX2_join_0 ++ dktX2_join_1
theorem dksX2_join_0 : cX2_join.data.toList.drop 0 = dktX2_join_0 := by decide +kernel
theorem dksX2_join_1 : cX2_join.data.toList.drop 20 = dktX2_join_1 := dk_seg dksX2_join_0 20 rfl rfl
theorem dksX2_join_2 : cX2_join.data.toList.drop 43 = dktX2_join_2 := dk_seg dksX2_join_1 23 rfl rfl
theorem dksX2_join_3 : cX2_join.data.toList.drop 66 = dktX2_join_3 := dk_seg dksX2_join_2 23 rfl rfl
theorem dX2_join_0 : decode cX2_join 0 = .ok (.aload_n 0, 1) := dk_42 (dk_at dksX2_join_0 0 rfl rfl)
theorem dX2_join_1 : decode cX2_join 1 = .ok (.getfield 19, 3) := dk_180 0 19 (dk_at dksX2_join_0 1 rfl rfl)
theorem dX2_join_4 : decode cX2_join 4 = .ok (.iload_n 1, 1) := dk_27 (dk_at dksX2_join_0 4 rfl rfl)
theorem dX2_join_5 : decode cX2_join 5 = .ok (.invokeinterface 69 2, 5) := by decide +kernel
theorem dX2_join_10 : decode cX2_join 10 = .ok (.checkcast 75, 3) := dk_192 0 75 (dk_at dksX2_join_0 10 rfl rfl)
theorem dX2_join_13 : decode cX2_join 13 = .ok (.astore 4, 2) := dk_58 4 (dk_at dksX2_join_0 13 rfl rfl)
theorem dX2_join_15 : decode cX2_join 15 = .ok (.aload_n 0, 1) := dk_42 (dk_at dksX2_join_0 15 rfl rfl)
theorem dX2_join_16 : decode cX2_join 16 = .ok (.getfield 19, 3) := dk_180 0 19 (dk_at dksX2_join_0 16 rfl rfl)
theorem dX2_join_19 : decode cX2_join 19 = .ok (.iload_n 2, 1) := dk_28 (dk_at dksX2_join_0 19 rfl rfl)
theorem dX2_join_20 : decode cX2_join 20 = .ok (.invokeinterface 69 2, 5) := by decide +kernel
theorem dX2_join_25 : decode cX2_join 25 = .ok (.checkcast 75, 3) := dk_192 0 75 (dk_at dksX2_join_1 5 rfl rfl)
theorem dX2_join_28 : decode cX2_join 28 = .ok (.astore 5, 2) := dk_58 5 (dk_at dksX2_join_1 8 rfl rfl)
theorem dX2_join_30 : decode cX2_join 30 = .ok (.aload_n 0, 1) := dk_42 (dk_at dksX2_join_1 10 rfl rfl)
theorem dX2_join_31 : decode cX2_join 31 = .ok (.getfield 33, 3) := dk_180 0 33 (dk_at dksX2_join_1 11 rfl rfl)
theorem dX2_join_34 : decode cX2_join 34 = .ok (.new 77, 3) := dk_187 0 77 (dk_at dksX2_join_1 14 rfl rfl)
theorem dX2_join_37 : decode cX2_join 37 = .ok (.dup, 1) := dk_89 (dk_at dksX2_join_1 17 rfl rfl)
theorem dX2_join_38 : decode cX2_join 38 = .ok (.iload_n 1, 1) := dk_27 (dk_at dksX2_join_1 18 rfl rfl)
theorem dX2_join_39 : decode cX2_join 39 = .ok (.iload_n 2, 1) := dk_28 (dk_at dksX2_join_1 19 rfl rfl)
theorem dX2_join_40 : decode cX2_join 40 = .ok (.invokespecial 79, 3) := dk_183 0 79 (dk_at dksX2_join_1 20 rfl rfl)
theorem dX2_join_43 : decode cX2_join 43 = .ok (.new 82, 3) := dk_187 0 82 (dk_at dksX2_join_2 0 rfl rfl)
theorem dX2_join_46 : decode cX2_join 46 = .ok (.dup, 1) := dk_89 (dk_at dksX2_join_2 3 rfl rfl)
theorem dX2_join_47 : decode cX2_join 47 = .ok (.iload_n 1, 1) := dk_27 (dk_at dksX2_join_2 4 rfl rfl)
theorem dX2_join_48 : decode cX2_join 48 = .ok (.iload_n 2, 1) := dk_28 (dk_at dksX2_join_2 5 rfl rfl)
theorem dX2_join_49 : decode cX2_join 49 = .ok (.iload_n 3, 1) := dk_29 (dk_at dksX2_join_2 6 rfl rfl)
theorem dX2_join_50 : decode cX2_join 50 = .ok (.aload 5, 2) := dk_25 5 (dk_at dksX2_join_2 7 rfl rfl)
theorem dX2_join_52 : decode cX2_join 52 = .ok (.getfield 84, 3) := dk_180 0 84 (dk_at dksX2_join_2 9 rfl rfl)
theorem dX2_join_55 : decode cX2_join 55 = .ok (.aload 4, 2) := dk_25 4 (dk_at dksX2_join_2 12 rfl rfl)
theorem dX2_join_57 : decode cX2_join 57 = .ok (.getfield 84, 3) := dk_180 0 84 (dk_at dksX2_join_2 14 rfl rfl)
theorem dX2_join_60 : decode cX2_join 60 = .ok (.isub, 1) := dk_100 (dk_at dksX2_join_2 17 rfl rfl)
theorem dX2_join_61 : decode cX2_join 61 = .ok (.aload 5, 2) := dk_25 5 (dk_at dksX2_join_2 18 rfl rfl)
theorem dX2_join_63 : decode cX2_join 63 = .ok (.getfield 87, 3) := dk_180 0 87 (dk_at dksX2_join_2 20 rfl rfl)
theorem dX2_join_66 : decode cX2_join 66 = .ok (.aload 4, 2) := dk_25 4 (dk_at dksX2_join_3 0 rfl rfl)
theorem dX2_join_68 : decode cX2_join 68 = .ok (.getfield 87, 3) := dk_180 0 87 (dk_at dksX2_join_3 2 rfl rfl)
theorem dX2_join_71 : decode cX2_join 71 = .ok (.isub, 1) := dk_100 (dk_at dksX2_join_3 5 rfl rfl)
theorem dX2_join_72 : decode cX2_join 72 = .ok (.invokespecial 90, 3) := dk_183 0 90 (dk_at dksX2_join_3 6 rfl rfl)
theorem dX2_join_75 : decode cX2_join 75 = .ok (.invokeinterface 93 3, 5) := by decide +kernel
theorem dX2_join_80 : decode cX2_join 80 = .ok (.pop, 1) := dk_87 (dk_at dksX2_join_3 14 rfl rfl)
theorem dX2_join_81 : decode cX2_join 81 = .ok (.return_, 1) := dk_177 (dk_at dksX2_join_3 15 rfl rfl)
abbrev cX2_remove : ByteArray := prog_18_method_7_code
def yX2_remove : MethodName := ⟨RX2, "remove", "(LElasticTruss$Member;)V"⟩
def dkwX2_remove_1 : List UInt8 := [87, 177]
abbrev dktX2_remove_1 : List UInt8 := dkwX2_remove_1 ++ []
def dkwX2_remove_0 : List UInt8 := [42, 180, 0, 33, 187, 0, 77, 89, 43, 180, 0, 124, 43, 180, 0, 127, 183, 0, 79, 185, 0, 130, 2, 0]
abbrev dktX2_remove_0 : List UInt8 := dkwX2_remove_0 ++ dktX2_remove_1
theorem dksX2_remove_0 : cX2_remove.data.toList.drop 0 = dktX2_remove_0 := by decide +kernel
theorem dksX2_remove_1 : cX2_remove.data.toList.drop 24 = dktX2_remove_1 := dk_seg dksX2_remove_0 24 rfl rfl
theorem dX2_remove_0 : decode cX2_remove 0 = .ok (.aload_n 0, 1) := dk_42 (dk_at dksX2_remove_0 0 rfl rfl)
theorem dX2_remove_1 : decode cX2_remove 1 = .ok (.getfield 33, 3) := dk_180 0 33 (dk_at dksX2_remove_0 1 rfl rfl)
theorem dX2_remove_4 : decode cX2_remove 4 = .ok (.new 77, 3) := dk_187 0 77 (dk_at dksX2_remove_0 4 rfl rfl)
theorem dX2_remove_7 : decode cX2_remove 7 = .ok (.dup, 1) := dk_89 (dk_at dksX2_remove_0 7 rfl rfl)
theorem dX2_remove_8 : decode cX2_remove 8 = .ok (.aload_n 1, 1) := dk_43 (dk_at dksX2_remove_0 8 rfl rfl)
theorem dX2_remove_9 : decode cX2_remove 9 = .ok (.getfield 124, 3) := dk_180 0 124 (dk_at dksX2_remove_0 9 rfl rfl)
theorem dX2_remove_12 : decode cX2_remove 12 = .ok (.aload_n 1, 1) := dk_43 (dk_at dksX2_remove_0 12 rfl rfl)
theorem dX2_remove_13 : decode cX2_remove 13 = .ok (.getfield 127, 3) := dk_180 0 127 (dk_at dksX2_remove_0 13 rfl rfl)
theorem dX2_remove_16 : decode cX2_remove 16 = .ok (.invokespecial 79, 3) := dk_183 0 79 (dk_at dksX2_remove_0 16 rfl rfl)
theorem dX2_remove_19 : decode cX2_remove 19 = .ok (.invokeinterface 130 2, 5) := by decide +kernel
theorem dX2_remove_24 : decode cX2_remove 24 = .ok (.pop, 1) := dk_87 (dk_at dksX2_remove_1 0 rfl rfl)
theorem dX2_remove_25 : decode cX2_remove 25 = .ok (.return_, 1) := dk_177 (dk_at dksX2_remove_1 1 rfl rfl)
abbrev cX2_bearsLoads : ByteArray := prog_18_method_15_code
def yX2_bearsLoads : MethodName := ⟨RX2, "bearsLoads", "()Z"⟩
def dkwX2_bearsLoads_0 : List UInt8 := [187, 0, 186, 89, 42, 183, 0, 188, 182, 0, 191, 172]
abbrev dktX2_bearsLoads_0 : List UInt8 := dkwX2_bearsLoads_0 ++ []
theorem dksX2_bearsLoads_0 : cX2_bearsLoads.data.toList.drop 0 = dktX2_bearsLoads_0 := by decide +kernel
theorem dX2_bearsLoads_0 : decode cX2_bearsLoads 0 = .ok (.new 186, 3) := dk_187 0 186 (dk_at dksX2_bearsLoads_0 0 rfl rfl)
theorem dX2_bearsLoads_3 : decode cX2_bearsLoads 3 = .ok (.dup, 1) := dk_89 (dk_at dksX2_bearsLoads_0 3 rfl rfl)
theorem dX2_bearsLoads_4 : decode cX2_bearsLoads 4 = .ok (.aload_n 0, 1) := dk_42 (dk_at dksX2_bearsLoads_0 4 rfl rfl)
theorem dX2_bearsLoads_5 : decode cX2_bearsLoads 5 = .ok (.invokespecial 188, 3) := dk_183 0 188 (dk_at dksX2_bearsLoads_0 5 rfl rfl)
theorem dX2_bearsLoads_8 : decode cX2_bearsLoads 8 = .ok (.invokevirtual 191, 3) := dk_182 0 191 (dk_at dksX2_bearsLoads_0 8 rfl rfl)
theorem dX2_bearsLoads_11 : decode cX2_bearsLoads 11 = .ok (.ireturn, 1) := dk_172 (dk_at dksX2_bearsLoads_0 11 rfl rfl)
theorem q103 : (Jvm.Cond.initialized "ElasticTruss$Truss") ∈ lw_all := lw_g (lw_at lw_m1 2 rfl) rfl
theorem q182 : (Jvm.Cond.instantiable "ElasticTruss$Truss" (9 : Nat)) ∈ lw_all := lw_g (lw_at lw_m1 81 rfl) rfl
theorem q184 : (Jvm.Cond.instanceMethod ({ cls := "ElasticTruss$Truss", name := "<init>", desc := "()V" } : Jvm.MethodName)) ∈ lw_all := lw_g (lw_at lw_m1 83 rfl) rfl
theorem q185 : (Jvm.Cond.code ({ cls := "ElasticTruss$Truss", name := "<init>", desc := "()V" } : Jvm.MethodName) prog_18_method_1_code (1 : Nat) (Option.none : Option Jvm.ClassFile.FieldType)) ∈ lw_all := lw_g (lw_at lw_m1 84 rfl) rfl
theorem q186 : (Jvm.Cond.methodLink "ElasticTruss$Truss" (3 : Nat) ({ cls := "ElasticTruss$Truss", name := "<init>", desc := "(III)V" } : Jvm.MethodName)) ∈ lw_all := lw_g (lw_at lw_m1 85 rfl) rfl
theorem q187 : (Jvm.Cond.instanceMethod ({ cls := "ElasticTruss$Truss", name := "<init>", desc := "(III)V" } : Jvm.MethodName)) ∈ lw_all := lw_g (lw_at lw_m1 86 rfl) rfl
theorem q188 : (Jvm.Cond.code ({ cls := "ElasticTruss$Truss", name := "<init>", desc := "(III)V" } : Jvm.MethodName) prog_18_method_2_code (4 : Nat) (Option.none : Option Jvm.ClassFile.FieldType)) ∈ lw_all := lw_g (lw_at lw_m1 87 rfl) rfl
theorem q189 : (Jvm.Cond.methodLink "ElasticTruss$Truss" (9 : Nat) ({ cls := "java/lang/Object", name := "<init>", desc := "()V" } : Jvm.MethodName)) ∈ lw_all := lw_g (lw_at lw_m1 88 rfl) rfl
theorem q190 : (Jvm.Cond.classLink "ElasticTruss$Truss" (14 : Nat) "java/util/ArrayList") ∈ lw_all := lw_g (lw_at lw_m1 89 rfl) rfl
theorem q192 : (Jvm.Cond.methodLink "ElasticTruss$Truss" (16 : Nat) ({ cls := "java/util/ArrayList", name := "<init>", desc := "(I)V" } : Jvm.MethodName)) ∈ lw_all := lw_g (lw_at lw_m1 91 rfl) rfl
theorem q539 : (Jvm.Cond.classLink "ElasticTruss$Truss" (30 : Nat) "java/util/LinkedHashMap") ∈ lw_all := lw_g (lw_at lw_m2 198 rfl) rfl
theorem q541 : (Jvm.Cond.methodLink "ElasticTruss$Truss" (32 : Nat) ({ cls := "java/util/LinkedHashMap", name := "<init>", desc := "()V" } : Jvm.MethodName)) ∈ lw_all := lw_g (lw_at lw_m2 200 rfl) rfl
theorem q607 : (Jvm.Cond.static ({ cls := "ElasticTruss$Truss", name := "lambda$new$0", desc := "(LElasticTruss$Member;II)J" } : Jvm.MethodName)) ∈ lw_all := lw_g (lw_at lw_m3 26 rfl) rfl
theorem q608 : (Jvm.Cond.code ({ cls := "ElasticTruss$Truss", name := "lambda$new$0", desc := "(LElasticTruss$Member;II)J" } : Jvm.MethodName) prog_18_method_17_code (3 : Nat) (Option.some Jvm.ClassFile.FieldType.long)) ∈ lw_all := lw_g (lw_at lw_m3 27 rfl) rfl
theorem q609 : (Jvm.Cond.constantLong "ElasticTruss$Truss" (156 : Nat) (1000000 : Int64)) ∈ lw_all := lw_g (lw_at lw_m3 28 rfl) rfl
theorem q610 : (Jvm.Cond.fieldLink "ElasticTruss$Truss" (45 : Nat) "ElasticTruss$Truss" "modulus" "I") ∈ lw_all := lw_g (lw_at lw_m3 29 rfl) rfl
theorem q612 : (Jvm.Cond.fieldLink "ElasticTruss$Truss" (49 : Nat) "ElasticTruss$Truss" "strength" "I") ∈ lw_all := lw_g (lw_at lw_m3 31 rfl) rfl
theorem q613 : (Jvm.Cond.fieldLink "ElasticTruss$Truss" (52 : Nat) "ElasticTruss$Truss" "sweeps" "I") ∈ lw_all := lw_g (lw_at lw_m3 32 rfl) rfl
theorem q616 : (Jvm.Cond.fieldLink "ElasticTruss$Truss" (19 : Nat) "ElasticTruss$Truss" "nodes" "Ljava/util/List;") ∈ lw_all := lw_g (lw_at lw_m3 35 rfl) rfl
theorem q619 : (Jvm.Cond.fieldLink "ElasticTruss$Truss" (23 : Nat) "ElasticTruss$Truss" "loads" "Ljava/util/List;") ∈ lw_all := lw_g (lw_at lw_m3 38 rfl) rfl
theorem q622 : (Jvm.Cond.fieldLink "ElasticTruss$Truss" (41 : Nat) "ElasticTruss$Truss" "buckling" "LElasticTruss$Quantity;") ∈ lw_all := lw_g (lw_at lw_m3 41 rfl) rfl
theorem q624 : (Jvm.Cond.fieldLink "ElasticTruss$Truss" (26 : Nat) "ElasticTruss$Truss" "areas" "[I") ∈ lw_all := lw_g (lw_at lw_m3 43 rfl) rfl
theorem q627 : (Jvm.Cond.fieldLink "ElasticTruss$Truss" (60 : Nat) "ElasticTruss$Truss" "groupCount" "I") ∈ lw_all := lw_g (lw_at lw_m3 46 rfl) rfl
theorem q630 : (Jvm.Cond.fieldLink "ElasticTruss$Truss" (33 : Nat) "ElasticTruss$Truss" "members" "Ljava/util/Map;") ∈ lw_all := lw_g (lw_at lw_m3 49 rfl) rfl
theorem q633 : (Jvm.Cond.laysFinal "ElasticTruss$Truss" "ElasticTruss$Truss" "modulus" "I") ∈ lw_all := lw_g (lw_at lw_m3 52 rfl) rfl
theorem q634 : (Jvm.Cond.soleField "ElasticTruss$Truss" "modulus") ∈ lw_all := lw_g (lw_at lw_m3 53 rfl) rfl
theorem q635 : (Jvm.Cond.laysFinal "ElasticTruss$Truss" "ElasticTruss$Truss" "strength" "I") ∈ lw_all := lw_g (lw_at lw_m3 54 rfl) rfl
theorem q636 : (Jvm.Cond.soleField "ElasticTruss$Truss" "strength") ∈ lw_all := lw_g (lw_at lw_m3 55 rfl) rfl
theorem q637 : (Jvm.Cond.laysFinal "ElasticTruss$Truss" "ElasticTruss$Truss" "sweeps" "I") ∈ lw_all := lw_g (lw_at lw_m3 56 rfl) rfl
theorem q638 : (Jvm.Cond.soleField "ElasticTruss$Truss" "sweeps") ∈ lw_all := lw_g (lw_at lw_m3 57 rfl) rfl
theorem q639 : (Jvm.Cond.lays "ElasticTruss$Truss" "ElasticTruss$Truss" "nodes" "Ljava/util/List;") ∈ lw_all := lw_g (lw_at lw_m3 58 rfl) rfl
theorem q640 : (Jvm.Cond.soleField "ElasticTruss$Truss" "nodes") ∈ lw_all := lw_g (lw_at lw_m3 59 rfl) rfl
theorem q641 : (Jvm.Cond.lays "ElasticTruss$Truss" "ElasticTruss$Truss" "loads" "Ljava/util/List;") ∈ lw_all := lw_g (lw_at lw_m3 60 rfl) rfl
theorem q642 : (Jvm.Cond.soleField "ElasticTruss$Truss" "loads") ∈ lw_all := lw_g (lw_at lw_m3 61 rfl) rfl
theorem q643 : (Jvm.Cond.lays "ElasticTruss$Truss" "ElasticTruss$Truss" "buckling" "LElasticTruss$Quantity;") ∈ lw_all := lw_g (lw_at lw_m3 62 rfl) rfl
theorem q644 : (Jvm.Cond.soleField "ElasticTruss$Truss" "buckling") ∈ lw_all := lw_g (lw_at lw_m3 63 rfl) rfl
theorem q645 : (Jvm.Cond.lays "ElasticTruss$Truss" "ElasticTruss$Truss" "areas" "[I") ∈ lw_all := lw_g (lw_at lw_m3 64 rfl) rfl
theorem q646 : (Jvm.Cond.soleField "ElasticTruss$Truss" "areas") ∈ lw_all := lw_g (lw_at lw_m3 65 rfl) rfl
theorem q647 : (Jvm.Cond.lays "ElasticTruss$Truss" "ElasticTruss$Truss" "groupCount" "I") ∈ lw_all := lw_g (lw_at lw_m3 66 rfl) rfl
theorem q648 : (Jvm.Cond.soleField "ElasticTruss$Truss" "groupCount") ∈ lw_all := lw_g (lw_at lw_m3 67 rfl) rfl
theorem q649 : (Jvm.Cond.laysFinal "ElasticTruss$Truss" "ElasticTruss$Truss" "members" "Ljava/util/Map;") ∈ lw_all := lw_g (lw_at lw_m3 68 rfl) rfl
theorem q650 : (Jvm.Cond.soleField "ElasticTruss$Truss" "members") ∈ lw_all := lw_g (lw_at lw_m3 69 rfl) rfl
theorem q651 : (Jvm.Cond.superclass "ElasticTruss$Truss" "java/lang/Object") ∈ lw_all := lw_g (lw_at lw_m3 70 rfl) rfl
theorem q738 : (Jvm.Cond.instanceMethod ({ cls := "ElasticTruss$Truss", name := "countStages", desc := "()I" } : Jvm.MethodName)) ∈ lw_all := lw_g (lw_at lw_m3 157 rfl) rfl
theorem q739 : (Jvm.Cond.selects "ElasticTruss$Truss" ({ cls := "ElasticTruss$Truss", name := "countStages", desc := "()I" } : Jvm.MethodName) ({ cls := "ElasticTruss$Truss", name := "countStages", desc := "()I" } : Jvm.MethodName)) ∈ lw_all := lw_g (lw_at lw_m3 158 rfl) rfl
theorem q740 : (Jvm.Cond.code ({ cls := "ElasticTruss$Truss", name := "countStages", desc := "()I" } : Jvm.MethodName) prog_18_method_8_code (4 : Nat) (Option.some Jvm.ClassFile.FieldType.int)) ∈ lw_all := lw_g (lw_at lw_m3 159 rfl) rfl
theorem q741 : (Jvm.Cond.interfaceEntry "ElasticTruss$Truss" (134 : Nat)) ∈ lw_tbl := lw_at lw_m3 160 rfl
theorem q742 : (Jvm.Cond.methodLink "ElasticTruss$Truss" (134 : Nat) ({ cls := "java/util/List", name := "iterator", desc := "()Ljava/util/Iterator;" } : Jvm.MethodName)) ∈ lw_all := lw_g (lw_at lw_m3 161 rfl) rfl
theorem q769 : (Jvm.Cond.interfaceEntry "ElasticTruss$Truss" (115 : Nat)) ∈ lw_tbl := lw_at lw_m3 188 rfl
theorem q770 : (Jvm.Cond.methodLink "ElasticTruss$Truss" (115 : Nat) ({ cls := "java/util/Iterator", name := "hasNext", desc := "()Z" } : Jvm.MethodName)) ∈ lw_all := lw_g (lw_at lw_m3 189 rfl) rfl
theorem q803 : (Jvm.Cond.interfaceEntry "ElasticTruss$Truss" (121 : Nat)) ∈ lw_tbl := lw_at lw_m3 222 rfl
theorem q804 : (Jvm.Cond.methodLink "ElasticTruss$Truss" (121 : Nat) ({ cls := "java/util/Iterator", name := "next", desc := "()Ljava/lang/Object;" } : Jvm.MethodName)) ∈ lw_all := lw_g (lw_at lw_m3 223 rfl) rfl
theorem q876 : (Jvm.Cond.classLink "ElasticTruss$Truss" (135 : Nat) "ElasticTruss$Load") ∈ lw_all := lw_g (lw_at lw_m4 55 rfl) rfl
theorem q877 : (Jvm.Cond.methodLink "ElasticTruss$Truss" (137 : Nat) ({ cls := "ElasticTruss$Load", name := "stage", desc := "()I" } : Jvm.MethodName)) ∈ lw_all := lw_g (lw_at lw_m4 56 rfl) rfl
theorem q881 : (Jvm.Cond.methodLink "ElasticTruss$Truss" (140 : Nat) ({ cls := "java/lang/Math", name := "max", desc := "(II)I" } : Jvm.MethodName)) ∈ lw_all := lw_g (lw_at lw_m4 60 rfl) rfl
theorem q887 : (Jvm.Cond.instanceMethod ({ cls := "ElasticTruss$Truss", name := "weightOf", desc := "()I" } : Jvm.MethodName)) ∈ lw_all := lw_g (lw_at lw_m4 66 rfl) rfl
theorem q888 : (Jvm.Cond.selects "ElasticTruss$Truss" ({ cls := "ElasticTruss$Truss", name := "weightOf", desc := "()I" } : Jvm.MethodName) ({ cls := "ElasticTruss$Truss", name := "weightOf", desc := "()I" } : Jvm.MethodName)) ∈ lw_all := lw_g (lw_at lw_m4 67 rfl) rfl
theorem q889 : (Jvm.Cond.code ({ cls := "ElasticTruss$Truss", name := "weightOf", desc := "()I" } : Jvm.MethodName) prog_18_method_10_code (4 : Nat) (Option.some Jvm.ClassFile.FieldType.int)) ∈ lw_all := lw_g (lw_at lw_m4 68 rfl) rfl
theorem q890 : (Jvm.Cond.interfaceEntry "ElasticTruss$Truss" (105 : Nat)) ∈ lw_tbl := lw_at lw_m4 69 rfl
theorem q891 : (Jvm.Cond.methodLink "ElasticTruss$Truss" (105 : Nat) ({ cls := "java/util/Map", name := "values", desc := "()Ljava/util/Collection;" } : Jvm.MethodName)) ∈ lw_all := lw_g (lw_at lw_m4 70 rfl) rfl
theorem q917 : (Jvm.Cond.interfaceEntry "ElasticTruss$Truss" (109 : Nat)) ∈ lw_tbl := lw_at lw_m4 96 rfl
theorem q918 : (Jvm.Cond.methodLink "ElasticTruss$Truss" (109 : Nat) ({ cls := "java/util/Collection", name := "iterator", desc := "()Ljava/util/Iterator;" } : Jvm.MethodName)) ∈ lw_all := lw_g (lw_at lw_m4 97 rfl) rfl
theorem q1099 : (Jvm.Cond.classLink "ElasticTruss$Truss" (82 : Nat) "ElasticTruss$Member") ∈ lw_all := lw_g (lw_at lw_m5 38 rfl) rfl
theorem q1100 : (Jvm.Cond.methodLink "ElasticTruss$Truss" (149 : Nat) ({ cls := "ElasticTruss$Truss", name := "areaOf", desc := "(LElasticTruss$Member;)I" } : Jvm.MethodName)) ∈ lw_all := lw_g (lw_at lw_m5 39 rfl) rfl
theorem q1101 : (Jvm.Cond.instanceMethod ({ cls := "ElasticTruss$Truss", name := "areaOf", desc := "(LElasticTruss$Member;)I" } : Jvm.MethodName)) ∈ lw_all := lw_g (lw_at lw_m5 40 rfl) rfl
theorem q1102 : (Jvm.Cond.selects "ElasticTruss$Truss" ({ cls := "ElasticTruss$Truss", name := "areaOf", desc := "(LElasticTruss$Member;)I" } : Jvm.MethodName) ({ cls := "ElasticTruss$Truss", name := "areaOf", desc := "(LElasticTruss$Member;)I" } : Jvm.MethodName)) ∈ lw_all := lw_g (lw_at lw_m5 41 rfl) rfl
theorem q1103 : (Jvm.Cond.code ({ cls := "ElasticTruss$Truss", name := "areaOf", desc := "(LElasticTruss$Member;)I" } : Jvm.MethodName) prog_18_method_9_code (2 : Nat) (Option.some Jvm.ClassFile.FieldType.int)) ∈ lw_all := lw_g (lw_at lw_m5 42 rfl) rfl
theorem q1128 : (Jvm.Cond.instanceMethod ({ cls := "ElasticTruss$Truss", name := "row", desc := "()[LElasticTruss$Member;" } : Jvm.MethodName)) ∈ lw_all := lw_g (lw_at lw_m5 67 rfl) rfl
theorem q1129 : (Jvm.Cond.selects "ElasticTruss$Truss" ({ cls := "ElasticTruss$Truss", name := "row", desc := "()[LElasticTruss$Member;" } : Jvm.MethodName) ({ cls := "ElasticTruss$Truss", name := "row", desc := "()[LElasticTruss$Member;" } : Jvm.MethodName)) ∈ lw_all := lw_g (lw_at lw_m5 68 rfl) rfl
theorem q1130 : (Jvm.Cond.code ({ cls := "ElasticTruss$Truss", name := "row", desc := "()[LElasticTruss$Member;" } : Jvm.MethodName) prog_18_method_6_code (5 : Nat) (Option.some (Jvm.ClassFile.FieldType.array (Jvm.ClassFile.FieldType.object "ElasticTruss$Member")))) ∈ lw_all := lw_g (lw_at lw_m5 69 rfl) rfl
theorem q1131 : (Jvm.Cond.interfaceEntry "ElasticTruss$Truss" (101 : Nat)) ∈ lw_tbl := lw_at lw_m5 70 rfl
theorem q1132 : (Jvm.Cond.methodLink "ElasticTruss$Truss" (101 : Nat) ({ cls := "java/util/Map", name := "size", desc := "()I" } : Jvm.MethodName)) ∈ lw_all := lw_g (lw_at lw_m5 71 rfl) rfl
theorem q1248 : (Jvm.Cond.instanceMethod ({ cls := "ElasticTruss$Truss", name := "useOf", desc := "(LElasticTruss$Member;I)I" } : Jvm.MethodName)) ∈ lw_all := lw_g (lw_at lw_m5 187 rfl) rfl
theorem q1249 : (Jvm.Cond.selects "ElasticTruss$Truss" ({ cls := "ElasticTruss$Truss", name := "useOf", desc := "(LElasticTruss$Member;I)I" } : Jvm.MethodName) ({ cls := "ElasticTruss$Truss", name := "useOf", desc := "(LElasticTruss$Member;I)I" } : Jvm.MethodName)) ∈ lw_all := lw_g (lw_at lw_m5 188 rfl) rfl
theorem q1250 : (Jvm.Cond.code ({ cls := "ElasticTruss$Truss", name := "useOf", desc := "(LElasticTruss$Member;I)I" } : Jvm.MethodName) prog_18_method_14_code (4 : Nat) (Option.some Jvm.ClassFile.FieldType.int)) ∈ lw_all := lw_g (lw_at lw_m5 189 rfl) rfl
theorem q1251 : (Jvm.Cond.methodLink "ElasticTruss$Truss" (178 : Nat) ({ cls := "ElasticTruss$Truss", name := "capacityOf", desc := "(LElasticTruss$Member;Z)I" } : Jvm.MethodName)) ∈ lw_all := lw_g (lw_at lw_m5 190 rfl) rfl
theorem q1252 : (Jvm.Cond.instanceMethod ({ cls := "ElasticTruss$Truss", name := "capacityOf", desc := "(LElasticTruss$Member;Z)I" } : Jvm.MethodName)) ∈ lw_all := lw_g (lw_at lw_m5 191 rfl) rfl
theorem q1253 : (Jvm.Cond.selects "ElasticTruss$Truss" ({ cls := "ElasticTruss$Truss", name := "capacityOf", desc := "(LElasticTruss$Member;Z)I" } : Jvm.MethodName) ({ cls := "ElasticTruss$Truss", name := "capacityOf", desc := "(LElasticTruss$Member;Z)I" } : Jvm.MethodName)) ∈ lw_all := lw_g (lw_at lw_m5 192 rfl) rfl
theorem q1254 : (Jvm.Cond.code ({ cls := "ElasticTruss$Truss", name := "capacityOf", desc := "(LElasticTruss$Member;Z)I" } : Jvm.MethodName) prog_18_method_12_code (4 : Nat) (Option.some Jvm.ClassFile.FieldType.int)) ∈ lw_all := lw_g (lw_at lw_m5 193 rfl) rfl
theorem q1255 : (Jvm.Cond.methodLink "ElasticTruss$Truss" (169 : Nat) ({ cls := "ElasticTruss$Truss", name := "bucklingOf", desc := "(LElasticTruss$Member;)I" } : Jvm.MethodName)) ∈ lw_all := lw_g (lw_at lw_m5 194 rfl) rfl
theorem q1256 : (Jvm.Cond.instanceMethod ({ cls := "ElasticTruss$Truss", name := "bucklingOf", desc := "(LElasticTruss$Member;)I" } : Jvm.MethodName)) ∈ lw_all := lw_g (lw_at lw_m5 195 rfl) rfl
theorem q1257 : (Jvm.Cond.selects "ElasticTruss$Truss" ({ cls := "ElasticTruss$Truss", name := "bucklingOf", desc := "(LElasticTruss$Member;)I" } : Jvm.MethodName) ({ cls := "ElasticTruss$Truss", name := "bucklingOf", desc := "(LElasticTruss$Member;)I" } : Jvm.MethodName)) ∈ lw_all := lw_g (lw_at lw_m5 196 rfl) rfl
theorem q1258 : (Jvm.Cond.code ({ cls := "ElasticTruss$Truss", name := "bucklingOf", desc := "(LElasticTruss$Member;)I" } : Jvm.MethodName) prog_18_method_11_code (2 : Nat) (Option.some Jvm.ClassFile.FieldType.int)) ∈ lw_all := lw_g (lw_at lw_m5 197 rfl) rfl
theorem q1259 : (Jvm.Cond.interfaceEntry "ElasticTruss$Truss" (158 : Nat)) ∈ lw_tbl := lw_at lw_m5 198 rfl
theorem q1260 : (Jvm.Cond.methodLink "ElasticTruss$Truss" (158 : Nat) ({ cls := "ElasticTruss$Quantity", name := "of", desc := "(LElasticTruss$Member;II)J" } : Jvm.MethodName)) ∈ lw_all := lw_g (lw_at lw_m5 199 rfl) rfl
theorem q1287 : (Jvm.Cond.methodLink "ElasticTruss$Truss" (163 : Nat) ({ cls := "java/lang/Math", name := "min", desc := "(JJ)J" } : Jvm.MethodName)) ∈ lw_all := lw_g (lw_at lw_m5 226 rfl) rfl
theorem q1288 : (Jvm.Cond.methodLink "ElasticTruss$Truss" (167 : Nat) ({ cls := "java/lang/Math", name := "max", desc := "(JJ)J" } : Jvm.MethodName)) ∈ lw_all := lw_g (lw_at lw_m5 227 rfl) rfl
theorem q1289 : (Jvm.Cond.methodLink "ElasticTruss$Truss" (172 : Nat) ({ cls := "java/lang/Math", name := "min", desc := "(II)I" } : Jvm.MethodName)) ∈ lw_all := lw_g (lw_at lw_m5 228 rfl) rfl
theorem q1290 : (Jvm.Cond.constantLong "ElasticTruss$Truss" (182 : Nat) (9999 : Int64)) ∈ lw_all := lw_g (lw_at lw_m5 229 rfl) rfl
theorem q1291 : (Jvm.Cond.constantLong "ElasticTruss$Truss" (184 : Nat) (1000 : Int64)) ∈ lw_all := lw_g (lw_at lw_m5 230 rfl) rfl
theorem q1292 : (Jvm.Cond.methodLink "ElasticTruss$Truss" (174 : Nat) ({ cls := "java/lang/Math", name := "abs", desc := "(I)I" } : Jvm.MethodName)) ∈ lw_all := lw_g (lw_at lw_m5 231 rfl) rfl
theorem q1693 : (Jvm.Cond.selects "ElasticTruss$Truss" ({ cls := "java/lang/Object", name := "getClass", desc := "()Ljava/lang/Class;" } : Jvm.MethodName) ({ cls := "java/lang/Object", name := "getClass", desc := "()Ljava/lang/Class;" } : Jvm.MethodName)) ∈ lw_all := lw_g (lw_at lw_m7 152 rfl) rfl
theorem q1749 : (Jvm.Cond.selects "ElasticTruss$Truss" ({ cls := "java/lang/Object", name := "toString", desc := "()Ljava/lang/String;" } : Jvm.MethodName) ({ cls := "java/lang/Object", name := "toString", desc := "()Ljava/lang/String;" } : Jvm.MethodName)) ∈ lw_all := lw_g (lw_at lw_m7 208 rfl) rfl
theorem q1826 : (Jvm.Cond.instanceMethod ({ cls := "ElasticTruss$Truss", name := "bears", desc := "(LElasticTruss$Member;I)Z" } : Jvm.MethodName)) ∈ lw_all := lw_g (lw_at lw_m8 45 rfl) rfl
theorem q1827 : (Jvm.Cond.selects "ElasticTruss$Truss" ({ cls := "ElasticTruss$Truss", name := "bears", desc := "(LElasticTruss$Member;I)Z" } : Jvm.MethodName) ({ cls := "ElasticTruss$Truss", name := "bears", desc := "(LElasticTruss$Member;I)Z" } : Jvm.MethodName)) ∈ lw_all := lw_g (lw_at lw_m8 46 rfl) rfl
theorem q1828 : (Jvm.Cond.code ({ cls := "ElasticTruss$Truss", name := "bears", desc := "(LElasticTruss$Member;I)Z" } : Jvm.MethodName) prog_18_method_13_code (3 : Nat) (Option.some Jvm.ClassFile.FieldType.boolean)) ∈ lw_all := lw_g (lw_at lw_m8 47 rfl) rfl
theorem q1904 : (Jvm.Cond.selects "ElasticTruss$Truss" ({ cls := "java/lang/Object", name := "hashCode", desc := "()I" } : Jvm.MethodName) ({ cls := "java/lang/Object", name := "hashCode", desc := "()I" } : Jvm.MethodName)) ∈ lw_all := lw_g (lw_at lw_m8 123 rfl) rfl
theorem q2338 : (Jvm.Cond.selects "ElasticTruss$Truss" ({ cls := "java/lang/Object", name := "equals", desc := "(Ljava/lang/Object;)Z" } : Jvm.MethodName) ({ cls := "java/lang/Object", name := "equals", desc := "(Ljava/lang/Object;)Z" } : Jvm.MethodName)) ∈ lw_all := lw_g (lw_at lw_m10 77 rfl) rfl
theorem q2466 : (Jvm.Cond.instanceMethod ({ cls := "ElasticTruss$Truss", name := "copy", desc := "()LElasticTruss$Truss;" } : Jvm.MethodName)) ∈ lw_all := lw_g (lw_at lw_m10 205 rfl) rfl
theorem q2467 : (Jvm.Cond.selects "ElasticTruss$Truss" ({ cls := "ElasticTruss$Truss", name := "copy", desc := "()LElasticTruss$Truss;" } : Jvm.MethodName) ({ cls := "ElasticTruss$Truss", name := "copy", desc := "()LElasticTruss$Truss;" } : Jvm.MethodName)) ∈ lw_all := lw_g (lw_at lw_m10 206 rfl) rfl
theorem q2468 : (Jvm.Cond.code ({ cls := "ElasticTruss$Truss", name := "copy", desc := "()LElasticTruss$Truss;" } : Jvm.MethodName) prog_18_method_3_code (2 : Nat) (Option.some (Jvm.ClassFile.FieldType.object "ElasticTruss$Truss"))) ∈ lw_all := lw_g (lw_at lw_m10 207 rfl) rfl
theorem q2469 : (Jvm.Cond.classLink "ElasticTruss$Truss" (4 : Nat) "ElasticTruss$Truss") ∈ lw_all := lw_g (lw_at lw_m10 208 rfl) rfl
theorem q2470 : (Jvm.Cond.methodLink "ElasticTruss$Truss" (55 : Nat) ({ cls := "[I", name := "clone", desc := "()Ljava/lang/Object;" } : Jvm.MethodName)) ∈ lw_all := lw_g (lw_at lw_m10 209 rfl) rfl
theorem q2474 : (Jvm.Cond.classLink "ElasticTruss$Truss" (56 : Nat) "[I") ∈ lw_all := lw_g (lw_at lw_m10 213 rfl) rfl
theorem q2475 : (Jvm.Cond.interfaceEntry "ElasticTruss$Truss" (63 : Nat)) ∈ lw_tbl := lw_at lw_m10 214 rfl
theorem q2476 : (Jvm.Cond.methodLink "ElasticTruss$Truss" (63 : Nat) ({ cls := "java/util/Map", name := "putAll", desc := "(Ljava/util/Map;)V" } : Jvm.MethodName)) ∈ lw_all := lw_g (lw_at lw_m10 215 rfl) rfl
theorem q2625 : (Jvm.Cond.instanceMethod ({ cls := "ElasticTruss$Truss", name := "leastArea", desc := "(I)I" } : Jvm.MethodName)) ∈ lw_all := lw_g (lw_at lw_m11 124 rfl) rfl
theorem q2626 : (Jvm.Cond.selects "ElasticTruss$Truss" ({ cls := "ElasticTruss$Truss", name := "leastArea", desc := "(I)I" } : Jvm.MethodName) ({ cls := "ElasticTruss$Truss", name := "leastArea", desc := "(I)I" } : Jvm.MethodName)) ∈ lw_all := lw_g (lw_at lw_m11 125 rfl) rfl
theorem q2627 : (Jvm.Cond.code ({ cls := "ElasticTruss$Truss", name := "leastArea", desc := "(I)I" } : Jvm.MethodName) prog_18_method_16_code (6 : Nat) (Option.some Jvm.ClassFile.FieldType.int)) ∈ lw_all := lw_g (lw_at lw_m11 126 rfl) rfl
theorem q2628 : (Jvm.Cond.classLink "ElasticTruss$Truss" (186 : Nat) "ElasticTruss$Relaxation") ∈ lw_all := lw_g (lw_at lw_m11 127 rfl) rfl
theorem q2629 : (Jvm.Cond.methodLink "ElasticTruss$Truss" (188 : Nat) ({ cls := "ElasticTruss$Relaxation", name := "<init>", desc := "(LElasticTruss$Truss;)V" } : Jvm.MethodName)) ∈ lw_all := lw_g (lw_at lw_m11 128 rfl) rfl
theorem q2630 : (Jvm.Cond.methodLink "ElasticTruss$Truss" (191 : Nat) ({ cls := "ElasticTruss$Relaxation", name := "bearsLoads", desc := "()Z" } : Jvm.MethodName)) ∈ lw_all := lw_g (lw_at lw_m11 129 rfl) rfl
theorem q2832 : (Jvm.Cond.fieldLinkNest "ElasticTruss$Truss" (84 : Nat) "ElasticTruss$Node" "x" "I" "ElasticTruss") ∈ lw_tbl := lw_at lw_m12 91 rfl
theorem q2835 : (Jvm.Cond.fieldLinkNest "ElasticTruss$Truss" (87 : Nat) "ElasticTruss$Node" "y" "I" "ElasticTruss") ∈ lw_tbl := lw_at lw_m12 94 rfl
theorem q2893 : (Jvm.Cond.instanceMethod ({ cls := "ElasticTruss$Truss", name := "isJoined", desc := "(II)Z" } : Jvm.MethodName)) ∈ lw_all := lw_g (lw_at lw_m12 152 rfl) rfl
theorem q2894 : (Jvm.Cond.selects "ElasticTruss$Truss" ({ cls := "ElasticTruss$Truss", name := "isJoined", desc := "(II)Z" } : Jvm.MethodName) ({ cls := "ElasticTruss$Truss", name := "isJoined", desc := "(II)Z" } : Jvm.MethodName)) ∈ lw_all := lw_g (lw_at lw_m12 153 rfl) rfl
theorem q2895 : (Jvm.Cond.code ({ cls := "ElasticTruss$Truss", name := "isJoined", desc := "(II)Z" } : Jvm.MethodName) prog_18_method_5_code (3 : Nat) (Option.some Jvm.ClassFile.FieldType.boolean)) ∈ lw_all := lw_g (lw_at lw_m12 154 rfl) rfl
theorem q2896 : (Jvm.Cond.classLink "ElasticTruss$Truss" (77 : Nat) "ElasticTruss$PairKey") ∈ lw_all := lw_g (lw_at lw_m12 155 rfl) rfl
theorem q2898 : (Jvm.Cond.methodLink "ElasticTruss$Truss" (79 : Nat) ({ cls := "ElasticTruss$PairKey", name := "<init>", desc := "(II)V" } : Jvm.MethodName)) ∈ lw_all := lw_g (lw_at lw_m12 157 rfl) rfl
theorem q2911 : (Jvm.Cond.interfaceEntry "ElasticTruss$Truss" (97 : Nat)) ∈ lw_tbl := lw_at lw_m12 170 rfl
theorem q2912 : (Jvm.Cond.methodLink "ElasticTruss$Truss" (97 : Nat) ({ cls := "java/util/Map", name := "containsKey", desc := "(Ljava/lang/Object;)Z" } : Jvm.MethodName)) ∈ lw_all := lw_g (lw_at lw_m12 171 rfl) rfl
theorem q2930 : (Jvm.Cond.instanceMethod ({ cls := "ElasticTruss$Truss", name := "join", desc := "(III)V" } : Jvm.MethodName)) ∈ lw_all := lw_g (lw_at lw_m12 189 rfl) rfl
theorem q2931 : (Jvm.Cond.selects "ElasticTruss$Truss" ({ cls := "ElasticTruss$Truss", name := "join", desc := "(III)V" } : Jvm.MethodName) ({ cls := "ElasticTruss$Truss", name := "join", desc := "(III)V" } : Jvm.MethodName)) ∈ lw_all := lw_g (lw_at lw_m12 190 rfl) rfl
theorem q2932 : (Jvm.Cond.code ({ cls := "ElasticTruss$Truss", name := "join", desc := "(III)V" } : Jvm.MethodName) prog_18_method_4_code (6 : Nat) (Option.none : Option Jvm.ClassFile.FieldType)) ∈ lw_all := lw_g (lw_at lw_m12 191 rfl) rfl
theorem q2933 : (Jvm.Cond.interfaceEntry "ElasticTruss$Truss" (69 : Nat)) ∈ lw_tbl := lw_at lw_m12 192 rfl
theorem q2934 : (Jvm.Cond.methodLink "ElasticTruss$Truss" (69 : Nat) ({ cls := "java/util/List", name := "get", desc := "(I)Ljava/lang/Object;" } : Jvm.MethodName)) ∈ lw_all := lw_g (lw_at lw_m12 193 rfl) rfl
theorem q2935 : (Jvm.Cond.classLink "ElasticTruss$Truss" (75 : Nat) "ElasticTruss$Node") ∈ lw_all := lw_g (lw_at lw_m12 194 rfl) rfl
theorem q2937 : (Jvm.Cond.methodLink "ElasticTruss$Truss" (90 : Nat) ({ cls := "ElasticTruss$Member", name := "<init>", desc := "(IIIII)V" } : Jvm.MethodName)) ∈ lw_all := lw_g (lw_at lw_m12 196 rfl) rfl
theorem q2948 : (Jvm.Cond.fieldLinkNest "ElasticTruss$Truss" (124 : Nat) "ElasticTruss$Member" "first" "I" "ElasticTruss") ∈ lw_tbl := lw_at lw_m12 207 rfl
theorem q2952 : (Jvm.Cond.fieldLinkNest "ElasticTruss$Truss" (127 : Nat) "ElasticTruss$Member" "second" "I" "ElasticTruss") ∈ lw_tbl := lw_at lw_m12 211 rfl
theorem q2955 : (Jvm.Cond.fieldLinkNest "ElasticTruss$Truss" (146 : Nat) "ElasticTruss$Member" "group" "I" "ElasticTruss") ∈ lw_tbl := lw_at lw_m12 214 rfl
theorem q2963 : (Jvm.Cond.fieldLinkNest "ElasticTruss$Truss" (153 : Nat) "ElasticTruss$Member" "length" "I" "ElasticTruss") ∈ lw_tbl := lw_at lw_m12 222 rfl
theorem q2979 : (Jvm.Cond.interfaceEntry "ElasticTruss$Truss" (93 : Nat)) ∈ lw_tbl := lw_at lw_m12 238 rfl
theorem q2980 : (Jvm.Cond.methodLink "ElasticTruss$Truss" (93 : Nat) ({ cls := "java/util/Map", name := "put", desc := "(Ljava/lang/Object;Ljava/lang/Object;)Ljava/lang/Object;" } : Jvm.MethodName)) ∈ lw_all := lw_g (lw_at lw_m12 239 rfl) rfl
theorem q3255 : (Jvm.Cond.instanceMethod ({ cls := "ElasticTruss$Truss", name := "remove", desc := "(LElasticTruss$Member;)V" } : Jvm.MethodName)) ∈ lw_all := lw_g (lw_at lw_m14 34 rfl) rfl
theorem q3256 : (Jvm.Cond.selects "ElasticTruss$Truss" ({ cls := "ElasticTruss$Truss", name := "remove", desc := "(LElasticTruss$Member;)V" } : Jvm.MethodName) ({ cls := "ElasticTruss$Truss", name := "remove", desc := "(LElasticTruss$Member;)V" } : Jvm.MethodName)) ∈ lw_all := lw_g (lw_at lw_m14 35 rfl) rfl
theorem q3257 : (Jvm.Cond.code ({ cls := "ElasticTruss$Truss", name := "remove", desc := "(LElasticTruss$Member;)V" } : Jvm.MethodName) prog_18_method_7_code (2 : Nat) (Option.none : Option Jvm.ClassFile.FieldType)) ∈ lw_all := lw_g (lw_at lw_m14 36 rfl) rfl
theorem q3258 : (Jvm.Cond.interfaceEntry "ElasticTruss$Truss" (130 : Nat)) ∈ lw_tbl := lw_at lw_m14 37 rfl
theorem q3259 : (Jvm.Cond.methodLink "ElasticTruss$Truss" (130 : Nat) ({ cls := "java/util/Map", name := "remove", desc := "(Ljava/lang/Object;)Ljava/lang/Object;" } : Jvm.MethodName)) ∈ lw_all := lw_g (lw_at lw_m14 38 rfl) rfl
theorem q3287 : (Jvm.Cond.instanceMethod ({ cls := "ElasticTruss$Truss", name := "bearsLoads", desc := "()Z" } : Jvm.MethodName)) ∈ lw_all := lw_g (lw_at lw_m14 66 rfl) rfl
theorem q3288 : (Jvm.Cond.selects "ElasticTruss$Truss" ({ cls := "ElasticTruss$Truss", name := "bearsLoads", desc := "()Z" } : Jvm.MethodName) ({ cls := "ElasticTruss$Truss", name := "bearsLoads", desc := "()Z" } : Jvm.MethodName)) ∈ lw_all := lw_g (lw_at lw_m14 67 rfl) rfl
theorem q3289 : (Jvm.Cond.code ({ cls := "ElasticTruss$Truss", name := "bearsLoads", desc := "()Z" } : Jvm.MethodName) prog_18_method_15_code (1 : Nat) (Option.some Jvm.ClassFile.FieldType.boolean)) ∈ lw_all := lw_g (lw_at lw_m14 68 rfl) rfl
theorem q3848 : (Jvm.Cond.castable "ElasticTruss$Truss" "java/lang/Object") ∈ lw_tbl := lw_at lw_m16 147 rfl
theorem in_X2 : ∀ w ∈ wsX20, w ∈ lw_all := lw_in wsX20 [633, 635, 637, 639, 641, 643, 645, 647, 649] (by decide +kernel) (by decide +kernel)

-- X4.ElasticTruss_SetupReader.lean.txt
/-! ElasticTruss$SetupReader -/
set_option maxRecDepth 100000
def RX4 : String := "ElasticTruss$SetupReader"
def TX4 : u_T := fun k => match k with
  | 0 => ("ElasticTruss$SetupReader", "length", "I", true)
  | 1 => ("ElasticTruss$SetupReader", "read", "LElasticTruss$Truss;", false)
  | 2 => ("ElasticTruss$SetupReader", "position", "I", false)
  | 3 => ("ElasticTruss$SetupReader", "numberOffset", "I", false)
  | 4 => ("ElasticTruss$SetupReader", "nesting", "I", false)
  | 5 => ("ElasticTruss$SetupReader", "hasBuckling", "Z", false)
  | _ => ("ElasticTruss$SetupReader", "this$0", "LElasticTruss;", true)
def tyX4 : Nat → FieldType := fun k => match k with
  | 0 => .int
  | 1 => .object "ElasticTruss$Truss"
  | 2 => .int
  | 3 => .int
  | 4 => .int
  | 5 => .boolean
  | _ => .object "ElasticTruss"
abbrev wsX40 : List Cond := u_ws RX4 TX4 7
theorem nmX4 : ∀ a, a < 7 → ∀ b, b < 7 → a ≠ b → (TX4 a).2.1 ≠ (TX4 b).2.1 := by decide +kernel
theorem tyX4_ok : ∀ k, k < 7 → parseFieldDescriptor (TX4 k).2.2.1 = some (tyX4 k) := by decide +kernel
abbrev cX4_init : ByteArray := prog_17_method_1_code
def yX4_init : MethodName := ⟨RX4, "<init>", "(LElasticTruss;I)V"⟩
def dkwX4_init_1 : List UInt8 := [181, 0, 22, 177]
abbrev dktX4_init_1 : List UInt8 := dkwX4_init_1 ++ []
def dkwX4_init_0 : List UInt8 := [42, 43, 181, 0, 3, 42, 183, 0, 9, 42, 187, 0, 15, 89, 183, 0, 17, 181, 0, 18, 42, 28]
abbrev dktX4_init_0 : List UInt8 := dkwX4_init_0 ++ dktX4_init_1
theorem dksX4_init_0 : cX4_init.data.toList.drop 0 = dktX4_init_0 := by decide +kernel
theorem dksX4_init_1 : cX4_init.data.toList.drop 22 = dktX4_init_1 := dk_seg dksX4_init_0 22 rfl rfl
theorem dX4_init_0 : decode cX4_init 0 = .ok (.aload_n 0, 1) := dk_42 (dk_at dksX4_init_0 0 rfl rfl)
theorem dX4_init_1 : decode cX4_init 1 = .ok (.aload_n 1, 1) := dk_43 (dk_at dksX4_init_0 1 rfl rfl)
theorem dX4_init_2 : decode cX4_init 2 = .ok (.putfield 3, 3) := dk_181 0 3 (dk_at dksX4_init_0 2 rfl rfl)
theorem dX4_init_5 : decode cX4_init 5 = .ok (.aload_n 0, 1) := dk_42 (dk_at dksX4_init_0 5 rfl rfl)
theorem dX4_init_6 : decode cX4_init 6 = .ok (.invokespecial 9, 3) := dk_183 0 9 (dk_at dksX4_init_0 6 rfl rfl)
theorem dX4_init_9 : decode cX4_init 9 = .ok (.aload_n 0, 1) := dk_42 (dk_at dksX4_init_0 9 rfl rfl)
theorem dX4_init_10 : decode cX4_init 10 = .ok (.new 15, 3) := dk_187 0 15 (dk_at dksX4_init_0 10 rfl rfl)
theorem dX4_init_13 : decode cX4_init 13 = .ok (.dup, 1) := dk_89 (dk_at dksX4_init_0 13 rfl rfl)
theorem dX4_init_14 : decode cX4_init 14 = .ok (.invokespecial 17, 3) := dk_183 0 17 (dk_at dksX4_init_0 14 rfl rfl)
theorem dX4_init_17 : decode cX4_init 17 = .ok (.putfield 18, 3) := dk_181 0 18 (dk_at dksX4_init_0 17 rfl rfl)
theorem dX4_init_20 : decode cX4_init 20 = .ok (.aload_n 0, 1) := dk_42 (dk_at dksX4_init_0 20 rfl rfl)
theorem dX4_init_21 : decode cX4_init 21 = .ok (.iload_n 2, 1) := dk_28 (dk_at dksX4_init_0 21 rfl rfl)
theorem dX4_init_22 : decode cX4_init 22 = .ok (.putfield 22, 3) := dk_181 0 22 (dk_at dksX4_init_1 0 rfl rfl)
theorem dX4_init_25 : decode cX4_init 25 = .ok (.return_, 1) := dk_177 (dk_at dksX4_init_1 3 rfl rfl)
abbrev cX4_read : ByteArray := prog_17_method_22_code
def yX4_read : MethodName := ⟨RX4, "read", "()LElasticTruss$Truss;"⟩
def dkwX4_read_3 : List UInt8 := [2, 159, 0, 10, 42, 182, 1, 16, 167, 255, 244, 42, 180, 0, 18, 176]
abbrev dktX4_read_3 : List UInt8 := dkwX4_read_3 ++ []
def dkwX4_read_2 : List UInt8 := [28, 42, 4, 16, 40, 182, 0, 91, 183, 1, 14, 181, 0, 18, 42, 16, 59, 182, 0, 115, 42, 182, 0, 49]
abbrev dktX4_read_2 : List UInt8 := dkwX4_read_2 ++ dktX4_read_3
def dkwX4_read_1 : List UInt8 := [42, 4, 17, 39, 15, 182, 0, 91, 60, 42, 4, 17, 39, 15, 182, 0, 91, 61, 42, 187, 0, 15, 89, 27]
abbrev dktX4_read_1 : List UInt8 := dkwX4_read_1 ++ dktX4_read_2
def dkwX4_read_0 : List UInt8 := [42, 19, 1, 12, 182, 0, 96, 154, 0, 17, 187, 0, 69, 89, 16, 254, 42, 180, 0, 30, 183, 0, 71, 191]
abbrev dktX4_read_0 : List UInt8 := dkwX4_read_0 ++ dktX4_read_1
theorem dksX4_read_0 : cX4_read.data.toList.drop 0 = dktX4_read_0 := by decide +kernel
theorem dksX4_read_1 : cX4_read.data.toList.drop 24 = dktX4_read_1 := dk_seg dksX4_read_0 24 rfl rfl
theorem dksX4_read_2 : cX4_read.data.toList.drop 48 = dktX4_read_2 := dk_seg dksX4_read_1 24 rfl rfl
theorem dksX4_read_3 : cX4_read.data.toList.drop 72 = dktX4_read_3 := dk_seg dksX4_read_2 24 rfl rfl
theorem dX4_read_0 : decode cX4_read 0 = .ok (.aload_n 0, 1) := dk_42 (dk_at dksX4_read_0 0 rfl rfl)
theorem dX4_read_1 : decode cX4_read 1 = .ok (.ldc_w 268, 3) := dk_19 1 12 (dk_at dksX4_read_0 1 rfl rfl)
theorem dX4_read_4 : decode cX4_read 4 = .ok (.invokevirtual 96, 3) := dk_182 0 96 (dk_at dksX4_read_0 4 rfl rfl)
theorem dX4_read_7 : decode cX4_read 7 = .ok (.ifCond .ne 17, 3) := dk_154 0 17 (dk_at dksX4_read_0 7 rfl rfl)
theorem dX4_read_10 : decode cX4_read 10 = .ok (.new 69, 3) := dk_187 0 69 (dk_at dksX4_read_0 10 rfl rfl)
theorem dX4_read_13 : decode cX4_read 13 = .ok (.dup, 1) := dk_89 (dk_at dksX4_read_0 13 rfl rfl)
theorem dX4_read_14 : decode cX4_read 14 = .ok (.bipush (-2), 2) := dk_16 254 (dk_at dksX4_read_0 14 rfl rfl)
theorem dX4_read_16 : decode cX4_read 16 = .ok (.aload_n 0, 1) := dk_42 (dk_at dksX4_read_0 16 rfl rfl)
theorem dX4_read_17 : decode cX4_read 17 = .ok (.getfield 30, 3) := dk_180 0 30 (dk_at dksX4_read_0 17 rfl rfl)
theorem dX4_read_20 : decode cX4_read 20 = .ok (.invokespecial 71, 3) := dk_183 0 71 (dk_at dksX4_read_0 20 rfl rfl)
theorem dX4_read_23 : decode cX4_read 23 = .ok (.athrow, 1) := dk_191 (dk_at dksX4_read_0 23 rfl rfl)
theorem dX4_read_24 : decode cX4_read 24 = .ok (.aload_n 0, 1) := dk_42 (dk_at dksX4_read_1 0 rfl rfl)
theorem dX4_read_25 : decode cX4_read 25 = .ok (.iconst 1, 1) := dk_4 (dk_at dksX4_read_1 1 rfl rfl)
theorem dX4_read_26 : decode cX4_read 26 = .ok (.sipush 9999, 3) := dk_17 39 15 (dk_at dksX4_read_1 2 rfl rfl)
theorem dX4_read_29 : decode cX4_read 29 = .ok (.invokevirtual 91, 3) := dk_182 0 91 (dk_at dksX4_read_1 5 rfl rfl)
theorem dX4_read_32 : decode cX4_read 32 = .ok (.istore_n 1, 1) := dk_60 (dk_at dksX4_read_1 8 rfl rfl)
theorem dX4_read_33 : decode cX4_read 33 = .ok (.aload_n 0, 1) := dk_42 (dk_at dksX4_read_1 9 rfl rfl)
theorem dX4_read_34 : decode cX4_read 34 = .ok (.iconst 1, 1) := dk_4 (dk_at dksX4_read_1 10 rfl rfl)
theorem dX4_read_35 : decode cX4_read 35 = .ok (.sipush 9999, 3) := dk_17 39 15 (dk_at dksX4_read_1 11 rfl rfl)
theorem dX4_read_38 : decode cX4_read 38 = .ok (.invokevirtual 91, 3) := dk_182 0 91 (dk_at dksX4_read_1 14 rfl rfl)
theorem dX4_read_41 : decode cX4_read 41 = .ok (.istore_n 2, 1) := dk_61 (dk_at dksX4_read_1 17 rfl rfl)
theorem dX4_read_42 : decode cX4_read 42 = .ok (.aload_n 0, 1) := dk_42 (dk_at dksX4_read_1 18 rfl rfl)
theorem dX4_read_43 : decode cX4_read 43 = .ok (.new 15, 3) := dk_187 0 15 (dk_at dksX4_read_1 19 rfl rfl)
theorem dX4_read_46 : decode cX4_read 46 = .ok (.dup, 1) := dk_89 (dk_at dksX4_read_1 22 rfl rfl)
theorem dX4_read_47 : decode cX4_read 47 = .ok (.iload_n 1, 1) := dk_27 (dk_at dksX4_read_1 23 rfl rfl)
theorem dX4_read_48 : decode cX4_read 48 = .ok (.iload_n 2, 1) := dk_28 (dk_at dksX4_read_2 0 rfl rfl)
theorem dX4_read_49 : decode cX4_read 49 = .ok (.aload_n 0, 1) := dk_42 (dk_at dksX4_read_2 1 rfl rfl)
theorem dX4_read_50 : decode cX4_read 50 = .ok (.iconst 1, 1) := dk_4 (dk_at dksX4_read_2 2 rfl rfl)
theorem dX4_read_51 : decode cX4_read 51 = .ok (.bipush 40, 2) := dk_16 40 (dk_at dksX4_read_2 3 rfl rfl)
theorem dX4_read_53 : decode cX4_read 53 = .ok (.invokevirtual 91, 3) := dk_182 0 91 (dk_at dksX4_read_2 5 rfl rfl)
theorem dX4_read_56 : decode cX4_read 56 = .ok (.invokespecial 270, 3) := dk_183 1 14 (dk_at dksX4_read_2 8 rfl rfl)
theorem dX4_read_59 : decode cX4_read 59 = .ok (.putfield 18, 3) := dk_181 0 18 (dk_at dksX4_read_2 11 rfl rfl)
theorem dX4_read_62 : decode cX4_read 62 = .ok (.aload_n 0, 1) := dk_42 (dk_at dksX4_read_2 14 rfl rfl)
theorem dX4_read_63 : decode cX4_read 63 = .ok (.bipush 59, 2) := dk_16 59 (dk_at dksX4_read_2 15 rfl rfl)
theorem dX4_read_65 : decode cX4_read 65 = .ok (.invokevirtual 115, 3) := dk_182 0 115 (dk_at dksX4_read_2 17 rfl rfl)
theorem dX4_read_68 : decode cX4_read 68 = .ok (.aload_n 0, 1) := dk_42 (dk_at dksX4_read_2 20 rfl rfl)
theorem dX4_read_69 : decode cX4_read 69 = .ok (.invokevirtual 49, 3) := dk_182 0 49 (dk_at dksX4_read_2 21 rfl rfl)
theorem dX4_read_72 : decode cX4_read 72 = .ok (.iconst (-1), 1) := dk_2 (dk_at dksX4_read_3 0 rfl rfl)
theorem dX4_read_73 : decode cX4_read 73 = .ok (.if_icmp .eq 10, 3) := dk_159 0 10 (dk_at dksX4_read_3 1 rfl rfl)
theorem dX4_read_76 : decode cX4_read 76 = .ok (.aload_n 0, 1) := dk_42 (dk_at dksX4_read_3 4 rfl rfl)
theorem dX4_read_77 : decode cX4_read 77 = .ok (.invokevirtual 272, 3) := dk_182 1 16 (dk_at dksX4_read_3 5 rfl rfl)
theorem dX4_read_80 : decode cX4_read 80 = .ok (.goto (-12), 3) := dk_167 255 244 (dk_at dksX4_read_3 8 rfl rfl)
theorem dX4_read_83 : decode cX4_read 83 = .ok (.aload_n 0, 1) := dk_42 (dk_at dksX4_read_3 11 rfl rfl)
theorem dX4_read_84 : decode cX4_read 84 = .ok (.getfield 18, 3) := dk_180 0 18 (dk_at dksX4_read_3 12 rfl rfl)
theorem dX4_read_87 : decode cX4_read 87 = .ok (.areturn, 1) := dk_176 (dk_at dksX4_read_3 15 rfl rfl)
abbrev cX4_takeWord : ByteArray := prog_17_method_6_code
def yX4_takeWord : MethodName := ⟨RX4, "takeWord", "(Ljava/lang/String;)Z"⟩
def dkwX4_takeWord_3 : List UInt8 := [132, 3, 1, 167, 255, 225, 42, 28, 181, 0, 30, 4, 172]
abbrev dktX4_takeWord_3 : List UInt8 := dkwX4_takeWord_3 ++ []
def dkwX4_takeWord_2 : List UInt8 := [162, 0, 29, 42, 42, 180, 0, 30, 29, 96, 182, 0, 33, 43, 29, 182, 0, 61, 159, 0, 5, 3, 172]
abbrev dktX4_takeWord_2 : List UInt8 := dkwX4_takeWord_2 ++ dktX4_takeWord_3
def dkwX4_takeWord_1 : List UInt8 := [28, 42, 180, 0, 30, 100, 43, 182, 0, 57, 159, 0, 5, 3, 172, 3, 62, 29, 43, 182, 0, 57]
abbrev dktX4_takeWord_1 : List UInt8 := dkwX4_takeWord_1 ++ dktX4_takeWord_2
def dkwX4_takeWord_0 : List UInt8 := [42, 182, 0, 49, 87, 42, 180, 0, 30, 61, 42, 28, 182, 0, 53, 153, 0, 9, 132, 2, 1, 167, 255, 245]
abbrev dktX4_takeWord_0 : List UInt8 := dkwX4_takeWord_0 ++ dktX4_takeWord_1
theorem dksX4_takeWord_0 : cX4_takeWord.data.toList.drop 0 = dktX4_takeWord_0 := by decide +kernel
theorem dksX4_takeWord_1 : cX4_takeWord.data.toList.drop 24 = dktX4_takeWord_1 := dk_seg dksX4_takeWord_0 24 rfl rfl
theorem dksX4_takeWord_2 : cX4_takeWord.data.toList.drop 46 = dktX4_takeWord_2 := dk_seg dksX4_takeWord_1 22 rfl rfl
theorem dksX4_takeWord_3 : cX4_takeWord.data.toList.drop 69 = dktX4_takeWord_3 := dk_seg dksX4_takeWord_2 23 rfl rfl
theorem dX4_takeWord_0 : decode cX4_takeWord 0 = .ok (.aload_n 0, 1) := dk_42 (dk_at dksX4_takeWord_0 0 rfl rfl)
theorem dX4_takeWord_1 : decode cX4_takeWord 1 = .ok (.invokevirtual 49, 3) := dk_182 0 49 (dk_at dksX4_takeWord_0 1 rfl rfl)
theorem dX4_takeWord_4 : decode cX4_takeWord 4 = .ok (.pop, 1) := dk_87 (dk_at dksX4_takeWord_0 4 rfl rfl)
theorem dX4_takeWord_5 : decode cX4_takeWord 5 = .ok (.aload_n 0, 1) := dk_42 (dk_at dksX4_takeWord_0 5 rfl rfl)
theorem dX4_takeWord_6 : decode cX4_takeWord 6 = .ok (.getfield 30, 3) := dk_180 0 30 (dk_at dksX4_takeWord_0 6 rfl rfl)
theorem dX4_takeWord_9 : decode cX4_takeWord 9 = .ok (.istore_n 2, 1) := dk_61 (dk_at dksX4_takeWord_0 9 rfl rfl)
theorem dX4_takeWord_10 : decode cX4_takeWord 10 = .ok (.aload_n 0, 1) := dk_42 (dk_at dksX4_takeWord_0 10 rfl rfl)
theorem dX4_takeWord_11 : decode cX4_takeWord 11 = .ok (.iload_n 2, 1) := dk_28 (dk_at dksX4_takeWord_0 11 rfl rfl)
theorem dX4_takeWord_12 : decode cX4_takeWord 12 = .ok (.invokevirtual 53, 3) := dk_182 0 53 (dk_at dksX4_takeWord_0 12 rfl rfl)
theorem dX4_takeWord_15 : decode cX4_takeWord 15 = .ok (.ifCond .eq 9, 3) := dk_153 0 9 (dk_at dksX4_takeWord_0 15 rfl rfl)
theorem dX4_takeWord_18 : decode cX4_takeWord 18 = .ok (.iinc 2 1, 3) := dk_132 2 1 (dk_at dksX4_takeWord_0 18 rfl rfl)
theorem dX4_takeWord_21 : decode cX4_takeWord 21 = .ok (.goto (-11), 3) := dk_167 255 245 (dk_at dksX4_takeWord_0 21 rfl rfl)
theorem dX4_takeWord_24 : decode cX4_takeWord 24 = .ok (.iload_n 2, 1) := dk_28 (dk_at dksX4_takeWord_1 0 rfl rfl)
theorem dX4_takeWord_25 : decode cX4_takeWord 25 = .ok (.aload_n 0, 1) := dk_42 (dk_at dksX4_takeWord_1 1 rfl rfl)
theorem dX4_takeWord_26 : decode cX4_takeWord 26 = .ok (.getfield 30, 3) := dk_180 0 30 (dk_at dksX4_takeWord_1 2 rfl rfl)
theorem dX4_takeWord_29 : decode cX4_takeWord 29 = .ok (.isub, 1) := dk_100 (dk_at dksX4_takeWord_1 5 rfl rfl)
theorem dX4_takeWord_30 : decode cX4_takeWord 30 = .ok (.aload_n 1, 1) := dk_43 (dk_at dksX4_takeWord_1 6 rfl rfl)
theorem dX4_takeWord_31 : decode cX4_takeWord 31 = .ok (.invokevirtual 57, 3) := dk_182 0 57 (dk_at dksX4_takeWord_1 7 rfl rfl)
theorem dX4_takeWord_34 : decode cX4_takeWord 34 = .ok (.if_icmp .eq 5, 3) := dk_159 0 5 (dk_at dksX4_takeWord_1 10 rfl rfl)
theorem dX4_takeWord_37 : decode cX4_takeWord 37 = .ok (.iconst 0, 1) := dk_3 (dk_at dksX4_takeWord_1 13 rfl rfl)
theorem dX4_takeWord_38 : decode cX4_takeWord 38 = .ok (.ireturn, 1) := dk_172 (dk_at dksX4_takeWord_1 14 rfl rfl)
theorem dX4_takeWord_39 : decode cX4_takeWord 39 = .ok (.iconst 0, 1) := dk_3 (dk_at dksX4_takeWord_1 15 rfl rfl)
theorem dX4_takeWord_40 : decode cX4_takeWord 40 = .ok (.istore_n 3, 1) := dk_62 (dk_at dksX4_takeWord_1 16 rfl rfl)
theorem dX4_takeWord_41 : decode cX4_takeWord 41 = .ok (.iload_n 3, 1) := dk_29 (dk_at dksX4_takeWord_1 17 rfl rfl)
theorem dX4_takeWord_42 : decode cX4_takeWord 42 = .ok (.aload_n 1, 1) := dk_43 (dk_at dksX4_takeWord_1 18 rfl rfl)
theorem dX4_takeWord_43 : decode cX4_takeWord 43 = .ok (.invokevirtual 57, 3) := dk_182 0 57 (dk_at dksX4_takeWord_1 19 rfl rfl)
theorem dX4_takeWord_46 : decode cX4_takeWord 46 = .ok (.if_icmp .ge 29, 3) := dk_162 0 29 (dk_at dksX4_takeWord_2 0 rfl rfl)
theorem dX4_takeWord_49 : decode cX4_takeWord 49 = .ok (.aload_n 0, 1) := dk_42 (dk_at dksX4_takeWord_2 3 rfl rfl)
theorem dX4_takeWord_50 : decode cX4_takeWord 50 = .ok (.aload_n 0, 1) := dk_42 (dk_at dksX4_takeWord_2 4 rfl rfl)
theorem dX4_takeWord_51 : decode cX4_takeWord 51 = .ok (.getfield 30, 3) := dk_180 0 30 (dk_at dksX4_takeWord_2 5 rfl rfl)
theorem dX4_takeWord_54 : decode cX4_takeWord 54 = .ok (.iload_n 3, 1) := dk_29 (dk_at dksX4_takeWord_2 8 rfl rfl)
theorem dX4_takeWord_55 : decode cX4_takeWord 55 = .ok (.iadd, 1) := dk_96 (dk_at dksX4_takeWord_2 9 rfl rfl)
theorem dX4_takeWord_56 : decode cX4_takeWord 56 = .ok (.invokevirtual 33, 3) := dk_182 0 33 (dk_at dksX4_takeWord_2 10 rfl rfl)
theorem dX4_takeWord_59 : decode cX4_takeWord 59 = .ok (.aload_n 1, 1) := dk_43 (dk_at dksX4_takeWord_2 13 rfl rfl)
theorem dX4_takeWord_60 : decode cX4_takeWord 60 = .ok (.iload_n 3, 1) := dk_29 (dk_at dksX4_takeWord_2 14 rfl rfl)
theorem dX4_takeWord_61 : decode cX4_takeWord 61 = .ok (.invokevirtual 61, 3) := dk_182 0 61 (dk_at dksX4_takeWord_2 15 rfl rfl)
theorem dX4_takeWord_64 : decode cX4_takeWord 64 = .ok (.if_icmp .eq 5, 3) := dk_159 0 5 (dk_at dksX4_takeWord_2 18 rfl rfl)
theorem dX4_takeWord_67 : decode cX4_takeWord 67 = .ok (.iconst 0, 1) := dk_3 (dk_at dksX4_takeWord_2 21 rfl rfl)
theorem dX4_takeWord_68 : decode cX4_takeWord 68 = .ok (.ireturn, 1) := dk_172 (dk_at dksX4_takeWord_2 22 rfl rfl)
theorem dX4_takeWord_69 : decode cX4_takeWord 69 = .ok (.iinc 3 1, 3) := dk_132 3 1 (dk_at dksX4_takeWord_3 0 rfl rfl)
theorem dX4_takeWord_72 : decode cX4_takeWord 72 = .ok (.goto (-31), 3) := dk_167 255 225 (dk_at dksX4_takeWord_3 3 rfl rfl)
theorem dX4_takeWord_75 : decode cX4_takeWord 75 = .ok (.aload_n 0, 1) := dk_42 (dk_at dksX4_takeWord_3 6 rfl rfl)
theorem dX4_takeWord_76 : decode cX4_takeWord 76 = .ok (.iload_n 2, 1) := dk_28 (dk_at dksX4_takeWord_3 7 rfl rfl)
theorem dX4_takeWord_77 : decode cX4_takeWord 77 = .ok (.putfield 30, 3) := dk_181 0 30 (dk_at dksX4_takeWord_3 8 rfl rfl)
theorem dX4_takeWord_80 : decode cX4_takeWord 80 = .ok (.iconst 1, 1) := dk_4 (dk_at dksX4_takeWord_3 11 rfl rfl)
theorem dX4_takeWord_81 : decode cX4_takeWord 81 = .ok (.ireturn, 1) := dk_172 (dk_at dksX4_takeWord_3 12 rfl rfl)
abbrev cX4_skipSpaces : ByteArray := prog_17_method_3_code
def yX4_skipSpaces : MethodName := ⟨RX4, "skipSpaces", "()I"⟩
def dkwX4_skipSpaces_1 : List UInt8 := [167, 255, 233, 42, 42, 180, 0, 30, 182, 0, 33, 172]
abbrev dktX4_skipSpaces_1 : List UInt8 := dkwX4_skipSpaces_1 ++ []
def dkwX4_skipSpaces_0 : List UInt8 := [42, 42, 180, 0, 30, 182, 0, 33, 16, 32, 160, 0, 16, 42, 89, 180, 0, 30, 4, 96, 181, 0, 30]
abbrev dktX4_skipSpaces_0 : List UInt8 := dkwX4_skipSpaces_0 ++ dktX4_skipSpaces_1
theorem dksX4_skipSpaces_0 : cX4_skipSpaces.data.toList.drop 0 = dktX4_skipSpaces_0 := by decide +kernel
theorem dksX4_skipSpaces_1 : cX4_skipSpaces.data.toList.drop 23 = dktX4_skipSpaces_1 := dk_seg dksX4_skipSpaces_0 23 rfl rfl
theorem dX4_skipSpaces_0 : decode cX4_skipSpaces 0 = .ok (.aload_n 0, 1) := dk_42 (dk_at dksX4_skipSpaces_0 0 rfl rfl)
theorem dX4_skipSpaces_1 : decode cX4_skipSpaces 1 = .ok (.aload_n 0, 1) := dk_42 (dk_at dksX4_skipSpaces_0 1 rfl rfl)
theorem dX4_skipSpaces_2 : decode cX4_skipSpaces 2 = .ok (.getfield 30, 3) := dk_180 0 30 (dk_at dksX4_skipSpaces_0 2 rfl rfl)
theorem dX4_skipSpaces_5 : decode cX4_skipSpaces 5 = .ok (.invokevirtual 33, 3) := dk_182 0 33 (dk_at dksX4_skipSpaces_0 5 rfl rfl)
theorem dX4_skipSpaces_8 : decode cX4_skipSpaces 8 = .ok (.bipush 32, 2) := dk_16 32 (dk_at dksX4_skipSpaces_0 8 rfl rfl)
theorem dX4_skipSpaces_10 : decode cX4_skipSpaces 10 = .ok (.if_icmp .ne 16, 3) := dk_160 0 16 (dk_at dksX4_skipSpaces_0 10 rfl rfl)
theorem dX4_skipSpaces_13 : decode cX4_skipSpaces 13 = .ok (.aload_n 0, 1) := dk_42 (dk_at dksX4_skipSpaces_0 13 rfl rfl)
theorem dX4_skipSpaces_14 : decode cX4_skipSpaces 14 = .ok (.dup, 1) := dk_89 (dk_at dksX4_skipSpaces_0 14 rfl rfl)
theorem dX4_skipSpaces_15 : decode cX4_skipSpaces 15 = .ok (.getfield 30, 3) := dk_180 0 30 (dk_at dksX4_skipSpaces_0 15 rfl rfl)
theorem dX4_skipSpaces_18 : decode cX4_skipSpaces 18 = .ok (.iconst 1, 1) := dk_4 (dk_at dksX4_skipSpaces_0 18 rfl rfl)
theorem dX4_skipSpaces_19 : decode cX4_skipSpaces 19 = .ok (.iadd, 1) := dk_96 (dk_at dksX4_skipSpaces_0 19 rfl rfl)
theorem dX4_skipSpaces_20 : decode cX4_skipSpaces 20 = .ok (.putfield 30, 3) := dk_181 0 30 (dk_at dksX4_skipSpaces_0 20 rfl rfl)
theorem dX4_skipSpaces_23 : decode cX4_skipSpaces 23 = .ok (.goto (-23), 3) := dk_167 255 233 (dk_at dksX4_skipSpaces_1 0 rfl rfl)
theorem dX4_skipSpaces_26 : decode cX4_skipSpaces 26 = .ok (.aload_n 0, 1) := dk_42 (dk_at dksX4_skipSpaces_1 3 rfl rfl)
theorem dX4_skipSpaces_27 : decode cX4_skipSpaces 27 = .ok (.aload_n 0, 1) := dk_42 (dk_at dksX4_skipSpaces_1 4 rfl rfl)
theorem dX4_skipSpaces_28 : decode cX4_skipSpaces 28 = .ok (.getfield 30, 3) := dk_180 0 30 (dk_at dksX4_skipSpaces_1 5 rfl rfl)
theorem dX4_skipSpaces_31 : decode cX4_skipSpaces 31 = .ok (.invokevirtual 33, 3) := dk_182 0 33 (dk_at dksX4_skipSpaces_1 8 rfl rfl)
theorem dX4_skipSpaces_34 : decode cX4_skipSpaces 34 = .ok (.ireturn, 1) := dk_172 (dk_at dksX4_skipSpaces_1 11 rfl rfl)
abbrev cX4_byteAt : ByteArray := prog_17_method_2_code
def yX4_byteAt : MethodName := ⟨RX4, "byteAt", "(I)I"⟩
def dkwX4_byteAt_1 : List UInt8 := [2, 172]
abbrev dktX4_byteAt_1 : List UInt8 := dkwX4_byteAt_1 ++ []
def dkwX4_byteAt_0 : List UInt8 := [27, 42, 180, 0, 22, 162, 0, 19, 42, 180, 0, 3, 180, 0, 26, 27, 51, 17, 0, 255, 126, 167, 0, 4]
abbrev dktX4_byteAt_0 : List UInt8 := dkwX4_byteAt_0 ++ dktX4_byteAt_1
theorem dksX4_byteAt_0 : cX4_byteAt.data.toList.drop 0 = dktX4_byteAt_0 := by decide +kernel
theorem dksX4_byteAt_1 : cX4_byteAt.data.toList.drop 24 = dktX4_byteAt_1 := dk_seg dksX4_byteAt_0 24 rfl rfl
theorem dX4_byteAt_0 : decode cX4_byteAt 0 = .ok (.iload_n 1, 1) := dk_27 (dk_at dksX4_byteAt_0 0 rfl rfl)
theorem dX4_byteAt_1 : decode cX4_byteAt 1 = .ok (.aload_n 0, 1) := dk_42 (dk_at dksX4_byteAt_0 1 rfl rfl)
theorem dX4_byteAt_2 : decode cX4_byteAt 2 = .ok (.getfield 22, 3) := dk_180 0 22 (dk_at dksX4_byteAt_0 2 rfl rfl)
theorem dX4_byteAt_5 : decode cX4_byteAt 5 = .ok (.if_icmp .ge 19, 3) := dk_162 0 19 (dk_at dksX4_byteAt_0 5 rfl rfl)
theorem dX4_byteAt_8 : decode cX4_byteAt 8 = .ok (.aload_n 0, 1) := dk_42 (dk_at dksX4_byteAt_0 8 rfl rfl)
theorem dX4_byteAt_9 : decode cX4_byteAt 9 = .ok (.getfield 3, 3) := dk_180 0 3 (dk_at dksX4_byteAt_0 9 rfl rfl)
theorem dX4_byteAt_12 : decode cX4_byteAt 12 = .ok (.getfield 26, 3) := dk_180 0 26 (dk_at dksX4_byteAt_0 12 rfl rfl)
theorem dX4_byteAt_15 : decode cX4_byteAt 15 = .ok (.iload_n 1, 1) := dk_27 (dk_at dksX4_byteAt_0 15 rfl rfl)
theorem dX4_byteAt_16 : decode cX4_byteAt 16 = .ok (.baload, 1) := dk_51 (dk_at dksX4_byteAt_0 16 rfl rfl)
theorem dX4_byteAt_17 : decode cX4_byteAt 17 = .ok (.sipush 255, 3) := dk_17 0 255 (dk_at dksX4_byteAt_0 17 rfl rfl)
theorem dX4_byteAt_20 : decode cX4_byteAt 20 = .ok (.iand, 1) := dk_126 (dk_at dksX4_byteAt_0 20 rfl rfl)
theorem dX4_byteAt_21 : decode cX4_byteAt 21 = .ok (.goto 4, 3) := dk_167 0 4 (dk_at dksX4_byteAt_0 21 rfl rfl)
theorem dX4_byteAt_24 : decode cX4_byteAt 24 = .ok (.iconst (-1), 1) := dk_2 (dk_at dksX4_byteAt_1 0 rfl rfl)
theorem dX4_byteAt_25 : decode cX4_byteAt 25 = .ok (.ireturn, 1) := dk_172 (dk_at dksX4_byteAt_1 1 rfl rfl)
abbrev cX4_isLetter : ByteArray := prog_17_method_4_code
def yX4_isLetter : MethodName := ⟨RX4, "isLetter", "(I)Z"⟩
def dkwX4_isLetter_0 : List UInt8 := [20, 0, 37, 20, 0, 39, 42, 27, 182, 0, 33, 133, 184, 0, 41, 172]
abbrev dktX4_isLetter_0 : List UInt8 := dkwX4_isLetter_0 ++ []
theorem dksX4_isLetter_0 : cX4_isLetter.data.toList.drop 0 = dktX4_isLetter_0 := by decide +kernel
theorem dX4_isLetter_0 : decode cX4_isLetter 0 = .ok (.ldc2_w 37, 3) := dk_20 0 37 (dk_at dksX4_isLetter_0 0 rfl rfl)
theorem dX4_isLetter_3 : decode cX4_isLetter 3 = .ok (.ldc2_w 39, 3) := dk_20 0 39 (dk_at dksX4_isLetter_0 3 rfl rfl)
theorem dX4_isLetter_6 : decode cX4_isLetter 6 = .ok (.aload_n 0, 1) := dk_42 (dk_at dksX4_isLetter_0 6 rfl rfl)
theorem dX4_isLetter_7 : decode cX4_isLetter 7 = .ok (.iload_n 1, 1) := dk_27 (dk_at dksX4_isLetter_0 7 rfl rfl)
theorem dX4_isLetter_8 : decode cX4_isLetter 8 = .ok (.invokevirtual 33, 3) := dk_182 0 33 (dk_at dksX4_isLetter_0 8 rfl rfl)
theorem dX4_isLetter_11 : decode cX4_isLetter 11 = .ok (.i2l, 1) := dk_133 (dk_at dksX4_isLetter_0 11 rfl rfl)
theorem dX4_isLetter_12 : decode cX4_isLetter 12 = .ok (.invokestatic 41, 3) := dk_184 0 41 (dk_at dksX4_isLetter_0 12 rfl rfl)
theorem dX4_isLetter_15 : decode cX4_isLetter 15 = .ok (.ireturn, 1) := dk_172 (dk_at dksX4_isLetter_0 15 rfl rfl)
abbrev cX4_number : ByteArray := prog_17_method_11_code
def yX4_number : MethodName := ⟨RX4, "number", "(II)I"⟩
def dkwX4_number_4 : List UInt8 := [184, 0, 41, 182, 0, 87, 29, 172]
abbrev dktX4_number_4 : List UInt8 := dkwX4_number_4 ++ []
def dkwX4_number_3 : List UInt8 := [184, 0, 81, 62, 42, 89, 180, 0, 30, 4, 96, 181, 0, 30, 167, 255, 213, 42, 27, 133, 28, 133, 29, 133]
abbrev dktX4_number_3 : List UInt8 := dkwX4_number_3 ++ dktX4_number_4
def dkwX4_number_2 : List UInt8 := [182, 0, 77, 153, 0, 38, 18, 80, 16, 10, 29, 104, 42, 42, 180, 0, 30, 182, 0, 33, 96, 16, 48, 100]
abbrev dktX4_number_2 : List UInt8 := dkwX4_number_2 ++ dktX4_number_3
def dkwX4_number_1 : List UInt8 := [180, 0, 30, 183, 0, 71, 191, 42, 42, 180, 0, 30, 181, 0, 74, 3, 62, 42, 42, 180, 0, 30]
abbrev dktX4_number_1 : List UInt8 := dkwX4_number_1 ++ dktX4_number_2
def dkwX4_number_0 : List UInt8 := [42, 182, 0, 49, 87, 42, 42, 180, 0, 30, 182, 0, 77, 154, 0, 17, 187, 0, 69, 89, 16, 254, 42]
abbrev dktX4_number_0 : List UInt8 := dkwX4_number_0 ++ dktX4_number_1
theorem dksX4_number_0 : cX4_number.data.toList.drop 0 = dktX4_number_0 := by decide +kernel
theorem dksX4_number_1 : cX4_number.data.toList.drop 23 = dktX4_number_1 := dk_seg dksX4_number_0 23 rfl rfl
theorem dksX4_number_2 : cX4_number.data.toList.drop 45 = dktX4_number_2 := dk_seg dksX4_number_1 22 rfl rfl
theorem dksX4_number_3 : cX4_number.data.toList.drop 69 = dktX4_number_3 := dk_seg dksX4_number_2 24 rfl rfl
theorem dksX4_number_4 : cX4_number.data.toList.drop 93 = dktX4_number_4 := dk_seg dksX4_number_3 24 rfl rfl
theorem dX4_number_0 : decode cX4_number 0 = .ok (.aload_n 0, 1) := dk_42 (dk_at dksX4_number_0 0 rfl rfl)
theorem dX4_number_1 : decode cX4_number 1 = .ok (.invokevirtual 49, 3) := dk_182 0 49 (dk_at dksX4_number_0 1 rfl rfl)
theorem dX4_number_4 : decode cX4_number 4 = .ok (.pop, 1) := dk_87 (dk_at dksX4_number_0 4 rfl rfl)
theorem dX4_number_5 : decode cX4_number 5 = .ok (.aload_n 0, 1) := dk_42 (dk_at dksX4_number_0 5 rfl rfl)
theorem dX4_number_6 : decode cX4_number 6 = .ok (.aload_n 0, 1) := dk_42 (dk_at dksX4_number_0 6 rfl rfl)
theorem dX4_number_7 : decode cX4_number 7 = .ok (.getfield 30, 3) := dk_180 0 30 (dk_at dksX4_number_0 7 rfl rfl)
theorem dX4_number_10 : decode cX4_number 10 = .ok (.invokevirtual 77, 3) := dk_182 0 77 (dk_at dksX4_number_0 10 rfl rfl)
theorem dX4_number_13 : decode cX4_number 13 = .ok (.ifCond .ne 17, 3) := dk_154 0 17 (dk_at dksX4_number_0 13 rfl rfl)
theorem dX4_number_16 : decode cX4_number 16 = .ok (.new 69, 3) := dk_187 0 69 (dk_at dksX4_number_0 16 rfl rfl)
theorem dX4_number_19 : decode cX4_number 19 = .ok (.dup, 1) := dk_89 (dk_at dksX4_number_0 19 rfl rfl)
theorem dX4_number_20 : decode cX4_number 20 = .ok (.bipush (-2), 2) := dk_16 254 (dk_at dksX4_number_0 20 rfl rfl)
theorem dX4_number_22 : decode cX4_number 22 = .ok (.aload_n 0, 1) := dk_42 (dk_at dksX4_number_0 22 rfl rfl)
theorem dX4_number_23 : decode cX4_number 23 = .ok (.getfield 30, 3) := dk_180 0 30 (dk_at dksX4_number_1 0 rfl rfl)
theorem dX4_number_26 : decode cX4_number 26 = .ok (.invokespecial 71, 3) := dk_183 0 71 (dk_at dksX4_number_1 3 rfl rfl)
theorem dX4_number_29 : decode cX4_number 29 = .ok (.athrow, 1) := dk_191 (dk_at dksX4_number_1 6 rfl rfl)
theorem dX4_number_30 : decode cX4_number 30 = .ok (.aload_n 0, 1) := dk_42 (dk_at dksX4_number_1 7 rfl rfl)
theorem dX4_number_31 : decode cX4_number 31 = .ok (.aload_n 0, 1) := dk_42 (dk_at dksX4_number_1 8 rfl rfl)
theorem dX4_number_32 : decode cX4_number 32 = .ok (.getfield 30, 3) := dk_180 0 30 (dk_at dksX4_number_1 9 rfl rfl)
theorem dX4_number_35 : decode cX4_number 35 = .ok (.putfield 74, 3) := dk_181 0 74 (dk_at dksX4_number_1 12 rfl rfl)
theorem dX4_number_38 : decode cX4_number 38 = .ok (.iconst 0, 1) := dk_3 (dk_at dksX4_number_1 15 rfl rfl)
theorem dX4_number_39 : decode cX4_number 39 = .ok (.istore_n 3, 1) := dk_62 (dk_at dksX4_number_1 16 rfl rfl)
theorem dX4_number_40 : decode cX4_number 40 = .ok (.aload_n 0, 1) := dk_42 (dk_at dksX4_number_1 17 rfl rfl)
theorem dX4_number_41 : decode cX4_number 41 = .ok (.aload_n 0, 1) := dk_42 (dk_at dksX4_number_1 18 rfl rfl)
theorem dX4_number_42 : decode cX4_number 42 = .ok (.getfield 30, 3) := dk_180 0 30 (dk_at dksX4_number_1 19 rfl rfl)
theorem dX4_number_45 : decode cX4_number 45 = .ok (.invokevirtual 77, 3) := dk_182 0 77 (dk_at dksX4_number_2 0 rfl rfl)
theorem dX4_number_48 : decode cX4_number 48 = .ok (.ifCond .eq 38, 3) := dk_153 0 38 (dk_at dksX4_number_2 3 rfl rfl)
theorem dX4_number_51 : decode cX4_number 51 = .ok (.ldc 80, 2) := dk_18 80 (dk_at dksX4_number_2 6 rfl rfl)
theorem dX4_number_53 : decode cX4_number 53 = .ok (.bipush 10, 2) := dk_16 10 (dk_at dksX4_number_2 8 rfl rfl)
theorem dX4_number_55 : decode cX4_number 55 = .ok (.iload_n 3, 1) := dk_29 (dk_at dksX4_number_2 10 rfl rfl)
theorem dX4_number_56 : decode cX4_number 56 = .ok (.imul, 1) := dk_104 (dk_at dksX4_number_2 11 rfl rfl)
theorem dX4_number_57 : decode cX4_number 57 = .ok (.aload_n 0, 1) := dk_42 (dk_at dksX4_number_2 12 rfl rfl)
theorem dX4_number_58 : decode cX4_number 58 = .ok (.aload_n 0, 1) := dk_42 (dk_at dksX4_number_2 13 rfl rfl)
theorem dX4_number_59 : decode cX4_number 59 = .ok (.getfield 30, 3) := dk_180 0 30 (dk_at dksX4_number_2 14 rfl rfl)
theorem dX4_number_62 : decode cX4_number 62 = .ok (.invokevirtual 33, 3) := dk_182 0 33 (dk_at dksX4_number_2 17 rfl rfl)
theorem dX4_number_65 : decode cX4_number 65 = .ok (.iadd, 1) := dk_96 (dk_at dksX4_number_2 20 rfl rfl)
theorem dX4_number_66 : decode cX4_number 66 = .ok (.bipush 48, 2) := dk_16 48 (dk_at dksX4_number_2 21 rfl rfl)
theorem dX4_number_68 : decode cX4_number 68 = .ok (.isub, 1) := dk_100 (dk_at dksX4_number_2 23 rfl rfl)
theorem dX4_number_69 : decode cX4_number 69 = .ok (.invokestatic 81, 3) := dk_184 0 81 (dk_at dksX4_number_3 0 rfl rfl)
theorem dX4_number_72 : decode cX4_number 72 = .ok (.istore_n 3, 1) := dk_62 (dk_at dksX4_number_3 3 rfl rfl)
theorem dX4_number_73 : decode cX4_number 73 = .ok (.aload_n 0, 1) := dk_42 (dk_at dksX4_number_3 4 rfl rfl)
theorem dX4_number_74 : decode cX4_number 74 = .ok (.dup, 1) := dk_89 (dk_at dksX4_number_3 5 rfl rfl)
theorem dX4_number_75 : decode cX4_number 75 = .ok (.getfield 30, 3) := dk_180 0 30 (dk_at dksX4_number_3 6 rfl rfl)
theorem dX4_number_78 : decode cX4_number 78 = .ok (.iconst 1, 1) := dk_4 (dk_at dksX4_number_3 9 rfl rfl)
theorem dX4_number_79 : decode cX4_number 79 = .ok (.iadd, 1) := dk_96 (dk_at dksX4_number_3 10 rfl rfl)
theorem dX4_number_80 : decode cX4_number 80 = .ok (.putfield 30, 3) := dk_181 0 30 (dk_at dksX4_number_3 11 rfl rfl)
theorem dX4_number_83 : decode cX4_number 83 = .ok (.goto (-43), 3) := dk_167 255 213 (dk_at dksX4_number_3 14 rfl rfl)
theorem dX4_number_86 : decode cX4_number 86 = .ok (.aload_n 0, 1) := dk_42 (dk_at dksX4_number_3 17 rfl rfl)
theorem dX4_number_87 : decode cX4_number 87 = .ok (.iload_n 1, 1) := dk_27 (dk_at dksX4_number_3 18 rfl rfl)
theorem dX4_number_88 : decode cX4_number 88 = .ok (.i2l, 1) := dk_133 (dk_at dksX4_number_3 19 rfl rfl)
theorem dX4_number_89 : decode cX4_number 89 = .ok (.iload_n 2, 1) := dk_28 (dk_at dksX4_number_3 20 rfl rfl)
theorem dX4_number_90 : decode cX4_number 90 = .ok (.i2l, 1) := dk_133 (dk_at dksX4_number_3 21 rfl rfl)
theorem dX4_number_91 : decode cX4_number 91 = .ok (.iload_n 3, 1) := dk_29 (dk_at dksX4_number_3 22 rfl rfl)
theorem dX4_number_92 : decode cX4_number 92 = .ok (.i2l, 1) := dk_133 (dk_at dksX4_number_3 23 rfl rfl)
theorem dX4_number_93 : decode cX4_number 93 = .ok (.invokestatic 41, 3) := dk_184 0 41 (dk_at dksX4_number_4 0 rfl rfl)
theorem dX4_number_96 : decode cX4_number 96 = .ok (.invokevirtual 87, 3) := dk_182 0 87 (dk_at dksX4_number_4 3 rfl rfl)
theorem dX4_number_99 : decode cX4_number 99 = .ok (.iload_n 3, 1) := dk_29 (dk_at dksX4_number_4 6 rfl rfl)
theorem dX4_number_100 : decode cX4_number 100 = .ok (.ireturn, 1) := dk_172 (dk_at dksX4_number_4 7 rfl rfl)
abbrev cX4_isDigit : ByteArray := prog_17_method_5_code
def yX4_isDigit : MethodName := ⟨RX4, "isDigit", "(I)Z"⟩
def dkwX4_isDigit_0 : List UInt8 := [20, 0, 45, 20, 0, 47, 42, 27, 182, 0, 33, 133, 184, 0, 41, 172]
abbrev dktX4_isDigit_0 : List UInt8 := dkwX4_isDigit_0 ++ []
theorem dksX4_isDigit_0 : cX4_isDigit.data.toList.drop 0 = dktX4_isDigit_0 := by decide +kernel
theorem dX4_isDigit_0 : decode cX4_isDigit 0 = .ok (.ldc2_w 45, 3) := dk_20 0 45 (dk_at dksX4_isDigit_0 0 rfl rfl)
theorem dX4_isDigit_3 : decode cX4_isDigit 3 = .ok (.ldc2_w 47, 3) := dk_20 0 47 (dk_at dksX4_isDigit_0 3 rfl rfl)
theorem dX4_isDigit_6 : decode cX4_isDigit 6 = .ok (.aload_n 0, 1) := dk_42 (dk_at dksX4_isDigit_0 6 rfl rfl)
theorem dX4_isDigit_7 : decode cX4_isDigit 7 = .ok (.iload_n 1, 1) := dk_27 (dk_at dksX4_isDigit_0 7 rfl rfl)
theorem dX4_isDigit_8 : decode cX4_isDigit 8 = .ok (.invokevirtual 33, 3) := dk_182 0 33 (dk_at dksX4_isDigit_0 8 rfl rfl)
theorem dX4_isDigit_11 : decode cX4_isDigit 11 = .ok (.i2l, 1) := dk_133 (dk_at dksX4_isDigit_0 11 rfl rfl)
theorem dX4_isDigit_12 : decode cX4_isDigit 12 = .ok (.invokestatic 41, 3) := dk_184 0 41 (dk_at dksX4_isDigit_0 12 rfl rfl)
theorem dX4_isDigit_15 : decode cX4_isDigit 15 = .ok (.ireturn, 1) := dk_172 (dk_at dksX4_isDigit_0 15 rfl rfl)
abbrev cX4_need : ByteArray := prog_17_method_9_code
def yX4_need : MethodName := ⟨RX4, "need", "(Z)V"⟩
def dkwX4_need_0 : List UInt8 := [27, 154, 0, 17, 187, 0, 69, 89, 16, 253, 42, 180, 0, 74, 183, 0, 71, 191, 177]
abbrev dktX4_need_0 : List UInt8 := dkwX4_need_0 ++ []
theorem dksX4_need_0 : cX4_need.data.toList.drop 0 = dktX4_need_0 := by decide +kernel
theorem dX4_need_0 : decode cX4_need 0 = .ok (.iload_n 1, 1) := dk_27 (dk_at dksX4_need_0 0 rfl rfl)
theorem dX4_need_1 : decode cX4_need 1 = .ok (.ifCond .ne 17, 3) := dk_154 0 17 (dk_at dksX4_need_0 1 rfl rfl)
theorem dX4_need_4 : decode cX4_need 4 = .ok (.new 69, 3) := dk_187 0 69 (dk_at dksX4_need_0 4 rfl rfl)
theorem dX4_need_7 : decode cX4_need 7 = .ok (.dup, 1) := dk_89 (dk_at dksX4_need_0 7 rfl rfl)
theorem dX4_need_8 : decode cX4_need 8 = .ok (.bipush (-3), 2) := dk_16 253 (dk_at dksX4_need_0 8 rfl rfl)
theorem dX4_need_10 : decode cX4_need 10 = .ok (.aload_n 0, 1) := dk_42 (dk_at dksX4_need_0 10 rfl rfl)
theorem dX4_need_11 : decode cX4_need 11 = .ok (.getfield 74, 3) := dk_180 0 74 (dk_at dksX4_need_0 11 rfl rfl)
theorem dX4_need_14 : decode cX4_need 14 = .ok (.invokespecial 71, 3) := dk_183 0 71 (dk_at dksX4_need_0 14 rfl rfl)
theorem dX4_need_17 : decode cX4_need 17 = .ok (.athrow, 1) := dk_191 (dk_at dksX4_need_0 17 rfl rfl)
theorem dX4_need_18 : decode cX4_need 18 = .ok (.return_, 1) := dk_177 (dk_at dksX4_need_0 18 rfl rfl)
abbrev cX4_needSign : ByteArray := prog_17_method_8_code
def yX4_needSign : MethodName := ⟨RX4, "needSign", "(C)V"⟩
def dkwX4_needSign_0 : List UInt8 := [42, 27, 182, 0, 65, 154, 0, 17, 187, 0, 69, 89, 16, 254, 42, 180, 0, 30, 183, 0, 71, 191, 177]
abbrev dktX4_needSign_0 : List UInt8 := dkwX4_needSign_0 ++ []
theorem dksX4_needSign_0 : cX4_needSign.data.toList.drop 0 = dktX4_needSign_0 := by decide +kernel
theorem dX4_needSign_0 : decode cX4_needSign 0 = .ok (.aload_n 0, 1) := dk_42 (dk_at dksX4_needSign_0 0 rfl rfl)
theorem dX4_needSign_1 : decode cX4_needSign 1 = .ok (.iload_n 1, 1) := dk_27 (dk_at dksX4_needSign_0 1 rfl rfl)
theorem dX4_needSign_2 : decode cX4_needSign 2 = .ok (.invokevirtual 65, 3) := dk_182 0 65 (dk_at dksX4_needSign_0 2 rfl rfl)
theorem dX4_needSign_5 : decode cX4_needSign 5 = .ok (.ifCond .ne 17, 3) := dk_154 0 17 (dk_at dksX4_needSign_0 5 rfl rfl)
theorem dX4_needSign_8 : decode cX4_needSign 8 = .ok (.new 69, 3) := dk_187 0 69 (dk_at dksX4_needSign_0 8 rfl rfl)
theorem dX4_needSign_11 : decode cX4_needSign 11 = .ok (.dup, 1) := dk_89 (dk_at dksX4_needSign_0 11 rfl rfl)
theorem dX4_needSign_12 : decode cX4_needSign 12 = .ok (.bipush (-2), 2) := dk_16 254 (dk_at dksX4_needSign_0 12 rfl rfl)
theorem dX4_needSign_14 : decode cX4_needSign 14 = .ok (.aload_n 0, 1) := dk_42 (dk_at dksX4_needSign_0 14 rfl rfl)
theorem dX4_needSign_15 : decode cX4_needSign 15 = .ok (.getfield 30, 3) := dk_180 0 30 (dk_at dksX4_needSign_0 15 rfl rfl)
theorem dX4_needSign_18 : decode cX4_needSign 18 = .ok (.invokespecial 71, 3) := dk_183 0 71 (dk_at dksX4_needSign_0 18 rfl rfl)
theorem dX4_needSign_21 : decode cX4_needSign 21 = .ok (.athrow, 1) := dk_191 (dk_at dksX4_needSign_0 21 rfl rfl)
theorem dX4_needSign_22 : decode cX4_needSign 22 = .ok (.return_, 1) := dk_177 (dk_at dksX4_needSign_0 22 rfl rfl)
abbrev cX4_takeSign : ByteArray := prog_17_method_7_code
def yX4_takeSign : MethodName := ⟨RX4, "takeSign", "(C)Z"⟩
def dkwX4_takeSign_0 : List UInt8 := [42, 182, 0, 49, 27, 159, 0, 5, 3, 172, 42, 89, 180, 0, 30, 4, 96, 181, 0, 30, 4, 172]
abbrev dktX4_takeSign_0 : List UInt8 := dkwX4_takeSign_0 ++ []
theorem dksX4_takeSign_0 : cX4_takeSign.data.toList.drop 0 = dktX4_takeSign_0 := by decide +kernel
theorem dX4_takeSign_0 : decode cX4_takeSign 0 = .ok (.aload_n 0, 1) := dk_42 (dk_at dksX4_takeSign_0 0 rfl rfl)
theorem dX4_takeSign_1 : decode cX4_takeSign 1 = .ok (.invokevirtual 49, 3) := dk_182 0 49 (dk_at dksX4_takeSign_0 1 rfl rfl)
theorem dX4_takeSign_4 : decode cX4_takeSign 4 = .ok (.iload_n 1, 1) := dk_27 (dk_at dksX4_takeSign_0 4 rfl rfl)
theorem dX4_takeSign_5 : decode cX4_takeSign 5 = .ok (.if_icmp .eq 5, 3) := dk_159 0 5 (dk_at dksX4_takeSign_0 5 rfl rfl)
theorem dX4_takeSign_8 : decode cX4_takeSign 8 = .ok (.iconst 0, 1) := dk_3 (dk_at dksX4_takeSign_0 8 rfl rfl)
theorem dX4_takeSign_9 : decode cX4_takeSign 9 = .ok (.ireturn, 1) := dk_172 (dk_at dksX4_takeSign_0 9 rfl rfl)
theorem dX4_takeSign_10 : decode cX4_takeSign 10 = .ok (.aload_n 0, 1) := dk_42 (dk_at dksX4_takeSign_0 10 rfl rfl)
theorem dX4_takeSign_11 : decode cX4_takeSign 11 = .ok (.dup, 1) := dk_89 (dk_at dksX4_takeSign_0 11 rfl rfl)
theorem dX4_takeSign_12 : decode cX4_takeSign 12 = .ok (.getfield 30, 3) := dk_180 0 30 (dk_at dksX4_takeSign_0 12 rfl rfl)
theorem dX4_takeSign_15 : decode cX4_takeSign 15 = .ok (.iconst 1, 1) := dk_4 (dk_at dksX4_takeSign_0 15 rfl rfl)
theorem dX4_takeSign_16 : decode cX4_takeSign 16 = .ok (.iadd, 1) := dk_96 (dk_at dksX4_takeSign_0 16 rfl rfl)
theorem dX4_takeSign_17 : decode cX4_takeSign 17 = .ok (.putfield 30, 3) := dk_181 0 30 (dk_at dksX4_takeSign_0 17 rfl rfl)
theorem dX4_takeSign_20 : decode cX4_takeSign 20 = .ok (.iconst 1, 1) := dk_4 (dk_at dksX4_takeSign_0 20 rfl rfl)
theorem dX4_takeSign_21 : decode cX4_takeSign 21 = .ok (.ireturn, 1) := dk_172 (dk_at dksX4_takeSign_0 21 rfl rfl)
abbrev cX4_statement : ByteArray := prog_17_method_21_code
def yX4_statement : MethodName := ⟨RX4, "statement", "()V"⟩
def dkwX4_statement_8 : List UInt8 := [42, 16, 59, 182, 0, 115, 177]
abbrev dktX4_statement_8 : List UInt8 := dkwX4_statement_8 ++ []
def dkwX4_statement_7 : List UInt8 := [180, 0, 18, 42, 182, 0, 112, 181, 1, 9, 167, 0, 14, 187, 0, 69, 89, 16, 254, 27, 183, 0, 71, 191]
abbrev dktX4_statement_7 : List UInt8 := dkwX4_statement_7 ++ dktX4_statement_8
def dkwX4_statement_6 : List UInt8 := [180, 1, 5, 153, 0, 14, 187, 0, 69, 89, 16, 254, 27, 183, 0, 71, 191, 42, 4, 181, 1, 5, 42]
abbrev dktX4_statement_6 : List UInt8 := dkwX4_statement_6 ++ dktX4_statement_7
def dkwX4_statement_5 : List UInt8 := [153, 0, 11, 42, 27, 182, 1, 0, 167, 0, 61, 42, 19, 1, 3, 182, 0, 96, 153, 0, 40, 42]
abbrev dktX4_statement_5 : List UInt8 := dkwX4_statement_5 ++ dktX4_statement_6
def dkwX4_statement_4 : List UInt8 := [18, 249, 182, 0, 96, 153, 0, 11, 42, 27, 182, 0, 251, 167, 0, 78, 42, 18, 254, 182, 0, 96]
abbrev dktX4_statement_4 : List UInt8 := dkwX4_statement_4 ++ dktX4_statement_5
def dkwX4_statement_3 : List UInt8 := [4, 16, 50, 182, 0, 91, 79, 42, 180, 0, 18, 89, 180, 0, 220, 4, 96, 181, 0, 220, 167, 0, 95, 42]
abbrev dktX4_statement_3 : List UInt8 := dkwX4_statement_3 ++ dktX4_statement_4
def dkwX4_statement_2 : List UInt8 := [4, 167, 0, 4, 3, 27, 182, 0, 169, 42, 180, 0, 18, 180, 0, 245, 42, 180, 0, 18, 180, 0, 220, 42]
abbrev dktX4_statement_2 : List UInt8 := dkwX4_statement_2 ++ dktX4_statement_3
def dkwX4_statement_1 : List UInt8 := [167, 0, 163, 42, 18, 243, 182, 0, 96, 153, 0, 62, 42, 42, 180, 0, 18, 180, 0, 220, 8, 162, 0, 7]
abbrev dktX4_statement_1 : List UInt8 := dkwX4_statement_1 ++ dktX4_statement_2
def dkwX4_statement_0 : List UInt8 := [42, 182, 0, 49, 87, 42, 180, 0, 30, 60, 42, 18, 238, 182, 0, 96, 153, 0, 11, 42, 27, 182, 0, 240]
abbrev dktX4_statement_0 : List UInt8 := dkwX4_statement_0 ++ dktX4_statement_1
theorem dksX4_statement_0 : cX4_statement.data.toList.drop 0 = dktX4_statement_0 := by decide +kernel
theorem dksX4_statement_1 : cX4_statement.data.toList.drop 24 = dktX4_statement_1 := dk_seg dksX4_statement_0 24 rfl rfl
theorem dksX4_statement_2 : cX4_statement.data.toList.drop 48 = dktX4_statement_2 := dk_seg dksX4_statement_1 24 rfl rfl
theorem dksX4_statement_3 : cX4_statement.data.toList.drop 72 = dktX4_statement_3 := dk_seg dksX4_statement_2 24 rfl rfl
theorem dksX4_statement_4 : cX4_statement.data.toList.drop 96 = dktX4_statement_4 := dk_seg dksX4_statement_3 24 rfl rfl
theorem dksX4_statement_5 : cX4_statement.data.toList.drop 118 = dktX4_statement_5 := dk_seg dksX4_statement_4 22 rfl rfl
theorem dksX4_statement_6 : cX4_statement.data.toList.drop 140 = dktX4_statement_6 := dk_seg dksX4_statement_5 22 rfl rfl
theorem dksX4_statement_7 : cX4_statement.data.toList.drop 163 = dktX4_statement_7 := dk_seg dksX4_statement_6 23 rfl rfl
theorem dksX4_statement_8 : cX4_statement.data.toList.drop 187 = dktX4_statement_8 := dk_seg dksX4_statement_7 24 rfl rfl
theorem dX4_statement_0 : decode cX4_statement 0 = .ok (.aload_n 0, 1) := dk_42 (dk_at dksX4_statement_0 0 rfl rfl)
theorem dX4_statement_1 : decode cX4_statement 1 = .ok (.invokevirtual 49, 3) := dk_182 0 49 (dk_at dksX4_statement_0 1 rfl rfl)
theorem dX4_statement_4 : decode cX4_statement 4 = .ok (.pop, 1) := dk_87 (dk_at dksX4_statement_0 4 rfl rfl)
theorem dX4_statement_5 : decode cX4_statement 5 = .ok (.aload_n 0, 1) := dk_42 (dk_at dksX4_statement_0 5 rfl rfl)
theorem dX4_statement_6 : decode cX4_statement 6 = .ok (.getfield 30, 3) := dk_180 0 30 (dk_at dksX4_statement_0 6 rfl rfl)
theorem dX4_statement_9 : decode cX4_statement 9 = .ok (.istore_n 1, 1) := dk_60 (dk_at dksX4_statement_0 9 rfl rfl)
theorem dX4_statement_10 : decode cX4_statement 10 = .ok (.aload_n 0, 1) := dk_42 (dk_at dksX4_statement_0 10 rfl rfl)
theorem dX4_statement_11 : decode cX4_statement 11 = .ok (.ldc 238, 2) := dk_18 238 (dk_at dksX4_statement_0 11 rfl rfl)
theorem dX4_statement_13 : decode cX4_statement 13 = .ok (.invokevirtual 96, 3) := dk_182 0 96 (dk_at dksX4_statement_0 13 rfl rfl)
theorem dX4_statement_16 : decode cX4_statement 16 = .ok (.ifCond .eq 11, 3) := dk_153 0 11 (dk_at dksX4_statement_0 16 rfl rfl)
theorem dX4_statement_19 : decode cX4_statement 19 = .ok (.aload_n 0, 1) := dk_42 (dk_at dksX4_statement_0 19 rfl rfl)
theorem dX4_statement_20 : decode cX4_statement 20 = .ok (.iload_n 1, 1) := dk_27 (dk_at dksX4_statement_0 20 rfl rfl)
theorem dX4_statement_21 : decode cX4_statement 21 = .ok (.invokevirtual 240, 3) := dk_182 0 240 (dk_at dksX4_statement_0 21 rfl rfl)
theorem dX4_statement_24 : decode cX4_statement 24 = .ok (.goto 163, 3) := dk_167 0 163 (dk_at dksX4_statement_1 0 rfl rfl)
theorem dX4_statement_27 : decode cX4_statement 27 = .ok (.aload_n 0, 1) := dk_42 (dk_at dksX4_statement_1 3 rfl rfl)
theorem dX4_statement_28 : decode cX4_statement 28 = .ok (.ldc 243, 2) := dk_18 243 (dk_at dksX4_statement_1 4 rfl rfl)
theorem dX4_statement_30 : decode cX4_statement 30 = .ok (.invokevirtual 96, 3) := dk_182 0 96 (dk_at dksX4_statement_1 6 rfl rfl)
theorem dX4_statement_33 : decode cX4_statement 33 = .ok (.ifCond .eq 62, 3) := dk_153 0 62 (dk_at dksX4_statement_1 9 rfl rfl)
theorem dX4_statement_36 : decode cX4_statement 36 = .ok (.aload_n 0, 1) := dk_42 (dk_at dksX4_statement_1 12 rfl rfl)
theorem dX4_statement_37 : decode cX4_statement 37 = .ok (.aload_n 0, 1) := dk_42 (dk_at dksX4_statement_1 13 rfl rfl)
theorem dX4_statement_38 : decode cX4_statement 38 = .ok (.getfield 18, 3) := dk_180 0 18 (dk_at dksX4_statement_1 14 rfl rfl)
theorem dX4_statement_41 : decode cX4_statement 41 = .ok (.getfield 220, 3) := dk_180 0 220 (dk_at dksX4_statement_1 17 rfl rfl)
theorem dX4_statement_44 : decode cX4_statement 44 = .ok (.iconst 5, 1) := dk_8 (dk_at dksX4_statement_1 20 rfl rfl)
theorem dX4_statement_45 : decode cX4_statement 45 = .ok (.if_icmp .ge 7, 3) := dk_162 0 7 (dk_at dksX4_statement_1 21 rfl rfl)
theorem dX4_statement_48 : decode cX4_statement 48 = .ok (.iconst 1, 1) := dk_4 (dk_at dksX4_statement_2 0 rfl rfl)
theorem dX4_statement_49 : decode cX4_statement 49 = .ok (.goto 4, 3) := dk_167 0 4 (dk_at dksX4_statement_2 1 rfl rfl)
theorem dX4_statement_52 : decode cX4_statement 52 = .ok (.iconst 0, 1) := dk_3 (dk_at dksX4_statement_2 4 rfl rfl)
theorem dX4_statement_53 : decode cX4_statement 53 = .ok (.iload_n 1, 1) := dk_27 (dk_at dksX4_statement_2 5 rfl rfl)
theorem dX4_statement_54 : decode cX4_statement 54 = .ok (.invokevirtual 169, 3) := dk_182 0 169 (dk_at dksX4_statement_2 6 rfl rfl)
theorem dX4_statement_57 : decode cX4_statement 57 = .ok (.aload_n 0, 1) := dk_42 (dk_at dksX4_statement_2 9 rfl rfl)
theorem dX4_statement_58 : decode cX4_statement 58 = .ok (.getfield 18, 3) := dk_180 0 18 (dk_at dksX4_statement_2 10 rfl rfl)
theorem dX4_statement_61 : decode cX4_statement 61 = .ok (.getfield 245, 3) := dk_180 0 245 (dk_at dksX4_statement_2 13 rfl rfl)
theorem dX4_statement_64 : decode cX4_statement 64 = .ok (.aload_n 0, 1) := dk_42 (dk_at dksX4_statement_2 16 rfl rfl)
theorem dX4_statement_65 : decode cX4_statement 65 = .ok (.getfield 18, 3) := dk_180 0 18 (dk_at dksX4_statement_2 17 rfl rfl)
theorem dX4_statement_68 : decode cX4_statement 68 = .ok (.getfield 220, 3) := dk_180 0 220 (dk_at dksX4_statement_2 20 rfl rfl)
theorem dX4_statement_71 : decode cX4_statement 71 = .ok (.aload_n 0, 1) := dk_42 (dk_at dksX4_statement_2 23 rfl rfl)
theorem dX4_statement_72 : decode cX4_statement 72 = .ok (.iconst 1, 1) := dk_4 (dk_at dksX4_statement_3 0 rfl rfl)
theorem dX4_statement_73 : decode cX4_statement 73 = .ok (.bipush 50, 2) := dk_16 50 (dk_at dksX4_statement_3 1 rfl rfl)
theorem dX4_statement_75 : decode cX4_statement 75 = .ok (.invokevirtual 91, 3) := dk_182 0 91 (dk_at dksX4_statement_3 3 rfl rfl)
theorem dX4_statement_78 : decode cX4_statement 78 = .ok (.iastore, 1) := dk_79 (dk_at dksX4_statement_3 6 rfl rfl)
theorem dX4_statement_79 : decode cX4_statement 79 = .ok (.aload_n 0, 1) := dk_42 (dk_at dksX4_statement_3 7 rfl rfl)
theorem dX4_statement_80 : decode cX4_statement 80 = .ok (.getfield 18, 3) := dk_180 0 18 (dk_at dksX4_statement_3 8 rfl rfl)
theorem dX4_statement_83 : decode cX4_statement 83 = .ok (.dup, 1) := dk_89 (dk_at dksX4_statement_3 11 rfl rfl)
theorem dX4_statement_84 : decode cX4_statement 84 = .ok (.getfield 220, 3) := dk_180 0 220 (dk_at dksX4_statement_3 12 rfl rfl)
theorem dX4_statement_87 : decode cX4_statement 87 = .ok (.iconst 1, 1) := dk_4 (dk_at dksX4_statement_3 15 rfl rfl)
theorem dX4_statement_88 : decode cX4_statement 88 = .ok (.iadd, 1) := dk_96 (dk_at dksX4_statement_3 16 rfl rfl)
theorem dX4_statement_89 : decode cX4_statement 89 = .ok (.putfield 220, 3) := dk_181 0 220 (dk_at dksX4_statement_3 17 rfl rfl)
theorem dX4_statement_92 : decode cX4_statement 92 = .ok (.goto 95, 3) := dk_167 0 95 (dk_at dksX4_statement_3 20 rfl rfl)
theorem dX4_statement_95 : decode cX4_statement 95 = .ok (.aload_n 0, 1) := dk_42 (dk_at dksX4_statement_3 23 rfl rfl)
theorem dX4_statement_96 : decode cX4_statement 96 = .ok (.ldc 249, 2) := dk_18 249 (dk_at dksX4_statement_4 0 rfl rfl)
theorem dX4_statement_98 : decode cX4_statement 98 = .ok (.invokevirtual 96, 3) := dk_182 0 96 (dk_at dksX4_statement_4 2 rfl rfl)
theorem dX4_statement_101 : decode cX4_statement 101 = .ok (.ifCond .eq 11, 3) := dk_153 0 11 (dk_at dksX4_statement_4 5 rfl rfl)
theorem dX4_statement_104 : decode cX4_statement 104 = .ok (.aload_n 0, 1) := dk_42 (dk_at dksX4_statement_4 8 rfl rfl)
theorem dX4_statement_105 : decode cX4_statement 105 = .ok (.iload_n 1, 1) := dk_27 (dk_at dksX4_statement_4 9 rfl rfl)
theorem dX4_statement_106 : decode cX4_statement 106 = .ok (.invokevirtual 251, 3) := dk_182 0 251 (dk_at dksX4_statement_4 10 rfl rfl)
theorem dX4_statement_109 : decode cX4_statement 109 = .ok (.goto 78, 3) := dk_167 0 78 (dk_at dksX4_statement_4 13 rfl rfl)
theorem dX4_statement_112 : decode cX4_statement 112 = .ok (.aload_n 0, 1) := dk_42 (dk_at dksX4_statement_4 16 rfl rfl)
theorem dX4_statement_113 : decode cX4_statement 113 = .ok (.ldc 254, 2) := dk_18 254 (dk_at dksX4_statement_4 17 rfl rfl)
theorem dX4_statement_115 : decode cX4_statement 115 = .ok (.invokevirtual 96, 3) := dk_182 0 96 (dk_at dksX4_statement_4 19 rfl rfl)
theorem dX4_statement_118 : decode cX4_statement 118 = .ok (.ifCond .eq 11, 3) := dk_153 0 11 (dk_at dksX4_statement_5 0 rfl rfl)
theorem dX4_statement_121 : decode cX4_statement 121 = .ok (.aload_n 0, 1) := dk_42 (dk_at dksX4_statement_5 3 rfl rfl)
theorem dX4_statement_122 : decode cX4_statement 122 = .ok (.iload_n 1, 1) := dk_27 (dk_at dksX4_statement_5 4 rfl rfl)
theorem dX4_statement_123 : decode cX4_statement 123 = .ok (.invokevirtual 256, 3) := dk_182 1 0 (dk_at dksX4_statement_5 5 rfl rfl)
theorem dX4_statement_126 : decode cX4_statement 126 = .ok (.goto 61, 3) := dk_167 0 61 (dk_at dksX4_statement_5 8 rfl rfl)
theorem dX4_statement_129 : decode cX4_statement 129 = .ok (.aload_n 0, 1) := dk_42 (dk_at dksX4_statement_5 11 rfl rfl)
theorem dX4_statement_130 : decode cX4_statement 130 = .ok (.ldc_w 259, 3) := dk_19 1 3 (dk_at dksX4_statement_5 12 rfl rfl)
theorem dX4_statement_133 : decode cX4_statement 133 = .ok (.invokevirtual 96, 3) := dk_182 0 96 (dk_at dksX4_statement_5 15 rfl rfl)
theorem dX4_statement_136 : decode cX4_statement 136 = .ok (.ifCond .eq 40, 3) := dk_153 0 40 (dk_at dksX4_statement_5 18 rfl rfl)
theorem dX4_statement_139 : decode cX4_statement 139 = .ok (.aload_n 0, 1) := dk_42 (dk_at dksX4_statement_5 21 rfl rfl)
theorem dX4_statement_140 : decode cX4_statement 140 = .ok (.getfield 261, 3) := dk_180 1 5 (dk_at dksX4_statement_6 0 rfl rfl)
theorem dX4_statement_143 : decode cX4_statement 143 = .ok (.ifCond .eq 14, 3) := dk_153 0 14 (dk_at dksX4_statement_6 3 rfl rfl)
theorem dX4_statement_146 : decode cX4_statement 146 = .ok (.new 69, 3) := dk_187 0 69 (dk_at dksX4_statement_6 6 rfl rfl)
theorem dX4_statement_149 : decode cX4_statement 149 = .ok (.dup, 1) := dk_89 (dk_at dksX4_statement_6 9 rfl rfl)
theorem dX4_statement_150 : decode cX4_statement 150 = .ok (.bipush (-2), 2) := dk_16 254 (dk_at dksX4_statement_6 10 rfl rfl)
theorem dX4_statement_152 : decode cX4_statement 152 = .ok (.iload_n 1, 1) := dk_27 (dk_at dksX4_statement_6 12 rfl rfl)
theorem dX4_statement_153 : decode cX4_statement 153 = .ok (.invokespecial 71, 3) := dk_183 0 71 (dk_at dksX4_statement_6 13 rfl rfl)
theorem dX4_statement_156 : decode cX4_statement 156 = .ok (.athrow, 1) := dk_191 (dk_at dksX4_statement_6 16 rfl rfl)
theorem dX4_statement_157 : decode cX4_statement 157 = .ok (.aload_n 0, 1) := dk_42 (dk_at dksX4_statement_6 17 rfl rfl)
theorem dX4_statement_158 : decode cX4_statement 158 = .ok (.iconst 1, 1) := dk_4 (dk_at dksX4_statement_6 18 rfl rfl)
theorem dX4_statement_159 : decode cX4_statement 159 = .ok (.putfield 261, 3) := dk_181 1 5 (dk_at dksX4_statement_6 19 rfl rfl)
theorem dX4_statement_162 : decode cX4_statement 162 = .ok (.aload_n 0, 1) := dk_42 (dk_at dksX4_statement_6 22 rfl rfl)
theorem dX4_statement_163 : decode cX4_statement 163 = .ok (.getfield 18, 3) := dk_180 0 18 (dk_at dksX4_statement_7 0 rfl rfl)
theorem dX4_statement_166 : decode cX4_statement 166 = .ok (.aload_n 0, 1) := dk_42 (dk_at dksX4_statement_7 3 rfl rfl)
theorem dX4_statement_167 : decode cX4_statement 167 = .ok (.invokevirtual 112, 3) := dk_182 0 112 (dk_at dksX4_statement_7 4 rfl rfl)
theorem dX4_statement_170 : decode cX4_statement 170 = .ok (.putfield 265, 3) := dk_181 1 9 (dk_at dksX4_statement_7 7 rfl rfl)
theorem dX4_statement_173 : decode cX4_statement 173 = .ok (.goto 14, 3) := dk_167 0 14 (dk_at dksX4_statement_7 10 rfl rfl)
theorem dX4_statement_176 : decode cX4_statement 176 = .ok (.new 69, 3) := dk_187 0 69 (dk_at dksX4_statement_7 13 rfl rfl)
theorem dX4_statement_179 : decode cX4_statement 179 = .ok (.dup, 1) := dk_89 (dk_at dksX4_statement_7 16 rfl rfl)
theorem dX4_statement_180 : decode cX4_statement 180 = .ok (.bipush (-2), 2) := dk_16 254 (dk_at dksX4_statement_7 17 rfl rfl)
theorem dX4_statement_182 : decode cX4_statement 182 = .ok (.iload_n 1, 1) := dk_27 (dk_at dksX4_statement_7 19 rfl rfl)
theorem dX4_statement_183 : decode cX4_statement 183 = .ok (.invokespecial 71, 3) := dk_183 0 71 (dk_at dksX4_statement_7 20 rfl rfl)
theorem dX4_statement_186 : decode cX4_statement 186 = .ok (.athrow, 1) := dk_191 (dk_at dksX4_statement_7 23 rfl rfl)
theorem dX4_statement_187 : decode cX4_statement 187 = .ok (.aload_n 0, 1) := dk_42 (dk_at dksX4_statement_8 0 rfl rfl)
theorem dX4_statement_188 : decode cX4_statement 188 = .ok (.bipush 59, 2) := dk_16 59 (dk_at dksX4_statement_8 1 rfl rfl)
theorem dX4_statement_190 : decode cX4_statement 190 = .ok (.invokevirtual 115, 3) := dk_182 0 115 (dk_at dksX4_statement_8 3 rfl rfl)
theorem dX4_statement_193 : decode cX4_statement 193 = .ok (.return_, 1) := dk_177 (dk_at dksX4_statement_8 6 rfl rfl)
abbrev cX4_node : ByteArray := prog_17_method_17_code
def yX4_node : MethodName := ⟨RX4, "node", "(I)V"⟩
def dkwX4_node_7 : List UInt8 := [21, 5, 183, 0, 199, 167, 0, 12, 187, 0, 187, 89, 28, 29, 183, 0, 202, 185, 0, 203, 2, 0, 87, 177]
abbrev dktX4_node_7 : List UInt8 := dkwX4_node_7 ++ []
def dkwX4_node_6 : List UInt8 := [180, 0, 18, 180, 0, 160, 21, 4, 154, 0, 8, 21, 5, 153, 0, 19, 187, 0, 187, 89, 28, 29, 21, 4]
abbrev dktX4_node_6 : List UInt8 := dkwX4_node_6 ++ dktX4_node_7
def dkwX4_node_5 : List UInt8 := [54, 4, 21, 4, 154, 0, 16, 42, 18, 197, 182, 0, 96, 153, 0, 7, 4, 167, 0, 4, 3, 54, 5, 42]
abbrev dktX4_node_5 : List UInt8 := dkwX4_node_5 ++ dktX4_node_6
def dkwX4_node_4 : List UInt8 := [180, 0, 192, 29, 159, 0, 7, 4, 167, 0, 4, 3, 182, 0, 87, 167, 255, 207, 42, 18, 195, 182, 0, 96]
abbrev dktX4_node_4 : List UInt8 := dkwX4_node_4 ++ dktX4_node_5
def dkwX4_node_3 : List UInt8 := [25, 4, 185, 0, 183, 1, 0, 192, 0, 187, 58, 5, 42, 25, 5, 180, 0, 189, 28, 160, 0, 12, 25, 5]
abbrev dktX4_node_3 : List UInt8 := dkwX4_node_3 ++ dktX4_node_4
def dkwX4_node_2 : List UInt8 := [180, 0, 18, 180, 0, 160, 185, 0, 173, 1, 0, 58, 4, 25, 4, 185, 0, 177, 1, 0, 153, 0, 45]
abbrev dktX4_node_2 : List UInt8 := dkwX4_node_2 ++ dktX4_node_3
def dkwX4_node_1 : List UInt8 := [182, 0, 169, 42, 3, 17, 3, 231, 182, 0, 91, 61, 42, 3, 17, 3, 231, 182, 0, 91, 62, 42]
abbrev dktX4_node_1 : List UInt8 := dkwX4_node_1 ++ dktX4_node_2
def dkwX4_node_0 : List UInt8 := [42, 42, 180, 0, 18, 180, 0, 160, 185, 0, 164, 1, 0, 16, 8, 162, 0, 7, 4, 167, 0, 4, 3, 27]
abbrev dktX4_node_0 : List UInt8 := dkwX4_node_0 ++ dktX4_node_1
theorem dksX4_node_0 : cX4_node.data.toList.drop 0 = dktX4_node_0 := by decide +kernel
theorem dksX4_node_1 : cX4_node.data.toList.drop 24 = dktX4_node_1 := dk_seg dksX4_node_0 24 rfl rfl
theorem dksX4_node_2 : cX4_node.data.toList.drop 46 = dktX4_node_2 := dk_seg dksX4_node_1 22 rfl rfl
theorem dksX4_node_3 : cX4_node.data.toList.drop 69 = dktX4_node_3 := dk_seg dksX4_node_2 23 rfl rfl
theorem dksX4_node_4 : cX4_node.data.toList.drop 93 = dktX4_node_4 := dk_seg dksX4_node_3 24 rfl rfl
theorem dksX4_node_5 : cX4_node.data.toList.drop 117 = dktX4_node_5 := dk_seg dksX4_node_4 24 rfl rfl
theorem dksX4_node_6 : cX4_node.data.toList.drop 141 = dktX4_node_6 := dk_seg dksX4_node_5 24 rfl rfl
theorem dksX4_node_7 : cX4_node.data.toList.drop 165 = dktX4_node_7 := dk_seg dksX4_node_6 24 rfl rfl
theorem dX4_node_0 : decode cX4_node 0 = .ok (.aload_n 0, 1) := dk_42 (dk_at dksX4_node_0 0 rfl rfl)
theorem dX4_node_1 : decode cX4_node 1 = .ok (.aload_n 0, 1) := dk_42 (dk_at dksX4_node_0 1 rfl rfl)
theorem dX4_node_2 : decode cX4_node 2 = .ok (.getfield 18, 3) := dk_180 0 18 (dk_at dksX4_node_0 2 rfl rfl)
theorem dX4_node_5 : decode cX4_node 5 = .ok (.getfield 160, 3) := dk_180 0 160 (dk_at dksX4_node_0 5 rfl rfl)
theorem dX4_node_8 : decode cX4_node 8 = .ok (.invokeinterface 164 1, 5) := by decide +kernel
theorem dX4_node_13 : decode cX4_node 13 = .ok (.bipush 8, 2) := dk_16 8 (dk_at dksX4_node_0 13 rfl rfl)
theorem dX4_node_15 : decode cX4_node 15 = .ok (.if_icmp .ge 7, 3) := dk_162 0 7 (dk_at dksX4_node_0 15 rfl rfl)
theorem dX4_node_18 : decode cX4_node 18 = .ok (.iconst 1, 1) := dk_4 (dk_at dksX4_node_0 18 rfl rfl)
theorem dX4_node_19 : decode cX4_node 19 = .ok (.goto 4, 3) := dk_167 0 4 (dk_at dksX4_node_0 19 rfl rfl)
theorem dX4_node_22 : decode cX4_node 22 = .ok (.iconst 0, 1) := dk_3 (dk_at dksX4_node_0 22 rfl rfl)
theorem dX4_node_23 : decode cX4_node 23 = .ok (.iload_n 1, 1) := dk_27 (dk_at dksX4_node_0 23 rfl rfl)
theorem dX4_node_24 : decode cX4_node 24 = .ok (.invokevirtual 169, 3) := dk_182 0 169 (dk_at dksX4_node_1 0 rfl rfl)
theorem dX4_node_27 : decode cX4_node 27 = .ok (.aload_n 0, 1) := dk_42 (dk_at dksX4_node_1 3 rfl rfl)
theorem dX4_node_28 : decode cX4_node 28 = .ok (.iconst 0, 1) := dk_3 (dk_at dksX4_node_1 4 rfl rfl)
theorem dX4_node_29 : decode cX4_node 29 = .ok (.sipush 999, 3) := dk_17 3 231 (dk_at dksX4_node_1 5 rfl rfl)
theorem dX4_node_32 : decode cX4_node 32 = .ok (.invokevirtual 91, 3) := dk_182 0 91 (dk_at dksX4_node_1 8 rfl rfl)
theorem dX4_node_35 : decode cX4_node 35 = .ok (.istore_n 2, 1) := dk_61 (dk_at dksX4_node_1 11 rfl rfl)
theorem dX4_node_36 : decode cX4_node 36 = .ok (.aload_n 0, 1) := dk_42 (dk_at dksX4_node_1 12 rfl rfl)
theorem dX4_node_37 : decode cX4_node 37 = .ok (.iconst 0, 1) := dk_3 (dk_at dksX4_node_1 13 rfl rfl)
theorem dX4_node_38 : decode cX4_node 38 = .ok (.sipush 999, 3) := dk_17 3 231 (dk_at dksX4_node_1 14 rfl rfl)
theorem dX4_node_41 : decode cX4_node 41 = .ok (.invokevirtual 91, 3) := dk_182 0 91 (dk_at dksX4_node_1 17 rfl rfl)
theorem dX4_node_44 : decode cX4_node 44 = .ok (.istore_n 3, 1) := dk_62 (dk_at dksX4_node_1 20 rfl rfl)
theorem dX4_node_45 : decode cX4_node 45 = .ok (.aload_n 0, 1) := dk_42 (dk_at dksX4_node_1 21 rfl rfl)
theorem dX4_node_46 : decode cX4_node 46 = .ok (.getfield 18, 3) := dk_180 0 18 (dk_at dksX4_node_2 0 rfl rfl)
theorem dX4_node_49 : decode cX4_node 49 = .ok (.getfield 160, 3) := dk_180 0 160 (dk_at dksX4_node_2 3 rfl rfl)
theorem dX4_node_52 : decode cX4_node 52 = .ok (.invokeinterface 173 1, 5) := by decide +kernel
theorem dX4_node_57 : decode cX4_node 57 = .ok (.astore 4, 2) := dk_58 4 (dk_at dksX4_node_2 11 rfl rfl)
theorem dX4_node_59 : decode cX4_node 59 = .ok (.aload 4, 2) := dk_25 4 (dk_at dksX4_node_2 13 rfl rfl)
theorem dX4_node_61 : decode cX4_node 61 = .ok (.invokeinterface 177 1, 5) := by decide +kernel
theorem dX4_node_66 : decode cX4_node 66 = .ok (.ifCond .eq 45, 3) := dk_153 0 45 (dk_at dksX4_node_2 20 rfl rfl)
theorem dX4_node_69 : decode cX4_node 69 = .ok (.aload 4, 2) := dk_25 4 (dk_at dksX4_node_3 0 rfl rfl)
theorem dX4_node_71 : decode cX4_node 71 = .ok (.invokeinterface 183 1, 5) := by decide +kernel
theorem dX4_node_76 : decode cX4_node 76 = .ok (.checkcast 187, 3) := dk_192 0 187 (dk_at dksX4_node_3 7 rfl rfl)
theorem dX4_node_79 : decode cX4_node 79 = .ok (.astore 5, 2) := dk_58 5 (dk_at dksX4_node_3 10 rfl rfl)
theorem dX4_node_81 : decode cX4_node 81 = .ok (.aload_n 0, 1) := dk_42 (dk_at dksX4_node_3 12 rfl rfl)
theorem dX4_node_82 : decode cX4_node 82 = .ok (.aload 5, 2) := dk_25 5 (dk_at dksX4_node_3 13 rfl rfl)
theorem dX4_node_84 : decode cX4_node 84 = .ok (.getfield 189, 3) := dk_180 0 189 (dk_at dksX4_node_3 15 rfl rfl)
theorem dX4_node_87 : decode cX4_node 87 = .ok (.iload_n 2, 1) := dk_28 (dk_at dksX4_node_3 18 rfl rfl)
theorem dX4_node_88 : decode cX4_node 88 = .ok (.if_icmp .ne 12, 3) := dk_160 0 12 (dk_at dksX4_node_3 19 rfl rfl)
theorem dX4_node_91 : decode cX4_node 91 = .ok (.aload 5, 2) := dk_25 5 (dk_at dksX4_node_3 22 rfl rfl)
theorem dX4_node_93 : decode cX4_node 93 = .ok (.getfield 192, 3) := dk_180 0 192 (dk_at dksX4_node_4 0 rfl rfl)
theorem dX4_node_96 : decode cX4_node 96 = .ok (.iload_n 3, 1) := dk_29 (dk_at dksX4_node_4 3 rfl rfl)
theorem dX4_node_97 : decode cX4_node 97 = .ok (.if_icmp .eq 7, 3) := dk_159 0 7 (dk_at dksX4_node_4 4 rfl rfl)
theorem dX4_node_100 : decode cX4_node 100 = .ok (.iconst 1, 1) := dk_4 (dk_at dksX4_node_4 7 rfl rfl)
theorem dX4_node_101 : decode cX4_node 101 = .ok (.goto 4, 3) := dk_167 0 4 (dk_at dksX4_node_4 8 rfl rfl)
theorem dX4_node_104 : decode cX4_node 104 = .ok (.iconst 0, 1) := dk_3 (dk_at dksX4_node_4 11 rfl rfl)
theorem dX4_node_105 : decode cX4_node 105 = .ok (.invokevirtual 87, 3) := dk_182 0 87 (dk_at dksX4_node_4 12 rfl rfl)
theorem dX4_node_108 : decode cX4_node 108 = .ok (.goto (-49), 3) := dk_167 255 207 (dk_at dksX4_node_4 15 rfl rfl)
theorem dX4_node_111 : decode cX4_node 111 = .ok (.aload_n 0, 1) := dk_42 (dk_at dksX4_node_4 18 rfl rfl)
theorem dX4_node_112 : decode cX4_node 112 = .ok (.ldc 195, 2) := dk_18 195 (dk_at dksX4_node_4 19 rfl rfl)
theorem dX4_node_114 : decode cX4_node 114 = .ok (.invokevirtual 96, 3) := dk_182 0 96 (dk_at dksX4_node_4 21 rfl rfl)
theorem dX4_node_117 : decode cX4_node 117 = .ok (.istore 4, 2) := dk_54 4 (dk_at dksX4_node_5 0 rfl rfl)
theorem dX4_node_119 : decode cX4_node 119 = .ok (.iload 4, 2) := dk_21 4 (dk_at dksX4_node_5 2 rfl rfl)
theorem dX4_node_121 : decode cX4_node 121 = .ok (.ifCond .ne 16, 3) := dk_154 0 16 (dk_at dksX4_node_5 4 rfl rfl)
theorem dX4_node_124 : decode cX4_node 124 = .ok (.aload_n 0, 1) := dk_42 (dk_at dksX4_node_5 7 rfl rfl)
theorem dX4_node_125 : decode cX4_node 125 = .ok (.ldc 197, 2) := dk_18 197 (dk_at dksX4_node_5 8 rfl rfl)
theorem dX4_node_127 : decode cX4_node 127 = .ok (.invokevirtual 96, 3) := dk_182 0 96 (dk_at dksX4_node_5 10 rfl rfl)
theorem dX4_node_130 : decode cX4_node 130 = .ok (.ifCond .eq 7, 3) := dk_153 0 7 (dk_at dksX4_node_5 13 rfl rfl)
theorem dX4_node_133 : decode cX4_node 133 = .ok (.iconst 1, 1) := dk_4 (dk_at dksX4_node_5 16 rfl rfl)
theorem dX4_node_134 : decode cX4_node 134 = .ok (.goto 4, 3) := dk_167 0 4 (dk_at dksX4_node_5 17 rfl rfl)
theorem dX4_node_137 : decode cX4_node 137 = .ok (.iconst 0, 1) := dk_3 (dk_at dksX4_node_5 20 rfl rfl)
theorem dX4_node_138 : decode cX4_node 138 = .ok (.istore 5, 2) := dk_54 5 (dk_at dksX4_node_5 21 rfl rfl)
theorem dX4_node_140 : decode cX4_node 140 = .ok (.aload_n 0, 1) := dk_42 (dk_at dksX4_node_5 23 rfl rfl)
theorem dX4_node_141 : decode cX4_node 141 = .ok (.getfield 18, 3) := dk_180 0 18 (dk_at dksX4_node_6 0 rfl rfl)
theorem dX4_node_144 : decode cX4_node 144 = .ok (.getfield 160, 3) := dk_180 0 160 (dk_at dksX4_node_6 3 rfl rfl)
theorem dX4_node_147 : decode cX4_node 147 = .ok (.iload 4, 2) := dk_21 4 (dk_at dksX4_node_6 6 rfl rfl)
theorem dX4_node_149 : decode cX4_node 149 = .ok (.ifCond .ne 8, 3) := dk_154 0 8 (dk_at dksX4_node_6 8 rfl rfl)
theorem dX4_node_152 : decode cX4_node 152 = .ok (.iload 5, 2) := dk_21 5 (dk_at dksX4_node_6 11 rfl rfl)
theorem dX4_node_154 : decode cX4_node 154 = .ok (.ifCond .eq 19, 3) := dk_153 0 19 (dk_at dksX4_node_6 13 rfl rfl)
theorem dX4_node_157 : decode cX4_node 157 = .ok (.new 187, 3) := dk_187 0 187 (dk_at dksX4_node_6 16 rfl rfl)
theorem dX4_node_160 : decode cX4_node 160 = .ok (.dup, 1) := dk_89 (dk_at dksX4_node_6 19 rfl rfl)
theorem dX4_node_161 : decode cX4_node 161 = .ok (.iload_n 2, 1) := dk_28 (dk_at dksX4_node_6 20 rfl rfl)
theorem dX4_node_162 : decode cX4_node 162 = .ok (.iload_n 3, 1) := dk_29 (dk_at dksX4_node_6 21 rfl rfl)
theorem dX4_node_163 : decode cX4_node 163 = .ok (.iload 4, 2) := dk_21 4 (dk_at dksX4_node_6 22 rfl rfl)
theorem dX4_node_165 : decode cX4_node 165 = .ok (.iload 5, 2) := dk_21 5 (dk_at dksX4_node_7 0 rfl rfl)
theorem dX4_node_167 : decode cX4_node 167 = .ok (.invokespecial 199, 3) := dk_183 0 199 (dk_at dksX4_node_7 2 rfl rfl)
theorem dX4_node_170 : decode cX4_node 170 = .ok (.goto 12, 3) := dk_167 0 12 (dk_at dksX4_node_7 5 rfl rfl)
theorem dX4_node_173 : decode cX4_node 173 = .ok (.new 187, 3) := dk_187 0 187 (dk_at dksX4_node_7 8 rfl rfl)
theorem dX4_node_176 : decode cX4_node 176 = .ok (.dup, 1) := dk_89 (dk_at dksX4_node_7 11 rfl rfl)
theorem dX4_node_177 : decode cX4_node 177 = .ok (.iload_n 2, 1) := dk_28 (dk_at dksX4_node_7 12 rfl rfl)
theorem dX4_node_178 : decode cX4_node 178 = .ok (.iload_n 3, 1) := dk_29 (dk_at dksX4_node_7 13 rfl rfl)
theorem dX4_node_179 : decode cX4_node 179 = .ok (.invokespecial 202, 3) := dk_183 0 202 (dk_at dksX4_node_7 14 rfl rfl)
theorem dX4_node_182 : decode cX4_node 182 = .ok (.invokeinterface 203 2, 5) := by decide +kernel
theorem dX4_node_187 : decode cX4_node 187 = .ok (.pop, 1) := dk_87 (dk_at dksX4_node_7 22 rfl rfl)
theorem dX4_node_188 : decode cX4_node 188 = .ok (.return_, 1) := dk_177 (dk_at dksX4_node_7 23 rfl rfl)
abbrev cX4_needRoom : ByteArray := prog_17_method_10_code
def yX4_needRoom : MethodName := ⟨RX4, "needRoom", "(ZI)V"⟩
def dkwX4_needRoom_0 : List UInt8 := [27, 154, 0, 14, 187, 0, 69, 89, 16, 252, 28, 183, 0, 71, 191, 177]
abbrev dktX4_needRoom_0 : List UInt8 := dkwX4_needRoom_0 ++ []
theorem dksX4_needRoom_0 : cX4_needRoom.data.toList.drop 0 = dktX4_needRoom_0 := by decide +kernel
theorem dX4_needRoom_0 : decode cX4_needRoom 0 = .ok (.iload_n 1, 1) := dk_27 (dk_at dksX4_needRoom_0 0 rfl rfl)
theorem dX4_needRoom_1 : decode cX4_needRoom 1 = .ok (.ifCond .ne 14, 3) := dk_154 0 14 (dk_at dksX4_needRoom_0 1 rfl rfl)
theorem dX4_needRoom_4 : decode cX4_needRoom 4 = .ok (.new 69, 3) := dk_187 0 69 (dk_at dksX4_needRoom_0 4 rfl rfl)
theorem dX4_needRoom_7 : decode cX4_needRoom 7 = .ok (.dup, 1) := dk_89 (dk_at dksX4_needRoom_0 7 rfl rfl)
theorem dX4_needRoom_8 : decode cX4_needRoom 8 = .ok (.bipush (-4), 2) := dk_16 252 (dk_at dksX4_needRoom_0 8 rfl rfl)
theorem dX4_needRoom_10 : decode cX4_needRoom 10 = .ok (.iload_n 2, 1) := dk_28 (dk_at dksX4_needRoom_0 10 rfl rfl)
theorem dX4_needRoom_11 : decode cX4_needRoom 11 = .ok (.invokespecial 71, 3) := dk_183 0 71 (dk_at dksX4_needRoom_0 11 rfl rfl)
theorem dX4_needRoom_14 : decode cX4_needRoom 14 = .ok (.athrow, 1) := dk_191 (dk_at dksX4_needRoom_0 14 rfl rfl)
theorem dX4_needRoom_15 : decode cX4_needRoom 15 = .ok (.return_, 1) := dk_177 (dk_at dksX4_needRoom_0 15 rfl rfl)
abbrev cX4_readMember : ByteArray := prog_17_method_19_code
def yX4_readMember : MethodName := ⟨RX4, "readMember", "(I)V"⟩
def dkwX4_readMember_3 : List UInt8 := [180, 0, 18, 180, 0, 220, 4, 100, 182, 0, 91, 182, 0, 223, 177]
abbrev dktX4_readMember_3 : List UInt8 := dkwX4_readMember_3 ++ []
def dkwX4_readMember_2 : List UInt8 := [29, 182, 0, 216, 154, 0, 7, 4, 167, 0, 4, 3, 182, 0, 87, 42, 180, 0, 18, 28, 29, 42, 3, 42]
abbrev dktX4_readMember_2 : List UInt8 := dkwX4_readMember_2 ++ dktX4_readMember_3
def dkwX4_readMember_1 : List UInt8 := [182, 0, 169, 42, 182, 0, 213, 61, 42, 182, 0, 213, 62, 42, 28, 29, 159, 0, 19, 42, 180, 0, 18, 28]
abbrev dktX4_readMember_1 : List UInt8 := dkwX4_readMember_1 ++ dktX4_readMember_2
def dkwX4_readMember_0 : List UInt8 := [42, 42, 180, 0, 18, 180, 0, 206, 185, 0, 210, 1, 0, 16, 16, 162, 0, 7, 4, 167, 0, 4, 3, 27]
abbrev dktX4_readMember_0 : List UInt8 := dkwX4_readMember_0 ++ dktX4_readMember_1
theorem dksX4_readMember_0 : cX4_readMember.data.toList.drop 0 = dktX4_readMember_0 := by decide +kernel
theorem dksX4_readMember_1 : cX4_readMember.data.toList.drop 24 = dktX4_readMember_1 := dk_seg dksX4_readMember_0 24 rfl rfl
theorem dksX4_readMember_2 : cX4_readMember.data.toList.drop 48 = dktX4_readMember_2 := dk_seg dksX4_readMember_1 24 rfl rfl
theorem dksX4_readMember_3 : cX4_readMember.data.toList.drop 72 = dktX4_readMember_3 := dk_seg dksX4_readMember_2 24 rfl rfl
theorem dX4_readMember_0 : decode cX4_readMember 0 = .ok (.aload_n 0, 1) := dk_42 (dk_at dksX4_readMember_0 0 rfl rfl)
theorem dX4_readMember_1 : decode cX4_readMember 1 = .ok (.aload_n 0, 1) := dk_42 (dk_at dksX4_readMember_0 1 rfl rfl)
theorem dX4_readMember_2 : decode cX4_readMember 2 = .ok (.getfield 18, 3) := dk_180 0 18 (dk_at dksX4_readMember_0 2 rfl rfl)
theorem dX4_readMember_5 : decode cX4_readMember 5 = .ok (.getfield 206, 3) := dk_180 0 206 (dk_at dksX4_readMember_0 5 rfl rfl)
theorem dX4_readMember_8 : decode cX4_readMember 8 = .ok (.invokeinterface 210 1, 5) := by decide +kernel
theorem dX4_readMember_13 : decode cX4_readMember 13 = .ok (.bipush 16, 2) := dk_16 16 (dk_at dksX4_readMember_0 13 rfl rfl)
theorem dX4_readMember_15 : decode cX4_readMember 15 = .ok (.if_icmp .ge 7, 3) := dk_162 0 7 (dk_at dksX4_readMember_0 15 rfl rfl)
theorem dX4_readMember_18 : decode cX4_readMember 18 = .ok (.iconst 1, 1) := dk_4 (dk_at dksX4_readMember_0 18 rfl rfl)
theorem dX4_readMember_19 : decode cX4_readMember 19 = .ok (.goto 4, 3) := dk_167 0 4 (dk_at dksX4_readMember_0 19 rfl rfl)
theorem dX4_readMember_22 : decode cX4_readMember 22 = .ok (.iconst 0, 1) := dk_3 (dk_at dksX4_readMember_0 22 rfl rfl)
theorem dX4_readMember_23 : decode cX4_readMember 23 = .ok (.iload_n 1, 1) := dk_27 (dk_at dksX4_readMember_0 23 rfl rfl)
theorem dX4_readMember_24 : decode cX4_readMember 24 = .ok (.invokevirtual 169, 3) := dk_182 0 169 (dk_at dksX4_readMember_1 0 rfl rfl)
theorem dX4_readMember_27 : decode cX4_readMember 27 = .ok (.aload_n 0, 1) := dk_42 (dk_at dksX4_readMember_1 3 rfl rfl)
theorem dX4_readMember_28 : decode cX4_readMember 28 = .ok (.invokevirtual 213, 3) := dk_182 0 213 (dk_at dksX4_readMember_1 4 rfl rfl)
theorem dX4_readMember_31 : decode cX4_readMember 31 = .ok (.istore_n 2, 1) := dk_61 (dk_at dksX4_readMember_1 7 rfl rfl)
theorem dX4_readMember_32 : decode cX4_readMember 32 = .ok (.aload_n 0, 1) := dk_42 (dk_at dksX4_readMember_1 8 rfl rfl)
theorem dX4_readMember_33 : decode cX4_readMember 33 = .ok (.invokevirtual 213, 3) := dk_182 0 213 (dk_at dksX4_readMember_1 9 rfl rfl)
theorem dX4_readMember_36 : decode cX4_readMember 36 = .ok (.istore_n 3, 1) := dk_62 (dk_at dksX4_readMember_1 12 rfl rfl)
theorem dX4_readMember_37 : decode cX4_readMember 37 = .ok (.aload_n 0, 1) := dk_42 (dk_at dksX4_readMember_1 13 rfl rfl)
theorem dX4_readMember_38 : decode cX4_readMember 38 = .ok (.iload_n 2, 1) := dk_28 (dk_at dksX4_readMember_1 14 rfl rfl)
theorem dX4_readMember_39 : decode cX4_readMember 39 = .ok (.iload_n 3, 1) := dk_29 (dk_at dksX4_readMember_1 15 rfl rfl)
theorem dX4_readMember_40 : decode cX4_readMember 40 = .ok (.if_icmp .eq 19, 3) := dk_159 0 19 (dk_at dksX4_readMember_1 16 rfl rfl)
theorem dX4_readMember_43 : decode cX4_readMember 43 = .ok (.aload_n 0, 1) := dk_42 (dk_at dksX4_readMember_1 19 rfl rfl)
theorem dX4_readMember_44 : decode cX4_readMember 44 = .ok (.getfield 18, 3) := dk_180 0 18 (dk_at dksX4_readMember_1 20 rfl rfl)
theorem dX4_readMember_47 : decode cX4_readMember 47 = .ok (.iload_n 2, 1) := dk_28 (dk_at dksX4_readMember_1 23 rfl rfl)
theorem dX4_readMember_48 : decode cX4_readMember 48 = .ok (.iload_n 3, 1) := dk_29 (dk_at dksX4_readMember_2 0 rfl rfl)
theorem dX4_readMember_49 : decode cX4_readMember 49 = .ok (.invokevirtual 216, 3) := dk_182 0 216 (dk_at dksX4_readMember_2 1 rfl rfl)
theorem dX4_readMember_52 : decode cX4_readMember 52 = .ok (.ifCond .ne 7, 3) := dk_154 0 7 (dk_at dksX4_readMember_2 4 rfl rfl)
theorem dX4_readMember_55 : decode cX4_readMember 55 = .ok (.iconst 1, 1) := dk_4 (dk_at dksX4_readMember_2 7 rfl rfl)
theorem dX4_readMember_56 : decode cX4_readMember 56 = .ok (.goto 4, 3) := dk_167 0 4 (dk_at dksX4_readMember_2 8 rfl rfl)
theorem dX4_readMember_59 : decode cX4_readMember 59 = .ok (.iconst 0, 1) := dk_3 (dk_at dksX4_readMember_2 11 rfl rfl)
theorem dX4_readMember_60 : decode cX4_readMember 60 = .ok (.invokevirtual 87, 3) := dk_182 0 87 (dk_at dksX4_readMember_2 12 rfl rfl)
theorem dX4_readMember_63 : decode cX4_readMember 63 = .ok (.aload_n 0, 1) := dk_42 (dk_at dksX4_readMember_2 15 rfl rfl)
theorem dX4_readMember_64 : decode cX4_readMember 64 = .ok (.getfield 18, 3) := dk_180 0 18 (dk_at dksX4_readMember_2 16 rfl rfl)
theorem dX4_readMember_67 : decode cX4_readMember 67 = .ok (.iload_n 2, 1) := dk_28 (dk_at dksX4_readMember_2 19 rfl rfl)
theorem dX4_readMember_68 : decode cX4_readMember 68 = .ok (.iload_n 3, 1) := dk_29 (dk_at dksX4_readMember_2 20 rfl rfl)
theorem dX4_readMember_69 : decode cX4_readMember 69 = .ok (.aload_n 0, 1) := dk_42 (dk_at dksX4_readMember_2 21 rfl rfl)
theorem dX4_readMember_70 : decode cX4_readMember 70 = .ok (.iconst 0, 1) := dk_3 (dk_at dksX4_readMember_2 22 rfl rfl)
theorem dX4_readMember_71 : decode cX4_readMember 71 = .ok (.aload_n 0, 1) := dk_42 (dk_at dksX4_readMember_2 23 rfl rfl)
theorem dX4_readMember_72 : decode cX4_readMember 72 = .ok (.getfield 18, 3) := dk_180 0 18 (dk_at dksX4_readMember_3 0 rfl rfl)
theorem dX4_readMember_75 : decode cX4_readMember 75 = .ok (.getfield 220, 3) := dk_180 0 220 (dk_at dksX4_readMember_3 3 rfl rfl)
theorem dX4_readMember_78 : decode cX4_readMember 78 = .ok (.iconst 1, 1) := dk_4 (dk_at dksX4_readMember_3 6 rfl rfl)
theorem dX4_readMember_79 : decode cX4_readMember 79 = .ok (.isub, 1) := dk_100 (dk_at dksX4_readMember_3 7 rfl rfl)
theorem dX4_readMember_80 : decode cX4_readMember 80 = .ok (.invokevirtual 91, 3) := dk_182 0 91 (dk_at dksX4_readMember_3 8 rfl rfl)
theorem dX4_readMember_83 : decode cX4_readMember 83 = .ok (.invokevirtual 223, 3) := dk_182 0 223 (dk_at dksX4_readMember_3 11 rfl rfl)
theorem dX4_readMember_86 : decode cX4_readMember 86 = .ok (.return_, 1) := dk_177 (dk_at dksX4_readMember_3 14 rfl rfl)
abbrev cX4_nodeIndex : ByteArray := prog_17_method_18_code
def yX4_nodeIndex : MethodName := ⟨RX4, "nodeIndex", "()I"⟩
def dkwX4_nodeIndex_0 : List UInt8 := [42, 3, 42, 180, 0, 18, 180, 0, 160, 185, 0, 164, 1, 0, 4, 100, 182, 0, 91, 172]
abbrev dktX4_nodeIndex_0 : List UInt8 := dkwX4_nodeIndex_0 ++ []
theorem dksX4_nodeIndex_0 : cX4_nodeIndex.data.toList.drop 0 = dktX4_nodeIndex_0 := by decide +kernel
theorem dX4_nodeIndex_0 : decode cX4_nodeIndex 0 = .ok (.aload_n 0, 1) := dk_42 (dk_at dksX4_nodeIndex_0 0 rfl rfl)
theorem dX4_nodeIndex_1 : decode cX4_nodeIndex 1 = .ok (.iconst 0, 1) := dk_3 (dk_at dksX4_nodeIndex_0 1 rfl rfl)
theorem dX4_nodeIndex_2 : decode cX4_nodeIndex 2 = .ok (.aload_n 0, 1) := dk_42 (dk_at dksX4_nodeIndex_0 2 rfl rfl)
theorem dX4_nodeIndex_3 : decode cX4_nodeIndex 3 = .ok (.getfield 18, 3) := dk_180 0 18 (dk_at dksX4_nodeIndex_0 3 rfl rfl)
theorem dX4_nodeIndex_6 : decode cX4_nodeIndex 6 = .ok (.getfield 160, 3) := dk_180 0 160 (dk_at dksX4_nodeIndex_0 6 rfl rfl)
theorem dX4_nodeIndex_9 : decode cX4_nodeIndex 9 = .ok (.invokeinterface 164 1, 5) := by decide +kernel
theorem dX4_nodeIndex_14 : decode cX4_nodeIndex 14 = .ok (.iconst 1, 1) := dk_4 (dk_at dksX4_nodeIndex_0 14 rfl rfl)
theorem dX4_nodeIndex_15 : decode cX4_nodeIndex 15 = .ok (.isub, 1) := dk_100 (dk_at dksX4_nodeIndex_0 15 rfl rfl)
theorem dX4_nodeIndex_16 : decode cX4_nodeIndex 16 = .ok (.invokevirtual 91, 3) := dk_182 0 91 (dk_at dksX4_nodeIndex_0 16 rfl rfl)
theorem dX4_nodeIndex_19 : decode cX4_nodeIndex 19 = .ok (.ireturn, 1) := dk_172 (dk_at dksX4_nodeIndex_0 19 rfl rfl)
abbrev cX4_readLoad : ByteArray := prog_17_method_20_code
def yX4_readLoad : MethodName := ⟨RX4, "readLoad", "(I)V"⟩
def dkwX4_readLoad_3 : List UInt8 := [183, 0, 235, 185, 0, 203, 2, 0, 87, 177]
abbrev dktX4_readLoad_3 : List UInt8 := dkwX4_readLoad_3 ++ []
def dkwX4_readLoad_2 : List UInt8 := [42, 180, 0, 18, 180, 0, 227, 187, 0, 233, 89, 28, 29, 21, 4, 42, 17, 39, 15, 182, 0, 230]
abbrev dktX4_readLoad_2 : List UInt8 := dkwX4_readLoad_2 ++ dktX4_readLoad_3
def dkwX4_readLoad_1 : List UInt8 := [182, 0, 169, 42, 3, 6, 182, 0, 91, 61, 42, 182, 0, 213, 62, 42, 17, 39, 15, 182, 0, 230, 54, 4]
abbrev dktX4_readLoad_1 : List UInt8 := dkwX4_readLoad_1 ++ dktX4_readLoad_2
def dkwX4_readLoad_0 : List UInt8 := [42, 42, 180, 0, 18, 180, 0, 227, 185, 0, 164, 1, 0, 16, 12, 162, 0, 7, 4, 167, 0, 4, 3, 27]
abbrev dktX4_readLoad_0 : List UInt8 := dkwX4_readLoad_0 ++ dktX4_readLoad_1
theorem dksX4_readLoad_0 : cX4_readLoad.data.toList.drop 0 = dktX4_readLoad_0 := by decide +kernel
theorem dksX4_readLoad_1 : cX4_readLoad.data.toList.drop 24 = dktX4_readLoad_1 := dk_seg dksX4_readLoad_0 24 rfl rfl
theorem dksX4_readLoad_2 : cX4_readLoad.data.toList.drop 48 = dktX4_readLoad_2 := dk_seg dksX4_readLoad_1 24 rfl rfl
theorem dksX4_readLoad_3 : cX4_readLoad.data.toList.drop 70 = dktX4_readLoad_3 := dk_seg dksX4_readLoad_2 22 rfl rfl
theorem dX4_readLoad_0 : decode cX4_readLoad 0 = .ok (.aload_n 0, 1) := dk_42 (dk_at dksX4_readLoad_0 0 rfl rfl)
theorem dX4_readLoad_1 : decode cX4_readLoad 1 = .ok (.aload_n 0, 1) := dk_42 (dk_at dksX4_readLoad_0 1 rfl rfl)
theorem dX4_readLoad_2 : decode cX4_readLoad 2 = .ok (.getfield 18, 3) := dk_180 0 18 (dk_at dksX4_readLoad_0 2 rfl rfl)
theorem dX4_readLoad_5 : decode cX4_readLoad 5 = .ok (.getfield 227, 3) := dk_180 0 227 (dk_at dksX4_readLoad_0 5 rfl rfl)
theorem dX4_readLoad_8 : decode cX4_readLoad 8 = .ok (.invokeinterface 164 1, 5) := by decide +kernel
theorem dX4_readLoad_13 : decode cX4_readLoad 13 = .ok (.bipush 12, 2) := dk_16 12 (dk_at dksX4_readLoad_0 13 rfl rfl)
theorem dX4_readLoad_15 : decode cX4_readLoad 15 = .ok (.if_icmp .ge 7, 3) := dk_162 0 7 (dk_at dksX4_readLoad_0 15 rfl rfl)
theorem dX4_readLoad_18 : decode cX4_readLoad 18 = .ok (.iconst 1, 1) := dk_4 (dk_at dksX4_readLoad_0 18 rfl rfl)
theorem dX4_readLoad_19 : decode cX4_readLoad 19 = .ok (.goto 4, 3) := dk_167 0 4 (dk_at dksX4_readLoad_0 19 rfl rfl)
theorem dX4_readLoad_22 : decode cX4_readLoad 22 = .ok (.iconst 0, 1) := dk_3 (dk_at dksX4_readLoad_0 22 rfl rfl)
theorem dX4_readLoad_23 : decode cX4_readLoad 23 = .ok (.iload_n 1, 1) := dk_27 (dk_at dksX4_readLoad_0 23 rfl rfl)
theorem dX4_readLoad_24 : decode cX4_readLoad 24 = .ok (.invokevirtual 169, 3) := dk_182 0 169 (dk_at dksX4_readLoad_1 0 rfl rfl)
theorem dX4_readLoad_27 : decode cX4_readLoad 27 = .ok (.aload_n 0, 1) := dk_42 (dk_at dksX4_readLoad_1 3 rfl rfl)
theorem dX4_readLoad_28 : decode cX4_readLoad 28 = .ok (.iconst 0, 1) := dk_3 (dk_at dksX4_readLoad_1 4 rfl rfl)
theorem dX4_readLoad_29 : decode cX4_readLoad 29 = .ok (.iconst 3, 1) := dk_6 (dk_at dksX4_readLoad_1 5 rfl rfl)
theorem dX4_readLoad_30 : decode cX4_readLoad 30 = .ok (.invokevirtual 91, 3) := dk_182 0 91 (dk_at dksX4_readLoad_1 6 rfl rfl)
theorem dX4_readLoad_33 : decode cX4_readLoad 33 = .ok (.istore_n 2, 1) := dk_61 (dk_at dksX4_readLoad_1 9 rfl rfl)
theorem dX4_readLoad_34 : decode cX4_readLoad 34 = .ok (.aload_n 0, 1) := dk_42 (dk_at dksX4_readLoad_1 10 rfl rfl)
theorem dX4_readLoad_35 : decode cX4_readLoad 35 = .ok (.invokevirtual 213, 3) := dk_182 0 213 (dk_at dksX4_readLoad_1 11 rfl rfl)
theorem dX4_readLoad_38 : decode cX4_readLoad 38 = .ok (.istore_n 3, 1) := dk_62 (dk_at dksX4_readLoad_1 14 rfl rfl)
theorem dX4_readLoad_39 : decode cX4_readLoad 39 = .ok (.aload_n 0, 1) := dk_42 (dk_at dksX4_readLoad_1 15 rfl rfl)
theorem dX4_readLoad_40 : decode cX4_readLoad 40 = .ok (.sipush 9999, 3) := dk_17 39 15 (dk_at dksX4_readLoad_1 16 rfl rfl)
theorem dX4_readLoad_43 : decode cX4_readLoad 43 = .ok (.invokevirtual 230, 3) := dk_182 0 230 (dk_at dksX4_readLoad_1 19 rfl rfl)
theorem dX4_readLoad_46 : decode cX4_readLoad 46 = .ok (.istore 4, 2) := dk_54 4 (dk_at dksX4_readLoad_1 22 rfl rfl)
theorem dX4_readLoad_48 : decode cX4_readLoad 48 = .ok (.aload_n 0, 1) := dk_42 (dk_at dksX4_readLoad_2 0 rfl rfl)
theorem dX4_readLoad_49 : decode cX4_readLoad 49 = .ok (.getfield 18, 3) := dk_180 0 18 (dk_at dksX4_readLoad_2 1 rfl rfl)
theorem dX4_readLoad_52 : decode cX4_readLoad 52 = .ok (.getfield 227, 3) := dk_180 0 227 (dk_at dksX4_readLoad_2 4 rfl rfl)
theorem dX4_readLoad_55 : decode cX4_readLoad 55 = .ok (.new 233, 3) := dk_187 0 233 (dk_at dksX4_readLoad_2 7 rfl rfl)
theorem dX4_readLoad_58 : decode cX4_readLoad 58 = .ok (.dup, 1) := dk_89 (dk_at dksX4_readLoad_2 10 rfl rfl)
theorem dX4_readLoad_59 : decode cX4_readLoad 59 = .ok (.iload_n 2, 1) := dk_28 (dk_at dksX4_readLoad_2 11 rfl rfl)
theorem dX4_readLoad_60 : decode cX4_readLoad 60 = .ok (.iload_n 3, 1) := dk_29 (dk_at dksX4_readLoad_2 12 rfl rfl)
theorem dX4_readLoad_61 : decode cX4_readLoad 61 = .ok (.iload 4, 2) := dk_21 4 (dk_at dksX4_readLoad_2 13 rfl rfl)
theorem dX4_readLoad_63 : decode cX4_readLoad 63 = .ok (.aload_n 0, 1) := dk_42 (dk_at dksX4_readLoad_2 15 rfl rfl)
theorem dX4_readLoad_64 : decode cX4_readLoad 64 = .ok (.sipush 9999, 3) := dk_17 39 15 (dk_at dksX4_readLoad_2 16 rfl rfl)
theorem dX4_readLoad_67 : decode cX4_readLoad 67 = .ok (.invokevirtual 230, 3) := dk_182 0 230 (dk_at dksX4_readLoad_2 19 rfl rfl)
theorem dX4_readLoad_70 : decode cX4_readLoad 70 = .ok (.invokespecial 235, 3) := dk_183 0 235 (dk_at dksX4_readLoad_3 0 rfl rfl)
theorem dX4_readLoad_73 : decode cX4_readLoad 73 = .ok (.invokeinterface 203 2, 5) := by decide +kernel
theorem dX4_readLoad_78 : decode cX4_readLoad 78 = .ok (.pop, 1) := dk_87 (dk_at dksX4_readLoad_3 8 rfl rfl)
theorem dX4_readLoad_79 : decode cX4_readLoad 79 = .ok (.return_, 1) := dk_177 (dk_at dksX4_readLoad_3 9 rfl rfl)
abbrev cX4_signed : ByteArray := prog_17_method_12_code
def yX4_signed : MethodName := ⟨RX4, "signed", "(I)I"⟩
def dkwX4_signed_1 : List UInt8 := [182, 0, 91, 172]
abbrev dktX4_signed_1 : List UInt8 := dkwX4_signed_1 ++ []
def dkwX4_signed_0 : List UInt8 := [42, 16, 45, 182, 0, 65, 153, 0, 13, 42, 3, 27, 182, 0, 91, 116, 167, 0, 9, 42, 3, 27]
abbrev dktX4_signed_0 : List UInt8 := dkwX4_signed_0 ++ dktX4_signed_1
theorem dksX4_signed_0 : cX4_signed.data.toList.drop 0 = dktX4_signed_0 := by decide +kernel
theorem dksX4_signed_1 : cX4_signed.data.toList.drop 22 = dktX4_signed_1 := dk_seg dksX4_signed_0 22 rfl rfl
theorem dX4_signed_0 : decode cX4_signed 0 = .ok (.aload_n 0, 1) := dk_42 (dk_at dksX4_signed_0 0 rfl rfl)
theorem dX4_signed_1 : decode cX4_signed 1 = .ok (.bipush 45, 2) := dk_16 45 (dk_at dksX4_signed_0 1 rfl rfl)
theorem dX4_signed_3 : decode cX4_signed 3 = .ok (.invokevirtual 65, 3) := dk_182 0 65 (dk_at dksX4_signed_0 3 rfl rfl)
theorem dX4_signed_6 : decode cX4_signed 6 = .ok (.ifCond .eq 13, 3) := dk_153 0 13 (dk_at dksX4_signed_0 6 rfl rfl)
theorem dX4_signed_9 : decode cX4_signed 9 = .ok (.aload_n 0, 1) := dk_42 (dk_at dksX4_signed_0 9 rfl rfl)
theorem dX4_signed_10 : decode cX4_signed 10 = .ok (.iconst 0, 1) := dk_3 (dk_at dksX4_signed_0 10 rfl rfl)
theorem dX4_signed_11 : decode cX4_signed 11 = .ok (.iload_n 1, 1) := dk_27 (dk_at dksX4_signed_0 11 rfl rfl)
theorem dX4_signed_12 : decode cX4_signed 12 = .ok (.invokevirtual 91, 3) := dk_182 0 91 (dk_at dksX4_signed_0 12 rfl rfl)
theorem dX4_signed_15 : decode cX4_signed 15 = .ok (.ineg, 1) := dk_116 (dk_at dksX4_signed_0 15 rfl rfl)
theorem dX4_signed_16 : decode cX4_signed 16 = .ok (.goto 9, 3) := dk_167 0 9 (dk_at dksX4_signed_0 16 rfl rfl)
theorem dX4_signed_19 : decode cX4_signed 19 = .ok (.aload_n 0, 1) := dk_42 (dk_at dksX4_signed_0 19 rfl rfl)
theorem dX4_signed_20 : decode cX4_signed 20 = .ok (.iconst 0, 1) := dk_3 (dk_at dksX4_signed_0 20 rfl rfl)
theorem dX4_signed_21 : decode cX4_signed 21 = .ok (.iload_n 1, 1) := dk_27 (dk_at dksX4_signed_0 21 rfl rfl)
theorem dX4_signed_22 : decode cX4_signed 22 = .ok (.invokevirtual 91, 3) := dk_182 0 91 (dk_at dksX4_signed_1 0 rfl rfl)
theorem dX4_signed_25 : decode cX4_signed 25 = .ok (.ireturn, 1) := dk_172 (dk_at dksX4_signed_1 3 rfl rfl)
abbrev cX4_sum : ByteArray := prog_17_method_16_code
def yX4_sum : MethodName := ⟨RX4, "sum", "()LElasticTruss$Quantity;"⟩
def dkwX4_sum_2 : List UInt8 := [189, 0, 123, 89, 3, 178, 0, 154, 83, 89, 4, 178, 0, 157, 83, 182, 0, 143, 77, 167, 255, 222, 43, 176]
abbrev dktX4_sum_2 : List UInt8 := dkwX4_sum_2 ++ []
def dkwX4_sum_1 : List UInt8 := [4, 178, 0, 157, 83, 182, 0, 143, 77, 44, 198, 0, 36, 43, 44, 42, 182, 0, 151, 182, 0, 147, 42, 5]
abbrev dktX4_sum_1 : List UInt8 := dkwX4_sum_1 ++ dktX4_sum_2
def dkwX4_sum_0 : List UInt8 := [187, 0, 128, 89, 42, 182, 0, 151, 183, 0, 133, 76, 42, 5, 189, 0, 123, 89, 3, 178, 0, 154, 83, 89]
abbrev dktX4_sum_0 : List UInt8 := dkwX4_sum_0 ++ dktX4_sum_1
theorem dksX4_sum_0 : cX4_sum.data.toList.drop 0 = dktX4_sum_0 := by decide +kernel
theorem dksX4_sum_1 : cX4_sum.data.toList.drop 24 = dktX4_sum_1 := dk_seg dksX4_sum_0 24 rfl rfl
theorem dksX4_sum_2 : cX4_sum.data.toList.drop 48 = dktX4_sum_2 := dk_seg dksX4_sum_1 24 rfl rfl
theorem dX4_sum_0 : decode cX4_sum 0 = .ok (.new 128, 3) := dk_187 0 128 (dk_at dksX4_sum_0 0 rfl rfl)
theorem dX4_sum_3 : decode cX4_sum 3 = .ok (.dup, 1) := dk_89 (dk_at dksX4_sum_0 3 rfl rfl)
theorem dX4_sum_4 : decode cX4_sum 4 = .ok (.aload_n 0, 1) := dk_42 (dk_at dksX4_sum_0 4 rfl rfl)
theorem dX4_sum_5 : decode cX4_sum 5 = .ok (.invokevirtual 151, 3) := dk_182 0 151 (dk_at dksX4_sum_0 5 rfl rfl)
theorem dX4_sum_8 : decode cX4_sum 8 = .ok (.invokespecial 133, 3) := dk_183 0 133 (dk_at dksX4_sum_0 8 rfl rfl)
theorem dX4_sum_11 : decode cX4_sum 11 = .ok (.astore_n 1, 1) := dk_76 (dk_at dksX4_sum_0 11 rfl rfl)
theorem dX4_sum_12 : decode cX4_sum 12 = .ok (.aload_n 0, 1) := dk_42 (dk_at dksX4_sum_0 12 rfl rfl)
theorem dX4_sum_13 : decode cX4_sum 13 = .ok (.iconst 2, 1) := dk_5 (dk_at dksX4_sum_0 13 rfl rfl)
theorem dX4_sum_14 : decode cX4_sum 14 = .ok (.anewarray 123, 3) := dk_189 0 123 (dk_at dksX4_sum_0 14 rfl rfl)
theorem dX4_sum_17 : decode cX4_sum 17 = .ok (.dup, 1) := dk_89 (dk_at dksX4_sum_0 17 rfl rfl)
theorem dX4_sum_18 : decode cX4_sum 18 = .ok (.iconst 0, 1) := dk_3 (dk_at dksX4_sum_0 18 rfl rfl)
theorem dX4_sum_19 : decode cX4_sum 19 = .ok (.getstatic 154, 3) := dk_178 0 154 (dk_at dksX4_sum_0 19 rfl rfl)
theorem dX4_sum_22 : decode cX4_sum 22 = .ok (.aastore, 1) := dk_83 (dk_at dksX4_sum_0 22 rfl rfl)
theorem dX4_sum_23 : decode cX4_sum 23 = .ok (.dup, 1) := dk_89 (dk_at dksX4_sum_0 23 rfl rfl)
theorem dX4_sum_24 : decode cX4_sum 24 = .ok (.iconst 1, 1) := dk_4 (dk_at dksX4_sum_1 0 rfl rfl)
theorem dX4_sum_25 : decode cX4_sum 25 = .ok (.getstatic 157, 3) := dk_178 0 157 (dk_at dksX4_sum_1 1 rfl rfl)
theorem dX4_sum_28 : decode cX4_sum 28 = .ok (.aastore, 1) := dk_83 (dk_at dksX4_sum_1 4 rfl rfl)
theorem dX4_sum_29 : decode cX4_sum 29 = .ok (.invokevirtual 143, 3) := dk_182 0 143 (dk_at dksX4_sum_1 5 rfl rfl)
theorem dX4_sum_32 : decode cX4_sum 32 = .ok (.astore_n 2, 1) := dk_77 (dk_at dksX4_sum_1 8 rfl rfl)
theorem dX4_sum_33 : decode cX4_sum 33 = .ok (.aload_n 2, 1) := dk_44 (dk_at dksX4_sum_1 9 rfl rfl)
theorem dX4_sum_34 : decode cX4_sum 34 = .ok (.ifnull 36, 3) := dk_198 0 36 (dk_at dksX4_sum_1 10 rfl rfl)
theorem dX4_sum_37 : decode cX4_sum 37 = .ok (.aload_n 1, 1) := dk_43 (dk_at dksX4_sum_1 13 rfl rfl)
theorem dX4_sum_38 : decode cX4_sum 38 = .ok (.aload_n 2, 1) := dk_44 (dk_at dksX4_sum_1 14 rfl rfl)
theorem dX4_sum_39 : decode cX4_sum 39 = .ok (.aload_n 0, 1) := dk_42 (dk_at dksX4_sum_1 15 rfl rfl)
theorem dX4_sum_40 : decode cX4_sum 40 = .ok (.invokevirtual 151, 3) := dk_182 0 151 (dk_at dksX4_sum_1 16 rfl rfl)
theorem dX4_sum_43 : decode cX4_sum 43 = .ok (.invokevirtual 147, 3) := dk_182 0 147 (dk_at dksX4_sum_1 19 rfl rfl)
theorem dX4_sum_46 : decode cX4_sum 46 = .ok (.aload_n 0, 1) := dk_42 (dk_at dksX4_sum_1 22 rfl rfl)
theorem dX4_sum_47 : decode cX4_sum 47 = .ok (.iconst 2, 1) := dk_5 (dk_at dksX4_sum_1 23 rfl rfl)
theorem dX4_sum_48 : decode cX4_sum 48 = .ok (.anewarray 123, 3) := dk_189 0 123 (dk_at dksX4_sum_2 0 rfl rfl)
theorem dX4_sum_51 : decode cX4_sum 51 = .ok (.dup, 1) := dk_89 (dk_at dksX4_sum_2 3 rfl rfl)
theorem dX4_sum_52 : decode cX4_sum 52 = .ok (.iconst 0, 1) := dk_3 (dk_at dksX4_sum_2 4 rfl rfl)
theorem dX4_sum_53 : decode cX4_sum 53 = .ok (.getstatic 154, 3) := dk_178 0 154 (dk_at dksX4_sum_2 5 rfl rfl)
theorem dX4_sum_56 : decode cX4_sum 56 = .ok (.aastore, 1) := dk_83 (dk_at dksX4_sum_2 8 rfl rfl)
theorem dX4_sum_57 : decode cX4_sum 57 = .ok (.dup, 1) := dk_89 (dk_at dksX4_sum_2 9 rfl rfl)
theorem dX4_sum_58 : decode cX4_sum 58 = .ok (.iconst 1, 1) := dk_4 (dk_at dksX4_sum_2 10 rfl rfl)
theorem dX4_sum_59 : decode cX4_sum 59 = .ok (.getstatic 157, 3) := dk_178 0 157 (dk_at dksX4_sum_2 11 rfl rfl)
theorem dX4_sum_62 : decode cX4_sum 62 = .ok (.aastore, 1) := dk_83 (dk_at dksX4_sum_2 14 rfl rfl)
theorem dX4_sum_63 : decode cX4_sum 63 = .ok (.invokevirtual 143, 3) := dk_182 0 143 (dk_at dksX4_sum_2 15 rfl rfl)
theorem dX4_sum_66 : decode cX4_sum 66 = .ok (.astore_n 2, 1) := dk_77 (dk_at dksX4_sum_2 18 rfl rfl)
theorem dX4_sum_67 : decode cX4_sum 67 = .ok (.goto (-34), 3) := dk_167 255 222 (dk_at dksX4_sum_2 19 rfl rfl)
theorem dX4_sum_70 : decode cX4_sum 70 = .ok (.aload_n 1, 1) := dk_43 (dk_at dksX4_sum_2 22 rfl rfl)
theorem dX4_sum_71 : decode cX4_sum 71 = .ok (.areturn, 1) := dk_176 (dk_at dksX4_sum_2 23 rfl rfl)
abbrev cX4_term : ByteArray := prog_17_method_15_code
def yX4_term : MethodName := ⟨RX4, "term", "()LElasticTruss$Quantity;"⟩
def dkwX4_term_2 : List UInt8 := [189, 0, 123, 89, 3, 178, 0, 136, 83, 89, 4, 178, 0, 140, 83, 182, 0, 143, 77, 167, 255, 222, 43, 176]
abbrev dktX4_term_2 : List UInt8 := dkwX4_term_2 ++ []
def dkwX4_term_1 : List UInt8 := [4, 178, 0, 140, 83, 182, 0, 143, 77, 44, 198, 0, 36, 43, 44, 42, 182, 0, 130, 182, 0, 147, 42, 5]
abbrev dktX4_term_1 : List UInt8 := dkwX4_term_1 ++ dktX4_term_2
def dkwX4_term_0 : List UInt8 := [187, 0, 128, 89, 42, 182, 0, 130, 183, 0, 133, 76, 42, 5, 189, 0, 123, 89, 3, 178, 0, 136, 83, 89]
abbrev dktX4_term_0 : List UInt8 := dkwX4_term_0 ++ dktX4_term_1
theorem dksX4_term_0 : cX4_term.data.toList.drop 0 = dktX4_term_0 := by decide +kernel
theorem dksX4_term_1 : cX4_term.data.toList.drop 24 = dktX4_term_1 := dk_seg dksX4_term_0 24 rfl rfl
theorem dksX4_term_2 : cX4_term.data.toList.drop 48 = dktX4_term_2 := dk_seg dksX4_term_1 24 rfl rfl
theorem dX4_term_0 : decode cX4_term 0 = .ok (.new 128, 3) := dk_187 0 128 (dk_at dksX4_term_0 0 rfl rfl)
theorem dX4_term_3 : decode cX4_term 3 = .ok (.dup, 1) := dk_89 (dk_at dksX4_term_0 3 rfl rfl)
theorem dX4_term_4 : decode cX4_term 4 = .ok (.aload_n 0, 1) := dk_42 (dk_at dksX4_term_0 4 rfl rfl)
theorem dX4_term_5 : decode cX4_term 5 = .ok (.invokevirtual 130, 3) := dk_182 0 130 (dk_at dksX4_term_0 5 rfl rfl)
theorem dX4_term_8 : decode cX4_term 8 = .ok (.invokespecial 133, 3) := dk_183 0 133 (dk_at dksX4_term_0 8 rfl rfl)
theorem dX4_term_11 : decode cX4_term 11 = .ok (.astore_n 1, 1) := dk_76 (dk_at dksX4_term_0 11 rfl rfl)
theorem dX4_term_12 : decode cX4_term 12 = .ok (.aload_n 0, 1) := dk_42 (dk_at dksX4_term_0 12 rfl rfl)
theorem dX4_term_13 : decode cX4_term 13 = .ok (.iconst 2, 1) := dk_5 (dk_at dksX4_term_0 13 rfl rfl)
theorem dX4_term_14 : decode cX4_term 14 = .ok (.anewarray 123, 3) := dk_189 0 123 (dk_at dksX4_term_0 14 rfl rfl)
theorem dX4_term_17 : decode cX4_term 17 = .ok (.dup, 1) := dk_89 (dk_at dksX4_term_0 17 rfl rfl)
theorem dX4_term_18 : decode cX4_term 18 = .ok (.iconst 0, 1) := dk_3 (dk_at dksX4_term_0 18 rfl rfl)
theorem dX4_term_19 : decode cX4_term 19 = .ok (.getstatic 136, 3) := dk_178 0 136 (dk_at dksX4_term_0 19 rfl rfl)
theorem dX4_term_22 : decode cX4_term 22 = .ok (.aastore, 1) := dk_83 (dk_at dksX4_term_0 22 rfl rfl)
theorem dX4_term_23 : decode cX4_term 23 = .ok (.dup, 1) := dk_89 (dk_at dksX4_term_0 23 rfl rfl)
theorem dX4_term_24 : decode cX4_term 24 = .ok (.iconst 1, 1) := dk_4 (dk_at dksX4_term_1 0 rfl rfl)
theorem dX4_term_25 : decode cX4_term 25 = .ok (.getstatic 140, 3) := dk_178 0 140 (dk_at dksX4_term_1 1 rfl rfl)
theorem dX4_term_28 : decode cX4_term 28 = .ok (.aastore, 1) := dk_83 (dk_at dksX4_term_1 4 rfl rfl)
theorem dX4_term_29 : decode cX4_term 29 = .ok (.invokevirtual 143, 3) := dk_182 0 143 (dk_at dksX4_term_1 5 rfl rfl)
theorem dX4_term_32 : decode cX4_term 32 = .ok (.astore_n 2, 1) := dk_77 (dk_at dksX4_term_1 8 rfl rfl)
theorem dX4_term_33 : decode cX4_term 33 = .ok (.aload_n 2, 1) := dk_44 (dk_at dksX4_term_1 9 rfl rfl)
theorem dX4_term_34 : decode cX4_term 34 = .ok (.ifnull 36, 3) := dk_198 0 36 (dk_at dksX4_term_1 10 rfl rfl)
theorem dX4_term_37 : decode cX4_term 37 = .ok (.aload_n 1, 1) := dk_43 (dk_at dksX4_term_1 13 rfl rfl)
theorem dX4_term_38 : decode cX4_term 38 = .ok (.aload_n 2, 1) := dk_44 (dk_at dksX4_term_1 14 rfl rfl)
theorem dX4_term_39 : decode cX4_term 39 = .ok (.aload_n 0, 1) := dk_42 (dk_at dksX4_term_1 15 rfl rfl)
theorem dX4_term_40 : decode cX4_term 40 = .ok (.invokevirtual 130, 3) := dk_182 0 130 (dk_at dksX4_term_1 16 rfl rfl)
theorem dX4_term_43 : decode cX4_term 43 = .ok (.invokevirtual 147, 3) := dk_182 0 147 (dk_at dksX4_term_1 19 rfl rfl)
theorem dX4_term_46 : decode cX4_term 46 = .ok (.aload_n 0, 1) := dk_42 (dk_at dksX4_term_1 22 rfl rfl)
theorem dX4_term_47 : decode cX4_term 47 = .ok (.iconst 2, 1) := dk_5 (dk_at dksX4_term_1 23 rfl rfl)
theorem dX4_term_48 : decode cX4_term 48 = .ok (.anewarray 123, 3) := dk_189 0 123 (dk_at dksX4_term_2 0 rfl rfl)
theorem dX4_term_51 : decode cX4_term 51 = .ok (.dup, 1) := dk_89 (dk_at dksX4_term_2 3 rfl rfl)
theorem dX4_term_52 : decode cX4_term 52 = .ok (.iconst 0, 1) := dk_3 (dk_at dksX4_term_2 4 rfl rfl)
theorem dX4_term_53 : decode cX4_term 53 = .ok (.getstatic 136, 3) := dk_178 0 136 (dk_at dksX4_term_2 5 rfl rfl)
theorem dX4_term_56 : decode cX4_term 56 = .ok (.aastore, 1) := dk_83 (dk_at dksX4_term_2 8 rfl rfl)
theorem dX4_term_57 : decode cX4_term 57 = .ok (.dup, 1) := dk_89 (dk_at dksX4_term_2 9 rfl rfl)
theorem dX4_term_58 : decode cX4_term 58 = .ok (.iconst 1, 1) := dk_4 (dk_at dksX4_term_2 10 rfl rfl)
theorem dX4_term_59 : decode cX4_term 59 = .ok (.getstatic 140, 3) := dk_178 0 140 (dk_at dksX4_term_2 11 rfl rfl)
theorem dX4_term_62 : decode cX4_term 62 = .ok (.aastore, 1) := dk_83 (dk_at dksX4_term_2 14 rfl rfl)
theorem dX4_term_63 : decode cX4_term 63 = .ok (.invokevirtual 143, 3) := dk_182 0 143 (dk_at dksX4_term_2 15 rfl rfl)
theorem dX4_term_66 : decode cX4_term 66 = .ok (.astore_n 2, 1) := dk_77 (dk_at dksX4_term_2 18 rfl rfl)
theorem dX4_term_67 : decode cX4_term 67 = .ok (.goto (-34), 3) := dk_167 255 222 (dk_at dksX4_term_2 19 rfl rfl)
theorem dX4_term_70 : decode cX4_term 70 = .ok (.aload_n 1, 1) := dk_43 (dk_at dksX4_term_2 22 rfl rfl)
theorem dX4_term_71 : decode cX4_term 71 = .ok (.areturn, 1) := dk_176 (dk_at dksX4_term_2 23 rfl rfl)
abbrev cX4_factor : ByteArray := prog_17_method_13_code
def yX4_factor : MethodName := ⟨RX4, "factor", "()LElasticTruss$Quantity;"⟩
def dkwX4_factor_5 : List UInt8 := [43, 176, 42, 3, 17, 39, 15, 182, 0, 91, 60, 27, 186, 0, 119, 0, 0, 176]
abbrev dktX4_factor_5 : List UInt8 := dkwX4_factor_5 ++ []
def dkwX4_factor_4 : List UInt8 := [181, 0, 30, 42, 182, 0, 112, 76, 42, 16, 41, 182, 0, 115, 42, 89, 180, 0, 109, 4, 100, 181, 0, 109]
abbrev dktX4_factor_4 : List UInt8 := dkwX4_factor_4 ++ dktX4_factor_5
def dkwX4_factor_3 : List UInt8 := [180, 0, 30, 183, 0, 71, 191, 42, 89, 180, 0, 109, 4, 96, 181, 0, 109, 42, 89, 180, 0, 30, 4, 96]
abbrev dktX4_factor_3 : List UInt8 := dkwX4_factor_3 ++ dktX4_factor_4
def dkwX4_factor_2 : List UInt8 := [182, 0, 49, 16, 40, 160, 0, 68, 42, 180, 0, 109, 7, 160, 0, 17, 187, 0, 69, 89, 16, 251, 42]
abbrev dktX4_factor_2 : List UInt8 := dkwX4_factor_2 ++ dktX4_factor_3
def dkwX4_factor_1 : List UInt8 := [186, 0, 105, 0, 0, 176, 42, 18, 106, 182, 0, 96, 153, 0, 9, 186, 0, 108, 0, 0, 176, 42]
abbrev dktX4_factor_1 : List UInt8 := dkwX4_factor_1 ++ dktX4_factor_2
def dkwX4_factor_0 : List UInt8 := [42, 18, 94, 182, 0, 96, 153, 0, 9, 186, 0, 100, 0, 0, 176, 42, 18, 104, 182, 0, 96, 153, 0, 9]
abbrev dktX4_factor_0 : List UInt8 := dkwX4_factor_0 ++ dktX4_factor_1
theorem dksX4_factor_0 : cX4_factor.data.toList.drop 0 = dktX4_factor_0 := by decide +kernel
theorem dksX4_factor_1 : cX4_factor.data.toList.drop 24 = dktX4_factor_1 := dk_seg dksX4_factor_0 24 rfl rfl
theorem dksX4_factor_2 : cX4_factor.data.toList.drop 46 = dktX4_factor_2 := dk_seg dksX4_factor_1 22 rfl rfl
theorem dksX4_factor_3 : cX4_factor.data.toList.drop 69 = dktX4_factor_3 := dk_seg dksX4_factor_2 23 rfl rfl
theorem dksX4_factor_4 : cX4_factor.data.toList.drop 93 = dktX4_factor_4 := dk_seg dksX4_factor_3 24 rfl rfl
theorem dksX4_factor_5 : cX4_factor.data.toList.drop 117 = dktX4_factor_5 := dk_seg dksX4_factor_4 24 rfl rfl
theorem dX4_factor_0 : decode cX4_factor 0 = .ok (.aload_n 0, 1) := dk_42 (dk_at dksX4_factor_0 0 rfl rfl)
theorem dX4_factor_1 : decode cX4_factor 1 = .ok (.ldc 94, 2) := dk_18 94 (dk_at dksX4_factor_0 1 rfl rfl)
theorem dX4_factor_3 : decode cX4_factor 3 = .ok (.invokevirtual 96, 3) := dk_182 0 96 (dk_at dksX4_factor_0 3 rfl rfl)
theorem dX4_factor_6 : decode cX4_factor 6 = .ok (.ifCond .eq 9, 3) := dk_153 0 9 (dk_at dksX4_factor_0 6 rfl rfl)
theorem dX4_factor_9 : decode cX4_factor 9 = .ok (.invokedynamic 100, 5) := by decide +kernel
theorem dX4_factor_14 : decode cX4_factor 14 = .ok (.areturn, 1) := dk_176 (dk_at dksX4_factor_0 14 rfl rfl)
theorem dX4_factor_15 : decode cX4_factor 15 = .ok (.aload_n 0, 1) := dk_42 (dk_at dksX4_factor_0 15 rfl rfl)
theorem dX4_factor_16 : decode cX4_factor 16 = .ok (.ldc 104, 2) := dk_18 104 (dk_at dksX4_factor_0 16 rfl rfl)
theorem dX4_factor_18 : decode cX4_factor 18 = .ok (.invokevirtual 96, 3) := dk_182 0 96 (dk_at dksX4_factor_0 18 rfl rfl)
theorem dX4_factor_21 : decode cX4_factor 21 = .ok (.ifCond .eq 9, 3) := dk_153 0 9 (dk_at dksX4_factor_0 21 rfl rfl)
theorem dX4_factor_24 : decode cX4_factor 24 = .ok (.invokedynamic 105, 5) := by decide +kernel
theorem dX4_factor_29 : decode cX4_factor 29 = .ok (.areturn, 1) := dk_176 (dk_at dksX4_factor_1 5 rfl rfl)
theorem dX4_factor_30 : decode cX4_factor 30 = .ok (.aload_n 0, 1) := dk_42 (dk_at dksX4_factor_1 6 rfl rfl)
theorem dX4_factor_31 : decode cX4_factor 31 = .ok (.ldc 106, 2) := dk_18 106 (dk_at dksX4_factor_1 7 rfl rfl)
theorem dX4_factor_33 : decode cX4_factor 33 = .ok (.invokevirtual 96, 3) := dk_182 0 96 (dk_at dksX4_factor_1 9 rfl rfl)
theorem dX4_factor_36 : decode cX4_factor 36 = .ok (.ifCond .eq 9, 3) := dk_153 0 9 (dk_at dksX4_factor_1 12 rfl rfl)
theorem dX4_factor_39 : decode cX4_factor 39 = .ok (.invokedynamic 108, 5) := by decide +kernel
theorem dX4_factor_44 : decode cX4_factor 44 = .ok (.areturn, 1) := dk_176 (dk_at dksX4_factor_1 20 rfl rfl)
theorem dX4_factor_45 : decode cX4_factor 45 = .ok (.aload_n 0, 1) := dk_42 (dk_at dksX4_factor_1 21 rfl rfl)
theorem dX4_factor_46 : decode cX4_factor 46 = .ok (.invokevirtual 49, 3) := dk_182 0 49 (dk_at dksX4_factor_2 0 rfl rfl)
theorem dX4_factor_49 : decode cX4_factor 49 = .ok (.bipush 40, 2) := dk_16 40 (dk_at dksX4_factor_2 3 rfl rfl)
theorem dX4_factor_51 : decode cX4_factor 51 = .ok (.if_icmp .ne 68, 3) := dk_160 0 68 (dk_at dksX4_factor_2 5 rfl rfl)
theorem dX4_factor_54 : decode cX4_factor 54 = .ok (.aload_n 0, 1) := dk_42 (dk_at dksX4_factor_2 8 rfl rfl)
theorem dX4_factor_55 : decode cX4_factor 55 = .ok (.getfield 109, 3) := dk_180 0 109 (dk_at dksX4_factor_2 9 rfl rfl)
theorem dX4_factor_58 : decode cX4_factor 58 = .ok (.iconst 4, 1) := dk_7 (dk_at dksX4_factor_2 12 rfl rfl)
theorem dX4_factor_59 : decode cX4_factor 59 = .ok (.if_icmp .ne 17, 3) := dk_160 0 17 (dk_at dksX4_factor_2 13 rfl rfl)
theorem dX4_factor_62 : decode cX4_factor 62 = .ok (.new 69, 3) := dk_187 0 69 (dk_at dksX4_factor_2 16 rfl rfl)
theorem dX4_factor_65 : decode cX4_factor 65 = .ok (.dup, 1) := dk_89 (dk_at dksX4_factor_2 19 rfl rfl)
theorem dX4_factor_66 : decode cX4_factor 66 = .ok (.bipush (-5), 2) := dk_16 251 (dk_at dksX4_factor_2 20 rfl rfl)
theorem dX4_factor_68 : decode cX4_factor 68 = .ok (.aload_n 0, 1) := dk_42 (dk_at dksX4_factor_2 22 rfl rfl)
theorem dX4_factor_69 : decode cX4_factor 69 = .ok (.getfield 30, 3) := dk_180 0 30 (dk_at dksX4_factor_3 0 rfl rfl)
theorem dX4_factor_72 : decode cX4_factor 72 = .ok (.invokespecial 71, 3) := dk_183 0 71 (dk_at dksX4_factor_3 3 rfl rfl)
theorem dX4_factor_75 : decode cX4_factor 75 = .ok (.athrow, 1) := dk_191 (dk_at dksX4_factor_3 6 rfl rfl)
theorem dX4_factor_76 : decode cX4_factor 76 = .ok (.aload_n 0, 1) := dk_42 (dk_at dksX4_factor_3 7 rfl rfl)
theorem dX4_factor_77 : decode cX4_factor 77 = .ok (.dup, 1) := dk_89 (dk_at dksX4_factor_3 8 rfl rfl)
theorem dX4_factor_78 : decode cX4_factor 78 = .ok (.getfield 109, 3) := dk_180 0 109 (dk_at dksX4_factor_3 9 rfl rfl)
theorem dX4_factor_81 : decode cX4_factor 81 = .ok (.iconst 1, 1) := dk_4 (dk_at dksX4_factor_3 12 rfl rfl)
theorem dX4_factor_82 : decode cX4_factor 82 = .ok (.iadd, 1) := dk_96 (dk_at dksX4_factor_3 13 rfl rfl)
theorem dX4_factor_83 : decode cX4_factor 83 = .ok (.putfield 109, 3) := dk_181 0 109 (dk_at dksX4_factor_3 14 rfl rfl)
theorem dX4_factor_86 : decode cX4_factor 86 = .ok (.aload_n 0, 1) := dk_42 (dk_at dksX4_factor_3 17 rfl rfl)
theorem dX4_factor_87 : decode cX4_factor 87 = .ok (.dup, 1) := dk_89 (dk_at dksX4_factor_3 18 rfl rfl)
theorem dX4_factor_88 : decode cX4_factor 88 = .ok (.getfield 30, 3) := dk_180 0 30 (dk_at dksX4_factor_3 19 rfl rfl)
theorem dX4_factor_91 : decode cX4_factor 91 = .ok (.iconst 1, 1) := dk_4 (dk_at dksX4_factor_3 22 rfl rfl)
theorem dX4_factor_92 : decode cX4_factor 92 = .ok (.iadd, 1) := dk_96 (dk_at dksX4_factor_3 23 rfl rfl)
theorem dX4_factor_93 : decode cX4_factor 93 = .ok (.putfield 30, 3) := dk_181 0 30 (dk_at dksX4_factor_4 0 rfl rfl)
theorem dX4_factor_96 : decode cX4_factor 96 = .ok (.aload_n 0, 1) := dk_42 (dk_at dksX4_factor_4 3 rfl rfl)
theorem dX4_factor_97 : decode cX4_factor 97 = .ok (.invokevirtual 112, 3) := dk_182 0 112 (dk_at dksX4_factor_4 4 rfl rfl)
theorem dX4_factor_100 : decode cX4_factor 100 = .ok (.astore_n 1, 1) := dk_76 (dk_at dksX4_factor_4 7 rfl rfl)
theorem dX4_factor_101 : decode cX4_factor 101 = .ok (.aload_n 0, 1) := dk_42 (dk_at dksX4_factor_4 8 rfl rfl)
theorem dX4_factor_102 : decode cX4_factor 102 = .ok (.bipush 41, 2) := dk_16 41 (dk_at dksX4_factor_4 9 rfl rfl)
theorem dX4_factor_104 : decode cX4_factor 104 = .ok (.invokevirtual 115, 3) := dk_182 0 115 (dk_at dksX4_factor_4 11 rfl rfl)
theorem dX4_factor_107 : decode cX4_factor 107 = .ok (.aload_n 0, 1) := dk_42 (dk_at dksX4_factor_4 14 rfl rfl)
theorem dX4_factor_108 : decode cX4_factor 108 = .ok (.dup, 1) := dk_89 (dk_at dksX4_factor_4 15 rfl rfl)
theorem dX4_factor_109 : decode cX4_factor 109 = .ok (.getfield 109, 3) := dk_180 0 109 (dk_at dksX4_factor_4 16 rfl rfl)
theorem dX4_factor_112 : decode cX4_factor 112 = .ok (.iconst 1, 1) := dk_4 (dk_at dksX4_factor_4 19 rfl rfl)
theorem dX4_factor_113 : decode cX4_factor 113 = .ok (.isub, 1) := dk_100 (dk_at dksX4_factor_4 20 rfl rfl)
theorem dX4_factor_114 : decode cX4_factor 114 = .ok (.putfield 109, 3) := dk_181 0 109 (dk_at dksX4_factor_4 21 rfl rfl)
theorem dX4_factor_117 : decode cX4_factor 117 = .ok (.aload_n 1, 1) := dk_43 (dk_at dksX4_factor_5 0 rfl rfl)
theorem dX4_factor_118 : decode cX4_factor 118 = .ok (.areturn, 1) := dk_176 (dk_at dksX4_factor_5 1 rfl rfl)
theorem dX4_factor_119 : decode cX4_factor 119 = .ok (.aload_n 0, 1) := dk_42 (dk_at dksX4_factor_5 2 rfl rfl)
theorem dX4_factor_120 : decode cX4_factor 120 = .ok (.iconst 0, 1) := dk_3 (dk_at dksX4_factor_5 3 rfl rfl)
theorem dX4_factor_121 : decode cX4_factor 121 = .ok (.sipush 9999, 3) := dk_17 39 15 (dk_at dksX4_factor_5 4 rfl rfl)
theorem dX4_factor_124 : decode cX4_factor 124 = .ok (.invokevirtual 91, 3) := dk_182 0 91 (dk_at dksX4_factor_5 7 rfl rfl)
theorem dX4_factor_127 : decode cX4_factor 127 = .ok (.istore_n 1, 1) := dk_60 (dk_at dksX4_factor_5 10 rfl rfl)
theorem dX4_factor_128 : decode cX4_factor 128 = .ok (.iload_n 1, 1) := dk_27 (dk_at dksX4_factor_5 11 rfl rfl)
theorem dX4_factor_129 : decode cX4_factor 129 = .ok (.invokedynamic 119, 5) := by decide +kernel
theorem dX4_factor_134 : decode cX4_factor 134 = .ok (.areturn, 1) := dk_176 (dk_at dksX4_factor_5 17 rfl rfl)
abbrev cX4_lambda_factor_0 : ByteArray := prog_17_method_26_code
def yX4_lambda_factor_0 : MethodName := ⟨RX4, "lambda$factor$0", "(LElasticTruss$Member;II)J"⟩
theorem dX4_lambda_factor_0_0 : decode cX4_lambda_factor_0 0 = .ok (.iload_n 1, 1) := by decide +kernel
theorem dX4_lambda_factor_0_1 : decode cX4_lambda_factor_0 1 = .ok (.i2l, 1) := by decide +kernel
theorem dX4_lambda_factor_0_2 : decode cX4_lambda_factor_0 2 = .ok (.lreturn, 1) := by decide +kernel
abbrev cX4_lambda_factor_1 : ByteArray := prog_17_method_25_code
def yX4_lambda_factor_1 : MethodName := ⟨RX4, "lambda$factor$1", "(LElasticTruss$Member;II)J"⟩
def dkwX4_lambda_factor_1_0 : List UInt8 := [42, 180, 1, 19, 133, 173]
abbrev dktX4_lambda_factor_1_0 : List UInt8 := dkwX4_lambda_factor_1_0 ++ []
theorem dksX4_lambda_factor_1_0 : cX4_lambda_factor_1.data.toList.drop 0 = dktX4_lambda_factor_1_0 := by decide +kernel
theorem dX4_lambda_factor_1_0 : decode cX4_lambda_factor_1 0 = .ok (.aload_n 0, 1) := dk_42 (dk_at dksX4_lambda_factor_1_0 0 rfl rfl)
theorem dX4_lambda_factor_1_1 : decode cX4_lambda_factor_1 1 = .ok (.getfield 275, 3) := dk_180 1 19 (dk_at dksX4_lambda_factor_1_0 1 rfl rfl)
theorem dX4_lambda_factor_1_4 : decode cX4_lambda_factor_1 4 = .ok (.i2l, 1) := dk_133 (dk_at dksX4_lambda_factor_1_0 4 rfl rfl)
theorem dX4_lambda_factor_1_5 : decode cX4_lambda_factor_1 5 = .ok (.lreturn, 1) := dk_173 (dk_at dksX4_lambda_factor_1_0 5 rfl rfl)
abbrev cX4_lambda_factor_2 : ByteArray := prog_17_method_24_code
def yX4_lambda_factor_2 : MethodName := ⟨RX4, "lambda$factor$2", "(LElasticTruss$Member;II)J"⟩
theorem dX4_lambda_factor_2_0 : decode cX4_lambda_factor_2 0 = .ok (.iload_n 2, 1) := by decide +kernel
theorem dX4_lambda_factor_2_1 : decode cX4_lambda_factor_2 1 = .ok (.i2l, 1) := by decide +kernel
theorem dX4_lambda_factor_2_2 : decode cX4_lambda_factor_2 2 = .ok (.lreturn, 1) := by decide +kernel
abbrev cX4_lambda_factor_3 : ByteArray := prog_17_method_23_code
def yX4_lambda_factor_3 : MethodName := ⟨RX4, "lambda$factor$3", "(ILElasticTruss$Member;II)J"⟩
theorem dX4_lambda_factor_3_0 : decode cX4_lambda_factor_3 0 = .ok (.iload_n 0, 1) := by decide +kernel
theorem dX4_lambda_factor_3_1 : decode cX4_lambda_factor_3 1 = .ok (.i2l, 1) := by decide +kernel
theorem dX4_lambda_factor_3_2 : decode cX4_lambda_factor_3 2 = .ok (.lreturn, 1) := by decide +kernel
abbrev cX4_take : ByteArray := prog_17_method_14_code
def yX4_take : MethodName := ⟨RX4, "take", "([LElasticTruss$Operator;)LElasticTruss$Operator;"⟩
def dkwX4_take_1 : List UInt8 := [180, 0, 122, 182, 0, 65, 153, 0, 6, 25, 5, 176, 132, 4, 1, 167, 255, 226, 1, 176]
abbrev dktX4_take_1 : List UInt8 := dkwX4_take_1 ++ []
def dkwX4_take_0 : List UInt8 := [43, 77, 44, 190, 62, 3, 54, 4, 21, 4, 29, 162, 0, 30, 44, 21, 4, 50, 58, 5, 42, 25, 5]
abbrev dktX4_take_0 : List UInt8 := dkwX4_take_0 ++ dktX4_take_1
theorem dksX4_take_0 : cX4_take.data.toList.drop 0 = dktX4_take_0 := by decide +kernel
theorem dksX4_take_1 : cX4_take.data.toList.drop 23 = dktX4_take_1 := dk_seg dksX4_take_0 23 rfl rfl
theorem dX4_take_0 : decode cX4_take 0 = .ok (.aload_n 1, 1) := dk_43 (dk_at dksX4_take_0 0 rfl rfl)
theorem dX4_take_1 : decode cX4_take 1 = .ok (.astore_n 2, 1) := dk_77 (dk_at dksX4_take_0 1 rfl rfl)
theorem dX4_take_2 : decode cX4_take 2 = .ok (.aload_n 2, 1) := dk_44 (dk_at dksX4_take_0 2 rfl rfl)
theorem dX4_take_3 : decode cX4_take 3 = .ok (.arraylength, 1) := dk_190 (dk_at dksX4_take_0 3 rfl rfl)
theorem dX4_take_4 : decode cX4_take 4 = .ok (.istore_n 3, 1) := dk_62 (dk_at dksX4_take_0 4 rfl rfl)
theorem dX4_take_5 : decode cX4_take 5 = .ok (.iconst 0, 1) := dk_3 (dk_at dksX4_take_0 5 rfl rfl)
theorem dX4_take_6 : decode cX4_take 6 = .ok (.istore 4, 2) := dk_54 4 (dk_at dksX4_take_0 6 rfl rfl)
theorem dX4_take_8 : decode cX4_take 8 = .ok (.iload 4, 2) := dk_21 4 (dk_at dksX4_take_0 8 rfl rfl)
theorem dX4_take_10 : decode cX4_take 10 = .ok (.iload_n 3, 1) := dk_29 (dk_at dksX4_take_0 10 rfl rfl)
theorem dX4_take_11 : decode cX4_take 11 = .ok (.if_icmp .ge 30, 3) := dk_162 0 30 (dk_at dksX4_take_0 11 rfl rfl)
theorem dX4_take_14 : decode cX4_take 14 = .ok (.aload_n 2, 1) := dk_44 (dk_at dksX4_take_0 14 rfl rfl)
theorem dX4_take_15 : decode cX4_take 15 = .ok (.iload 4, 2) := dk_21 4 (dk_at dksX4_take_0 15 rfl rfl)
theorem dX4_take_17 : decode cX4_take 17 = .ok (.aaload, 1) := dk_50 (dk_at dksX4_take_0 17 rfl rfl)
theorem dX4_take_18 : decode cX4_take 18 = .ok (.astore 5, 2) := dk_58 5 (dk_at dksX4_take_0 18 rfl rfl)
theorem dX4_take_20 : decode cX4_take 20 = .ok (.aload_n 0, 1) := dk_42 (dk_at dksX4_take_0 20 rfl rfl)
theorem dX4_take_21 : decode cX4_take 21 = .ok (.aload 5, 2) := dk_25 5 (dk_at dksX4_take_0 21 rfl rfl)
theorem dX4_take_23 : decode cX4_take 23 = .ok (.getfield 122, 3) := dk_180 0 122 (dk_at dksX4_take_1 0 rfl rfl)
theorem dX4_take_26 : decode cX4_take 26 = .ok (.invokevirtual 65, 3) := dk_182 0 65 (dk_at dksX4_take_1 3 rfl rfl)
theorem dX4_take_29 : decode cX4_take 29 = .ok (.ifCond .eq 6, 3) := dk_153 0 6 (dk_at dksX4_take_1 6 rfl rfl)
theorem dX4_take_32 : decode cX4_take 32 = .ok (.aload 5, 2) := dk_25 5 (dk_at dksX4_take_1 9 rfl rfl)
theorem dX4_take_34 : decode cX4_take 34 = .ok (.areturn, 1) := dk_176 (dk_at dksX4_take_1 11 rfl rfl)
theorem dX4_take_35 : decode cX4_take 35 = .ok (.iinc 4 1, 3) := dk_132 4 1 (dk_at dksX4_take_1 12 rfl rfl)
theorem dX4_take_38 : decode cX4_take 38 = .ok (.goto (-30), 3) := dk_167 255 226 (dk_at dksX4_take_1 15 rfl rfl)
theorem dX4_take_41 : decode cX4_take 41 = .ok (.aconst_null, 1) := dk_1 (dk_at dksX4_take_1 18 rfl rfl)
theorem dX4_take_42 : decode cX4_take 42 = .ok (.areturn, 1) := dk_176 (dk_at dksX4_take_1 19 rfl rfl)
theorem q128 : (Jvm.Cond.initialized "ElasticTruss$SetupReader") ∈ lw_all := lw_g (lw_at lw_m1 27 rfl) rfl
theorem q618 : (Jvm.Cond.fieldLinkNest "ElasticTruss$SetupReader" (160 : Nat) "ElasticTruss$Truss" "nodes" "Ljava/util/List;" "ElasticTruss") ∈ lw_tbl := lw_at lw_m3 37 rfl
theorem q621 : (Jvm.Cond.fieldLinkNest "ElasticTruss$SetupReader" (227 : Nat) "ElasticTruss$Truss" "loads" "Ljava/util/List;" "ElasticTruss") ∈ lw_tbl := lw_at lw_m3 40 rfl
theorem q623 : (Jvm.Cond.fieldLinkNest "ElasticTruss$SetupReader" (265 : Nat) "ElasticTruss$Truss" "buckling" "LElasticTruss$Quantity;" "ElasticTruss") ∈ lw_tbl := lw_at lw_m3 42 rfl
theorem q625 : (Jvm.Cond.fieldLinkNest "ElasticTruss$SetupReader" (245 : Nat) "ElasticTruss$Truss" "areas" "[I" "ElasticTruss") ∈ lw_tbl := lw_at lw_m3 44 rfl
theorem q629 : (Jvm.Cond.fieldLinkNest "ElasticTruss$SetupReader" (220 : Nat) "ElasticTruss$Truss" "groupCount" "I" "ElasticTruss") ∈ lw_tbl := lw_at lw_m3 48 rfl
theorem q632 : (Jvm.Cond.fieldLinkNest "ElasticTruss$SetupReader" (206 : Nat) "ElasticTruss$Truss" "members" "Ljava/util/Map;" "ElasticTruss") ∈ lw_tbl := lw_at lw_m3 51 rfl
theorem q672 : (Jvm.Cond.fieldLinkNest "ElasticTruss$SetupReader" (26 : Nat) "ElasticTruss" "buffer" "[B" "ElasticTruss") ∈ lw_tbl := lw_at lw_m3 91 rfl
theorem q1692 : (Jvm.Cond.selects "ElasticTruss$SetupReader" ({ cls := "java/lang/Object", name := "getClass", desc := "()Ljava/lang/Class;" } : Jvm.MethodName) ({ cls := "java/lang/Object", name := "getClass", desc := "()Ljava/lang/Class;" } : Jvm.MethodName)) ∈ lw_all := lw_g (lw_at lw_m7 151 rfl) rfl
theorem q1748 : (Jvm.Cond.selects "ElasticTruss$SetupReader" ({ cls := "java/lang/Object", name := "toString", desc := "()Ljava/lang/String;" } : Jvm.MethodName) ({ cls := "java/lang/Object", name := "toString", desc := "()Ljava/lang/String;" } : Jvm.MethodName)) ∈ lw_all := lw_g (lw_at lw_m7 207 rfl) rfl
theorem q1903 : (Jvm.Cond.selects "ElasticTruss$SetupReader" ({ cls := "java/lang/Object", name := "hashCode", desc := "()I" } : Jvm.MethodName) ({ cls := "java/lang/Object", name := "hashCode", desc := "()I" } : Jvm.MethodName)) ∈ lw_all := lw_g (lw_at lw_m8 122 rfl) rfl
theorem q2337 : (Jvm.Cond.selects "ElasticTruss$SetupReader" ({ cls := "java/lang/Object", name := "equals", desc := "(Ljava/lang/Object;)Z" } : Jvm.MethodName) ({ cls := "java/lang/Object", name := "equals", desc := "(Ljava/lang/Object;)Z" } : Jvm.MethodName)) ∈ lw_all := lw_g (lw_at lw_m10 76 rfl) rfl
theorem q2694 : (Jvm.Cond.instantiable "ElasticTruss$SetupReader" (7 : Nat)) ∈ lw_all := lw_g (lw_at lw_m11 193 rfl) rfl
theorem q2696 : (Jvm.Cond.instanceMethod ({ cls := "ElasticTruss$SetupReader", name := "<init>", desc := "(LElasticTruss;I)V" } : Jvm.MethodName)) ∈ lw_all := lw_g (lw_at lw_m11 195 rfl) rfl
theorem q2697 : (Jvm.Cond.code ({ cls := "ElasticTruss$SetupReader", name := "<init>", desc := "(LElasticTruss;I)V" } : Jvm.MethodName) prog_17_method_1_code (3 : Nat) (Option.none : Option Jvm.ClassFile.FieldType)) ∈ lw_all := lw_g (lw_at lw_m11 196 rfl) rfl
theorem q2698 : (Jvm.Cond.methodLink "ElasticTruss$SetupReader" (9 : Nat) ({ cls := "java/lang/Object", name := "<init>", desc := "()V" } : Jvm.MethodName)) ∈ lw_all := lw_g (lw_at lw_m11 197 rfl) rfl
theorem q2699 : (Jvm.Cond.classLink "ElasticTruss$SetupReader" (15 : Nat) "ElasticTruss$Truss") ∈ lw_all := lw_g (lw_at lw_m11 198 rfl) rfl
theorem q2700 : (Jvm.Cond.methodLink "ElasticTruss$SetupReader" (17 : Nat) ({ cls := "ElasticTruss$Truss", name := "<init>", desc := "()V" } : Jvm.MethodName)) ∈ lw_all := lw_g (lw_at lw_m11 199 rfl) rfl
theorem q2701 : (Jvm.Cond.fieldLink "ElasticTruss$SetupReader" (22 : Nat) "ElasticTruss$SetupReader" "length" "I") ∈ lw_all := lw_g (lw_at lw_m11 200 rfl) rfl
theorem q2702 : (Jvm.Cond.fieldLink "ElasticTruss$SetupReader" (18 : Nat) "ElasticTruss$SetupReader" "read" "LElasticTruss$Truss;") ∈ lw_all := lw_g (lw_at lw_m11 201 rfl) rfl
theorem q2703 : (Jvm.Cond.fieldLink "ElasticTruss$SetupReader" (30 : Nat) "ElasticTruss$SetupReader" "position" "I") ∈ lw_all := lw_g (lw_at lw_m11 202 rfl) rfl
theorem q2704 : (Jvm.Cond.fieldLink "ElasticTruss$SetupReader" (74 : Nat) "ElasticTruss$SetupReader" "numberOffset" "I") ∈ lw_all := lw_g (lw_at lw_m11 203 rfl) rfl
theorem q2705 : (Jvm.Cond.fieldLink "ElasticTruss$SetupReader" (109 : Nat) "ElasticTruss$SetupReader" "nesting" "I") ∈ lw_all := lw_g (lw_at lw_m11 204 rfl) rfl
theorem q2706 : (Jvm.Cond.fieldLink "ElasticTruss$SetupReader" (261 : Nat) "ElasticTruss$SetupReader" "hasBuckling" "Z") ∈ lw_all := lw_g (lw_at lw_m11 205 rfl) rfl
theorem q2707 : (Jvm.Cond.fieldLink "ElasticTruss$SetupReader" (3 : Nat) "ElasticTruss$SetupReader" "this$0" "LElasticTruss;") ∈ lw_all := lw_g (lw_at lw_m11 206 rfl) rfl
theorem q2708 : (Jvm.Cond.laysFinal "ElasticTruss$SetupReader" "ElasticTruss$SetupReader" "length" "I") ∈ lw_all := lw_g (lw_at lw_m11 207 rfl) rfl
theorem q2709 : (Jvm.Cond.soleField "ElasticTruss$SetupReader" "length") ∈ lw_all := lw_g (lw_at lw_m11 208 rfl) rfl
theorem q2710 : (Jvm.Cond.lays "ElasticTruss$SetupReader" "ElasticTruss$SetupReader" "read" "LElasticTruss$Truss;") ∈ lw_all := lw_g (lw_at lw_m11 209 rfl) rfl
theorem q2711 : (Jvm.Cond.soleField "ElasticTruss$SetupReader" "read") ∈ lw_all := lw_g (lw_at lw_m11 210 rfl) rfl
theorem q2712 : (Jvm.Cond.lays "ElasticTruss$SetupReader" "ElasticTruss$SetupReader" "position" "I") ∈ lw_all := lw_g (lw_at lw_m11 211 rfl) rfl
theorem q2713 : (Jvm.Cond.soleField "ElasticTruss$SetupReader" "position") ∈ lw_all := lw_g (lw_at lw_m11 212 rfl) rfl
theorem q2714 : (Jvm.Cond.lays "ElasticTruss$SetupReader" "ElasticTruss$SetupReader" "numberOffset" "I") ∈ lw_all := lw_g (lw_at lw_m11 213 rfl) rfl
theorem q2715 : (Jvm.Cond.soleField "ElasticTruss$SetupReader" "numberOffset") ∈ lw_all := lw_g (lw_at lw_m11 214 rfl) rfl
theorem q2716 : (Jvm.Cond.lays "ElasticTruss$SetupReader" "ElasticTruss$SetupReader" "nesting" "I") ∈ lw_all := lw_g (lw_at lw_m11 215 rfl) rfl
theorem q2717 : (Jvm.Cond.soleField "ElasticTruss$SetupReader" "nesting") ∈ lw_all := lw_g (lw_at lw_m11 216 rfl) rfl
theorem q2718 : (Jvm.Cond.lays "ElasticTruss$SetupReader" "ElasticTruss$SetupReader" "hasBuckling" "Z") ∈ lw_all := lw_g (lw_at lw_m11 217 rfl) rfl
theorem q2719 : (Jvm.Cond.soleField "ElasticTruss$SetupReader" "hasBuckling") ∈ lw_all := lw_g (lw_at lw_m11 218 rfl) rfl
theorem q2720 : (Jvm.Cond.laysFinal "ElasticTruss$SetupReader" "ElasticTruss$SetupReader" "this$0" "LElasticTruss;") ∈ lw_all := lw_g (lw_at lw_m11 219 rfl) rfl
theorem q2721 : (Jvm.Cond.soleField "ElasticTruss$SetupReader" "this$0") ∈ lw_all := lw_g (lw_at lw_m11 220 rfl) rfl
theorem q2722 : (Jvm.Cond.superclass "ElasticTruss$SetupReader" "java/lang/Object") ∈ lw_all := lw_g (lw_at lw_m11 221 rfl) rfl
theorem q2724 : (Jvm.Cond.instanceMethod ({ cls := "ElasticTruss$SetupReader", name := "read", desc := "()LElasticTruss$Truss;" } : Jvm.MethodName)) ∈ lw_all := lw_g (lw_at lw_m11 223 rfl) rfl
theorem q2725 : (Jvm.Cond.selects "ElasticTruss$SetupReader" ({ cls := "ElasticTruss$SetupReader", name := "read", desc := "()LElasticTruss$Truss;" } : Jvm.MethodName) ({ cls := "ElasticTruss$SetupReader", name := "read", desc := "()LElasticTruss$Truss;" } : Jvm.MethodName)) ∈ lw_all := lw_g (lw_at lw_m11 224 rfl) rfl
theorem q2726 : (Jvm.Cond.code ({ cls := "ElasticTruss$SetupReader", name := "read", desc := "()LElasticTruss$Truss;" } : Jvm.MethodName) prog_17_method_22_code (3 : Nat) (Option.some (Jvm.ClassFile.FieldType.object "ElasticTruss$Truss"))) ∈ lw_all := lw_g (lw_at lw_m11 225 rfl) rfl
theorem q2727 : (Jvm.Cond.stringRef "ElasticTruss$SetupReader" (268 : Nat) "truss") ∈ lw_tbl := lw_at lw_m11 226 rfl
theorem q2728 : (Jvm.Cond.methodLink "ElasticTruss$SetupReader" (96 : Nat) ({ cls := "ElasticTruss$SetupReader", name := "takeWord", desc := "(Ljava/lang/String;)Z" } : Jvm.MethodName)) ∈ lw_all := lw_g (lw_at lw_m11 227 rfl) rfl
theorem q2729 : (Jvm.Cond.privateMethod ({ cls := "ElasticTruss$SetupReader", name := "takeWord", desc := "(Ljava/lang/String;)Z" } : Jvm.MethodName)) ∈ lw_tbl := lw_at lw_m11 228 rfl
theorem q2730 : (Jvm.Cond.instanceMethod ({ cls := "ElasticTruss$SetupReader", name := "takeWord", desc := "(Ljava/lang/String;)Z" } : Jvm.MethodName)) ∈ lw_all := lw_g (lw_at lw_m11 229 rfl) rfl
theorem q2731 : (Jvm.Cond.code ({ cls := "ElasticTruss$SetupReader", name := "takeWord", desc := "(Ljava/lang/String;)Z" } : Jvm.MethodName) prog_17_method_6_code (4 : Nat) (Option.some Jvm.ClassFile.FieldType.boolean)) ∈ lw_all := lw_g (lw_at lw_m11 230 rfl) rfl
theorem q2732 : (Jvm.Cond.methodLink "ElasticTruss$SetupReader" (49 : Nat) ({ cls := "ElasticTruss$SetupReader", name := "skipSpaces", desc := "()I" } : Jvm.MethodName)) ∈ lw_all := lw_g (lw_at lw_m11 231 rfl) rfl
theorem q2733 : (Jvm.Cond.privateMethod ({ cls := "ElasticTruss$SetupReader", name := "skipSpaces", desc := "()I" } : Jvm.MethodName)) ∈ lw_tbl := lw_at lw_m11 232 rfl
theorem q2734 : (Jvm.Cond.instanceMethod ({ cls := "ElasticTruss$SetupReader", name := "skipSpaces", desc := "()I" } : Jvm.MethodName)) ∈ lw_all := lw_g (lw_at lw_m11 233 rfl) rfl
theorem q2735 : (Jvm.Cond.code ({ cls := "ElasticTruss$SetupReader", name := "skipSpaces", desc := "()I" } : Jvm.MethodName) prog_17_method_3_code (1 : Nat) (Option.some Jvm.ClassFile.FieldType.int)) ∈ lw_all := lw_g (lw_at lw_m11 234 rfl) rfl
theorem q2736 : (Jvm.Cond.methodLink "ElasticTruss$SetupReader" (33 : Nat) ({ cls := "ElasticTruss$SetupReader", name := "byteAt", desc := "(I)I" } : Jvm.MethodName)) ∈ lw_all := lw_g (lw_at lw_m11 235 rfl) rfl
theorem q2737 : (Jvm.Cond.privateMethod ({ cls := "ElasticTruss$SetupReader", name := "byteAt", desc := "(I)I" } : Jvm.MethodName)) ∈ lw_tbl := lw_at lw_m11 236 rfl
theorem q2738 : (Jvm.Cond.instanceMethod ({ cls := "ElasticTruss$SetupReader", name := "byteAt", desc := "(I)I" } : Jvm.MethodName)) ∈ lw_all := lw_g (lw_at lw_m11 237 rfl) rfl
theorem q2739 : (Jvm.Cond.code ({ cls := "ElasticTruss$SetupReader", name := "byteAt", desc := "(I)I" } : Jvm.MethodName) prog_17_method_2_code (2 : Nat) (Option.some Jvm.ClassFile.FieldType.int)) ∈ lw_all := lw_g (lw_at lw_m11 238 rfl) rfl
theorem q2740 : (Jvm.Cond.methodLink "ElasticTruss$SetupReader" (53 : Nat) ({ cls := "ElasticTruss$SetupReader", name := "isLetter", desc := "(I)Z" } : Jvm.MethodName)) ∈ lw_all := lw_g (lw_at lw_m11 239 rfl) rfl
theorem q2741 : (Jvm.Cond.privateMethod ({ cls := "ElasticTruss$SetupReader", name := "isLetter", desc := "(I)Z" } : Jvm.MethodName)) ∈ lw_tbl := lw_at lw_m12 0 rfl
theorem q2742 : (Jvm.Cond.instanceMethod ({ cls := "ElasticTruss$SetupReader", name := "isLetter", desc := "(I)Z" } : Jvm.MethodName)) ∈ lw_all := lw_g (lw_at lw_m12 1 rfl) rfl
theorem q2743 : (Jvm.Cond.code ({ cls := "ElasticTruss$SetupReader", name := "isLetter", desc := "(I)Z" } : Jvm.MethodName) prog_17_method_4_code (2 : Nat) (Option.some Jvm.ClassFile.FieldType.boolean)) ∈ lw_all := lw_g (lw_at lw_m12 2 rfl) rfl
theorem q2744 : (Jvm.Cond.constantLong "ElasticTruss$SetupReader" (37 : Nat) (97 : Int64)) ∈ lw_all := lw_g (lw_at lw_m12 3 rfl) rfl
theorem q2745 : (Jvm.Cond.constantLong "ElasticTruss$SetupReader" (39 : Nat) (122 : Int64)) ∈ lw_all := lw_g (lw_at lw_m12 4 rfl) rfl
theorem q2746 : (Jvm.Cond.methodLinkNest "ElasticTruss$SetupReader" (41 : Nat) ({ cls := "ElasticTruss", name := "isIn", desc := "(JJJ)Z" } : Jvm.MethodName) "ElasticTruss") ∈ lw_tbl := lw_at lw_m12 5 rfl
theorem q2747 : (Jvm.Cond.methodLink "ElasticTruss$SetupReader" (57 : Nat) ({ cls := "java/lang/String", name := "length", desc := "()I" } : Jvm.MethodName)) ∈ lw_all := lw_g (lw_at lw_m12 6 rfl) rfl
theorem q2748 : (Jvm.Cond.methodLink "ElasticTruss$SetupReader" (61 : Nat) ({ cls := "java/lang/String", name := "charAt", desc := "(I)C" } : Jvm.MethodName)) ∈ lw_all := lw_g (lw_at lw_m12 7 rfl) rfl
theorem q2749 : (Jvm.Cond.classLink "ElasticTruss$SetupReader" (69 : Nat) "ElasticTruss$SetupException") ∈ lw_all := lw_g (lw_at lw_m12 8 rfl) rfl
theorem q2758 : (Jvm.Cond.methodLink "ElasticTruss$SetupReader" (71 : Nat) ({ cls := "ElasticTruss$SetupException", name := "<init>", desc := "(II)V" } : Jvm.MethodName)) ∈ lw_all := lw_g (lw_at lw_m12 17 rfl) rfl
theorem q2777 : (Jvm.Cond.methodLink "ElasticTruss$SetupReader" (91 : Nat) ({ cls := "ElasticTruss$SetupReader", name := "number", desc := "(II)I" } : Jvm.MethodName)) ∈ lw_all := lw_g (lw_at lw_m12 36 rfl) rfl
theorem q2778 : (Jvm.Cond.privateMethod ({ cls := "ElasticTruss$SetupReader", name := "number", desc := "(II)I" } : Jvm.MethodName)) ∈ lw_tbl := lw_at lw_m12 37 rfl
theorem q2779 : (Jvm.Cond.instanceMethod ({ cls := "ElasticTruss$SetupReader", name := "number", desc := "(II)I" } : Jvm.MethodName)) ∈ lw_all := lw_g (lw_at lw_m12 38 rfl) rfl
theorem q2780 : (Jvm.Cond.code ({ cls := "ElasticTruss$SetupReader", name := "number", desc := "(II)I" } : Jvm.MethodName) prog_17_method_11_code (4 : Nat) (Option.some Jvm.ClassFile.FieldType.int)) ∈ lw_all := lw_g (lw_at lw_m12 39 rfl) rfl
theorem q2781 : (Jvm.Cond.methodLink "ElasticTruss$SetupReader" (77 : Nat) ({ cls := "ElasticTruss$SetupReader", name := "isDigit", desc := "(I)Z" } : Jvm.MethodName)) ∈ lw_all := lw_g (lw_at lw_m12 40 rfl) rfl
theorem q2782 : (Jvm.Cond.privateMethod ({ cls := "ElasticTruss$SetupReader", name := "isDigit", desc := "(I)Z" } : Jvm.MethodName)) ∈ lw_tbl := lw_at lw_m12 41 rfl
theorem q2783 : (Jvm.Cond.instanceMethod ({ cls := "ElasticTruss$SetupReader", name := "isDigit", desc := "(I)Z" } : Jvm.MethodName)) ∈ lw_all := lw_g (lw_at lw_m12 42 rfl) rfl
theorem q2784 : (Jvm.Cond.code ({ cls := "ElasticTruss$SetupReader", name := "isDigit", desc := "(I)Z" } : Jvm.MethodName) prog_17_method_5_code (2 : Nat) (Option.some Jvm.ClassFile.FieldType.boolean)) ∈ lw_all := lw_g (lw_at lw_m12 43 rfl) rfl
theorem q2785 : (Jvm.Cond.constantLong "ElasticTruss$SetupReader" (45 : Nat) (48 : Int64)) ∈ lw_all := lw_g (lw_at lw_m12 44 rfl) rfl
theorem q2786 : (Jvm.Cond.constantLong "ElasticTruss$SetupReader" (47 : Nat) (57 : Int64)) ∈ lw_all := lw_g (lw_at lw_m12 45 rfl) rfl
theorem q2787 : (Jvm.Cond.constant "ElasticTruss$SetupReader" (80 : Nat) (1000000 : Int32)) ∈ lw_all := lw_g (lw_at lw_m12 46 rfl) rfl
theorem q2788 : (Jvm.Cond.methodLink "ElasticTruss$SetupReader" (81 : Nat) ({ cls := "java/lang/Math", name := "min", desc := "(II)I" } : Jvm.MethodName)) ∈ lw_all := lw_g (lw_at lw_m12 47 rfl) rfl
theorem q2789 : (Jvm.Cond.methodLink "ElasticTruss$SetupReader" (87 : Nat) ({ cls := "ElasticTruss$SetupReader", name := "need", desc := "(Z)V" } : Jvm.MethodName)) ∈ lw_all := lw_g (lw_at lw_m12 48 rfl) rfl
theorem q2790 : (Jvm.Cond.privateMethod ({ cls := "ElasticTruss$SetupReader", name := "need", desc := "(Z)V" } : Jvm.MethodName)) ∈ lw_tbl := lw_at lw_m12 49 rfl
theorem q2791 : (Jvm.Cond.instanceMethod ({ cls := "ElasticTruss$SetupReader", name := "need", desc := "(Z)V" } : Jvm.MethodName)) ∈ lw_all := lw_g (lw_at lw_m12 50 rfl) rfl
theorem q2792 : (Jvm.Cond.code ({ cls := "ElasticTruss$SetupReader", name := "need", desc := "(Z)V" } : Jvm.MethodName) prog_17_method_9_code (2 : Nat) (Option.none : Option Jvm.ClassFile.FieldType)) ∈ lw_all := lw_g (lw_at lw_m12 51 rfl) rfl
theorem q2793 : (Jvm.Cond.methodLink "ElasticTruss$SetupReader" (270 : Nat) ({ cls := "ElasticTruss$Truss", name := "<init>", desc := "(III)V" } : Jvm.MethodName)) ∈ lw_all := lw_g (lw_at lw_m12 52 rfl) rfl
theorem q2794 : (Jvm.Cond.methodLink "ElasticTruss$SetupReader" (115 : Nat) ({ cls := "ElasticTruss$SetupReader", name := "needSign", desc := "(C)V" } : Jvm.MethodName)) ∈ lw_all := lw_g (lw_at lw_m12 53 rfl) rfl
theorem q2795 : (Jvm.Cond.privateMethod ({ cls := "ElasticTruss$SetupReader", name := "needSign", desc := "(C)V" } : Jvm.MethodName)) ∈ lw_tbl := lw_at lw_m12 54 rfl
theorem q2796 : (Jvm.Cond.instanceMethod ({ cls := "ElasticTruss$SetupReader", name := "needSign", desc := "(C)V" } : Jvm.MethodName)) ∈ lw_all := lw_g (lw_at lw_m12 55 rfl) rfl
theorem q2797 : (Jvm.Cond.code ({ cls := "ElasticTruss$SetupReader", name := "needSign", desc := "(C)V" } : Jvm.MethodName) prog_17_method_8_code (2 : Nat) (Option.none : Option Jvm.ClassFile.FieldType)) ∈ lw_all := lw_g (lw_at lw_m12 56 rfl) rfl
theorem q2798 : (Jvm.Cond.methodLink "ElasticTruss$SetupReader" (65 : Nat) ({ cls := "ElasticTruss$SetupReader", name := "takeSign", desc := "(C)Z" } : Jvm.MethodName)) ∈ lw_all := lw_g (lw_at lw_m12 57 rfl) rfl
theorem q2799 : (Jvm.Cond.privateMethod ({ cls := "ElasticTruss$SetupReader", name := "takeSign", desc := "(C)Z" } : Jvm.MethodName)) ∈ lw_tbl := lw_at lw_m12 58 rfl
theorem q2800 : (Jvm.Cond.instanceMethod ({ cls := "ElasticTruss$SetupReader", name := "takeSign", desc := "(C)Z" } : Jvm.MethodName)) ∈ lw_all := lw_g (lw_at lw_m12 59 rfl) rfl
theorem q2801 : (Jvm.Cond.code ({ cls := "ElasticTruss$SetupReader", name := "takeSign", desc := "(C)Z" } : Jvm.MethodName) prog_17_method_7_code (2 : Nat) (Option.some Jvm.ClassFile.FieldType.boolean)) ∈ lw_all := lw_g (lw_at lw_m12 60 rfl) rfl
theorem q2802 : (Jvm.Cond.methodLink "ElasticTruss$SetupReader" (272 : Nat) ({ cls := "ElasticTruss$SetupReader", name := "statement", desc := "()V" } : Jvm.MethodName)) ∈ lw_all := lw_g (lw_at lw_m12 61 rfl) rfl
theorem q2803 : (Jvm.Cond.privateMethod ({ cls := "ElasticTruss$SetupReader", name := "statement", desc := "()V" } : Jvm.MethodName)) ∈ lw_tbl := lw_at lw_m12 62 rfl
theorem q2804 : (Jvm.Cond.instanceMethod ({ cls := "ElasticTruss$SetupReader", name := "statement", desc := "()V" } : Jvm.MethodName)) ∈ lw_all := lw_g (lw_at lw_m12 63 rfl) rfl
theorem q2805 : (Jvm.Cond.code ({ cls := "ElasticTruss$SetupReader", name := "statement", desc := "()V" } : Jvm.MethodName) prog_17_method_21_code (2 : Nat) (Option.none : Option Jvm.ClassFile.FieldType)) ∈ lw_all := lw_g (lw_at lw_m12 64 rfl) rfl
theorem q2806 : (Jvm.Cond.stringRef "ElasticTruss$SetupReader" (238 : Nat) "node") ∈ lw_tbl := lw_at lw_m12 65 rfl
theorem q2807 : (Jvm.Cond.methodLink "ElasticTruss$SetupReader" (240 : Nat) ({ cls := "ElasticTruss$SetupReader", name := "node", desc := "(I)V" } : Jvm.MethodName)) ∈ lw_all := lw_g (lw_at lw_m12 66 rfl) rfl
theorem q2808 : (Jvm.Cond.privateMethod ({ cls := "ElasticTruss$SetupReader", name := "node", desc := "(I)V" } : Jvm.MethodName)) ∈ lw_tbl := lw_at lw_m12 67 rfl
theorem q2809 : (Jvm.Cond.instanceMethod ({ cls := "ElasticTruss$SetupReader", name := "node", desc := "(I)V" } : Jvm.MethodName)) ∈ lw_all := lw_g (lw_at lw_m12 68 rfl) rfl
theorem q2810 : (Jvm.Cond.code ({ cls := "ElasticTruss$SetupReader", name := "node", desc := "(I)V" } : Jvm.MethodName) prog_17_method_17_code (6 : Nat) (Option.none : Option Jvm.ClassFile.FieldType)) ∈ lw_all := lw_g (lw_at lw_m12 69 rfl) rfl
theorem q2811 : (Jvm.Cond.interfaceEntry "ElasticTruss$SetupReader" (164 : Nat)) ∈ lw_tbl := lw_at lw_m12 70 rfl
theorem q2812 : (Jvm.Cond.methodLink "ElasticTruss$SetupReader" (164 : Nat) ({ cls := "java/util/List", name := "size", desc := "()I" } : Jvm.MethodName)) ∈ lw_all := lw_g (lw_at lw_m12 71 rfl) rfl
theorem q2813 : (Jvm.Cond.methodLink "ElasticTruss$SetupReader" (169 : Nat) ({ cls := "ElasticTruss$SetupReader", name := "needRoom", desc := "(ZI)V" } : Jvm.MethodName)) ∈ lw_all := lw_g (lw_at lw_m12 72 rfl) rfl
theorem q2814 : (Jvm.Cond.privateMethod ({ cls := "ElasticTruss$SetupReader", name := "needRoom", desc := "(ZI)V" } : Jvm.MethodName)) ∈ lw_tbl := lw_at lw_m12 73 rfl
theorem q2815 : (Jvm.Cond.instanceMethod ({ cls := "ElasticTruss$SetupReader", name := "needRoom", desc := "(ZI)V" } : Jvm.MethodName)) ∈ lw_all := lw_g (lw_at lw_m12 74 rfl) rfl
theorem q2816 : (Jvm.Cond.code ({ cls := "ElasticTruss$SetupReader", name := "needRoom", desc := "(ZI)V" } : Jvm.MethodName) prog_17_method_10_code (3 : Nat) (Option.none : Option Jvm.ClassFile.FieldType)) ∈ lw_all := lw_g (lw_at lw_m12 75 rfl) rfl
theorem q2817 : (Jvm.Cond.interfaceEntry "ElasticTruss$SetupReader" (173 : Nat)) ∈ lw_tbl := lw_at lw_m12 76 rfl
theorem q2818 : (Jvm.Cond.methodLink "ElasticTruss$SetupReader" (173 : Nat) ({ cls := "java/util/List", name := "iterator", desc := "()Ljava/util/Iterator;" } : Jvm.MethodName)) ∈ lw_all := lw_g (lw_at lw_m12 77 rfl) rfl
theorem q2819 : (Jvm.Cond.interfaceEntry "ElasticTruss$SetupReader" (177 : Nat)) ∈ lw_tbl := lw_at lw_m12 78 rfl
theorem q2820 : (Jvm.Cond.methodLink "ElasticTruss$SetupReader" (177 : Nat) ({ cls := "java/util/Iterator", name := "hasNext", desc := "()Z" } : Jvm.MethodName)) ∈ lw_all := lw_g (lw_at lw_m12 79 rfl) rfl
theorem q2821 : (Jvm.Cond.interfaceEntry "ElasticTruss$SetupReader" (183 : Nat)) ∈ lw_tbl := lw_at lw_m12 80 rfl
theorem q2822 : (Jvm.Cond.methodLink "ElasticTruss$SetupReader" (183 : Nat) ({ cls := "java/util/Iterator", name := "next", desc := "()Ljava/lang/Object;" } : Jvm.MethodName)) ∈ lw_all := lw_g (lw_at lw_m12 81 rfl) rfl
theorem q2823 : (Jvm.Cond.classLink "ElasticTruss$SetupReader" (187 : Nat) "ElasticTruss$Node") ∈ lw_all := lw_g (lw_at lw_m12 82 rfl) rfl
theorem q2824 : (Jvm.Cond.stringRef "ElasticTruss$SetupReader" (195 : Nat) "fixed") ∈ lw_tbl := lw_at lw_m12 83 rfl
theorem q2825 : (Jvm.Cond.stringRef "ElasticTruss$SetupReader" (197 : Nat) "roller") ∈ lw_tbl := lw_at lw_m12 84 rfl
theorem q2827 : (Jvm.Cond.methodLink "ElasticTruss$SetupReader" (199 : Nat) ({ cls := "ElasticTruss$Node", name := "<init>", desc := "(IIZZ)V" } : Jvm.MethodName)) ∈ lw_all := lw_g (lw_at lw_m12 86 rfl) rfl
theorem q2833 : (Jvm.Cond.fieldLinkNest "ElasticTruss$SetupReader" (189 : Nat) "ElasticTruss$Node" "x" "I" "ElasticTruss") ∈ lw_tbl := lw_at lw_m12 92 rfl
theorem q2836 : (Jvm.Cond.fieldLinkNest "ElasticTruss$SetupReader" (192 : Nat) "ElasticTruss$Node" "y" "I" "ElasticTruss") ∈ lw_tbl := lw_at lw_m12 95 rfl
theorem q2850 : (Jvm.Cond.methodLink "ElasticTruss$SetupReader" (202 : Nat) ({ cls := "ElasticTruss$Node", name := "<init>", desc := "(II)V" } : Jvm.MethodName)) ∈ lw_all := lw_g (lw_at lw_m12 109 rfl) rfl
theorem q2854 : (Jvm.Cond.interfaceEntry "ElasticTruss$SetupReader" (203 : Nat)) ∈ lw_tbl := lw_at lw_m12 113 rfl
theorem q2855 : (Jvm.Cond.methodLink "ElasticTruss$SetupReader" (203 : Nat) ({ cls := "java/util/List", name := "add", desc := "(Ljava/lang/Object;)Z" } : Jvm.MethodName)) ∈ lw_all := lw_g (lw_at lw_m12 114 rfl) rfl
theorem q2880 : (Jvm.Cond.stringRef "ElasticTruss$SetupReader" (243 : Nat) "group") ∈ lw_tbl := lw_at lw_m12 139 rfl
theorem q2881 : (Jvm.Cond.stringRef "ElasticTruss$SetupReader" (249 : Nat) "member") ∈ lw_tbl := lw_at lw_m12 140 rfl
theorem q2882 : (Jvm.Cond.methodLink "ElasticTruss$SetupReader" (251 : Nat) ({ cls := "ElasticTruss$SetupReader", name := "readMember", desc := "(I)V" } : Jvm.MethodName)) ∈ lw_all := lw_g (lw_at lw_m12 141 rfl) rfl
theorem q2883 : (Jvm.Cond.privateMethod ({ cls := "ElasticTruss$SetupReader", name := "readMember", desc := "(I)V" } : Jvm.MethodName)) ∈ lw_tbl := lw_at lw_m12 142 rfl
theorem q2884 : (Jvm.Cond.instanceMethod ({ cls := "ElasticTruss$SetupReader", name := "readMember", desc := "(I)V" } : Jvm.MethodName)) ∈ lw_all := lw_g (lw_at lw_m12 143 rfl) rfl
theorem q2885 : (Jvm.Cond.code ({ cls := "ElasticTruss$SetupReader", name := "readMember", desc := "(I)V" } : Jvm.MethodName) prog_17_method_19_code (4 : Nat) (Option.none : Option Jvm.ClassFile.FieldType)) ∈ lw_all := lw_g (lw_at lw_m12 144 rfl) rfl
theorem q2886 : (Jvm.Cond.interfaceEntry "ElasticTruss$SetupReader" (210 : Nat)) ∈ lw_tbl := lw_at lw_m12 145 rfl
theorem q2887 : (Jvm.Cond.methodLink "ElasticTruss$SetupReader" (210 : Nat) ({ cls := "java/util/Map", name := "size", desc := "()I" } : Jvm.MethodName)) ∈ lw_all := lw_g (lw_at lw_m12 146 rfl) rfl
theorem q2888 : (Jvm.Cond.methodLink "ElasticTruss$SetupReader" (213 : Nat) ({ cls := "ElasticTruss$SetupReader", name := "nodeIndex", desc := "()I" } : Jvm.MethodName)) ∈ lw_all := lw_g (lw_at lw_m12 147 rfl) rfl
theorem q2889 : (Jvm.Cond.privateMethod ({ cls := "ElasticTruss$SetupReader", name := "nodeIndex", desc := "()I" } : Jvm.MethodName)) ∈ lw_tbl := lw_at lw_m12 148 rfl
theorem q2890 : (Jvm.Cond.instanceMethod ({ cls := "ElasticTruss$SetupReader", name := "nodeIndex", desc := "()I" } : Jvm.MethodName)) ∈ lw_all := lw_g (lw_at lw_m12 149 rfl) rfl
theorem q2891 : (Jvm.Cond.code ({ cls := "ElasticTruss$SetupReader", name := "nodeIndex", desc := "()I" } : Jvm.MethodName) prog_17_method_18_code (1 : Nat) (Option.some Jvm.ClassFile.FieldType.int)) ∈ lw_all := lw_g (lw_at lw_m12 150 rfl) rfl
theorem q2892 : (Jvm.Cond.methodLink "ElasticTruss$SetupReader" (216 : Nat) ({ cls := "ElasticTruss$Truss", name := "isJoined", desc := "(II)Z" } : Jvm.MethodName)) ∈ lw_all := lw_g (lw_at lw_m12 151 rfl) rfl
theorem q2929 : (Jvm.Cond.methodLink "ElasticTruss$SetupReader" (223 : Nat) ({ cls := "ElasticTruss$Truss", name := "join", desc := "(III)V" } : Jvm.MethodName)) ∈ lw_all := lw_g (lw_at lw_m12 188 rfl) rfl
theorem q2965 : (Jvm.Cond.fieldLinkNest "ElasticTruss$SetupReader" (275 : Nat) "ElasticTruss$Member" "length" "I" "ElasticTruss") ∈ lw_tbl := lw_at lw_m12 224 rfl
theorem q2986 : (Jvm.Cond.stringRef "ElasticTruss$SetupReader" (254 : Nat) "load") ∈ lw_tbl := lw_at lw_m13 5 rfl
theorem q2987 : (Jvm.Cond.methodLink "ElasticTruss$SetupReader" (256 : Nat) ({ cls := "ElasticTruss$SetupReader", name := "readLoad", desc := "(I)V" } : Jvm.MethodName)) ∈ lw_all := lw_g (lw_at lw_m13 6 rfl) rfl
theorem q2988 : (Jvm.Cond.privateMethod ({ cls := "ElasticTruss$SetupReader", name := "readLoad", desc := "(I)V" } : Jvm.MethodName)) ∈ lw_tbl := lw_at lw_m13 7 rfl
theorem q2989 : (Jvm.Cond.instanceMethod ({ cls := "ElasticTruss$SetupReader", name := "readLoad", desc := "(I)V" } : Jvm.MethodName)) ∈ lw_all := lw_g (lw_at lw_m13 8 rfl) rfl
theorem q2990 : (Jvm.Cond.code ({ cls := "ElasticTruss$SetupReader", name := "readLoad", desc := "(I)V" } : Jvm.MethodName) prog_17_method_20_code (5 : Nat) (Option.none : Option Jvm.ClassFile.FieldType)) ∈ lw_all := lw_g (lw_at lw_m13 9 rfl) rfl
theorem q2991 : (Jvm.Cond.methodLink "ElasticTruss$SetupReader" (230 : Nat) ({ cls := "ElasticTruss$SetupReader", name := "signed", desc := "(I)I" } : Jvm.MethodName)) ∈ lw_all := lw_g (lw_at lw_m13 10 rfl) rfl
theorem q2992 : (Jvm.Cond.privateMethod ({ cls := "ElasticTruss$SetupReader", name := "signed", desc := "(I)I" } : Jvm.MethodName)) ∈ lw_tbl := lw_at lw_m13 11 rfl
theorem q2993 : (Jvm.Cond.instanceMethod ({ cls := "ElasticTruss$SetupReader", name := "signed", desc := "(I)I" } : Jvm.MethodName)) ∈ lw_all := lw_g (lw_at lw_m13 12 rfl) rfl
theorem q2994 : (Jvm.Cond.code ({ cls := "ElasticTruss$SetupReader", name := "signed", desc := "(I)I" } : Jvm.MethodName) prog_17_method_12_code (2 : Nat) (Option.some Jvm.ClassFile.FieldType.int)) ∈ lw_all := lw_g (lw_at lw_m13 13 rfl) rfl
theorem q2995 : (Jvm.Cond.classLink "ElasticTruss$SetupReader" (233 : Nat) "ElasticTruss$Load") ∈ lw_all := lw_g (lw_at lw_m13 14 rfl) rfl
theorem q2997 : (Jvm.Cond.methodLinkNest "ElasticTruss$SetupReader" (235 : Nat) ({ cls := "ElasticTruss$Load", name := "<init>", desc := "(IIII)V" } : Jvm.MethodName) "ElasticTruss") ∈ lw_tbl := lw_at lw_m13 16 rfl
theorem q3017 : (Jvm.Cond.stringRef "ElasticTruss$SetupReader" (259 : Nat) "buckling") ∈ lw_tbl := lw_at lw_m13 36 rfl
theorem q3018 : (Jvm.Cond.methodLink "ElasticTruss$SetupReader" (112 : Nat) ({ cls := "ElasticTruss$SetupReader", name := "sum", desc := "()LElasticTruss$Quantity;" } : Jvm.MethodName)) ∈ lw_all := lw_g (lw_at lw_m13 37 rfl) rfl
theorem q3019 : (Jvm.Cond.privateMethod ({ cls := "ElasticTruss$SetupReader", name := "sum", desc := "()LElasticTruss$Quantity;" } : Jvm.MethodName)) ∈ lw_tbl := lw_at lw_m13 38 rfl
theorem q3020 : (Jvm.Cond.instanceMethod ({ cls := "ElasticTruss$SetupReader", name := "sum", desc := "()LElasticTruss$Quantity;" } : Jvm.MethodName)) ∈ lw_all := lw_g (lw_at lw_m13 39 rfl) rfl
theorem q3021 : (Jvm.Cond.code ({ cls := "ElasticTruss$SetupReader", name := "sum", desc := "()LElasticTruss$Quantity;" } : Jvm.MethodName) prog_17_method_16_code (3 : Nat) (Option.some (Jvm.ClassFile.FieldType.object "ElasticTruss$Quantity"))) ∈ lw_all := lw_g (lw_at lw_m13 40 rfl) rfl
theorem q3022 : (Jvm.Cond.classLink "ElasticTruss$SetupReader" (128 : Nat) "ElasticTruss$Chain") ∈ lw_all := lw_g (lw_at lw_m13 41 rfl) rfl
theorem q3024 : (Jvm.Cond.methodLink "ElasticTruss$SetupReader" (151 : Nat) ({ cls := "ElasticTruss$SetupReader", name := "term", desc := "()LElasticTruss$Quantity;" } : Jvm.MethodName)) ∈ lw_all := lw_g (lw_at lw_m13 43 rfl) rfl
theorem q3025 : (Jvm.Cond.privateMethod ({ cls := "ElasticTruss$SetupReader", name := "term", desc := "()LElasticTruss$Quantity;" } : Jvm.MethodName)) ∈ lw_tbl := lw_at lw_m13 44 rfl
theorem q3026 : (Jvm.Cond.instanceMethod ({ cls := "ElasticTruss$SetupReader", name := "term", desc := "()LElasticTruss$Quantity;" } : Jvm.MethodName)) ∈ lw_all := lw_g (lw_at lw_m13 45 rfl) rfl
theorem q3027 : (Jvm.Cond.code ({ cls := "ElasticTruss$SetupReader", name := "term", desc := "()LElasticTruss$Quantity;" } : Jvm.MethodName) prog_17_method_15_code (3 : Nat) (Option.some (Jvm.ClassFile.FieldType.object "ElasticTruss$Quantity"))) ∈ lw_all := lw_g (lw_at lw_m13 46 rfl) rfl
theorem q3028 : (Jvm.Cond.methodLink "ElasticTruss$SetupReader" (130 : Nat) ({ cls := "ElasticTruss$SetupReader", name := "factor", desc := "()LElasticTruss$Quantity;" } : Jvm.MethodName)) ∈ lw_all := lw_g (lw_at lw_m13 47 rfl) rfl
theorem q3029 : (Jvm.Cond.privateMethod ({ cls := "ElasticTruss$SetupReader", name := "factor", desc := "()LElasticTruss$Quantity;" } : Jvm.MethodName)) ∈ lw_tbl := lw_at lw_m13 48 rfl
theorem q3030 : (Jvm.Cond.instanceMethod ({ cls := "ElasticTruss$SetupReader", name := "factor", desc := "()LElasticTruss$Quantity;" } : Jvm.MethodName)) ∈ lw_all := lw_g (lw_at lw_m13 49 rfl) rfl
theorem q3031 : (Jvm.Cond.code ({ cls := "ElasticTruss$SetupReader", name := "factor", desc := "()LElasticTruss$Quantity;" } : Jvm.MethodName) prog_17_method_13_code (2 : Nat) (Option.some (Jvm.ClassFile.FieldType.object "ElasticTruss$Quantity"))) ∈ lw_all := lw_g (lw_at lw_m13 50 rfl) rfl
theorem q3032 : (Jvm.Cond.stringRef "ElasticTruss$SetupReader" (94 : Nat) "area") ∈ lw_tbl := lw_at lw_m13 51 rfl
theorem q3033 : (Jvm.Cond.static ({ cls := "ElasticTruss$SetupReader", name := "lambda$factor$0", desc := "(LElasticTruss$Member;II)J" } : Jvm.MethodName)) ∈ lw_all := lw_g (lw_at lw_m13 52 rfl) rfl
theorem q3034 : (Jvm.Cond.code ({ cls := "ElasticTruss$SetupReader", name := "lambda$factor$0", desc := "(LElasticTruss$Member;II)J" } : Jvm.MethodName) prog_17_method_26_code (3 : Nat) (Option.some Jvm.ClassFile.FieldType.long)) ∈ lw_all := lw_g (lw_at lw_m13 53 rfl) rfl
theorem q3035 : (Jvm.Cond.stringRef "ElasticTruss$SetupReader" (104 : Nat) "length") ∈ lw_tbl := lw_at lw_m13 54 rfl
theorem q3036 : (Jvm.Cond.static ({ cls := "ElasticTruss$SetupReader", name := "lambda$factor$1", desc := "(LElasticTruss$Member;II)J" } : Jvm.MethodName)) ∈ lw_all := lw_g (lw_at lw_m13 55 rfl) rfl
theorem q3037 : (Jvm.Cond.code ({ cls := "ElasticTruss$SetupReader", name := "lambda$factor$1", desc := "(LElasticTruss$Member;II)J" } : Jvm.MethodName) prog_17_method_25_code (3 : Nat) (Option.some Jvm.ClassFile.FieldType.long)) ∈ lw_all := lw_g (lw_at lw_m13 56 rfl) rfl
theorem q3038 : (Jvm.Cond.stringRef "ElasticTruss$SetupReader" (106 : Nat) "modulus") ∈ lw_tbl := lw_at lw_m13 57 rfl
theorem q3039 : (Jvm.Cond.static ({ cls := "ElasticTruss$SetupReader", name := "lambda$factor$2", desc := "(LElasticTruss$Member;II)J" } : Jvm.MethodName)) ∈ lw_all := lw_g (lw_at lw_m13 58 rfl) rfl
theorem q3040 : (Jvm.Cond.code ({ cls := "ElasticTruss$SetupReader", name := "lambda$factor$2", desc := "(LElasticTruss$Member;II)J" } : Jvm.MethodName) prog_17_method_24_code (3 : Nat) (Option.some Jvm.ClassFile.FieldType.long)) ∈ lw_all := lw_g (lw_at lw_m13 59 rfl) rfl
theorem q3041 : (Jvm.Cond.static ({ cls := "ElasticTruss$SetupReader", name := "lambda$factor$3", desc := "(ILElasticTruss$Member;II)J" } : Jvm.MethodName)) ∈ lw_all := lw_g (lw_at lw_m13 60 rfl) rfl
theorem q3042 : (Jvm.Cond.code ({ cls := "ElasticTruss$SetupReader", name := "lambda$factor$3", desc := "(ILElasticTruss$Member;II)J" } : Jvm.MethodName) prog_17_method_23_code (4 : Nat) (Option.some Jvm.ClassFile.FieldType.long)) ∈ lw_all := lw_g (lw_at lw_m13 61 rfl) rfl
theorem q3043 : (Jvm.Cond.methodLink "ElasticTruss$SetupReader" (133 : Nat) ({ cls := "ElasticTruss$Chain", name := "<init>", desc := "(LElasticTruss$Quantity;)V" } : Jvm.MethodName)) ∈ lw_all := lw_g (lw_at lw_m13 62 rfl) rfl
theorem q3057 : (Jvm.Cond.classLink "ElasticTruss$SetupReader" (123 : Nat) "ElasticTruss$Operator") ∈ lw_all := lw_g (lw_at lw_m13 76 rfl) rfl
theorem q3059 : (Jvm.Cond.fieldLink "ElasticTruss$SetupReader" (136 : Nat) "ElasticTruss$Operator" "MULTIPLY" "LElasticTruss$Operator;") ∈ lw_all := lw_g (lw_at lw_m13 78 rfl) rfl
theorem q3061 : (Jvm.Cond.fieldLink "ElasticTruss$SetupReader" (140 : Nat) "ElasticTruss$Operator" "DIVIDE" "LElasticTruss$Operator;") ∈ lw_all := lw_g (lw_at lw_m13 80 rfl) rfl
theorem q3063 : (Jvm.Cond.methodLink "ElasticTruss$SetupReader" (143 : Nat) ({ cls := "ElasticTruss$SetupReader", name := "take", desc := "([LElasticTruss$Operator;)LElasticTruss$Operator;" } : Jvm.MethodName)) ∈ lw_all := lw_g (lw_at lw_m13 82 rfl) rfl
theorem q3064 : (Jvm.Cond.privateMethod ({ cls := "ElasticTruss$SetupReader", name := "take", desc := "([LElasticTruss$Operator;)LElasticTruss$Operator;" } : Jvm.MethodName)) ∈ lw_tbl := lw_at lw_m13 83 rfl
theorem q3065 : (Jvm.Cond.instanceMethod ({ cls := "ElasticTruss$SetupReader", name := "take", desc := "([LElasticTruss$Operator;)LElasticTruss$Operator;" } : Jvm.MethodName)) ∈ lw_all := lw_g (lw_at lw_m13 84 rfl) rfl
theorem q3066 : (Jvm.Cond.code ({ cls := "ElasticTruss$SetupReader", name := "take", desc := "([LElasticTruss$Operator;)LElasticTruss$Operator;" } : Jvm.MethodName) prog_17_method_14_code (6 : Nat) (Option.some (Jvm.ClassFile.FieldType.object "ElasticTruss$Operator"))) ∈ lw_all := lw_g (lw_at lw_m13 85 rfl) rfl
theorem q3067 : (Jvm.Cond.methodLink "ElasticTruss$SetupReader" (147 : Nat) ({ cls := "ElasticTruss$Chain", name := "add", desc := "(LElasticTruss$Operator;LElasticTruss$Quantity;)V" } : Jvm.MethodName)) ∈ lw_all := lw_g (lw_at lw_m13 86 rfl) rfl
theorem q3089 : (Jvm.Cond.fieldLink "ElasticTruss$SetupReader" (154 : Nat) "ElasticTruss$Operator" "ADD" "LElasticTruss$Operator;") ∈ lw_all := lw_g (lw_at lw_m13 108 rfl) rfl
theorem q3091 : (Jvm.Cond.fieldLink "ElasticTruss$SetupReader" (157 : Nat) "ElasticTruss$Operator" "SUBTRACT" "LElasticTruss$Operator;") ∈ lw_all := lw_g (lw_at lw_m13 110 rfl) rfl
theorem q3856 : (Jvm.Cond.castable "ElasticTruss$SetupReader" "java/lang/Object") ∈ lw_tbl := lw_at lw_m16 155 rfl
theorem q3912 : (Jvm.Cond.fieldLink "ElasticTruss$SetupReader" (122 : Nat) "ElasticTruss$Operator" "sign" "C") ∈ lw_all := lw_g (lw_at lw_m16 211 rfl) rfl
theorem in_X4 : ∀ w ∈ wsX40, w ∈ lw_all := lw_in wsX40 [2708, 2710, 2712, 2714, 2716, 2718, 2720] (by decide +kernel) (by decide +kernel)

-- X5.ElasticTruss_SetupException.lean.txt
/-! ElasticTruss$SetupException -/
set_option maxRecDepth 100000
def RX5 : String := "ElasticTruss$SetupException"
def TX5 : u_T := fun k => match k with
  | 0 => ("java/lang/Throwable", "cause", "Ljava/lang/Throwable;", false)
  | 1 => ("java/lang/Throwable", "stackTrace", "[Ljava/lang/StackTraceElement;", false)
  | 2 => ("java/lang/Throwable", "suppressedExceptions", "Ljava/util/List;", false)
  | 3 => ("java/lang/Throwable", "detailMessage", "Ljava/lang/String;", false)
  | 4 => ("java/lang/Throwable", "backtrace", "Ljava/lang/Object;", false)
  | 5 => ("java/lang/Throwable", "depth", "I", false)
  | 6 => ("ElasticTruss$SetupException", "code", "I", true)
  | _ => ("ElasticTruss$SetupException", "offset", "I", true)
def tyX5 : Nat → FieldType := fun k => match k with
  | 0 => .object "java/lang/Throwable"
  | 1 => .array (.object "java/lang/StackTraceElement")
  | 2 => .object "java/util/List"
  | 3 => .object "java/lang/String"
  | 4 => .object "java/lang/Object"
  | 5 => .int
  | 6 => .int
  | _ => .int
abbrev wsX50 : List Cond := u_ws RX5 TX5 8
theorem nmX5 : ∀ a, a < 8 → ∀ b, b < 8 → a ≠ b → (TX5 a).2.1 ≠ (TX5 b).2.1 := by decide +kernel
theorem tyX5_ok : ∀ k, k < 8 → parseFieldDescriptor (TX5 k).2.2.1 = some (tyX5 k) := by decide +kernel
abbrev cX5_init : ByteArray := prog_16_method_1_code
def yX5_init : MethodName := ⟨RX5, "<init>", "(II)V"⟩
def dkwX5_init_0 : List UInt8 := [42, 1, 1, 3, 3, 183, 0, 1, 42, 27, 181, 0, 7, 42, 28, 181, 0, 13, 177]
abbrev dktX5_init_0 : List UInt8 := dkwX5_init_0 ++ []
theorem dksX5_init_0 : cX5_init.data.toList.drop 0 = dktX5_init_0 := by decide +kernel
theorem dX5_init_0 : decode cX5_init 0 = .ok (.aload_n 0, 1) := dk_42 (dk_at dksX5_init_0 0 rfl rfl)
theorem dX5_init_1 : decode cX5_init 1 = .ok (.aconst_null, 1) := dk_1 (dk_at dksX5_init_0 1 rfl rfl)
theorem dX5_init_2 : decode cX5_init 2 = .ok (.aconst_null, 1) := dk_1 (dk_at dksX5_init_0 2 rfl rfl)
theorem dX5_init_3 : decode cX5_init 3 = .ok (.iconst 0, 1) := dk_3 (dk_at dksX5_init_0 3 rfl rfl)
theorem dX5_init_4 : decode cX5_init 4 = .ok (.iconst 0, 1) := dk_3 (dk_at dksX5_init_0 4 rfl rfl)
theorem dX5_init_5 : decode cX5_init 5 = .ok (.invokespecial 1, 3) := dk_183 0 1 (dk_at dksX5_init_0 5 rfl rfl)
theorem dX5_init_8 : decode cX5_init 8 = .ok (.aload_n 0, 1) := dk_42 (dk_at dksX5_init_0 8 rfl rfl)
theorem dX5_init_9 : decode cX5_init 9 = .ok (.iload_n 1, 1) := dk_27 (dk_at dksX5_init_0 9 rfl rfl)
theorem dX5_init_10 : decode cX5_init 10 = .ok (.putfield 7, 3) := dk_181 0 7 (dk_at dksX5_init_0 10 rfl rfl)
theorem dX5_init_13 : decode cX5_init 13 = .ok (.aload_n 0, 1) := dk_42 (dk_at dksX5_init_0 13 rfl rfl)
theorem dX5_init_14 : decode cX5_init 14 = .ok (.iload_n 2, 1) := dk_28 (dk_at dksX5_init_0 14 rfl rfl)
theorem dX5_init_15 : decode cX5_init 15 = .ok (.putfield 13, 3) := dk_181 0 13 (dk_at dksX5_init_0 15 rfl rfl)
theorem dX5_init_18 : decode cX5_init 18 = .ok (.return_, 1) := dk_177 (dk_at dksX5_init_0 18 rfl rfl)
theorem q129 : (Jvm.Cond.initialized "ElasticTruss$SetupException") ∈ lw_all := lw_g (lw_at lw_m1 28 rfl) rfl
theorem q239 : (Jvm.Cond.selects "ElasticTruss$SetupException" ({ cls := "java/lang/Throwable", name := "fillInStackTrace", desc := "()Ljava/lang/Throwable;" } : Jvm.MethodName) ({ cls := "java/lang/Throwable", name := "fillInStackTrace", desc := "()Ljava/lang/Throwable;" } : Jvm.MethodName)) ∈ lw_all := lw_g (lw_at lw_m1 138 rfl) rfl
theorem q1672 : (Jvm.Cond.selects "ElasticTruss$SetupException" ({ cls := "java/lang/Object", name := "toString", desc := "()Ljava/lang/String;" } : Jvm.MethodName) ({ cls := "java/lang/Throwable", name := "toString", desc := "()Ljava/lang/String;" } : Jvm.MethodName)) ∈ lw_all := lw_g (lw_at lw_m7 131 rfl) rfl
theorem q1691 : (Jvm.Cond.selects "ElasticTruss$SetupException" ({ cls := "java/lang/Object", name := "getClass", desc := "()Ljava/lang/Class;" } : Jvm.MethodName) ({ cls := "java/lang/Object", name := "getClass", desc := "()Ljava/lang/Class;" } : Jvm.MethodName)) ∈ lw_all := lw_g (lw_at lw_m7 150 rfl) rfl
theorem q1726 : (Jvm.Cond.selects "ElasticTruss$SetupException" ({ cls := "java/lang/Throwable", name := "getLocalizedMessage", desc := "()Ljava/lang/String;" } : Jvm.MethodName) ({ cls := "java/lang/Throwable", name := "getLocalizedMessage", desc := "()Ljava/lang/String;" } : Jvm.MethodName)) ∈ lw_all := lw_g (lw_at lw_m7 185 rfl) rfl
theorem q1736 : (Jvm.Cond.selects "ElasticTruss$SetupException" ({ cls := "java/lang/Throwable", name := "getMessage", desc := "()Ljava/lang/String;" } : Jvm.MethodName) ({ cls := "java/lang/Throwable", name := "getMessage", desc := "()Ljava/lang/String;" } : Jvm.MethodName)) ∈ lw_all := lw_g (lw_at lw_m7 195 rfl) rfl
theorem q1902 : (Jvm.Cond.selects "ElasticTruss$SetupException" ({ cls := "java/lang/Object", name := "hashCode", desc := "()I" } : Jvm.MethodName) ({ cls := "java/lang/Object", name := "hashCode", desc := "()I" } : Jvm.MethodName)) ∈ lw_all := lw_g (lw_at lw_m8 121 rfl) rfl
theorem q2336 : (Jvm.Cond.selects "ElasticTruss$SetupException" ({ cls := "java/lang/Object", name := "equals", desc := "(Ljava/lang/Object;)Z" } : Jvm.MethodName) ({ cls := "java/lang/Object", name := "equals", desc := "(Ljava/lang/Object;)Z" } : Jvm.MethodName)) ∈ lw_all := lw_g (lw_at lw_m10 75 rfl) rfl
theorem q2750 : (Jvm.Cond.instantiable "ElasticTruss$SetupException" (8 : Nat)) ∈ lw_all := lw_g (lw_at lw_m12 9 rfl) rfl
theorem q2751 : (Jvm.Cond.castable "ElasticTruss$SetupException" "ElasticTruss$SetupException") ∈ lw_tbl := lw_at lw_m12 10 rfl
theorem q2752 : (Jvm.Cond.selects "ElasticTruss$SetupException" ({ cls := "java/lang/Throwable", name := "fillInStackTrace", desc := "(I)Ljava/lang/Throwable;" } : Jvm.MethodName) ({ cls := "java/lang/Throwable", name := "fillInStackTrace", desc := "(I)Ljava/lang/Throwable;" } : Jvm.MethodName)) ∈ lw_all := lw_g (lw_at lw_m12 11 rfl) rfl
theorem q2753 : (Jvm.Cond.lays "ElasticTruss$SetupException" "java/lang/Throwable" "cause" "Ljava/lang/Throwable;") ∈ lw_all := lw_g (lw_at lw_m12 12 rfl) rfl
theorem q2754 : (Jvm.Cond.lays "ElasticTruss$SetupException" "java/lang/Throwable" "stackTrace" "[Ljava/lang/StackTraceElement;") ∈ lw_all := lw_g (lw_at lw_m12 13 rfl) rfl
theorem q2755 : (Jvm.Cond.lays "ElasticTruss$SetupException" "java/lang/Throwable" "suppressedExceptions" "Ljava/util/List;") ∈ lw_all := lw_g (lw_at lw_m12 14 rfl) rfl
theorem q2756 : (Jvm.Cond.lays "ElasticTruss$SetupException" "java/lang/Throwable" "detailMessage" "Ljava/lang/String;") ∈ lw_all := lw_g (lw_at lw_m12 15 rfl) rfl
theorem q2757 : (Jvm.Cond.lays "ElasticTruss$SetupException" "java/lang/Throwable" "backtrace" "Ljava/lang/Object;") ∈ lw_all := lw_g (lw_at lw_m12 16 rfl) rfl
theorem q2759 : (Jvm.Cond.instanceMethod ({ cls := "ElasticTruss$SetupException", name := "<init>", desc := "(II)V" } : Jvm.MethodName)) ∈ lw_all := lw_g (lw_at lw_m12 18 rfl) rfl
theorem q2760 : (Jvm.Cond.code ({ cls := "ElasticTruss$SetupException", name := "<init>", desc := "(II)V" } : Jvm.MethodName) prog_16_method_1_code (3 : Nat) (Option.none : Option Jvm.ClassFile.FieldType)) ∈ lw_all := lw_g (lw_at lw_m12 19 rfl) rfl
theorem q2761 : (Jvm.Cond.methodLink "ElasticTruss$SetupException" (1 : Nat) ({ cls := "java/lang/Exception", name := "<init>", desc := "(Ljava/lang/String;Ljava/lang/Throwable;ZZ)V" } : Jvm.MethodName)) ∈ lw_all := lw_g (lw_at lw_m12 20 rfl) rfl
theorem q2767 : (Jvm.Cond.fieldLink "ElasticTruss$SetupException" (7 : Nat) "ElasticTruss$SetupException" "code" "I") ∈ lw_all := lw_g (lw_at lw_m12 26 rfl) rfl
theorem q2769 : (Jvm.Cond.fieldLink "ElasticTruss$SetupException" (13 : Nat) "ElasticTruss$SetupException" "offset" "I") ∈ lw_all := lw_g (lw_at lw_m12 28 rfl) rfl
theorem q2771 : (Jvm.Cond.laysFinal "ElasticTruss$SetupException" "ElasticTruss$SetupException" "code" "I") ∈ lw_all := lw_g (lw_at lw_m12 30 rfl) rfl
theorem q2772 : (Jvm.Cond.soleField "ElasticTruss$SetupException" "code") ∈ lw_all := lw_g (lw_at lw_m12 31 rfl) rfl
theorem q2773 : (Jvm.Cond.laysFinal "ElasticTruss$SetupException" "ElasticTruss$SetupException" "offset" "I") ∈ lw_all := lw_g (lw_at lw_m12 32 rfl) rfl
theorem q2774 : (Jvm.Cond.soleField "ElasticTruss$SetupException" "offset") ∈ lw_all := lw_g (lw_at lw_m12 33 rfl) rfl
theorem q2775 : (Jvm.Cond.lays "ElasticTruss$SetupException" "java/lang/Throwable" "depth" "I") ∈ lw_all := lw_g (lw_at lw_m12 34 rfl) rfl
theorem q2776 : (Jvm.Cond.superclass "ElasticTruss$SetupException" "java/lang/Exception") ∈ lw_all := lw_g (lw_at lw_m12 35 rfl) rfl
theorem q3837 : (Jvm.Cond.castable "ElasticTruss$SetupException" "java/lang/Throwable") ∈ lw_tbl := lw_at lw_m16 136 rfl
theorem q3857 : (Jvm.Cond.castable "ElasticTruss$SetupException" "java/lang/Object") ∈ lw_tbl := lw_at lw_m16 156 rfl
theorem in_X5 : ∀ w ∈ wsX50, w ∈ lw_all := lw_in wsX50 [2753, 2754, 2755, 2756, 2757, 2775, 2771, 2773] (by decide +kernel) (by decide +kernel)

-- X6.ElasticTruss_Node.lean.txt
/-! ElasticTruss$Node -/
set_option maxRecDepth 100000
def RX6 : String := "ElasticTruss$Node"
def TX6 : u_T := fun k => match k with
  | 0 => ("ElasticTruss$Node", "x", "I", true)
  | 1 => ("ElasticTruss$Node", "y", "I", true)
  | 2 => ("ElasticTruss$Node", "isFixed", "Z", true)
  | _ => ("ElasticTruss$Node", "isOnRoller", "Z", true)
def tyX6 : Nat → FieldType := fun k => match k with
  | 0 => .int
  | 1 => .int
  | 2 => .boolean
  | _ => .boolean
abbrev wsX60 : List Cond := u_ws RX6 TX6 4
theorem nmX6 : ∀ a, a < 4 → ∀ b, b < 4 → a ≠ b → (TX6 a).2.1 ≠ (TX6 b).2.1 := by decide +kernel
theorem tyX6_ok : ∀ k, k < 4 → parseFieldDescriptor (TX6 k).2.2.1 = some (tyX6 k) := by decide +kernel
abbrev cX6_init : ByteArray := prog_7_method_2_code
def yX6_init : MethodName := ⟨RX6, "<init>", "(IIZZ)V"⟩
def dkwX6_init_1 : List UInt8 := [181, 0, 23, 177]
abbrev dktX6_init_1 : List UInt8 := dkwX6_init_1 ++ []
def dkwX6_init_0 : List UInt8 := [42, 183, 0, 7, 42, 27, 181, 0, 12, 42, 28, 181, 0, 16, 42, 29, 181, 0, 19, 42, 21, 4]
abbrev dktX6_init_0 : List UInt8 := dkwX6_init_0 ++ dktX6_init_1
theorem dksX6_init_0 : cX6_init.data.toList.drop 0 = dktX6_init_0 := by decide +kernel
theorem dksX6_init_1 : cX6_init.data.toList.drop 22 = dktX6_init_1 := dk_seg dksX6_init_0 22 rfl rfl
theorem dX6_init_0 : decode cX6_init 0 = .ok (.aload_n 0, 1) := dk_42 (dk_at dksX6_init_0 0 rfl rfl)
theorem dX6_init_1 : decode cX6_init 1 = .ok (.invokespecial 7, 3) := dk_183 0 7 (dk_at dksX6_init_0 1 rfl rfl)
theorem dX6_init_4 : decode cX6_init 4 = .ok (.aload_n 0, 1) := dk_42 (dk_at dksX6_init_0 4 rfl rfl)
theorem dX6_init_5 : decode cX6_init 5 = .ok (.iload_n 1, 1) := dk_27 (dk_at dksX6_init_0 5 rfl rfl)
theorem dX6_init_6 : decode cX6_init 6 = .ok (.putfield 12, 3) := dk_181 0 12 (dk_at dksX6_init_0 6 rfl rfl)
theorem dX6_init_9 : decode cX6_init 9 = .ok (.aload_n 0, 1) := dk_42 (dk_at dksX6_init_0 9 rfl rfl)
theorem dX6_init_10 : decode cX6_init 10 = .ok (.iload_n 2, 1) := dk_28 (dk_at dksX6_init_0 10 rfl rfl)
theorem dX6_init_11 : decode cX6_init 11 = .ok (.putfield 16, 3) := dk_181 0 16 (dk_at dksX6_init_0 11 rfl rfl)
theorem dX6_init_14 : decode cX6_init 14 = .ok (.aload_n 0, 1) := dk_42 (dk_at dksX6_init_0 14 rfl rfl)
theorem dX6_init_15 : decode cX6_init 15 = .ok (.iload_n 3, 1) := dk_29 (dk_at dksX6_init_0 15 rfl rfl)
theorem dX6_init_16 : decode cX6_init 16 = .ok (.putfield 19, 3) := dk_181 0 19 (dk_at dksX6_init_0 16 rfl rfl)
theorem dX6_init_19 : decode cX6_init 19 = .ok (.aload_n 0, 1) := dk_42 (dk_at dksX6_init_0 19 rfl rfl)
theorem dX6_init_20 : decode cX6_init 20 = .ok (.iload 4, 2) := dk_21 4 (dk_at dksX6_init_0 20 rfl rfl)
theorem dX6_init_22 : decode cX6_init 22 = .ok (.putfield 23, 3) := dk_181 0 23 (dk_at dksX6_init_1 0 rfl rfl)
theorem dX6_init_25 : decode cX6_init 25 = .ok (.return_, 1) := dk_177 (dk_at dksX6_init_1 3 rfl rfl)
abbrev cX6_init_2 : ByteArray := prog_7_method_1_code
def yX6_init_2 : MethodName := ⟨RX6, "<init>", "(II)V"⟩
def dkwX6_init_2_0 : List UInt8 := [42, 27, 28, 3, 3, 183, 0, 1, 177]
abbrev dktX6_init_2_0 : List UInt8 := dkwX6_init_2_0 ++ []
theorem dksX6_init_2_0 : cX6_init_2.data.toList.drop 0 = dktX6_init_2_0 := by decide +kernel
theorem dX6_init_2_0 : decode cX6_init_2 0 = .ok (.aload_n 0, 1) := dk_42 (dk_at dksX6_init_2_0 0 rfl rfl)
theorem dX6_init_2_1 : decode cX6_init_2 1 = .ok (.iload_n 1, 1) := dk_27 (dk_at dksX6_init_2_0 1 rfl rfl)
theorem dX6_init_2_2 : decode cX6_init_2 2 = .ok (.iload_n 2, 1) := dk_28 (dk_at dksX6_init_2_0 2 rfl rfl)
theorem dX6_init_2_3 : decode cX6_init_2 3 = .ok (.iconst 0, 1) := dk_3 (dk_at dksX6_init_2_0 3 rfl rfl)
theorem dX6_init_2_4 : decode cX6_init_2 4 = .ok (.iconst 0, 1) := dk_3 (dk_at dksX6_init_2_0 4 rfl rfl)
theorem dX6_init_2_5 : decode cX6_init_2 5 = .ok (.invokespecial 1, 3) := dk_183 0 1 (dk_at dksX6_init_2_0 5 rfl rfl)
theorem dX6_init_2_8 : decode cX6_init_2 8 = .ok (.return_, 1) := dk_177 (dk_at dksX6_init_2_0 8 rfl rfl)
theorem q131 : (Jvm.Cond.initialized "ElasticTruss$Node") ∈ lw_all := lw_g (lw_at lw_m1 30 rfl) rfl
theorem q1663 : (Jvm.Cond.selects "ElasticTruss$Node" ({ cls := "java/lang/Object", name := "toString", desc := "()Ljava/lang/String;" } : Jvm.MethodName) ({ cls := "java/lang/Object", name := "toString", desc := "()Ljava/lang/String;" } : Jvm.MethodName)) ∈ lw_all := lw_g (lw_at lw_m7 122 rfl) rfl
theorem q1684 : (Jvm.Cond.selects "ElasticTruss$Node" ({ cls := "java/lang/Object", name := "getClass", desc := "()Ljava/lang/Class;" } : Jvm.MethodName) ({ cls := "java/lang/Object", name := "getClass", desc := "()Ljava/lang/Class;" } : Jvm.MethodName)) ∈ lw_all := lw_g (lw_at lw_m7 143 rfl) rfl
theorem q1888 : (Jvm.Cond.selects "ElasticTruss$Node" ({ cls := "java/lang/Object", name := "hashCode", desc := "()I" } : Jvm.MethodName) ({ cls := "java/lang/Object", name := "hashCode", desc := "()I" } : Jvm.MethodName)) ∈ lw_all := lw_g (lw_at lw_m8 107 rfl) rfl
theorem q2324 : (Jvm.Cond.selects "ElasticTruss$Node" ({ cls := "java/lang/Object", name := "equals", desc := "(Ljava/lang/Object;)Z" } : Jvm.MethodName) ({ cls := "java/lang/Object", name := "equals", desc := "(Ljava/lang/Object;)Z" } : Jvm.MethodName)) ∈ lw_all := lw_g (lw_at lw_m10 63 rfl) rfl
theorem q2826 : (Jvm.Cond.instantiable "ElasticTruss$Node" (4 : Nat)) ∈ lw_all := lw_g (lw_at lw_m12 85 rfl) rfl
theorem q2828 : (Jvm.Cond.instanceMethod ({ cls := "ElasticTruss$Node", name := "<init>", desc := "(IIZZ)V" } : Jvm.MethodName)) ∈ lw_all := lw_g (lw_at lw_m12 87 rfl) rfl
theorem q2829 : (Jvm.Cond.code ({ cls := "ElasticTruss$Node", name := "<init>", desc := "(IIZZ)V" } : Jvm.MethodName) prog_7_method_2_code (5 : Nat) (Option.none : Option Jvm.ClassFile.FieldType)) ∈ lw_all := lw_g (lw_at lw_m12 88 rfl) rfl
theorem q2830 : (Jvm.Cond.methodLink "ElasticTruss$Node" (7 : Nat) ({ cls := "java/lang/Object", name := "<init>", desc := "()V" } : Jvm.MethodName)) ∈ lw_all := lw_g (lw_at lw_m12 89 rfl) rfl
theorem q2831 : (Jvm.Cond.fieldLink "ElasticTruss$Node" (12 : Nat) "ElasticTruss$Node" "x" "I") ∈ lw_all := lw_g (lw_at lw_m12 90 rfl) rfl
theorem q2834 : (Jvm.Cond.fieldLink "ElasticTruss$Node" (16 : Nat) "ElasticTruss$Node" "y" "I") ∈ lw_all := lw_g (lw_at lw_m12 93 rfl) rfl
theorem q2837 : (Jvm.Cond.fieldLink "ElasticTruss$Node" (19 : Nat) "ElasticTruss$Node" "isFixed" "Z") ∈ lw_all := lw_g (lw_at lw_m12 96 rfl) rfl
theorem q2839 : (Jvm.Cond.fieldLink "ElasticTruss$Node" (23 : Nat) "ElasticTruss$Node" "isOnRoller" "Z") ∈ lw_all := lw_g (lw_at lw_m12 98 rfl) rfl
theorem q2841 : (Jvm.Cond.laysFinal "ElasticTruss$Node" "ElasticTruss$Node" "x" "I") ∈ lw_all := lw_g (lw_at lw_m12 100 rfl) rfl
theorem q2842 : (Jvm.Cond.soleField "ElasticTruss$Node" "x") ∈ lw_all := lw_g (lw_at lw_m12 101 rfl) rfl
theorem q2843 : (Jvm.Cond.laysFinal "ElasticTruss$Node" "ElasticTruss$Node" "y" "I") ∈ lw_all := lw_g (lw_at lw_m12 102 rfl) rfl
theorem q2844 : (Jvm.Cond.soleField "ElasticTruss$Node" "y") ∈ lw_all := lw_g (lw_at lw_m12 103 rfl) rfl
theorem q2845 : (Jvm.Cond.laysFinal "ElasticTruss$Node" "ElasticTruss$Node" "isFixed" "Z") ∈ lw_all := lw_g (lw_at lw_m12 104 rfl) rfl
theorem q2846 : (Jvm.Cond.soleField "ElasticTruss$Node" "isFixed") ∈ lw_all := lw_g (lw_at lw_m12 105 rfl) rfl
theorem q2847 : (Jvm.Cond.laysFinal "ElasticTruss$Node" "ElasticTruss$Node" "isOnRoller" "Z") ∈ lw_all := lw_g (lw_at lw_m12 106 rfl) rfl
theorem q2848 : (Jvm.Cond.soleField "ElasticTruss$Node" "isOnRoller") ∈ lw_all := lw_g (lw_at lw_m12 107 rfl) rfl
theorem q2849 : (Jvm.Cond.superclass "ElasticTruss$Node" "java/lang/Object") ∈ lw_all := lw_g (lw_at lw_m12 108 rfl) rfl
theorem q2851 : (Jvm.Cond.instanceMethod ({ cls := "ElasticTruss$Node", name := "<init>", desc := "(II)V" } : Jvm.MethodName)) ∈ lw_all := lw_g (lw_at lw_m12 110 rfl) rfl
theorem q2852 : (Jvm.Cond.code ({ cls := "ElasticTruss$Node", name := "<init>", desc := "(II)V" } : Jvm.MethodName) prog_7_method_1_code (3 : Nat) (Option.none : Option Jvm.ClassFile.FieldType)) ∈ lw_all := lw_g (lw_at lw_m12 111 rfl) rfl
theorem q2853 : (Jvm.Cond.methodLink "ElasticTruss$Node" (1 : Nat) ({ cls := "ElasticTruss$Node", name := "<init>", desc := "(IIZZ)V" } : Jvm.MethodName)) ∈ lw_all := lw_g (lw_at lw_m12 112 rfl) rfl
theorem q3859 : (Jvm.Cond.castable "ElasticTruss$Node" "java/lang/Object") ∈ lw_tbl := lw_at lw_m16 158 rfl
theorem in_X6 : ∀ w ∈ wsX60, w ∈ lw_all := lw_in wsX60 [2841, 2843, 2845, 2847] (by decide +kernel) (by decide +kernel)

-- X7.ElasticTruss_PairKey.lean.txt
/-! ElasticTruss$PairKey -/
set_option maxRecDepth 100000
def RX7 : String := "ElasticTruss$PairKey"
def TX7 : u_T := fun k => match k with
  | 0 => ("ElasticTruss$PairKey", "smaller", "I", true)
  | _ => ("ElasticTruss$PairKey", "greater", "I", true)
def tyX7 : Nat → FieldType := fun k => match k with
  | 0 => .int
  | _ => .int
abbrev wsX70 : List Cond := u_ws RX7 TX7 2
theorem nmX7 : ∀ a, a < 2 → ∀ b, b < 2 → a ≠ b → (TX7 a).2.1 ≠ (TX7 b).2.1 := by decide +kernel
theorem tyX7_ok : ∀ k, k < 2 → parseFieldDescriptor (TX7 k).2.2.1 = some (tyX7 k) := by decide +kernel
abbrev cX7_hashCode : ByteArray := prog_13_method_3_code
def yX7_hashCode : MethodName := ⟨RX7, "hashCode", "()I"⟩
def dkwX7_hashCode_0 : List UInt8 := [16, 8, 42, 180, 0, 15, 104, 42, 180, 0, 24, 96, 172]
abbrev dktX7_hashCode_0 : List UInt8 := dkwX7_hashCode_0 ++ []
theorem dksX7_hashCode_0 : cX7_hashCode.data.toList.drop 0 = dktX7_hashCode_0 := by decide +kernel
theorem dX7_hashCode_0 : decode cX7_hashCode 0 = .ok (.bipush 8, 2) := dk_16 8 (dk_at dksX7_hashCode_0 0 rfl rfl)
theorem dX7_hashCode_2 : decode cX7_hashCode 2 = .ok (.aload_n 0, 1) := dk_42 (dk_at dksX7_hashCode_0 2 rfl rfl)
theorem dX7_hashCode_3 : decode cX7_hashCode 3 = .ok (.getfield 15, 3) := dk_180 0 15 (dk_at dksX7_hashCode_0 3 rfl rfl)
theorem dX7_hashCode_6 : decode cX7_hashCode 6 = .ok (.imul, 1) := dk_104 (dk_at dksX7_hashCode_0 6 rfl rfl)
theorem dX7_hashCode_7 : decode cX7_hashCode 7 = .ok (.aload_n 0, 1) := dk_42 (dk_at dksX7_hashCode_0 7 rfl rfl)
theorem dX7_hashCode_8 : decode cX7_hashCode 8 = .ok (.getfield 24, 3) := dk_180 0 24 (dk_at dksX7_hashCode_0 8 rfl rfl)
theorem dX7_hashCode_11 : decode cX7_hashCode 11 = .ok (.iadd, 1) := dk_96 (dk_at dksX7_hashCode_0 11 rfl rfl)
theorem dX7_hashCode_12 : decode cX7_hashCode 12 = .ok (.ireturn, 1) := dk_172 (dk_at dksX7_hashCode_0 12 rfl rfl)
abbrev cX7_equals : ByteArray := prog_13_method_2_code
def yX7_equals : MethodName := ⟨RX7, "equals", "(Ljava/lang/Object;)Z"⟩
def dkwX7_equals_1 : List UInt8 := [180, 0, 24, 42, 180, 0, 24, 160, 0, 7, 4, 167, 0, 4, 3, 172]
abbrev dktX7_equals_1 : List UInt8 := dkwX7_equals_1 ++ []
def dkwX7_equals_0 : List UInt8 := [43, 193, 0, 16, 153, 0, 34, 43, 192, 0, 16, 77, 44, 180, 0, 15, 42, 180, 0, 15, 160, 0, 18, 44]
abbrev dktX7_equals_0 : List UInt8 := dkwX7_equals_0 ++ dktX7_equals_1
theorem dksX7_equals_0 : cX7_equals.data.toList.drop 0 = dktX7_equals_0 := by decide +kernel
theorem dksX7_equals_1 : cX7_equals.data.toList.drop 24 = dktX7_equals_1 := dk_seg dksX7_equals_0 24 rfl rfl
theorem dX7_equals_0 : decode cX7_equals 0 = .ok (.aload_n 1, 1) := dk_43 (dk_at dksX7_equals_0 0 rfl rfl)
theorem dX7_equals_1 : decode cX7_equals 1 = .ok (.instanceof 16, 3) := dk_193 0 16 (dk_at dksX7_equals_0 1 rfl rfl)
theorem dX7_equals_4 : decode cX7_equals 4 = .ok (.ifCond .eq 34, 3) := dk_153 0 34 (dk_at dksX7_equals_0 4 rfl rfl)
theorem dX7_equals_7 : decode cX7_equals 7 = .ok (.aload_n 1, 1) := dk_43 (dk_at dksX7_equals_0 7 rfl rfl)
theorem dX7_equals_8 : decode cX7_equals 8 = .ok (.checkcast 16, 3) := dk_192 0 16 (dk_at dksX7_equals_0 8 rfl rfl)
theorem dX7_equals_11 : decode cX7_equals 11 = .ok (.astore_n 2, 1) := dk_77 (dk_at dksX7_equals_0 11 rfl rfl)
theorem dX7_equals_12 : decode cX7_equals 12 = .ok (.aload_n 2, 1) := dk_44 (dk_at dksX7_equals_0 12 rfl rfl)
theorem dX7_equals_13 : decode cX7_equals 13 = .ok (.getfield 15, 3) := dk_180 0 15 (dk_at dksX7_equals_0 13 rfl rfl)
theorem dX7_equals_16 : decode cX7_equals 16 = .ok (.aload_n 0, 1) := dk_42 (dk_at dksX7_equals_0 16 rfl rfl)
theorem dX7_equals_17 : decode cX7_equals 17 = .ok (.getfield 15, 3) := dk_180 0 15 (dk_at dksX7_equals_0 17 rfl rfl)
theorem dX7_equals_20 : decode cX7_equals 20 = .ok (.if_icmp .ne 18, 3) := dk_160 0 18 (dk_at dksX7_equals_0 20 rfl rfl)
theorem dX7_equals_23 : decode cX7_equals 23 = .ok (.aload_n 2, 1) := dk_44 (dk_at dksX7_equals_0 23 rfl rfl)
theorem dX7_equals_24 : decode cX7_equals 24 = .ok (.getfield 24, 3) := dk_180 0 24 (dk_at dksX7_equals_1 0 rfl rfl)
theorem dX7_equals_27 : decode cX7_equals 27 = .ok (.aload_n 0, 1) := dk_42 (dk_at dksX7_equals_1 3 rfl rfl)
theorem dX7_equals_28 : decode cX7_equals 28 = .ok (.getfield 24, 3) := dk_180 0 24 (dk_at dksX7_equals_1 4 rfl rfl)
theorem dX7_equals_31 : decode cX7_equals 31 = .ok (.if_icmp .ne 7, 3) := dk_160 0 7 (dk_at dksX7_equals_1 7 rfl rfl)
theorem dX7_equals_34 : decode cX7_equals 34 = .ok (.iconst 1, 1) := dk_4 (dk_at dksX7_equals_1 10 rfl rfl)
theorem dX7_equals_35 : decode cX7_equals 35 = .ok (.goto 4, 3) := dk_167 0 4 (dk_at dksX7_equals_1 11 rfl rfl)
theorem dX7_equals_38 : decode cX7_equals 38 = .ok (.iconst 0, 1) := dk_3 (dk_at dksX7_equals_1 14 rfl rfl)
theorem dX7_equals_39 : decode cX7_equals 39 = .ok (.ireturn, 1) := dk_172 (dk_at dksX7_equals_1 15 rfl rfl)
abbrev cX7_init : ByteArray := prog_13_method_1_code
def yX7_init : MethodName := ⟨RX7, "<init>", "(II)V"⟩
def dkwX7_init_0 : List UInt8 := [42, 183, 0, 3, 42, 27, 28, 184, 0, 9, 181, 0, 15, 42, 27, 28, 184, 0, 21, 181, 0, 24, 177]
abbrev dktX7_init_0 : List UInt8 := dkwX7_init_0 ++ []
theorem dksX7_init_0 : cX7_init.data.toList.drop 0 = dktX7_init_0 := by decide +kernel
theorem dX7_init_0 : decode cX7_init 0 = .ok (.aload_n 0, 1) := dk_42 (dk_at dksX7_init_0 0 rfl rfl)
theorem dX7_init_1 : decode cX7_init 1 = .ok (.invokespecial 3, 3) := dk_183 0 3 (dk_at dksX7_init_0 1 rfl rfl)
theorem dX7_init_4 : decode cX7_init 4 = .ok (.aload_n 0, 1) := dk_42 (dk_at dksX7_init_0 4 rfl rfl)
theorem dX7_init_5 : decode cX7_init 5 = .ok (.iload_n 1, 1) := dk_27 (dk_at dksX7_init_0 5 rfl rfl)
theorem dX7_init_6 : decode cX7_init 6 = .ok (.iload_n 2, 1) := dk_28 (dk_at dksX7_init_0 6 rfl rfl)
theorem dX7_init_7 : decode cX7_init 7 = .ok (.invokestatic 9, 3) := dk_184 0 9 (dk_at dksX7_init_0 7 rfl rfl)
theorem dX7_init_10 : decode cX7_init 10 = .ok (.putfield 15, 3) := dk_181 0 15 (dk_at dksX7_init_0 10 rfl rfl)
theorem dX7_init_13 : decode cX7_init 13 = .ok (.aload_n 0, 1) := dk_42 (dk_at dksX7_init_0 13 rfl rfl)
theorem dX7_init_14 : decode cX7_init 14 = .ok (.iload_n 1, 1) := dk_27 (dk_at dksX7_init_0 14 rfl rfl)
theorem dX7_init_15 : decode cX7_init 15 = .ok (.iload_n 2, 1) := dk_28 (dk_at dksX7_init_0 15 rfl rfl)
theorem dX7_init_16 : decode cX7_init 16 = .ok (.invokestatic 21, 3) := dk_184 0 21 (dk_at dksX7_init_0 16 rfl rfl)
theorem dX7_init_19 : decode cX7_init 19 = .ok (.putfield 24, 3) := dk_181 0 24 (dk_at dksX7_init_0 19 rfl rfl)
theorem dX7_init_22 : decode cX7_init 22 = .ok (.return_, 1) := dk_177 (dk_at dksX7_init_0 22 rfl rfl)
theorem q132 : (Jvm.Cond.initialized "ElasticTruss$PairKey") ∈ lw_all := lw_g (lw_at lw_m1 31 rfl) rfl
theorem q1670 : (Jvm.Cond.selects "ElasticTruss$PairKey" ({ cls := "java/lang/Object", name := "toString", desc := "()Ljava/lang/String;" } : Jvm.MethodName) ({ cls := "java/lang/Object", name := "toString", desc := "()Ljava/lang/String;" } : Jvm.MethodName)) ∈ lw_all := lw_g (lw_at lw_m7 129 rfl) rfl
theorem q1689 : (Jvm.Cond.selects "ElasticTruss$PairKey" ({ cls := "java/lang/Object", name := "getClass", desc := "()Ljava/lang/Class;" } : Jvm.MethodName) ({ cls := "java/lang/Object", name := "getClass", desc := "()Ljava/lang/Class;" } : Jvm.MethodName)) ∈ lw_all := lw_g (lw_at lw_m7 148 rfl) rfl
theorem q1898 : (Jvm.Cond.selects "ElasticTruss$PairKey" ({ cls := "java/lang/Object", name := "hashCode", desc := "()I" } : Jvm.MethodName) ({ cls := "ElasticTruss$PairKey", name := "hashCode", desc := "()I" } : Jvm.MethodName)) ∈ lw_all := lw_g (lw_at lw_m8 117 rfl) rfl
theorem q1899 : (Jvm.Cond.instanceMethod ({ cls := "ElasticTruss$PairKey", name := "hashCode", desc := "()I" } : Jvm.MethodName)) ∈ lw_all := lw_g (lw_at lw_m8 118 rfl) rfl
theorem q1900 : (Jvm.Cond.code ({ cls := "ElasticTruss$PairKey", name := "hashCode", desc := "()I" } : Jvm.MethodName) prog_13_method_3_code (1 : Nat) (Option.some Jvm.ClassFile.FieldType.int)) ∈ lw_all := lw_g (lw_at lw_m8 119 rfl) rfl
theorem q2331 : (Jvm.Cond.selects "ElasticTruss$PairKey" ({ cls := "java/lang/Object", name := "equals", desc := "(Ljava/lang/Object;)Z" } : Jvm.MethodName) ({ cls := "ElasticTruss$PairKey", name := "equals", desc := "(Ljava/lang/Object;)Z" } : Jvm.MethodName)) ∈ lw_all := lw_g (lw_at lw_m10 70 rfl) rfl
theorem q2332 : (Jvm.Cond.instanceMethod ({ cls := "ElasticTruss$PairKey", name := "equals", desc := "(Ljava/lang/Object;)Z" } : Jvm.MethodName)) ∈ lw_all := lw_g (lw_at lw_m10 71 rfl) rfl
theorem q2333 : (Jvm.Cond.code ({ cls := "ElasticTruss$PairKey", name := "equals", desc := "(Ljava/lang/Object;)Z" } : Jvm.MethodName) prog_13_method_2_code (3 : Nat) (Option.some Jvm.ClassFile.FieldType.boolean)) ∈ lw_all := lw_g (lw_at lw_m10 72 rfl) rfl
theorem q2334 : (Jvm.Cond.classLink "ElasticTruss$PairKey" (16 : Nat) "ElasticTruss$PairKey") ∈ lw_all := lw_g (lw_at lw_m10 73 rfl) rfl
theorem q2897 : (Jvm.Cond.instantiable "ElasticTruss$PairKey" (2 : Nat)) ∈ lw_all := lw_g (lw_at lw_m12 156 rfl) rfl
theorem q2899 : (Jvm.Cond.instanceMethod ({ cls := "ElasticTruss$PairKey", name := "<init>", desc := "(II)V" } : Jvm.MethodName)) ∈ lw_all := lw_g (lw_at lw_m12 158 rfl) rfl
theorem q2900 : (Jvm.Cond.code ({ cls := "ElasticTruss$PairKey", name := "<init>", desc := "(II)V" } : Jvm.MethodName) prog_13_method_1_code (3 : Nat) (Option.none : Option Jvm.ClassFile.FieldType)) ∈ lw_all := lw_g (lw_at lw_m12 159 rfl) rfl
theorem q2901 : (Jvm.Cond.methodLink "ElasticTruss$PairKey" (3 : Nat) ({ cls := "java/lang/Object", name := "<init>", desc := "()V" } : Jvm.MethodName)) ∈ lw_all := lw_g (lw_at lw_m12 160 rfl) rfl
theorem q2902 : (Jvm.Cond.methodLink "ElasticTruss$PairKey" (9 : Nat) ({ cls := "java/lang/Math", name := "min", desc := "(II)I" } : Jvm.MethodName)) ∈ lw_all := lw_g (lw_at lw_m12 161 rfl) rfl
theorem q2903 : (Jvm.Cond.methodLink "ElasticTruss$PairKey" (21 : Nat) ({ cls := "java/lang/Math", name := "max", desc := "(II)I" } : Jvm.MethodName)) ∈ lw_all := lw_g (lw_at lw_m12 162 rfl) rfl
theorem q2904 : (Jvm.Cond.fieldLink "ElasticTruss$PairKey" (15 : Nat) "ElasticTruss$PairKey" "smaller" "I") ∈ lw_all := lw_g (lw_at lw_m12 163 rfl) rfl
theorem q2905 : (Jvm.Cond.fieldLink "ElasticTruss$PairKey" (24 : Nat) "ElasticTruss$PairKey" "greater" "I") ∈ lw_all := lw_g (lw_at lw_m12 164 rfl) rfl
theorem q2906 : (Jvm.Cond.laysFinal "ElasticTruss$PairKey" "ElasticTruss$PairKey" "smaller" "I") ∈ lw_all := lw_g (lw_at lw_m12 165 rfl) rfl
theorem q2907 : (Jvm.Cond.soleField "ElasticTruss$PairKey" "smaller") ∈ lw_all := lw_g (lw_at lw_m12 166 rfl) rfl
theorem q2908 : (Jvm.Cond.laysFinal "ElasticTruss$PairKey" "ElasticTruss$PairKey" "greater" "I") ∈ lw_all := lw_g (lw_at lw_m12 167 rfl) rfl
theorem q2909 : (Jvm.Cond.soleField "ElasticTruss$PairKey" "greater") ∈ lw_all := lw_g (lw_at lw_m12 168 rfl) rfl
theorem q2910 : (Jvm.Cond.superclass "ElasticTruss$PairKey" "java/lang/Object") ∈ lw_all := lw_g (lw_at lw_m12 169 rfl) rfl
theorem q3820 : (Jvm.Cond.selects "ElasticTruss$PairKey" ({ cls := "ElasticTruss$PairKey", name := "equals", desc := "(Ljava/lang/Object;)Z" } : Jvm.MethodName) ({ cls := "ElasticTruss$PairKey", name := "equals", desc := "(Ljava/lang/Object;)Z" } : Jvm.MethodName)) ∈ lw_all := lw_g (lw_at lw_m16 119 rfl) rfl
theorem q3860 : (Jvm.Cond.castable "ElasticTruss$PairKey" "java/lang/Object") ∈ lw_tbl := lw_at lw_m16 159 rfl
theorem in_X7 : ∀ w ∈ wsX70, w ∈ lw_all := lw_in wsX70 [2906, 2908] (by decide +kernel) (by decide +kernel)

-- X8.ElasticTruss_Member.lean.txt
/-! ElasticTruss$Member -/
set_option maxRecDepth 100000
def RX8 : String := "ElasticTruss$Member"
def TX8 : u_T := fun k => match k with
  | 0 => ("ElasticTruss$Member", "first", "I", true)
  | 1 => ("ElasticTruss$Member", "second", "I", true)
  | 2 => ("ElasticTruss$Member", "group", "I", true)
  | 3 => ("ElasticTruss$Member", "dx", "I", true)
  | 4 => ("ElasticTruss$Member", "dy", "I", true)
  | _ => ("ElasticTruss$Member", "length", "I", true)
def tyX8 : Nat → FieldType := fun k => match k with
  | 0 => .int
  | 1 => .int
  | 2 => .int
  | 3 => .int
  | 4 => .int
  | _ => .int
abbrev wsX80 : List Cond := u_ws RX8 TX8 6
theorem nmX8 : ∀ a, a < 6 → ∀ b, b < 6 → a ≠ b → (TX8 a).2.1 ≠ (TX8 b).2.1 := by decide +kernel
theorem tyX8_ok : ∀ k, k < 6 → parseFieldDescriptor (TX8 k).2.2.1 = some (tyX8 k) := by decide +kernel
abbrev cX8_isAt : ByteArray := prog_6_method_2_code
def yX8_isAt : MethodName := ⟨RX8, "isAt", "(I)Z"⟩
def dkwX8_isAt_0 : List UInt8 := [42, 180, 0, 7, 27, 159, 0, 11, 42, 180, 0, 13, 27, 160, 0, 7, 4, 167, 0, 4, 3, 172]
abbrev dktX8_isAt_0 : List UInt8 := dkwX8_isAt_0 ++ []
theorem dksX8_isAt_0 : cX8_isAt.data.toList.drop 0 = dktX8_isAt_0 := by decide +kernel
theorem dX8_isAt_0 : decode cX8_isAt 0 = .ok (.aload_n 0, 1) := dk_42 (dk_at dksX8_isAt_0 0 rfl rfl)
theorem dX8_isAt_1 : decode cX8_isAt 1 = .ok (.getfield 7, 3) := dk_180 0 7 (dk_at dksX8_isAt_0 1 rfl rfl)
theorem dX8_isAt_4 : decode cX8_isAt 4 = .ok (.iload_n 1, 1) := dk_27 (dk_at dksX8_isAt_0 4 rfl rfl)
theorem dX8_isAt_5 : decode cX8_isAt 5 = .ok (.if_icmp .eq 11, 3) := dk_159 0 11 (dk_at dksX8_isAt_0 5 rfl rfl)
theorem dX8_isAt_8 : decode cX8_isAt 8 = .ok (.aload_n 0, 1) := dk_42 (dk_at dksX8_isAt_0 8 rfl rfl)
theorem dX8_isAt_9 : decode cX8_isAt 9 = .ok (.getfield 13, 3) := dk_180 0 13 (dk_at dksX8_isAt_0 9 rfl rfl)
theorem dX8_isAt_12 : decode cX8_isAt 12 = .ok (.iload_n 1, 1) := dk_27 (dk_at dksX8_isAt_0 12 rfl rfl)
theorem dX8_isAt_13 : decode cX8_isAt 13 = .ok (.if_icmp .ne 7, 3) := dk_160 0 7 (dk_at dksX8_isAt_0 13 rfl rfl)
theorem dX8_isAt_16 : decode cX8_isAt 16 = .ok (.iconst 1, 1) := dk_4 (dk_at dksX8_isAt_0 16 rfl rfl)
theorem dX8_isAt_17 : decode cX8_isAt 17 = .ok (.goto 4, 3) := dk_167 0 4 (dk_at dksX8_isAt_0 17 rfl rfl)
theorem dX8_isAt_20 : decode cX8_isAt 20 = .ok (.iconst 0, 1) := dk_3 (dk_at dksX8_isAt_0 20 rfl rfl)
theorem dX8_isAt_21 : decode cX8_isAt 21 = .ok (.ireturn, 1) := dk_172 (dk_at dksX8_isAt_0 21 rfl rfl)
abbrev cX8_init : ByteArray := prog_6_method_1_code
def yX8_init : MethodName := ⟨RX8, "<init>", "(IIIII)V"⟩
def dkwX8_init_2 : List UInt8 := [181, 0, 31, 177]
abbrev dktX8_init_2 : List UInt8 := dkwX8_init_2 ++ []
def dkwX8_init_1 : List UInt8 := [181, 0, 19, 42, 21, 5, 181, 0, 22, 42, 21, 4, 21, 4, 104, 21, 5, 21, 5, 104, 96, 184, 0, 25]
abbrev dktX8_init_1 : List UInt8 := dkwX8_init_1 ++ dktX8_init_2
def dkwX8_init_0 : List UInt8 := [42, 183, 0, 1, 42, 27, 181, 0, 7, 42, 28, 181, 0, 13, 42, 29, 181, 0, 16, 42, 21, 4]
abbrev dktX8_init_0 : List UInt8 := dkwX8_init_0 ++ dktX8_init_1
theorem dksX8_init_0 : cX8_init.data.toList.drop 0 = dktX8_init_0 := by decide +kernel
theorem dksX8_init_1 : cX8_init.data.toList.drop 22 = dktX8_init_1 := dk_seg dksX8_init_0 22 rfl rfl
theorem dksX8_init_2 : cX8_init.data.toList.drop 46 = dktX8_init_2 := dk_seg dksX8_init_1 24 rfl rfl
theorem dX8_init_0 : decode cX8_init 0 = .ok (.aload_n 0, 1) := dk_42 (dk_at dksX8_init_0 0 rfl rfl)
theorem dX8_init_1 : decode cX8_init 1 = .ok (.invokespecial 1, 3) := dk_183 0 1 (dk_at dksX8_init_0 1 rfl rfl)
theorem dX8_init_4 : decode cX8_init 4 = .ok (.aload_n 0, 1) := dk_42 (dk_at dksX8_init_0 4 rfl rfl)
theorem dX8_init_5 : decode cX8_init 5 = .ok (.iload_n 1, 1) := dk_27 (dk_at dksX8_init_0 5 rfl rfl)
theorem dX8_init_6 : decode cX8_init 6 = .ok (.putfield 7, 3) := dk_181 0 7 (dk_at dksX8_init_0 6 rfl rfl)
theorem dX8_init_9 : decode cX8_init 9 = .ok (.aload_n 0, 1) := dk_42 (dk_at dksX8_init_0 9 rfl rfl)
theorem dX8_init_10 : decode cX8_init 10 = .ok (.iload_n 2, 1) := dk_28 (dk_at dksX8_init_0 10 rfl rfl)
theorem dX8_init_11 : decode cX8_init 11 = .ok (.putfield 13, 3) := dk_181 0 13 (dk_at dksX8_init_0 11 rfl rfl)
theorem dX8_init_14 : decode cX8_init 14 = .ok (.aload_n 0, 1) := dk_42 (dk_at dksX8_init_0 14 rfl rfl)
theorem dX8_init_15 : decode cX8_init 15 = .ok (.iload_n 3, 1) := dk_29 (dk_at dksX8_init_0 15 rfl rfl)
theorem dX8_init_16 : decode cX8_init 16 = .ok (.putfield 16, 3) := dk_181 0 16 (dk_at dksX8_init_0 16 rfl rfl)
theorem dX8_init_19 : decode cX8_init 19 = .ok (.aload_n 0, 1) := dk_42 (dk_at dksX8_init_0 19 rfl rfl)
theorem dX8_init_20 : decode cX8_init 20 = .ok (.iload 4, 2) := dk_21 4 (dk_at dksX8_init_0 20 rfl rfl)
theorem dX8_init_22 : decode cX8_init 22 = .ok (.putfield 19, 3) := dk_181 0 19 (dk_at dksX8_init_1 0 rfl rfl)
theorem dX8_init_25 : decode cX8_init 25 = .ok (.aload_n 0, 1) := dk_42 (dk_at dksX8_init_1 3 rfl rfl)
theorem dX8_init_26 : decode cX8_init 26 = .ok (.iload 5, 2) := dk_21 5 (dk_at dksX8_init_1 4 rfl rfl)
theorem dX8_init_28 : decode cX8_init 28 = .ok (.putfield 22, 3) := dk_181 0 22 (dk_at dksX8_init_1 6 rfl rfl)
theorem dX8_init_31 : decode cX8_init 31 = .ok (.aload_n 0, 1) := dk_42 (dk_at dksX8_init_1 9 rfl rfl)
theorem dX8_init_32 : decode cX8_init 32 = .ok (.iload 4, 2) := dk_21 4 (dk_at dksX8_init_1 10 rfl rfl)
theorem dX8_init_34 : decode cX8_init 34 = .ok (.iload 4, 2) := dk_21 4 (dk_at dksX8_init_1 12 rfl rfl)
theorem dX8_init_36 : decode cX8_init 36 = .ok (.imul, 1) := dk_104 (dk_at dksX8_init_1 14 rfl rfl)
theorem dX8_init_37 : decode cX8_init 37 = .ok (.iload 5, 2) := dk_21 5 (dk_at dksX8_init_1 15 rfl rfl)
theorem dX8_init_39 : decode cX8_init 39 = .ok (.iload 5, 2) := dk_21 5 (dk_at dksX8_init_1 17 rfl rfl)
theorem dX8_init_41 : decode cX8_init 41 = .ok (.imul, 1) := dk_104 (dk_at dksX8_init_1 19 rfl rfl)
theorem dX8_init_42 : decode cX8_init 42 = .ok (.iadd, 1) := dk_96 (dk_at dksX8_init_1 20 rfl rfl)
theorem dX8_init_43 : decode cX8_init 43 = .ok (.invokestatic 25, 3) := dk_184 0 25 (dk_at dksX8_init_1 21 rfl rfl)
theorem dX8_init_46 : decode cX8_init 46 = .ok (.putfield 31, 3) := dk_181 0 31 (dk_at dksX8_init_2 0 rfl rfl)
theorem dX8_init_49 : decode cX8_init 49 = .ok (.return_, 1) := dk_177 (dk_at dksX8_init_2 3 rfl rfl)
theorem q137 : (Jvm.Cond.initialized "ElasticTruss$Member") ∈ lw_all := lw_g (lw_at lw_m1 36 rfl) rfl
theorem q1143 : (Jvm.Cond.instanceMethod ({ cls := "ElasticTruss$Member", name := "isAt", desc := "(I)Z" } : Jvm.MethodName)) ∈ lw_all := lw_g (lw_at lw_m5 82 rfl) rfl
theorem q1144 : (Jvm.Cond.selects "ElasticTruss$Member" ({ cls := "ElasticTruss$Member", name := "isAt", desc := "(I)Z" } : Jvm.MethodName) ({ cls := "ElasticTruss$Member", name := "isAt", desc := "(I)Z" } : Jvm.MethodName)) ∈ lw_all := lw_g (lw_at lw_m5 83 rfl) rfl
theorem q1145 : (Jvm.Cond.code ({ cls := "ElasticTruss$Member", name := "isAt", desc := "(I)Z" } : Jvm.MethodName) prog_6_method_2_code (2 : Nat) (Option.some Jvm.ClassFile.FieldType.boolean)) ∈ lw_all := lw_g (lw_at lw_m5 84 rfl) rfl
theorem q1662 : (Jvm.Cond.selects "ElasticTruss$Member" ({ cls := "java/lang/Object", name := "toString", desc := "()Ljava/lang/String;" } : Jvm.MethodName) ({ cls := "java/lang/Object", name := "toString", desc := "()Ljava/lang/String;" } : Jvm.MethodName)) ∈ lw_all := lw_g (lw_at lw_m7 121 rfl) rfl
theorem q1683 : (Jvm.Cond.selects "ElasticTruss$Member" ({ cls := "java/lang/Object", name := "getClass", desc := "()Ljava/lang/Class;" } : Jvm.MethodName) ({ cls := "java/lang/Object", name := "getClass", desc := "()Ljava/lang/Class;" } : Jvm.MethodName)) ∈ lw_all := lw_g (lw_at lw_m7 142 rfl) rfl
theorem q1887 : (Jvm.Cond.selects "ElasticTruss$Member" ({ cls := "java/lang/Object", name := "hashCode", desc := "()I" } : Jvm.MethodName) ({ cls := "java/lang/Object", name := "hashCode", desc := "()I" } : Jvm.MethodName)) ∈ lw_all := lw_g (lw_at lw_m8 106 rfl) rfl
theorem q2323 : (Jvm.Cond.selects "ElasticTruss$Member" ({ cls := "java/lang/Object", name := "equals", desc := "(Ljava/lang/Object;)Z" } : Jvm.MethodName) ({ cls := "java/lang/Object", name := "equals", desc := "(Ljava/lang/Object;)Z" } : Jvm.MethodName)) ∈ lw_all := lw_g (lw_at lw_m10 62 rfl) rfl
theorem q2936 : (Jvm.Cond.instantiable "ElasticTruss$Member" (6 : Nat)) ∈ lw_all := lw_g (lw_at lw_m12 195 rfl) rfl
theorem q2938 : (Jvm.Cond.instanceMethod ({ cls := "ElasticTruss$Member", name := "<init>", desc := "(IIIII)V" } : Jvm.MethodName)) ∈ lw_all := lw_g (lw_at lw_m12 197 rfl) rfl
theorem q2939 : (Jvm.Cond.code ({ cls := "ElasticTruss$Member", name := "<init>", desc := "(IIIII)V" } : Jvm.MethodName) prog_6_method_1_code (6 : Nat) (Option.none : Option Jvm.ClassFile.FieldType)) ∈ lw_all := lw_g (lw_at lw_m12 198 rfl) rfl
theorem q2940 : (Jvm.Cond.methodLink "ElasticTruss$Member" (1 : Nat) ({ cls := "java/lang/Object", name := "<init>", desc := "()V" } : Jvm.MethodName)) ∈ lw_all := lw_g (lw_at lw_m12 199 rfl) rfl
theorem q2941 : (Jvm.Cond.methodLinkNest "ElasticTruss$Member" (25 : Nat) ({ cls := "ElasticTruss", name := "root", desc := "(I)I" } : Jvm.MethodName) "ElasticTruss") ∈ lw_tbl := lw_at lw_m12 200 rfl
theorem q2946 : (Jvm.Cond.fieldLink "ElasticTruss$Member" (7 : Nat) "ElasticTruss$Member" "first" "I") ∈ lw_all := lw_g (lw_at lw_m12 205 rfl) rfl
theorem q2950 : (Jvm.Cond.fieldLink "ElasticTruss$Member" (13 : Nat) "ElasticTruss$Member" "second" "I") ∈ lw_all := lw_g (lw_at lw_m12 209 rfl) rfl
theorem q2954 : (Jvm.Cond.fieldLink "ElasticTruss$Member" (16 : Nat) "ElasticTruss$Member" "group" "I") ∈ lw_all := lw_g (lw_at lw_m12 213 rfl) rfl
theorem q2957 : (Jvm.Cond.fieldLink "ElasticTruss$Member" (19 : Nat) "ElasticTruss$Member" "dx" "I") ∈ lw_all := lw_g (lw_at lw_m12 216 rfl) rfl
theorem q2959 : (Jvm.Cond.fieldLink "ElasticTruss$Member" (22 : Nat) "ElasticTruss$Member" "dy" "I") ∈ lw_all := lw_g (lw_at lw_m12 218 rfl) rfl
theorem q2961 : (Jvm.Cond.fieldLink "ElasticTruss$Member" (31 : Nat) "ElasticTruss$Member" "length" "I") ∈ lw_all := lw_g (lw_at lw_m12 220 rfl) rfl
theorem q2966 : (Jvm.Cond.laysFinal "ElasticTruss$Member" "ElasticTruss$Member" "first" "I") ∈ lw_all := lw_g (lw_at lw_m12 225 rfl) rfl
theorem q2967 : (Jvm.Cond.soleField "ElasticTruss$Member" "first") ∈ lw_all := lw_g (lw_at lw_m12 226 rfl) rfl
theorem q2968 : (Jvm.Cond.laysFinal "ElasticTruss$Member" "ElasticTruss$Member" "second" "I") ∈ lw_all := lw_g (lw_at lw_m12 227 rfl) rfl
theorem q2969 : (Jvm.Cond.soleField "ElasticTruss$Member" "second") ∈ lw_all := lw_g (lw_at lw_m12 228 rfl) rfl
theorem q2970 : (Jvm.Cond.laysFinal "ElasticTruss$Member" "ElasticTruss$Member" "group" "I") ∈ lw_all := lw_g (lw_at lw_m12 229 rfl) rfl
theorem q2971 : (Jvm.Cond.soleField "ElasticTruss$Member" "group") ∈ lw_all := lw_g (lw_at lw_m12 230 rfl) rfl
theorem q2972 : (Jvm.Cond.laysFinal "ElasticTruss$Member" "ElasticTruss$Member" "dx" "I") ∈ lw_all := lw_g (lw_at lw_m12 231 rfl) rfl
theorem q2973 : (Jvm.Cond.soleField "ElasticTruss$Member" "dx") ∈ lw_all := lw_g (lw_at lw_m12 232 rfl) rfl
theorem q2974 : (Jvm.Cond.laysFinal "ElasticTruss$Member" "ElasticTruss$Member" "dy" "I") ∈ lw_all := lw_g (lw_at lw_m12 233 rfl) rfl
theorem q2975 : (Jvm.Cond.soleField "ElasticTruss$Member" "dy") ∈ lw_all := lw_g (lw_at lw_m12 234 rfl) rfl
theorem q2976 : (Jvm.Cond.laysFinal "ElasticTruss$Member" "ElasticTruss$Member" "length" "I") ∈ lw_all := lw_g (lw_at lw_m12 235 rfl) rfl
theorem q2977 : (Jvm.Cond.soleField "ElasticTruss$Member" "length") ∈ lw_all := lw_g (lw_at lw_m12 236 rfl) rfl
theorem q2978 : (Jvm.Cond.superclass "ElasticTruss$Member" "java/lang/Object") ∈ lw_all := lw_g (lw_at lw_m12 237 rfl) rfl
theorem q3844 : (Jvm.Cond.castable "ElasticTruss$Member" "java/lang/Object") ∈ lw_tbl := lw_at lw_m16 143 rfl
theorem in_X8 : ∀ w ∈ wsX80, w ∈ lw_all := lw_in wsX80 [2966, 2968, 2970, 2972, 2974, 2976] (by decide +kernel) (by decide +kernel)

-- X9.ElasticTruss_Load.lean.txt
/-! ElasticTruss$Load -/
set_option maxRecDepth 100000
def RX9 : String := "ElasticTruss$Load"
def TX9 : u_T := fun k => match k with
  | 0 => ("ElasticTruss$Load", "stage", "I", true)
  | 1 => ("ElasticTruss$Load", "node", "I", true)
  | 2 => ("ElasticTruss$Load", "fx", "I", true)
  | _ => ("ElasticTruss$Load", "fy", "I", true)
def tyX9 : Nat → FieldType := fun k => match k with
  | 0 => .int
  | 1 => .int
  | 2 => .int
  | _ => .int
abbrev wsX90 : List Cond := u_ws RX9 TX9 4
theorem nmX9 : ∀ a, a < 4 → ∀ b, b < 4 → a ≠ b → (TX9 a).2.1 ≠ (TX9 b).2.1 := by decide +kernel
theorem tyX9_ok : ∀ k, k < 4 → parseFieldDescriptor (TX9 k).2.2.1 = some (tyX9 k) := by decide +kernel
abbrev cX9_stage : ByteArray := prog_5_method_5_code
def yX9_stage : MethodName := ⟨RX9, "stage", "()I"⟩
theorem dX9_stage_0 : decode cX9_stage 0 = .ok (.aload_n 0, 1) := by decide +kernel
theorem dX9_stage_1 : decode cX9_stage 1 = .ok (.getfield 7, 3) := by decide +kernel
theorem dX9_stage_4 : decode cX9_stage 4 = .ok (.ireturn, 1) := by decide +kernel
abbrev cX9_node : ByteArray := prog_5_method_6_code
def yX9_node : MethodName := ⟨RX9, "node", "()I"⟩
theorem dX9_node_0 : decode cX9_node 0 = .ok (.aload_n 0, 1) := by decide +kernel
theorem dX9_node_1 : decode cX9_node 1 = .ok (.getfield 13, 3) := by decide +kernel
theorem dX9_node_4 : decode cX9_node 4 = .ok (.ireturn, 1) := by decide +kernel
abbrev cX9_fx : ByteArray := prog_5_method_7_code
def yX9_fx : MethodName := ⟨RX9, "fx", "()I"⟩
theorem dX9_fx_0 : decode cX9_fx 0 = .ok (.aload_n 0, 1) := by decide +kernel
theorem dX9_fx_1 : decode cX9_fx 1 = .ok (.getfield 16, 3) := by decide +kernel
theorem dX9_fx_4 : decode cX9_fx 4 = .ok (.ireturn, 1) := by decide +kernel
abbrev cX9_fy : ByteArray := prog_5_method_8_code
def yX9_fy : MethodName := ⟨RX9, "fy", "()I"⟩
theorem dX9_fy_0 : decode cX9_fy 0 = .ok (.aload_n 0, 1) := by decide +kernel
theorem dX9_fy_1 : decode cX9_fy 1 = .ok (.getfield 19, 3) := by decide +kernel
theorem dX9_fy_4 : decode cX9_fy 4 = .ok (.ireturn, 1) := by decide +kernel
abbrev cX9_hashCode : ByteArray := prog_5_method_3_code
def yX9_hashCode : MethodName := ⟨RX9, "hashCode", "()I"⟩
theorem dX9_hashCode_0 : decode cX9_hashCode 0 = .ok (.aload_n 0, 1) := by decide +kernel
theorem dX9_hashCode_1 : decode cX9_hashCode 1 = .ok (.invokedynamic 26, 5) := by decide +kernel
theorem dX9_hashCode_6 : decode cX9_hashCode 6 = .ok (.ireturn, 1) := by decide +kernel
abbrev cX9_equals : ByteArray := prog_5_method_4_code
def yX9_equals : MethodName := ⟨RX9, "equals", "(Ljava/lang/Object;)Z"⟩
def dkwX9_equals_0 : List UInt8 := [42, 43, 186, 0, 30, 0, 0, 172]
abbrev dktX9_equals_0 : List UInt8 := dkwX9_equals_0 ++ []
theorem dksX9_equals_0 : cX9_equals.data.toList.drop 0 = dktX9_equals_0 := by decide +kernel
theorem dX9_equals_0 : decode cX9_equals 0 = .ok (.aload_n 0, 1) := dk_42 (dk_at dksX9_equals_0 0 rfl rfl)
theorem dX9_equals_1 : decode cX9_equals 1 = .ok (.aload_n 1, 1) := dk_43 (dk_at dksX9_equals_0 1 rfl rfl)
theorem dX9_equals_2 : decode cX9_equals 2 = .ok (.invokedynamic 30, 5) := by decide +kernel
theorem dX9_equals_7 : decode cX9_equals 7 = .ok (.ireturn, 1) := dk_172 (dk_at dksX9_equals_0 7 rfl rfl)
abbrev cX9_init : ByteArray := prog_5_method_1_code
def yX9_init : MethodName := ⟨RX9, "<init>", "(IIII)V"⟩
def dkwX9_init_1 : List UInt8 := [181, 0, 19, 177]
abbrev dktX9_init_1 : List UInt8 := dkwX9_init_1 ++ []
def dkwX9_init_0 : List UInt8 := [42, 183, 0, 1, 42, 27, 181, 0, 7, 42, 28, 181, 0, 13, 42, 29, 181, 0, 16, 42, 21, 4]
abbrev dktX9_init_0 : List UInt8 := dkwX9_init_0 ++ dktX9_init_1
theorem dksX9_init_0 : cX9_init.data.toList.drop 0 = dktX9_init_0 := by decide +kernel
theorem dksX9_init_1 : cX9_init.data.toList.drop 22 = dktX9_init_1 := dk_seg dksX9_init_0 22 rfl rfl
theorem dX9_init_0 : decode cX9_init 0 = .ok (.aload_n 0, 1) := dk_42 (dk_at dksX9_init_0 0 rfl rfl)
theorem dX9_init_1 : decode cX9_init 1 = .ok (.invokespecial 1, 3) := dk_183 0 1 (dk_at dksX9_init_0 1 rfl rfl)
theorem dX9_init_4 : decode cX9_init 4 = .ok (.aload_n 0, 1) := dk_42 (dk_at dksX9_init_0 4 rfl rfl)
theorem dX9_init_5 : decode cX9_init 5 = .ok (.iload_n 1, 1) := dk_27 (dk_at dksX9_init_0 5 rfl rfl)
theorem dX9_init_6 : decode cX9_init 6 = .ok (.putfield 7, 3) := dk_181 0 7 (dk_at dksX9_init_0 6 rfl rfl)
theorem dX9_init_9 : decode cX9_init 9 = .ok (.aload_n 0, 1) := dk_42 (dk_at dksX9_init_0 9 rfl rfl)
theorem dX9_init_10 : decode cX9_init 10 = .ok (.iload_n 2, 1) := dk_28 (dk_at dksX9_init_0 10 rfl rfl)
theorem dX9_init_11 : decode cX9_init 11 = .ok (.putfield 13, 3) := dk_181 0 13 (dk_at dksX9_init_0 11 rfl rfl)
theorem dX9_init_14 : decode cX9_init 14 = .ok (.aload_n 0, 1) := dk_42 (dk_at dksX9_init_0 14 rfl rfl)
theorem dX9_init_15 : decode cX9_init 15 = .ok (.iload_n 3, 1) := dk_29 (dk_at dksX9_init_0 15 rfl rfl)
theorem dX9_init_16 : decode cX9_init 16 = .ok (.putfield 16, 3) := dk_181 0 16 (dk_at dksX9_init_0 16 rfl rfl)
theorem dX9_init_19 : decode cX9_init 19 = .ok (.aload_n 0, 1) := dk_42 (dk_at dksX9_init_0 19 rfl rfl)
theorem dX9_init_20 : decode cX9_init 20 = .ok (.iload 4, 2) := dk_21 4 (dk_at dksX9_init_0 20 rfl rfl)
theorem dX9_init_22 : decode cX9_init 22 = .ok (.putfield 19, 3) := dk_181 0 19 (dk_at dksX9_init_1 0 rfl rfl)
theorem dX9_init_25 : decode cX9_init 25 = .ok (.return_, 1) := dk_177 (dk_at dksX9_init_1 3 rfl rfl)
theorem q142 : (Jvm.Cond.initialized "ElasticTruss$Load") ∈ lw_all := lw_g (lw_at lw_m1 41 rfl) rfl
theorem q878 : (Jvm.Cond.instanceMethod ({ cls := "ElasticTruss$Load", name := "stage", desc := "()I" } : Jvm.MethodName)) ∈ lw_all := lw_g (lw_at lw_m4 57 rfl) rfl
theorem q879 : (Jvm.Cond.selects "ElasticTruss$Load" ({ cls := "ElasticTruss$Load", name := "stage", desc := "()I" } : Jvm.MethodName) ({ cls := "ElasticTruss$Load", name := "stage", desc := "()I" } : Jvm.MethodName)) ∈ lw_all := lw_g (lw_at lw_m4 58 rfl) rfl
theorem q880 : (Jvm.Cond.code ({ cls := "ElasticTruss$Load", name := "stage", desc := "()I" } : Jvm.MethodName) prog_5_method_5_code (1 : Nat) (Option.some Jvm.ClassFile.FieldType.int)) ∈ lw_all := lw_g (lw_at lw_m4 59 rfl) rfl
theorem q1212 : (Jvm.Cond.instanceMethod ({ cls := "ElasticTruss$Load", name := "node", desc := "()I" } : Jvm.MethodName)) ∈ lw_all := lw_g (lw_at lw_m5 151 rfl) rfl
theorem q1213 : (Jvm.Cond.selects "ElasticTruss$Load" ({ cls := "ElasticTruss$Load", name := "node", desc := "()I" } : Jvm.MethodName) ({ cls := "ElasticTruss$Load", name := "node", desc := "()I" } : Jvm.MethodName)) ∈ lw_all := lw_g (lw_at lw_m5 152 rfl) rfl
theorem q1214 : (Jvm.Cond.code ({ cls := "ElasticTruss$Load", name := "node", desc := "()I" } : Jvm.MethodName) prog_5_method_6_code (1 : Nat) (Option.some Jvm.ClassFile.FieldType.int)) ∈ lw_all := lw_g (lw_at lw_m5 153 rfl) rfl
theorem q1217 : (Jvm.Cond.instanceMethod ({ cls := "ElasticTruss$Load", name := "fx", desc := "()I" } : Jvm.MethodName)) ∈ lw_all := lw_g (lw_at lw_m5 156 rfl) rfl
theorem q1218 : (Jvm.Cond.selects "ElasticTruss$Load" ({ cls := "ElasticTruss$Load", name := "fx", desc := "()I" } : Jvm.MethodName) ({ cls := "ElasticTruss$Load", name := "fx", desc := "()I" } : Jvm.MethodName)) ∈ lw_all := lw_g (lw_at lw_m5 157 rfl) rfl
theorem q1219 : (Jvm.Cond.code ({ cls := "ElasticTruss$Load", name := "fx", desc := "()I" } : Jvm.MethodName) prog_5_method_7_code (1 : Nat) (Option.some Jvm.ClassFile.FieldType.int)) ∈ lw_all := lw_g (lw_at lw_m5 158 rfl) rfl
theorem q1221 : (Jvm.Cond.instanceMethod ({ cls := "ElasticTruss$Load", name := "fy", desc := "()I" } : Jvm.MethodName)) ∈ lw_all := lw_g (lw_at lw_m5 160 rfl) rfl
theorem q1222 : (Jvm.Cond.selects "ElasticTruss$Load" ({ cls := "ElasticTruss$Load", name := "fy", desc := "()I" } : Jvm.MethodName) ({ cls := "ElasticTruss$Load", name := "fy", desc := "()I" } : Jvm.MethodName)) ∈ lw_all := lw_g (lw_at lw_m5 161 rfl) rfl
theorem q1223 : (Jvm.Cond.code ({ cls := "ElasticTruss$Load", name := "fy", desc := "()I" } : Jvm.MethodName) prog_5_method_8_code (1 : Nat) (Option.some Jvm.ClassFile.FieldType.int)) ∈ lw_all := lw_g (lw_at lw_m5 162 rfl) rfl
theorem q1682 : (Jvm.Cond.selects "ElasticTruss$Load" ({ cls := "java/lang/Object", name := "getClass", desc := "()Ljava/lang/Class;" } : Jvm.MethodName) ({ cls := "java/lang/Object", name := "getClass", desc := "()Ljava/lang/Class;" } : Jvm.MethodName)) ∈ lw_all := lw_g (lw_at lw_m7 141 rfl) rfl
theorem q1882 : (Jvm.Cond.selects "ElasticTruss$Load" ({ cls := "java/lang/Object", name := "hashCode", desc := "()I" } : Jvm.MethodName) ({ cls := "ElasticTruss$Load", name := "hashCode", desc := "()I" } : Jvm.MethodName)) ∈ lw_all := lw_g (lw_at lw_m8 101 rfl) rfl
theorem q1883 : (Jvm.Cond.instanceMethod ({ cls := "ElasticTruss$Load", name := "hashCode", desc := "()I" } : Jvm.MethodName)) ∈ lw_all := lw_g (lw_at lw_m8 102 rfl) rfl
theorem q1884 : (Jvm.Cond.code ({ cls := "ElasticTruss$Load", name := "hashCode", desc := "()I" } : Jvm.MethodName) prog_5_method_3_code (1 : Nat) (Option.some Jvm.ClassFile.FieldType.int)) ∈ lw_all := lw_g (lw_at lw_m8 103 rfl) rfl
theorem q2320 : (Jvm.Cond.selects "ElasticTruss$Load" ({ cls := "java/lang/Object", name := "equals", desc := "(Ljava/lang/Object;)Z" } : Jvm.MethodName) ({ cls := "ElasticTruss$Load", name := "equals", desc := "(Ljava/lang/Object;)Z" } : Jvm.MethodName)) ∈ lw_all := lw_g (lw_at lw_m10 59 rfl) rfl
theorem q2321 : (Jvm.Cond.instanceMethod ({ cls := "ElasticTruss$Load", name := "equals", desc := "(Ljava/lang/Object;)Z" } : Jvm.MethodName)) ∈ lw_all := lw_g (lw_at lw_m10 60 rfl) rfl
theorem q2322 : (Jvm.Cond.code ({ cls := "ElasticTruss$Load", name := "equals", desc := "(Ljava/lang/Object;)Z" } : Jvm.MethodName) prog_5_method_4_code (2 : Nat) (Option.some Jvm.ClassFile.FieldType.boolean)) ∈ lw_all := lw_g (lw_at lw_m10 61 rfl) rfl
theorem q2996 : (Jvm.Cond.instantiable "ElasticTruss$Load" (4 : Nat)) ∈ lw_all := lw_g (lw_at lw_m13 15 rfl) rfl
theorem q2998 : (Jvm.Cond.instanceMethod ({ cls := "ElasticTruss$Load", name := "<init>", desc := "(IIII)V" } : Jvm.MethodName)) ∈ lw_all := lw_g (lw_at lw_m13 17 rfl) rfl
theorem q2999 : (Jvm.Cond.code ({ cls := "ElasticTruss$Load", name := "<init>", desc := "(IIII)V" } : Jvm.MethodName) prog_5_method_1_code (5 : Nat) (Option.none : Option Jvm.ClassFile.FieldType)) ∈ lw_all := lw_g (lw_at lw_m13 18 rfl) rfl
theorem q3000 : (Jvm.Cond.methodLink "ElasticTruss$Load" (1 : Nat) ({ cls := "java/lang/Record", name := "<init>", desc := "()V" } : Jvm.MethodName)) ∈ lw_all := lw_g (lw_at lw_m13 19 rfl) rfl
theorem q3004 : (Jvm.Cond.fieldLink "ElasticTruss$Load" (7 : Nat) "ElasticTruss$Load" "stage" "I") ∈ lw_all := lw_g (lw_at lw_m13 23 rfl) rfl
theorem q3005 : (Jvm.Cond.fieldLink "ElasticTruss$Load" (13 : Nat) "ElasticTruss$Load" "node" "I") ∈ lw_all := lw_g (lw_at lw_m13 24 rfl) rfl
theorem q3006 : (Jvm.Cond.fieldLink "ElasticTruss$Load" (16 : Nat) "ElasticTruss$Load" "fx" "I") ∈ lw_all := lw_g (lw_at lw_m13 25 rfl) rfl
theorem q3007 : (Jvm.Cond.fieldLink "ElasticTruss$Load" (19 : Nat) "ElasticTruss$Load" "fy" "I") ∈ lw_all := lw_g (lw_at lw_m13 26 rfl) rfl
theorem q3008 : (Jvm.Cond.laysFinal "ElasticTruss$Load" "ElasticTruss$Load" "stage" "I") ∈ lw_all := lw_g (lw_at lw_m13 27 rfl) rfl
theorem q3009 : (Jvm.Cond.soleField "ElasticTruss$Load" "stage") ∈ lw_all := lw_g (lw_at lw_m13 28 rfl) rfl
theorem q3010 : (Jvm.Cond.laysFinal "ElasticTruss$Load" "ElasticTruss$Load" "node" "I") ∈ lw_all := lw_g (lw_at lw_m13 29 rfl) rfl
theorem q3011 : (Jvm.Cond.soleField "ElasticTruss$Load" "node") ∈ lw_all := lw_g (lw_at lw_m13 30 rfl) rfl
theorem q3012 : (Jvm.Cond.laysFinal "ElasticTruss$Load" "ElasticTruss$Load" "fx" "I") ∈ lw_all := lw_g (lw_at lw_m13 31 rfl) rfl
theorem q3013 : (Jvm.Cond.soleField "ElasticTruss$Load" "fx") ∈ lw_all := lw_g (lw_at lw_m13 32 rfl) rfl
theorem q3014 : (Jvm.Cond.laysFinal "ElasticTruss$Load" "ElasticTruss$Load" "fy" "I") ∈ lw_all := lw_g (lw_at lw_m13 33 rfl) rfl
theorem q3015 : (Jvm.Cond.soleField "ElasticTruss$Load" "fy") ∈ lw_all := lw_g (lw_at lw_m13 34 rfl) rfl
theorem q3016 : (Jvm.Cond.superclass "ElasticTruss$Load" "java/lang/Record") ∈ lw_all := lw_g (lw_at lw_m13 35 rfl) rfl
theorem q3865 : (Jvm.Cond.castable "ElasticTruss$Load" "java/lang/Object") ∈ lw_tbl := lw_at lw_m16 164 rfl
theorem in_X9 : ∀ w ∈ wsX90, w ∈ lw_all := lw_in wsX90 [3008, 3010, 3012, 3014] (by decide +kernel) (by decide +kernel)

-- X10.ElasticTruss_Chain.lean.txt
/-! ElasticTruss$Chain -/
set_option maxRecDepth 100000
def RX10 : String := "ElasticTruss$Chain"
def TX10 : u_T := fun k => match k with
  | 0 => ("ElasticTruss$Chain", "first", "LElasticTruss$Quantity;", true)
  | 1 => ("ElasticTruss$Chain", "firstLink", "LElasticTruss$Chain$Link;", false)
  | _ => ("ElasticTruss$Chain", "lastLink", "LElasticTruss$Chain$Link;", false)
def tyX10 : Nat → FieldType := fun k => match k with
  | 0 => .object "ElasticTruss$Quantity"
  | 1 => .object "ElasticTruss$Chain$Link"
  | _ => .object "ElasticTruss$Chain$Link"
abbrev wsX100 : List Cond := u_ws RX10 TX10 3
theorem nmX10 : ∀ a, a < 3 → ∀ b, b < 3 → a ≠ b → (TX10 a).2.1 ≠ (TX10 b).2.1 := by decide +kernel
theorem tyX10_ok : ∀ k, k < 3 → parseFieldDescriptor (TX10 k).2.2.1 = some (tyX10 k) := by decide +kernel
abbrev cX10_of : ByteArray := prog_2_method_3_code
def yX10_of : MethodName := ⟨RX10, "of", "(LElasticTruss$Member;II)J"⟩
def dkwX10_of_2 : List UInt8 := [182, 0, 41, 184, 0, 47, 55, 4, 25, 6, 180, 0, 25, 58, 6, 167, 255, 216, 22, 4, 173]
abbrev dktX10_of_2 : List UInt8 := dkwX10_of_2 ++ []
def dkwX10_of_1 : List UInt8 := [198, 0, 41, 25, 6, 180, 0, 34, 22, 4, 25, 6, 180, 0, 38, 43, 28, 29, 185, 0, 28, 4, 0]
abbrev dktX10_of_1 : List UInt8 := dkwX10_of_1 ++ dktX10_of_2
def dkwX10_of_0 : List UInt8 := [42, 180, 0, 7, 43, 28, 29, 185, 0, 28, 4, 0, 55, 4, 42, 180, 0, 18, 58, 6, 25, 6]
abbrev dktX10_of_0 : List UInt8 := dkwX10_of_0 ++ dktX10_of_1
theorem dksX10_of_0 : cX10_of.data.toList.drop 0 = dktX10_of_0 := by decide +kernel
theorem dksX10_of_1 : cX10_of.data.toList.drop 22 = dktX10_of_1 := dk_seg dksX10_of_0 22 rfl rfl
theorem dksX10_of_2 : cX10_of.data.toList.drop 45 = dktX10_of_2 := dk_seg dksX10_of_1 23 rfl rfl
theorem dX10_of_0 : decode cX10_of 0 = .ok (.aload_n 0, 1) := dk_42 (dk_at dksX10_of_0 0 rfl rfl)
theorem dX10_of_1 : decode cX10_of 1 = .ok (.getfield 7, 3) := dk_180 0 7 (dk_at dksX10_of_0 1 rfl rfl)
theorem dX10_of_4 : decode cX10_of 4 = .ok (.aload_n 1, 1) := dk_43 (dk_at dksX10_of_0 4 rfl rfl)
theorem dX10_of_5 : decode cX10_of 5 = .ok (.iload_n 2, 1) := dk_28 (dk_at dksX10_of_0 5 rfl rfl)
theorem dX10_of_6 : decode cX10_of 6 = .ok (.iload_n 3, 1) := dk_29 (dk_at dksX10_of_0 6 rfl rfl)
theorem dX10_of_7 : decode cX10_of 7 = .ok (.invokeinterface 28 4, 5) := by decide +kernel
theorem dX10_of_12 : decode cX10_of 12 = .ok (.lstore 4, 2) := dk_55 4 (dk_at dksX10_of_0 12 rfl rfl)
theorem dX10_of_14 : decode cX10_of 14 = .ok (.aload_n 0, 1) := dk_42 (dk_at dksX10_of_0 14 rfl rfl)
theorem dX10_of_15 : decode cX10_of 15 = .ok (.getfield 18, 3) := dk_180 0 18 (dk_at dksX10_of_0 15 rfl rfl)
theorem dX10_of_18 : decode cX10_of 18 = .ok (.astore 6, 2) := dk_58 6 (dk_at dksX10_of_0 18 rfl rfl)
theorem dX10_of_20 : decode cX10_of 20 = .ok (.aload 6, 2) := dk_25 6 (dk_at dksX10_of_0 20 rfl rfl)
theorem dX10_of_22 : decode cX10_of 22 = .ok (.ifnull 41, 3) := dk_198 0 41 (dk_at dksX10_of_1 0 rfl rfl)
theorem dX10_of_25 : decode cX10_of 25 = .ok (.aload 6, 2) := dk_25 6 (dk_at dksX10_of_1 3 rfl rfl)
theorem dX10_of_27 : decode cX10_of 27 = .ok (.getfield 34, 3) := dk_180 0 34 (dk_at dksX10_of_1 5 rfl rfl)
theorem dX10_of_30 : decode cX10_of 30 = .ok (.lload 4, 2) := dk_22 4 (dk_at dksX10_of_1 8 rfl rfl)
theorem dX10_of_32 : decode cX10_of 32 = .ok (.aload 6, 2) := dk_25 6 (dk_at dksX10_of_1 10 rfl rfl)
theorem dX10_of_34 : decode cX10_of 34 = .ok (.getfield 38, 3) := dk_180 0 38 (dk_at dksX10_of_1 12 rfl rfl)
theorem dX10_of_37 : decode cX10_of 37 = .ok (.aload_n 1, 1) := dk_43 (dk_at dksX10_of_1 15 rfl rfl)
theorem dX10_of_38 : decode cX10_of 38 = .ok (.iload_n 2, 1) := dk_28 (dk_at dksX10_of_1 16 rfl rfl)
theorem dX10_of_39 : decode cX10_of 39 = .ok (.iload_n 3, 1) := dk_29 (dk_at dksX10_of_1 17 rfl rfl)
theorem dX10_of_40 : decode cX10_of 40 = .ok (.invokeinterface 28 4, 5) := by decide +kernel
theorem dX10_of_45 : decode cX10_of 45 = .ok (.invokevirtual 41, 3) := dk_182 0 41 (dk_at dksX10_of_2 0 rfl rfl)
theorem dX10_of_48 : decode cX10_of 48 = .ok (.invokestatic 47, 3) := dk_184 0 47 (dk_at dksX10_of_2 3 rfl rfl)
theorem dX10_of_51 : decode cX10_of 51 = .ok (.lstore 4, 2) := dk_55 4 (dk_at dksX10_of_2 6 rfl rfl)
theorem dX10_of_53 : decode cX10_of 53 = .ok (.aload 6, 2) := dk_25 6 (dk_at dksX10_of_2 8 rfl rfl)
theorem dX10_of_55 : decode cX10_of 55 = .ok (.getfield 25, 3) := dk_180 0 25 (dk_at dksX10_of_2 10 rfl rfl)
theorem dX10_of_58 : decode cX10_of 58 = .ok (.astore 6, 2) := dk_58 6 (dk_at dksX10_of_2 13 rfl rfl)
theorem dX10_of_60 : decode cX10_of 60 = .ok (.goto (-40), 3) := dk_167 255 216 (dk_at dksX10_of_2 15 rfl rfl)
theorem dX10_of_63 : decode cX10_of 63 = .ok (.lload 4, 2) := dk_22 4 (dk_at dksX10_of_2 18 rfl rfl)
theorem dX10_of_65 : decode cX10_of 65 = .ok (.lreturn, 1) := dk_173 (dk_at dksX10_of_2 20 rfl rfl)
abbrev cX10_init : ByteArray := prog_2_method_1_code
def yX10_init : MethodName := ⟨RX10, "<init>", "(LElasticTruss$Quantity;)V"⟩
def dkwX10_init_0 : List UInt8 := [42, 183, 0, 1, 42, 43, 181, 0, 7, 177]
abbrev dktX10_init_0 : List UInt8 := dkwX10_init_0 ++ []
theorem dksX10_init_0 : cX10_init.data.toList.drop 0 = dktX10_init_0 := by decide +kernel
theorem dX10_init_0 : decode cX10_init 0 = .ok (.aload_n 0, 1) := dk_42 (dk_at dksX10_init_0 0 rfl rfl)
theorem dX10_init_1 : decode cX10_init 1 = .ok (.invokespecial 1, 3) := dk_183 0 1 (dk_at dksX10_init_0 1 rfl rfl)
theorem dX10_init_4 : decode cX10_init 4 = .ok (.aload_n 0, 1) := dk_42 (dk_at dksX10_init_0 4 rfl rfl)
theorem dX10_init_5 : decode cX10_init 5 = .ok (.aload_n 1, 1) := dk_43 (dk_at dksX10_init_0 5 rfl rfl)
theorem dX10_init_6 : decode cX10_init 6 = .ok (.putfield 7, 3) := dk_181 0 7 (dk_at dksX10_init_0 6 rfl rfl)
theorem dX10_init_9 : decode cX10_init 9 = .ok (.return_, 1) := dk_177 (dk_at dksX10_init_0 9 rfl rfl)
abbrev cX10_add : ByteArray := prog_2_method_2_code
def yX10_add : MethodName := ⟨RX10, "add", "(LElasticTruss$Operator;LElasticTruss$Quantity;)V"⟩
def dkwX10_add_1 : List UInt8 := [167, 0, 11, 42, 180, 0, 22, 45, 181, 0, 25, 42, 45, 181, 0, 22, 177]
abbrev dktX10_add_1 : List UInt8 := dkwX10_add_1 ++ []
def dkwX10_add_0 : List UInt8 := [187, 0, 13, 89, 43, 44, 183, 0, 15, 78, 42, 180, 0, 18, 199, 0, 11, 42, 45, 181, 0, 18]
abbrev dktX10_add_0 : List UInt8 := dkwX10_add_0 ++ dktX10_add_1
theorem dksX10_add_0 : cX10_add.data.toList.drop 0 = dktX10_add_0 := by decide +kernel
theorem dksX10_add_1 : cX10_add.data.toList.drop 22 = dktX10_add_1 := dk_seg dksX10_add_0 22 rfl rfl
theorem dX10_add_0 : decode cX10_add 0 = .ok (.new 13, 3) := dk_187 0 13 (dk_at dksX10_add_0 0 rfl rfl)
theorem dX10_add_3 : decode cX10_add 3 = .ok (.dup, 1) := dk_89 (dk_at dksX10_add_0 3 rfl rfl)
theorem dX10_add_4 : decode cX10_add 4 = .ok (.aload_n 1, 1) := dk_43 (dk_at dksX10_add_0 4 rfl rfl)
theorem dX10_add_5 : decode cX10_add 5 = .ok (.aload_n 2, 1) := dk_44 (dk_at dksX10_add_0 5 rfl rfl)
theorem dX10_add_6 : decode cX10_add 6 = .ok (.invokespecial 15, 3) := dk_183 0 15 (dk_at dksX10_add_0 6 rfl rfl)
theorem dX10_add_9 : decode cX10_add 9 = .ok (.astore_n 3, 1) := dk_78 (dk_at dksX10_add_0 9 rfl rfl)
theorem dX10_add_10 : decode cX10_add 10 = .ok (.aload_n 0, 1) := dk_42 (dk_at dksX10_add_0 10 rfl rfl)
theorem dX10_add_11 : decode cX10_add 11 = .ok (.getfield 18, 3) := dk_180 0 18 (dk_at dksX10_add_0 11 rfl rfl)
theorem dX10_add_14 : decode cX10_add 14 = .ok (.ifnonnull 11, 3) := dk_199 0 11 (dk_at dksX10_add_0 14 rfl rfl)
theorem dX10_add_17 : decode cX10_add 17 = .ok (.aload_n 0, 1) := dk_42 (dk_at dksX10_add_0 17 rfl rfl)
theorem dX10_add_18 : decode cX10_add 18 = .ok (.aload_n 3, 1) := dk_45 (dk_at dksX10_add_0 18 rfl rfl)
theorem dX10_add_19 : decode cX10_add 19 = .ok (.putfield 18, 3) := dk_181 0 18 (dk_at dksX10_add_0 19 rfl rfl)
theorem dX10_add_22 : decode cX10_add 22 = .ok (.goto 11, 3) := dk_167 0 11 (dk_at dksX10_add_1 0 rfl rfl)
theorem dX10_add_25 : decode cX10_add 25 = .ok (.aload_n 0, 1) := dk_42 (dk_at dksX10_add_1 3 rfl rfl)
theorem dX10_add_26 : decode cX10_add 26 = .ok (.getfield 22, 3) := dk_180 0 22 (dk_at dksX10_add_1 4 rfl rfl)
theorem dX10_add_29 : decode cX10_add 29 = .ok (.aload_n 3, 1) := dk_45 (dk_at dksX10_add_1 7 rfl rfl)
theorem dX10_add_30 : decode cX10_add 30 = .ok (.putfield 25, 3) := dk_181 0 25 (dk_at dksX10_add_1 8 rfl rfl)
theorem dX10_add_33 : decode cX10_add 33 = .ok (.aload_n 0, 1) := dk_42 (dk_at dksX10_add_1 11 rfl rfl)
theorem dX10_add_34 : decode cX10_add 34 = .ok (.aload_n 3, 1) := dk_45 (dk_at dksX10_add_1 12 rfl rfl)
theorem dX10_add_35 : decode cX10_add 35 = .ok (.putfield 22, 3) := dk_181 0 22 (dk_at dksX10_add_1 13 rfl rfl)
theorem dX10_add_38 : decode cX10_add 38 = .ok (.return_, 1) := dk_177 (dk_at dksX10_add_1 16 rfl rfl)
theorem q143 : (Jvm.Cond.initialized "ElasticTruss$Chain") ∈ lw_all := lw_g (lw_at lw_m1 42 rfl) rfl
theorem q1263 : (Jvm.Cond.castable "ElasticTruss$Chain" "ElasticTruss$Quantity") ∈ lw_tbl := lw_at lw_m5 202 rfl
theorem q1264 : (Jvm.Cond.selects "ElasticTruss$Chain" ({ cls := "ElasticTruss$Quantity", name := "of", desc := "(LElasticTruss$Member;II)J" } : Jvm.MethodName) ({ cls := "ElasticTruss$Chain", name := "of", desc := "(LElasticTruss$Member;II)J" } : Jvm.MethodName)) ∈ lw_all := lw_g (lw_at lw_m5 203 rfl) rfl
theorem q1265 : (Jvm.Cond.unhidden "ElasticTruss$Chain" "of" "(LElasticTruss$Member;II)J") ∈ lw_tbl := lw_at lw_m5 204 rfl
theorem q1266 : (Jvm.Cond.instanceMethod ({ cls := "ElasticTruss$Chain", name := "of", desc := "(LElasticTruss$Member;II)J" } : Jvm.MethodName)) ∈ lw_all := lw_g (lw_at lw_m5 205 rfl) rfl
theorem q1267 : (Jvm.Cond.publicMethod ({ cls := "ElasticTruss$Chain", name := "of", desc := "(LElasticTruss$Member;II)J" } : Jvm.MethodName)) ∈ lw_tbl := lw_at lw_m5 206 rfl
theorem q1268 : (Jvm.Cond.code ({ cls := "ElasticTruss$Chain", name := "of", desc := "(LElasticTruss$Member;II)J" } : Jvm.MethodName) prog_2_method_3_code (7 : Nat) (Option.some Jvm.ClassFile.FieldType.long)) ∈ lw_all := lw_g (lw_at lw_m5 207 rfl) rfl
theorem q1269 : (Jvm.Cond.interfaceEntry "ElasticTruss$Chain" (28 : Nat)) ∈ lw_tbl := lw_at lw_m5 208 rfl
theorem q1270 : (Jvm.Cond.methodLink "ElasticTruss$Chain" (28 : Nat) ({ cls := "ElasticTruss$Quantity", name := "of", desc := "(LElasticTruss$Member;II)J" } : Jvm.MethodName)) ∈ lw_all := lw_g (lw_at lw_m5 209 rfl) rfl
theorem q1271 : (Jvm.Cond.methodLink "ElasticTruss$Chain" (41 : Nat) ({ cls := "ElasticTruss$Operator", name := "apply", desc := "(JJ)J" } : Jvm.MethodName)) ∈ lw_all := lw_g (lw_at lw_m5 210 rfl) rfl
theorem q1286 : (Jvm.Cond.methodLinkNest "ElasticTruss$Chain" (47 : Nat) ({ cls := "ElasticTruss", name := "limited", desc := "(J)J" } : Jvm.MethodName) "ElasticTruss") ∈ lw_tbl := lw_at lw_m5 225 rfl
theorem q1659 : (Jvm.Cond.selects "ElasticTruss$Chain" ({ cls := "java/lang/Object", name := "toString", desc := "()Ljava/lang/String;" } : Jvm.MethodName) ({ cls := "java/lang/Object", name := "toString", desc := "()Ljava/lang/String;" } : Jvm.MethodName)) ∈ lw_all := lw_g (lw_at lw_m7 118 rfl) rfl
theorem q1679 : (Jvm.Cond.selects "ElasticTruss$Chain" ({ cls := "java/lang/Object", name := "getClass", desc := "()Ljava/lang/Class;" } : Jvm.MethodName) ({ cls := "java/lang/Object", name := "getClass", desc := "()Ljava/lang/Class;" } : Jvm.MethodName)) ∈ lw_all := lw_g (lw_at lw_m7 138 rfl) rfl
theorem q1877 : (Jvm.Cond.selects "ElasticTruss$Chain" ({ cls := "java/lang/Object", name := "hashCode", desc := "()I" } : Jvm.MethodName) ({ cls := "java/lang/Object", name := "hashCode", desc := "()I" } : Jvm.MethodName)) ∈ lw_all := lw_g (lw_at lw_m8 96 rfl) rfl
theorem q2314 : (Jvm.Cond.selects "ElasticTruss$Chain" ({ cls := "java/lang/Object", name := "equals", desc := "(Ljava/lang/Object;)Z" } : Jvm.MethodName) ({ cls := "java/lang/Object", name := "equals", desc := "(Ljava/lang/Object;)Z" } : Jvm.MethodName)) ∈ lw_all := lw_g (lw_at lw_m10 53 rfl) rfl
theorem q3023 : (Jvm.Cond.instantiable "ElasticTruss$Chain" (3 : Nat)) ∈ lw_all := lw_g (lw_at lw_m13 42 rfl) rfl
theorem q3044 : (Jvm.Cond.instanceMethod ({ cls := "ElasticTruss$Chain", name := "<init>", desc := "(LElasticTruss$Quantity;)V" } : Jvm.MethodName)) ∈ lw_all := lw_g (lw_at lw_m13 63 rfl) rfl
theorem q3045 : (Jvm.Cond.code ({ cls := "ElasticTruss$Chain", name := "<init>", desc := "(LElasticTruss$Quantity;)V" } : Jvm.MethodName) prog_2_method_1_code (2 : Nat) (Option.none : Option Jvm.ClassFile.FieldType)) ∈ lw_all := lw_g (lw_at lw_m13 64 rfl) rfl
theorem q3046 : (Jvm.Cond.methodLink "ElasticTruss$Chain" (1 : Nat) ({ cls := "java/lang/Object", name := "<init>", desc := "()V" } : Jvm.MethodName)) ∈ lw_all := lw_g (lw_at lw_m13 65 rfl) rfl
theorem q3047 : (Jvm.Cond.fieldLink "ElasticTruss$Chain" (7 : Nat) "ElasticTruss$Chain" "first" "LElasticTruss$Quantity;") ∈ lw_all := lw_g (lw_at lw_m13 66 rfl) rfl
theorem q3048 : (Jvm.Cond.fieldLink "ElasticTruss$Chain" (18 : Nat) "ElasticTruss$Chain" "firstLink" "LElasticTruss$Chain$Link;") ∈ lw_all := lw_g (lw_at lw_m13 67 rfl) rfl
theorem q3049 : (Jvm.Cond.fieldLink "ElasticTruss$Chain" (22 : Nat) "ElasticTruss$Chain" "lastLink" "LElasticTruss$Chain$Link;") ∈ lw_all := lw_g (lw_at lw_m13 68 rfl) rfl
theorem q3050 : (Jvm.Cond.laysFinal "ElasticTruss$Chain" "ElasticTruss$Chain" "first" "LElasticTruss$Quantity;") ∈ lw_all := lw_g (lw_at lw_m13 69 rfl) rfl
theorem q3051 : (Jvm.Cond.soleField "ElasticTruss$Chain" "first") ∈ lw_all := lw_g (lw_at lw_m13 70 rfl) rfl
theorem q3052 : (Jvm.Cond.lays "ElasticTruss$Chain" "ElasticTruss$Chain" "firstLink" "LElasticTruss$Chain$Link;") ∈ lw_all := lw_g (lw_at lw_m13 71 rfl) rfl
theorem q3053 : (Jvm.Cond.soleField "ElasticTruss$Chain" "firstLink") ∈ lw_all := lw_g (lw_at lw_m13 72 rfl) rfl
theorem q3054 : (Jvm.Cond.lays "ElasticTruss$Chain" "ElasticTruss$Chain" "lastLink" "LElasticTruss$Chain$Link;") ∈ lw_all := lw_g (lw_at lw_m13 73 rfl) rfl
theorem q3055 : (Jvm.Cond.soleField "ElasticTruss$Chain" "lastLink") ∈ lw_all := lw_g (lw_at lw_m13 74 rfl) rfl
theorem q3056 : (Jvm.Cond.superclass "ElasticTruss$Chain" "java/lang/Object") ∈ lw_all := lw_g (lw_at lw_m13 75 rfl) rfl
theorem q3068 : (Jvm.Cond.instanceMethod ({ cls := "ElasticTruss$Chain", name := "add", desc := "(LElasticTruss$Operator;LElasticTruss$Quantity;)V" } : Jvm.MethodName)) ∈ lw_all := lw_g (lw_at lw_m13 87 rfl) rfl
theorem q3069 : (Jvm.Cond.selects "ElasticTruss$Chain" ({ cls := "ElasticTruss$Chain", name := "add", desc := "(LElasticTruss$Operator;LElasticTruss$Quantity;)V" } : Jvm.MethodName) ({ cls := "ElasticTruss$Chain", name := "add", desc := "(LElasticTruss$Operator;LElasticTruss$Quantity;)V" } : Jvm.MethodName)) ∈ lw_all := lw_g (lw_at lw_m13 88 rfl) rfl
theorem q3070 : (Jvm.Cond.code ({ cls := "ElasticTruss$Chain", name := "add", desc := "(LElasticTruss$Operator;LElasticTruss$Quantity;)V" } : Jvm.MethodName) prog_2_method_2_code (4 : Nat) (Option.none : Option Jvm.ClassFile.FieldType)) ∈ lw_all := lw_g (lw_at lw_m13 89 rfl) rfl
theorem q3071 : (Jvm.Cond.classLink "ElasticTruss$Chain" (13 : Nat) "ElasticTruss$Chain$Link") ∈ lw_all := lw_g (lw_at lw_m13 90 rfl) rfl
theorem q3073 : (Jvm.Cond.methodLink "ElasticTruss$Chain" (15 : Nat) ({ cls := "ElasticTruss$Chain$Link", name := "<init>", desc := "(LElasticTruss$Operator;LElasticTruss$Quantity;)V" } : Jvm.MethodName)) ∈ lw_all := lw_g (lw_at lw_m13 92 rfl) rfl
theorem q3078 : (Jvm.Cond.fieldLinkNest "ElasticTruss$Chain" (34 : Nat) "ElasticTruss$Chain$Link" "operator" "LElasticTruss$Operator;" "ElasticTruss") ∈ lw_tbl := lw_at lw_m13 97 rfl
theorem q3080 : (Jvm.Cond.fieldLinkNest "ElasticTruss$Chain" (38 : Nat) "ElasticTruss$Chain$Link" "operand" "LElasticTruss$Quantity;" "ElasticTruss") ∈ lw_tbl := lw_at lw_m13 99 rfl
theorem q3081 : (Jvm.Cond.fieldLinkNest "ElasticTruss$Chain" (25 : Nat) "ElasticTruss$Chain$Link" "next" "LElasticTruss$Chain$Link;" "ElasticTruss") ∈ lw_tbl := lw_at lw_m13 100 rfl
theorem q3866 : (Jvm.Cond.castable "ElasticTruss$Chain" "java/lang/Object") ∈ lw_tbl := lw_at lw_m16 165 rfl
theorem in_X10 : ∀ w ∈ wsX100, w ∈ lw_all := lw_in wsX100 [3050, 3052, 3054] (by decide +kernel) (by decide +kernel)

-- X11.ElasticTruss_Chain_Link.lean.txt
/-! ElasticTruss$Chain$Link -/
set_option maxRecDepth 100000
def RX11 : String := "ElasticTruss$Chain$Link"
def TX11 : u_T := fun k => match k with
  | 0 => ("ElasticTruss$Chain$Link", "operator", "LElasticTruss$Operator;", true)
  | 1 => ("ElasticTruss$Chain$Link", "operand", "LElasticTruss$Quantity;", true)
  | _ => ("ElasticTruss$Chain$Link", "next", "LElasticTruss$Chain$Link;", false)
def tyX11 : Nat → FieldType := fun k => match k with
  | 0 => .object "ElasticTruss$Operator"
  | 1 => .object "ElasticTruss$Quantity"
  | _ => .object "ElasticTruss$Chain$Link"
abbrev wsX110 : List Cond := u_ws RX11 TX11 3
theorem nmX11 : ∀ a, a < 3 → ∀ b, b < 3 → a ≠ b → (TX11 a).2.1 ≠ (TX11 b).2.1 := by decide +kernel
theorem tyX11_ok : ∀ k, k < 3 → parseFieldDescriptor (TX11 k).2.2.1 = some (tyX11 k) := by decide +kernel
abbrev cX11_init : ByteArray := prog_3_method_1_code
def yX11_init : MethodName := ⟨RX11, "<init>", "(LElasticTruss$Operator;LElasticTruss$Quantity;)V"⟩
def dkwX11_init_0 : List UInt8 := [42, 183, 0, 1, 42, 43, 181, 0, 7, 42, 44, 181, 0, 13, 177]
abbrev dktX11_init_0 : List UInt8 := dkwX11_init_0 ++ []
theorem dksX11_init_0 : cX11_init.data.toList.drop 0 = dktX11_init_0 := by decide +kernel
theorem dX11_init_0 : decode cX11_init 0 = .ok (.aload_n 0, 1) := dk_42 (dk_at dksX11_init_0 0 rfl rfl)
theorem dX11_init_1 : decode cX11_init 1 = .ok (.invokespecial 1, 3) := dk_183 0 1 (dk_at dksX11_init_0 1 rfl rfl)
theorem dX11_init_4 : decode cX11_init 4 = .ok (.aload_n 0, 1) := dk_42 (dk_at dksX11_init_0 4 rfl rfl)
theorem dX11_init_5 : decode cX11_init 5 = .ok (.aload_n 1, 1) := dk_43 (dk_at dksX11_init_0 5 rfl rfl)
theorem dX11_init_6 : decode cX11_init 6 = .ok (.putfield 7, 3) := dk_181 0 7 (dk_at dksX11_init_0 6 rfl rfl)
theorem dX11_init_9 : decode cX11_init 9 = .ok (.aload_n 0, 1) := dk_42 (dk_at dksX11_init_0 9 rfl rfl)
theorem dX11_init_10 : decode cX11_init 10 = .ok (.aload_n 2, 1) := dk_44 (dk_at dksX11_init_0 10 rfl rfl)
theorem dX11_init_11 : decode cX11_init 11 = .ok (.putfield 13, 3) := dk_181 0 13 (dk_at dksX11_init_0 11 rfl rfl)
theorem dX11_init_14 : decode cX11_init 14 = .ok (.return_, 1) := dk_177 (dk_at dksX11_init_0 14 rfl rfl)
theorem q146 : (Jvm.Cond.initialized "ElasticTruss$Chain$Link") ∈ lw_all := lw_g (lw_at lw_m1 45 rfl) rfl
theorem q1660 : (Jvm.Cond.selects "ElasticTruss$Chain$Link" ({ cls := "java/lang/Object", name := "toString", desc := "()Ljava/lang/String;" } : Jvm.MethodName) ({ cls := "java/lang/Object", name := "toString", desc := "()Ljava/lang/String;" } : Jvm.MethodName)) ∈ lw_all := lw_g (lw_at lw_m7 119 rfl) rfl
theorem q1680 : (Jvm.Cond.selects "ElasticTruss$Chain$Link" ({ cls := "java/lang/Object", name := "getClass", desc := "()Ljava/lang/Class;" } : Jvm.MethodName) ({ cls := "java/lang/Object", name := "getClass", desc := "()Ljava/lang/Class;" } : Jvm.MethodName)) ∈ lw_all := lw_g (lw_at lw_m7 139 rfl) rfl
theorem q1878 : (Jvm.Cond.selects "ElasticTruss$Chain$Link" ({ cls := "java/lang/Object", name := "hashCode", desc := "()I" } : Jvm.MethodName) ({ cls := "java/lang/Object", name := "hashCode", desc := "()I" } : Jvm.MethodName)) ∈ lw_all := lw_g (lw_at lw_m8 97 rfl) rfl
theorem q2315 : (Jvm.Cond.selects "ElasticTruss$Chain$Link" ({ cls := "java/lang/Object", name := "equals", desc := "(Ljava/lang/Object;)Z" } : Jvm.MethodName) ({ cls := "java/lang/Object", name := "equals", desc := "(Ljava/lang/Object;)Z" } : Jvm.MethodName)) ∈ lw_all := lw_g (lw_at lw_m10 54 rfl) rfl
theorem q3072 : (Jvm.Cond.instantiable "ElasticTruss$Chain$Link" (3 : Nat)) ∈ lw_all := lw_g (lw_at lw_m13 91 rfl) rfl
theorem q3074 : (Jvm.Cond.instanceMethod ({ cls := "ElasticTruss$Chain$Link", name := "<init>", desc := "(LElasticTruss$Operator;LElasticTruss$Quantity;)V" } : Jvm.MethodName)) ∈ lw_all := lw_g (lw_at lw_m13 93 rfl) rfl
theorem q3075 : (Jvm.Cond.code ({ cls := "ElasticTruss$Chain$Link", name := "<init>", desc := "(LElasticTruss$Operator;LElasticTruss$Quantity;)V" } : Jvm.MethodName) prog_3_method_1_code (3 : Nat) (Option.none : Option Jvm.ClassFile.FieldType)) ∈ lw_all := lw_g (lw_at lw_m13 94 rfl) rfl
theorem q3076 : (Jvm.Cond.methodLink "ElasticTruss$Chain$Link" (1 : Nat) ({ cls := "java/lang/Object", name := "<init>", desc := "()V" } : Jvm.MethodName)) ∈ lw_all := lw_g (lw_at lw_m13 95 rfl) rfl
theorem q3077 : (Jvm.Cond.fieldLink "ElasticTruss$Chain$Link" (7 : Nat) "ElasticTruss$Chain$Link" "operator" "LElasticTruss$Operator;") ∈ lw_all := lw_g (lw_at lw_m13 96 rfl) rfl
theorem q3079 : (Jvm.Cond.fieldLink "ElasticTruss$Chain$Link" (13 : Nat) "ElasticTruss$Chain$Link" "operand" "LElasticTruss$Quantity;") ∈ lw_all := lw_g (lw_at lw_m13 98 rfl) rfl
theorem q3082 : (Jvm.Cond.laysFinal "ElasticTruss$Chain$Link" "ElasticTruss$Chain$Link" "operator" "LElasticTruss$Operator;") ∈ lw_all := lw_g (lw_at lw_m13 101 rfl) rfl
theorem q3083 : (Jvm.Cond.soleField "ElasticTruss$Chain$Link" "operator") ∈ lw_all := lw_g (lw_at lw_m13 102 rfl) rfl
theorem q3084 : (Jvm.Cond.laysFinal "ElasticTruss$Chain$Link" "ElasticTruss$Chain$Link" "operand" "LElasticTruss$Quantity;") ∈ lw_all := lw_g (lw_at lw_m13 103 rfl) rfl
theorem q3085 : (Jvm.Cond.soleField "ElasticTruss$Chain$Link" "operand") ∈ lw_all := lw_g (lw_at lw_m13 104 rfl) rfl
theorem q3086 : (Jvm.Cond.lays "ElasticTruss$Chain$Link" "ElasticTruss$Chain$Link" "next" "LElasticTruss$Chain$Link;") ∈ lw_all := lw_g (lw_at lw_m13 105 rfl) rfl
theorem q3087 : (Jvm.Cond.soleField "ElasticTruss$Chain$Link" "next") ∈ lw_all := lw_g (lw_at lw_m13 106 rfl) rfl
theorem q3088 : (Jvm.Cond.superclass "ElasticTruss$Chain$Link" "java/lang/Object") ∈ lw_all := lw_g (lw_at lw_m13 107 rfl) rfl
theorem q3869 : (Jvm.Cond.castable "ElasticTruss$Chain$Link" "java/lang/Object") ∈ lw_tbl := lw_at lw_m16 168 rfl
theorem in_X11 : ∀ w ∈ wsX110, w ∈ lw_all := lw_in wsX110 [3082, 3084, 3086] (by decide +kernel) (by decide +kernel)

-- X12.ElasticTruss_Relaxation.lean.txt
/-! ElasticTruss$Relaxation -/
set_option maxRecDepth 100000
def RX12 : String := "ElasticTruss$Relaxation"
def TX12 : u_T := fun k => match k with
  | 0 => ("ElasticTruss$Relaxation", "truss", "LElasticTruss$Truss;", true)
  | 1 => ("ElasticTruss$Relaxation", "members", "[LElasticTruss$Member;", true)
  | 2 => ("ElasticTruss$Relaxation", "nodeCount", "I", true)
  | 3 => ("ElasticTruss$Relaxation", "joined", "[[LElasticTruss$Member;", true)
  | 4 => ("ElasticTruss$Relaxation", "ux", "[J", true)
  | 5 => ("ElasticTruss$Relaxation", "uy", "[J", true)
  | 6 => ("ElasticTruss$Relaxation", "rx", "[J", true)
  | _ => ("ElasticTruss$Relaxation", "ry", "[J", true)
def tyX12 : Nat → FieldType := fun k => match k with
  | 0 => .object "ElasticTruss$Truss"
  | 1 => .array (.object "ElasticTruss$Member")
  | 2 => .int
  | 3 => .array (.array (.object "ElasticTruss$Member"))
  | 4 => .array .long
  | 5 => .array .long
  | 6 => .array .long
  | _ => .array .long
abbrev wsX120 : List Cond := u_ws RX12 TX12 8
theorem nmX12 : ∀ a, a < 8 → ∀ b, b < 8 → a ≠ b → (TX12 a).2.1 ≠ (TX12 b).2.1 := by decide +kernel
theorem tyX12_ok : ∀ k, k < 8 → parseFieldDescriptor (TX12 k).2.2.1 = some (tyX12 k) := by decide +kernel
abbrev cX12_init : ByteArray := prog_15_method_1_code
def yX12_init : MethodName := ⟨RX12, "<init>", "(LElasticTruss$Truss;)V"⟩
def dkwX12_init_4 : List UInt8 := [188, 11, 181, 0, 53, 42, 42, 180, 0, 33, 188, 11, 181, 0, 56, 177]
abbrev dktX12_init_4 : List UInt8 := dkwX12_init_4 ++ []
def dkwX12_init_3 : List UInt8 := [42, 180, 0, 33, 188, 11, 181, 0, 46, 42, 42, 180, 0, 33, 188, 11, 181, 0, 50, 42, 42, 180, 0, 33]
abbrev dktX12_init_3 : List UInt8 := dkwX12_init_3 ++ dktX12_init_4
def dkwX12_init_2 : List UInt8 := [180, 0, 33, 162, 0, 20, 42, 180, 0, 38, 28, 42, 28, 182, 0, 42, 83, 132, 2, 1, 167, 255, 234, 42]
abbrev dktX12_init_2 : List UInt8 := dkwX12_init_2 ++ dktX12_init_3
def dkwX12_init_1 : List UInt8 := [185, 0, 27, 1, 0, 181, 0, 33, 42, 42, 180, 0, 33, 189, 0, 37, 181, 0, 38, 3, 61, 28, 42]
abbrev dktX12_init_1 : List UInt8 := dkwX12_init_1 ++ dktX12_init_2
def dkwX12_init_0 : List UInt8 := [42, 183, 0, 1, 42, 43, 181, 0, 7, 42, 43, 182, 0, 13, 181, 0, 19, 42, 43, 180, 0, 23]
abbrev dktX12_init_0 : List UInt8 := dkwX12_init_0 ++ dktX12_init_1
theorem dksX12_init_0 : cX12_init.data.toList.drop 0 = dktX12_init_0 := by decide +kernel
theorem dksX12_init_1 : cX12_init.data.toList.drop 22 = dktX12_init_1 := dk_seg dksX12_init_0 22 rfl rfl
theorem dksX12_init_2 : cX12_init.data.toList.drop 45 = dktX12_init_2 := dk_seg dksX12_init_1 23 rfl rfl
theorem dksX12_init_3 : cX12_init.data.toList.drop 69 = dktX12_init_3 := dk_seg dksX12_init_2 24 rfl rfl
theorem dksX12_init_4 : cX12_init.data.toList.drop 93 = dktX12_init_4 := dk_seg dksX12_init_3 24 rfl rfl
theorem dX12_init_0 : decode cX12_init 0 = .ok (.aload_n 0, 1) := dk_42 (dk_at dksX12_init_0 0 rfl rfl)
theorem dX12_init_1 : decode cX12_init 1 = .ok (.invokespecial 1, 3) := dk_183 0 1 (dk_at dksX12_init_0 1 rfl rfl)
theorem dX12_init_4 : decode cX12_init 4 = .ok (.aload_n 0, 1) := dk_42 (dk_at dksX12_init_0 4 rfl rfl)
theorem dX12_init_5 : decode cX12_init 5 = .ok (.aload_n 1, 1) := dk_43 (dk_at dksX12_init_0 5 rfl rfl)
theorem dX12_init_6 : decode cX12_init 6 = .ok (.putfield 7, 3) := dk_181 0 7 (dk_at dksX12_init_0 6 rfl rfl)
theorem dX12_init_9 : decode cX12_init 9 = .ok (.aload_n 0, 1) := dk_42 (dk_at dksX12_init_0 9 rfl rfl)
theorem dX12_init_10 : decode cX12_init 10 = .ok (.aload_n 1, 1) := dk_43 (dk_at dksX12_init_0 10 rfl rfl)
theorem dX12_init_11 : decode cX12_init 11 = .ok (.invokevirtual 13, 3) := dk_182 0 13 (dk_at dksX12_init_0 11 rfl rfl)
theorem dX12_init_14 : decode cX12_init 14 = .ok (.putfield 19, 3) := dk_181 0 19 (dk_at dksX12_init_0 14 rfl rfl)
theorem dX12_init_17 : decode cX12_init 17 = .ok (.aload_n 0, 1) := dk_42 (dk_at dksX12_init_0 17 rfl rfl)
theorem dX12_init_18 : decode cX12_init 18 = .ok (.aload_n 1, 1) := dk_43 (dk_at dksX12_init_0 18 rfl rfl)
theorem dX12_init_19 : decode cX12_init 19 = .ok (.getfield 23, 3) := dk_180 0 23 (dk_at dksX12_init_0 19 rfl rfl)
theorem dX12_init_22 : decode cX12_init 22 = .ok (.invokeinterface 27 1, 5) := by decide +kernel
theorem dX12_init_27 : decode cX12_init 27 = .ok (.putfield 33, 3) := dk_181 0 33 (dk_at dksX12_init_1 5 rfl rfl)
theorem dX12_init_30 : decode cX12_init 30 = .ok (.aload_n 0, 1) := dk_42 (dk_at dksX12_init_1 8 rfl rfl)
theorem dX12_init_31 : decode cX12_init 31 = .ok (.aload_n 0, 1) := dk_42 (dk_at dksX12_init_1 9 rfl rfl)
theorem dX12_init_32 : decode cX12_init 32 = .ok (.getfield 33, 3) := dk_180 0 33 (dk_at dksX12_init_1 10 rfl rfl)
theorem dX12_init_35 : decode cX12_init 35 = .ok (.anewarray 37, 3) := dk_189 0 37 (dk_at dksX12_init_1 13 rfl rfl)
theorem dX12_init_38 : decode cX12_init 38 = .ok (.putfield 38, 3) := dk_181 0 38 (dk_at dksX12_init_1 16 rfl rfl)
theorem dX12_init_41 : decode cX12_init 41 = .ok (.iconst 0, 1) := dk_3 (dk_at dksX12_init_1 19 rfl rfl)
theorem dX12_init_42 : decode cX12_init 42 = .ok (.istore_n 2, 1) := dk_61 (dk_at dksX12_init_1 20 rfl rfl)
theorem dX12_init_43 : decode cX12_init 43 = .ok (.iload_n 2, 1) := dk_28 (dk_at dksX12_init_1 21 rfl rfl)
theorem dX12_init_44 : decode cX12_init 44 = .ok (.aload_n 0, 1) := dk_42 (dk_at dksX12_init_1 22 rfl rfl)
theorem dX12_init_45 : decode cX12_init 45 = .ok (.getfield 33, 3) := dk_180 0 33 (dk_at dksX12_init_2 0 rfl rfl)
theorem dX12_init_48 : decode cX12_init 48 = .ok (.if_icmp .ge 20, 3) := dk_162 0 20 (dk_at dksX12_init_2 3 rfl rfl)
theorem dX12_init_51 : decode cX12_init 51 = .ok (.aload_n 0, 1) := dk_42 (dk_at dksX12_init_2 6 rfl rfl)
theorem dX12_init_52 : decode cX12_init 52 = .ok (.getfield 38, 3) := dk_180 0 38 (dk_at dksX12_init_2 7 rfl rfl)
theorem dX12_init_55 : decode cX12_init 55 = .ok (.iload_n 2, 1) := dk_28 (dk_at dksX12_init_2 10 rfl rfl)
theorem dX12_init_56 : decode cX12_init 56 = .ok (.aload_n 0, 1) := dk_42 (dk_at dksX12_init_2 11 rfl rfl)
theorem dX12_init_57 : decode cX12_init 57 = .ok (.iload_n 2, 1) := dk_28 (dk_at dksX12_init_2 12 rfl rfl)
theorem dX12_init_58 : decode cX12_init 58 = .ok (.invokevirtual 42, 3) := dk_182 0 42 (dk_at dksX12_init_2 13 rfl rfl)
theorem dX12_init_61 : decode cX12_init 61 = .ok (.aastore, 1) := dk_83 (dk_at dksX12_init_2 16 rfl rfl)
theorem dX12_init_62 : decode cX12_init 62 = .ok (.iinc 2 1, 3) := dk_132 2 1 (dk_at dksX12_init_2 17 rfl rfl)
theorem dX12_init_65 : decode cX12_init 65 = .ok (.goto (-22), 3) := dk_167 255 234 (dk_at dksX12_init_2 20 rfl rfl)
theorem dX12_init_68 : decode cX12_init 68 = .ok (.aload_n 0, 1) := dk_42 (dk_at dksX12_init_2 23 rfl rfl)
theorem dX12_init_69 : decode cX12_init 69 = .ok (.aload_n 0, 1) := dk_42 (dk_at dksX12_init_3 0 rfl rfl)
theorem dX12_init_70 : decode cX12_init 70 = .ok (.getfield 33, 3) := dk_180 0 33 (dk_at dksX12_init_3 1 rfl rfl)
theorem dX12_init_73 : decode cX12_init 73 = .ok (.newarray .long, 2) := dk_188_11 (dk_at dksX12_init_3 4 rfl rfl)
theorem dX12_init_75 : decode cX12_init 75 = .ok (.putfield 46, 3) := dk_181 0 46 (dk_at dksX12_init_3 6 rfl rfl)
theorem dX12_init_78 : decode cX12_init 78 = .ok (.aload_n 0, 1) := dk_42 (dk_at dksX12_init_3 9 rfl rfl)
theorem dX12_init_79 : decode cX12_init 79 = .ok (.aload_n 0, 1) := dk_42 (dk_at dksX12_init_3 10 rfl rfl)
theorem dX12_init_80 : decode cX12_init 80 = .ok (.getfield 33, 3) := dk_180 0 33 (dk_at dksX12_init_3 11 rfl rfl)
theorem dX12_init_83 : decode cX12_init 83 = .ok (.newarray .long, 2) := dk_188_11 (dk_at dksX12_init_3 14 rfl rfl)
theorem dX12_init_85 : decode cX12_init 85 = .ok (.putfield 50, 3) := dk_181 0 50 (dk_at dksX12_init_3 16 rfl rfl)
theorem dX12_init_88 : decode cX12_init 88 = .ok (.aload_n 0, 1) := dk_42 (dk_at dksX12_init_3 19 rfl rfl)
theorem dX12_init_89 : decode cX12_init 89 = .ok (.aload_n 0, 1) := dk_42 (dk_at dksX12_init_3 20 rfl rfl)
theorem dX12_init_90 : decode cX12_init 90 = .ok (.getfield 33, 3) := dk_180 0 33 (dk_at dksX12_init_3 21 rfl rfl)
theorem dX12_init_93 : decode cX12_init 93 = .ok (.newarray .long, 2) := dk_188_11 (dk_at dksX12_init_4 0 rfl rfl)
theorem dX12_init_95 : decode cX12_init 95 = .ok (.putfield 53, 3) := dk_181 0 53 (dk_at dksX12_init_4 2 rfl rfl)
theorem dX12_init_98 : decode cX12_init 98 = .ok (.aload_n 0, 1) := dk_42 (dk_at dksX12_init_4 5 rfl rfl)
theorem dX12_init_99 : decode cX12_init 99 = .ok (.aload_n 0, 1) := dk_42 (dk_at dksX12_init_4 6 rfl rfl)
theorem dX12_init_100 : decode cX12_init 100 = .ok (.getfield 33, 3) := dk_180 0 33 (dk_at dksX12_init_4 7 rfl rfl)
theorem dX12_init_103 : decode cX12_init 103 = .ok (.newarray .long, 2) := dk_188_11 (dk_at dksX12_init_4 10 rfl rfl)
theorem dX12_init_105 : decode cX12_init 105 = .ok (.putfield 56, 3) := dk_181 0 56 (dk_at dksX12_init_4 12 rfl rfl)
theorem dX12_init_108 : decode cX12_init 108 = .ok (.return_, 1) := dk_177 (dk_at dksX12_init_4 15 rfl rfl)
abbrev cX12_membersAt : ByteArray := prog_15_method_2_code
def yX12_membersAt : MethodName := ⟨RX12, "membersAt", "(I)[LElasticTruss$Member;"⟩
def dkwX12_membersAt_4 : List UInt8 := [132, 2, 255, 45, 28, 25, 7, 83, 132, 6, 1, 167, 255, 219, 45, 176]
abbrev dktX12_membersAt_4 : List UInt8 := dkwX12_membersAt_4 ++ []
def dkwX12_membersAt_3 : List UInt8 := [162, 0, 36, 25, 4, 21, 6, 50, 58, 7, 25, 7, 27, 182, 0, 59, 154, 0, 6, 167, 0, 11]
abbrev dktX12_membersAt_3 : List UInt8 := dkwX12_membersAt_3 ++ dktX12_membersAt_4
def dkwX12_membersAt_2 : List UInt8 := [189, 0, 60, 78, 42, 180, 0, 19, 58, 4, 25, 4, 190, 54, 5, 3, 54, 6, 21, 6, 21, 5]
abbrev dktX12_membersAt_2 : List UInt8 := dkwX12_membersAt_2 ++ dktX12_membersAt_3
def dkwX12_membersAt_1 : List UInt8 := [50, 58, 6, 25, 6, 27, 182, 0, 59, 153, 0, 6, 132, 2, 1, 132, 5, 1, 167, 255, 228, 28]
abbrev dktX12_membersAt_1 : List UInt8 := dkwX12_membersAt_1 ++ dktX12_membersAt_2
def dkwX12_membersAt_0 : List UInt8 := [3, 61, 42, 180, 0, 19, 78, 45, 190, 54, 4, 3, 54, 5, 21, 5, 21, 4, 162, 0, 27, 45, 21, 5]
abbrev dktX12_membersAt_0 : List UInt8 := dkwX12_membersAt_0 ++ dktX12_membersAt_1
theorem dksX12_membersAt_0 : cX12_membersAt.data.toList.drop 0 = dktX12_membersAt_0 := by decide +kernel
theorem dksX12_membersAt_1 : cX12_membersAt.data.toList.drop 24 = dktX12_membersAt_1 := dk_seg dksX12_membersAt_0 24 rfl rfl
theorem dksX12_membersAt_2 : cX12_membersAt.data.toList.drop 46 = dktX12_membersAt_2 := dk_seg dksX12_membersAt_1 22 rfl rfl
theorem dksX12_membersAt_3 : cX12_membersAt.data.toList.drop 68 = dktX12_membersAt_3 := dk_seg dksX12_membersAt_2 22 rfl rfl
theorem dksX12_membersAt_4 : cX12_membersAt.data.toList.drop 90 = dktX12_membersAt_4 := dk_seg dksX12_membersAt_3 22 rfl rfl
theorem dX12_membersAt_0 : decode cX12_membersAt 0 = .ok (.iconst 0, 1) := dk_3 (dk_at dksX12_membersAt_0 0 rfl rfl)
theorem dX12_membersAt_1 : decode cX12_membersAt 1 = .ok (.istore_n 2, 1) := dk_61 (dk_at dksX12_membersAt_0 1 rfl rfl)
theorem dX12_membersAt_2 : decode cX12_membersAt 2 = .ok (.aload_n 0, 1) := dk_42 (dk_at dksX12_membersAt_0 2 rfl rfl)
theorem dX12_membersAt_3 : decode cX12_membersAt 3 = .ok (.getfield 19, 3) := dk_180 0 19 (dk_at dksX12_membersAt_0 3 rfl rfl)
theorem dX12_membersAt_6 : decode cX12_membersAt 6 = .ok (.astore_n 3, 1) := dk_78 (dk_at dksX12_membersAt_0 6 rfl rfl)
theorem dX12_membersAt_7 : decode cX12_membersAt 7 = .ok (.aload_n 3, 1) := dk_45 (dk_at dksX12_membersAt_0 7 rfl rfl)
theorem dX12_membersAt_8 : decode cX12_membersAt 8 = .ok (.arraylength, 1) := dk_190 (dk_at dksX12_membersAt_0 8 rfl rfl)
theorem dX12_membersAt_9 : decode cX12_membersAt 9 = .ok (.istore 4, 2) := dk_54 4 (dk_at dksX12_membersAt_0 9 rfl rfl)
theorem dX12_membersAt_11 : decode cX12_membersAt 11 = .ok (.iconst 0, 1) := dk_3 (dk_at dksX12_membersAt_0 11 rfl rfl)
theorem dX12_membersAt_12 : decode cX12_membersAt 12 = .ok (.istore 5, 2) := dk_54 5 (dk_at dksX12_membersAt_0 12 rfl rfl)
theorem dX12_membersAt_14 : decode cX12_membersAt 14 = .ok (.iload 5, 2) := dk_21 5 (dk_at dksX12_membersAt_0 14 rfl rfl)
theorem dX12_membersAt_16 : decode cX12_membersAt 16 = .ok (.iload 4, 2) := dk_21 4 (dk_at dksX12_membersAt_0 16 rfl rfl)
theorem dX12_membersAt_18 : decode cX12_membersAt 18 = .ok (.if_icmp .ge 27, 3) := dk_162 0 27 (dk_at dksX12_membersAt_0 18 rfl rfl)
theorem dX12_membersAt_21 : decode cX12_membersAt 21 = .ok (.aload_n 3, 1) := dk_45 (dk_at dksX12_membersAt_0 21 rfl rfl)
theorem dX12_membersAt_22 : decode cX12_membersAt 22 = .ok (.iload 5, 2) := dk_21 5 (dk_at dksX12_membersAt_0 22 rfl rfl)
theorem dX12_membersAt_24 : decode cX12_membersAt 24 = .ok (.aaload, 1) := dk_50 (dk_at dksX12_membersAt_1 0 rfl rfl)
theorem dX12_membersAt_25 : decode cX12_membersAt 25 = .ok (.astore 6, 2) := dk_58 6 (dk_at dksX12_membersAt_1 1 rfl rfl)
theorem dX12_membersAt_27 : decode cX12_membersAt 27 = .ok (.aload 6, 2) := dk_25 6 (dk_at dksX12_membersAt_1 3 rfl rfl)
theorem dX12_membersAt_29 : decode cX12_membersAt 29 = .ok (.iload_n 1, 1) := dk_27 (dk_at dksX12_membersAt_1 5 rfl rfl)
theorem dX12_membersAt_30 : decode cX12_membersAt 30 = .ok (.invokevirtual 59, 3) := dk_182 0 59 (dk_at dksX12_membersAt_1 6 rfl rfl)
theorem dX12_membersAt_33 : decode cX12_membersAt 33 = .ok (.ifCond .eq 6, 3) := dk_153 0 6 (dk_at dksX12_membersAt_1 9 rfl rfl)
theorem dX12_membersAt_36 : decode cX12_membersAt 36 = .ok (.iinc 2 1, 3) := dk_132 2 1 (dk_at dksX12_membersAt_1 12 rfl rfl)
theorem dX12_membersAt_39 : decode cX12_membersAt 39 = .ok (.iinc 5 1, 3) := dk_132 5 1 (dk_at dksX12_membersAt_1 15 rfl rfl)
theorem dX12_membersAt_42 : decode cX12_membersAt 42 = .ok (.goto (-28), 3) := dk_167 255 228 (dk_at dksX12_membersAt_1 18 rfl rfl)
theorem dX12_membersAt_45 : decode cX12_membersAt 45 = .ok (.iload_n 2, 1) := dk_28 (dk_at dksX12_membersAt_1 21 rfl rfl)
theorem dX12_membersAt_46 : decode cX12_membersAt 46 = .ok (.anewarray 60, 3) := dk_189 0 60 (dk_at dksX12_membersAt_2 0 rfl rfl)
theorem dX12_membersAt_49 : decode cX12_membersAt 49 = .ok (.astore_n 3, 1) := dk_78 (dk_at dksX12_membersAt_2 3 rfl rfl)
theorem dX12_membersAt_50 : decode cX12_membersAt 50 = .ok (.aload_n 0, 1) := dk_42 (dk_at dksX12_membersAt_2 4 rfl rfl)
theorem dX12_membersAt_51 : decode cX12_membersAt 51 = .ok (.getfield 19, 3) := dk_180 0 19 (dk_at dksX12_membersAt_2 5 rfl rfl)
theorem dX12_membersAt_54 : decode cX12_membersAt 54 = .ok (.astore 4, 2) := dk_58 4 (dk_at dksX12_membersAt_2 8 rfl rfl)
theorem dX12_membersAt_56 : decode cX12_membersAt 56 = .ok (.aload 4, 2) := dk_25 4 (dk_at dksX12_membersAt_2 10 rfl rfl)
theorem dX12_membersAt_58 : decode cX12_membersAt 58 = .ok (.arraylength, 1) := dk_190 (dk_at dksX12_membersAt_2 12 rfl rfl)
theorem dX12_membersAt_59 : decode cX12_membersAt 59 = .ok (.istore 5, 2) := dk_54 5 (dk_at dksX12_membersAt_2 13 rfl rfl)
theorem dX12_membersAt_61 : decode cX12_membersAt 61 = .ok (.iconst 0, 1) := dk_3 (dk_at dksX12_membersAt_2 15 rfl rfl)
theorem dX12_membersAt_62 : decode cX12_membersAt 62 = .ok (.istore 6, 2) := dk_54 6 (dk_at dksX12_membersAt_2 16 rfl rfl)
theorem dX12_membersAt_64 : decode cX12_membersAt 64 = .ok (.iload 6, 2) := dk_21 6 (dk_at dksX12_membersAt_2 18 rfl rfl)
theorem dX12_membersAt_66 : decode cX12_membersAt 66 = .ok (.iload 5, 2) := dk_21 5 (dk_at dksX12_membersAt_2 20 rfl rfl)
theorem dX12_membersAt_68 : decode cX12_membersAt 68 = .ok (.if_icmp .ge 36, 3) := dk_162 0 36 (dk_at dksX12_membersAt_3 0 rfl rfl)
theorem dX12_membersAt_71 : decode cX12_membersAt 71 = .ok (.aload 4, 2) := dk_25 4 (dk_at dksX12_membersAt_3 3 rfl rfl)
theorem dX12_membersAt_73 : decode cX12_membersAt 73 = .ok (.iload 6, 2) := dk_21 6 (dk_at dksX12_membersAt_3 5 rfl rfl)
theorem dX12_membersAt_75 : decode cX12_membersAt 75 = .ok (.aaload, 1) := dk_50 (dk_at dksX12_membersAt_3 7 rfl rfl)
theorem dX12_membersAt_76 : decode cX12_membersAt 76 = .ok (.astore 7, 2) := dk_58 7 (dk_at dksX12_membersAt_3 8 rfl rfl)
theorem dX12_membersAt_78 : decode cX12_membersAt 78 = .ok (.aload 7, 2) := dk_25 7 (dk_at dksX12_membersAt_3 10 rfl rfl)
theorem dX12_membersAt_80 : decode cX12_membersAt 80 = .ok (.iload_n 1, 1) := dk_27 (dk_at dksX12_membersAt_3 12 rfl rfl)
theorem dX12_membersAt_81 : decode cX12_membersAt 81 = .ok (.invokevirtual 59, 3) := dk_182 0 59 (dk_at dksX12_membersAt_3 13 rfl rfl)
theorem dX12_membersAt_84 : decode cX12_membersAt 84 = .ok (.ifCond .ne 6, 3) := dk_154 0 6 (dk_at dksX12_membersAt_3 16 rfl rfl)
theorem dX12_membersAt_87 : decode cX12_membersAt 87 = .ok (.goto 11, 3) := dk_167 0 11 (dk_at dksX12_membersAt_3 19 rfl rfl)
theorem dX12_membersAt_90 : decode cX12_membersAt 90 = .ok (.iinc 2 (-1), 3) := dk_132 2 255 (dk_at dksX12_membersAt_4 0 rfl rfl)
theorem dX12_membersAt_93 : decode cX12_membersAt 93 = .ok (.aload_n 3, 1) := dk_45 (dk_at dksX12_membersAt_4 3 rfl rfl)
theorem dX12_membersAt_94 : decode cX12_membersAt 94 = .ok (.iload_n 2, 1) := dk_28 (dk_at dksX12_membersAt_4 4 rfl rfl)
theorem dX12_membersAt_95 : decode cX12_membersAt 95 = .ok (.aload 7, 2) := dk_25 7 (dk_at dksX12_membersAt_4 5 rfl rfl)
theorem dX12_membersAt_97 : decode cX12_membersAt 97 = .ok (.aastore, 1) := dk_83 (dk_at dksX12_membersAt_4 7 rfl rfl)
theorem dX12_membersAt_98 : decode cX12_membersAt 98 = .ok (.iinc 6 1, 3) := dk_132 6 1 (dk_at dksX12_membersAt_4 8 rfl rfl)
theorem dX12_membersAt_101 : decode cX12_membersAt 101 = .ok (.goto (-37), 3) := dk_167 255 219 (dk_at dksX12_membersAt_4 11 rfl rfl)
theorem dX12_membersAt_104 : decode cX12_membersAt 104 = .ok (.aload_n 3, 1) := dk_45 (dk_at dksX12_membersAt_4 14 rfl rfl)
theorem dX12_membersAt_105 : decode cX12_membersAt 105 = .ok (.areturn, 1) := dk_176 (dk_at dksX12_membersAt_4 15 rfl rfl)
abbrev cX12_relax : ByteArray := prog_15_method_6_code
def yX12_relax : MethodName := ⟨RX12, "relax", "(I)V"⟩
def dkwX12_relax_6 : List UInt8 := [184, 0, 89, 80, 132, 3, 1, 167, 255, 137, 132, 2, 1, 167, 255, 118, 177]
abbrev dktX12_relax_6 : List UInt8 := dkwX12_relax_6 ++ []
def dkwX12_relax_5 : List UInt8 := [180, 0, 50, 29, 42, 180, 0, 50, 29, 47, 20, 0, 87, 42, 180, 0, 56, 29, 47, 105, 22, 5, 109, 97]
abbrev dktX12_relax_5 : List UInt8 := dkwX12_relax_5 ++ dktX12_relax_6
def dkwX12_relax_4 : List UInt8 := [42, 180, 0, 53, 29, 47, 105, 22, 5, 109, 97, 184, 0, 89, 80, 25, 4, 180, 0, 148, 154, 0, 32, 42]
abbrev dktX12_relax_4 : List UInt8 := dkwX12_relax_4 ++ dktX12_relax_5
def dkwX12_relax_3 : List UInt8 := [182, 0, 140, 42, 29, 182, 0, 144, 55, 5, 42, 180, 0, 46, 29, 42, 180, 0, 46, 29, 47, 20, 0, 87]
abbrev dktX12_relax_3 : List UInt8 := dkwX12_relax_3 ++ dktX12_relax_4
def dkwX12_relax_2 : List UInt8 := [185, 0, 104, 2, 0, 192, 0, 134, 58, 4, 25, 4, 180, 0, 136, 153, 0, 6, 167, 0, 82, 42, 29, 27]
abbrev dktX12_relax_2 : List UInt8 := dkwX12_relax_2 ++ dktX12_relax_3
def dkwX12_relax_1 : List UInt8 := [180, 0, 131, 162, 0, 133, 3, 62, 29, 42, 180, 0, 33, 162, 0, 117, 42, 180, 0, 7, 180, 0, 23, 29]
abbrev dktX12_relax_1 : List UInt8 := dkwX12_relax_1 ++ dktX12_relax_2
def dkwX12_relax_0 : List UInt8 := [42, 180, 0, 46, 9, 184, 0, 125, 42, 180, 0, 50, 9, 184, 0, 125, 3, 61, 28, 42, 180, 0, 7]
abbrev dktX12_relax_0 : List UInt8 := dkwX12_relax_0 ++ dktX12_relax_1
theorem dksX12_relax_0 : cX12_relax.data.toList.drop 0 = dktX12_relax_0 := by decide +kernel
theorem dksX12_relax_1 : cX12_relax.data.toList.drop 23 = dktX12_relax_1 := dk_seg dksX12_relax_0 23 rfl rfl
theorem dksX12_relax_2 : cX12_relax.data.toList.drop 47 = dktX12_relax_2 := dk_seg dksX12_relax_1 24 rfl rfl
theorem dksX12_relax_3 : cX12_relax.data.toList.drop 71 = dktX12_relax_3 := dk_seg dksX12_relax_2 24 rfl rfl
theorem dksX12_relax_4 : cX12_relax.data.toList.drop 95 = dktX12_relax_4 := dk_seg dksX12_relax_3 24 rfl rfl
theorem dksX12_relax_5 : cX12_relax.data.toList.drop 119 = dktX12_relax_5 := dk_seg dksX12_relax_4 24 rfl rfl
theorem dksX12_relax_6 : cX12_relax.data.toList.drop 143 = dktX12_relax_6 := dk_seg dksX12_relax_5 24 rfl rfl
theorem dX12_relax_0 : decode cX12_relax 0 = .ok (.aload_n 0, 1) := dk_42 (dk_at dksX12_relax_0 0 rfl rfl)
theorem dX12_relax_1 : decode cX12_relax 1 = .ok (.getfield 46, 3) := dk_180 0 46 (dk_at dksX12_relax_0 1 rfl rfl)
theorem dX12_relax_4 : decode cX12_relax 4 = .ok (.lconst 0, 1) := dk_9 (dk_at dksX12_relax_0 4 rfl rfl)
theorem dX12_relax_5 : decode cX12_relax 5 = .ok (.invokestatic 125, 3) := dk_184 0 125 (dk_at dksX12_relax_0 5 rfl rfl)
theorem dX12_relax_8 : decode cX12_relax 8 = .ok (.aload_n 0, 1) := dk_42 (dk_at dksX12_relax_0 8 rfl rfl)
theorem dX12_relax_9 : decode cX12_relax 9 = .ok (.getfield 50, 3) := dk_180 0 50 (dk_at dksX12_relax_0 9 rfl rfl)
theorem dX12_relax_12 : decode cX12_relax 12 = .ok (.lconst 0, 1) := dk_9 (dk_at dksX12_relax_0 12 rfl rfl)
theorem dX12_relax_13 : decode cX12_relax 13 = .ok (.invokestatic 125, 3) := dk_184 0 125 (dk_at dksX12_relax_0 13 rfl rfl)
theorem dX12_relax_16 : decode cX12_relax 16 = .ok (.iconst 0, 1) := dk_3 (dk_at dksX12_relax_0 16 rfl rfl)
theorem dX12_relax_17 : decode cX12_relax 17 = .ok (.istore_n 2, 1) := dk_61 (dk_at dksX12_relax_0 17 rfl rfl)
theorem dX12_relax_18 : decode cX12_relax 18 = .ok (.iload_n 2, 1) := dk_28 (dk_at dksX12_relax_0 18 rfl rfl)
theorem dX12_relax_19 : decode cX12_relax 19 = .ok (.aload_n 0, 1) := dk_42 (dk_at dksX12_relax_0 19 rfl rfl)
theorem dX12_relax_20 : decode cX12_relax 20 = .ok (.getfield 7, 3) := dk_180 0 7 (dk_at dksX12_relax_0 20 rfl rfl)
theorem dX12_relax_23 : decode cX12_relax 23 = .ok (.getfield 131, 3) := dk_180 0 131 (dk_at dksX12_relax_1 0 rfl rfl)
theorem dX12_relax_26 : decode cX12_relax 26 = .ok (.if_icmp .ge 133, 3) := dk_162 0 133 (dk_at dksX12_relax_1 3 rfl rfl)
theorem dX12_relax_29 : decode cX12_relax 29 = .ok (.iconst 0, 1) := dk_3 (dk_at dksX12_relax_1 6 rfl rfl)
theorem dX12_relax_30 : decode cX12_relax 30 = .ok (.istore_n 3, 1) := dk_62 (dk_at dksX12_relax_1 7 rfl rfl)
theorem dX12_relax_31 : decode cX12_relax 31 = .ok (.iload_n 3, 1) := dk_29 (dk_at dksX12_relax_1 8 rfl rfl)
theorem dX12_relax_32 : decode cX12_relax 32 = .ok (.aload_n 0, 1) := dk_42 (dk_at dksX12_relax_1 9 rfl rfl)
theorem dX12_relax_33 : decode cX12_relax 33 = .ok (.getfield 33, 3) := dk_180 0 33 (dk_at dksX12_relax_1 10 rfl rfl)
theorem dX12_relax_36 : decode cX12_relax 36 = .ok (.if_icmp .ge 117, 3) := dk_162 0 117 (dk_at dksX12_relax_1 13 rfl rfl)
theorem dX12_relax_39 : decode cX12_relax 39 = .ok (.aload_n 0, 1) := dk_42 (dk_at dksX12_relax_1 16 rfl rfl)
theorem dX12_relax_40 : decode cX12_relax 40 = .ok (.getfield 7, 3) := dk_180 0 7 (dk_at dksX12_relax_1 17 rfl rfl)
theorem dX12_relax_43 : decode cX12_relax 43 = .ok (.getfield 23, 3) := dk_180 0 23 (dk_at dksX12_relax_1 20 rfl rfl)
theorem dX12_relax_46 : decode cX12_relax 46 = .ok (.iload_n 3, 1) := dk_29 (dk_at dksX12_relax_1 23 rfl rfl)
theorem dX12_relax_47 : decode cX12_relax 47 = .ok (.invokeinterface 104 2, 5) := by decide +kernel
theorem dX12_relax_52 : decode cX12_relax 52 = .ok (.checkcast 134, 3) := dk_192 0 134 (dk_at dksX12_relax_2 5 rfl rfl)
theorem dX12_relax_55 : decode cX12_relax 55 = .ok (.astore 4, 2) := dk_58 4 (dk_at dksX12_relax_2 8 rfl rfl)
theorem dX12_relax_57 : decode cX12_relax 57 = .ok (.aload 4, 2) := dk_25 4 (dk_at dksX12_relax_2 10 rfl rfl)
theorem dX12_relax_59 : decode cX12_relax 59 = .ok (.getfield 136, 3) := dk_180 0 136 (dk_at dksX12_relax_2 12 rfl rfl)
theorem dX12_relax_62 : decode cX12_relax 62 = .ok (.ifCond .eq 6, 3) := dk_153 0 6 (dk_at dksX12_relax_2 15 rfl rfl)
theorem dX12_relax_65 : decode cX12_relax 65 = .ok (.goto 82, 3) := dk_167 0 82 (dk_at dksX12_relax_2 18 rfl rfl)
theorem dX12_relax_68 : decode cX12_relax 68 = .ok (.aload_n 0, 1) := dk_42 (dk_at dksX12_relax_2 21 rfl rfl)
theorem dX12_relax_69 : decode cX12_relax 69 = .ok (.iload_n 3, 1) := dk_29 (dk_at dksX12_relax_2 22 rfl rfl)
theorem dX12_relax_70 : decode cX12_relax 70 = .ok (.iload_n 1, 1) := dk_27 (dk_at dksX12_relax_2 23 rfl rfl)
theorem dX12_relax_71 : decode cX12_relax 71 = .ok (.invokevirtual 140, 3) := dk_182 0 140 (dk_at dksX12_relax_3 0 rfl rfl)
theorem dX12_relax_74 : decode cX12_relax 74 = .ok (.aload_n 0, 1) := dk_42 (dk_at dksX12_relax_3 3 rfl rfl)
theorem dX12_relax_75 : decode cX12_relax 75 = .ok (.iload_n 3, 1) := dk_29 (dk_at dksX12_relax_3 4 rfl rfl)
theorem dX12_relax_76 : decode cX12_relax 76 = .ok (.invokevirtual 144, 3) := dk_182 0 144 (dk_at dksX12_relax_3 5 rfl rfl)
theorem dX12_relax_79 : decode cX12_relax 79 = .ok (.lstore 5, 2) := dk_55 5 (dk_at dksX12_relax_3 8 rfl rfl)
theorem dX12_relax_81 : decode cX12_relax 81 = .ok (.aload_n 0, 1) := dk_42 (dk_at dksX12_relax_3 10 rfl rfl)
theorem dX12_relax_82 : decode cX12_relax 82 = .ok (.getfield 46, 3) := dk_180 0 46 (dk_at dksX12_relax_3 11 rfl rfl)
theorem dX12_relax_85 : decode cX12_relax 85 = .ok (.iload_n 3, 1) := dk_29 (dk_at dksX12_relax_3 14 rfl rfl)
theorem dX12_relax_86 : decode cX12_relax 86 = .ok (.aload_n 0, 1) := dk_42 (dk_at dksX12_relax_3 15 rfl rfl)
theorem dX12_relax_87 : decode cX12_relax 87 = .ok (.getfield 46, 3) := dk_180 0 46 (dk_at dksX12_relax_3 16 rfl rfl)
theorem dX12_relax_90 : decode cX12_relax 90 = .ok (.iload_n 3, 1) := dk_29 (dk_at dksX12_relax_3 19 rfl rfl)
theorem dX12_relax_91 : decode cX12_relax 91 = .ok (.laload, 1) := dk_47 (dk_at dksX12_relax_3 20 rfl rfl)
theorem dX12_relax_92 : decode cX12_relax 92 = .ok (.ldc2_w 87, 3) := dk_20 0 87 (dk_at dksX12_relax_3 21 rfl rfl)
theorem dX12_relax_95 : decode cX12_relax 95 = .ok (.aload_n 0, 1) := dk_42 (dk_at dksX12_relax_4 0 rfl rfl)
theorem dX12_relax_96 : decode cX12_relax 96 = .ok (.getfield 53, 3) := dk_180 0 53 (dk_at dksX12_relax_4 1 rfl rfl)
theorem dX12_relax_99 : decode cX12_relax 99 = .ok (.iload_n 3, 1) := dk_29 (dk_at dksX12_relax_4 4 rfl rfl)
theorem dX12_relax_100 : decode cX12_relax 100 = .ok (.laload, 1) := dk_47 (dk_at dksX12_relax_4 5 rfl rfl)
theorem dX12_relax_101 : decode cX12_relax 101 = .ok (.lmul, 1) := dk_105 (dk_at dksX12_relax_4 6 rfl rfl)
theorem dX12_relax_102 : decode cX12_relax 102 = .ok (.lload 5, 2) := dk_22 5 (dk_at dksX12_relax_4 7 rfl rfl)
theorem dX12_relax_104 : decode cX12_relax 104 = .ok (.ldiv, 1) := dk_109 (dk_at dksX12_relax_4 9 rfl rfl)
theorem dX12_relax_105 : decode cX12_relax 105 = .ok (.ladd, 1) := dk_97 (dk_at dksX12_relax_4 10 rfl rfl)
theorem dX12_relax_106 : decode cX12_relax 106 = .ok (.invokestatic 89, 3) := dk_184 0 89 (dk_at dksX12_relax_4 11 rfl rfl)
theorem dX12_relax_109 : decode cX12_relax 109 = .ok (.lastore, 1) := dk_80 (dk_at dksX12_relax_4 14 rfl rfl)
theorem dX12_relax_110 : decode cX12_relax 110 = .ok (.aload 4, 2) := dk_25 4 (dk_at dksX12_relax_4 15 rfl rfl)
theorem dX12_relax_112 : decode cX12_relax 112 = .ok (.getfield 148, 3) := dk_180 0 148 (dk_at dksX12_relax_4 17 rfl rfl)
theorem dX12_relax_115 : decode cX12_relax 115 = .ok (.ifCond .ne 32, 3) := dk_154 0 32 (dk_at dksX12_relax_4 20 rfl rfl)
theorem dX12_relax_118 : decode cX12_relax 118 = .ok (.aload_n 0, 1) := dk_42 (dk_at dksX12_relax_4 23 rfl rfl)
theorem dX12_relax_119 : decode cX12_relax 119 = .ok (.getfield 50, 3) := dk_180 0 50 (dk_at dksX12_relax_5 0 rfl rfl)
theorem dX12_relax_122 : decode cX12_relax 122 = .ok (.iload_n 3, 1) := dk_29 (dk_at dksX12_relax_5 3 rfl rfl)
theorem dX12_relax_123 : decode cX12_relax 123 = .ok (.aload_n 0, 1) := dk_42 (dk_at dksX12_relax_5 4 rfl rfl)
theorem dX12_relax_124 : decode cX12_relax 124 = .ok (.getfield 50, 3) := dk_180 0 50 (dk_at dksX12_relax_5 5 rfl rfl)
theorem dX12_relax_127 : decode cX12_relax 127 = .ok (.iload_n 3, 1) := dk_29 (dk_at dksX12_relax_5 8 rfl rfl)
theorem dX12_relax_128 : decode cX12_relax 128 = .ok (.laload, 1) := dk_47 (dk_at dksX12_relax_5 9 rfl rfl)
theorem dX12_relax_129 : decode cX12_relax 129 = .ok (.ldc2_w 87, 3) := dk_20 0 87 (dk_at dksX12_relax_5 10 rfl rfl)
theorem dX12_relax_132 : decode cX12_relax 132 = .ok (.aload_n 0, 1) := dk_42 (dk_at dksX12_relax_5 13 rfl rfl)
theorem dX12_relax_133 : decode cX12_relax 133 = .ok (.getfield 56, 3) := dk_180 0 56 (dk_at dksX12_relax_5 14 rfl rfl)
theorem dX12_relax_136 : decode cX12_relax 136 = .ok (.iload_n 3, 1) := dk_29 (dk_at dksX12_relax_5 17 rfl rfl)
theorem dX12_relax_137 : decode cX12_relax 137 = .ok (.laload, 1) := dk_47 (dk_at dksX12_relax_5 18 rfl rfl)
theorem dX12_relax_138 : decode cX12_relax 138 = .ok (.lmul, 1) := dk_105 (dk_at dksX12_relax_5 19 rfl rfl)
theorem dX12_relax_139 : decode cX12_relax 139 = .ok (.lload 5, 2) := dk_22 5 (dk_at dksX12_relax_5 20 rfl rfl)
theorem dX12_relax_141 : decode cX12_relax 141 = .ok (.ldiv, 1) := dk_109 (dk_at dksX12_relax_5 22 rfl rfl)
theorem dX12_relax_142 : decode cX12_relax 142 = .ok (.ladd, 1) := dk_97 (dk_at dksX12_relax_5 23 rfl rfl)
theorem dX12_relax_143 : decode cX12_relax 143 = .ok (.invokestatic 89, 3) := dk_184 0 89 (dk_at dksX12_relax_6 0 rfl rfl)
theorem dX12_relax_146 : decode cX12_relax 146 = .ok (.lastore, 1) := dk_80 (dk_at dksX12_relax_6 3 rfl rfl)
theorem dX12_relax_147 : decode cX12_relax 147 = .ok (.iinc 3 1, 3) := dk_132 3 1 (dk_at dksX12_relax_6 4 rfl rfl)
theorem dX12_relax_150 : decode cX12_relax 150 = .ok (.goto (-119), 3) := dk_167 255 137 (dk_at dksX12_relax_6 7 rfl rfl)
theorem dX12_relax_153 : decode cX12_relax 153 = .ok (.iinc 2 1, 3) := dk_132 2 1 (dk_at dksX12_relax_6 10 rfl rfl)
theorem dX12_relax_156 : decode cX12_relax 156 = .ok (.goto (-138), 3) := dk_167 255 118 (dk_at dksX12_relax_6 13 rfl rfl)
theorem dX12_relax_159 : decode cX12_relax 159 = .ok (.return_, 1) := dk_177 (dk_at dksX12_relax_6 16 rfl rfl)
abbrev cX12_balance : ByteArray := prog_15_method_5_code
def yX12_balance : MethodName := ⟨RX12, "balance", "(II)V"⟩
def dkwX12_balance_9 : List UInt8 := [80, 177]
abbrev dktX12_balance_9 : List UInt8 := dkwX12_balance_9 ++ []
def dkwX12_balance_8 : List UInt8 := [109, 97, 55, 5, 132, 9, 1, 167, 255, 168, 42, 180, 0, 53, 27, 33, 80, 42, 180, 0, 56, 27, 22, 5]
abbrev dktX12_balance_8 : List UInt8 := dkwX12_balance_8 ++ dktX12_balance_9
def dkwX12_balance_7 : List UInt8 := [133, 109, 97, 66, 22, 5, 22, 12, 21, 11, 25, 10, 180, 0, 74, 104, 133, 105, 25, 10, 180, 0, 77, 133]
abbrev dktX12_balance_7 : List UInt8 := dkwX12_balance_7 ++ dktX12_balance_8
def dkwX12_balance_6 : List UInt8 := [182, 0, 122, 133, 55, 12, 33, 22, 12, 21, 11, 25, 10, 180, 0, 71, 104, 133, 105, 25, 10, 180, 0, 77]
abbrev dktX12_balance_6 : List UInt8 := dkwX12_balance_6 ++ dktX12_balance_7
def dkwX12_balance_5 : List UInt8 := [21, 9, 50, 58, 10, 25, 10, 180, 0, 68, 27, 160, 0, 7, 4, 167, 0, 4, 2, 54, 11, 42, 25, 10]
abbrev dktX12_balance_5 : List UInt8 := dkwX12_balance_5 ++ dktX12_balance_6
def dkwX12_balance_4 : List UInt8 := [180, 0, 38, 27, 50, 58, 7, 25, 7, 190, 54, 8, 3, 54, 9, 21, 9, 21, 8, 162, 0, 87, 25, 7]
abbrev dktX12_balance_4 : List UInt8 := dkwX12_balance_4 ++ dktX12_balance_5
def dkwX12_balance_3 : List UInt8 := [182, 0, 116, 133, 97, 66, 22, 5, 25, 8, 182, 0, 119, 133, 97, 55, 5, 132, 7, 1, 167, 255, 176, 42]
abbrev dktX12_balance_3 : List UInt8 := dkwX12_balance_3 ++ dktX12_balance_4
def dkwX12_balance_2 : List UInt8 := [182, 0, 110, 27, 160, 0, 35, 25, 8, 182, 0, 113, 28, 164, 0, 6, 167, 0, 23, 33, 25, 8]
abbrev dktX12_balance_2 : List UInt8 := dkwX12_balance_2 ++ dktX12_balance_3
def dkwX12_balance_1 : List UInt8 := [162, 0, 69, 42, 180, 0, 7, 180, 0, 101, 21, 7, 185, 0, 104, 2, 0, 192, 0, 108, 58, 8, 25, 8]
abbrev dktX12_balance_1 : List UInt8 := dkwX12_balance_1 ++ dktX12_balance_2
def dkwX12_balance_0 : List UInt8 := [9, 66, 9, 55, 5, 3, 54, 7, 21, 7, 42, 180, 0, 7, 180, 0, 101, 185, 0, 27, 1, 0]
abbrev dktX12_balance_0 : List UInt8 := dkwX12_balance_0 ++ dktX12_balance_1
theorem dksX12_balance_0 : cX12_balance.data.toList.drop 0 = dktX12_balance_0 := by decide +kernel
theorem dksX12_balance_1 : cX12_balance.data.toList.drop 22 = dktX12_balance_1 := dk_seg dksX12_balance_0 22 rfl rfl
theorem dksX12_balance_2 : cX12_balance.data.toList.drop 46 = dktX12_balance_2 := dk_seg dksX12_balance_1 24 rfl rfl
theorem dksX12_balance_3 : cX12_balance.data.toList.drop 68 = dktX12_balance_3 := dk_seg dksX12_balance_2 22 rfl rfl
theorem dksX12_balance_4 : cX12_balance.data.toList.drop 92 = dktX12_balance_4 := dk_seg dksX12_balance_3 24 rfl rfl
theorem dksX12_balance_5 : cX12_balance.data.toList.drop 116 = dktX12_balance_5 := dk_seg dksX12_balance_4 24 rfl rfl
theorem dksX12_balance_6 : cX12_balance.data.toList.drop 140 = dktX12_balance_6 := dk_seg dksX12_balance_5 24 rfl rfl
theorem dksX12_balance_7 : cX12_balance.data.toList.drop 164 = dktX12_balance_7 := dk_seg dksX12_balance_6 24 rfl rfl
theorem dksX12_balance_8 : cX12_balance.data.toList.drop 188 = dktX12_balance_8 := dk_seg dksX12_balance_7 24 rfl rfl
theorem dksX12_balance_9 : cX12_balance.data.toList.drop 212 = dktX12_balance_9 := dk_seg dksX12_balance_8 24 rfl rfl
theorem dX12_balance_0 : decode cX12_balance 0 = .ok (.lconst 0, 1) := dk_9 (dk_at dksX12_balance_0 0 rfl rfl)
theorem dX12_balance_1 : decode cX12_balance 1 = .ok (.lstore_n 3, 1) := dk_66 (dk_at dksX12_balance_0 1 rfl rfl)
theorem dX12_balance_2 : decode cX12_balance 2 = .ok (.lconst 0, 1) := dk_9 (dk_at dksX12_balance_0 2 rfl rfl)
theorem dX12_balance_3 : decode cX12_balance 3 = .ok (.lstore 5, 2) := dk_55 5 (dk_at dksX12_balance_0 3 rfl rfl)
theorem dX12_balance_5 : decode cX12_balance 5 = .ok (.iconst 0, 1) := dk_3 (dk_at dksX12_balance_0 5 rfl rfl)
theorem dX12_balance_6 : decode cX12_balance 6 = .ok (.istore 7, 2) := dk_54 7 (dk_at dksX12_balance_0 6 rfl rfl)
theorem dX12_balance_8 : decode cX12_balance 8 = .ok (.iload 7, 2) := dk_21 7 (dk_at dksX12_balance_0 8 rfl rfl)
theorem dX12_balance_10 : decode cX12_balance 10 = .ok (.aload_n 0, 1) := dk_42 (dk_at dksX12_balance_0 10 rfl rfl)
theorem dX12_balance_11 : decode cX12_balance 11 = .ok (.getfield 7, 3) := dk_180 0 7 (dk_at dksX12_balance_0 11 rfl rfl)
theorem dX12_balance_14 : decode cX12_balance 14 = .ok (.getfield 101, 3) := dk_180 0 101 (dk_at dksX12_balance_0 14 rfl rfl)
theorem dX12_balance_17 : decode cX12_balance 17 = .ok (.invokeinterface 27 1, 5) := by decide +kernel
theorem dX12_balance_22 : decode cX12_balance 22 = .ok (.if_icmp .ge 69, 3) := dk_162 0 69 (dk_at dksX12_balance_1 0 rfl rfl)
theorem dX12_balance_25 : decode cX12_balance 25 = .ok (.aload_n 0, 1) := dk_42 (dk_at dksX12_balance_1 3 rfl rfl)
theorem dX12_balance_26 : decode cX12_balance 26 = .ok (.getfield 7, 3) := dk_180 0 7 (dk_at dksX12_balance_1 4 rfl rfl)
theorem dX12_balance_29 : decode cX12_balance 29 = .ok (.getfield 101, 3) := dk_180 0 101 (dk_at dksX12_balance_1 7 rfl rfl)
theorem dX12_balance_32 : decode cX12_balance 32 = .ok (.iload 7, 2) := dk_21 7 (dk_at dksX12_balance_1 10 rfl rfl)
theorem dX12_balance_34 : decode cX12_balance 34 = .ok (.invokeinterface 104 2, 5) := by decide +kernel
theorem dX12_balance_39 : decode cX12_balance 39 = .ok (.checkcast 108, 3) := dk_192 0 108 (dk_at dksX12_balance_1 17 rfl rfl)
theorem dX12_balance_42 : decode cX12_balance 42 = .ok (.astore 8, 2) := dk_58 8 (dk_at dksX12_balance_1 20 rfl rfl)
theorem dX12_balance_44 : decode cX12_balance 44 = .ok (.aload 8, 2) := dk_25 8 (dk_at dksX12_balance_1 22 rfl rfl)
theorem dX12_balance_46 : decode cX12_balance 46 = .ok (.invokevirtual 110, 3) := dk_182 0 110 (dk_at dksX12_balance_2 0 rfl rfl)
theorem dX12_balance_49 : decode cX12_balance 49 = .ok (.iload_n 1, 1) := dk_27 (dk_at dksX12_balance_2 3 rfl rfl)
theorem dX12_balance_50 : decode cX12_balance 50 = .ok (.if_icmp .ne 35, 3) := dk_160 0 35 (dk_at dksX12_balance_2 4 rfl rfl)
theorem dX12_balance_53 : decode cX12_balance 53 = .ok (.aload 8, 2) := dk_25 8 (dk_at dksX12_balance_2 7 rfl rfl)
theorem dX12_balance_55 : decode cX12_balance 55 = .ok (.invokevirtual 113, 3) := dk_182 0 113 (dk_at dksX12_balance_2 9 rfl rfl)
theorem dX12_balance_58 : decode cX12_balance 58 = .ok (.iload_n 2, 1) := dk_28 (dk_at dksX12_balance_2 12 rfl rfl)
theorem dX12_balance_59 : decode cX12_balance 59 = .ok (.if_icmp .le 6, 3) := dk_164 0 6 (dk_at dksX12_balance_2 13 rfl rfl)
theorem dX12_balance_62 : decode cX12_balance 62 = .ok (.goto 23, 3) := dk_167 0 23 (dk_at dksX12_balance_2 16 rfl rfl)
theorem dX12_balance_65 : decode cX12_balance 65 = .ok (.lload_n 3, 1) := dk_33 (dk_at dksX12_balance_2 19 rfl rfl)
theorem dX12_balance_66 : decode cX12_balance 66 = .ok (.aload 8, 2) := dk_25 8 (dk_at dksX12_balance_2 20 rfl rfl)
theorem dX12_balance_68 : decode cX12_balance 68 = .ok (.invokevirtual 116, 3) := dk_182 0 116 (dk_at dksX12_balance_3 0 rfl rfl)
theorem dX12_balance_71 : decode cX12_balance 71 = .ok (.i2l, 1) := dk_133 (dk_at dksX12_balance_3 3 rfl rfl)
theorem dX12_balance_72 : decode cX12_balance 72 = .ok (.ladd, 1) := dk_97 (dk_at dksX12_balance_3 4 rfl rfl)
theorem dX12_balance_73 : decode cX12_balance 73 = .ok (.lstore_n 3, 1) := dk_66 (dk_at dksX12_balance_3 5 rfl rfl)
theorem dX12_balance_74 : decode cX12_balance 74 = .ok (.lload 5, 2) := dk_22 5 (dk_at dksX12_balance_3 6 rfl rfl)
theorem dX12_balance_76 : decode cX12_balance 76 = .ok (.aload 8, 2) := dk_25 8 (dk_at dksX12_balance_3 8 rfl rfl)
theorem dX12_balance_78 : decode cX12_balance 78 = .ok (.invokevirtual 119, 3) := dk_182 0 119 (dk_at dksX12_balance_3 10 rfl rfl)
theorem dX12_balance_81 : decode cX12_balance 81 = .ok (.i2l, 1) := dk_133 (dk_at dksX12_balance_3 13 rfl rfl)
theorem dX12_balance_82 : decode cX12_balance 82 = .ok (.ladd, 1) := dk_97 (dk_at dksX12_balance_3 14 rfl rfl)
theorem dX12_balance_83 : decode cX12_balance 83 = .ok (.lstore 5, 2) := dk_55 5 (dk_at dksX12_balance_3 15 rfl rfl)
theorem dX12_balance_85 : decode cX12_balance 85 = .ok (.iinc 7 1, 3) := dk_132 7 1 (dk_at dksX12_balance_3 17 rfl rfl)
theorem dX12_balance_88 : decode cX12_balance 88 = .ok (.goto (-80), 3) := dk_167 255 176 (dk_at dksX12_balance_3 20 rfl rfl)
theorem dX12_balance_91 : decode cX12_balance 91 = .ok (.aload_n 0, 1) := dk_42 (dk_at dksX12_balance_3 23 rfl rfl)
theorem dX12_balance_92 : decode cX12_balance 92 = .ok (.getfield 38, 3) := dk_180 0 38 (dk_at dksX12_balance_4 0 rfl rfl)
theorem dX12_balance_95 : decode cX12_balance 95 = .ok (.iload_n 1, 1) := dk_27 (dk_at dksX12_balance_4 3 rfl rfl)
theorem dX12_balance_96 : decode cX12_balance 96 = .ok (.aaload, 1) := dk_50 (dk_at dksX12_balance_4 4 rfl rfl)
theorem dX12_balance_97 : decode cX12_balance 97 = .ok (.astore 7, 2) := dk_58 7 (dk_at dksX12_balance_4 5 rfl rfl)
theorem dX12_balance_99 : decode cX12_balance 99 = .ok (.aload 7, 2) := dk_25 7 (dk_at dksX12_balance_4 7 rfl rfl)
theorem dX12_balance_101 : decode cX12_balance 101 = .ok (.arraylength, 1) := dk_190 (dk_at dksX12_balance_4 9 rfl rfl)
theorem dX12_balance_102 : decode cX12_balance 102 = .ok (.istore 8, 2) := dk_54 8 (dk_at dksX12_balance_4 10 rfl rfl)
theorem dX12_balance_104 : decode cX12_balance 104 = .ok (.iconst 0, 1) := dk_3 (dk_at dksX12_balance_4 12 rfl rfl)
theorem dX12_balance_105 : decode cX12_balance 105 = .ok (.istore 9, 2) := dk_54 9 (dk_at dksX12_balance_4 13 rfl rfl)
theorem dX12_balance_107 : decode cX12_balance 107 = .ok (.iload 9, 2) := dk_21 9 (dk_at dksX12_balance_4 15 rfl rfl)
theorem dX12_balance_109 : decode cX12_balance 109 = .ok (.iload 8, 2) := dk_21 8 (dk_at dksX12_balance_4 17 rfl rfl)
theorem dX12_balance_111 : decode cX12_balance 111 = .ok (.if_icmp .ge 87, 3) := dk_162 0 87 (dk_at dksX12_balance_4 19 rfl rfl)
theorem dX12_balance_114 : decode cX12_balance 114 = .ok (.aload 7, 2) := dk_25 7 (dk_at dksX12_balance_4 22 rfl rfl)
theorem dX12_balance_116 : decode cX12_balance 116 = .ok (.iload 9, 2) := dk_21 9 (dk_at dksX12_balance_5 0 rfl rfl)
theorem dX12_balance_118 : decode cX12_balance 118 = .ok (.aaload, 1) := dk_50 (dk_at dksX12_balance_5 2 rfl rfl)
theorem dX12_balance_119 : decode cX12_balance 119 = .ok (.astore 10, 2) := dk_58 10 (dk_at dksX12_balance_5 3 rfl rfl)
theorem dX12_balance_121 : decode cX12_balance 121 = .ok (.aload 10, 2) := dk_25 10 (dk_at dksX12_balance_5 5 rfl rfl)
theorem dX12_balance_123 : decode cX12_balance 123 = .ok (.getfield 68, 3) := dk_180 0 68 (dk_at dksX12_balance_5 7 rfl rfl)
theorem dX12_balance_126 : decode cX12_balance 126 = .ok (.iload_n 1, 1) := dk_27 (dk_at dksX12_balance_5 10 rfl rfl)
theorem dX12_balance_127 : decode cX12_balance 127 = .ok (.if_icmp .ne 7, 3) := dk_160 0 7 (dk_at dksX12_balance_5 11 rfl rfl)
theorem dX12_balance_130 : decode cX12_balance 130 = .ok (.iconst 1, 1) := dk_4 (dk_at dksX12_balance_5 14 rfl rfl)
theorem dX12_balance_131 : decode cX12_balance 131 = .ok (.goto 4, 3) := dk_167 0 4 (dk_at dksX12_balance_5 15 rfl rfl)
theorem dX12_balance_134 : decode cX12_balance 134 = .ok (.iconst (-1), 1) := dk_2 (dk_at dksX12_balance_5 18 rfl rfl)
theorem dX12_balance_135 : decode cX12_balance 135 = .ok (.istore 11, 2) := dk_54 11 (dk_at dksX12_balance_5 19 rfl rfl)
theorem dX12_balance_137 : decode cX12_balance 137 = .ok (.aload_n 0, 1) := dk_42 (dk_at dksX12_balance_5 21 rfl rfl)
theorem dX12_balance_138 : decode cX12_balance 138 = .ok (.aload 10, 2) := dk_25 10 (dk_at dksX12_balance_5 22 rfl rfl)
theorem dX12_balance_140 : decode cX12_balance 140 = .ok (.invokevirtual 122, 3) := dk_182 0 122 (dk_at dksX12_balance_6 0 rfl rfl)
theorem dX12_balance_143 : decode cX12_balance 143 = .ok (.i2l, 1) := dk_133 (dk_at dksX12_balance_6 3 rfl rfl)
theorem dX12_balance_144 : decode cX12_balance 144 = .ok (.lstore 12, 2) := dk_55 12 (dk_at dksX12_balance_6 4 rfl rfl)
theorem dX12_balance_146 : decode cX12_balance 146 = .ok (.lload_n 3, 1) := dk_33 (dk_at dksX12_balance_6 6 rfl rfl)
theorem dX12_balance_147 : decode cX12_balance 147 = .ok (.lload 12, 2) := dk_22 12 (dk_at dksX12_balance_6 7 rfl rfl)
theorem dX12_balance_149 : decode cX12_balance 149 = .ok (.iload 11, 2) := dk_21 11 (dk_at dksX12_balance_6 9 rfl rfl)
theorem dX12_balance_151 : decode cX12_balance 151 = .ok (.aload 10, 2) := dk_25 10 (dk_at dksX12_balance_6 11 rfl rfl)
theorem dX12_balance_153 : decode cX12_balance 153 = .ok (.getfield 71, 3) := dk_180 0 71 (dk_at dksX12_balance_6 13 rfl rfl)
theorem dX12_balance_156 : decode cX12_balance 156 = .ok (.imul, 1) := dk_104 (dk_at dksX12_balance_6 16 rfl rfl)
theorem dX12_balance_157 : decode cX12_balance 157 = .ok (.i2l, 1) := dk_133 (dk_at dksX12_balance_6 17 rfl rfl)
theorem dX12_balance_158 : decode cX12_balance 158 = .ok (.lmul, 1) := dk_105 (dk_at dksX12_balance_6 18 rfl rfl)
theorem dX12_balance_159 : decode cX12_balance 159 = .ok (.aload 10, 2) := dk_25 10 (dk_at dksX12_balance_6 19 rfl rfl)
theorem dX12_balance_161 : decode cX12_balance 161 = .ok (.getfield 77, 3) := dk_180 0 77 (dk_at dksX12_balance_6 21 rfl rfl)
theorem dX12_balance_164 : decode cX12_balance 164 = .ok (.i2l, 1) := dk_133 (dk_at dksX12_balance_7 0 rfl rfl)
theorem dX12_balance_165 : decode cX12_balance 165 = .ok (.ldiv, 1) := dk_109 (dk_at dksX12_balance_7 1 rfl rfl)
theorem dX12_balance_166 : decode cX12_balance 166 = .ok (.ladd, 1) := dk_97 (dk_at dksX12_balance_7 2 rfl rfl)
theorem dX12_balance_167 : decode cX12_balance 167 = .ok (.lstore_n 3, 1) := dk_66 (dk_at dksX12_balance_7 3 rfl rfl)
theorem dX12_balance_168 : decode cX12_balance 168 = .ok (.lload 5, 2) := dk_22 5 (dk_at dksX12_balance_7 4 rfl rfl)
theorem dX12_balance_170 : decode cX12_balance 170 = .ok (.lload 12, 2) := dk_22 12 (dk_at dksX12_balance_7 6 rfl rfl)
theorem dX12_balance_172 : decode cX12_balance 172 = .ok (.iload 11, 2) := dk_21 11 (dk_at dksX12_balance_7 8 rfl rfl)
theorem dX12_balance_174 : decode cX12_balance 174 = .ok (.aload 10, 2) := dk_25 10 (dk_at dksX12_balance_7 10 rfl rfl)
theorem dX12_balance_176 : decode cX12_balance 176 = .ok (.getfield 74, 3) := dk_180 0 74 (dk_at dksX12_balance_7 12 rfl rfl)
theorem dX12_balance_179 : decode cX12_balance 179 = .ok (.imul, 1) := dk_104 (dk_at dksX12_balance_7 15 rfl rfl)
theorem dX12_balance_180 : decode cX12_balance 180 = .ok (.i2l, 1) := dk_133 (dk_at dksX12_balance_7 16 rfl rfl)
theorem dX12_balance_181 : decode cX12_balance 181 = .ok (.lmul, 1) := dk_105 (dk_at dksX12_balance_7 17 rfl rfl)
theorem dX12_balance_182 : decode cX12_balance 182 = .ok (.aload 10, 2) := dk_25 10 (dk_at dksX12_balance_7 18 rfl rfl)
theorem dX12_balance_184 : decode cX12_balance 184 = .ok (.getfield 77, 3) := dk_180 0 77 (dk_at dksX12_balance_7 20 rfl rfl)
theorem dX12_balance_187 : decode cX12_balance 187 = .ok (.i2l, 1) := dk_133 (dk_at dksX12_balance_7 23 rfl rfl)
theorem dX12_balance_188 : decode cX12_balance 188 = .ok (.ldiv, 1) := dk_109 (dk_at dksX12_balance_8 0 rfl rfl)
theorem dX12_balance_189 : decode cX12_balance 189 = .ok (.ladd, 1) := dk_97 (dk_at dksX12_balance_8 1 rfl rfl)
theorem dX12_balance_190 : decode cX12_balance 190 = .ok (.lstore 5, 2) := dk_55 5 (dk_at dksX12_balance_8 2 rfl rfl)
theorem dX12_balance_192 : decode cX12_balance 192 = .ok (.iinc 9 1, 3) := dk_132 9 1 (dk_at dksX12_balance_8 4 rfl rfl)
theorem dX12_balance_195 : decode cX12_balance 195 = .ok (.goto (-88), 3) := dk_167 255 168 (dk_at dksX12_balance_8 7 rfl rfl)
theorem dX12_balance_198 : decode cX12_balance 198 = .ok (.aload_n 0, 1) := dk_42 (dk_at dksX12_balance_8 10 rfl rfl)
theorem dX12_balance_199 : decode cX12_balance 199 = .ok (.getfield 53, 3) := dk_180 0 53 (dk_at dksX12_balance_8 11 rfl rfl)
theorem dX12_balance_202 : decode cX12_balance 202 = .ok (.iload_n 1, 1) := dk_27 (dk_at dksX12_balance_8 14 rfl rfl)
theorem dX12_balance_203 : decode cX12_balance 203 = .ok (.lload_n 3, 1) := dk_33 (dk_at dksX12_balance_8 15 rfl rfl)
theorem dX12_balance_204 : decode cX12_balance 204 = .ok (.lastore, 1) := dk_80 (dk_at dksX12_balance_8 16 rfl rfl)
theorem dX12_balance_205 : decode cX12_balance 205 = .ok (.aload_n 0, 1) := dk_42 (dk_at dksX12_balance_8 17 rfl rfl)
theorem dX12_balance_206 : decode cX12_balance 206 = .ok (.getfield 56, 3) := dk_180 0 56 (dk_at dksX12_balance_8 18 rfl rfl)
theorem dX12_balance_209 : decode cX12_balance 209 = .ok (.iload_n 1, 1) := dk_27 (dk_at dksX12_balance_8 21 rfl rfl)
theorem dX12_balance_210 : decode cX12_balance 210 = .ok (.lload 5, 2) := dk_22 5 (dk_at dksX12_balance_8 22 rfl rfl)
theorem dX12_balance_212 : decode cX12_balance 212 = .ok (.lastore, 1) := dk_80 (dk_at dksX12_balance_9 0 rfl rfl)
theorem dX12_balance_213 : decode cX12_balance 213 = .ok (.return_, 1) := dk_177 (dk_at dksX12_balance_9 1 rfl rfl)
abbrev cX12_forceIn : ByteArray := prog_15_method_3_code
def yX12_forceIn : MethodName := ⟨RX12, "forceIn", "(LElasticTruss$Member;)I"⟩
def dkwX12_forceIn_4 : List UInt8 := [184, 0, 89, 136, 172]
abbrev dktX12_forceIn_4 : List UInt8 := dkwX12_forceIn_4 ++ []
def dkwX12_forceIn_3 : List UInt8 := [180, 0, 7, 43, 182, 0, 83, 133, 105, 22, 4, 105, 20, 0, 87, 43, 180, 0, 77, 133, 105, 109]
abbrev dktX12_forceIn_3 : List UInt8 := dkwX12_forceIn_3 ++ dktX12_forceIn_4
def dkwX12_forceIn_2 : List UInt8 := [133, 105, 97, 65, 32, 43, 180, 0, 77, 133, 109, 55, 4, 42, 180, 0, 7, 180, 0, 80, 133, 42]
abbrev dktX12_forceIn_2 : List UInt8 := dkwX12_forceIn_2 ++ dktX12_forceIn_3
def dkwX12_forceIn_1 : List UInt8 := [105, 42, 180, 0, 50, 43, 180, 0, 65, 47, 42, 180, 0, 50, 43, 180, 0, 68, 47, 101, 43, 180, 0, 74]
abbrev dktX12_forceIn_1 : List UInt8 := dkwX12_forceIn_1 ++ dktX12_forceIn_2
def dkwX12_forceIn_0 : List UInt8 := [42, 180, 0, 46, 43, 180, 0, 65, 47, 42, 180, 0, 46, 43, 180, 0, 68, 47, 101, 43, 180, 0, 71, 133]
abbrev dktX12_forceIn_0 : List UInt8 := dkwX12_forceIn_0 ++ dktX12_forceIn_1
theorem dksX12_forceIn_0 : cX12_forceIn.data.toList.drop 0 = dktX12_forceIn_0 := by decide +kernel
theorem dksX12_forceIn_1 : cX12_forceIn.data.toList.drop 24 = dktX12_forceIn_1 := dk_seg dksX12_forceIn_0 24 rfl rfl
theorem dksX12_forceIn_2 : cX12_forceIn.data.toList.drop 48 = dktX12_forceIn_2 := dk_seg dksX12_forceIn_1 24 rfl rfl
theorem dksX12_forceIn_3 : cX12_forceIn.data.toList.drop 70 = dktX12_forceIn_3 := dk_seg dksX12_forceIn_2 22 rfl rfl
theorem dksX12_forceIn_4 : cX12_forceIn.data.toList.drop 92 = dktX12_forceIn_4 := dk_seg dksX12_forceIn_3 22 rfl rfl
theorem dX12_forceIn_0 : decode cX12_forceIn 0 = .ok (.aload_n 0, 1) := dk_42 (dk_at dksX12_forceIn_0 0 rfl rfl)
theorem dX12_forceIn_1 : decode cX12_forceIn 1 = .ok (.getfield 46, 3) := dk_180 0 46 (dk_at dksX12_forceIn_0 1 rfl rfl)
theorem dX12_forceIn_4 : decode cX12_forceIn 4 = .ok (.aload_n 1, 1) := dk_43 (dk_at dksX12_forceIn_0 4 rfl rfl)
theorem dX12_forceIn_5 : decode cX12_forceIn 5 = .ok (.getfield 65, 3) := dk_180 0 65 (dk_at dksX12_forceIn_0 5 rfl rfl)
theorem dX12_forceIn_8 : decode cX12_forceIn 8 = .ok (.laload, 1) := dk_47 (dk_at dksX12_forceIn_0 8 rfl rfl)
theorem dX12_forceIn_9 : decode cX12_forceIn 9 = .ok (.aload_n 0, 1) := dk_42 (dk_at dksX12_forceIn_0 9 rfl rfl)
theorem dX12_forceIn_10 : decode cX12_forceIn 10 = .ok (.getfield 46, 3) := dk_180 0 46 (dk_at dksX12_forceIn_0 10 rfl rfl)
theorem dX12_forceIn_13 : decode cX12_forceIn 13 = .ok (.aload_n 1, 1) := dk_43 (dk_at dksX12_forceIn_0 13 rfl rfl)
theorem dX12_forceIn_14 : decode cX12_forceIn 14 = .ok (.getfield 68, 3) := dk_180 0 68 (dk_at dksX12_forceIn_0 14 rfl rfl)
theorem dX12_forceIn_17 : decode cX12_forceIn 17 = .ok (.laload, 1) := dk_47 (dk_at dksX12_forceIn_0 17 rfl rfl)
theorem dX12_forceIn_18 : decode cX12_forceIn 18 = .ok (.lsub, 1) := dk_101 (dk_at dksX12_forceIn_0 18 rfl rfl)
theorem dX12_forceIn_19 : decode cX12_forceIn 19 = .ok (.aload_n 1, 1) := dk_43 (dk_at dksX12_forceIn_0 19 rfl rfl)
theorem dX12_forceIn_20 : decode cX12_forceIn 20 = .ok (.getfield 71, 3) := dk_180 0 71 (dk_at dksX12_forceIn_0 20 rfl rfl)
theorem dX12_forceIn_23 : decode cX12_forceIn 23 = .ok (.i2l, 1) := dk_133 (dk_at dksX12_forceIn_0 23 rfl rfl)
theorem dX12_forceIn_24 : decode cX12_forceIn 24 = .ok (.lmul, 1) := dk_105 (dk_at dksX12_forceIn_1 0 rfl rfl)
theorem dX12_forceIn_25 : decode cX12_forceIn 25 = .ok (.aload_n 0, 1) := dk_42 (dk_at dksX12_forceIn_1 1 rfl rfl)
theorem dX12_forceIn_26 : decode cX12_forceIn 26 = .ok (.getfield 50, 3) := dk_180 0 50 (dk_at dksX12_forceIn_1 2 rfl rfl)
theorem dX12_forceIn_29 : decode cX12_forceIn 29 = .ok (.aload_n 1, 1) := dk_43 (dk_at dksX12_forceIn_1 5 rfl rfl)
theorem dX12_forceIn_30 : decode cX12_forceIn 30 = .ok (.getfield 65, 3) := dk_180 0 65 (dk_at dksX12_forceIn_1 6 rfl rfl)
theorem dX12_forceIn_33 : decode cX12_forceIn 33 = .ok (.laload, 1) := dk_47 (dk_at dksX12_forceIn_1 9 rfl rfl)
theorem dX12_forceIn_34 : decode cX12_forceIn 34 = .ok (.aload_n 0, 1) := dk_42 (dk_at dksX12_forceIn_1 10 rfl rfl)
theorem dX12_forceIn_35 : decode cX12_forceIn 35 = .ok (.getfield 50, 3) := dk_180 0 50 (dk_at dksX12_forceIn_1 11 rfl rfl)
theorem dX12_forceIn_38 : decode cX12_forceIn 38 = .ok (.aload_n 1, 1) := dk_43 (dk_at dksX12_forceIn_1 14 rfl rfl)
theorem dX12_forceIn_39 : decode cX12_forceIn 39 = .ok (.getfield 68, 3) := dk_180 0 68 (dk_at dksX12_forceIn_1 15 rfl rfl)
theorem dX12_forceIn_42 : decode cX12_forceIn 42 = .ok (.laload, 1) := dk_47 (dk_at dksX12_forceIn_1 18 rfl rfl)
theorem dX12_forceIn_43 : decode cX12_forceIn 43 = .ok (.lsub, 1) := dk_101 (dk_at dksX12_forceIn_1 19 rfl rfl)
theorem dX12_forceIn_44 : decode cX12_forceIn 44 = .ok (.aload_n 1, 1) := dk_43 (dk_at dksX12_forceIn_1 20 rfl rfl)
theorem dX12_forceIn_45 : decode cX12_forceIn 45 = .ok (.getfield 74, 3) := dk_180 0 74 (dk_at dksX12_forceIn_1 21 rfl rfl)
theorem dX12_forceIn_48 : decode cX12_forceIn 48 = .ok (.i2l, 1) := dk_133 (dk_at dksX12_forceIn_2 0 rfl rfl)
theorem dX12_forceIn_49 : decode cX12_forceIn 49 = .ok (.lmul, 1) := dk_105 (dk_at dksX12_forceIn_2 1 rfl rfl)
theorem dX12_forceIn_50 : decode cX12_forceIn 50 = .ok (.ladd, 1) := dk_97 (dk_at dksX12_forceIn_2 2 rfl rfl)
theorem dX12_forceIn_51 : decode cX12_forceIn 51 = .ok (.lstore_n 2, 1) := dk_65 (dk_at dksX12_forceIn_2 3 rfl rfl)
theorem dX12_forceIn_52 : decode cX12_forceIn 52 = .ok (.lload_n 2, 1) := dk_32 (dk_at dksX12_forceIn_2 4 rfl rfl)
theorem dX12_forceIn_53 : decode cX12_forceIn 53 = .ok (.aload_n 1, 1) := dk_43 (dk_at dksX12_forceIn_2 5 rfl rfl)
theorem dX12_forceIn_54 : decode cX12_forceIn 54 = .ok (.getfield 77, 3) := dk_180 0 77 (dk_at dksX12_forceIn_2 6 rfl rfl)
theorem dX12_forceIn_57 : decode cX12_forceIn 57 = .ok (.i2l, 1) := dk_133 (dk_at dksX12_forceIn_2 9 rfl rfl)
theorem dX12_forceIn_58 : decode cX12_forceIn 58 = .ok (.ldiv, 1) := dk_109 (dk_at dksX12_forceIn_2 10 rfl rfl)
theorem dX12_forceIn_59 : decode cX12_forceIn 59 = .ok (.lstore 4, 2) := dk_55 4 (dk_at dksX12_forceIn_2 11 rfl rfl)
theorem dX12_forceIn_61 : decode cX12_forceIn 61 = .ok (.aload_n 0, 1) := dk_42 (dk_at dksX12_forceIn_2 13 rfl rfl)
theorem dX12_forceIn_62 : decode cX12_forceIn 62 = .ok (.getfield 7, 3) := dk_180 0 7 (dk_at dksX12_forceIn_2 14 rfl rfl)
theorem dX12_forceIn_65 : decode cX12_forceIn 65 = .ok (.getfield 80, 3) := dk_180 0 80 (dk_at dksX12_forceIn_2 17 rfl rfl)
theorem dX12_forceIn_68 : decode cX12_forceIn 68 = .ok (.i2l, 1) := dk_133 (dk_at dksX12_forceIn_2 20 rfl rfl)
theorem dX12_forceIn_69 : decode cX12_forceIn 69 = .ok (.aload_n 0, 1) := dk_42 (dk_at dksX12_forceIn_2 21 rfl rfl)
theorem dX12_forceIn_70 : decode cX12_forceIn 70 = .ok (.getfield 7, 3) := dk_180 0 7 (dk_at dksX12_forceIn_3 0 rfl rfl)
theorem dX12_forceIn_73 : decode cX12_forceIn 73 = .ok (.aload_n 1, 1) := dk_43 (dk_at dksX12_forceIn_3 3 rfl rfl)
theorem dX12_forceIn_74 : decode cX12_forceIn 74 = .ok (.invokevirtual 83, 3) := dk_182 0 83 (dk_at dksX12_forceIn_3 4 rfl rfl)
theorem dX12_forceIn_77 : decode cX12_forceIn 77 = .ok (.i2l, 1) := dk_133 (dk_at dksX12_forceIn_3 7 rfl rfl)
theorem dX12_forceIn_78 : decode cX12_forceIn 78 = .ok (.lmul, 1) := dk_105 (dk_at dksX12_forceIn_3 8 rfl rfl)
theorem dX12_forceIn_79 : decode cX12_forceIn 79 = .ok (.lload 4, 2) := dk_22 4 (dk_at dksX12_forceIn_3 9 rfl rfl)
theorem dX12_forceIn_81 : decode cX12_forceIn 81 = .ok (.lmul, 1) := dk_105 (dk_at dksX12_forceIn_3 11 rfl rfl)
theorem dX12_forceIn_82 : decode cX12_forceIn 82 = .ok (.ldc2_w 87, 3) := dk_20 0 87 (dk_at dksX12_forceIn_3 12 rfl rfl)
theorem dX12_forceIn_85 : decode cX12_forceIn 85 = .ok (.aload_n 1, 1) := dk_43 (dk_at dksX12_forceIn_3 15 rfl rfl)
theorem dX12_forceIn_86 : decode cX12_forceIn 86 = .ok (.getfield 77, 3) := dk_180 0 77 (dk_at dksX12_forceIn_3 16 rfl rfl)
theorem dX12_forceIn_89 : decode cX12_forceIn 89 = .ok (.i2l, 1) := dk_133 (dk_at dksX12_forceIn_3 19 rfl rfl)
theorem dX12_forceIn_90 : decode cX12_forceIn 90 = .ok (.lmul, 1) := dk_105 (dk_at dksX12_forceIn_3 20 rfl rfl)
theorem dX12_forceIn_91 : decode cX12_forceIn 91 = .ok (.ldiv, 1) := dk_109 (dk_at dksX12_forceIn_3 21 rfl rfl)
theorem dX12_forceIn_92 : decode cX12_forceIn 92 = .ok (.invokestatic 89, 3) := dk_184 0 89 (dk_at dksX12_forceIn_4 0 rfl rfl)
theorem dX12_forceIn_95 : decode cX12_forceIn 95 = .ok (.l2i, 1) := dk_136 (dk_at dksX12_forceIn_4 3 rfl rfl)
theorem dX12_forceIn_96 : decode cX12_forceIn 96 = .ok (.ireturn, 1) := dk_172 (dk_at dksX12_forceIn_4 4 rfl rfl)
abbrev cX12_stiffness : ByteArray := prog_15_method_4_code
def yX12_stiffness : MethodName := ⟨RX12, "stiffness", "(I)J"⟩
def dkwX12_stiffness_3 : List UInt8 := [173]
abbrev dktX12_stiffness_3 : List UInt8 := dkwX12_stiffness_3 ++ []
def dkwX12_stiffness_2 : List UInt8 := [182, 0, 83, 104, 25, 7, 180, 0, 77, 108, 133, 97, 65, 132, 6, 1, 167, 255, 212, 10, 32, 184, 0, 95]
abbrev dktX12_stiffness_2 : List UInt8 := dkwX12_stiffness_2 ++ dktX12_stiffness_3
def dkwX12_stiffness_1 : List UInt8 := [162, 0, 43, 25, 4, 21, 6, 50, 58, 7, 32, 42, 180, 0, 7, 180, 0, 80, 42, 180, 0, 7, 25, 7]
abbrev dktX12_stiffness_1 : List UInt8 := dkwX12_stiffness_1 ++ dktX12_stiffness_2
def dkwX12_stiffness_0 : List UInt8 := [9, 65, 42, 180, 0, 38, 27, 50, 58, 4, 25, 4, 190, 54, 5, 3, 54, 6, 21, 6, 21, 5]
abbrev dktX12_stiffness_0 : List UInt8 := dkwX12_stiffness_0 ++ dktX12_stiffness_1
theorem dksX12_stiffness_0 : cX12_stiffness.data.toList.drop 0 = dktX12_stiffness_0 := by decide +kernel
theorem dksX12_stiffness_1 : cX12_stiffness.data.toList.drop 22 = dktX12_stiffness_1 := dk_seg dksX12_stiffness_0 22 rfl rfl
theorem dksX12_stiffness_2 : cX12_stiffness.data.toList.drop 46 = dktX12_stiffness_2 := dk_seg dksX12_stiffness_1 24 rfl rfl
theorem dksX12_stiffness_3 : cX12_stiffness.data.toList.drop 70 = dktX12_stiffness_3 := dk_seg dksX12_stiffness_2 24 rfl rfl
theorem dX12_stiffness_0 : decode cX12_stiffness 0 = .ok (.lconst 0, 1) := dk_9 (dk_at dksX12_stiffness_0 0 rfl rfl)
theorem dX12_stiffness_1 : decode cX12_stiffness 1 = .ok (.lstore_n 2, 1) := dk_65 (dk_at dksX12_stiffness_0 1 rfl rfl)
theorem dX12_stiffness_2 : decode cX12_stiffness 2 = .ok (.aload_n 0, 1) := dk_42 (dk_at dksX12_stiffness_0 2 rfl rfl)
theorem dX12_stiffness_3 : decode cX12_stiffness 3 = .ok (.getfield 38, 3) := dk_180 0 38 (dk_at dksX12_stiffness_0 3 rfl rfl)
theorem dX12_stiffness_6 : decode cX12_stiffness 6 = .ok (.iload_n 1, 1) := dk_27 (dk_at dksX12_stiffness_0 6 rfl rfl)
theorem dX12_stiffness_7 : decode cX12_stiffness 7 = .ok (.aaload, 1) := dk_50 (dk_at dksX12_stiffness_0 7 rfl rfl)
theorem dX12_stiffness_8 : decode cX12_stiffness 8 = .ok (.astore 4, 2) := dk_58 4 (dk_at dksX12_stiffness_0 8 rfl rfl)
theorem dX12_stiffness_10 : decode cX12_stiffness 10 = .ok (.aload 4, 2) := dk_25 4 (dk_at dksX12_stiffness_0 10 rfl rfl)
theorem dX12_stiffness_12 : decode cX12_stiffness 12 = .ok (.arraylength, 1) := dk_190 (dk_at dksX12_stiffness_0 12 rfl rfl)
theorem dX12_stiffness_13 : decode cX12_stiffness 13 = .ok (.istore 5, 2) := dk_54 5 (dk_at dksX12_stiffness_0 13 rfl rfl)
theorem dX12_stiffness_15 : decode cX12_stiffness 15 = .ok (.iconst 0, 1) := dk_3 (dk_at dksX12_stiffness_0 15 rfl rfl)
theorem dX12_stiffness_16 : decode cX12_stiffness 16 = .ok (.istore 6, 2) := dk_54 6 (dk_at dksX12_stiffness_0 16 rfl rfl)
theorem dX12_stiffness_18 : decode cX12_stiffness 18 = .ok (.iload 6, 2) := dk_21 6 (dk_at dksX12_stiffness_0 18 rfl rfl)
theorem dX12_stiffness_20 : decode cX12_stiffness 20 = .ok (.iload 5, 2) := dk_21 5 (dk_at dksX12_stiffness_0 20 rfl rfl)
theorem dX12_stiffness_22 : decode cX12_stiffness 22 = .ok (.if_icmp .ge 43, 3) := dk_162 0 43 (dk_at dksX12_stiffness_1 0 rfl rfl)
theorem dX12_stiffness_25 : decode cX12_stiffness 25 = .ok (.aload 4, 2) := dk_25 4 (dk_at dksX12_stiffness_1 3 rfl rfl)
theorem dX12_stiffness_27 : decode cX12_stiffness 27 = .ok (.iload 6, 2) := dk_21 6 (dk_at dksX12_stiffness_1 5 rfl rfl)
theorem dX12_stiffness_29 : decode cX12_stiffness 29 = .ok (.aaload, 1) := dk_50 (dk_at dksX12_stiffness_1 7 rfl rfl)
theorem dX12_stiffness_30 : decode cX12_stiffness 30 = .ok (.astore 7, 2) := dk_58 7 (dk_at dksX12_stiffness_1 8 rfl rfl)
theorem dX12_stiffness_32 : decode cX12_stiffness 32 = .ok (.lload_n 2, 1) := dk_32 (dk_at dksX12_stiffness_1 10 rfl rfl)
theorem dX12_stiffness_33 : decode cX12_stiffness 33 = .ok (.aload_n 0, 1) := dk_42 (dk_at dksX12_stiffness_1 11 rfl rfl)
theorem dX12_stiffness_34 : decode cX12_stiffness 34 = .ok (.getfield 7, 3) := dk_180 0 7 (dk_at dksX12_stiffness_1 12 rfl rfl)
theorem dX12_stiffness_37 : decode cX12_stiffness 37 = .ok (.getfield 80, 3) := dk_180 0 80 (dk_at dksX12_stiffness_1 15 rfl rfl)
theorem dX12_stiffness_40 : decode cX12_stiffness 40 = .ok (.aload_n 0, 1) := dk_42 (dk_at dksX12_stiffness_1 18 rfl rfl)
theorem dX12_stiffness_41 : decode cX12_stiffness 41 = .ok (.getfield 7, 3) := dk_180 0 7 (dk_at dksX12_stiffness_1 19 rfl rfl)
theorem dX12_stiffness_44 : decode cX12_stiffness 44 = .ok (.aload 7, 2) := dk_25 7 (dk_at dksX12_stiffness_1 22 rfl rfl)
theorem dX12_stiffness_46 : decode cX12_stiffness 46 = .ok (.invokevirtual 83, 3) := dk_182 0 83 (dk_at dksX12_stiffness_2 0 rfl rfl)
theorem dX12_stiffness_49 : decode cX12_stiffness 49 = .ok (.imul, 1) := dk_104 (dk_at dksX12_stiffness_2 3 rfl rfl)
theorem dX12_stiffness_50 : decode cX12_stiffness 50 = .ok (.aload 7, 2) := dk_25 7 (dk_at dksX12_stiffness_2 4 rfl rfl)
theorem dX12_stiffness_52 : decode cX12_stiffness 52 = .ok (.getfield 77, 3) := dk_180 0 77 (dk_at dksX12_stiffness_2 6 rfl rfl)
theorem dX12_stiffness_55 : decode cX12_stiffness 55 = .ok (.idiv, 1) := dk_108 (dk_at dksX12_stiffness_2 9 rfl rfl)
theorem dX12_stiffness_56 : decode cX12_stiffness 56 = .ok (.i2l, 1) := dk_133 (dk_at dksX12_stiffness_2 10 rfl rfl)
theorem dX12_stiffness_57 : decode cX12_stiffness 57 = .ok (.ladd, 1) := dk_97 (dk_at dksX12_stiffness_2 11 rfl rfl)
theorem dX12_stiffness_58 : decode cX12_stiffness 58 = .ok (.lstore_n 2, 1) := dk_65 (dk_at dksX12_stiffness_2 12 rfl rfl)
theorem dX12_stiffness_59 : decode cX12_stiffness 59 = .ok (.iinc 6 1, 3) := dk_132 6 1 (dk_at dksX12_stiffness_2 13 rfl rfl)
theorem dX12_stiffness_62 : decode cX12_stiffness 62 = .ok (.goto (-44), 3) := dk_167 255 212 (dk_at dksX12_stiffness_2 16 rfl rfl)
theorem dX12_stiffness_65 : decode cX12_stiffness 65 = .ok (.lconst 1, 1) := dk_10 (dk_at dksX12_stiffness_2 19 rfl rfl)
theorem dX12_stiffness_66 : decode cX12_stiffness 66 = .ok (.lload_n 2, 1) := dk_32 (dk_at dksX12_stiffness_2 20 rfl rfl)
theorem dX12_stiffness_67 : decode cX12_stiffness 67 = .ok (.invokestatic 95, 3) := dk_184 0 95 (dk_at dksX12_stiffness_2 21 rfl rfl)
theorem dX12_stiffness_70 : decode cX12_stiffness 70 = .ok (.lreturn, 1) := dk_173 (dk_at dksX12_stiffness_3 0 rfl rfl)
abbrev cX12_failures : ByteArray := prog_15_method_9_code
def yX12_failures : MethodName := ⟨RX12, "failures", "()Ljava/util/Set;"⟩
def dkwX12_failures_4 : List UInt8 := [132, 3, 1, 167, 255, 179, 43, 176]
abbrev dktX12_failures_4 : List UInt8 := dkwX12_failures_4 ++ []
def dkwX12_failures_3 : List UInt8 := [187, 0, 167, 89, 29, 21, 4, 183, 0, 169, 185, 0, 171, 2, 0, 87, 132, 4, 1, 167, 255, 198]
abbrev dktX12_failures_3 : List UInt8 := dkwX12_failures_3 ++ dktX12_failures_4
def dkwX12_failures_2 : List UInt8 := [180, 0, 19, 21, 4, 50, 42, 42, 180, 0, 19, 21, 4, 50, 182, 0, 122, 182, 0, 155, 154, 0, 20, 43]
abbrev dktX12_failures_2 : List UInt8 := dkwX12_failures_2 ++ dktX12_failures_3
def dkwX12_failures_1 : List UInt8 := [29, 182, 0, 151, 3, 54, 4, 21, 4, 42, 180, 0, 19, 190, 162, 0, 54, 42, 180, 0, 7, 42]
abbrev dktX12_failures_1 : List UInt8 := dkwX12_failures_1 ++ dktX12_failures_2
def dkwX12_failures_0 : List UInt8 := [187, 0, 164, 89, 183, 0, 166, 76, 42, 180, 0, 7, 182, 0, 159, 61, 3, 62, 29, 28, 162, 0, 78, 42]
abbrev dktX12_failures_0 : List UInt8 := dkwX12_failures_0 ++ dktX12_failures_1
theorem dksX12_failures_0 : cX12_failures.data.toList.drop 0 = dktX12_failures_0 := by decide +kernel
theorem dksX12_failures_1 : cX12_failures.data.toList.drop 24 = dktX12_failures_1 := dk_seg dksX12_failures_0 24 rfl rfl
theorem dksX12_failures_2 : cX12_failures.data.toList.drop 46 = dktX12_failures_2 := dk_seg dksX12_failures_1 22 rfl rfl
theorem dksX12_failures_3 : cX12_failures.data.toList.drop 70 = dktX12_failures_3 := dk_seg dksX12_failures_2 24 rfl rfl
theorem dksX12_failures_4 : cX12_failures.data.toList.drop 92 = dktX12_failures_4 := dk_seg dksX12_failures_3 22 rfl rfl
theorem dX12_failures_0 : decode cX12_failures 0 = .ok (.new 164, 3) := dk_187 0 164 (dk_at dksX12_failures_0 0 rfl rfl)
theorem dX12_failures_3 : decode cX12_failures 3 = .ok (.dup, 1) := dk_89 (dk_at dksX12_failures_0 3 rfl rfl)
theorem dX12_failures_4 : decode cX12_failures 4 = .ok (.invokespecial 166, 3) := dk_183 0 166 (dk_at dksX12_failures_0 4 rfl rfl)
theorem dX12_failures_7 : decode cX12_failures 7 = .ok (.astore_n 1, 1) := dk_76 (dk_at dksX12_failures_0 7 rfl rfl)
theorem dX12_failures_8 : decode cX12_failures 8 = .ok (.aload_n 0, 1) := dk_42 (dk_at dksX12_failures_0 8 rfl rfl)
theorem dX12_failures_9 : decode cX12_failures 9 = .ok (.getfield 7, 3) := dk_180 0 7 (dk_at dksX12_failures_0 9 rfl rfl)
theorem dX12_failures_12 : decode cX12_failures 12 = .ok (.invokevirtual 159, 3) := dk_182 0 159 (dk_at dksX12_failures_0 12 rfl rfl)
theorem dX12_failures_15 : decode cX12_failures 15 = .ok (.istore_n 2, 1) := dk_61 (dk_at dksX12_failures_0 15 rfl rfl)
theorem dX12_failures_16 : decode cX12_failures 16 = .ok (.iconst 0, 1) := dk_3 (dk_at dksX12_failures_0 16 rfl rfl)
theorem dX12_failures_17 : decode cX12_failures 17 = .ok (.istore_n 3, 1) := dk_62 (dk_at dksX12_failures_0 17 rfl rfl)
theorem dX12_failures_18 : decode cX12_failures 18 = .ok (.iload_n 3, 1) := dk_29 (dk_at dksX12_failures_0 18 rfl rfl)
theorem dX12_failures_19 : decode cX12_failures 19 = .ok (.iload_n 2, 1) := dk_28 (dk_at dksX12_failures_0 19 rfl rfl)
theorem dX12_failures_20 : decode cX12_failures 20 = .ok (.if_icmp .ge 78, 3) := dk_162 0 78 (dk_at dksX12_failures_0 20 rfl rfl)
theorem dX12_failures_23 : decode cX12_failures 23 = .ok (.aload_n 0, 1) := dk_42 (dk_at dksX12_failures_0 23 rfl rfl)
theorem dX12_failures_24 : decode cX12_failures 24 = .ok (.iload_n 3, 1) := dk_29 (dk_at dksX12_failures_1 0 rfl rfl)
theorem dX12_failures_25 : decode cX12_failures 25 = .ok (.invokevirtual 151, 3) := dk_182 0 151 (dk_at dksX12_failures_1 1 rfl rfl)
theorem dX12_failures_28 : decode cX12_failures 28 = .ok (.iconst 0, 1) := dk_3 (dk_at dksX12_failures_1 4 rfl rfl)
theorem dX12_failures_29 : decode cX12_failures 29 = .ok (.istore 4, 2) := dk_54 4 (dk_at dksX12_failures_1 5 rfl rfl)
theorem dX12_failures_31 : decode cX12_failures 31 = .ok (.iload 4, 2) := dk_21 4 (dk_at dksX12_failures_1 7 rfl rfl)
theorem dX12_failures_33 : decode cX12_failures 33 = .ok (.aload_n 0, 1) := dk_42 (dk_at dksX12_failures_1 9 rfl rfl)
theorem dX12_failures_34 : decode cX12_failures 34 = .ok (.getfield 19, 3) := dk_180 0 19 (dk_at dksX12_failures_1 10 rfl rfl)
theorem dX12_failures_37 : decode cX12_failures 37 = .ok (.arraylength, 1) := dk_190 (dk_at dksX12_failures_1 13 rfl rfl)
theorem dX12_failures_38 : decode cX12_failures 38 = .ok (.if_icmp .ge 54, 3) := dk_162 0 54 (dk_at dksX12_failures_1 14 rfl rfl)
theorem dX12_failures_41 : decode cX12_failures 41 = .ok (.aload_n 0, 1) := dk_42 (dk_at dksX12_failures_1 17 rfl rfl)
theorem dX12_failures_42 : decode cX12_failures 42 = .ok (.getfield 7, 3) := dk_180 0 7 (dk_at dksX12_failures_1 18 rfl rfl)
theorem dX12_failures_45 : decode cX12_failures 45 = .ok (.aload_n 0, 1) := dk_42 (dk_at dksX12_failures_1 21 rfl rfl)
theorem dX12_failures_46 : decode cX12_failures 46 = .ok (.getfield 19, 3) := dk_180 0 19 (dk_at dksX12_failures_2 0 rfl rfl)
theorem dX12_failures_49 : decode cX12_failures 49 = .ok (.iload 4, 2) := dk_21 4 (dk_at dksX12_failures_2 3 rfl rfl)
theorem dX12_failures_51 : decode cX12_failures 51 = .ok (.aaload, 1) := dk_50 (dk_at dksX12_failures_2 5 rfl rfl)
theorem dX12_failures_52 : decode cX12_failures 52 = .ok (.aload_n 0, 1) := dk_42 (dk_at dksX12_failures_2 6 rfl rfl)
theorem dX12_failures_53 : decode cX12_failures 53 = .ok (.aload_n 0, 1) := dk_42 (dk_at dksX12_failures_2 7 rfl rfl)
theorem dX12_failures_54 : decode cX12_failures 54 = .ok (.getfield 19, 3) := dk_180 0 19 (dk_at dksX12_failures_2 8 rfl rfl)
theorem dX12_failures_57 : decode cX12_failures 57 = .ok (.iload 4, 2) := dk_21 4 (dk_at dksX12_failures_2 11 rfl rfl)
theorem dX12_failures_59 : decode cX12_failures 59 = .ok (.aaload, 1) := dk_50 (dk_at dksX12_failures_2 13 rfl rfl)
theorem dX12_failures_60 : decode cX12_failures 60 = .ok (.invokevirtual 122, 3) := dk_182 0 122 (dk_at dksX12_failures_2 14 rfl rfl)
theorem dX12_failures_63 : decode cX12_failures 63 = .ok (.invokevirtual 155, 3) := dk_182 0 155 (dk_at dksX12_failures_2 17 rfl rfl)
theorem dX12_failures_66 : decode cX12_failures 66 = .ok (.ifCond .ne 20, 3) := dk_154 0 20 (dk_at dksX12_failures_2 20 rfl rfl)
theorem dX12_failures_69 : decode cX12_failures 69 = .ok (.aload_n 1, 1) := dk_43 (dk_at dksX12_failures_2 23 rfl rfl)
theorem dX12_failures_70 : decode cX12_failures 70 = .ok (.new 167, 3) := dk_187 0 167 (dk_at dksX12_failures_3 0 rfl rfl)
theorem dX12_failures_73 : decode cX12_failures 73 = .ok (.dup, 1) := dk_89 (dk_at dksX12_failures_3 3 rfl rfl)
theorem dX12_failures_74 : decode cX12_failures 74 = .ok (.iload_n 3, 1) := dk_29 (dk_at dksX12_failures_3 4 rfl rfl)
theorem dX12_failures_75 : decode cX12_failures 75 = .ok (.iload 4, 2) := dk_21 4 (dk_at dksX12_failures_3 5 rfl rfl)
theorem dX12_failures_77 : decode cX12_failures 77 = .ok (.invokespecial 169, 3) := dk_183 0 169 (dk_at dksX12_failures_3 7 rfl rfl)
theorem dX12_failures_80 : decode cX12_failures 80 = .ok (.invokeinterface 171 2, 5) := by decide +kernel
theorem dX12_failures_85 : decode cX12_failures 85 = .ok (.pop, 1) := dk_87 (dk_at dksX12_failures_3 15 rfl rfl)
theorem dX12_failures_86 : decode cX12_failures 86 = .ok (.iinc 4 1, 3) := dk_132 4 1 (dk_at dksX12_failures_3 16 rfl rfl)
theorem dX12_failures_89 : decode cX12_failures 89 = .ok (.goto (-58), 3) := dk_167 255 198 (dk_at dksX12_failures_3 19 rfl rfl)
theorem dX12_failures_92 : decode cX12_failures 92 = .ok (.iinc 3 1, 3) := dk_132 3 1 (dk_at dksX12_failures_4 0 rfl rfl)
theorem dX12_failures_95 : decode cX12_failures 95 = .ok (.goto (-77), 3) := dk_167 255 179 (dk_at dksX12_failures_4 3 rfl rfl)
theorem dX12_failures_98 : decode cX12_failures 98 = .ok (.aload_n 1, 1) := dk_43 (dk_at dksX12_failures_4 6 rfl rfl)
theorem dX12_failures_99 : decode cX12_failures 99 = .ok (.areturn, 1) := dk_176 (dk_at dksX12_failures_4 7 rfl rfl)
abbrev cX12_bearsLoads : ByteArray := prog_15_method_8_code
def yX12_bearsLoads : MethodName := ⟨RX12, "bearsLoads", "()Z"⟩
def dkwX12_bearsLoads_1 : List UInt8 := [172, 132, 2, 1, 167, 255, 238, 4, 172]
abbrev dktX12_bearsLoads_1 : List UInt8 := dkwX12_bearsLoads_1 ++ []
def dkwX12_bearsLoads_0 : List UInt8 := [42, 180, 0, 7, 182, 0, 159, 60, 3, 61, 28, 27, 162, 0, 19, 42, 28, 182, 0, 162, 154, 0, 5, 3]
abbrev dktX12_bearsLoads_0 : List UInt8 := dkwX12_bearsLoads_0 ++ dktX12_bearsLoads_1
theorem dksX12_bearsLoads_0 : cX12_bearsLoads.data.toList.drop 0 = dktX12_bearsLoads_0 := by decide +kernel
theorem dksX12_bearsLoads_1 : cX12_bearsLoads.data.toList.drop 24 = dktX12_bearsLoads_1 := dk_seg dksX12_bearsLoads_0 24 rfl rfl
theorem dX12_bearsLoads_0 : decode cX12_bearsLoads 0 = .ok (.aload_n 0, 1) := dk_42 (dk_at dksX12_bearsLoads_0 0 rfl rfl)
theorem dX12_bearsLoads_1 : decode cX12_bearsLoads 1 = .ok (.getfield 7, 3) := dk_180 0 7 (dk_at dksX12_bearsLoads_0 1 rfl rfl)
theorem dX12_bearsLoads_4 : decode cX12_bearsLoads 4 = .ok (.invokevirtual 159, 3) := dk_182 0 159 (dk_at dksX12_bearsLoads_0 4 rfl rfl)
theorem dX12_bearsLoads_7 : decode cX12_bearsLoads 7 = .ok (.istore_n 1, 1) := dk_60 (dk_at dksX12_bearsLoads_0 7 rfl rfl)
theorem dX12_bearsLoads_8 : decode cX12_bearsLoads 8 = .ok (.iconst 0, 1) := dk_3 (dk_at dksX12_bearsLoads_0 8 rfl rfl)
theorem dX12_bearsLoads_9 : decode cX12_bearsLoads 9 = .ok (.istore_n 2, 1) := dk_61 (dk_at dksX12_bearsLoads_0 9 rfl rfl)
theorem dX12_bearsLoads_10 : decode cX12_bearsLoads 10 = .ok (.iload_n 2, 1) := dk_28 (dk_at dksX12_bearsLoads_0 10 rfl rfl)
theorem dX12_bearsLoads_11 : decode cX12_bearsLoads 11 = .ok (.iload_n 1, 1) := dk_27 (dk_at dksX12_bearsLoads_0 11 rfl rfl)
theorem dX12_bearsLoads_12 : decode cX12_bearsLoads 12 = .ok (.if_icmp .ge 19, 3) := dk_162 0 19 (dk_at dksX12_bearsLoads_0 12 rfl rfl)
theorem dX12_bearsLoads_15 : decode cX12_bearsLoads 15 = .ok (.aload_n 0, 1) := dk_42 (dk_at dksX12_bearsLoads_0 15 rfl rfl)
theorem dX12_bearsLoads_16 : decode cX12_bearsLoads 16 = .ok (.iload_n 2, 1) := dk_28 (dk_at dksX12_bearsLoads_0 16 rfl rfl)
theorem dX12_bearsLoads_17 : decode cX12_bearsLoads 17 = .ok (.invokevirtual 162, 3) := dk_182 0 162 (dk_at dksX12_bearsLoads_0 17 rfl rfl)
theorem dX12_bearsLoads_20 : decode cX12_bearsLoads 20 = .ok (.ifCond .ne 5, 3) := dk_154 0 5 (dk_at dksX12_bearsLoads_0 20 rfl rfl)
theorem dX12_bearsLoads_23 : decode cX12_bearsLoads 23 = .ok (.iconst 0, 1) := dk_3 (dk_at dksX12_bearsLoads_0 23 rfl rfl)
theorem dX12_bearsLoads_24 : decode cX12_bearsLoads 24 = .ok (.ireturn, 1) := dk_172 (dk_at dksX12_bearsLoads_1 0 rfl rfl)
theorem dX12_bearsLoads_25 : decode cX12_bearsLoads 25 = .ok (.iinc 2 1, 3) := dk_132 2 1 (dk_at dksX12_bearsLoads_1 1 rfl rfl)
theorem dX12_bearsLoads_28 : decode cX12_bearsLoads 28 = .ok (.goto (-18), 3) := dk_167 255 238 (dk_at dksX12_bearsLoads_1 4 rfl rfl)
theorem dX12_bearsLoads_31 : decode cX12_bearsLoads 31 = .ok (.iconst 1, 1) := dk_4 (dk_at dksX12_bearsLoads_1 7 rfl rfl)
theorem dX12_bearsLoads_32 : decode cX12_bearsLoads 32 = .ok (.ireturn, 1) := dk_172 (dk_at dksX12_bearsLoads_1 8 rfl rfl)
abbrev cX12_bears : ByteArray := prog_15_method_7_code
def yX12_bears : MethodName := ⟨RX12, "bears", "(I)Z"⟩
def dkwX12_bears_2 : List UInt8 := [172, 132, 4, 1, 167, 255, 221, 4, 172]
abbrev dktX12_bears_2 : List UInt8 := dkwX12_bears_2 ++ []
def dkwX12_bears_1 : List UInt8 := [21, 4, 50, 58, 5, 42, 180, 0, 7, 25, 5, 42, 25, 5, 182, 0, 122, 182, 0, 155, 154, 0, 5, 3]
abbrev dktX12_bears_1 : List UInt8 := dkwX12_bears_1 ++ dktX12_bears_2
def dkwX12_bears_0 : List UInt8 := [42, 27, 182, 0, 151, 42, 180, 0, 19, 77, 44, 190, 62, 3, 54, 4, 21, 4, 29, 162, 0, 35, 44]
abbrev dktX12_bears_0 : List UInt8 := dkwX12_bears_0 ++ dktX12_bears_1
theorem dksX12_bears_0 : cX12_bears.data.toList.drop 0 = dktX12_bears_0 := by decide +kernel
theorem dksX12_bears_1 : cX12_bears.data.toList.drop 23 = dktX12_bears_1 := dk_seg dksX12_bears_0 23 rfl rfl
theorem dksX12_bears_2 : cX12_bears.data.toList.drop 47 = dktX12_bears_2 := dk_seg dksX12_bears_1 24 rfl rfl
theorem dX12_bears_0 : decode cX12_bears 0 = .ok (.aload_n 0, 1) := dk_42 (dk_at dksX12_bears_0 0 rfl rfl)
theorem dX12_bears_1 : decode cX12_bears 1 = .ok (.iload_n 1, 1) := dk_27 (dk_at dksX12_bears_0 1 rfl rfl)
theorem dX12_bears_2 : decode cX12_bears 2 = .ok (.invokevirtual 151, 3) := dk_182 0 151 (dk_at dksX12_bears_0 2 rfl rfl)
theorem dX12_bears_5 : decode cX12_bears 5 = .ok (.aload_n 0, 1) := dk_42 (dk_at dksX12_bears_0 5 rfl rfl)
theorem dX12_bears_6 : decode cX12_bears 6 = .ok (.getfield 19, 3) := dk_180 0 19 (dk_at dksX12_bears_0 6 rfl rfl)
theorem dX12_bears_9 : decode cX12_bears 9 = .ok (.astore_n 2, 1) := dk_77 (dk_at dksX12_bears_0 9 rfl rfl)
theorem dX12_bears_10 : decode cX12_bears 10 = .ok (.aload_n 2, 1) := dk_44 (dk_at dksX12_bears_0 10 rfl rfl)
theorem dX12_bears_11 : decode cX12_bears 11 = .ok (.arraylength, 1) := dk_190 (dk_at dksX12_bears_0 11 rfl rfl)
theorem dX12_bears_12 : decode cX12_bears 12 = .ok (.istore_n 3, 1) := dk_62 (dk_at dksX12_bears_0 12 rfl rfl)
theorem dX12_bears_13 : decode cX12_bears 13 = .ok (.iconst 0, 1) := dk_3 (dk_at dksX12_bears_0 13 rfl rfl)
theorem dX12_bears_14 : decode cX12_bears 14 = .ok (.istore 4, 2) := dk_54 4 (dk_at dksX12_bears_0 14 rfl rfl)
theorem dX12_bears_16 : decode cX12_bears 16 = .ok (.iload 4, 2) := dk_21 4 (dk_at dksX12_bears_0 16 rfl rfl)
theorem dX12_bears_18 : decode cX12_bears 18 = .ok (.iload_n 3, 1) := dk_29 (dk_at dksX12_bears_0 18 rfl rfl)
theorem dX12_bears_19 : decode cX12_bears 19 = .ok (.if_icmp .ge 35, 3) := dk_162 0 35 (dk_at dksX12_bears_0 19 rfl rfl)
theorem dX12_bears_22 : decode cX12_bears 22 = .ok (.aload_n 2, 1) := dk_44 (dk_at dksX12_bears_0 22 rfl rfl)
theorem dX12_bears_23 : decode cX12_bears 23 = .ok (.iload 4, 2) := dk_21 4 (dk_at dksX12_bears_1 0 rfl rfl)
theorem dX12_bears_25 : decode cX12_bears 25 = .ok (.aaload, 1) := dk_50 (dk_at dksX12_bears_1 2 rfl rfl)
theorem dX12_bears_26 : decode cX12_bears 26 = .ok (.astore 5, 2) := dk_58 5 (dk_at dksX12_bears_1 3 rfl rfl)
theorem dX12_bears_28 : decode cX12_bears 28 = .ok (.aload_n 0, 1) := dk_42 (dk_at dksX12_bears_1 5 rfl rfl)
theorem dX12_bears_29 : decode cX12_bears 29 = .ok (.getfield 7, 3) := dk_180 0 7 (dk_at dksX12_bears_1 6 rfl rfl)
theorem dX12_bears_32 : decode cX12_bears 32 = .ok (.aload 5, 2) := dk_25 5 (dk_at dksX12_bears_1 9 rfl rfl)
theorem dX12_bears_34 : decode cX12_bears 34 = .ok (.aload_n 0, 1) := dk_42 (dk_at dksX12_bears_1 11 rfl rfl)
theorem dX12_bears_35 : decode cX12_bears 35 = .ok (.aload 5, 2) := dk_25 5 (dk_at dksX12_bears_1 12 rfl rfl)
theorem dX12_bears_37 : decode cX12_bears 37 = .ok (.invokevirtual 122, 3) := dk_182 0 122 (dk_at dksX12_bears_1 14 rfl rfl)
theorem dX12_bears_40 : decode cX12_bears 40 = .ok (.invokevirtual 155, 3) := dk_182 0 155 (dk_at dksX12_bears_1 17 rfl rfl)
theorem dX12_bears_43 : decode cX12_bears 43 = .ok (.ifCond .ne 5, 3) := dk_154 0 5 (dk_at dksX12_bears_1 20 rfl rfl)
theorem dX12_bears_46 : decode cX12_bears 46 = .ok (.iconst 0, 1) := dk_3 (dk_at dksX12_bears_1 23 rfl rfl)
theorem dX12_bears_47 : decode cX12_bears 47 = .ok (.ireturn, 1) := dk_172 (dk_at dksX12_bears_2 0 rfl rfl)
theorem dX12_bears_48 : decode cX12_bears 48 = .ok (.iinc 4 1, 3) := dk_132 4 1 (dk_at dksX12_bears_2 1 rfl rfl)
theorem dX12_bears_51 : decode cX12_bears 51 = .ok (.goto (-35), 3) := dk_167 255 221 (dk_at dksX12_bears_2 4 rfl rfl)
theorem dX12_bears_54 : decode cX12_bears 54 = .ok (.iconst 1, 1) := dk_4 (dk_at dksX12_bears_2 7 rfl rfl)
theorem dX12_bears_55 : decode cX12_bears 55 = .ok (.ireturn, 1) := dk_172 (dk_at dksX12_bears_2 8 rfl rfl)
theorem q161 : (Jvm.Cond.initialized "ElasticTruss$Relaxation") ∈ lw_all := lw_g (lw_at lw_m1 60 rfl) rfl
theorem q611 : (Jvm.Cond.fieldLinkNest "ElasticTruss$Relaxation" (80 : Nat) "ElasticTruss$Truss" "modulus" "I" "ElasticTruss") ∈ lw_tbl := lw_at lw_m3 30 rfl
theorem q614 : (Jvm.Cond.fieldLinkNest "ElasticTruss$Relaxation" (131 : Nat) "ElasticTruss$Truss" "sweeps" "I" "ElasticTruss") ∈ lw_tbl := lw_at lw_m3 33 rfl
theorem q615 : (Jvm.Cond.fieldLinkNest "ElasticTruss$Relaxation" (23 : Nat) "ElasticTruss$Truss" "nodes" "Ljava/util/List;" "ElasticTruss") ∈ lw_tbl := lw_at lw_m3 34 rfl
theorem q620 : (Jvm.Cond.fieldLinkNest "ElasticTruss$Relaxation" (101 : Nat) "ElasticTruss$Truss" "loads" "Ljava/util/List;" "ElasticTruss") ∈ lw_tbl := lw_at lw_m3 39 rfl
theorem q1122 : (Jvm.Cond.instantiable "ElasticTruss$Relaxation" (8 : Nat)) ∈ lw_all := lw_g (lw_at lw_m5 61 rfl) rfl
theorem q1124 : (Jvm.Cond.instanceMethod ({ cls := "ElasticTruss$Relaxation", name := "<init>", desc := "(LElasticTruss$Truss;)V" } : Jvm.MethodName)) ∈ lw_all := lw_g (lw_at lw_m5 63 rfl) rfl
theorem q1125 : (Jvm.Cond.code ({ cls := "ElasticTruss$Relaxation", name := "<init>", desc := "(LElasticTruss$Truss;)V" } : Jvm.MethodName) prog_15_method_1_code (3 : Nat) (Option.none : Option Jvm.ClassFile.FieldType)) ∈ lw_all := lw_g (lw_at lw_m5 64 rfl) rfl
theorem q1126 : (Jvm.Cond.methodLink "ElasticTruss$Relaxation" (1 : Nat) ({ cls := "java/lang/Object", name := "<init>", desc := "()V" } : Jvm.MethodName)) ∈ lw_all := lw_g (lw_at lw_m5 65 rfl) rfl
theorem q1127 : (Jvm.Cond.methodLink "ElasticTruss$Relaxation" (13 : Nat) ({ cls := "ElasticTruss$Truss", name := "row", desc := "()[LElasticTruss$Member;" } : Jvm.MethodName)) ∈ lw_all := lw_g (lw_at lw_m5 66 rfl) rfl
theorem q1134 : (Jvm.Cond.interfaceEntry "ElasticTruss$Relaxation" (27 : Nat)) ∈ lw_tbl := lw_at lw_m5 73 rfl
theorem q1135 : (Jvm.Cond.methodLink "ElasticTruss$Relaxation" (27 : Nat) ({ cls := "java/util/List", name := "size", desc := "()I" } : Jvm.MethodName)) ∈ lw_all := lw_g (lw_at lw_m5 74 rfl) rfl
theorem q1136 : (Jvm.Cond.classLink "ElasticTruss$Relaxation" (37 : Nat) "[LElasticTruss$Member;") ∈ lw_all := lw_g (lw_at lw_m5 75 rfl) rfl
theorem q1138 : (Jvm.Cond.methodLink "ElasticTruss$Relaxation" (42 : Nat) ({ cls := "ElasticTruss$Relaxation", name := "membersAt", desc := "(I)[LElasticTruss$Member;" } : Jvm.MethodName)) ∈ lw_all := lw_g (lw_at lw_m5 77 rfl) rfl
theorem q1139 : (Jvm.Cond.privateMethod ({ cls := "ElasticTruss$Relaxation", name := "membersAt", desc := "(I)[LElasticTruss$Member;" } : Jvm.MethodName)) ∈ lw_tbl := lw_at lw_m5 78 rfl
theorem q1140 : (Jvm.Cond.instanceMethod ({ cls := "ElasticTruss$Relaxation", name := "membersAt", desc := "(I)[LElasticTruss$Member;" } : Jvm.MethodName)) ∈ lw_all := lw_g (lw_at lw_m5 79 rfl) rfl
theorem q1141 : (Jvm.Cond.code ({ cls := "ElasticTruss$Relaxation", name := "membersAt", desc := "(I)[LElasticTruss$Member;" } : Jvm.MethodName) prog_15_method_2_code (8 : Nat) (Option.some (Jvm.ClassFile.FieldType.array (Jvm.ClassFile.FieldType.object "ElasticTruss$Member")))) ∈ lw_all := lw_g (lw_at lw_m5 80 rfl) rfl
theorem q1142 : (Jvm.Cond.methodLink "ElasticTruss$Relaxation" (59 : Nat) ({ cls := "ElasticTruss$Member", name := "isAt", desc := "(I)Z" } : Jvm.MethodName)) ∈ lw_all := lw_g (lw_at lw_m5 81 rfl) rfl
theorem q1146 : (Jvm.Cond.classLink "ElasticTruss$Relaxation" (60 : Nat) "ElasticTruss$Member") ∈ lw_all := lw_g (lw_at lw_m5 85 rfl) rfl
theorem q1147 : (Jvm.Cond.fieldLink "ElasticTruss$Relaxation" (7 : Nat) "ElasticTruss$Relaxation" "truss" "LElasticTruss$Truss;") ∈ lw_all := lw_g (lw_at lw_m5 86 rfl) rfl
theorem q1148 : (Jvm.Cond.fieldLink "ElasticTruss$Relaxation" (19 : Nat) "ElasticTruss$Relaxation" "members" "[LElasticTruss$Member;") ∈ lw_all := lw_g (lw_at lw_m5 87 rfl) rfl
theorem q1150 : (Jvm.Cond.fieldLink "ElasticTruss$Relaxation" (33 : Nat) "ElasticTruss$Relaxation" "nodeCount" "I") ∈ lw_all := lw_g (lw_at lw_m5 89 rfl) rfl
theorem q1151 : (Jvm.Cond.fieldLink "ElasticTruss$Relaxation" (38 : Nat) "ElasticTruss$Relaxation" "joined" "[[LElasticTruss$Member;") ∈ lw_all := lw_g (lw_at lw_m5 90 rfl) rfl
theorem q1153 : (Jvm.Cond.fieldLink "ElasticTruss$Relaxation" (46 : Nat) "ElasticTruss$Relaxation" "ux" "[J") ∈ lw_all := lw_g (lw_at lw_m5 92 rfl) rfl
theorem q1155 : (Jvm.Cond.fieldLink "ElasticTruss$Relaxation" (50 : Nat) "ElasticTruss$Relaxation" "uy" "[J") ∈ lw_all := lw_g (lw_at lw_m5 94 rfl) rfl
theorem q1157 : (Jvm.Cond.fieldLink "ElasticTruss$Relaxation" (53 : Nat) "ElasticTruss$Relaxation" "rx" "[J") ∈ lw_all := lw_g (lw_at lw_m5 96 rfl) rfl
theorem q1159 : (Jvm.Cond.fieldLink "ElasticTruss$Relaxation" (56 : Nat) "ElasticTruss$Relaxation" "ry" "[J") ∈ lw_all := lw_g (lw_at lw_m5 98 rfl) rfl
theorem q1161 : (Jvm.Cond.laysFinal "ElasticTruss$Relaxation" "ElasticTruss$Relaxation" "truss" "LElasticTruss$Truss;") ∈ lw_all := lw_g (lw_at lw_m5 100 rfl) rfl
theorem q1162 : (Jvm.Cond.soleField "ElasticTruss$Relaxation" "truss") ∈ lw_all := lw_g (lw_at lw_m5 101 rfl) rfl
theorem q1163 : (Jvm.Cond.laysFinal "ElasticTruss$Relaxation" "ElasticTruss$Relaxation" "members" "[LElasticTruss$Member;") ∈ lw_all := lw_g (lw_at lw_m5 102 rfl) rfl
theorem q1164 : (Jvm.Cond.soleField "ElasticTruss$Relaxation" "members") ∈ lw_all := lw_g (lw_at lw_m5 103 rfl) rfl
theorem q1165 : (Jvm.Cond.laysFinal "ElasticTruss$Relaxation" "ElasticTruss$Relaxation" "nodeCount" "I") ∈ lw_all := lw_g (lw_at lw_m5 104 rfl) rfl
theorem q1166 : (Jvm.Cond.soleField "ElasticTruss$Relaxation" "nodeCount") ∈ lw_all := lw_g (lw_at lw_m5 105 rfl) rfl
theorem q1167 : (Jvm.Cond.laysFinal "ElasticTruss$Relaxation" "ElasticTruss$Relaxation" "joined" "[[LElasticTruss$Member;") ∈ lw_all := lw_g (lw_at lw_m5 106 rfl) rfl
theorem q1168 : (Jvm.Cond.soleField "ElasticTruss$Relaxation" "joined") ∈ lw_all := lw_g (lw_at lw_m5 107 rfl) rfl
theorem q1169 : (Jvm.Cond.laysFinal "ElasticTruss$Relaxation" "ElasticTruss$Relaxation" "ux" "[J") ∈ lw_all := lw_g (lw_at lw_m5 108 rfl) rfl
theorem q1170 : (Jvm.Cond.soleField "ElasticTruss$Relaxation" "ux") ∈ lw_all := lw_g (lw_at lw_m5 109 rfl) rfl
theorem q1171 : (Jvm.Cond.laysFinal "ElasticTruss$Relaxation" "ElasticTruss$Relaxation" "uy" "[J") ∈ lw_all := lw_g (lw_at lw_m5 110 rfl) rfl
theorem q1172 : (Jvm.Cond.soleField "ElasticTruss$Relaxation" "uy") ∈ lw_all := lw_g (lw_at lw_m5 111 rfl) rfl
theorem q1173 : (Jvm.Cond.laysFinal "ElasticTruss$Relaxation" "ElasticTruss$Relaxation" "rx" "[J") ∈ lw_all := lw_g (lw_at lw_m5 112 rfl) rfl
theorem q1174 : (Jvm.Cond.soleField "ElasticTruss$Relaxation" "rx") ∈ lw_all := lw_g (lw_at lw_m5 113 rfl) rfl
theorem q1175 : (Jvm.Cond.laysFinal "ElasticTruss$Relaxation" "ElasticTruss$Relaxation" "ry" "[J") ∈ lw_all := lw_g (lw_at lw_m5 114 rfl) rfl
theorem q1176 : (Jvm.Cond.soleField "ElasticTruss$Relaxation" "ry") ∈ lw_all := lw_g (lw_at lw_m5 115 rfl) rfl
theorem q1177 : (Jvm.Cond.superclass "ElasticTruss$Relaxation" "java/lang/Object") ∈ lw_all := lw_g (lw_at lw_m5 116 rfl) rfl
theorem q1180 : (Jvm.Cond.instanceMethod ({ cls := "ElasticTruss$Relaxation", name := "relax", desc := "(I)V" } : Jvm.MethodName)) ∈ lw_all := lw_g (lw_at lw_m5 119 rfl) rfl
theorem q1181 : (Jvm.Cond.selects "ElasticTruss$Relaxation" ({ cls := "ElasticTruss$Relaxation", name := "relax", desc := "(I)V" } : Jvm.MethodName) ({ cls := "ElasticTruss$Relaxation", name := "relax", desc := "(I)V" } : Jvm.MethodName)) ∈ lw_all := lw_g (lw_at lw_m5 120 rfl) rfl
theorem q1182 : (Jvm.Cond.code ({ cls := "ElasticTruss$Relaxation", name := "relax", desc := "(I)V" } : Jvm.MethodName) prog_15_method_6_code (7 : Nat) (Option.none : Option Jvm.ClassFile.FieldType)) ∈ lw_all := lw_g (lw_at lw_m5 121 rfl) rfl
theorem q1183 : (Jvm.Cond.methodLink "ElasticTruss$Relaxation" (125 : Nat) ({ cls := "java/util/Arrays", name := "fill", desc := "([JJ)V" } : Jvm.MethodName)) ∈ lw_all := lw_g (lw_at lw_m5 122 rfl) rfl
theorem q1186 : (Jvm.Cond.interfaceEntry "ElasticTruss$Relaxation" (104 : Nat)) ∈ lw_tbl := lw_at lw_m5 125 rfl
theorem q1187 : (Jvm.Cond.methodLink "ElasticTruss$Relaxation" (104 : Nat) ({ cls := "java/util/List", name := "get", desc := "(I)Ljava/lang/Object;" } : Jvm.MethodName)) ∈ lw_all := lw_g (lw_at lw_m5 126 rfl) rfl
theorem q1205 : (Jvm.Cond.classLink "ElasticTruss$Relaxation" (134 : Nat) "ElasticTruss$Node") ∈ lw_all := lw_g (lw_at lw_m5 144 rfl) rfl
theorem q1206 : (Jvm.Cond.methodLink "ElasticTruss$Relaxation" (140 : Nat) ({ cls := "ElasticTruss$Relaxation", name := "balance", desc := "(II)V" } : Jvm.MethodName)) ∈ lw_all := lw_g (lw_at lw_m5 145 rfl) rfl
theorem q1207 : (Jvm.Cond.instanceMethod ({ cls := "ElasticTruss$Relaxation", name := "balance", desc := "(II)V" } : Jvm.MethodName)) ∈ lw_all := lw_g (lw_at lw_m5 146 rfl) rfl
theorem q1208 : (Jvm.Cond.selects "ElasticTruss$Relaxation" ({ cls := "ElasticTruss$Relaxation", name := "balance", desc := "(II)V" } : Jvm.MethodName) ({ cls := "ElasticTruss$Relaxation", name := "balance", desc := "(II)V" } : Jvm.MethodName)) ∈ lw_all := lw_g (lw_at lw_m5 147 rfl) rfl
theorem q1209 : (Jvm.Cond.code ({ cls := "ElasticTruss$Relaxation", name := "balance", desc := "(II)V" } : Jvm.MethodName) prog_15_method_5_code (14 : Nat) (Option.none : Option Jvm.ClassFile.FieldType)) ∈ lw_all := lw_g (lw_at lw_m5 148 rfl) rfl
theorem q1210 : (Jvm.Cond.classLink "ElasticTruss$Relaxation" (108 : Nat) "ElasticTruss$Load") ∈ lw_all := lw_g (lw_at lw_m5 149 rfl) rfl
theorem q1211 : (Jvm.Cond.methodLink "ElasticTruss$Relaxation" (110 : Nat) ({ cls := "ElasticTruss$Load", name := "node", desc := "()I" } : Jvm.MethodName)) ∈ lw_all := lw_g (lw_at lw_m5 150 rfl) rfl
theorem q1215 : (Jvm.Cond.methodLink "ElasticTruss$Relaxation" (113 : Nat) ({ cls := "ElasticTruss$Load", name := "stage", desc := "()I" } : Jvm.MethodName)) ∈ lw_all := lw_g (lw_at lw_m5 154 rfl) rfl
theorem q1216 : (Jvm.Cond.methodLink "ElasticTruss$Relaxation" (116 : Nat) ({ cls := "ElasticTruss$Load", name := "fx", desc := "()I" } : Jvm.MethodName)) ∈ lw_all := lw_g (lw_at lw_m5 155 rfl) rfl
theorem q1220 : (Jvm.Cond.methodLink "ElasticTruss$Relaxation" (119 : Nat) ({ cls := "ElasticTruss$Load", name := "fy", desc := "()I" } : Jvm.MethodName)) ∈ lw_all := lw_g (lw_at lw_m5 159 rfl) rfl
theorem q1224 : (Jvm.Cond.methodLink "ElasticTruss$Relaxation" (122 : Nat) ({ cls := "ElasticTruss$Relaxation", name := "forceIn", desc := "(LElasticTruss$Member;)I" } : Jvm.MethodName)) ∈ lw_all := lw_g (lw_at lw_m5 163 rfl) rfl
theorem q1225 : (Jvm.Cond.instanceMethod ({ cls := "ElasticTruss$Relaxation", name := "forceIn", desc := "(LElasticTruss$Member;)I" } : Jvm.MethodName)) ∈ lw_all := lw_g (lw_at lw_m5 164 rfl) rfl
theorem q1226 : (Jvm.Cond.selects "ElasticTruss$Relaxation" ({ cls := "ElasticTruss$Relaxation", name := "forceIn", desc := "(LElasticTruss$Member;)I" } : Jvm.MethodName) ({ cls := "ElasticTruss$Relaxation", name := "forceIn", desc := "(LElasticTruss$Member;)I" } : Jvm.MethodName)) ∈ lw_all := lw_g (lw_at lw_m5 165 rfl) rfl
theorem q1227 : (Jvm.Cond.code ({ cls := "ElasticTruss$Relaxation", name := "forceIn", desc := "(LElasticTruss$Member;)I" } : Jvm.MethodName) prog_15_method_3_code (6 : Nat) (Option.some Jvm.ClassFile.FieldType.int)) ∈ lw_all := lw_g (lw_at lw_m5 166 rfl) rfl
theorem q1228 : (Jvm.Cond.methodLink "ElasticTruss$Relaxation" (83 : Nat) ({ cls := "ElasticTruss$Truss", name := "areaOf", desc := "(LElasticTruss$Member;)I" } : Jvm.MethodName)) ∈ lw_all := lw_g (lw_at lw_m5 167 rfl) rfl
theorem q1229 : (Jvm.Cond.constantLong "ElasticTruss$Relaxation" (87 : Nat) (1000 : Int64)) ∈ lw_all := lw_g (lw_at lw_m5 168 rfl) rfl
theorem q1230 : (Jvm.Cond.methodLinkNest "ElasticTruss$Relaxation" (89 : Nat) ({ cls := "ElasticTruss", name := "limited", desc := "(J)J" } : Jvm.MethodName) "ElasticTruss") ∈ lw_tbl := lw_at lw_m5 169 rfl
theorem q1241 : (Jvm.Cond.methodLink "ElasticTruss$Relaxation" (144 : Nat) ({ cls := "ElasticTruss$Relaxation", name := "stiffness", desc := "(I)J" } : Jvm.MethodName)) ∈ lw_all := lw_g (lw_at lw_m5 180 rfl) rfl
theorem q1242 : (Jvm.Cond.privateMethod ({ cls := "ElasticTruss$Relaxation", name := "stiffness", desc := "(I)J" } : Jvm.MethodName)) ∈ lw_tbl := lw_at lw_m5 181 rfl
theorem q1243 : (Jvm.Cond.instanceMethod ({ cls := "ElasticTruss$Relaxation", name := "stiffness", desc := "(I)J" } : Jvm.MethodName)) ∈ lw_all := lw_g (lw_at lw_m5 182 rfl) rfl
theorem q1244 : (Jvm.Cond.code ({ cls := "ElasticTruss$Relaxation", name := "stiffness", desc := "(I)J" } : Jvm.MethodName) prog_15_method_4_code (8 : Nat) (Option.some Jvm.ClassFile.FieldType.long)) ∈ lw_all := lw_g (lw_at lw_m5 183 rfl) rfl
theorem q1245 : (Jvm.Cond.methodLink "ElasticTruss$Relaxation" (95 : Nat) ({ cls := "java/lang/Math", name := "max", desc := "(JJ)J" } : Jvm.MethodName)) ∈ lw_all := lw_g (lw_at lw_m5 184 rfl) rfl
theorem q1301 : (Jvm.Cond.instanceMethod ({ cls := "ElasticTruss$Relaxation", name := "failures", desc := "()Ljava/util/Set;" } : Jvm.MethodName)) ∈ lw_all := lw_g (lw_at lw_m6 0 rfl) rfl
theorem q1302 : (Jvm.Cond.selects "ElasticTruss$Relaxation" ({ cls := "ElasticTruss$Relaxation", name := "failures", desc := "()Ljava/util/Set;" } : Jvm.MethodName) ({ cls := "ElasticTruss$Relaxation", name := "failures", desc := "()Ljava/util/Set;" } : Jvm.MethodName)) ∈ lw_all := lw_g (lw_at lw_m6 1 rfl) rfl
theorem q1303 : (Jvm.Cond.code ({ cls := "ElasticTruss$Relaxation", name := "failures", desc := "()Ljava/util/Set;" } : Jvm.MethodName) prog_15_method_9_code (5 : Nat) (Option.some (Jvm.ClassFile.FieldType.object "java/util/Set"))) ∈ lw_all := lw_g (lw_at lw_m6 2 rfl) rfl
theorem q1304 : (Jvm.Cond.classLink "ElasticTruss$Relaxation" (164 : Nat) "java/util/LinkedHashSet") ∈ lw_all := lw_g (lw_at lw_m6 3 rfl) rfl
theorem q1306 : (Jvm.Cond.methodLink "ElasticTruss$Relaxation" (166 : Nat) ({ cls := "java/util/LinkedHashSet", name := "<init>", desc := "()V" } : Jvm.MethodName)) ∈ lw_all := lw_g (lw_at lw_m6 5 rfl) rfl
theorem q1671 : (Jvm.Cond.selects "ElasticTruss$Relaxation" ({ cls := "java/lang/Object", name := "toString", desc := "()Ljava/lang/String;" } : Jvm.MethodName) ({ cls := "java/lang/Object", name := "toString", desc := "()Ljava/lang/String;" } : Jvm.MethodName)) ∈ lw_all := lw_g (lw_at lw_m7 130 rfl) rfl
theorem q1690 : (Jvm.Cond.selects "ElasticTruss$Relaxation" ({ cls := "java/lang/Object", name := "getClass", desc := "()Ljava/lang/Class;" } : Jvm.MethodName) ({ cls := "java/lang/Object", name := "getClass", desc := "()Ljava/lang/Class;" } : Jvm.MethodName)) ∈ lw_all := lw_g (lw_at lw_m7 149 rfl) rfl
theorem q1823 : (Jvm.Cond.methodLink "ElasticTruss$Relaxation" (159 : Nat) ({ cls := "ElasticTruss$Truss", name := "countStages", desc := "()I" } : Jvm.MethodName)) ∈ lw_all := lw_g (lw_at lw_m8 42 rfl) rfl
theorem q1824 : (Jvm.Cond.methodLink "ElasticTruss$Relaxation" (151 : Nat) ({ cls := "ElasticTruss$Relaxation", name := "relax", desc := "(I)V" } : Jvm.MethodName)) ∈ lw_all := lw_g (lw_at lw_m8 43 rfl) rfl
theorem q1825 : (Jvm.Cond.methodLink "ElasticTruss$Relaxation" (155 : Nat) ({ cls := "ElasticTruss$Truss", name := "bears", desc := "(LElasticTruss$Member;I)Z" } : Jvm.MethodName)) ∈ lw_all := lw_g (lw_at lw_m8 44 rfl) rfl
theorem q1829 : (Jvm.Cond.classLink "ElasticTruss$Relaxation" (167 : Nat) "ElasticTruss$Failure") ∈ lw_all := lw_g (lw_at lw_m8 48 rfl) rfl
theorem q1831 : (Jvm.Cond.methodLink "ElasticTruss$Relaxation" (169 : Nat) ({ cls := "ElasticTruss$Failure", name := "<init>", desc := "(II)V" } : Jvm.MethodName)) ∈ lw_all := lw_g (lw_at lw_m8 50 rfl) rfl
theorem q1844 : (Jvm.Cond.interfaceEntry "ElasticTruss$Relaxation" (171 : Nat)) ∈ lw_tbl := lw_at lw_m8 63 rfl
theorem q1845 : (Jvm.Cond.methodLink "ElasticTruss$Relaxation" (171 : Nat) ({ cls := "java/util/Set", name := "add", desc := "(Ljava/lang/Object;)Z" } : Jvm.MethodName)) ∈ lw_all := lw_g (lw_at lw_m8 64 rfl) rfl
theorem q1901 : (Jvm.Cond.selects "ElasticTruss$Relaxation" ({ cls := "java/lang/Object", name := "hashCode", desc := "()I" } : Jvm.MethodName) ({ cls := "java/lang/Object", name := "hashCode", desc := "()I" } : Jvm.MethodName)) ∈ lw_all := lw_g (lw_at lw_m8 120 rfl) rfl
theorem q2335 : (Jvm.Cond.selects "ElasticTruss$Relaxation" ({ cls := "java/lang/Object", name := "equals", desc := "(Ljava/lang/Object;)Z" } : Jvm.MethodName) ({ cls := "java/lang/Object", name := "equals", desc := "(Ljava/lang/Object;)Z" } : Jvm.MethodName)) ∈ lw_all := lw_g (lw_at lw_m10 74 rfl) rfl
theorem q2631 : (Jvm.Cond.instanceMethod ({ cls := "ElasticTruss$Relaxation", name := "bearsLoads", desc := "()Z" } : Jvm.MethodName)) ∈ lw_all := lw_g (lw_at lw_m11 130 rfl) rfl
theorem q2632 : (Jvm.Cond.selects "ElasticTruss$Relaxation" ({ cls := "ElasticTruss$Relaxation", name := "bearsLoads", desc := "()Z" } : Jvm.MethodName) ({ cls := "ElasticTruss$Relaxation", name := "bearsLoads", desc := "()Z" } : Jvm.MethodName)) ∈ lw_all := lw_g (lw_at lw_m11 131 rfl) rfl
theorem q2633 : (Jvm.Cond.code ({ cls := "ElasticTruss$Relaxation", name := "bearsLoads", desc := "()Z" } : Jvm.MethodName) prog_15_method_8_code (3 : Nat) (Option.some Jvm.ClassFile.FieldType.boolean)) ∈ lw_all := lw_g (lw_at lw_m11 132 rfl) rfl
theorem q2634 : (Jvm.Cond.methodLink "ElasticTruss$Relaxation" (162 : Nat) ({ cls := "ElasticTruss$Relaxation", name := "bears", desc := "(I)Z" } : Jvm.MethodName)) ∈ lw_all := lw_g (lw_at lw_m11 133 rfl) rfl
theorem q2635 : (Jvm.Cond.privateMethod ({ cls := "ElasticTruss$Relaxation", name := "bears", desc := "(I)Z" } : Jvm.MethodName)) ∈ lw_tbl := lw_at lw_m11 134 rfl
theorem q2636 : (Jvm.Cond.instanceMethod ({ cls := "ElasticTruss$Relaxation", name := "bears", desc := "(I)Z" } : Jvm.MethodName)) ∈ lw_all := lw_g (lw_at lw_m11 135 rfl) rfl
theorem q2637 : (Jvm.Cond.code ({ cls := "ElasticTruss$Relaxation", name := "bears", desc := "(I)Z" } : Jvm.MethodName) prog_15_method_7_code (6 : Nat) (Option.some Jvm.ClassFile.FieldType.boolean)) ∈ lw_all := lw_g (lw_at lw_m11 136 rfl) rfl
theorem q2838 : (Jvm.Cond.fieldLinkNest "ElasticTruss$Relaxation" (136 : Nat) "ElasticTruss$Node" "isFixed" "Z" "ElasticTruss") ∈ lw_tbl := lw_at lw_m12 97 rfl
theorem q2840 : (Jvm.Cond.fieldLinkNest "ElasticTruss$Relaxation" (148 : Nat) "ElasticTruss$Node" "isOnRoller" "Z" "ElasticTruss") ∈ lw_tbl := lw_at lw_m12 99 rfl
theorem q2947 : (Jvm.Cond.fieldLinkNest "ElasticTruss$Relaxation" (68 : Nat) "ElasticTruss$Member" "first" "I" "ElasticTruss") ∈ lw_tbl := lw_at lw_m12 206 rfl
theorem q2951 : (Jvm.Cond.fieldLinkNest "ElasticTruss$Relaxation" (65 : Nat) "ElasticTruss$Member" "second" "I" "ElasticTruss") ∈ lw_tbl := lw_at lw_m12 210 rfl
theorem q2958 : (Jvm.Cond.fieldLinkNest "ElasticTruss$Relaxation" (71 : Nat) "ElasticTruss$Member" "dx" "I" "ElasticTruss") ∈ lw_tbl := lw_at lw_m12 217 rfl
theorem q2960 : (Jvm.Cond.fieldLinkNest "ElasticTruss$Relaxation" (74 : Nat) "ElasticTruss$Member" "dy" "I" "ElasticTruss") ∈ lw_tbl := lw_at lw_m12 219 rfl
theorem q2962 : (Jvm.Cond.fieldLinkNest "ElasticTruss$Relaxation" (77 : Nat) "ElasticTruss$Member" "length" "I" "ElasticTruss") ∈ lw_tbl := lw_at lw_m12 221 rfl
theorem q3880 : (Jvm.Cond.castable "ElasticTruss$Relaxation" "java/lang/Object") ∈ lw_tbl := lw_at lw_m16 179 rfl
theorem in_X12 : ∀ w ∈ wsX120, w ∈ lw_all := lw_in wsX120 [1161, 1163, 1165, 1167, 1169, 1171, 1173, 1175] (by decide +kernel) (by decide +kernel)

-- X13.ElasticTruss_Failure.lean.txt
/-! ElasticTruss$Failure -/
set_option maxRecDepth 100000
def RX13 : String := "ElasticTruss$Failure"
def TX13 : u_T := fun k => match k with
  | 0 => ("ElasticTruss$Failure", "stage", "I", true)
  | _ => ("ElasticTruss$Failure", "member", "I", true)
def tyX13 : Nat → FieldType := fun k => match k with
  | 0 => .int
  | _ => .int
abbrev wsX130 : List Cond := u_ws RX13 TX13 2
theorem nmX13 : ∀ a, a < 2 → ∀ b, b < 2 → a ≠ b → (TX13 a).2.1 ≠ (TX13 b).2.1 := by decide +kernel
theorem tyX13_ok : ∀ k, k < 2 → parseFieldDescriptor (TX13 k).2.2.1 = some (tyX13 k) := by decide +kernel
abbrev cX13_init : ByteArray := prog_4_method_1_code
def yX13_init : MethodName := ⟨RX13, "<init>", "(II)V"⟩
def dkwX13_init_0 : List UInt8 := [42, 183, 0, 3, 42, 27, 181, 0, 9, 42, 28, 181, 0, 15, 177]
abbrev dktX13_init_0 : List UInt8 := dkwX13_init_0 ++ []
theorem dksX13_init_0 : cX13_init.data.toList.drop 0 = dktX13_init_0 := by decide +kernel
theorem dX13_init_0 : decode cX13_init 0 = .ok (.aload_n 0, 1) := dk_42 (dk_at dksX13_init_0 0 rfl rfl)
theorem dX13_init_1 : decode cX13_init 1 = .ok (.invokespecial 3, 3) := dk_183 0 3 (dk_at dksX13_init_0 1 rfl rfl)
theorem dX13_init_4 : decode cX13_init 4 = .ok (.aload_n 0, 1) := dk_42 (dk_at dksX13_init_0 4 rfl rfl)
theorem dX13_init_5 : decode cX13_init 5 = .ok (.iload_n 1, 1) := dk_27 (dk_at dksX13_init_0 5 rfl rfl)
theorem dX13_init_6 : decode cX13_init 6 = .ok (.putfield 9, 3) := dk_181 0 9 (dk_at dksX13_init_0 6 rfl rfl)
theorem dX13_init_9 : decode cX13_init 9 = .ok (.aload_n 0, 1) := dk_42 (dk_at dksX13_init_0 9 rfl rfl)
theorem dX13_init_10 : decode cX13_init 10 = .ok (.iload_n 2, 1) := dk_28 (dk_at dksX13_init_0 10 rfl rfl)
theorem dX13_init_11 : decode cX13_init 11 = .ok (.putfield 15, 3) := dk_181 0 15 (dk_at dksX13_init_0 11 rfl rfl)
theorem dX13_init_14 : decode cX13_init 14 = .ok (.return_, 1) := dk_177 (dk_at dksX13_init_0 14 rfl rfl)
abbrev cX13_hashCode : ByteArray := prog_4_method_3_code
def yX13_hashCode : MethodName := ⟨RX13, "hashCode", "()I"⟩
def dkwX13_hashCode_0 : List UInt8 := [16, 16, 42, 180, 0, 9, 104, 42, 180, 0, 15, 96, 172]
abbrev dktX13_hashCode_0 : List UInt8 := dkwX13_hashCode_0 ++ []
theorem dksX13_hashCode_0 : cX13_hashCode.data.toList.drop 0 = dktX13_hashCode_0 := by decide +kernel
theorem dX13_hashCode_0 : decode cX13_hashCode 0 = .ok (.bipush 16, 2) := dk_16 16 (dk_at dksX13_hashCode_0 0 rfl rfl)
theorem dX13_hashCode_2 : decode cX13_hashCode 2 = .ok (.aload_n 0, 1) := dk_42 (dk_at dksX13_hashCode_0 2 rfl rfl)
theorem dX13_hashCode_3 : decode cX13_hashCode 3 = .ok (.getfield 9, 3) := dk_180 0 9 (dk_at dksX13_hashCode_0 3 rfl rfl)
theorem dX13_hashCode_6 : decode cX13_hashCode 6 = .ok (.imul, 1) := dk_104 (dk_at dksX13_hashCode_0 6 rfl rfl)
theorem dX13_hashCode_7 : decode cX13_hashCode 7 = .ok (.aload_n 0, 1) := dk_42 (dk_at dksX13_hashCode_0 7 rfl rfl)
theorem dX13_hashCode_8 : decode cX13_hashCode 8 = .ok (.getfield 15, 3) := dk_180 0 15 (dk_at dksX13_hashCode_0 8 rfl rfl)
theorem dX13_hashCode_11 : decode cX13_hashCode 11 = .ok (.iadd, 1) := dk_96 (dk_at dksX13_hashCode_0 11 rfl rfl)
theorem dX13_hashCode_12 : decode cX13_hashCode 12 = .ok (.ireturn, 1) := dk_172 (dk_at dksX13_hashCode_0 12 rfl rfl)
abbrev cX13_equals : ByteArray := prog_4_method_2_code
def yX13_equals : MethodName := ⟨RX13, "equals", "(Ljava/lang/Object;)Z"⟩
def dkwX13_equals_1 : List UInt8 := [180, 0, 15, 42, 180, 0, 15, 160, 0, 7, 4, 167, 0, 4, 3, 172]
abbrev dktX13_equals_1 : List UInt8 := dkwX13_equals_1 ++ []
def dkwX13_equals_0 : List UInt8 := [43, 193, 0, 10, 153, 0, 34, 43, 192, 0, 10, 77, 44, 180, 0, 9, 42, 180, 0, 9, 160, 0, 18, 44]
abbrev dktX13_equals_0 : List UInt8 := dkwX13_equals_0 ++ dktX13_equals_1
theorem dksX13_equals_0 : cX13_equals.data.toList.drop 0 = dktX13_equals_0 := by decide +kernel
theorem dksX13_equals_1 : cX13_equals.data.toList.drop 24 = dktX13_equals_1 := dk_seg dksX13_equals_0 24 rfl rfl
theorem dX13_equals_0 : decode cX13_equals 0 = .ok (.aload_n 1, 1) := dk_43 (dk_at dksX13_equals_0 0 rfl rfl)
theorem dX13_equals_1 : decode cX13_equals 1 = .ok (.instanceof 10, 3) := dk_193 0 10 (dk_at dksX13_equals_0 1 rfl rfl)
theorem dX13_equals_4 : decode cX13_equals 4 = .ok (.ifCond .eq 34, 3) := dk_153 0 34 (dk_at dksX13_equals_0 4 rfl rfl)
theorem dX13_equals_7 : decode cX13_equals 7 = .ok (.aload_n 1, 1) := dk_43 (dk_at dksX13_equals_0 7 rfl rfl)
theorem dX13_equals_8 : decode cX13_equals 8 = .ok (.checkcast 10, 3) := dk_192 0 10 (dk_at dksX13_equals_0 8 rfl rfl)
theorem dX13_equals_11 : decode cX13_equals 11 = .ok (.astore_n 2, 1) := dk_77 (dk_at dksX13_equals_0 11 rfl rfl)
theorem dX13_equals_12 : decode cX13_equals 12 = .ok (.aload_n 2, 1) := dk_44 (dk_at dksX13_equals_0 12 rfl rfl)
theorem dX13_equals_13 : decode cX13_equals 13 = .ok (.getfield 9, 3) := dk_180 0 9 (dk_at dksX13_equals_0 13 rfl rfl)
theorem dX13_equals_16 : decode cX13_equals 16 = .ok (.aload_n 0, 1) := dk_42 (dk_at dksX13_equals_0 16 rfl rfl)
theorem dX13_equals_17 : decode cX13_equals 17 = .ok (.getfield 9, 3) := dk_180 0 9 (dk_at dksX13_equals_0 17 rfl rfl)
theorem dX13_equals_20 : decode cX13_equals 20 = .ok (.if_icmp .ne 18, 3) := dk_160 0 18 (dk_at dksX13_equals_0 20 rfl rfl)
theorem dX13_equals_23 : decode cX13_equals 23 = .ok (.aload_n 2, 1) := dk_44 (dk_at dksX13_equals_0 23 rfl rfl)
theorem dX13_equals_24 : decode cX13_equals 24 = .ok (.getfield 15, 3) := dk_180 0 15 (dk_at dksX13_equals_1 0 rfl rfl)
theorem dX13_equals_27 : decode cX13_equals 27 = .ok (.aload_n 0, 1) := dk_42 (dk_at dksX13_equals_1 3 rfl rfl)
theorem dX13_equals_28 : decode cX13_equals 28 = .ok (.getfield 15, 3) := dk_180 0 15 (dk_at dksX13_equals_1 4 rfl rfl)
theorem dX13_equals_31 : decode cX13_equals 31 = .ok (.if_icmp .ne 7, 3) := dk_160 0 7 (dk_at dksX13_equals_1 7 rfl rfl)
theorem dX13_equals_34 : decode cX13_equals 34 = .ok (.iconst 1, 1) := dk_4 (dk_at dksX13_equals_1 10 rfl rfl)
theorem dX13_equals_35 : decode cX13_equals 35 = .ok (.goto 4, 3) := dk_167 0 4 (dk_at dksX13_equals_1 11 rfl rfl)
theorem dX13_equals_38 : decode cX13_equals 38 = .ok (.iconst 0, 1) := dk_3 (dk_at dksX13_equals_1 14 rfl rfl)
theorem dX13_equals_39 : decode cX13_equals 39 = .ok (.ireturn, 1) := dk_172 (dk_at dksX13_equals_1 15 rfl rfl)
theorem q169 : (Jvm.Cond.initialized "ElasticTruss$Failure") ∈ lw_all := lw_g (lw_at lw_m1 68 rfl) rfl
theorem q1661 : (Jvm.Cond.selects "ElasticTruss$Failure" ({ cls := "java/lang/Object", name := "toString", desc := "()Ljava/lang/String;" } : Jvm.MethodName) ({ cls := "java/lang/Object", name := "toString", desc := "()Ljava/lang/String;" } : Jvm.MethodName)) ∈ lw_all := lw_g (lw_at lw_m7 120 rfl) rfl
theorem q1681 : (Jvm.Cond.selects "ElasticTruss$Failure" ({ cls := "java/lang/Object", name := "getClass", desc := "()Ljava/lang/Class;" } : Jvm.MethodName) ({ cls := "java/lang/Object", name := "getClass", desc := "()Ljava/lang/Class;" } : Jvm.MethodName)) ∈ lw_all := lw_g (lw_at lw_m7 140 rfl) rfl
theorem q1830 : (Jvm.Cond.instantiable "ElasticTruss$Failure" (2 : Nat)) ∈ lw_all := lw_g (lw_at lw_m8 49 rfl) rfl
theorem q1832 : (Jvm.Cond.instanceMethod ({ cls := "ElasticTruss$Failure", name := "<init>", desc := "(II)V" } : Jvm.MethodName)) ∈ lw_all := lw_g (lw_at lw_m8 51 rfl) rfl
theorem q1833 : (Jvm.Cond.code ({ cls := "ElasticTruss$Failure", name := "<init>", desc := "(II)V" } : Jvm.MethodName) prog_4_method_1_code (3 : Nat) (Option.none : Option Jvm.ClassFile.FieldType)) ∈ lw_all := lw_g (lw_at lw_m8 52 rfl) rfl
theorem q1834 : (Jvm.Cond.methodLink "ElasticTruss$Failure" (3 : Nat) ({ cls := "java/lang/Object", name := "<init>", desc := "()V" } : Jvm.MethodName)) ∈ lw_all := lw_g (lw_at lw_m8 53 rfl) rfl
theorem q1835 : (Jvm.Cond.fieldLink "ElasticTruss$Failure" (9 : Nat) "ElasticTruss$Failure" "stage" "I") ∈ lw_all := lw_g (lw_at lw_m8 54 rfl) rfl
theorem q1837 : (Jvm.Cond.fieldLink "ElasticTruss$Failure" (15 : Nat) "ElasticTruss$Failure" "member" "I") ∈ lw_all := lw_g (lw_at lw_m8 56 rfl) rfl
theorem q1839 : (Jvm.Cond.laysFinal "ElasticTruss$Failure" "ElasticTruss$Failure" "stage" "I") ∈ lw_all := lw_g (lw_at lw_m8 58 rfl) rfl
theorem q1840 : (Jvm.Cond.soleField "ElasticTruss$Failure" "stage") ∈ lw_all := lw_g (lw_at lw_m8 59 rfl) rfl
theorem q1841 : (Jvm.Cond.laysFinal "ElasticTruss$Failure" "ElasticTruss$Failure" "member" "I") ∈ lw_all := lw_g (lw_at lw_m8 60 rfl) rfl
theorem q1842 : (Jvm.Cond.soleField "ElasticTruss$Failure" "member") ∈ lw_all := lw_g (lw_at lw_m8 61 rfl) rfl
theorem q1843 : (Jvm.Cond.superclass "ElasticTruss$Failure" "java/lang/Object") ∈ lw_all := lw_g (lw_at lw_m8 62 rfl) rfl
theorem q1879 : (Jvm.Cond.selects "ElasticTruss$Failure" ({ cls := "java/lang/Object", name := "hashCode", desc := "()I" } : Jvm.MethodName) ({ cls := "ElasticTruss$Failure", name := "hashCode", desc := "()I" } : Jvm.MethodName)) ∈ lw_all := lw_g (lw_at lw_m8 98 rfl) rfl
theorem q1880 : (Jvm.Cond.instanceMethod ({ cls := "ElasticTruss$Failure", name := "hashCode", desc := "()I" } : Jvm.MethodName)) ∈ lw_all := lw_g (lw_at lw_m8 99 rfl) rfl
theorem q1881 : (Jvm.Cond.code ({ cls := "ElasticTruss$Failure", name := "hashCode", desc := "()I" } : Jvm.MethodName) prog_4_method_3_code (1 : Nat) (Option.some Jvm.ClassFile.FieldType.int)) ∈ lw_all := lw_g (lw_at lw_m8 100 rfl) rfl
theorem q2316 : (Jvm.Cond.selects "ElasticTruss$Failure" ({ cls := "java/lang/Object", name := "equals", desc := "(Ljava/lang/Object;)Z" } : Jvm.MethodName) ({ cls := "ElasticTruss$Failure", name := "equals", desc := "(Ljava/lang/Object;)Z" } : Jvm.MethodName)) ∈ lw_all := lw_g (lw_at lw_m10 55 rfl) rfl
theorem q2317 : (Jvm.Cond.instanceMethod ({ cls := "ElasticTruss$Failure", name := "equals", desc := "(Ljava/lang/Object;)Z" } : Jvm.MethodName)) ∈ lw_all := lw_g (lw_at lw_m10 56 rfl) rfl
theorem q2318 : (Jvm.Cond.code ({ cls := "ElasticTruss$Failure", name := "equals", desc := "(Ljava/lang/Object;)Z" } : Jvm.MethodName) prog_4_method_2_code (3 : Nat) (Option.some Jvm.ClassFile.FieldType.boolean)) ∈ lw_all := lw_g (lw_at lw_m10 57 rfl) rfl
theorem q2319 : (Jvm.Cond.classLink "ElasticTruss$Failure" (10 : Nat) "ElasticTruss$Failure") ∈ lw_all := lw_g (lw_at lw_m10 58 rfl) rfl
theorem q3884 : (Jvm.Cond.castable "ElasticTruss$Failure" "java/lang/Object") ∈ lw_tbl := lw_at lw_m16 183 rfl
theorem in_X13 : ∀ w ∈ wsX130, w ∈ lw_all := lw_in wsX130 [1839, 1841] (by decide +kernel) (by decide +kernel)

-- X14.ElasticTruss_Operator_1.lean.txt
/-! ElasticTruss$Operator$1 -/
set_option maxRecDepth 100000
def RX14 : String := "ElasticTruss$Operator$1"
abbrev cX14_apply : ByteArray := prog_9_method_2_code
def yX14_apply : MethodName := ⟨RX14, "apply", "(JJ)J"⟩
def dkwX14_apply_0 : List UInt8 := [31, 33, 97, 173]
abbrev dktX14_apply_0 : List UInt8 := dkwX14_apply_0 ++ []
theorem dksX14_apply_0 : cX14_apply.data.toList.drop 0 = dktX14_apply_0 := by decide +kernel
theorem dX14_apply_0 : decode cX14_apply 0 = .ok (.lload_n 1, 1) := dk_31 (dk_at dksX14_apply_0 0 rfl rfl)
theorem dX14_apply_1 : decode cX14_apply 1 = .ok (.lload_n 3, 1) := dk_33 (dk_at dksX14_apply_0 1 rfl rfl)
theorem dX14_apply_2 : decode cX14_apply 2 = .ok (.ladd, 1) := dk_97 (dk_at dksX14_apply_0 2 rfl rfl)
theorem dX14_apply_3 : decode cX14_apply 3 = .ok (.lreturn, 1) := dk_173 (dk_at dksX14_apply_0 3 rfl rfl)
theorem q1274 : (Jvm.Cond.selects "ElasticTruss$Operator$1" ({ cls := "ElasticTruss$Operator", name := "apply", desc := "(JJ)J" } : Jvm.MethodName) ({ cls := "ElasticTruss$Operator$1", name := "apply", desc := "(JJ)J" } : Jvm.MethodName)) ∈ lw_all := lw_g (lw_at lw_m5 213 rfl) rfl
theorem q1275 : (Jvm.Cond.instanceMethod ({ cls := "ElasticTruss$Operator$1", name := "apply", desc := "(JJ)J" } : Jvm.MethodName)) ∈ lw_all := lw_g (lw_at lw_m5 214 rfl) rfl
theorem q1276 : (Jvm.Cond.code ({ cls := "ElasticTruss$Operator$1", name := "apply", desc := "(JJ)J" } : Jvm.MethodName) prog_9_method_2_code (5 : Nat) (Option.some Jvm.ClassFile.FieldType.long)) ∈ lw_all := lw_g (lw_at lw_m5 215 rfl) rfl
theorem q1664 : (Jvm.Cond.selects "ElasticTruss$Operator$1" ({ cls := "java/lang/Object", name := "toString", desc := "()Ljava/lang/String;" } : Jvm.MethodName) ({ cls := "java/lang/Enum", name := "toString", desc := "()Ljava/lang/String;" } : Jvm.MethodName)) ∈ lw_all := lw_g (lw_at lw_m7 123 rfl) rfl
theorem q1685 : (Jvm.Cond.selects "ElasticTruss$Operator$1" ({ cls := "java/lang/Object", name := "getClass", desc := "()Ljava/lang/Class;" } : Jvm.MethodName) ({ cls := "java/lang/Object", name := "getClass", desc := "()Ljava/lang/Class;" } : Jvm.MethodName)) ∈ lw_all := lw_g (lw_at lw_m7 144 rfl) rfl
theorem q1889 : (Jvm.Cond.selects "ElasticTruss$Operator$1" ({ cls := "java/lang/Object", name := "hashCode", desc := "()I" } : Jvm.MethodName) ({ cls := "java/lang/Enum", name := "hashCode", desc := "()I" } : Jvm.MethodName)) ∈ lw_all := lw_g (lw_at lw_m8 108 rfl) rfl
theorem q2075 : (Jvm.Cond.castable "ElasticTruss$Operator$1" "java/lang/Comparable") ∈ lw_tbl := lw_at lw_m9 54 rfl
theorem q2076 : (Jvm.Cond.selects "ElasticTruss$Operator$1" ({ cls := "java/lang/Comparable", name := "compareTo", desc := "(Ljava/lang/Object;)I" } : Jvm.MethodName) ({ cls := "java/lang/Enum", name := "compareTo", desc := "(Ljava/lang/Object;)I" } : Jvm.MethodName)) ∈ lw_all := lw_g (lw_at lw_m9 55 rfl) rfl
theorem q2077 : (Jvm.Cond.unhidden "ElasticTruss$Operator$1" "compareTo" "(Ljava/lang/Object;)I") ∈ lw_tbl := lw_at lw_m9 56 rfl
theorem q2085 : (Jvm.Cond.selects "ElasticTruss$Operator$1" ({ cls := "java/lang/Enum", name := "compareTo", desc := "(Ljava/lang/Enum;)I" } : Jvm.MethodName) ({ cls := "java/lang/Enum", name := "compareTo", desc := "(Ljava/lang/Enum;)I" } : Jvm.MethodName)) ∈ lw_all := lw_g (lw_at lw_m9 64 rfl) rfl
theorem q2094 : (Jvm.Cond.selects "ElasticTruss$Operator$1" ({ cls := "java/lang/Enum", name := "getDeclaringClass", desc := "()Ljava/lang/Class;" } : Jvm.MethodName) ({ cls := "java/lang/Enum", name := "getDeclaringClass", desc := "()Ljava/lang/Class;" } : Jvm.MethodName)) ∈ lw_all := lw_g (lw_at lw_m9 73 rfl) rfl
theorem q2325 : (Jvm.Cond.selects "ElasticTruss$Operator$1" ({ cls := "java/lang/Object", name := "equals", desc := "(Ljava/lang/Object;)Z" } : Jvm.MethodName) ({ cls := "java/lang/Enum", name := "equals", desc := "(Ljava/lang/Object;)Z" } : Jvm.MethodName)) ∈ lw_all := lw_g (lw_at lw_m10 64 rfl) rfl
theorem q3826 : (Jvm.Cond.castable "ElasticTruss$Operator$1" "java/lang/Enum") ∈ lw_tbl := lw_at lw_m16 125 rfl
theorem q3870 : (Jvm.Cond.castable "ElasticTruss$Operator$1" "java/lang/Object") ∈ lw_tbl := lw_at lw_m16 169 rfl
theorem q3894 : (Jvm.Cond.castable "ElasticTruss$Operator$1" "ElasticTruss$Operator") ∈ lw_tbl := lw_at lw_m16 193 rfl

-- X15.ElasticTruss_Operator_2.lean.txt
/-! ElasticTruss$Operator$2 -/
set_option maxRecDepth 100000
def RX15 : String := "ElasticTruss$Operator$2"
abbrev cX15_apply : ByteArray := prog_10_method_2_code
def yX15_apply : MethodName := ⟨RX15, "apply", "(JJ)J"⟩
def dkwX15_apply_0 : List UInt8 := [31, 33, 101, 173]
abbrev dktX15_apply_0 : List UInt8 := dkwX15_apply_0 ++ []
theorem dksX15_apply_0 : cX15_apply.data.toList.drop 0 = dktX15_apply_0 := by decide +kernel
theorem dX15_apply_0 : decode cX15_apply 0 = .ok (.lload_n 1, 1) := dk_31 (dk_at dksX15_apply_0 0 rfl rfl)
theorem dX15_apply_1 : decode cX15_apply 1 = .ok (.lload_n 3, 1) := dk_33 (dk_at dksX15_apply_0 1 rfl rfl)
theorem dX15_apply_2 : decode cX15_apply 2 = .ok (.lsub, 1) := dk_101 (dk_at dksX15_apply_0 2 rfl rfl)
theorem dX15_apply_3 : decode cX15_apply 3 = .ok (.lreturn, 1) := dk_173 (dk_at dksX15_apply_0 3 rfl rfl)
theorem q1277 : (Jvm.Cond.selects "ElasticTruss$Operator$2" ({ cls := "ElasticTruss$Operator", name := "apply", desc := "(JJ)J" } : Jvm.MethodName) ({ cls := "ElasticTruss$Operator$2", name := "apply", desc := "(JJ)J" } : Jvm.MethodName)) ∈ lw_all := lw_g (lw_at lw_m5 216 rfl) rfl
theorem q1278 : (Jvm.Cond.instanceMethod ({ cls := "ElasticTruss$Operator$2", name := "apply", desc := "(JJ)J" } : Jvm.MethodName)) ∈ lw_all := lw_g (lw_at lw_m5 217 rfl) rfl
theorem q1279 : (Jvm.Cond.code ({ cls := "ElasticTruss$Operator$2", name := "apply", desc := "(JJ)J" } : Jvm.MethodName) prog_10_method_2_code (5 : Nat) (Option.some Jvm.ClassFile.FieldType.long)) ∈ lw_all := lw_g (lw_at lw_m5 218 rfl) rfl
theorem q1667 : (Jvm.Cond.selects "ElasticTruss$Operator$2" ({ cls := "java/lang/Object", name := "toString", desc := "()Ljava/lang/String;" } : Jvm.MethodName) ({ cls := "java/lang/Enum", name := "toString", desc := "()Ljava/lang/String;" } : Jvm.MethodName)) ∈ lw_all := lw_g (lw_at lw_m7 126 rfl) rfl
theorem q1686 : (Jvm.Cond.selects "ElasticTruss$Operator$2" ({ cls := "java/lang/Object", name := "getClass", desc := "()Ljava/lang/Class;" } : Jvm.MethodName) ({ cls := "java/lang/Object", name := "getClass", desc := "()Ljava/lang/Class;" } : Jvm.MethodName)) ∈ lw_all := lw_g (lw_at lw_m7 145 rfl) rfl
theorem q1895 : (Jvm.Cond.selects "ElasticTruss$Operator$2" ({ cls := "java/lang/Object", name := "hashCode", desc := "()I" } : Jvm.MethodName) ({ cls := "java/lang/Enum", name := "hashCode", desc := "()I" } : Jvm.MethodName)) ∈ lw_all := lw_g (lw_at lw_m8 114 rfl) rfl
theorem q2086 : (Jvm.Cond.selects "ElasticTruss$Operator$2" ({ cls := "java/lang/Enum", name := "compareTo", desc := "(Ljava/lang/Enum;)I" } : Jvm.MethodName) ({ cls := "java/lang/Enum", name := "compareTo", desc := "(Ljava/lang/Enum;)I" } : Jvm.MethodName)) ∈ lw_all := lw_g (lw_at lw_m9 65 rfl) rfl
theorem q2095 : (Jvm.Cond.selects "ElasticTruss$Operator$2" ({ cls := "java/lang/Enum", name := "getDeclaringClass", desc := "()Ljava/lang/Class;" } : Jvm.MethodName) ({ cls := "java/lang/Enum", name := "getDeclaringClass", desc := "()Ljava/lang/Class;" } : Jvm.MethodName)) ∈ lw_all := lw_g (lw_at lw_m9 74 rfl) rfl
theorem q2099 : (Jvm.Cond.castable "ElasticTruss$Operator$2" "java/lang/Comparable") ∈ lw_tbl := lw_at lw_m9 78 rfl
theorem q2100 : (Jvm.Cond.selects "ElasticTruss$Operator$2" ({ cls := "java/lang/Comparable", name := "compareTo", desc := "(Ljava/lang/Object;)I" } : Jvm.MethodName) ({ cls := "java/lang/Enum", name := "compareTo", desc := "(Ljava/lang/Object;)I" } : Jvm.MethodName)) ∈ lw_all := lw_g (lw_at lw_m9 79 rfl) rfl
theorem q2101 : (Jvm.Cond.unhidden "ElasticTruss$Operator$2" "compareTo" "(Ljava/lang/Object;)I") ∈ lw_tbl := lw_at lw_m9 80 rfl
theorem q2328 : (Jvm.Cond.selects "ElasticTruss$Operator$2" ({ cls := "java/lang/Object", name := "equals", desc := "(Ljava/lang/Object;)Z" } : Jvm.MethodName) ({ cls := "java/lang/Enum", name := "equals", desc := "(Ljava/lang/Object;)Z" } : Jvm.MethodName)) ∈ lw_all := lw_g (lw_at lw_m10 67 rfl) rfl
theorem q3827 : (Jvm.Cond.castable "ElasticTruss$Operator$2" "java/lang/Enum") ∈ lw_tbl := lw_at lw_m16 126 rfl
theorem q3871 : (Jvm.Cond.castable "ElasticTruss$Operator$2" "java/lang/Object") ∈ lw_tbl := lw_at lw_m16 170 rfl
theorem q3895 : (Jvm.Cond.castable "ElasticTruss$Operator$2" "ElasticTruss$Operator") ∈ lw_tbl := lw_at lw_m16 194 rfl

-- X16.ElasticTruss_Operator_3.lean.txt
/-! ElasticTruss$Operator$3 -/
set_option maxRecDepth 100000
def RX16 : String := "ElasticTruss$Operator$3"
abbrev cX16_apply : ByteArray := prog_11_method_2_code
def yX16_apply : MethodName := ⟨RX16, "apply", "(JJ)J"⟩
def dkwX16_apply_0 : List UInt8 := [31, 33, 105, 173]
abbrev dktX16_apply_0 : List UInt8 := dkwX16_apply_0 ++ []
theorem dksX16_apply_0 : cX16_apply.data.toList.drop 0 = dktX16_apply_0 := by decide +kernel
theorem dX16_apply_0 : decode cX16_apply 0 = .ok (.lload_n 1, 1) := dk_31 (dk_at dksX16_apply_0 0 rfl rfl)
theorem dX16_apply_1 : decode cX16_apply 1 = .ok (.lload_n 3, 1) := dk_33 (dk_at dksX16_apply_0 1 rfl rfl)
theorem dX16_apply_2 : decode cX16_apply 2 = .ok (.lmul, 1) := dk_105 (dk_at dksX16_apply_0 2 rfl rfl)
theorem dX16_apply_3 : decode cX16_apply 3 = .ok (.lreturn, 1) := dk_173 (dk_at dksX16_apply_0 3 rfl rfl)
theorem q1280 : (Jvm.Cond.selects "ElasticTruss$Operator$3" ({ cls := "ElasticTruss$Operator", name := "apply", desc := "(JJ)J" } : Jvm.MethodName) ({ cls := "ElasticTruss$Operator$3", name := "apply", desc := "(JJ)J" } : Jvm.MethodName)) ∈ lw_all := lw_g (lw_at lw_m5 219 rfl) rfl
theorem q1281 : (Jvm.Cond.instanceMethod ({ cls := "ElasticTruss$Operator$3", name := "apply", desc := "(JJ)J" } : Jvm.MethodName)) ∈ lw_all := lw_g (lw_at lw_m5 220 rfl) rfl
theorem q1282 : (Jvm.Cond.code ({ cls := "ElasticTruss$Operator$3", name := "apply", desc := "(JJ)J" } : Jvm.MethodName) prog_11_method_2_code (5 : Nat) (Option.some Jvm.ClassFile.FieldType.long)) ∈ lw_all := lw_g (lw_at lw_m5 221 rfl) rfl
theorem q1668 : (Jvm.Cond.selects "ElasticTruss$Operator$3" ({ cls := "java/lang/Object", name := "toString", desc := "()Ljava/lang/String;" } : Jvm.MethodName) ({ cls := "java/lang/Enum", name := "toString", desc := "()Ljava/lang/String;" } : Jvm.MethodName)) ∈ lw_all := lw_g (lw_at lw_m7 127 rfl) rfl
theorem q1687 : (Jvm.Cond.selects "ElasticTruss$Operator$3" ({ cls := "java/lang/Object", name := "getClass", desc := "()Ljava/lang/Class;" } : Jvm.MethodName) ({ cls := "java/lang/Object", name := "getClass", desc := "()Ljava/lang/Class;" } : Jvm.MethodName)) ∈ lw_all := lw_g (lw_at lw_m7 146 rfl) rfl
theorem q1896 : (Jvm.Cond.selects "ElasticTruss$Operator$3" ({ cls := "java/lang/Object", name := "hashCode", desc := "()I" } : Jvm.MethodName) ({ cls := "java/lang/Enum", name := "hashCode", desc := "()I" } : Jvm.MethodName)) ∈ lw_all := lw_g (lw_at lw_m8 115 rfl) rfl
theorem q2087 : (Jvm.Cond.selects "ElasticTruss$Operator$3" ({ cls := "java/lang/Enum", name := "compareTo", desc := "(Ljava/lang/Enum;)I" } : Jvm.MethodName) ({ cls := "java/lang/Enum", name := "compareTo", desc := "(Ljava/lang/Enum;)I" } : Jvm.MethodName)) ∈ lw_all := lw_g (lw_at lw_m9 66 rfl) rfl
theorem q2096 : (Jvm.Cond.selects "ElasticTruss$Operator$3" ({ cls := "java/lang/Enum", name := "getDeclaringClass", desc := "()Ljava/lang/Class;" } : Jvm.MethodName) ({ cls := "java/lang/Enum", name := "getDeclaringClass", desc := "()Ljava/lang/Class;" } : Jvm.MethodName)) ∈ lw_all := lw_g (lw_at lw_m9 75 rfl) rfl
theorem q2102 : (Jvm.Cond.castable "ElasticTruss$Operator$3" "java/lang/Comparable") ∈ lw_tbl := lw_at lw_m9 81 rfl
theorem q2103 : (Jvm.Cond.selects "ElasticTruss$Operator$3" ({ cls := "java/lang/Comparable", name := "compareTo", desc := "(Ljava/lang/Object;)I" } : Jvm.MethodName) ({ cls := "java/lang/Enum", name := "compareTo", desc := "(Ljava/lang/Object;)I" } : Jvm.MethodName)) ∈ lw_all := lw_g (lw_at lw_m9 82 rfl) rfl
theorem q2104 : (Jvm.Cond.unhidden "ElasticTruss$Operator$3" "compareTo" "(Ljava/lang/Object;)I") ∈ lw_tbl := lw_at lw_m9 83 rfl
theorem q2329 : (Jvm.Cond.selects "ElasticTruss$Operator$3" ({ cls := "java/lang/Object", name := "equals", desc := "(Ljava/lang/Object;)Z" } : Jvm.MethodName) ({ cls := "java/lang/Enum", name := "equals", desc := "(Ljava/lang/Object;)Z" } : Jvm.MethodName)) ∈ lw_all := lw_g (lw_at lw_m10 68 rfl) rfl
theorem q3828 : (Jvm.Cond.castable "ElasticTruss$Operator$3" "java/lang/Enum") ∈ lw_tbl := lw_at lw_m16 127 rfl
theorem q3867 : (Jvm.Cond.castable "ElasticTruss$Operator$3" "java/lang/Object") ∈ lw_tbl := lw_at lw_m16 166 rfl
theorem q3892 : (Jvm.Cond.castable "ElasticTruss$Operator$3" "ElasticTruss$Operator") ∈ lw_tbl := lw_at lw_m16 191 rfl

-- X17.ElasticTruss_Operator_4.lean.txt
/-! ElasticTruss$Operator$4 -/
set_option maxRecDepth 100000
def RX17 : String := "ElasticTruss$Operator$4"
abbrev cX17_apply : ByteArray := prog_12_method_2_code
def yX17_apply : MethodName := ⟨RX17, "apply", "(JJ)J"⟩
def dkwX17_apply_0 : List UInt8 := [33, 9, 148, 154, 0, 7, 9, 167, 0, 6, 31, 33, 109, 173]
abbrev dktX17_apply_0 : List UInt8 := dkwX17_apply_0 ++ []
theorem dksX17_apply_0 : cX17_apply.data.toList.drop 0 = dktX17_apply_0 := by decide +kernel
theorem dX17_apply_0 : decode cX17_apply 0 = .ok (.lload_n 3, 1) := dk_33 (dk_at dksX17_apply_0 0 rfl rfl)
theorem dX17_apply_1 : decode cX17_apply 1 = .ok (.lconst 0, 1) := dk_9 (dk_at dksX17_apply_0 1 rfl rfl)
theorem dX17_apply_2 : decode cX17_apply 2 = .ok (.lcmp, 1) := dk_148 (dk_at dksX17_apply_0 2 rfl rfl)
theorem dX17_apply_3 : decode cX17_apply 3 = .ok (.ifCond .ne 7, 3) := dk_154 0 7 (dk_at dksX17_apply_0 3 rfl rfl)
theorem dX17_apply_6 : decode cX17_apply 6 = .ok (.lconst 0, 1) := dk_9 (dk_at dksX17_apply_0 6 rfl rfl)
theorem dX17_apply_7 : decode cX17_apply 7 = .ok (.goto 6, 3) := dk_167 0 6 (dk_at dksX17_apply_0 7 rfl rfl)
theorem dX17_apply_10 : decode cX17_apply 10 = .ok (.lload_n 1, 1) := dk_31 (dk_at dksX17_apply_0 10 rfl rfl)
theorem dX17_apply_11 : decode cX17_apply 11 = .ok (.lload_n 3, 1) := dk_33 (dk_at dksX17_apply_0 11 rfl rfl)
theorem dX17_apply_12 : decode cX17_apply 12 = .ok (.ldiv, 1) := dk_109 (dk_at dksX17_apply_0 12 rfl rfl)
theorem dX17_apply_13 : decode cX17_apply 13 = .ok (.lreturn, 1) := dk_173 (dk_at dksX17_apply_0 13 rfl rfl)
theorem q1283 : (Jvm.Cond.selects "ElasticTruss$Operator$4" ({ cls := "ElasticTruss$Operator", name := "apply", desc := "(JJ)J" } : Jvm.MethodName) ({ cls := "ElasticTruss$Operator$4", name := "apply", desc := "(JJ)J" } : Jvm.MethodName)) ∈ lw_all := lw_g (lw_at lw_m5 222 rfl) rfl
theorem q1284 : (Jvm.Cond.instanceMethod ({ cls := "ElasticTruss$Operator$4", name := "apply", desc := "(JJ)J" } : Jvm.MethodName)) ∈ lw_all := lw_g (lw_at lw_m5 223 rfl) rfl
theorem q1285 : (Jvm.Cond.code ({ cls := "ElasticTruss$Operator$4", name := "apply", desc := "(JJ)J" } : Jvm.MethodName) prog_12_method_2_code (5 : Nat) (Option.some Jvm.ClassFile.FieldType.long)) ∈ lw_all := lw_g (lw_at lw_m5 224 rfl) rfl
theorem q1669 : (Jvm.Cond.selects "ElasticTruss$Operator$4" ({ cls := "java/lang/Object", name := "toString", desc := "()Ljava/lang/String;" } : Jvm.MethodName) ({ cls := "java/lang/Enum", name := "toString", desc := "()Ljava/lang/String;" } : Jvm.MethodName)) ∈ lw_all := lw_g (lw_at lw_m7 128 rfl) rfl
theorem q1688 : (Jvm.Cond.selects "ElasticTruss$Operator$4" ({ cls := "java/lang/Object", name := "getClass", desc := "()Ljava/lang/Class;" } : Jvm.MethodName) ({ cls := "java/lang/Object", name := "getClass", desc := "()Ljava/lang/Class;" } : Jvm.MethodName)) ∈ lw_all := lw_g (lw_at lw_m7 147 rfl) rfl
theorem q1897 : (Jvm.Cond.selects "ElasticTruss$Operator$4" ({ cls := "java/lang/Object", name := "hashCode", desc := "()I" } : Jvm.MethodName) ({ cls := "java/lang/Enum", name := "hashCode", desc := "()I" } : Jvm.MethodName)) ∈ lw_all := lw_g (lw_at lw_m8 116 rfl) rfl
theorem q2088 : (Jvm.Cond.selects "ElasticTruss$Operator$4" ({ cls := "java/lang/Enum", name := "compareTo", desc := "(Ljava/lang/Enum;)I" } : Jvm.MethodName) ({ cls := "java/lang/Enum", name := "compareTo", desc := "(Ljava/lang/Enum;)I" } : Jvm.MethodName)) ∈ lw_all := lw_g (lw_at lw_m9 67 rfl) rfl
theorem q2097 : (Jvm.Cond.selects "ElasticTruss$Operator$4" ({ cls := "java/lang/Enum", name := "getDeclaringClass", desc := "()Ljava/lang/Class;" } : Jvm.MethodName) ({ cls := "java/lang/Enum", name := "getDeclaringClass", desc := "()Ljava/lang/Class;" } : Jvm.MethodName)) ∈ lw_all := lw_g (lw_at lw_m9 76 rfl) rfl
theorem q2105 : (Jvm.Cond.castable "ElasticTruss$Operator$4" "java/lang/Comparable") ∈ lw_tbl := lw_at lw_m9 84 rfl
theorem q2106 : (Jvm.Cond.selects "ElasticTruss$Operator$4" ({ cls := "java/lang/Comparable", name := "compareTo", desc := "(Ljava/lang/Object;)I" } : Jvm.MethodName) ({ cls := "java/lang/Enum", name := "compareTo", desc := "(Ljava/lang/Object;)I" } : Jvm.MethodName)) ∈ lw_all := lw_g (lw_at lw_m9 85 rfl) rfl
theorem q2107 : (Jvm.Cond.unhidden "ElasticTruss$Operator$4" "compareTo" "(Ljava/lang/Object;)I") ∈ lw_tbl := lw_at lw_m9 86 rfl
theorem q2330 : (Jvm.Cond.selects "ElasticTruss$Operator$4" ({ cls := "java/lang/Object", name := "equals", desc := "(Ljava/lang/Object;)Z" } : Jvm.MethodName) ({ cls := "java/lang/Enum", name := "equals", desc := "(Ljava/lang/Object;)Z" } : Jvm.MethodName)) ∈ lw_all := lw_g (lw_at lw_m10 69 rfl) rfl
theorem q3829 : (Jvm.Cond.castable "ElasticTruss$Operator$4" "java/lang/Enum") ∈ lw_tbl := lw_at lw_m16 128 rfl
theorem q3868 : (Jvm.Cond.castable "ElasticTruss$Operator$4" "java/lang/Object") ∈ lw_tbl := lw_at lw_m16 167 rfl
theorem q3893 : (Jvm.Cond.castable "ElasticTruss$Operator$4" "ElasticTruss$Operator") ∈ lw_tbl := lw_at lw_m16 192 rfl

-- words.ElasticTruss_Operator.lean.txt
theorem q145 : (Jvm.Cond.initialized "ElasticTruss$Operator") ∈ lw_all := lw_g (lw_at lw_m1 44 rfl) rfl
set_option maxRecDepth 100000
theorem q1272 : (Jvm.Cond.declares ({ cls := "ElasticTruss$Operator", name := "apply", desc := "(JJ)J" } : Jvm.MethodName)) ∈ lw_tbl := lw_at lw_m5 211 rfl
theorem q1273 : (Jvm.Cond.sameMethod "ElasticTruss$Operator" "ElasticTruss$Operator" "apply" "(JJ)J") ∈ lw_all := lw_g (lw_at lw_m5 212 rfl) rfl
theorem q3060 : (Jvm.Cond.laysStatic "ElasticTruss$Operator" "MULTIPLY" "LElasticTruss$Operator;") ∈ lw_tbl := lw_at lw_m13 79 rfl
theorem q3062 : (Jvm.Cond.laysStatic "ElasticTruss$Operator" "DIVIDE" "LElasticTruss$Operator;") ∈ lw_tbl := lw_at lw_m13 81 rfl
theorem q3090 : (Jvm.Cond.laysStatic "ElasticTruss$Operator" "ADD" "LElasticTruss$Operator;") ∈ lw_tbl := lw_at lw_m13 109 rfl
theorem q3092 : (Jvm.Cond.laysStatic "ElasticTruss$Operator" "SUBTRACT" "LElasticTruss$Operator;") ∈ lw_tbl := lw_at lw_m13 111 rfl
theorem q3846 : (Jvm.Cond.castable "ElasticTruss$Operator" "java/lang/Object") ∈ lw_tbl := lw_at lw_m16 145 rfl
theorem q3916 : (Jvm.Cond.stringRef "ElasticTruss$Operator" (51 : Nat) "MULTIPLY") ∈ lw_tbl := lw_at lw_m16 215 rfl
theorem q3917 : (Jvm.Cond.stringRef "ElasticTruss$Operator" (55 : Nat) "DIVIDE") ∈ lw_tbl := lw_at lw_m16 216 rfl
theorem q3918 : (Jvm.Cond.stringRef "ElasticTruss$Operator" (41 : Nat) "ADD") ∈ lw_tbl := lw_at lw_m16 217 rfl
theorem q3919 : (Jvm.Cond.stringRef "ElasticTruss$Operator" (47 : Nat) "SUBTRACT") ∈ lw_tbl := lw_at lw_m16 218 rfl

-- words.ElasticTruss_Quantity.lean.txt
theorem q1261 : (Jvm.Cond.interfaceMethod "ElasticTruss$Quantity" "ElasticTruss$Quantity" "of" "(LElasticTruss$Member;II)J") ∈ lw_tbl := lw_at lw_m5 200 rfl
set_option maxRecDepth 100000
theorem q1262 : (Jvm.Cond.declares ({ cls := "ElasticTruss$Quantity", name := "of", desc := "(LElasticTruss$Member;II)J" } : Jvm.MethodName)) ∈ lw_tbl := lw_at lw_m5 201 rfl

-- words._B.lean.txt
theorem q318 : (Jvm.Cond.sameMethod "[B" "java/lang/Object" "clone" "()Ljava/lang/Object;") ∈ lw_all := lw_g (lw_at lw_m1 217 rfl) rfl
set_option maxRecDepth 100000
theorem q321 : (Jvm.Cond.selects "[B" ({ cls := "[B", name := "clone", desc := "()Ljava/lang/Object;" } : Jvm.MethodName) ({ cls := "java/lang/Object", name := "clone", desc := "()Ljava/lang/Object;" } : Jvm.MethodName)) ∈ lw_all := lw_g (lw_at lw_m1 220 rfl) rfl
theorem q322 : (Jvm.Cond.castable "[B" "java/lang/Cloneable") ∈ lw_tbl := lw_at lw_m1 221 rfl
theorem q3900 : (Jvm.Cond.castable "[B" "java/lang/Object") ∈ lw_tbl := lw_at lw_m16 199 rfl

-- words._C.lean.txt
theorem q3905 : (Jvm.Cond.castable "[C" "java/lang/Object") ∈ lw_tbl := lw_at lw_m16 204 rfl
set_option maxRecDepth 100000

-- words._I.lean.txt
theorem q2471 : (Jvm.Cond.sameMethod "[I" "java/lang/Object" "clone" "()Ljava/lang/Object;") ∈ lw_all := lw_g (lw_at lw_m10 210 rfl) rfl
set_option maxRecDepth 100000
theorem q2472 : (Jvm.Cond.selects "[I" ({ cls := "[I", name := "clone", desc := "()Ljava/lang/Object;" } : Jvm.MethodName) ({ cls := "java/lang/Object", name := "clone", desc := "()Ljava/lang/Object;" } : Jvm.MethodName)) ∈ lw_all := lw_g (lw_at lw_m10 211 rfl) rfl
theorem q2473 : (Jvm.Cond.castable "[I" "java/lang/Cloneable") ∈ lw_tbl := lw_at lw_m10 212 rfl
theorem q3901 : (Jvm.Cond.castable "[I" "java/lang/Object") ∈ lw_tbl := lw_at lw_m16 200 rfl

-- words._J.lean.txt
theorem q3904 : (Jvm.Cond.castable "[J" "java/lang/Object") ∈ lw_tbl := lw_at lw_m16 203 rfl
set_option maxRecDepth 100000

-- words._LElasticTruss_Member_.lean.txt
theorem q3902 : (Jvm.Cond.castable "[LElasticTruss$Member;" "java/lang/Object") ∈ lw_tbl := lw_at lw_m16 201 rfl
set_option maxRecDepth 100000

-- words._LElasticTruss_Operator_.lean.txt
theorem q3908 : (Jvm.Cond.castable "[LElasticTruss$Operator;" "java/lang/Object") ∈ lw_tbl := lw_at lw_m16 207 rfl
set_option maxRecDepth 100000

-- words._Ljava_lang_Object_.lean.txt
theorem q3896 : (Jvm.Cond.sameMethod "[Ljava/lang/Object;" "java/lang/Object" "getClass" "()Ljava/lang/Class;") ∈ lw_all := lw_g (lw_at lw_m16 195 rfl) rfl
set_option maxRecDepth 100000
theorem q3897 : (Jvm.Cond.selects "[Ljava/lang/Object;" ({ cls := "java/lang/Object", name := "getClass", desc := "()Ljava/lang/Class;" } : Jvm.MethodName) ({ cls := "java/lang/Object", name := "getClass", desc := "()Ljava/lang/Class;" } : Jvm.MethodName)) ∈ lw_all := lw_g (lw_at lw_m16 196 rfl) rfl
theorem q3899 : (Jvm.Cond.castable "[Ljava/lang/Object;" "java/lang/Object") ∈ lw_tbl := lw_at lw_m16 198 rfl

-- words._Ljava_util_HashMap_Node_.lean.txt
theorem q3906 : (Jvm.Cond.castable "[Ljava/util/HashMap$Node;" "java/lang/Object") ∈ lw_tbl := lw_at lw_m16 205 rfl
set_option maxRecDepth 100000

-- words.__I.lean.txt
theorem q3907 : (Jvm.Cond.castable "[[I" "java/lang/Object") ∈ lw_tbl := lw_at lw_m16 206 rfl
set_option maxRecDepth 100000

-- words.__LElasticTruss_Member_.lean.txt
theorem q3903 : (Jvm.Cond.castable "[[LElasticTruss$Member;" "java/lang/Object") ∈ lw_tbl := lw_at lw_m16 202 rfl
set_option maxRecDepth 100000

-- words.java_lang_Appendable.lean.txt
theorem q1484 : (Jvm.Cond.interfaceMethod "java/lang/Appendable" "java/lang/Appendable" "append" "(C)Ljava/lang/Appendable;") ∈ lw_tbl := lw_at lw_m6 183 rfl
set_option maxRecDepth 100000
theorem q1485 : (Jvm.Cond.declares ({ cls := "java/lang/Appendable", name := "append", desc := "(C)Ljava/lang/Appendable;" } : Jvm.MethodName)) ∈ lw_tbl := lw_at lw_m6 184 rfl
theorem q1512 : (Jvm.Cond.interfaceMethod "java/lang/Appendable" "java/lang/Appendable" "append" "(Ljava/lang/CharSequence;)Ljava/lang/Appendable;") ∈ lw_tbl := lw_at lw_m6 211 rfl
theorem q1513 : (Jvm.Cond.declares ({ cls := "java/lang/Appendable", name := "append", desc := "(Ljava/lang/CharSequence;)Ljava/lang/Appendable;" } : Jvm.MethodName)) ∈ lw_tbl := lw_at lw_m6 212 rfl

-- words.java_lang_CharSequence.lean.txt
theorem q1555 : (Jvm.Cond.interfaceMethod "java/lang/CharSequence" "java/lang/CharSequence" "length" "()I") ∈ lw_tbl := lw_at lw_m7 14 rfl
set_option maxRecDepth 100000
theorem q1556 : (Jvm.Cond.declares ({ cls := "java/lang/CharSequence", name := "length", desc := "()I" } : Jvm.MethodName)) ∈ lw_tbl := lw_at lw_m7 15 rfl
theorem q1610 : (Jvm.Cond.interfaceMethod "java/lang/CharSequence" "java/lang/CharSequence" "charAt" "(I)C") ∈ lw_tbl := lw_at lw_m7 69 rfl
theorem q1611 : (Jvm.Cond.declares ({ cls := "java/lang/CharSequence", name := "charAt", desc := "(I)C" } : Jvm.MethodName)) ∈ lw_tbl := lw_at lw_m7 70 rfl

-- words.java_lang_Comparable.lean.txt
theorem q2073 : (Jvm.Cond.interfaceMethod "java/lang/Comparable" "java/lang/Comparable" "compareTo" "(Ljava/lang/Object;)I") ∈ lw_tbl := lw_at lw_m9 52 rfl
set_option maxRecDepth 100000
theorem q2074 : (Jvm.Cond.declares ({ cls := "java/lang/Comparable", name := "compareTo", desc := "(Ljava/lang/Object;)I" } : Jvm.MethodName)) ∈ lw_tbl := lw_at lw_m9 53 rfl

-- words.java_lang_Double.lean.txt
theorem q171 : (Jvm.Cond.initialized "java/lang/Double") ∈ lw_all := lw_g (lw_at lw_m1 70 rfl) rfl
set_option maxRecDepth 100000
theorem q2505 : (Jvm.Cond.static ({ cls := "java/lang/Double", name := "doubleToRawLongBits", desc := "(D)J" } : Jvm.MethodName)) ∈ lw_all := lw_g (lw_at lw_m11 4 rfl) rfl
theorem q2506 : (Jvm.Cond.native ({ cls := "java/lang/Double", name := "doubleToRawLongBits", desc := "(D)J" } : Jvm.MethodName)) ∈ lw_all := lw_g (lw_at lw_m11 5 rfl) rfl
theorem q2515 : (Jvm.Cond.static ({ cls := "java/lang/Double", name := "longBitsToDouble", desc := "(J)D" } : Jvm.MethodName)) ∈ lw_all := lw_g (lw_at lw_m11 14 rfl) rfl
theorem q2516 : (Jvm.Cond.native ({ cls := "java/lang/Double", name := "longBitsToDouble", desc := "(J)D" } : Jvm.MethodName)) ∈ lw_all := lw_g (lw_at lw_m11 15 rfl) rfl

-- words.java_lang_Number.lean.txt
theorem q121 : (Jvm.Cond.initialized "java/lang/Number") ∈ lw_all := lw_g (lw_at lw_m1 20 rfl) rfl
set_option maxRecDepth 100000

-- words.java_lang_StringBuffer.lean.txt
theorem q1477 : (Jvm.Cond.instanceMethod ({ cls := "java/lang/StringBuffer", name := "append", desc := "([C)Ljava/lang/StringBuffer;" } : Jvm.MethodName)) ∈ lw_all := lw_g (lw_at lw_m6 176 rfl) rfl
set_option maxRecDepth 100000
theorem q1478 : (Jvm.Cond.selects "java/lang/StringBuffer" ({ cls := "java/lang/StringBuffer", name := "append", desc := "([C)Ljava/lang/StringBuffer;" } : Jvm.MethodName) ({ cls := "java/lang/StringBuffer", name := "append", desc := "([C)Ljava/lang/StringBuffer;" } : Jvm.MethodName)) ∈ lw_all := lw_g (lw_at lw_m6 177 rfl) rfl
theorem q1479 : (Jvm.Cond.codeSync ({ cls := "java/lang/StringBuffer", name := "append", desc := "([C)Ljava/lang/StringBuffer;" } : Jvm.MethodName) prog_46_method_24_code (2 : Nat) (Option.some (Jvm.ClassFile.FieldType.object "java/lang/StringBuffer"))) ∈ lw_all := lw_g (lw_at lw_m6 178 rfl) rfl
theorem q1480 : (Jvm.Cond.methodLink "java/lang/StringBuffer" (89 : Nat) ({ cls := "java/lang/AbstractStringBuilder", name := "append", desc := "([C)Ljava/lang/AbstractStringBuilder;" } : Jvm.MethodName)) ∈ lw_all := lw_g (lw_at lw_m6 179 rfl) rfl
theorem q1481 : (Jvm.Cond.superclass "java/lang/StringBuffer" "java/lang/AbstractStringBuilder") ∈ lw_all := lw_g (lw_at lw_m6 180 rfl) rfl
theorem q3914 : (Jvm.Cond.fieldLink "java/lang/StringBuffer" (34 : Nat) "java/lang/StringBuffer" "toStringCache" "Ljava/lang/String;") ∈ lw_all := lw_g (lw_at lw_m16 213 rfl) rfl

-- words.java_lang_System.lean.txt
theorem q118 : (Jvm.Cond.initialized "java/lang/System") ∈ lw_all := lw_g (lw_at lw_m1 17 rfl) rfl
set_option maxRecDepth 100000
theorem q328 : (Jvm.Cond.static ({ cls := "java/lang/System", name := "arraycopy", desc := "(Ljava/lang/Object;ILjava/lang/Object;II)V" } : Jvm.MethodName)) ∈ lw_all := lw_g (lw_at lw_m1 227 rfl) rfl
theorem q329 : (Jvm.Cond.native ({ cls := "java/lang/System", name := "arraycopy", desc := "(Ljava/lang/Object;ILjava/lang/Object;II)V" } : Jvm.MethodName)) ∈ lw_all := lw_g (lw_at lw_m1 228 rfl) rfl
theorem q1893 : (Jvm.Cond.static ({ cls := "java/lang/System", name := "identityHashCode", desc := "(Ljava/lang/Object;)I" } : Jvm.MethodName)) ∈ lw_all := lw_g (lw_at lw_m8 112 rfl) rfl
theorem q1894 : (Jvm.Cond.native ({ cls := "java/lang/System", name := "identityHashCode", desc := "(Ljava/lang/Object;)I" } : Jvm.MethodName)) ∈ lw_all := lw_g (lw_at lw_m8 113 rfl) rfl

-- words.java_util_Collection.lean.txt
theorem q919 : (Jvm.Cond.interfaceMethod "java/util/Collection" "java/util/Collection" "iterator" "()Ljava/util/Iterator;") ∈ lw_tbl := lw_at lw_m4 98 rfl
set_option maxRecDepth 100000
theorem q920 : (Jvm.Cond.declares ({ cls := "java/util/Collection", name := "iterator", desc := "()Ljava/util/Iterator;" } : Jvm.MethodName)) ∈ lw_tbl := lw_at lw_m4 99 rfl

-- words.java_util_Iterator.lean.txt
theorem q771 : (Jvm.Cond.interfaceMethod "java/util/Iterator" "java/util/Iterator" "hasNext" "()Z") ∈ lw_tbl := lw_at lw_m3 190 rfl
set_option maxRecDepth 100000
theorem q772 : (Jvm.Cond.declares ({ cls := "java/util/Iterator", name := "hasNext", desc := "()Z" } : Jvm.MethodName)) ∈ lw_tbl := lw_at lw_m3 191 rfl
theorem q805 : (Jvm.Cond.interfaceMethod "java/util/Iterator" "java/util/Iterator" "next" "()Ljava/lang/Object;") ∈ lw_tbl := lw_at lw_m3 224 rfl
theorem q806 : (Jvm.Cond.declares ({ cls := "java/util/Iterator", name := "next", desc := "()Ljava/lang/Object;" } : Jvm.MethodName)) ∈ lw_tbl := lw_at lw_m3 225 rfl

-- words.java_util_List.lean.txt
theorem q707 : (Jvm.Cond.interfaceMethod "java/util/List" "java/util/List" "size" "()I") ∈ lw_tbl := lw_at lw_m3 126 rfl
set_option maxRecDepth 100000
theorem q708 : (Jvm.Cond.declares ({ cls := "java/util/List", name := "size", desc := "()I" } : Jvm.MethodName)) ∈ lw_tbl := lw_at lw_m3 127 rfl
theorem q743 : (Jvm.Cond.interfaceMethod "java/util/List" "java/util/List" "iterator" "()Ljava/util/Iterator;") ∈ lw_tbl := lw_at lw_m3 162 rfl
theorem q744 : (Jvm.Cond.declares ({ cls := "java/util/List", name := "iterator", desc := "()Ljava/util/Iterator;" } : Jvm.MethodName)) ∈ lw_tbl := lw_at lw_m3 163 rfl
theorem q1188 : (Jvm.Cond.interfaceMethod "java/util/List" "java/util/List" "get" "(I)Ljava/lang/Object;") ∈ lw_tbl := lw_at lw_m5 127 rfl
theorem q1189 : (Jvm.Cond.declares ({ cls := "java/util/List", name := "get", desc := "(I)Ljava/lang/Object;" } : Jvm.MethodName)) ∈ lw_tbl := lw_at lw_m5 128 rfl
theorem q2856 : (Jvm.Cond.interfaceMethod "java/util/List" "java/util/List" "add" "(Ljava/lang/Object;)Z") ∈ lw_tbl := lw_at lw_m12 115 rfl
theorem q2857 : (Jvm.Cond.declares ({ cls := "java/util/List", name := "add", desc := "(Ljava/lang/Object;)Z" } : Jvm.MethodName)) ∈ lw_tbl := lw_at lw_m12 116 rfl

-- words.java_util_Map.lean.txt
theorem q725 : (Jvm.Cond.interfaceMethod "java/util/Map" "java/util/Map" "size" "()I") ∈ lw_tbl := lw_at lw_m3 144 rfl
set_option maxRecDepth 100000
theorem q726 : (Jvm.Cond.declares ({ cls := "java/util/Map", name := "size", desc := "()I" } : Jvm.MethodName)) ∈ lw_tbl := lw_at lw_m3 145 rfl
theorem q892 : (Jvm.Cond.interfaceMethod "java/util/Map" "java/util/Map" "values" "()Ljava/util/Collection;") ∈ lw_tbl := lw_at lw_m4 71 rfl
theorem q893 : (Jvm.Cond.declares ({ cls := "java/util/Map", name := "values", desc := "()Ljava/util/Collection;" } : Jvm.MethodName)) ∈ lw_tbl := lw_at lw_m4 72 rfl
theorem q2477 : (Jvm.Cond.interfaceMethod "java/util/Map" "java/util/Map" "putAll" "(Ljava/util/Map;)V") ∈ lw_tbl := lw_at lw_m10 216 rfl
theorem q2478 : (Jvm.Cond.declares ({ cls := "java/util/Map", name := "putAll", desc := "(Ljava/util/Map;)V" } : Jvm.MethodName)) ∈ lw_tbl := lw_at lw_m10 217 rfl
theorem q2520 : (Jvm.Cond.interfaceMethod "java/util/Map" "java/util/Map" "entrySet" "()Ljava/util/Set;") ∈ lw_tbl := lw_at lw_m11 19 rfl
theorem q2521 : (Jvm.Cond.declares ({ cls := "java/util/Map", name := "entrySet", desc := "()Ljava/util/Set;" } : Jvm.MethodName)) ∈ lw_tbl := lw_at lw_m11 20 rfl
theorem q2913 : (Jvm.Cond.interfaceMethod "java/util/Map" "java/util/Map" "containsKey" "(Ljava/lang/Object;)Z") ∈ lw_tbl := lw_at lw_m12 172 rfl
theorem q2914 : (Jvm.Cond.declares ({ cls := "java/util/Map", name := "containsKey", desc := "(Ljava/lang/Object;)Z" } : Jvm.MethodName)) ∈ lw_tbl := lw_at lw_m12 173 rfl
theorem q2981 : (Jvm.Cond.interfaceMethod "java/util/Map" "java/util/Map" "put" "(Ljava/lang/Object;Ljava/lang/Object;)Ljava/lang/Object;") ∈ lw_tbl := lw_at lw_m13 0 rfl
theorem q2982 : (Jvm.Cond.declares ({ cls := "java/util/Map", name := "put", desc := "(Ljava/lang/Object;Ljava/lang/Object;)Ljava/lang/Object;" } : Jvm.MethodName)) ∈ lw_tbl := lw_at lw_m13 1 rfl
theorem q3171 : (Jvm.Cond.interfaceMethod "java/util/Map" "java/util/Map" "keySet" "()Ljava/util/Set;") ∈ lw_tbl := lw_at lw_m13 190 rfl
theorem q3172 : (Jvm.Cond.declares ({ cls := "java/util/Map", name := "keySet", desc := "()Ljava/util/Set;" } : Jvm.MethodName)) ∈ lw_tbl := lw_at lw_m13 191 rfl
theorem q3260 : (Jvm.Cond.interfaceMethod "java/util/Map" "java/util/Map" "remove" "(Ljava/lang/Object;)Ljava/lang/Object;") ∈ lw_tbl := lw_at lw_m14 39 rfl
theorem q3261 : (Jvm.Cond.declares ({ cls := "java/util/Map", name := "remove", desc := "(Ljava/lang/Object;)Ljava/lang/Object;" } : Jvm.MethodName)) ∈ lw_tbl := lw_at lw_m14 40 rfl

-- words.java_util_Map_Entry.lean.txt
theorem q2553 : (Jvm.Cond.interfaceMethod "java/util/Map$Entry" "java/util/Map$Entry" "getKey" "()Ljava/lang/Object;") ∈ lw_tbl := lw_at lw_m11 52 rfl
set_option maxRecDepth 100000
theorem q2554 : (Jvm.Cond.declares ({ cls := "java/util/Map$Entry", name := "getKey", desc := "()Ljava/lang/Object;" } : Jvm.MethodName)) ∈ lw_tbl := lw_at lw_m11 53 rfl
theorem q2567 : (Jvm.Cond.interfaceMethod "java/util/Map$Entry" "java/util/Map$Entry" "getValue" "()Ljava/lang/Object;") ∈ lw_tbl := lw_at lw_m11 66 rfl
theorem q2568 : (Jvm.Cond.declares ({ cls := "java/util/Map$Entry", name := "getValue", desc := "()Ljava/lang/Object;" } : Jvm.MethodName)) ∈ lw_tbl := lw_at lw_m11 67 rfl

-- words.java_util_Set.lean.txt
theorem q1089 : (Jvm.Cond.interfaceMethod "java/util/Set" "java/util/Set" "iterator" "()Ljava/util/Iterator;") ∈ lw_tbl := lw_at lw_m5 28 rfl
set_option maxRecDepth 100000
theorem q1090 : (Jvm.Cond.declares ({ cls := "java/util/Set", name := "iterator", desc := "()Ljava/util/Iterator;" } : Jvm.MethodName)) ∈ lw_tbl := lw_at lw_m5 29 rfl
theorem q1846 : (Jvm.Cond.interfaceMethod "java/util/Set" "java/util/Set" "add" "(Ljava/lang/Object;)Z") ∈ lw_tbl := lw_at lw_m8 65 rfl
theorem q1847 : (Jvm.Cond.declares ({ cls := "java/util/Set", name := "add", desc := "(Ljava/lang/Object;)Z" } : Jvm.MethodName)) ∈ lw_tbl := lw_at lw_m8 66 rfl
theorem q2438 : (Jvm.Cond.interfaceMethod "java/util/Set" "java/util/Set" "size" "()I") ∈ lw_tbl := lw_at lw_m10 177 rfl
theorem q2439 : (Jvm.Cond.declares ({ cls := "java/util/Set", name := "size", desc := "()I" } : Jvm.MethodName)) ∈ lw_tbl := lw_at lw_m10 178 rfl

-- words.jdk_internal_access_JavaLangAccess.lean.txt
theorem q1931 : (Jvm.Cond.interfaceMethod "jdk/internal/access/JavaLangAccess" "jdk/internal/access/JavaLangAccess" "getUTF16Char" "([BI)C") ∈ lw_tbl := lw_at lw_m8 150 rfl
set_option maxRecDepth 100000
theorem q1932 : (Jvm.Cond.declares ({ cls := "jdk/internal/access/JavaLangAccess", name := "getUTF16Char", desc := "([BI)C" } : Jvm.MethodName)) ∈ lw_tbl := lw_at lw_m8 151 rfl

-- words.jdk_internal_misc_UnsafeConstants.lean.txt
theorem q134 : (Jvm.Cond.initialized "jdk/internal/misc/UnsafeConstants") ∈ lw_all := lw_g (lw_at lw_m1 33 rfl) rfl
set_option maxRecDepth 100000
theorem q2166 : (Jvm.Cond.laysStatic "jdk/internal/misc/UnsafeConstants" "BIG_ENDIAN" "Z") ∈ lw_tbl := lw_at lw_m9 145 rfl

-- words.rest.lean.txt
theorem q203 : (Jvm.Cond.arrayOver (Jvm.ClassFile.FieldType.object "java/lang/Object")) ∈ lw_tbl := lw_at lw_m1 102 rfl
set_option maxRecDepth 100000
theorem q282 : (Jvm.Cond.arrayClass Jvm.ClassFile.FieldType.byte) ∈ lw_all := lw_g (lw_at lw_m1 181 rfl) rfl
theorem q606 : (Jvm.Cond.arrayClass Jvm.ClassFile.FieldType.int) ∈ lw_all := lw_g (lw_at lw_m3 25 rfl) rfl
theorem q1133 : (Jvm.Cond.arrayOver (Jvm.ClassFile.FieldType.object "ElasticTruss$Member")) ∈ lw_tbl := lw_at lw_m5 72 rfl
theorem q1137 : (Jvm.Cond.arrayOver (Jvm.ClassFile.FieldType.array (Jvm.ClassFile.FieldType.object "ElasticTruss$Member"))) ∈ lw_tbl := lw_at lw_m5 76 rfl
theorem q1178 : (Jvm.Cond.arrayClass Jvm.ClassFile.FieldType.long) ∈ lw_all := lw_g (lw_at lw_m5 117 rfl) rfl
theorem q1772 : (Jvm.Cond.arrayClass Jvm.ClassFile.FieldType.char) ∈ lw_all := lw_g (lw_at lw_m7 231 rfl) rfl
theorem q1985 : (Jvm.Cond.arrayOver (Jvm.ClassFile.FieldType.object "java/util/HashMap$Node")) ∈ lw_tbl := lw_at lw_m8 204 rfl
theorem q2666 : (Jvm.Cond.arrayOver (Jvm.ClassFile.FieldType.array Jvm.ClassFile.FieldType.int)) ∈ lw_tbl := lw_at lw_m11 165 rfl
theorem q3058 : (Jvm.Cond.arrayOver (Jvm.ClassFile.FieldType.object "ElasticTruss$Operator")) ∈ lw_tbl := lw_at lw_m13 77 rfl
theorem q3909 : (Jvm.Cond.arrayClass Jvm.ClassFile.FieldType.short) ∈ lw_all := lw_g (lw_at lw_m16 208 rfl) rfl
