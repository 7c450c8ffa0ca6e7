-- X3.ElasticTrussModel.lean.txt
/-! ElasticTrussModel -/
set_option maxRecDepth 100000
def RX3 : String := "ElasticTrussModel"
def TX3 : u_T := fun k => match k with
  | 0 => ("ElasticTrussModel", "thrown", "I", false)
  | 1 => ("ElasticTrussModel", "rows", "[J", true)
  | 2 => ("ElasticTrussModel", "read", "[J", true)
  | 3 => ("ElasticTrussModel", "aside", "[J", true)
  | 4 => ("ElasticTrussModel", "now", "I", false)
  | 5 => ("ElasticTrussModel", "undoable", "I", false)
  | 6 => ("ElasticTrussModel", "text", "[I", true)
  | 7 => ("ElasticTrussModel", "bytes", "I", false)
  | 8 => ("ElasticTrussModel", "errorAt", "I", false)
  | 9 => ("ElasticTrussModel", "size", "I", false)
  | 10 => ("ElasticTrussModel", "next", "I", false)
  | 11 => ("ElasticTrussModel", "error", "I", false)
  | 12 => ("ElasticTrussModel", "place", "I", false)
  | 13 => ("ElasticTrussModel", "began", "I", false)
  | 14 => ("ElasticTrussModel", "nested", "I", false)
  | 15 => ("ElasticTrussModel", "hasBuckling", "Z", false)
  | 16 => ("ElasticTrussModel", "ux", "[J", true)
  | 17 => ("ElasticTrussModel", "uy", "[J", true)
  | 18 => ("ElasticTrussModel", "forces", "[J", true)
  | 19 => ("ElasticTrussModel", "lengths", "[J", true)
  | 20 => ("ElasticTrussModel", "stiffness", "[J", true)
  | 21 => ("ElasticTrussModel", "pile", "[J", true)
  | _ => ("ElasticTrussModel", "part", "[I", true)
def tyX3 : Nat → FieldType := fun k => match k with
  | 0 => .int
  | 1 => .array .long
  | 2 => .array .long
  | 3 => .array .long
  | 4 => .int
  | 5 => .int
  | 6 => .array .int
  | 7 => .int
  | 8 => .int
  | 9 => .int
  | 10 => .int
  | 11 => .int
  | 12 => .int
  | 13 => .int
  | 14 => .int
  | 15 => .boolean
  | 16 => .array .long
  | 17 => .array .long
  | 18 => .array .long
  | 19 => .array .long
  | 20 => .array .long
  | 21 => .array .long
  | _ => .array .int
abbrev wsX30 : List Cond := u_ws RX3 TX3 23
set_option maxRecDepth 100000 in
theorem nmX3 : ∀ a, a < 23 → ∀ b, b < 23 → a ≠ b → (TX3 a).2.1 ≠ (TX3 b).2.1 := by decide +kernel
set_option maxRecDepth 100000 in
theorem tyX3_ok : ∀ k, k < 23 → parseFieldDescriptor (TX3 k).2.2.1 = some (tyX3 k) := by decide +kernel
abbrev cX3_init : ByteArray := prog_20_method_1_code
def yX3_init : MethodName := ⟨RX3, "<init>", "()V"⟩
def dkwX3_init_4 : List UInt8 := [42, 16, 8, 188, 10, 181, 0, 45, 177]
abbrev dktX3_init_4 : List UInt8 := dkwX3_init_4 ++ []
def dkwX3_init_3 : List UInt8 := [16, 16, 188, 11, 181, 0, 36, 42, 16, 8, 188, 11, 181, 0, 39, 42, 17, 0, 128, 188, 11, 181, 0, 42]
abbrev dktX3_init_3 : List UInt8 := dkwX3_init_3 ++ dktX3_init_4
def dkwX3_init_2 : List UInt8 := [16, 32, 188, 11, 181, 0, 27, 42, 16, 32, 188, 11, 181, 0, 30, 42, 16, 64, 188, 11, 181, 0, 33, 42]
abbrev dktX3_init_2 : List UInt8 := dkwX3_init_2 ++ dktX3_init_3
def dkwX3_init_1 : List UInt8 := [17, 6, 214, 188, 11, 181, 0, 16, 42, 17, 3, 32, 188, 10, 181, 0, 19, 42, 2, 181, 0, 23, 42]
abbrev dktX3_init_1 : List UInt8 := dkwX3_init_1 ++ dktX3_init_2
def dkwX3_init_0 : List UInt8 := [42, 183, 0, 1, 42, 17, 61, 134, 188, 11, 181, 0, 7, 42, 17, 6, 214, 188, 11, 181, 0, 13, 42]
abbrev dktX3_init_0 : List UInt8 := dkwX3_init_0 ++ dktX3_init_1
theorem dksX3_init_0 : cX3_init.data.toList.drop 0 = dktX3_init_0 := by decide +kernel
theorem dksX3_init_1 : cX3_init.data.toList.drop 23 = dktX3_init_1 := dk_seg dksX3_init_0 23 rfl rfl
theorem dksX3_init_2 : cX3_init.data.toList.drop 46 = dktX3_init_2 := dk_seg dksX3_init_1 23 rfl rfl
theorem dksX3_init_3 : cX3_init.data.toList.drop 70 = dktX3_init_3 := dk_seg dksX3_init_2 24 rfl rfl
theorem dksX3_init_4 : cX3_init.data.toList.drop 94 = dktX3_init_4 := dk_seg dksX3_init_3 24 rfl rfl
theorem dX3_init_0 : decode cX3_init 0 = .ok (.aload_n 0, 1) := dk_42 (dk_at dksX3_init_0 0 rfl rfl)
theorem dX3_init_1 : decode cX3_init 1 = .ok (.invokespecial 1, 3) := dk_183 0 1 (dk_at dksX3_init_0 1 rfl rfl)
theorem dX3_init_4 : decode cX3_init 4 = .ok (.aload_n 0, 1) := dk_42 (dk_at dksX3_init_0 4 rfl rfl)
theorem dX3_init_5 : decode cX3_init 5 = .ok (.sipush 15750, 3) := dk_17 61 134 (dk_at dksX3_init_0 5 rfl rfl)
theorem dX3_init_8 : decode cX3_init 8 = .ok (.newarray .long, 2) := dk_188_11 (dk_at dksX3_init_0 8 rfl rfl)
theorem dX3_init_10 : decode cX3_init 10 = .ok (.putfield 7, 3) := dk_181 0 7 (dk_at dksX3_init_0 10 rfl rfl)
theorem dX3_init_13 : decode cX3_init 13 = .ok (.aload_n 0, 1) := dk_42 (dk_at dksX3_init_0 13 rfl rfl)
theorem dX3_init_14 : decode cX3_init 14 = .ok (.sipush 1750, 3) := dk_17 6 214 (dk_at dksX3_init_0 14 rfl rfl)
theorem dX3_init_17 : decode cX3_init 17 = .ok (.newarray .long, 2) := dk_188_11 (dk_at dksX3_init_0 17 rfl rfl)
theorem dX3_init_19 : decode cX3_init 19 = .ok (.putfield 13, 3) := dk_181 0 13 (dk_at dksX3_init_0 19 rfl rfl)
theorem dX3_init_22 : decode cX3_init 22 = .ok (.aload_n 0, 1) := dk_42 (dk_at dksX3_init_0 22 rfl rfl)
theorem dX3_init_23 : decode cX3_init 23 = .ok (.sipush 1750, 3) := dk_17 6 214 (dk_at dksX3_init_1 0 rfl rfl)
theorem dX3_init_26 : decode cX3_init 26 = .ok (.newarray .long, 2) := dk_188_11 (dk_at dksX3_init_1 3 rfl rfl)
theorem dX3_init_28 : decode cX3_init 28 = .ok (.putfield 16, 3) := dk_181 0 16 (dk_at dksX3_init_1 5 rfl rfl)
theorem dX3_init_31 : decode cX3_init 31 = .ok (.aload_n 0, 1) := dk_42 (dk_at dksX3_init_1 8 rfl rfl)
theorem dX3_init_32 : decode cX3_init 32 = .ok (.sipush 800, 3) := dk_17 3 32 (dk_at dksX3_init_1 9 rfl rfl)
theorem dX3_init_35 : decode cX3_init 35 = .ok (.newarray .int, 2) := dk_188_10 (dk_at dksX3_init_1 12 rfl rfl)
theorem dX3_init_37 : decode cX3_init 37 = .ok (.putfield 19, 3) := dk_181 0 19 (dk_at dksX3_init_1 14 rfl rfl)
theorem dX3_init_40 : decode cX3_init 40 = .ok (.aload_n 0, 1) := dk_42 (dk_at dksX3_init_1 17 rfl rfl)
theorem dX3_init_41 : decode cX3_init 41 = .ok (.iconst (-1), 1) := dk_2 (dk_at dksX3_init_1 18 rfl rfl)
theorem dX3_init_42 : decode cX3_init 42 = .ok (.putfield 23, 3) := dk_181 0 23 (dk_at dksX3_init_1 19 rfl rfl)
theorem dX3_init_45 : decode cX3_init 45 = .ok (.aload_n 0, 1) := dk_42 (dk_at dksX3_init_1 22 rfl rfl)
theorem dX3_init_46 : decode cX3_init 46 = .ok (.bipush 32, 2) := dk_16 32 (dk_at dksX3_init_2 0 rfl rfl)
theorem dX3_init_48 : decode cX3_init 48 = .ok (.newarray .long, 2) := dk_188_11 (dk_at dksX3_init_2 2 rfl rfl)
theorem dX3_init_50 : decode cX3_init 50 = .ok (.putfield 27, 3) := dk_181 0 27 (dk_at dksX3_init_2 4 rfl rfl)
theorem dX3_init_53 : decode cX3_init 53 = .ok (.aload_n 0, 1) := dk_42 (dk_at dksX3_init_2 7 rfl rfl)
theorem dX3_init_54 : decode cX3_init 54 = .ok (.bipush 32, 2) := dk_16 32 (dk_at dksX3_init_2 8 rfl rfl)
theorem dX3_init_56 : decode cX3_init 56 = .ok (.newarray .long, 2) := dk_188_11 (dk_at dksX3_init_2 10 rfl rfl)
theorem dX3_init_58 : decode cX3_init 58 = .ok (.putfield 30, 3) := dk_181 0 30 (dk_at dksX3_init_2 12 rfl rfl)
theorem dX3_init_61 : decode cX3_init 61 = .ok (.aload_n 0, 1) := dk_42 (dk_at dksX3_init_2 15 rfl rfl)
theorem dX3_init_62 : decode cX3_init 62 = .ok (.bipush 64, 2) := dk_16 64 (dk_at dksX3_init_2 16 rfl rfl)
theorem dX3_init_64 : decode cX3_init 64 = .ok (.newarray .long, 2) := dk_188_11 (dk_at dksX3_init_2 18 rfl rfl)
theorem dX3_init_66 : decode cX3_init 66 = .ok (.putfield 33, 3) := dk_181 0 33 (dk_at dksX3_init_2 20 rfl rfl)
theorem dX3_init_69 : decode cX3_init 69 = .ok (.aload_n 0, 1) := dk_42 (dk_at dksX3_init_2 23 rfl rfl)
theorem dX3_init_70 : decode cX3_init 70 = .ok (.bipush 16, 2) := dk_16 16 (dk_at dksX3_init_3 0 rfl rfl)
theorem dX3_init_72 : decode cX3_init 72 = .ok (.newarray .long, 2) := dk_188_11 (dk_at dksX3_init_3 2 rfl rfl)
theorem dX3_init_74 : decode cX3_init 74 = .ok (.putfield 36, 3) := dk_181 0 36 (dk_at dksX3_init_3 4 rfl rfl)
theorem dX3_init_77 : decode cX3_init 77 = .ok (.aload_n 0, 1) := dk_42 (dk_at dksX3_init_3 7 rfl rfl)
theorem dX3_init_78 : decode cX3_init 78 = .ok (.bipush 8, 2) := dk_16 8 (dk_at dksX3_init_3 8 rfl rfl)
theorem dX3_init_80 : decode cX3_init 80 = .ok (.newarray .long, 2) := dk_188_11 (dk_at dksX3_init_3 10 rfl rfl)
theorem dX3_init_82 : decode cX3_init 82 = .ok (.putfield 39, 3) := dk_181 0 39 (dk_at dksX3_init_3 12 rfl rfl)
theorem dX3_init_85 : decode cX3_init 85 = .ok (.aload_n 0, 1) := dk_42 (dk_at dksX3_init_3 15 rfl rfl)
theorem dX3_init_86 : decode cX3_init 86 = .ok (.sipush 128, 3) := dk_17 0 128 (dk_at dksX3_init_3 16 rfl rfl)
theorem dX3_init_89 : decode cX3_init 89 = .ok (.newarray .long, 2) := dk_188_11 (dk_at dksX3_init_3 19 rfl rfl)
theorem dX3_init_91 : decode cX3_init 91 = .ok (.putfield 42, 3) := dk_181 0 42 (dk_at dksX3_init_3 21 rfl rfl)
theorem dX3_init_94 : decode cX3_init 94 = .ok (.aload_n 0, 1) := dk_42 (dk_at dksX3_init_4 0 rfl rfl)
theorem dX3_init_95 : decode cX3_init 95 = .ok (.bipush 8, 2) := dk_16 8 (dk_at dksX3_init_4 1 rfl rfl)
theorem dX3_init_97 : decode cX3_init 97 = .ok (.newarray .int, 2) := dk_188_10 (dk_at dksX3_init_4 3 rfl rfl)
theorem dX3_init_99 : decode cX3_init 99 = .ok (.putfield 45, 3) := dk_181 0 45 (dk_at dksX3_init_4 5 rfl rfl)
theorem dX3_init_102 : decode cX3_init 102 = .ok (.return_, 1) := dk_177 (dk_at dksX3_init_4 8 rfl rfl)
abbrev cX3_thrown : ByteArray := prog_20_method_2_code
def yX3_thrown : MethodName := ⟨RX3, "thrown", "()I"⟩
theorem dX3_thrown_0 : decode cX3_thrown 0 = .ok (.aload_n 0, 1) := by decide +kernel
theorem dX3_thrown_1 : decode cX3_thrown 1 = .ok (.getfield 48, 3) := by decide +kernel
theorem dX3_thrown_4 : decode cX3_thrown 4 = .ok (.ireturn, 1) := by decide +kernel
abbrev cX3_append : ByteArray := prog_20_method_12_code
def yX3_append : MethodName := ⟨RX3, "append", "(IIIII)I"⟩
def dkwX3_append_5 : List UInt8 := [16, 20, 96, 181, 0, 65, 42, 180, 0, 65, 172]
abbrev dktX3_append_5 : List UInt8 := dkwX3_append_5 ++ []
def dkwX3_append_4 : List UInt8 := [21, 6, 7, 112, 104, 100, 122, 17, 0, 255, 126, 79, 132, 6, 1, 167, 255, 169, 42, 89, 180, 0, 65]
abbrev dktX3_append_4 : List UInt8 := dkwX3_append_4 ++ dktX3_append_5
def dkwX3_append_3 : List UInt8 := [167, 0, 5, 21, 5, 54, 7, 42, 180, 0, 19, 42, 180, 0, 65, 21, 6, 96, 21, 7, 16, 24, 16, 8]
abbrev dktX3_append_3 : List UInt8 := dkwX3_append_3 ++ dktX3_append_4
def dkwX3_append_2 : List UInt8 := [28, 167, 0, 28, 21, 6, 16, 12, 162, 0, 7, 29, 167, 0, 17, 21, 6, 16, 16, 162, 0, 8, 21, 4]
abbrev dktX3_append_2 : List UInt8 := dkwX3_append_2 ++ dktX3_append_3
def dkwX3_append_1 : List UInt8 := [21, 6, 16, 20, 162, 0, 86, 21, 6, 7, 162, 0, 7, 27, 167, 0, 39, 21, 6, 16, 8, 162, 0, 7]
abbrev dktX3_append_1 : List UInt8 := dkwX3_append_1 ++ dktX3_append_2
def dkwX3_append_0 : List UInt8 := [42, 3, 181, 0, 48, 42, 180, 0, 65, 16, 20, 96, 17, 3, 32, 164, 0, 5, 2, 172, 3, 54, 6]
abbrev dktX3_append_0 : List UInt8 := dkwX3_append_0 ++ dktX3_append_1
theorem dksX3_append_0 : cX3_append.data.toList.drop 0 = dktX3_append_0 := by decide +kernel
theorem dksX3_append_1 : cX3_append.data.toList.drop 23 = dktX3_append_1 := dk_seg dksX3_append_0 23 rfl rfl
theorem dksX3_append_2 : cX3_append.data.toList.drop 47 = dktX3_append_2 := dk_seg dksX3_append_1 24 rfl rfl
theorem dksX3_append_3 : cX3_append.data.toList.drop 71 = dktX3_append_3 := dk_seg dksX3_append_2 24 rfl rfl
theorem dksX3_append_4 : cX3_append.data.toList.drop 95 = dktX3_append_4 := dk_seg dksX3_append_3 24 rfl rfl
theorem dksX3_append_5 : cX3_append.data.toList.drop 118 = dktX3_append_5 := dk_seg dksX3_append_4 23 rfl rfl
theorem dX3_append_0 : decode cX3_append 0 = .ok (.aload_n 0, 1) := dk_42 (dk_at dksX3_append_0 0 rfl rfl)
theorem dX3_append_1 : decode cX3_append 1 = .ok (.iconst 0, 1) := dk_3 (dk_at dksX3_append_0 1 rfl rfl)
theorem dX3_append_2 : decode cX3_append 2 = .ok (.putfield 48, 3) := dk_181 0 48 (dk_at dksX3_append_0 2 rfl rfl)
theorem dX3_append_5 : decode cX3_append 5 = .ok (.aload_n 0, 1) := dk_42 (dk_at dksX3_append_0 5 rfl rfl)
theorem dX3_append_6 : decode cX3_append 6 = .ok (.getfield 65, 3) := dk_180 0 65 (dk_at dksX3_append_0 6 rfl rfl)
theorem dX3_append_9 : decode cX3_append 9 = .ok (.bipush 20, 2) := dk_16 20 (dk_at dksX3_append_0 9 rfl rfl)
theorem dX3_append_11 : decode cX3_append 11 = .ok (.iadd, 1) := dk_96 (dk_at dksX3_append_0 11 rfl rfl)
theorem dX3_append_12 : decode cX3_append 12 = .ok (.sipush 800, 3) := dk_17 3 32 (dk_at dksX3_append_0 12 rfl rfl)
theorem dX3_append_15 : decode cX3_append 15 = .ok (.if_icmp .le 5, 3) := dk_164 0 5 (dk_at dksX3_append_0 15 rfl rfl)
theorem dX3_append_18 : decode cX3_append 18 = .ok (.iconst (-1), 1) := dk_2 (dk_at dksX3_append_0 18 rfl rfl)
theorem dX3_append_19 : decode cX3_append 19 = .ok (.ireturn, 1) := dk_172 (dk_at dksX3_append_0 19 rfl rfl)
theorem dX3_append_20 : decode cX3_append 20 = .ok (.iconst 0, 1) := dk_3 (dk_at dksX3_append_0 20 rfl rfl)
theorem dX3_append_21 : decode cX3_append 21 = .ok (.istore 6, 2) := dk_54 6 (dk_at dksX3_append_0 21 rfl rfl)
theorem dX3_append_23 : decode cX3_append 23 = .ok (.iload 6, 2) := dk_21 6 (dk_at dksX3_append_1 0 rfl rfl)
theorem dX3_append_25 : decode cX3_append 25 = .ok (.bipush 20, 2) := dk_16 20 (dk_at dksX3_append_1 2 rfl rfl)
theorem dX3_append_27 : decode cX3_append 27 = .ok (.if_icmp .ge 86, 3) := dk_162 0 86 (dk_at dksX3_append_1 4 rfl rfl)
theorem dX3_append_30 : decode cX3_append 30 = .ok (.iload 6, 2) := dk_21 6 (dk_at dksX3_append_1 7 rfl rfl)
theorem dX3_append_32 : decode cX3_append 32 = .ok (.iconst 4, 1) := dk_7 (dk_at dksX3_append_1 9 rfl rfl)
theorem dX3_append_33 : decode cX3_append 33 = .ok (.if_icmp .ge 7, 3) := dk_162 0 7 (dk_at dksX3_append_1 10 rfl rfl)
theorem dX3_append_36 : decode cX3_append 36 = .ok (.iload_n 1, 1) := dk_27 (dk_at dksX3_append_1 13 rfl rfl)
theorem dX3_append_37 : decode cX3_append 37 = .ok (.goto 39, 3) := dk_167 0 39 (dk_at dksX3_append_1 14 rfl rfl)
theorem dX3_append_40 : decode cX3_append 40 = .ok (.iload 6, 2) := dk_21 6 (dk_at dksX3_append_1 17 rfl rfl)
theorem dX3_append_42 : decode cX3_append 42 = .ok (.bipush 8, 2) := dk_16 8 (dk_at dksX3_append_1 19 rfl rfl)
theorem dX3_append_44 : decode cX3_append 44 = .ok (.if_icmp .ge 7, 3) := dk_162 0 7 (dk_at dksX3_append_1 21 rfl rfl)
theorem dX3_append_47 : decode cX3_append 47 = .ok (.iload_n 2, 1) := dk_28 (dk_at dksX3_append_2 0 rfl rfl)
theorem dX3_append_48 : decode cX3_append 48 = .ok (.goto 28, 3) := dk_167 0 28 (dk_at dksX3_append_2 1 rfl rfl)
theorem dX3_append_51 : decode cX3_append 51 = .ok (.iload 6, 2) := dk_21 6 (dk_at dksX3_append_2 4 rfl rfl)
theorem dX3_append_53 : decode cX3_append 53 = .ok (.bipush 12, 2) := dk_16 12 (dk_at dksX3_append_2 6 rfl rfl)
theorem dX3_append_55 : decode cX3_append 55 = .ok (.if_icmp .ge 7, 3) := dk_162 0 7 (dk_at dksX3_append_2 8 rfl rfl)
theorem dX3_append_58 : decode cX3_append 58 = .ok (.iload_n 3, 1) := dk_29 (dk_at dksX3_append_2 11 rfl rfl)
theorem dX3_append_59 : decode cX3_append 59 = .ok (.goto 17, 3) := dk_167 0 17 (dk_at dksX3_append_2 12 rfl rfl)
theorem dX3_append_62 : decode cX3_append 62 = .ok (.iload 6, 2) := dk_21 6 (dk_at dksX3_append_2 15 rfl rfl)
theorem dX3_append_64 : decode cX3_append 64 = .ok (.bipush 16, 2) := dk_16 16 (dk_at dksX3_append_2 17 rfl rfl)
theorem dX3_append_66 : decode cX3_append 66 = .ok (.if_icmp .ge 8, 3) := dk_162 0 8 (dk_at dksX3_append_2 19 rfl rfl)
theorem dX3_append_69 : decode cX3_append 69 = .ok (.iload 4, 2) := dk_21 4 (dk_at dksX3_append_2 22 rfl rfl)
theorem dX3_append_71 : decode cX3_append 71 = .ok (.goto 5, 3) := dk_167 0 5 (dk_at dksX3_append_3 0 rfl rfl)
theorem dX3_append_74 : decode cX3_append 74 = .ok (.iload 5, 2) := dk_21 5 (dk_at dksX3_append_3 3 rfl rfl)
theorem dX3_append_76 : decode cX3_append 76 = .ok (.istore 7, 2) := dk_54 7 (dk_at dksX3_append_3 5 rfl rfl)
theorem dX3_append_78 : decode cX3_append 78 = .ok (.aload_n 0, 1) := dk_42 (dk_at dksX3_append_3 7 rfl rfl)
theorem dX3_append_79 : decode cX3_append 79 = .ok (.getfield 19, 3) := dk_180 0 19 (dk_at dksX3_append_3 8 rfl rfl)
theorem dX3_append_82 : decode cX3_append 82 = .ok (.aload_n 0, 1) := dk_42 (dk_at dksX3_append_3 11 rfl rfl)
theorem dX3_append_83 : decode cX3_append 83 = .ok (.getfield 65, 3) := dk_180 0 65 (dk_at dksX3_append_3 12 rfl rfl)
theorem dX3_append_86 : decode cX3_append 86 = .ok (.iload 6, 2) := dk_21 6 (dk_at dksX3_append_3 15 rfl rfl)
theorem dX3_append_88 : decode cX3_append 88 = .ok (.iadd, 1) := dk_96 (dk_at dksX3_append_3 17 rfl rfl)
theorem dX3_append_89 : decode cX3_append 89 = .ok (.iload 7, 2) := dk_21 7 (dk_at dksX3_append_3 18 rfl rfl)
theorem dX3_append_91 : decode cX3_append 91 = .ok (.bipush 24, 2) := dk_16 24 (dk_at dksX3_append_3 20 rfl rfl)
theorem dX3_append_93 : decode cX3_append 93 = .ok (.bipush 8, 2) := dk_16 8 (dk_at dksX3_append_3 22 rfl rfl)
theorem dX3_append_95 : decode cX3_append 95 = .ok (.iload 6, 2) := dk_21 6 (dk_at dksX3_append_4 0 rfl rfl)
theorem dX3_append_97 : decode cX3_append 97 = .ok (.iconst 4, 1) := dk_7 (dk_at dksX3_append_4 2 rfl rfl)
theorem dX3_append_98 : decode cX3_append 98 = .ok (.irem, 1) := dk_112 (dk_at dksX3_append_4 3 rfl rfl)
theorem dX3_append_99 : decode cX3_append 99 = .ok (.imul, 1) := dk_104 (dk_at dksX3_append_4 4 rfl rfl)
theorem dX3_append_100 : decode cX3_append 100 = .ok (.isub, 1) := dk_100 (dk_at dksX3_append_4 5 rfl rfl)
theorem dX3_append_101 : decode cX3_append 101 = .ok (.ishr, 1) := dk_122 (dk_at dksX3_append_4 6 rfl rfl)
theorem dX3_append_102 : decode cX3_append 102 = .ok (.sipush 255, 3) := dk_17 0 255 (dk_at dksX3_append_4 7 rfl rfl)
theorem dX3_append_105 : decode cX3_append 105 = .ok (.iand, 1) := dk_126 (dk_at dksX3_append_4 10 rfl rfl)
theorem dX3_append_106 : decode cX3_append 106 = .ok (.iastore, 1) := dk_79 (dk_at dksX3_append_4 11 rfl rfl)
theorem dX3_append_107 : decode cX3_append 107 = .ok (.iinc 6 1, 3) := dk_132 6 1 (dk_at dksX3_append_4 12 rfl rfl)
theorem dX3_append_110 : decode cX3_append 110 = .ok (.goto (-87), 3) := dk_167 255 169 (dk_at dksX3_append_4 15 rfl rfl)
theorem dX3_append_113 : decode cX3_append 113 = .ok (.aload_n 0, 1) := dk_42 (dk_at dksX3_append_4 18 rfl rfl)
theorem dX3_append_114 : decode cX3_append 114 = .ok (.dup, 1) := dk_89 (dk_at dksX3_append_4 19 rfl rfl)
theorem dX3_append_115 : decode cX3_append 115 = .ok (.getfield 65, 3) := dk_180 0 65 (dk_at dksX3_append_4 20 rfl rfl)
theorem dX3_append_118 : decode cX3_append 118 = .ok (.bipush 20, 2) := dk_16 20 (dk_at dksX3_append_5 0 rfl rfl)
theorem dX3_append_120 : decode cX3_append 120 = .ok (.iadd, 1) := dk_96 (dk_at dksX3_append_5 2 rfl rfl)
theorem dX3_append_121 : decode cX3_append 121 = .ok (.putfield 65, 3) := dk_181 0 65 (dk_at dksX3_append_5 3 rfl rfl)
theorem dX3_append_124 : decode cX3_append 124 = .ok (.aload_n 0, 1) := dk_42 (dk_at dksX3_append_5 6 rfl rfl)
theorem dX3_append_125 : decode cX3_append 125 = .ok (.getfield 65, 3) := dk_180 0 65 (dk_at dksX3_append_5 7 rfl rfl)
theorem dX3_append_128 : decode cX3_append 128 = .ok (.ireturn, 1) := dk_172 (dk_at dksX3_append_5 10 rfl rfl)
abbrev cX3_load : ByteArray := prog_20_method_32_code
def yX3_load : MethodName := ⟨RX3, "load", "(I)I"⟩
def dkwX3_load_4 : List UInt8 := [167, 255, 235, 42, 8, 182, 0, 220, 172]
abbrev dktX3_load_4 : List UInt8 := dkwX3_load_4 ++ []
def dkwX3_load_3 : List UInt8 := [61, 28, 17, 6, 214, 162, 0, 20, 42, 28, 42, 180, 0, 13, 28, 47, 182, 0, 61, 132, 2, 1]
abbrev dktX3_load_3 : List UInt8 := dkwX3_load_3 ++ dktX3_load_4
def dkwX3_load_2 : List UInt8 := [180, 0, 68, 153, 0, 16, 42, 42, 180, 0, 71, 181, 0, 23, 42, 180, 0, 68, 172, 42, 182, 0, 217, 3]
abbrev dktX3_load_2 : List UInt8 := dkwX3_load_2 ++ dktX3_load_3
def dkwX3_load_1 : List UInt8 := [3, 172, 42, 27, 181, 0, 77, 42, 3, 181, 0, 65, 42, 2, 181, 0, 23, 42, 182, 0, 214, 42]
abbrev dktX3_load_1 : List UInt8 := dkwX3_load_1 ++ dktX3_load_2
def dkwX3_load_0 : List UInt8 := [42, 3, 181, 0, 48, 42, 27, 133, 9, 42, 180, 0, 65, 133, 184, 0, 120, 4, 182, 0, 210, 154, 0, 5]
abbrev dktX3_load_0 : List UInt8 := dkwX3_load_0 ++ dktX3_load_1
theorem dksX3_load_0 : cX3_load.data.toList.drop 0 = dktX3_load_0 := by decide +kernel
theorem dksX3_load_1 : cX3_load.data.toList.drop 24 = dktX3_load_1 := dk_seg dksX3_load_0 24 rfl rfl
theorem dksX3_load_2 : cX3_load.data.toList.drop 46 = dktX3_load_2 := dk_seg dksX3_load_1 22 rfl rfl
theorem dksX3_load_3 : cX3_load.data.toList.drop 70 = dktX3_load_3 := dk_seg dksX3_load_2 24 rfl rfl
theorem dksX3_load_4 : cX3_load.data.toList.drop 92 = dktX3_load_4 := dk_seg dksX3_load_3 22 rfl rfl
theorem dX3_load_0 : decode cX3_load 0 = .ok (.aload_n 0, 1) := dk_42 (dk_at dksX3_load_0 0 rfl rfl)
theorem dX3_load_1 : decode cX3_load 1 = .ok (.iconst 0, 1) := dk_3 (dk_at dksX3_load_0 1 rfl rfl)
theorem dX3_load_2 : decode cX3_load 2 = .ok (.putfield 48, 3) := dk_181 0 48 (dk_at dksX3_load_0 2 rfl rfl)
theorem dX3_load_5 : decode cX3_load 5 = .ok (.aload_n 0, 1) := dk_42 (dk_at dksX3_load_0 5 rfl rfl)
theorem dX3_load_6 : decode cX3_load 6 = .ok (.iload_n 1, 1) := dk_27 (dk_at dksX3_load_0 6 rfl rfl)
theorem dX3_load_7 : decode cX3_load 7 = .ok (.i2l, 1) := dk_133 (dk_at dksX3_load_0 7 rfl rfl)
theorem dX3_load_8 : decode cX3_load 8 = .ok (.lconst 0, 1) := dk_9 (dk_at dksX3_load_0 8 rfl rfl)
theorem dX3_load_9 : decode cX3_load 9 = .ok (.aload_n 0, 1) := dk_42 (dk_at dksX3_load_0 9 rfl rfl)
theorem dX3_load_10 : decode cX3_load 10 = .ok (.getfield 65, 3) := dk_180 0 65 (dk_at dksX3_load_0 10 rfl rfl)
theorem dX3_load_13 : decode cX3_load 13 = .ok (.i2l, 1) := dk_133 (dk_at dksX3_load_0 13 rfl rfl)
theorem dX3_load_14 : decode cX3_load 14 = .ok (.invokestatic 120, 3) := dk_184 0 120 (dk_at dksX3_load_0 14 rfl rfl)
theorem dX3_load_17 : decode cX3_load 17 = .ok (.iconst 1, 1) := dk_4 (dk_at dksX3_load_0 17 rfl rfl)
theorem dX3_load_18 : decode cX3_load 18 = .ok (.invokevirtual 210, 3) := dk_182 0 210 (dk_at dksX3_load_0 18 rfl rfl)
theorem dX3_load_21 : decode cX3_load 21 = .ok (.ifCond .ne 5, 3) := dk_154 0 5 (dk_at dksX3_load_0 21 rfl rfl)
theorem dX3_load_24 : decode cX3_load 24 = .ok (.iconst 0, 1) := dk_3 (dk_at dksX3_load_1 0 rfl rfl)
theorem dX3_load_25 : decode cX3_load 25 = .ok (.ireturn, 1) := dk_172 (dk_at dksX3_load_1 1 rfl rfl)
theorem dX3_load_26 : decode cX3_load 26 = .ok (.aload_n 0, 1) := dk_42 (dk_at dksX3_load_1 2 rfl rfl)
theorem dX3_load_27 : decode cX3_load 27 = .ok (.iload_n 1, 1) := dk_27 (dk_at dksX3_load_1 3 rfl rfl)
theorem dX3_load_28 : decode cX3_load 28 = .ok (.putfield 77, 3) := dk_181 0 77 (dk_at dksX3_load_1 4 rfl rfl)
theorem dX3_load_31 : decode cX3_load 31 = .ok (.aload_n 0, 1) := dk_42 (dk_at dksX3_load_1 7 rfl rfl)
theorem dX3_load_32 : decode cX3_load 32 = .ok (.iconst 0, 1) := dk_3 (dk_at dksX3_load_1 8 rfl rfl)
theorem dX3_load_33 : decode cX3_load 33 = .ok (.putfield 65, 3) := dk_181 0 65 (dk_at dksX3_load_1 9 rfl rfl)
theorem dX3_load_36 : decode cX3_load 36 = .ok (.aload_n 0, 1) := dk_42 (dk_at dksX3_load_1 12 rfl rfl)
theorem dX3_load_37 : decode cX3_load 37 = .ok (.iconst (-1), 1) := dk_2 (dk_at dksX3_load_1 13 rfl rfl)
theorem dX3_load_38 : decode cX3_load 38 = .ok (.putfield 23, 3) := dk_181 0 23 (dk_at dksX3_load_1 14 rfl rfl)
theorem dX3_load_41 : decode cX3_load 41 = .ok (.aload_n 0, 1) := dk_42 (dk_at dksX3_load_1 17 rfl rfl)
theorem dX3_load_42 : decode cX3_load 42 = .ok (.invokevirtual 214, 3) := dk_182 0 214 (dk_at dksX3_load_1 18 rfl rfl)
theorem dX3_load_45 : decode cX3_load 45 = .ok (.aload_n 0, 1) := dk_42 (dk_at dksX3_load_1 21 rfl rfl)
theorem dX3_load_46 : decode cX3_load 46 = .ok (.getfield 68, 3) := dk_180 0 68 (dk_at dksX3_load_2 0 rfl rfl)
theorem dX3_load_49 : decode cX3_load 49 = .ok (.ifCond .eq 16, 3) := dk_153 0 16 (dk_at dksX3_load_2 3 rfl rfl)
theorem dX3_load_52 : decode cX3_load 52 = .ok (.aload_n 0, 1) := dk_42 (dk_at dksX3_load_2 6 rfl rfl)
theorem dX3_load_53 : decode cX3_load 53 = .ok (.aload_n 0, 1) := dk_42 (dk_at dksX3_load_2 7 rfl rfl)
theorem dX3_load_54 : decode cX3_load 54 = .ok (.getfield 71, 3) := dk_180 0 71 (dk_at dksX3_load_2 8 rfl rfl)
theorem dX3_load_57 : decode cX3_load 57 = .ok (.putfield 23, 3) := dk_181 0 23 (dk_at dksX3_load_2 11 rfl rfl)
theorem dX3_load_60 : decode cX3_load 60 = .ok (.aload_n 0, 1) := dk_42 (dk_at dksX3_load_2 14 rfl rfl)
theorem dX3_load_61 : decode cX3_load 61 = .ok (.getfield 68, 3) := dk_180 0 68 (dk_at dksX3_load_2 15 rfl rfl)
theorem dX3_load_64 : decode cX3_load 64 = .ok (.ireturn, 1) := dk_172 (dk_at dksX3_load_2 18 rfl rfl)
theorem dX3_load_65 : decode cX3_load 65 = .ok (.aload_n 0, 1) := dk_42 (dk_at dksX3_load_2 19 rfl rfl)
theorem dX3_load_66 : decode cX3_load 66 = .ok (.invokevirtual 217, 3) := dk_182 0 217 (dk_at dksX3_load_2 20 rfl rfl)
theorem dX3_load_69 : decode cX3_load 69 = .ok (.iconst 0, 1) := dk_3 (dk_at dksX3_load_2 23 rfl rfl)
theorem dX3_load_70 : decode cX3_load 70 = .ok (.istore_n 2, 1) := dk_61 (dk_at dksX3_load_3 0 rfl rfl)
theorem dX3_load_71 : decode cX3_load 71 = .ok (.iload_n 2, 1) := dk_28 (dk_at dksX3_load_3 1 rfl rfl)
theorem dX3_load_72 : decode cX3_load 72 = .ok (.sipush 1750, 3) := dk_17 6 214 (dk_at dksX3_load_3 2 rfl rfl)
theorem dX3_load_75 : decode cX3_load 75 = .ok (.if_icmp .ge 20, 3) := dk_162 0 20 (dk_at dksX3_load_3 5 rfl rfl)
theorem dX3_load_78 : decode cX3_load 78 = .ok (.aload_n 0, 1) := dk_42 (dk_at dksX3_load_3 8 rfl rfl)
theorem dX3_load_79 : decode cX3_load 79 = .ok (.iload_n 2, 1) := dk_28 (dk_at dksX3_load_3 9 rfl rfl)
theorem dX3_load_80 : decode cX3_load 80 = .ok (.aload_n 0, 1) := dk_42 (dk_at dksX3_load_3 10 rfl rfl)
theorem dX3_load_81 : decode cX3_load 81 = .ok (.getfield 13, 3) := dk_180 0 13 (dk_at dksX3_load_3 11 rfl rfl)
theorem dX3_load_84 : decode cX3_load 84 = .ok (.iload_n 2, 1) := dk_28 (dk_at dksX3_load_3 14 rfl rfl)
theorem dX3_load_85 : decode cX3_load 85 = .ok (.laload, 1) := dk_47 (dk_at dksX3_load_3 15 rfl rfl)
theorem dX3_load_86 : decode cX3_load 86 = .ok (.invokevirtual 61, 3) := dk_182 0 61 (dk_at dksX3_load_3 16 rfl rfl)
theorem dX3_load_89 : decode cX3_load 89 = .ok (.iinc 2 1, 3) := dk_132 2 1 (dk_at dksX3_load_3 19 rfl rfl)
theorem dX3_load_92 : decode cX3_load 92 = .ok (.goto (-21), 3) := dk_167 255 235 (dk_at dksX3_load_4 0 rfl rfl)
theorem dX3_load_95 : decode cX3_load 95 = .ok (.aload_n 0, 1) := dk_42 (dk_at dksX3_load_4 3 rfl rfl)
theorem dX3_load_96 : decode cX3_load 96 = .ok (.iconst 5, 1) := dk_8 (dk_at dksX3_load_4 4 rfl rfl)
theorem dX3_load_97 : decode cX3_load 97 = .ok (.invokevirtual 220, 3) := dk_182 0 220 (dk_at dksX3_load_4 5 rfl rfl)
theorem dX3_load_100 : decode cX3_load 100 = .ok (.ireturn, 1) := dk_172 (dk_at dksX3_load_4 8 rfl rfl)
abbrev cX3_isIn : ByteArray := prog_20_method_3_code
def yX3_isIn : MethodName := ⟨RX3, "isIn", "(JJJ)Z"⟩
def dkwX3_isIn_0 : List UInt8 := [30, 32, 148, 155, 0, 14, 30, 22, 4, 148, 157, 0, 7, 4, 167, 0, 4, 3, 172]
abbrev dktX3_isIn_0 : List UInt8 := dkwX3_isIn_0 ++ []
theorem dksX3_isIn_0 : cX3_isIn.data.toList.drop 0 = dktX3_isIn_0 := by decide +kernel
theorem dX3_isIn_0 : decode cX3_isIn 0 = .ok (.lload_n 0, 1) := dk_30 (dk_at dksX3_isIn_0 0 rfl rfl)
theorem dX3_isIn_1 : decode cX3_isIn 1 = .ok (.lload_n 2, 1) := dk_32 (dk_at dksX3_isIn_0 1 rfl rfl)
theorem dX3_isIn_2 : decode cX3_isIn 2 = .ok (.lcmp, 1) := dk_148 (dk_at dksX3_isIn_0 2 rfl rfl)
theorem dX3_isIn_3 : decode cX3_isIn 3 = .ok (.ifCond .lt 14, 3) := dk_155 0 14 (dk_at dksX3_isIn_0 3 rfl rfl)
theorem dX3_isIn_6 : decode cX3_isIn 6 = .ok (.lload_n 0, 1) := dk_30 (dk_at dksX3_isIn_0 6 rfl rfl)
theorem dX3_isIn_7 : decode cX3_isIn 7 = .ok (.lload 4, 2) := dk_22 4 (dk_at dksX3_isIn_0 7 rfl rfl)
theorem dX3_isIn_9 : decode cX3_isIn 9 = .ok (.lcmp, 1) := dk_148 (dk_at dksX3_isIn_0 9 rfl rfl)
theorem dX3_isIn_10 : decode cX3_isIn 10 = .ok (.ifCond .gt 7, 3) := dk_157 0 7 (dk_at dksX3_isIn_0 10 rfl rfl)
theorem dX3_isIn_13 : decode cX3_isIn 13 = .ok (.iconst 1, 1) := dk_4 (dk_at dksX3_isIn_0 13 rfl rfl)
theorem dX3_isIn_14 : decode cX3_isIn 14 = .ok (.goto 4, 3) := dk_167 0 4 (dk_at dksX3_isIn_0 14 rfl rfl)
theorem dX3_isIn_17 : decode cX3_isIn 17 = .ok (.iconst 0, 1) := dk_3 (dk_at dksX3_isIn_0 17 rfl rfl)
theorem dX3_isIn_18 : decode cX3_isIn 18 = .ok (.ireturn, 1) := dk_172 (dk_at dksX3_isIn_0 18 rfl rfl)
abbrev cX3_right : ByteArray := prog_20_method_11_code
def yX3_right : MethodName := ⟨RX3, "right", "(ZI)Z"⟩
def dkwX3_right_1 : List UInt8 := [167, 0, 4, 3, 172]
abbrev dktX3_right_1 : List UInt8 := dkwX3_right_1 ++ []
def dkwX3_right_0 : List UInt8 := [42, 180, 0, 48, 154, 0, 12, 27, 154, 0, 8, 42, 28, 181, 0, 48, 42, 180, 0, 48, 154, 0, 7, 4]
abbrev dktX3_right_0 : List UInt8 := dkwX3_right_0 ++ dktX3_right_1
theorem dksX3_right_0 : cX3_right.data.toList.drop 0 = dktX3_right_0 := by decide +kernel
theorem dksX3_right_1 : cX3_right.data.toList.drop 24 = dktX3_right_1 := dk_seg dksX3_right_0 24 rfl rfl
theorem dX3_right_0 : decode cX3_right 0 = .ok (.aload_n 0, 1) := dk_42 (dk_at dksX3_right_0 0 rfl rfl)
theorem dX3_right_1 : decode cX3_right 1 = .ok (.getfield 48, 3) := dk_180 0 48 (dk_at dksX3_right_0 1 rfl rfl)
theorem dX3_right_4 : decode cX3_right 4 = .ok (.ifCond .ne 12, 3) := dk_154 0 12 (dk_at dksX3_right_0 4 rfl rfl)
theorem dX3_right_7 : decode cX3_right 7 = .ok (.iload_n 1, 1) := dk_27 (dk_at dksX3_right_0 7 rfl rfl)
theorem dX3_right_8 : decode cX3_right 8 = .ok (.ifCond .ne 8, 3) := dk_154 0 8 (dk_at dksX3_right_0 8 rfl rfl)
theorem dX3_right_11 : decode cX3_right 11 = .ok (.aload_n 0, 1) := dk_42 (dk_at dksX3_right_0 11 rfl rfl)
theorem dX3_right_12 : decode cX3_right 12 = .ok (.iload_n 2, 1) := dk_28 (dk_at dksX3_right_0 12 rfl rfl)
theorem dX3_right_13 : decode cX3_right 13 = .ok (.putfield 48, 3) := dk_181 0 48 (dk_at dksX3_right_0 13 rfl rfl)
theorem dX3_right_16 : decode cX3_right 16 = .ok (.aload_n 0, 1) := dk_42 (dk_at dksX3_right_0 16 rfl rfl)
theorem dX3_right_17 : decode cX3_right 17 = .ok (.getfield 48, 3) := dk_180 0 48 (dk_at dksX3_right_0 17 rfl rfl)
theorem dX3_right_20 : decode cX3_right 20 = .ok (.ifCond .ne 7, 3) := dk_154 0 7 (dk_at dksX3_right_0 20 rfl rfl)
theorem dX3_right_23 : decode cX3_right 23 = .ok (.iconst 1, 1) := dk_4 (dk_at dksX3_right_0 23 rfl rfl)
theorem dX3_right_24 : decode cX3_right 24 = .ok (.goto 4, 3) := dk_167 0 4 (dk_at dksX3_right_1 0 rfl rfl)
theorem dX3_right_27 : decode cX3_right 27 = .ok (.iconst 0, 1) := dk_3 (dk_at dksX3_right_1 3 rfl rfl)
theorem dX3_right_28 : decode cX3_right 28 = .ok (.ireturn, 1) := dk_172 (dk_at dksX3_right_1 4 rfl rfl)
abbrev cX3_texts : ByteArray := prog_20_method_31_code
def yX3_texts : MethodName := ⟨RX3, "texts", "()V"⟩
def dkwX3_texts_5 : List UInt8 := [182, 0, 80, 2, 159, 0, 10, 42, 182, 0, 207, 167, 255, 237, 177]
abbrev dktX3_texts_5 : List UInt8 := dkwX3_texts_5 ++ []
def dkwX3_texts_4 : List UInt8 := [10, 20, 0, 205, 182, 0, 126, 80, 42, 16, 59, 182, 0, 146, 42, 180, 0, 68, 154, 0, 18, 42]
abbrev dktX3_texts_4 : List UInt8 := dkwX3_texts_4 ++ dktX3_texts_5
def dkwX3_texts_3 : List UInt8 := [182, 0, 126, 80, 42, 180, 0, 13, 4, 42, 10, 20, 0, 124, 182, 0, 126, 80, 42, 180, 0, 13, 5, 42]
abbrev dktX3_texts_3 : List UInt8 := dkwX3_texts_3 ++ dktX3_texts_4
def dkwX3_texts_2 : List UInt8 := [154, 0, 13, 42, 16, 254, 42, 180, 0, 74, 182, 0, 97, 42, 180, 0, 13, 3, 42, 10, 20, 0, 124]
abbrev dktX3_texts_2 : List UInt8 := dkwX3_texts_2 ++ dktX3_texts_3
def dkwX3_texts_1 : List UInt8 := [181, 0, 74, 42, 3, 181, 0, 68, 42, 3, 181, 0, 140, 42, 3, 181, 0, 199, 42, 18, 203, 182, 0, 152]
abbrev dktX3_texts_1 : List UInt8 := dkwX3_texts_1 ++ dktX3_texts_2
def dkwX3_texts_0 : List UInt8 := [3, 60, 27, 17, 6, 214, 162, 0, 16, 42, 180, 0, 13, 27, 9, 80, 132, 1, 1, 167, 255, 239, 42, 3]
abbrev dktX3_texts_0 : List UInt8 := dkwX3_texts_0 ++ dktX3_texts_1
theorem dksX3_texts_0 : cX3_texts.data.toList.drop 0 = dktX3_texts_0 := by decide +kernel
theorem dksX3_texts_1 : cX3_texts.data.toList.drop 24 = dktX3_texts_1 := dk_seg dksX3_texts_0 24 rfl rfl
theorem dksX3_texts_2 : cX3_texts.data.toList.drop 48 = dktX3_texts_2 := dk_seg dksX3_texts_1 24 rfl rfl
theorem dksX3_texts_3 : cX3_texts.data.toList.drop 71 = dktX3_texts_3 := dk_seg dksX3_texts_2 23 rfl rfl
theorem dksX3_texts_4 : cX3_texts.data.toList.drop 95 = dktX3_texts_4 := dk_seg dksX3_texts_3 24 rfl rfl
theorem dksX3_texts_5 : cX3_texts.data.toList.drop 117 = dktX3_texts_5 := dk_seg dksX3_texts_4 22 rfl rfl
theorem dX3_texts_0 : decode cX3_texts 0 = .ok (.iconst 0, 1) := dk_3 (dk_at dksX3_texts_0 0 rfl rfl)
theorem dX3_texts_1 : decode cX3_texts 1 = .ok (.istore_n 1, 1) := dk_60 (dk_at dksX3_texts_0 1 rfl rfl)
theorem dX3_texts_2 : decode cX3_texts 2 = .ok (.iload_n 1, 1) := dk_27 (dk_at dksX3_texts_0 2 rfl rfl)
theorem dX3_texts_3 : decode cX3_texts 3 = .ok (.sipush 1750, 3) := dk_17 6 214 (dk_at dksX3_texts_0 3 rfl rfl)
theorem dX3_texts_6 : decode cX3_texts 6 = .ok (.if_icmp .ge 16, 3) := dk_162 0 16 (dk_at dksX3_texts_0 6 rfl rfl)
theorem dX3_texts_9 : decode cX3_texts 9 = .ok (.aload_n 0, 1) := dk_42 (dk_at dksX3_texts_0 9 rfl rfl)
theorem dX3_texts_10 : decode cX3_texts 10 = .ok (.getfield 13, 3) := dk_180 0 13 (dk_at dksX3_texts_0 10 rfl rfl)
theorem dX3_texts_13 : decode cX3_texts 13 = .ok (.iload_n 1, 1) := dk_27 (dk_at dksX3_texts_0 13 rfl rfl)
theorem dX3_texts_14 : decode cX3_texts 14 = .ok (.lconst 0, 1) := dk_9 (dk_at dksX3_texts_0 14 rfl rfl)
theorem dX3_texts_15 : decode cX3_texts 15 = .ok (.lastore, 1) := dk_80 (dk_at dksX3_texts_0 15 rfl rfl)
theorem dX3_texts_16 : decode cX3_texts 16 = .ok (.iinc 1 1, 3) := dk_132 1 1 (dk_at dksX3_texts_0 16 rfl rfl)
theorem dX3_texts_19 : decode cX3_texts 19 = .ok (.goto (-17), 3) := dk_167 255 239 (dk_at dksX3_texts_0 19 rfl rfl)
theorem dX3_texts_22 : decode cX3_texts 22 = .ok (.aload_n 0, 1) := dk_42 (dk_at dksX3_texts_0 22 rfl rfl)
theorem dX3_texts_23 : decode cX3_texts 23 = .ok (.iconst 0, 1) := dk_3 (dk_at dksX3_texts_0 23 rfl rfl)
theorem dX3_texts_24 : decode cX3_texts 24 = .ok (.putfield 74, 3) := dk_181 0 74 (dk_at dksX3_texts_1 0 rfl rfl)
theorem dX3_texts_27 : decode cX3_texts 27 = .ok (.aload_n 0, 1) := dk_42 (dk_at dksX3_texts_1 3 rfl rfl)
theorem dX3_texts_28 : decode cX3_texts 28 = .ok (.iconst 0, 1) := dk_3 (dk_at dksX3_texts_1 4 rfl rfl)
theorem dX3_texts_29 : decode cX3_texts 29 = .ok (.putfield 68, 3) := dk_181 0 68 (dk_at dksX3_texts_1 5 rfl rfl)
theorem dX3_texts_32 : decode cX3_texts 32 = .ok (.aload_n 0, 1) := dk_42 (dk_at dksX3_texts_1 8 rfl rfl)
theorem dX3_texts_33 : decode cX3_texts 33 = .ok (.iconst 0, 1) := dk_3 (dk_at dksX3_texts_1 9 rfl rfl)
theorem dX3_texts_34 : decode cX3_texts 34 = .ok (.putfield 140, 3) := dk_181 0 140 (dk_at dksX3_texts_1 10 rfl rfl)
theorem dX3_texts_37 : decode cX3_texts 37 = .ok (.aload_n 0, 1) := dk_42 (dk_at dksX3_texts_1 13 rfl rfl)
theorem dX3_texts_38 : decode cX3_texts 38 = .ok (.iconst 0, 1) := dk_3 (dk_at dksX3_texts_1 14 rfl rfl)
theorem dX3_texts_39 : decode cX3_texts 39 = .ok (.putfield 199, 3) := dk_181 0 199 (dk_at dksX3_texts_1 15 rfl rfl)
theorem dX3_texts_42 : decode cX3_texts 42 = .ok (.aload_n 0, 1) := dk_42 (dk_at dksX3_texts_1 18 rfl rfl)
theorem dX3_texts_43 : decode cX3_texts 43 = .ok (.ldc 203, 2) := dk_18 203 (dk_at dksX3_texts_1 19 rfl rfl)
theorem dX3_texts_45 : decode cX3_texts 45 = .ok (.invokevirtual 152, 3) := dk_182 0 152 (dk_at dksX3_texts_1 21 rfl rfl)
theorem dX3_texts_48 : decode cX3_texts 48 = .ok (.ifCond .ne 13, 3) := dk_154 0 13 (dk_at dksX3_texts_2 0 rfl rfl)
theorem dX3_texts_51 : decode cX3_texts 51 = .ok (.aload_n 0, 1) := dk_42 (dk_at dksX3_texts_2 3 rfl rfl)
theorem dX3_texts_52 : decode cX3_texts 52 = .ok (.bipush (-2), 2) := dk_16 254 (dk_at dksX3_texts_2 4 rfl rfl)
theorem dX3_texts_54 : decode cX3_texts 54 = .ok (.aload_n 0, 1) := dk_42 (dk_at dksX3_texts_2 6 rfl rfl)
theorem dX3_texts_55 : decode cX3_texts 55 = .ok (.getfield 74, 3) := dk_180 0 74 (dk_at dksX3_texts_2 7 rfl rfl)
theorem dX3_texts_58 : decode cX3_texts 58 = .ok (.invokevirtual 97, 3) := dk_182 0 97 (dk_at dksX3_texts_2 10 rfl rfl)
theorem dX3_texts_61 : decode cX3_texts 61 = .ok (.aload_n 0, 1) := dk_42 (dk_at dksX3_texts_2 13 rfl rfl)
theorem dX3_texts_62 : decode cX3_texts 62 = .ok (.getfield 13, 3) := dk_180 0 13 (dk_at dksX3_texts_2 14 rfl rfl)
theorem dX3_texts_65 : decode cX3_texts 65 = .ok (.iconst 0, 1) := dk_3 (dk_at dksX3_texts_2 17 rfl rfl)
theorem dX3_texts_66 : decode cX3_texts 66 = .ok (.aload_n 0, 1) := dk_42 (dk_at dksX3_texts_2 18 rfl rfl)
theorem dX3_texts_67 : decode cX3_texts 67 = .ok (.lconst 1, 1) := dk_10 (dk_at dksX3_texts_2 19 rfl rfl)
theorem dX3_texts_68 : decode cX3_texts 68 = .ok (.ldc2_w 124, 3) := dk_20 0 124 (dk_at dksX3_texts_2 20 rfl rfl)
theorem dX3_texts_71 : decode cX3_texts 71 = .ok (.invokevirtual 126, 3) := dk_182 0 126 (dk_at dksX3_texts_3 0 rfl rfl)
theorem dX3_texts_74 : decode cX3_texts 74 = .ok (.lastore, 1) := dk_80 (dk_at dksX3_texts_3 3 rfl rfl)
theorem dX3_texts_75 : decode cX3_texts 75 = .ok (.aload_n 0, 1) := dk_42 (dk_at dksX3_texts_3 4 rfl rfl)
theorem dX3_texts_76 : decode cX3_texts 76 = .ok (.getfield 13, 3) := dk_180 0 13 (dk_at dksX3_texts_3 5 rfl rfl)
theorem dX3_texts_79 : decode cX3_texts 79 = .ok (.iconst 1, 1) := dk_4 (dk_at dksX3_texts_3 8 rfl rfl)
theorem dX3_texts_80 : decode cX3_texts 80 = .ok (.aload_n 0, 1) := dk_42 (dk_at dksX3_texts_3 9 rfl rfl)
theorem dX3_texts_81 : decode cX3_texts 81 = .ok (.lconst 1, 1) := dk_10 (dk_at dksX3_texts_3 10 rfl rfl)
theorem dX3_texts_82 : decode cX3_texts 82 = .ok (.ldc2_w 124, 3) := dk_20 0 124 (dk_at dksX3_texts_3 11 rfl rfl)
theorem dX3_texts_85 : decode cX3_texts 85 = .ok (.invokevirtual 126, 3) := dk_182 0 126 (dk_at dksX3_texts_3 14 rfl rfl)
theorem dX3_texts_88 : decode cX3_texts 88 = .ok (.lastore, 1) := dk_80 (dk_at dksX3_texts_3 17 rfl rfl)
theorem dX3_texts_89 : decode cX3_texts 89 = .ok (.aload_n 0, 1) := dk_42 (dk_at dksX3_texts_3 18 rfl rfl)
theorem dX3_texts_90 : decode cX3_texts 90 = .ok (.getfield 13, 3) := dk_180 0 13 (dk_at dksX3_texts_3 19 rfl rfl)
theorem dX3_texts_93 : decode cX3_texts 93 = .ok (.iconst 2, 1) := dk_5 (dk_at dksX3_texts_3 22 rfl rfl)
theorem dX3_texts_94 : decode cX3_texts 94 = .ok (.aload_n 0, 1) := dk_42 (dk_at dksX3_texts_3 23 rfl rfl)
theorem dX3_texts_95 : decode cX3_texts 95 = .ok (.lconst 1, 1) := dk_10 (dk_at dksX3_texts_4 0 rfl rfl)
theorem dX3_texts_96 : decode cX3_texts 96 = .ok (.ldc2_w 205, 3) := dk_20 0 205 (dk_at dksX3_texts_4 1 rfl rfl)
theorem dX3_texts_99 : decode cX3_texts 99 = .ok (.invokevirtual 126, 3) := dk_182 0 126 (dk_at dksX3_texts_4 4 rfl rfl)
theorem dX3_texts_102 : decode cX3_texts 102 = .ok (.lastore, 1) := dk_80 (dk_at dksX3_texts_4 7 rfl rfl)
theorem dX3_texts_103 : decode cX3_texts 103 = .ok (.aload_n 0, 1) := dk_42 (dk_at dksX3_texts_4 8 rfl rfl)
theorem dX3_texts_104 : decode cX3_texts 104 = .ok (.bipush 59, 2) := dk_16 59 (dk_at dksX3_texts_4 9 rfl rfl)
theorem dX3_texts_106 : decode cX3_texts 106 = .ok (.invokevirtual 146, 3) := dk_182 0 146 (dk_at dksX3_texts_4 11 rfl rfl)
theorem dX3_texts_109 : decode cX3_texts 109 = .ok (.aload_n 0, 1) := dk_42 (dk_at dksX3_texts_4 14 rfl rfl)
theorem dX3_texts_110 : decode cX3_texts 110 = .ok (.getfield 68, 3) := dk_180 0 68 (dk_at dksX3_texts_4 15 rfl rfl)
theorem dX3_texts_113 : decode cX3_texts 113 = .ok (.ifCond .ne 18, 3) := dk_154 0 18 (dk_at dksX3_texts_4 18 rfl rfl)
theorem dX3_texts_116 : decode cX3_texts 116 = .ok (.aload_n 0, 1) := dk_42 (dk_at dksX3_texts_4 21 rfl rfl)
theorem dX3_texts_117 : decode cX3_texts 117 = .ok (.invokevirtual 80, 3) := dk_182 0 80 (dk_at dksX3_texts_5 0 rfl rfl)
theorem dX3_texts_120 : decode cX3_texts 120 = .ok (.iconst (-1), 1) := dk_2 (dk_at dksX3_texts_5 3 rfl rfl)
theorem dX3_texts_121 : decode cX3_texts 121 = .ok (.if_icmp .eq 10, 3) := dk_159 0 10 (dk_at dksX3_texts_5 4 rfl rfl)
theorem dX3_texts_124 : decode cX3_texts 124 = .ok (.aload_n 0, 1) := dk_42 (dk_at dksX3_texts_5 7 rfl rfl)
theorem dX3_texts_125 : decode cX3_texts 125 = .ok (.invokevirtual 207, 3) := dk_182 0 207 (dk_at dksX3_texts_5 8 rfl rfl)
theorem dX3_texts_128 : decode cX3_texts 128 = .ok (.goto (-19), 3) := dk_167 255 237 (dk_at dksX3_texts_5 11 rfl rfl)
theorem dX3_texts_131 : decode cX3_texts 131 = .ok (.return_, 1) := dk_177 (dk_at dksX3_texts_5 14 rfl rfl)
abbrev cX3_takes : ByteArray := prog_20_method_16_code
def yX3_takes : MethodName := ⟨RX3, "takes", "(Ljava/lang/String;)Z"⟩
def dkwX3_takes_1 : List UInt8 := [182, 0, 84, 96, 181, 0, 74, 4, 172]
abbrev dktX3_takes_1 : List UInt8 := dkwX3_takes_1 ++ []
def dkwX3_takes_0 : List UInt8 := [42, 180, 0, 68, 154, 0, 11, 42, 43, 182, 0, 93, 154, 0, 5, 3, 172, 42, 89, 180, 0, 74, 43]
abbrev dktX3_takes_0 : List UInt8 := dkwX3_takes_0 ++ dktX3_takes_1
theorem dksX3_takes_0 : cX3_takes.data.toList.drop 0 = dktX3_takes_0 := by decide +kernel
theorem dksX3_takes_1 : cX3_takes.data.toList.drop 23 = dktX3_takes_1 := dk_seg dksX3_takes_0 23 rfl rfl
theorem dX3_takes_0 : decode cX3_takes 0 = .ok (.aload_n 0, 1) := dk_42 (dk_at dksX3_takes_0 0 rfl rfl)
theorem dX3_takes_1 : decode cX3_takes 1 = .ok (.getfield 68, 3) := dk_180 0 68 (dk_at dksX3_takes_0 1 rfl rfl)
theorem dX3_takes_4 : decode cX3_takes 4 = .ok (.ifCond .ne 11, 3) := dk_154 0 11 (dk_at dksX3_takes_0 4 rfl rfl)
theorem dX3_takes_7 : decode cX3_takes 7 = .ok (.aload_n 0, 1) := dk_42 (dk_at dksX3_takes_0 7 rfl rfl)
theorem dX3_takes_8 : decode cX3_takes 8 = .ok (.aload_n 1, 1) := dk_43 (dk_at dksX3_takes_0 8 rfl rfl)
theorem dX3_takes_9 : decode cX3_takes 9 = .ok (.invokevirtual 93, 3) := dk_182 0 93 (dk_at dksX3_takes_0 9 rfl rfl)
theorem dX3_takes_12 : decode cX3_takes 12 = .ok (.ifCond .ne 5, 3) := dk_154 0 5 (dk_at dksX3_takes_0 12 rfl rfl)
theorem dX3_takes_15 : decode cX3_takes 15 = .ok (.iconst 0, 1) := dk_3 (dk_at dksX3_takes_0 15 rfl rfl)
theorem dX3_takes_16 : decode cX3_takes 16 = .ok (.ireturn, 1) := dk_172 (dk_at dksX3_takes_0 16 rfl rfl)
theorem dX3_takes_17 : decode cX3_takes 17 = .ok (.aload_n 0, 1) := dk_42 (dk_at dksX3_takes_0 17 rfl rfl)
theorem dX3_takes_18 : decode cX3_takes 18 = .ok (.dup, 1) := dk_89 (dk_at dksX3_takes_0 18 rfl rfl)
theorem dX3_takes_19 : decode cX3_takes 19 = .ok (.getfield 74, 3) := dk_180 0 74 (dk_at dksX3_takes_0 19 rfl rfl)
theorem dX3_takes_22 : decode cX3_takes 22 = .ok (.aload_n 1, 1) := dk_43 (dk_at dksX3_takes_0 22 rfl rfl)
theorem dX3_takes_23 : decode cX3_takes 23 = .ok (.invokevirtual 84, 3) := dk_182 0 84 (dk_at dksX3_takes_1 0 rfl rfl)
theorem dX3_takes_26 : decode cX3_takes 26 = .ok (.iadd, 1) := dk_96 (dk_at dksX3_takes_1 3 rfl rfl)
theorem dX3_takes_27 : decode cX3_takes 27 = .ok (.putfield 74, 3) := dk_181 0 74 (dk_at dksX3_takes_1 4 rfl rfl)
theorem dX3_takes_30 : decode cX3_takes 30 = .ok (.iconst 1, 1) := dk_4 (dk_at dksX3_takes_1 7 rfl rfl)
theorem dX3_takes_31 : decode cX3_takes 31 = .ok (.ireturn, 1) := dk_172 (dk_at dksX3_takes_1 8 rfl rfl)
abbrev cX3_isWord : ByteArray := prog_20_method_15_code
def yX3_isWord : MethodName := ⟨RX3, "isWord", "(Ljava/lang/String;)Z"⟩
def dkwX3_isWord_4 : List UInt8 := [182, 0, 89, 160, 0, 7, 4, 167, 0, 4, 3, 62, 132, 4, 1, 167, 255, 213, 29, 172]
abbrev dktX3_isWord_4 : List UInt8 := dkwX3_isWord_4 ++ []
def dkwX3_isWord_3 : List UInt8 := [21, 4, 43, 182, 0, 84, 162, 0, 36, 42, 180, 0, 19, 42, 180, 0, 74, 21, 4, 96, 46, 43, 21, 4]
abbrev dktX3_isWord_3 : List UInt8 := dkwX3_isWord_3 ++ dktX3_isWord_4
def dkwX3_isWord_2 : List UInt8 := [180, 0, 74, 100, 43, 182, 0, 84, 160, 0, 7, 4, 167, 0, 4, 3, 62, 3, 54, 4, 29, 153, 0, 45]
abbrev dktX3_isWord_2 : List UInt8 := dkwX3_isWord_2 ++ dktX3_isWord_3
def dkwX3_isWord_1 : List UInt8 := [16, 97, 161, 0, 20, 42, 180, 0, 19, 28, 46, 16, 122, 163, 0, 9, 132, 2, 1, 167, 255, 223, 28, 42]
abbrev dktX3_isWord_1 : List UInt8 := dkwX3_isWord_1 ++ dktX3_isWord_2
def dkwX3_isWord_0 : List UInt8 := [42, 182, 0, 80, 87, 42, 180, 0, 74, 61, 28, 42, 180, 0, 77, 162, 0, 31, 42, 180, 0, 19, 28, 46]
abbrev dktX3_isWord_0 : List UInt8 := dkwX3_isWord_0 ++ dktX3_isWord_1
theorem dksX3_isWord_0 : cX3_isWord.data.toList.drop 0 = dktX3_isWord_0 := by decide +kernel
theorem dksX3_isWord_1 : cX3_isWord.data.toList.drop 24 = dktX3_isWord_1 := dk_seg dksX3_isWord_0 24 rfl rfl
theorem dksX3_isWord_2 : cX3_isWord.data.toList.drop 48 = dktX3_isWord_2 := dk_seg dksX3_isWord_1 24 rfl rfl
theorem dksX3_isWord_3 : cX3_isWord.data.toList.drop 72 = dktX3_isWord_3 := dk_seg dksX3_isWord_2 24 rfl rfl
theorem dksX3_isWord_4 : cX3_isWord.data.toList.drop 96 = dktX3_isWord_4 := dk_seg dksX3_isWord_3 24 rfl rfl
theorem dX3_isWord_0 : decode cX3_isWord 0 = .ok (.aload_n 0, 1) := dk_42 (dk_at dksX3_isWord_0 0 rfl rfl)
theorem dX3_isWord_1 : decode cX3_isWord 1 = .ok (.invokevirtual 80, 3) := dk_182 0 80 (dk_at dksX3_isWord_0 1 rfl rfl)
theorem dX3_isWord_4 : decode cX3_isWord 4 = .ok (.pop, 1) := dk_87 (dk_at dksX3_isWord_0 4 rfl rfl)
theorem dX3_isWord_5 : decode cX3_isWord 5 = .ok (.aload_n 0, 1) := dk_42 (dk_at dksX3_isWord_0 5 rfl rfl)
theorem dX3_isWord_6 : decode cX3_isWord 6 = .ok (.getfield 74, 3) := dk_180 0 74 (dk_at dksX3_isWord_0 6 rfl rfl)
theorem dX3_isWord_9 : decode cX3_isWord 9 = .ok (.istore_n 2, 1) := dk_61 (dk_at dksX3_isWord_0 9 rfl rfl)
theorem dX3_isWord_10 : decode cX3_isWord 10 = .ok (.iload_n 2, 1) := dk_28 (dk_at dksX3_isWord_0 10 rfl rfl)
theorem dX3_isWord_11 : decode cX3_isWord 11 = .ok (.aload_n 0, 1) := dk_42 (dk_at dksX3_isWord_0 11 rfl rfl)
theorem dX3_isWord_12 : decode cX3_isWord 12 = .ok (.getfield 77, 3) := dk_180 0 77 (dk_at dksX3_isWord_0 12 rfl rfl)
theorem dX3_isWord_15 : decode cX3_isWord 15 = .ok (.if_icmp .ge 31, 3) := dk_162 0 31 (dk_at dksX3_isWord_0 15 rfl rfl)
theorem dX3_isWord_18 : decode cX3_isWord 18 = .ok (.aload_n 0, 1) := dk_42 (dk_at dksX3_isWord_0 18 rfl rfl)
theorem dX3_isWord_19 : decode cX3_isWord 19 = .ok (.getfield 19, 3) := dk_180 0 19 (dk_at dksX3_isWord_0 19 rfl rfl)
theorem dX3_isWord_22 : decode cX3_isWord 22 = .ok (.iload_n 2, 1) := dk_28 (dk_at dksX3_isWord_0 22 rfl rfl)
theorem dX3_isWord_23 : decode cX3_isWord 23 = .ok (.iaload, 1) := dk_46 (dk_at dksX3_isWord_0 23 rfl rfl)
theorem dX3_isWord_24 : decode cX3_isWord 24 = .ok (.bipush 97, 2) := dk_16 97 (dk_at dksX3_isWord_1 0 rfl rfl)
theorem dX3_isWord_26 : decode cX3_isWord 26 = .ok (.if_icmp .lt 20, 3) := dk_161 0 20 (dk_at dksX3_isWord_1 2 rfl rfl)
theorem dX3_isWord_29 : decode cX3_isWord 29 = .ok (.aload_n 0, 1) := dk_42 (dk_at dksX3_isWord_1 5 rfl rfl)
theorem dX3_isWord_30 : decode cX3_isWord 30 = .ok (.getfield 19, 3) := dk_180 0 19 (dk_at dksX3_isWord_1 6 rfl rfl)
theorem dX3_isWord_33 : decode cX3_isWord 33 = .ok (.iload_n 2, 1) := dk_28 (dk_at dksX3_isWord_1 9 rfl rfl)
theorem dX3_isWord_34 : decode cX3_isWord 34 = .ok (.iaload, 1) := dk_46 (dk_at dksX3_isWord_1 10 rfl rfl)
theorem dX3_isWord_35 : decode cX3_isWord 35 = .ok (.bipush 122, 2) := dk_16 122 (dk_at dksX3_isWord_1 11 rfl rfl)
theorem dX3_isWord_37 : decode cX3_isWord 37 = .ok (.if_icmp .gt 9, 3) := dk_163 0 9 (dk_at dksX3_isWord_1 13 rfl rfl)
theorem dX3_isWord_40 : decode cX3_isWord 40 = .ok (.iinc 2 1, 3) := dk_132 2 1 (dk_at dksX3_isWord_1 16 rfl rfl)
theorem dX3_isWord_43 : decode cX3_isWord 43 = .ok (.goto (-33), 3) := dk_167 255 223 (dk_at dksX3_isWord_1 19 rfl rfl)
theorem dX3_isWord_46 : decode cX3_isWord 46 = .ok (.iload_n 2, 1) := dk_28 (dk_at dksX3_isWord_1 22 rfl rfl)
theorem dX3_isWord_47 : decode cX3_isWord 47 = .ok (.aload_n 0, 1) := dk_42 (dk_at dksX3_isWord_1 23 rfl rfl)
theorem dX3_isWord_48 : decode cX3_isWord 48 = .ok (.getfield 74, 3) := dk_180 0 74 (dk_at dksX3_isWord_2 0 rfl rfl)
theorem dX3_isWord_51 : decode cX3_isWord 51 = .ok (.isub, 1) := dk_100 (dk_at dksX3_isWord_2 3 rfl rfl)
theorem dX3_isWord_52 : decode cX3_isWord 52 = .ok (.aload_n 1, 1) := dk_43 (dk_at dksX3_isWord_2 4 rfl rfl)
theorem dX3_isWord_53 : decode cX3_isWord 53 = .ok (.invokevirtual 84, 3) := dk_182 0 84 (dk_at dksX3_isWord_2 5 rfl rfl)
theorem dX3_isWord_56 : decode cX3_isWord 56 = .ok (.if_icmp .ne 7, 3) := dk_160 0 7 (dk_at dksX3_isWord_2 8 rfl rfl)
theorem dX3_isWord_59 : decode cX3_isWord 59 = .ok (.iconst 1, 1) := dk_4 (dk_at dksX3_isWord_2 11 rfl rfl)
theorem dX3_isWord_60 : decode cX3_isWord 60 = .ok (.goto 4, 3) := dk_167 0 4 (dk_at dksX3_isWord_2 12 rfl rfl)
theorem dX3_isWord_63 : decode cX3_isWord 63 = .ok (.iconst 0, 1) := dk_3 (dk_at dksX3_isWord_2 15 rfl rfl)
theorem dX3_isWord_64 : decode cX3_isWord 64 = .ok (.istore_n 3, 1) := dk_62 (dk_at dksX3_isWord_2 16 rfl rfl)
theorem dX3_isWord_65 : decode cX3_isWord 65 = .ok (.iconst 0, 1) := dk_3 (dk_at dksX3_isWord_2 17 rfl rfl)
theorem dX3_isWord_66 : decode cX3_isWord 66 = .ok (.istore 4, 2) := dk_54 4 (dk_at dksX3_isWord_2 18 rfl rfl)
theorem dX3_isWord_68 : decode cX3_isWord 68 = .ok (.iload_n 3, 1) := dk_29 (dk_at dksX3_isWord_2 20 rfl rfl)
theorem dX3_isWord_69 : decode cX3_isWord 69 = .ok (.ifCond .eq 45, 3) := dk_153 0 45 (dk_at dksX3_isWord_2 21 rfl rfl)
theorem dX3_isWord_72 : decode cX3_isWord 72 = .ok (.iload 4, 2) := dk_21 4 (dk_at dksX3_isWord_3 0 rfl rfl)
theorem dX3_isWord_74 : decode cX3_isWord 74 = .ok (.aload_n 1, 1) := dk_43 (dk_at dksX3_isWord_3 2 rfl rfl)
theorem dX3_isWord_75 : decode cX3_isWord 75 = .ok (.invokevirtual 84, 3) := dk_182 0 84 (dk_at dksX3_isWord_3 3 rfl rfl)
theorem dX3_isWord_78 : decode cX3_isWord 78 = .ok (.if_icmp .ge 36, 3) := dk_162 0 36 (dk_at dksX3_isWord_3 6 rfl rfl)
theorem dX3_isWord_81 : decode cX3_isWord 81 = .ok (.aload_n 0, 1) := dk_42 (dk_at dksX3_isWord_3 9 rfl rfl)
theorem dX3_isWord_82 : decode cX3_isWord 82 = .ok (.getfield 19, 3) := dk_180 0 19 (dk_at dksX3_isWord_3 10 rfl rfl)
theorem dX3_isWord_85 : decode cX3_isWord 85 = .ok (.aload_n 0, 1) := dk_42 (dk_at dksX3_isWord_3 13 rfl rfl)
theorem dX3_isWord_86 : decode cX3_isWord 86 = .ok (.getfield 74, 3) := dk_180 0 74 (dk_at dksX3_isWord_3 14 rfl rfl)
theorem dX3_isWord_89 : decode cX3_isWord 89 = .ok (.iload 4, 2) := dk_21 4 (dk_at dksX3_isWord_3 17 rfl rfl)
theorem dX3_isWord_91 : decode cX3_isWord 91 = .ok (.iadd, 1) := dk_96 (dk_at dksX3_isWord_3 19 rfl rfl)
theorem dX3_isWord_92 : decode cX3_isWord 92 = .ok (.iaload, 1) := dk_46 (dk_at dksX3_isWord_3 20 rfl rfl)
theorem dX3_isWord_93 : decode cX3_isWord 93 = .ok (.aload_n 1, 1) := dk_43 (dk_at dksX3_isWord_3 21 rfl rfl)
theorem dX3_isWord_94 : decode cX3_isWord 94 = .ok (.iload 4, 2) := dk_21 4 (dk_at dksX3_isWord_3 22 rfl rfl)
theorem dX3_isWord_96 : decode cX3_isWord 96 = .ok (.invokevirtual 89, 3) := dk_182 0 89 (dk_at dksX3_isWord_4 0 rfl rfl)
theorem dX3_isWord_99 : decode cX3_isWord 99 = .ok (.if_icmp .ne 7, 3) := dk_160 0 7 (dk_at dksX3_isWord_4 3 rfl rfl)
theorem dX3_isWord_102 : decode cX3_isWord 102 = .ok (.iconst 1, 1) := dk_4 (dk_at dksX3_isWord_4 6 rfl rfl)
theorem dX3_isWord_103 : decode cX3_isWord 103 = .ok (.goto 4, 3) := dk_167 0 4 (dk_at dksX3_isWord_4 7 rfl rfl)
theorem dX3_isWord_106 : decode cX3_isWord 106 = .ok (.iconst 0, 1) := dk_3 (dk_at dksX3_isWord_4 10 rfl rfl)
theorem dX3_isWord_107 : decode cX3_isWord 107 = .ok (.istore_n 3, 1) := dk_62 (dk_at dksX3_isWord_4 11 rfl rfl)
theorem dX3_isWord_108 : decode cX3_isWord 108 = .ok (.iinc 4 1, 3) := dk_132 4 1 (dk_at dksX3_isWord_4 12 rfl rfl)
theorem dX3_isWord_111 : decode cX3_isWord 111 = .ok (.goto (-43), 3) := dk_167 255 213 (dk_at dksX3_isWord_4 15 rfl rfl)
theorem dX3_isWord_114 : decode cX3_isWord 114 = .ok (.iload_n 3, 1) := dk_29 (dk_at dksX3_isWord_4 18 rfl rfl)
theorem dX3_isWord_115 : decode cX3_isWord 115 = .ok (.ireturn, 1) := dk_172 (dk_at dksX3_isWord_4 19 rfl rfl)
abbrev cX3_sees : ByteArray := prog_20_method_14_code
def yX3_sees : MethodName := ⟨RX3, "sees", "()I"⟩
def dkwX3_sees_2 : List UInt8 := [162, 0, 15, 42, 180, 0, 19, 42, 180, 0, 74, 46, 167, 0, 4, 2, 172]
abbrev dktX3_sees_2 : List UInt8 := dkwX3_sees_2 ++ []
def dkwX3_sees_1 : List UInt8 := [160, 0, 16, 42, 89, 180, 0, 74, 4, 96, 181, 0, 74, 167, 255, 221, 42, 180, 0, 74, 42, 180, 0, 77]
abbrev dktX3_sees_1 : List UInt8 := dkwX3_sees_1 ++ dktX3_sees_2
def dkwX3_sees_0 : List UInt8 := [42, 180, 0, 74, 42, 180, 0, 77, 162, 0, 30, 42, 180, 0, 19, 42, 180, 0, 74, 46, 16, 32]
abbrev dktX3_sees_0 : List UInt8 := dkwX3_sees_0 ++ dktX3_sees_1
theorem dksX3_sees_0 : cX3_sees.data.toList.drop 0 = dktX3_sees_0 := by decide +kernel
theorem dksX3_sees_1 : cX3_sees.data.toList.drop 22 = dktX3_sees_1 := dk_seg dksX3_sees_0 22 rfl rfl
theorem dksX3_sees_2 : cX3_sees.data.toList.drop 46 = dktX3_sees_2 := dk_seg dksX3_sees_1 24 rfl rfl
theorem dX3_sees_0 : decode cX3_sees 0 = .ok (.aload_n 0, 1) := dk_42 (dk_at dksX3_sees_0 0 rfl rfl)
theorem dX3_sees_1 : decode cX3_sees 1 = .ok (.getfield 74, 3) := dk_180 0 74 (dk_at dksX3_sees_0 1 rfl rfl)
theorem dX3_sees_4 : decode cX3_sees 4 = .ok (.aload_n 0, 1) := dk_42 (dk_at dksX3_sees_0 4 rfl rfl)
theorem dX3_sees_5 : decode cX3_sees 5 = .ok (.getfield 77, 3) := dk_180 0 77 (dk_at dksX3_sees_0 5 rfl rfl)
theorem dX3_sees_8 : decode cX3_sees 8 = .ok (.if_icmp .ge 30, 3) := dk_162 0 30 (dk_at dksX3_sees_0 8 rfl rfl)
theorem dX3_sees_11 : decode cX3_sees 11 = .ok (.aload_n 0, 1) := dk_42 (dk_at dksX3_sees_0 11 rfl rfl)
theorem dX3_sees_12 : decode cX3_sees 12 = .ok (.getfield 19, 3) := dk_180 0 19 (dk_at dksX3_sees_0 12 rfl rfl)
theorem dX3_sees_15 : decode cX3_sees 15 = .ok (.aload_n 0, 1) := dk_42 (dk_at dksX3_sees_0 15 rfl rfl)
theorem dX3_sees_16 : decode cX3_sees 16 = .ok (.getfield 74, 3) := dk_180 0 74 (dk_at dksX3_sees_0 16 rfl rfl)
theorem dX3_sees_19 : decode cX3_sees 19 = .ok (.iaload, 1) := dk_46 (dk_at dksX3_sees_0 19 rfl rfl)
theorem dX3_sees_20 : decode cX3_sees 20 = .ok (.bipush 32, 2) := dk_16 32 (dk_at dksX3_sees_0 20 rfl rfl)
theorem dX3_sees_22 : decode cX3_sees 22 = .ok (.if_icmp .ne 16, 3) := dk_160 0 16 (dk_at dksX3_sees_1 0 rfl rfl)
theorem dX3_sees_25 : decode cX3_sees 25 = .ok (.aload_n 0, 1) := dk_42 (dk_at dksX3_sees_1 3 rfl rfl)
theorem dX3_sees_26 : decode cX3_sees 26 = .ok (.dup, 1) := dk_89 (dk_at dksX3_sees_1 4 rfl rfl)
theorem dX3_sees_27 : decode cX3_sees 27 = .ok (.getfield 74, 3) := dk_180 0 74 (dk_at dksX3_sees_1 5 rfl rfl)
theorem dX3_sees_30 : decode cX3_sees 30 = .ok (.iconst 1, 1) := dk_4 (dk_at dksX3_sees_1 8 rfl rfl)
theorem dX3_sees_31 : decode cX3_sees 31 = .ok (.iadd, 1) := dk_96 (dk_at dksX3_sees_1 9 rfl rfl)
theorem dX3_sees_32 : decode cX3_sees 32 = .ok (.putfield 74, 3) := dk_181 0 74 (dk_at dksX3_sees_1 10 rfl rfl)
theorem dX3_sees_35 : decode cX3_sees 35 = .ok (.goto (-35), 3) := dk_167 255 221 (dk_at dksX3_sees_1 13 rfl rfl)
theorem dX3_sees_38 : decode cX3_sees 38 = .ok (.aload_n 0, 1) := dk_42 (dk_at dksX3_sees_1 16 rfl rfl)
theorem dX3_sees_39 : decode cX3_sees 39 = .ok (.getfield 74, 3) := dk_180 0 74 (dk_at dksX3_sees_1 17 rfl rfl)
theorem dX3_sees_42 : decode cX3_sees 42 = .ok (.aload_n 0, 1) := dk_42 (dk_at dksX3_sees_1 20 rfl rfl)
theorem dX3_sees_43 : decode cX3_sees 43 = .ok (.getfield 77, 3) := dk_180 0 77 (dk_at dksX3_sees_1 21 rfl rfl)
theorem dX3_sees_46 : decode cX3_sees 46 = .ok (.if_icmp .ge 15, 3) := dk_162 0 15 (dk_at dksX3_sees_2 0 rfl rfl)
theorem dX3_sees_49 : decode cX3_sees 49 = .ok (.aload_n 0, 1) := dk_42 (dk_at dksX3_sees_2 3 rfl rfl)
theorem dX3_sees_50 : decode cX3_sees 50 = .ok (.getfield 19, 3) := dk_180 0 19 (dk_at dksX3_sees_2 4 rfl rfl)
theorem dX3_sees_53 : decode cX3_sees 53 = .ok (.aload_n 0, 1) := dk_42 (dk_at dksX3_sees_2 7 rfl rfl)
theorem dX3_sees_54 : decode cX3_sees 54 = .ok (.getfield 74, 3) := dk_180 0 74 (dk_at dksX3_sees_2 8 rfl rfl)
theorem dX3_sees_57 : decode cX3_sees 57 = .ok (.iaload, 1) := dk_46 (dk_at dksX3_sees_2 11 rfl rfl)
theorem dX3_sees_58 : decode cX3_sees 58 = .ok (.goto 4, 3) := dk_167 0 4 (dk_at dksX3_sees_2 12 rfl rfl)
theorem dX3_sees_61 : decode cX3_sees 61 = .ok (.iconst (-1), 1) := dk_2 (dk_at dksX3_sees_2 15 rfl rfl)
theorem dX3_sees_62 : decode cX3_sees 62 = .ok (.ireturn, 1) := dk_172 (dk_at dksX3_sees_2 16 rfl rfl)
abbrev cX3_fails : ByteArray := prog_20_method_13_code
def yX3_fails : MethodName := ⟨RX3, "fails", "(II)V"⟩
def dkwX3_fails_0 : List UInt8 := [42, 180, 0, 68, 153, 0, 4, 177, 42, 27, 181, 0, 68, 42, 28, 181, 0, 71, 177]
abbrev dktX3_fails_0 : List UInt8 := dkwX3_fails_0 ++ []
theorem dksX3_fails_0 : cX3_fails.data.toList.drop 0 = dktX3_fails_0 := by decide +kernel
theorem dX3_fails_0 : decode cX3_fails 0 = .ok (.aload_n 0, 1) := dk_42 (dk_at dksX3_fails_0 0 rfl rfl)
theorem dX3_fails_1 : decode cX3_fails 1 = .ok (.getfield 68, 3) := dk_180 0 68 (dk_at dksX3_fails_0 1 rfl rfl)
theorem dX3_fails_4 : decode cX3_fails 4 = .ok (.ifCond .eq 4, 3) := dk_153 0 4 (dk_at dksX3_fails_0 4 rfl rfl)
theorem dX3_fails_7 : decode cX3_fails 7 = .ok (.return_, 1) := dk_177 (dk_at dksX3_fails_0 7 rfl rfl)
theorem dX3_fails_8 : decode cX3_fails 8 = .ok (.aload_n 0, 1) := dk_42 (dk_at dksX3_fails_0 8 rfl rfl)
theorem dX3_fails_9 : decode cX3_fails 9 = .ok (.iload_n 1, 1) := dk_27 (dk_at dksX3_fails_0 9 rfl rfl)
theorem dX3_fails_10 : decode cX3_fails 10 = .ok (.putfield 68, 3) := dk_181 0 68 (dk_at dksX3_fails_0 10 rfl rfl)
theorem dX3_fails_13 : decode cX3_fails 13 = .ok (.aload_n 0, 1) := dk_42 (dk_at dksX3_fails_0 13 rfl rfl)
theorem dX3_fails_14 : decode cX3_fails 14 = .ok (.iload_n 2, 1) := dk_28 (dk_at dksX3_fails_0 14 rfl rfl)
theorem dX3_fails_15 : decode cX3_fails 15 = .ok (.putfield 71, 3) := dk_181 0 71 (dk_at dksX3_fails_0 15 rfl rfl)
theorem dX3_fails_18 : decode cX3_fails 18 = .ok (.return_, 1) := dk_177 (dk_at dksX3_fails_0 18 rfl rfl)
abbrev cX3_reads : ByteArray := prog_20_method_19_code
def yX3_reads : MethodName := ⟨RX3, "reads", "(JJ)J"⟩
def dkwX3_reads_6 : List UInt8 := [182, 0, 97, 42, 180, 0, 68, 154, 0, 8, 22, 5, 167, 0, 4, 9, 173]
abbrev dktX3_reads_6 : List UInt8 := dkwX3_reads_6 ++ []
def dkwX3_reads_5 : List UInt8 := [181, 0, 74, 167, 255, 178, 22, 5, 31, 33, 184, 0, 120, 154, 0, 13, 42, 16, 253, 42, 180, 0, 105]
abbrev dktX3_reads_5 : List UInt8 := dkwX3_reads_5 ++ dktX3_reads_6
def dkwX3_reads_4 : List UInt8 := [180, 0, 74, 46, 133, 97, 20, 0, 112, 101, 184, 0, 114, 55, 5, 42, 89, 180, 0, 74, 4, 96]
abbrev dktX3_reads_4 : List UInt8 := dkwX3_reads_4 ++ dktX3_reads_5
def dkwX3_reads_3 : List UInt8 := [180, 0, 74, 46, 16, 57, 163, 0, 45, 20, 0, 108, 20, 0, 110, 22, 5, 105, 42, 180, 0, 19, 42]
abbrev dktX3_reads_3 : List UInt8 := dkwX3_reads_3 ++ dktX3_reads_4
def dkwX3_reads_2 : List UInt8 := [162, 0, 73, 42, 180, 0, 19, 42, 180, 0, 74, 46, 16, 48, 161, 0, 59, 42, 180, 0, 19, 42]
abbrev dktX3_reads_2 : List UInt8 := dkwX3_reads_2 ++ dktX3_reads_3
def dkwX3_reads_1 : List UInt8 := [182, 0, 97, 9, 173, 42, 42, 180, 0, 74, 181, 0, 105, 9, 55, 5, 42, 180, 0, 74, 42, 180, 0, 77]
abbrev dktX3_reads_1 : List UInt8 := dkwX3_reads_1 ++ dktX3_reads_2
def dkwX3_reads_0 : List UInt8 := [42, 180, 0, 68, 153, 0, 5, 9, 173, 42, 182, 0, 101, 154, 0, 15, 42, 16, 254, 42, 180, 0, 74]
abbrev dktX3_reads_0 : List UInt8 := dkwX3_reads_0 ++ dktX3_reads_1
theorem dksX3_reads_0 : cX3_reads.data.toList.drop 0 = dktX3_reads_0 := by decide +kernel
theorem dksX3_reads_1 : cX3_reads.data.toList.drop 23 = dktX3_reads_1 := dk_seg dksX3_reads_0 23 rfl rfl
theorem dksX3_reads_2 : cX3_reads.data.toList.drop 47 = dktX3_reads_2 := dk_seg dksX3_reads_1 24 rfl rfl
theorem dksX3_reads_3 : cX3_reads.data.toList.drop 69 = dktX3_reads_3 := dk_seg dksX3_reads_2 22 rfl rfl
theorem dksX3_reads_4 : cX3_reads.data.toList.drop 92 = dktX3_reads_4 := dk_seg dksX3_reads_3 23 rfl rfl
theorem dksX3_reads_5 : cX3_reads.data.toList.drop 114 = dktX3_reads_5 := dk_seg dksX3_reads_4 22 rfl rfl
theorem dksX3_reads_6 : cX3_reads.data.toList.drop 137 = dktX3_reads_6 := dk_seg dksX3_reads_5 23 rfl rfl
theorem dX3_reads_0 : decode cX3_reads 0 = .ok (.aload_n 0, 1) := dk_42 (dk_at dksX3_reads_0 0 rfl rfl)
theorem dX3_reads_1 : decode cX3_reads 1 = .ok (.getfield 68, 3) := dk_180 0 68 (dk_at dksX3_reads_0 1 rfl rfl)
theorem dX3_reads_4 : decode cX3_reads 4 = .ok (.ifCond .eq 5, 3) := dk_153 0 5 (dk_at dksX3_reads_0 4 rfl rfl)
theorem dX3_reads_7 : decode cX3_reads 7 = .ok (.lconst 0, 1) := dk_9 (dk_at dksX3_reads_0 7 rfl rfl)
theorem dX3_reads_8 : decode cX3_reads 8 = .ok (.lreturn, 1) := dk_173 (dk_at dksX3_reads_0 8 rfl rfl)
theorem dX3_reads_9 : decode cX3_reads 9 = .ok (.aload_n 0, 1) := dk_42 (dk_at dksX3_reads_0 9 rfl rfl)
theorem dX3_reads_10 : decode cX3_reads 10 = .ok (.invokevirtual 101, 3) := dk_182 0 101 (dk_at dksX3_reads_0 10 rfl rfl)
theorem dX3_reads_13 : decode cX3_reads 13 = .ok (.ifCond .ne 15, 3) := dk_154 0 15 (dk_at dksX3_reads_0 13 rfl rfl)
theorem dX3_reads_16 : decode cX3_reads 16 = .ok (.aload_n 0, 1) := dk_42 (dk_at dksX3_reads_0 16 rfl rfl)
theorem dX3_reads_17 : decode cX3_reads 17 = .ok (.bipush (-2), 2) := dk_16 254 (dk_at dksX3_reads_0 17 rfl rfl)
theorem dX3_reads_19 : decode cX3_reads 19 = .ok (.aload_n 0, 1) := dk_42 (dk_at dksX3_reads_0 19 rfl rfl)
theorem dX3_reads_20 : decode cX3_reads 20 = .ok (.getfield 74, 3) := dk_180 0 74 (dk_at dksX3_reads_0 20 rfl rfl)
theorem dX3_reads_23 : decode cX3_reads 23 = .ok (.invokevirtual 97, 3) := dk_182 0 97 (dk_at dksX3_reads_1 0 rfl rfl)
theorem dX3_reads_26 : decode cX3_reads 26 = .ok (.lconst 0, 1) := dk_9 (dk_at dksX3_reads_1 3 rfl rfl)
theorem dX3_reads_27 : decode cX3_reads 27 = .ok (.lreturn, 1) := dk_173 (dk_at dksX3_reads_1 4 rfl rfl)
theorem dX3_reads_28 : decode cX3_reads 28 = .ok (.aload_n 0, 1) := dk_42 (dk_at dksX3_reads_1 5 rfl rfl)
theorem dX3_reads_29 : decode cX3_reads 29 = .ok (.aload_n 0, 1) := dk_42 (dk_at dksX3_reads_1 6 rfl rfl)
theorem dX3_reads_30 : decode cX3_reads 30 = .ok (.getfield 74, 3) := dk_180 0 74 (dk_at dksX3_reads_1 7 rfl rfl)
theorem dX3_reads_33 : decode cX3_reads 33 = .ok (.putfield 105, 3) := dk_181 0 105 (dk_at dksX3_reads_1 10 rfl rfl)
theorem dX3_reads_36 : decode cX3_reads 36 = .ok (.lconst 0, 1) := dk_9 (dk_at dksX3_reads_1 13 rfl rfl)
theorem dX3_reads_37 : decode cX3_reads 37 = .ok (.lstore 5, 2) := dk_55 5 (dk_at dksX3_reads_1 14 rfl rfl)
theorem dX3_reads_39 : decode cX3_reads 39 = .ok (.aload_n 0, 1) := dk_42 (dk_at dksX3_reads_1 16 rfl rfl)
theorem dX3_reads_40 : decode cX3_reads 40 = .ok (.getfield 74, 3) := dk_180 0 74 (dk_at dksX3_reads_1 17 rfl rfl)
theorem dX3_reads_43 : decode cX3_reads 43 = .ok (.aload_n 0, 1) := dk_42 (dk_at dksX3_reads_1 20 rfl rfl)
theorem dX3_reads_44 : decode cX3_reads 44 = .ok (.getfield 77, 3) := dk_180 0 77 (dk_at dksX3_reads_1 21 rfl rfl)
theorem dX3_reads_47 : decode cX3_reads 47 = .ok (.if_icmp .ge 73, 3) := dk_162 0 73 (dk_at dksX3_reads_2 0 rfl rfl)
theorem dX3_reads_50 : decode cX3_reads 50 = .ok (.aload_n 0, 1) := dk_42 (dk_at dksX3_reads_2 3 rfl rfl)
theorem dX3_reads_51 : decode cX3_reads 51 = .ok (.getfield 19, 3) := dk_180 0 19 (dk_at dksX3_reads_2 4 rfl rfl)
theorem dX3_reads_54 : decode cX3_reads 54 = .ok (.aload_n 0, 1) := dk_42 (dk_at dksX3_reads_2 7 rfl rfl)
theorem dX3_reads_55 : decode cX3_reads 55 = .ok (.getfield 74, 3) := dk_180 0 74 (dk_at dksX3_reads_2 8 rfl rfl)
theorem dX3_reads_58 : decode cX3_reads 58 = .ok (.iaload, 1) := dk_46 (dk_at dksX3_reads_2 11 rfl rfl)
theorem dX3_reads_59 : decode cX3_reads 59 = .ok (.bipush 48, 2) := dk_16 48 (dk_at dksX3_reads_2 12 rfl rfl)
theorem dX3_reads_61 : decode cX3_reads 61 = .ok (.if_icmp .lt 59, 3) := dk_161 0 59 (dk_at dksX3_reads_2 14 rfl rfl)
theorem dX3_reads_64 : decode cX3_reads 64 = .ok (.aload_n 0, 1) := dk_42 (dk_at dksX3_reads_2 17 rfl rfl)
theorem dX3_reads_65 : decode cX3_reads 65 = .ok (.getfield 19, 3) := dk_180 0 19 (dk_at dksX3_reads_2 18 rfl rfl)
theorem dX3_reads_68 : decode cX3_reads 68 = .ok (.aload_n 0, 1) := dk_42 (dk_at dksX3_reads_2 21 rfl rfl)
theorem dX3_reads_69 : decode cX3_reads 69 = .ok (.getfield 74, 3) := dk_180 0 74 (dk_at dksX3_reads_3 0 rfl rfl)
theorem dX3_reads_72 : decode cX3_reads 72 = .ok (.iaload, 1) := dk_46 (dk_at dksX3_reads_3 3 rfl rfl)
theorem dX3_reads_73 : decode cX3_reads 73 = .ok (.bipush 57, 2) := dk_16 57 (dk_at dksX3_reads_3 4 rfl rfl)
theorem dX3_reads_75 : decode cX3_reads 75 = .ok (.if_icmp .gt 45, 3) := dk_163 0 45 (dk_at dksX3_reads_3 6 rfl rfl)
theorem dX3_reads_78 : decode cX3_reads 78 = .ok (.ldc2_w 108, 3) := dk_20 0 108 (dk_at dksX3_reads_3 9 rfl rfl)
theorem dX3_reads_81 : decode cX3_reads 81 = .ok (.ldc2_w 110, 3) := dk_20 0 110 (dk_at dksX3_reads_3 12 rfl rfl)
theorem dX3_reads_84 : decode cX3_reads 84 = .ok (.lload 5, 2) := dk_22 5 (dk_at dksX3_reads_3 15 rfl rfl)
theorem dX3_reads_86 : decode cX3_reads 86 = .ok (.lmul, 1) := dk_105 (dk_at dksX3_reads_3 17 rfl rfl)
theorem dX3_reads_87 : decode cX3_reads 87 = .ok (.aload_n 0, 1) := dk_42 (dk_at dksX3_reads_3 18 rfl rfl)
theorem dX3_reads_88 : decode cX3_reads 88 = .ok (.getfield 19, 3) := dk_180 0 19 (dk_at dksX3_reads_3 19 rfl rfl)
theorem dX3_reads_91 : decode cX3_reads 91 = .ok (.aload_n 0, 1) := dk_42 (dk_at dksX3_reads_3 22 rfl rfl)
theorem dX3_reads_92 : decode cX3_reads 92 = .ok (.getfield 74, 3) := dk_180 0 74 (dk_at dksX3_reads_4 0 rfl rfl)
theorem dX3_reads_95 : decode cX3_reads 95 = .ok (.iaload, 1) := dk_46 (dk_at dksX3_reads_4 3 rfl rfl)
theorem dX3_reads_96 : decode cX3_reads 96 = .ok (.i2l, 1) := dk_133 (dk_at dksX3_reads_4 4 rfl rfl)
theorem dX3_reads_97 : decode cX3_reads 97 = .ok (.ladd, 1) := dk_97 (dk_at dksX3_reads_4 5 rfl rfl)
theorem dX3_reads_98 : decode cX3_reads 98 = .ok (.ldc2_w 112, 3) := dk_20 0 112 (dk_at dksX3_reads_4 6 rfl rfl)
theorem dX3_reads_101 : decode cX3_reads 101 = .ok (.lsub, 1) := dk_101 (dk_at dksX3_reads_4 9 rfl rfl)
theorem dX3_reads_102 : decode cX3_reads 102 = .ok (.invokestatic 114, 3) := dk_184 0 114 (dk_at dksX3_reads_4 10 rfl rfl)
theorem dX3_reads_105 : decode cX3_reads 105 = .ok (.lstore 5, 2) := dk_55 5 (dk_at dksX3_reads_4 13 rfl rfl)
theorem dX3_reads_107 : decode cX3_reads 107 = .ok (.aload_n 0, 1) := dk_42 (dk_at dksX3_reads_4 15 rfl rfl)
theorem dX3_reads_108 : decode cX3_reads 108 = .ok (.dup, 1) := dk_89 (dk_at dksX3_reads_4 16 rfl rfl)
theorem dX3_reads_109 : decode cX3_reads 109 = .ok (.getfield 74, 3) := dk_180 0 74 (dk_at dksX3_reads_4 17 rfl rfl)
theorem dX3_reads_112 : decode cX3_reads 112 = .ok (.iconst 1, 1) := dk_4 (dk_at dksX3_reads_4 20 rfl rfl)
theorem dX3_reads_113 : decode cX3_reads 113 = .ok (.iadd, 1) := dk_96 (dk_at dksX3_reads_4 21 rfl rfl)
theorem dX3_reads_114 : decode cX3_reads 114 = .ok (.putfield 74, 3) := dk_181 0 74 (dk_at dksX3_reads_5 0 rfl rfl)
theorem dX3_reads_117 : decode cX3_reads 117 = .ok (.goto (-78), 3) := dk_167 255 178 (dk_at dksX3_reads_5 3 rfl rfl)
theorem dX3_reads_120 : decode cX3_reads 120 = .ok (.lload 5, 2) := dk_22 5 (dk_at dksX3_reads_5 6 rfl rfl)
theorem dX3_reads_122 : decode cX3_reads 122 = .ok (.lload_n 1, 1) := dk_31 (dk_at dksX3_reads_5 8 rfl rfl)
theorem dX3_reads_123 : decode cX3_reads 123 = .ok (.lload_n 3, 1) := dk_33 (dk_at dksX3_reads_5 9 rfl rfl)
theorem dX3_reads_124 : decode cX3_reads 124 = .ok (.invokestatic 120, 3) := dk_184 0 120 (dk_at dksX3_reads_5 10 rfl rfl)
theorem dX3_reads_127 : decode cX3_reads 127 = .ok (.ifCond .ne 13, 3) := dk_154 0 13 (dk_at dksX3_reads_5 13 rfl rfl)
theorem dX3_reads_130 : decode cX3_reads 130 = .ok (.aload_n 0, 1) := dk_42 (dk_at dksX3_reads_5 16 rfl rfl)
theorem dX3_reads_131 : decode cX3_reads 131 = .ok (.bipush (-3), 2) := dk_16 253 (dk_at dksX3_reads_5 17 rfl rfl)
theorem dX3_reads_133 : decode cX3_reads 133 = .ok (.aload_n 0, 1) := dk_42 (dk_at dksX3_reads_5 19 rfl rfl)
theorem dX3_reads_134 : decode cX3_reads 134 = .ok (.getfield 105, 3) := dk_180 0 105 (dk_at dksX3_reads_5 20 rfl rfl)
theorem dX3_reads_137 : decode cX3_reads 137 = .ok (.invokevirtual 97, 3) := dk_182 0 97 (dk_at dksX3_reads_6 0 rfl rfl)
theorem dX3_reads_140 : decode cX3_reads 140 = .ok (.aload_n 0, 1) := dk_42 (dk_at dksX3_reads_6 3 rfl rfl)
theorem dX3_reads_141 : decode cX3_reads 141 = .ok (.getfield 68, 3) := dk_180 0 68 (dk_at dksX3_reads_6 4 rfl rfl)
theorem dX3_reads_144 : decode cX3_reads 144 = .ok (.ifCond .ne 8, 3) := dk_154 0 8 (dk_at dksX3_reads_6 7 rfl rfl)
theorem dX3_reads_147 : decode cX3_reads 147 = .ok (.lload 5, 2) := dk_22 5 (dk_at dksX3_reads_6 10 rfl rfl)
theorem dX3_reads_149 : decode cX3_reads 149 = .ok (.goto 4, 3) := dk_167 0 4 (dk_at dksX3_reads_6 12 rfl rfl)
theorem dX3_reads_152 : decode cX3_reads 152 = .ok (.lconst 0, 1) := dk_9 (dk_at dksX3_reads_6 15 rfl rfl)
theorem dX3_reads_153 : decode cX3_reads 153 = .ok (.lreturn, 1) := dk_173 (dk_at dksX3_reads_6 16 rfl rfl)
abbrev cX3_isDigit : ByteArray := prog_20_method_18_code
def yX3_isDigit : MethodName := ⟨RX3, "isDigit", "()Z"⟩
def dkwX3_isDigit_0 : List UInt8 := [42, 182, 0, 80, 16, 48, 161, 0, 16, 42, 182, 0, 80, 16, 57, 163, 0, 7, 4, 167, 0, 4, 3, 172]
abbrev dktX3_isDigit_0 : List UInt8 := dkwX3_isDigit_0 ++ []
theorem dksX3_isDigit_0 : cX3_isDigit.data.toList.drop 0 = dktX3_isDigit_0 := by decide +kernel
theorem dX3_isDigit_0 : decode cX3_isDigit 0 = .ok (.aload_n 0, 1) := dk_42 (dk_at dksX3_isDigit_0 0 rfl rfl)
theorem dX3_isDigit_1 : decode cX3_isDigit 1 = .ok (.invokevirtual 80, 3) := dk_182 0 80 (dk_at dksX3_isDigit_0 1 rfl rfl)
theorem dX3_isDigit_4 : decode cX3_isDigit 4 = .ok (.bipush 48, 2) := dk_16 48 (dk_at dksX3_isDigit_0 4 rfl rfl)
theorem dX3_isDigit_6 : decode cX3_isDigit 6 = .ok (.if_icmp .lt 16, 3) := dk_161 0 16 (dk_at dksX3_isDigit_0 6 rfl rfl)
theorem dX3_isDigit_9 : decode cX3_isDigit 9 = .ok (.aload_n 0, 1) := dk_42 (dk_at dksX3_isDigit_0 9 rfl rfl)
theorem dX3_isDigit_10 : decode cX3_isDigit 10 = .ok (.invokevirtual 80, 3) := dk_182 0 80 (dk_at dksX3_isDigit_0 10 rfl rfl)
theorem dX3_isDigit_13 : decode cX3_isDigit 13 = .ok (.bipush 57, 2) := dk_16 57 (dk_at dksX3_isDigit_0 13 rfl rfl)
theorem dX3_isDigit_15 : decode cX3_isDigit 15 = .ok (.if_icmp .gt 7, 3) := dk_163 0 7 (dk_at dksX3_isDigit_0 15 rfl rfl)
theorem dX3_isDigit_18 : decode cX3_isDigit 18 = .ok (.iconst 1, 1) := dk_4 (dk_at dksX3_isDigit_0 18 rfl rfl)
theorem dX3_isDigit_19 : decode cX3_isDigit 19 = .ok (.goto 4, 3) := dk_167 0 4 (dk_at dksX3_isDigit_0 19 rfl rfl)
theorem dX3_isDigit_22 : decode cX3_isDigit 22 = .ok (.iconst 0, 1) := dk_3 (dk_at dksX3_isDigit_0 22 rfl rfl)
theorem dX3_isDigit_23 : decode cX3_isDigit 23 = .ok (.ireturn, 1) := dk_172 (dk_at dksX3_isDigit_0 23 rfl rfl)
abbrev cX3_wants : ByteArray := prog_20_method_17_code
def yX3_wants : MethodName := ⟨RX3, "wants", "(I)V"⟩
def dkwX3_wants_1 : List UInt8 := [182, 0, 97, 167, 0, 13, 42, 89, 180, 0, 74, 4, 96, 181, 0, 74, 177]
abbrev dktX3_wants_1 : List UInt8 := dkwX3_wants_1 ++ []
def dkwX3_wants_0 : List UInt8 := [42, 180, 0, 68, 153, 0, 4, 177, 42, 182, 0, 80, 27, 159, 0, 16, 42, 16, 254, 42, 180, 0, 74]
abbrev dktX3_wants_0 : List UInt8 := dkwX3_wants_0 ++ dktX3_wants_1
theorem dksX3_wants_0 : cX3_wants.data.toList.drop 0 = dktX3_wants_0 := by decide +kernel
theorem dksX3_wants_1 : cX3_wants.data.toList.drop 23 = dktX3_wants_1 := dk_seg dksX3_wants_0 23 rfl rfl
theorem dX3_wants_0 : decode cX3_wants 0 = .ok (.aload_n 0, 1) := dk_42 (dk_at dksX3_wants_0 0 rfl rfl)
theorem dX3_wants_1 : decode cX3_wants 1 = .ok (.getfield 68, 3) := dk_180 0 68 (dk_at dksX3_wants_0 1 rfl rfl)
theorem dX3_wants_4 : decode cX3_wants 4 = .ok (.ifCond .eq 4, 3) := dk_153 0 4 (dk_at dksX3_wants_0 4 rfl rfl)
theorem dX3_wants_7 : decode cX3_wants 7 = .ok (.return_, 1) := dk_177 (dk_at dksX3_wants_0 7 rfl rfl)
theorem dX3_wants_8 : decode cX3_wants 8 = .ok (.aload_n 0, 1) := dk_42 (dk_at dksX3_wants_0 8 rfl rfl)
theorem dX3_wants_9 : decode cX3_wants 9 = .ok (.invokevirtual 80, 3) := dk_182 0 80 (dk_at dksX3_wants_0 9 rfl rfl)
theorem dX3_wants_12 : decode cX3_wants 12 = .ok (.iload_n 1, 1) := dk_27 (dk_at dksX3_wants_0 12 rfl rfl)
theorem dX3_wants_13 : decode cX3_wants 13 = .ok (.if_icmp .eq 16, 3) := dk_159 0 16 (dk_at dksX3_wants_0 13 rfl rfl)
theorem dX3_wants_16 : decode cX3_wants 16 = .ok (.aload_n 0, 1) := dk_42 (dk_at dksX3_wants_0 16 rfl rfl)
theorem dX3_wants_17 : decode cX3_wants 17 = .ok (.bipush (-2), 2) := dk_16 254 (dk_at dksX3_wants_0 17 rfl rfl)
theorem dX3_wants_19 : decode cX3_wants 19 = .ok (.aload_n 0, 1) := dk_42 (dk_at dksX3_wants_0 19 rfl rfl)
theorem dX3_wants_20 : decode cX3_wants 20 = .ok (.getfield 74, 3) := dk_180 0 74 (dk_at dksX3_wants_0 20 rfl rfl)
theorem dX3_wants_23 : decode cX3_wants 23 = .ok (.invokevirtual 97, 3) := dk_182 0 97 (dk_at dksX3_wants_1 0 rfl rfl)
theorem dX3_wants_26 : decode cX3_wants 26 = .ok (.goto 13, 3) := dk_167 0 13 (dk_at dksX3_wants_1 3 rfl rfl)
theorem dX3_wants_29 : decode cX3_wants 29 = .ok (.aload_n 0, 1) := dk_42 (dk_at dksX3_wants_1 6 rfl rfl)
theorem dX3_wants_30 : decode cX3_wants 30 = .ok (.dup, 1) := dk_89 (dk_at dksX3_wants_1 7 rfl rfl)
theorem dX3_wants_31 : decode cX3_wants 31 = .ok (.getfield 74, 3) := dk_180 0 74 (dk_at dksX3_wants_1 8 rfl rfl)
theorem dX3_wants_34 : decode cX3_wants 34 = .ok (.iconst 1, 1) := dk_4 (dk_at dksX3_wants_1 11 rfl rfl)
theorem dX3_wants_35 : decode cX3_wants 35 = .ok (.iadd, 1) := dk_96 (dk_at dksX3_wants_1 12 rfl rfl)
theorem dX3_wants_36 : decode cX3_wants 36 = .ok (.putfield 74, 3) := dk_181 0 74 (dk_at dksX3_wants_1 13 rfl rfl)
theorem dX3_wants_39 : decode cX3_wants 39 = .ok (.return_, 1) := dk_177 (dk_at dksX3_wants_1 16 rfl rfl)
abbrev cX3_statement : ByteArray := prog_20_method_30_code
def yX3_statement : MethodName := ⟨RX3, "statement", "()V"⟩
def dkwX3_statement_7 : List UInt8 := [42, 16, 59, 182, 0, 146, 177]
abbrev dktX3_statement_7 : List UInt8 := dkwX3_statement_7 ++ []
def dkwX3_statement_6 : List UInt8 := [181, 0, 199, 42, 180, 0, 68, 154, 0, 17, 42, 182, 0, 143, 167, 0, 10, 42, 16, 254, 27, 182, 0, 97]
abbrev dktX3_statement_6 : List UInt8 := dkwX3_statement_6 ++ dktX3_statement_7
def dkwX3_statement_5 : List UInt8 := [18, 197, 182, 0, 152, 153, 0, 36, 42, 180, 0, 199, 153, 0, 10, 42, 16, 254, 27, 182, 0, 97, 42, 4]
abbrev dktX3_statement_5 : List UInt8 := dkwX3_statement_5 ++ dktX3_statement_6
def dkwX3_statement_4 : List UInt8 := [182, 0, 189, 167, 0, 69, 42, 18, 192, 182, 0, 152, 153, 0, 11, 42, 27, 182, 0, 194, 167, 0, 52, 42]
abbrev dktX3_statement_4 : List UInt8 := dkwX3_statement_4 ++ dktX3_statement_5
def dkwX3_statement_3 : List UInt8 := [180, 0, 13, 7, 92, 47, 10, 97, 80, 167, 0, 86, 42, 18, 187, 182, 0, 152, 153, 0, 11, 42, 27]
abbrev dktX3_statement_3 : List UInt8 := dkwX3_statement_3 ++ dktX3_statement_4
def dkwX3_statement_2 : List UInt8 := [180, 0, 13, 16, 34, 42, 180, 0, 13, 7, 47, 136, 96, 42, 10, 20, 0, 185, 182, 0, 126, 80, 42]
abbrev dktX3_statement_2 : List UInt8 := dkwX3_statement_2 ++ dktX3_statement_3
def dkwX3_statement_1 : List UInt8 := [167, 0, 141, 42, 18, 183, 182, 0, 152, 153, 0, 49, 42, 7, 8, 27, 182, 0, 158, 153, 0, 122, 42]
abbrev dktX3_statement_1 : List UInt8 := dkwX3_statement_1 ++ dktX3_statement_2
def dkwX3_statement_0 : List UInt8 := [42, 182, 0, 80, 87, 42, 180, 0, 74, 60, 42, 18, 178, 182, 0, 152, 153, 0, 11, 42, 27, 182, 0, 180]
abbrev dktX3_statement_0 : List UInt8 := dkwX3_statement_0 ++ dktX3_statement_1
theorem dksX3_statement_0 : cX3_statement.data.toList.drop 0 = dktX3_statement_0 := by decide +kernel
theorem dksX3_statement_1 : cX3_statement.data.toList.drop 24 = dktX3_statement_1 := dk_seg dksX3_statement_0 24 rfl rfl
theorem dksX3_statement_2 : cX3_statement.data.toList.drop 47 = dktX3_statement_2 := dk_seg dksX3_statement_1 23 rfl rfl
theorem dksX3_statement_3 : cX3_statement.data.toList.drop 70 = dktX3_statement_3 := dk_seg dksX3_statement_2 23 rfl rfl
theorem dksX3_statement_4 : cX3_statement.data.toList.drop 93 = dktX3_statement_4 := dk_seg dksX3_statement_3 23 rfl rfl
theorem dksX3_statement_5 : cX3_statement.data.toList.drop 117 = dktX3_statement_5 := dk_seg dksX3_statement_4 24 rfl rfl
theorem dksX3_statement_6 : cX3_statement.data.toList.drop 141 = dktX3_statement_6 := dk_seg dksX3_statement_5 24 rfl rfl
theorem dksX3_statement_7 : cX3_statement.data.toList.drop 165 = dktX3_statement_7 := dk_seg dksX3_statement_6 24 rfl rfl
theorem dX3_statement_0 : decode cX3_statement 0 = .ok (.aload_n 0, 1) := dk_42 (dk_at dksX3_statement_0 0 rfl rfl)
theorem dX3_statement_1 : decode cX3_statement 1 = .ok (.invokevirtual 80, 3) := dk_182 0 80 (dk_at dksX3_statement_0 1 rfl rfl)
theorem dX3_statement_4 : decode cX3_statement 4 = .ok (.pop, 1) := dk_87 (dk_at dksX3_statement_0 4 rfl rfl)
theorem dX3_statement_5 : decode cX3_statement 5 = .ok (.aload_n 0, 1) := dk_42 (dk_at dksX3_statement_0 5 rfl rfl)
theorem dX3_statement_6 : decode cX3_statement 6 = .ok (.getfield 74, 3) := dk_180 0 74 (dk_at dksX3_statement_0 6 rfl rfl)
theorem dX3_statement_9 : decode cX3_statement 9 = .ok (.istore_n 1, 1) := dk_60 (dk_at dksX3_statement_0 9 rfl rfl)
theorem dX3_statement_10 : decode cX3_statement 10 = .ok (.aload_n 0, 1) := dk_42 (dk_at dksX3_statement_0 10 rfl rfl)
theorem dX3_statement_11 : decode cX3_statement 11 = .ok (.ldc 178, 2) := dk_18 178 (dk_at dksX3_statement_0 11 rfl rfl)
theorem dX3_statement_13 : decode cX3_statement 13 = .ok (.invokevirtual 152, 3) := dk_182 0 152 (dk_at dksX3_statement_0 13 rfl rfl)
theorem dX3_statement_16 : decode cX3_statement 16 = .ok (.ifCond .eq 11, 3) := dk_153 0 11 (dk_at dksX3_statement_0 16 rfl rfl)
theorem dX3_statement_19 : decode cX3_statement 19 = .ok (.aload_n 0, 1) := dk_42 (dk_at dksX3_statement_0 19 rfl rfl)
theorem dX3_statement_20 : decode cX3_statement 20 = .ok (.iload_n 1, 1) := dk_27 (dk_at dksX3_statement_0 20 rfl rfl)
theorem dX3_statement_21 : decode cX3_statement 21 = .ok (.invokevirtual 180, 3) := dk_182 0 180 (dk_at dksX3_statement_0 21 rfl rfl)
theorem dX3_statement_24 : decode cX3_statement 24 = .ok (.goto 141, 3) := dk_167 0 141 (dk_at dksX3_statement_1 0 rfl rfl)
theorem dX3_statement_27 : decode cX3_statement 27 = .ok (.aload_n 0, 1) := dk_42 (dk_at dksX3_statement_1 3 rfl rfl)
theorem dX3_statement_28 : decode cX3_statement 28 = .ok (.ldc 183, 2) := dk_18 183 (dk_at dksX3_statement_1 4 rfl rfl)
theorem dX3_statement_30 : decode cX3_statement 30 = .ok (.invokevirtual 152, 3) := dk_182 0 152 (dk_at dksX3_statement_1 6 rfl rfl)
theorem dX3_statement_33 : decode cX3_statement 33 = .ok (.ifCond .eq 49, 3) := dk_153 0 49 (dk_at dksX3_statement_1 9 rfl rfl)
theorem dX3_statement_36 : decode cX3_statement 36 = .ok (.aload_n 0, 1) := dk_42 (dk_at dksX3_statement_1 12 rfl rfl)
theorem dX3_statement_37 : decode cX3_statement 37 = .ok (.iconst 4, 1) := dk_7 (dk_at dksX3_statement_1 13 rfl rfl)
theorem dX3_statement_38 : decode cX3_statement 38 = .ok (.iconst 5, 1) := dk_8 (dk_at dksX3_statement_1 14 rfl rfl)
theorem dX3_statement_39 : decode cX3_statement 39 = .ok (.iload_n 1, 1) := dk_27 (dk_at dksX3_statement_1 15 rfl rfl)
theorem dX3_statement_40 : decode cX3_statement 40 = .ok (.invokevirtual 158, 3) := dk_182 0 158 (dk_at dksX3_statement_1 16 rfl rfl)
theorem dX3_statement_43 : decode cX3_statement 43 = .ok (.ifCond .eq 122, 3) := dk_153 0 122 (dk_at dksX3_statement_1 19 rfl rfl)
theorem dX3_statement_46 : decode cX3_statement 46 = .ok (.aload_n 0, 1) := dk_42 (dk_at dksX3_statement_1 22 rfl rfl)
theorem dX3_statement_47 : decode cX3_statement 47 = .ok (.getfield 13, 3) := dk_180 0 13 (dk_at dksX3_statement_2 0 rfl rfl)
theorem dX3_statement_50 : decode cX3_statement 50 = .ok (.bipush 34, 2) := dk_16 34 (dk_at dksX3_statement_2 3 rfl rfl)
theorem dX3_statement_52 : decode cX3_statement 52 = .ok (.aload_n 0, 1) := dk_42 (dk_at dksX3_statement_2 5 rfl rfl)
theorem dX3_statement_53 : decode cX3_statement 53 = .ok (.getfield 13, 3) := dk_180 0 13 (dk_at dksX3_statement_2 6 rfl rfl)
theorem dX3_statement_56 : decode cX3_statement 56 = .ok (.iconst 4, 1) := dk_7 (dk_at dksX3_statement_2 9 rfl rfl)
theorem dX3_statement_57 : decode cX3_statement 57 = .ok (.laload, 1) := dk_47 (dk_at dksX3_statement_2 10 rfl rfl)
theorem dX3_statement_58 : decode cX3_statement 58 = .ok (.l2i, 1) := dk_136 (dk_at dksX3_statement_2 11 rfl rfl)
theorem dX3_statement_59 : decode cX3_statement 59 = .ok (.iadd, 1) := dk_96 (dk_at dksX3_statement_2 12 rfl rfl)
theorem dX3_statement_60 : decode cX3_statement 60 = .ok (.aload_n 0, 1) := dk_42 (dk_at dksX3_statement_2 13 rfl rfl)
theorem dX3_statement_61 : decode cX3_statement 61 = .ok (.lconst 1, 1) := dk_10 (dk_at dksX3_statement_2 14 rfl rfl)
theorem dX3_statement_62 : decode cX3_statement 62 = .ok (.ldc2_w 185, 3) := dk_20 0 185 (dk_at dksX3_statement_2 15 rfl rfl)
theorem dX3_statement_65 : decode cX3_statement 65 = .ok (.invokevirtual 126, 3) := dk_182 0 126 (dk_at dksX3_statement_2 18 rfl rfl)
theorem dX3_statement_68 : decode cX3_statement 68 = .ok (.lastore, 1) := dk_80 (dk_at dksX3_statement_2 21 rfl rfl)
theorem dX3_statement_69 : decode cX3_statement 69 = .ok (.aload_n 0, 1) := dk_42 (dk_at dksX3_statement_2 22 rfl rfl)
theorem dX3_statement_70 : decode cX3_statement 70 = .ok (.getfield 13, 3) := dk_180 0 13 (dk_at dksX3_statement_3 0 rfl rfl)
theorem dX3_statement_73 : decode cX3_statement 73 = .ok (.iconst 4, 1) := dk_7 (dk_at dksX3_statement_3 3 rfl rfl)
theorem dX3_statement_74 : decode cX3_statement 74 = .ok (.dup2, 1) := dk_92 (dk_at dksX3_statement_3 4 rfl rfl)
theorem dX3_statement_75 : decode cX3_statement 75 = .ok (.laload, 1) := dk_47 (dk_at dksX3_statement_3 5 rfl rfl)
theorem dX3_statement_76 : decode cX3_statement 76 = .ok (.lconst 1, 1) := dk_10 (dk_at dksX3_statement_3 6 rfl rfl)
theorem dX3_statement_77 : decode cX3_statement 77 = .ok (.ladd, 1) := dk_97 (dk_at dksX3_statement_3 7 rfl rfl)
theorem dX3_statement_78 : decode cX3_statement 78 = .ok (.lastore, 1) := dk_80 (dk_at dksX3_statement_3 8 rfl rfl)
theorem dX3_statement_79 : decode cX3_statement 79 = .ok (.goto 86, 3) := dk_167 0 86 (dk_at dksX3_statement_3 9 rfl rfl)
theorem dX3_statement_82 : decode cX3_statement 82 = .ok (.aload_n 0, 1) := dk_42 (dk_at dksX3_statement_3 12 rfl rfl)
theorem dX3_statement_83 : decode cX3_statement 83 = .ok (.ldc 187, 2) := dk_18 187 (dk_at dksX3_statement_3 13 rfl rfl)
theorem dX3_statement_85 : decode cX3_statement 85 = .ok (.invokevirtual 152, 3) := dk_182 0 152 (dk_at dksX3_statement_3 15 rfl rfl)
theorem dX3_statement_88 : decode cX3_statement 88 = .ok (.ifCond .eq 11, 3) := dk_153 0 11 (dk_at dksX3_statement_3 18 rfl rfl)
theorem dX3_statement_91 : decode cX3_statement 91 = .ok (.aload_n 0, 1) := dk_42 (dk_at dksX3_statement_3 21 rfl rfl)
theorem dX3_statement_92 : decode cX3_statement 92 = .ok (.iload_n 1, 1) := dk_27 (dk_at dksX3_statement_3 22 rfl rfl)
theorem dX3_statement_93 : decode cX3_statement 93 = .ok (.invokevirtual 189, 3) := dk_182 0 189 (dk_at dksX3_statement_4 0 rfl rfl)
theorem dX3_statement_96 : decode cX3_statement 96 = .ok (.goto 69, 3) := dk_167 0 69 (dk_at dksX3_statement_4 3 rfl rfl)
theorem dX3_statement_99 : decode cX3_statement 99 = .ok (.aload_n 0, 1) := dk_42 (dk_at dksX3_statement_4 6 rfl rfl)
theorem dX3_statement_100 : decode cX3_statement 100 = .ok (.ldc 192, 2) := dk_18 192 (dk_at dksX3_statement_4 7 rfl rfl)
theorem dX3_statement_102 : decode cX3_statement 102 = .ok (.invokevirtual 152, 3) := dk_182 0 152 (dk_at dksX3_statement_4 9 rfl rfl)
theorem dX3_statement_105 : decode cX3_statement 105 = .ok (.ifCond .eq 11, 3) := dk_153 0 11 (dk_at dksX3_statement_4 12 rfl rfl)
theorem dX3_statement_108 : decode cX3_statement 108 = .ok (.aload_n 0, 1) := dk_42 (dk_at dksX3_statement_4 15 rfl rfl)
theorem dX3_statement_109 : decode cX3_statement 109 = .ok (.iload_n 1, 1) := dk_27 (dk_at dksX3_statement_4 16 rfl rfl)
theorem dX3_statement_110 : decode cX3_statement 110 = .ok (.invokevirtual 194, 3) := dk_182 0 194 (dk_at dksX3_statement_4 17 rfl rfl)
theorem dX3_statement_113 : decode cX3_statement 113 = .ok (.goto 52, 3) := dk_167 0 52 (dk_at dksX3_statement_4 20 rfl rfl)
theorem dX3_statement_116 : decode cX3_statement 116 = .ok (.aload_n 0, 1) := dk_42 (dk_at dksX3_statement_4 23 rfl rfl)
theorem dX3_statement_117 : decode cX3_statement 117 = .ok (.ldc 197, 2) := dk_18 197 (dk_at dksX3_statement_5 0 rfl rfl)
theorem dX3_statement_119 : decode cX3_statement 119 = .ok (.invokevirtual 152, 3) := dk_182 0 152 (dk_at dksX3_statement_5 2 rfl rfl)
theorem dX3_statement_122 : decode cX3_statement 122 = .ok (.ifCond .eq 36, 3) := dk_153 0 36 (dk_at dksX3_statement_5 5 rfl rfl)
theorem dX3_statement_125 : decode cX3_statement 125 = .ok (.aload_n 0, 1) := dk_42 (dk_at dksX3_statement_5 8 rfl rfl)
theorem dX3_statement_126 : decode cX3_statement 126 = .ok (.getfield 199, 3) := dk_180 0 199 (dk_at dksX3_statement_5 9 rfl rfl)
theorem dX3_statement_129 : decode cX3_statement 129 = .ok (.ifCond .eq 10, 3) := dk_153 0 10 (dk_at dksX3_statement_5 12 rfl rfl)
theorem dX3_statement_132 : decode cX3_statement 132 = .ok (.aload_n 0, 1) := dk_42 (dk_at dksX3_statement_5 15 rfl rfl)
theorem dX3_statement_133 : decode cX3_statement 133 = .ok (.bipush (-2), 2) := dk_16 254 (dk_at dksX3_statement_5 16 rfl rfl)
theorem dX3_statement_135 : decode cX3_statement 135 = .ok (.iload_n 1, 1) := dk_27 (dk_at dksX3_statement_5 18 rfl rfl)
theorem dX3_statement_136 : decode cX3_statement 136 = .ok (.invokevirtual 97, 3) := dk_182 0 97 (dk_at dksX3_statement_5 19 rfl rfl)
theorem dX3_statement_139 : decode cX3_statement 139 = .ok (.aload_n 0, 1) := dk_42 (dk_at dksX3_statement_5 22 rfl rfl)
theorem dX3_statement_140 : decode cX3_statement 140 = .ok (.iconst 1, 1) := dk_4 (dk_at dksX3_statement_5 23 rfl rfl)
theorem dX3_statement_141 : decode cX3_statement 141 = .ok (.putfield 199, 3) := dk_181 0 199 (dk_at dksX3_statement_6 0 rfl rfl)
theorem dX3_statement_144 : decode cX3_statement 144 = .ok (.aload_n 0, 1) := dk_42 (dk_at dksX3_statement_6 3 rfl rfl)
theorem dX3_statement_145 : decode cX3_statement 145 = .ok (.getfield 68, 3) := dk_180 0 68 (dk_at dksX3_statement_6 4 rfl rfl)
theorem dX3_statement_148 : decode cX3_statement 148 = .ok (.ifCond .ne 17, 3) := dk_154 0 17 (dk_at dksX3_statement_6 7 rfl rfl)
theorem dX3_statement_151 : decode cX3_statement 151 = .ok (.aload_n 0, 1) := dk_42 (dk_at dksX3_statement_6 10 rfl rfl)
theorem dX3_statement_152 : decode cX3_statement 152 = .ok (.invokevirtual 143, 3) := dk_182 0 143 (dk_at dksX3_statement_6 11 rfl rfl)
theorem dX3_statement_155 : decode cX3_statement 155 = .ok (.goto 10, 3) := dk_167 0 10 (dk_at dksX3_statement_6 14 rfl rfl)
theorem dX3_statement_158 : decode cX3_statement 158 = .ok (.aload_n 0, 1) := dk_42 (dk_at dksX3_statement_6 17 rfl rfl)
theorem dX3_statement_159 : decode cX3_statement 159 = .ok (.bipush (-2), 2) := dk_16 254 (dk_at dksX3_statement_6 18 rfl rfl)
theorem dX3_statement_161 : decode cX3_statement 161 = .ok (.iload_n 1, 1) := dk_27 (dk_at dksX3_statement_6 20 rfl rfl)
theorem dX3_statement_162 : decode cX3_statement 162 = .ok (.invokevirtual 97, 3) := dk_182 0 97 (dk_at dksX3_statement_6 21 rfl rfl)
theorem dX3_statement_165 : decode cX3_statement 165 = .ok (.aload_n 0, 1) := dk_42 (dk_at dksX3_statement_7 0 rfl rfl)
theorem dX3_statement_166 : decode cX3_statement 166 = .ok (.bipush 59, 2) := dk_16 59 (dk_at dksX3_statement_7 1 rfl rfl)
theorem dX3_statement_168 : decode cX3_statement 168 = .ok (.invokevirtual 146, 3) := dk_182 0 146 (dk_at dksX3_statement_7 3 rfl rfl)
theorem dX3_statement_171 : decode cX3_statement 171 = .ok (.return_, 1) := dk_177 (dk_at dksX3_statement_7 6 rfl rfl)
abbrev cX3_nodeLine : ByteArray := prog_20_method_26_code
def yX3_nodeLine : MethodName := ⟨RX3, "nodeLine", "(I)V"⟩
def dkwX3_nodeLine_7 : List UInt8 := [177]
abbrev dktX3_nodeLine_7 : List UInt8 := dkwX3_nodeLine_7 ++ []
def dkwX3_nodeLine_6 : List UInt8 := [182, 0, 152, 153, 0, 9, 20, 0, 129, 167, 0, 4, 9, 80, 42, 180, 0, 13, 6, 92, 47, 10, 97, 80]
abbrev dktX3_nodeLine_6 : List UInt8 := dkwX3_nodeLine_6 ++ dktX3_nodeLine_7
def dkwX3_nodeLine_5 : List UInt8 := [180, 0, 13, 28, 5, 96, 42, 18, 164, 182, 0, 152, 153, 0, 7, 10, 167, 0, 19, 42, 18, 166]
abbrev dktX3_nodeLine_5 : List UInt8 := dkwX3_nodeLine_5 ++ dktX3_nodeLine_6
def dkwX3_nodeLine_4 : List UInt8 := [47, 148, 154, 0, 13, 42, 16, 253, 42, 180, 0, 105, 182, 0, 97, 132, 3, 3, 167, 255, 202, 42]
abbrev dktX3_nodeLine_4 : List UInt8 := dkwX3_nodeLine_4 ++ dktX3_nodeLine_5
def dkwX3_nodeLine_3 : List UInt8 := [180, 0, 13, 28, 47, 148, 154, 0, 33, 42, 180, 0, 13, 29, 4, 96, 47, 42, 180, 0, 13, 28, 4, 96]
abbrev dktX3_nodeLine_3 : List UInt8 := dkwX3_nodeLine_3 ++ dktX3_nodeLine_4
def dkwX3_nodeLine_2 : List UInt8 := [20, 0, 162, 182, 0, 126, 80, 16, 10, 62, 29, 28, 162, 0, 55, 42, 180, 0, 13, 29, 47, 42]
abbrev dktX3_nodeLine_2 : List UInt8 := dkwX3_nodeLine_2 ++ dktX3_nodeLine_3
def dkwX3_nodeLine_1 : List UInt8 := [61, 42, 180, 0, 13, 28, 42, 9, 20, 0, 162, 182, 0, 126, 80, 42, 180, 0, 13, 28, 4, 96, 42, 9]
abbrev dktX3_nodeLine_1 : List UInt8 := dkwX3_nodeLine_1 ++ dktX3_nodeLine_2
def dkwX3_nodeLine_0 : List UInt8 := [42, 6, 16, 8, 27, 182, 0, 158, 154, 0, 4, 177, 16, 10, 6, 42, 180, 0, 13, 6, 47, 136, 104, 96]
abbrev dktX3_nodeLine_0 : List UInt8 := dkwX3_nodeLine_0 ++ dktX3_nodeLine_1
theorem dksX3_nodeLine_0 : cX3_nodeLine.data.toList.drop 0 = dktX3_nodeLine_0 := by decide +kernel
theorem dksX3_nodeLine_1 : cX3_nodeLine.data.toList.drop 24 = dktX3_nodeLine_1 := dk_seg dksX3_nodeLine_0 24 rfl rfl
theorem dksX3_nodeLine_2 : cX3_nodeLine.data.toList.drop 48 = dktX3_nodeLine_2 := dk_seg dksX3_nodeLine_1 24 rfl rfl
theorem dksX3_nodeLine_3 : cX3_nodeLine.data.toList.drop 70 = dktX3_nodeLine_3 := dk_seg dksX3_nodeLine_2 22 rfl rfl
theorem dksX3_nodeLine_4 : cX3_nodeLine.data.toList.drop 94 = dktX3_nodeLine_4 := dk_seg dksX3_nodeLine_3 24 rfl rfl
theorem dksX3_nodeLine_5 : cX3_nodeLine.data.toList.drop 116 = dktX3_nodeLine_5 := dk_seg dksX3_nodeLine_4 22 rfl rfl
theorem dksX3_nodeLine_6 : cX3_nodeLine.data.toList.drop 138 = dktX3_nodeLine_6 := dk_seg dksX3_nodeLine_5 22 rfl rfl
theorem dksX3_nodeLine_7 : cX3_nodeLine.data.toList.drop 162 = dktX3_nodeLine_7 := dk_seg dksX3_nodeLine_6 24 rfl rfl
theorem dX3_nodeLine_0 : decode cX3_nodeLine 0 = .ok (.aload_n 0, 1) := dk_42 (dk_at dksX3_nodeLine_0 0 rfl rfl)
theorem dX3_nodeLine_1 : decode cX3_nodeLine 1 = .ok (.iconst 3, 1) := dk_6 (dk_at dksX3_nodeLine_0 1 rfl rfl)
theorem dX3_nodeLine_2 : decode cX3_nodeLine 2 = .ok (.bipush 8, 2) := dk_16 8 (dk_at dksX3_nodeLine_0 2 rfl rfl)
theorem dX3_nodeLine_4 : decode cX3_nodeLine 4 = .ok (.iload_n 1, 1) := dk_27 (dk_at dksX3_nodeLine_0 4 rfl rfl)
theorem dX3_nodeLine_5 : decode cX3_nodeLine 5 = .ok (.invokevirtual 158, 3) := dk_182 0 158 (dk_at dksX3_nodeLine_0 5 rfl rfl)
theorem dX3_nodeLine_8 : decode cX3_nodeLine 8 = .ok (.ifCond .ne 4, 3) := dk_154 0 4 (dk_at dksX3_nodeLine_0 8 rfl rfl)
theorem dX3_nodeLine_11 : decode cX3_nodeLine 11 = .ok (.return_, 1) := dk_177 (dk_at dksX3_nodeLine_0 11 rfl rfl)
theorem dX3_nodeLine_12 : decode cX3_nodeLine 12 = .ok (.bipush 10, 2) := dk_16 10 (dk_at dksX3_nodeLine_0 12 rfl rfl)
theorem dX3_nodeLine_14 : decode cX3_nodeLine 14 = .ok (.iconst 3, 1) := dk_6 (dk_at dksX3_nodeLine_0 14 rfl rfl)
theorem dX3_nodeLine_15 : decode cX3_nodeLine 15 = .ok (.aload_n 0, 1) := dk_42 (dk_at dksX3_nodeLine_0 15 rfl rfl)
theorem dX3_nodeLine_16 : decode cX3_nodeLine 16 = .ok (.getfield 13, 3) := dk_180 0 13 (dk_at dksX3_nodeLine_0 16 rfl rfl)
theorem dX3_nodeLine_19 : decode cX3_nodeLine 19 = .ok (.iconst 3, 1) := dk_6 (dk_at dksX3_nodeLine_0 19 rfl rfl)
theorem dX3_nodeLine_20 : decode cX3_nodeLine 20 = .ok (.laload, 1) := dk_47 (dk_at dksX3_nodeLine_0 20 rfl rfl)
theorem dX3_nodeLine_21 : decode cX3_nodeLine 21 = .ok (.l2i, 1) := dk_136 (dk_at dksX3_nodeLine_0 21 rfl rfl)
theorem dX3_nodeLine_22 : decode cX3_nodeLine 22 = .ok (.imul, 1) := dk_104 (dk_at dksX3_nodeLine_0 22 rfl rfl)
theorem dX3_nodeLine_23 : decode cX3_nodeLine 23 = .ok (.iadd, 1) := dk_96 (dk_at dksX3_nodeLine_0 23 rfl rfl)
theorem dX3_nodeLine_24 : decode cX3_nodeLine 24 = .ok (.istore_n 2, 1) := dk_61 (dk_at dksX3_nodeLine_1 0 rfl rfl)
theorem dX3_nodeLine_25 : decode cX3_nodeLine 25 = .ok (.aload_n 0, 1) := dk_42 (dk_at dksX3_nodeLine_1 1 rfl rfl)
theorem dX3_nodeLine_26 : decode cX3_nodeLine 26 = .ok (.getfield 13, 3) := dk_180 0 13 (dk_at dksX3_nodeLine_1 2 rfl rfl)
theorem dX3_nodeLine_29 : decode cX3_nodeLine 29 = .ok (.iload_n 2, 1) := dk_28 (dk_at dksX3_nodeLine_1 5 rfl rfl)
theorem dX3_nodeLine_30 : decode cX3_nodeLine 30 = .ok (.aload_n 0, 1) := dk_42 (dk_at dksX3_nodeLine_1 6 rfl rfl)
theorem dX3_nodeLine_31 : decode cX3_nodeLine 31 = .ok (.lconst 0, 1) := dk_9 (dk_at dksX3_nodeLine_1 7 rfl rfl)
theorem dX3_nodeLine_32 : decode cX3_nodeLine 32 = .ok (.ldc2_w 162, 3) := dk_20 0 162 (dk_at dksX3_nodeLine_1 8 rfl rfl)
theorem dX3_nodeLine_35 : decode cX3_nodeLine 35 = .ok (.invokevirtual 126, 3) := dk_182 0 126 (dk_at dksX3_nodeLine_1 11 rfl rfl)
theorem dX3_nodeLine_38 : decode cX3_nodeLine 38 = .ok (.lastore, 1) := dk_80 (dk_at dksX3_nodeLine_1 14 rfl rfl)
theorem dX3_nodeLine_39 : decode cX3_nodeLine 39 = .ok (.aload_n 0, 1) := dk_42 (dk_at dksX3_nodeLine_1 15 rfl rfl)
theorem dX3_nodeLine_40 : decode cX3_nodeLine 40 = .ok (.getfield 13, 3) := dk_180 0 13 (dk_at dksX3_nodeLine_1 16 rfl rfl)
theorem dX3_nodeLine_43 : decode cX3_nodeLine 43 = .ok (.iload_n 2, 1) := dk_28 (dk_at dksX3_nodeLine_1 19 rfl rfl)
theorem dX3_nodeLine_44 : decode cX3_nodeLine 44 = .ok (.iconst 1, 1) := dk_4 (dk_at dksX3_nodeLine_1 20 rfl rfl)
theorem dX3_nodeLine_45 : decode cX3_nodeLine 45 = .ok (.iadd, 1) := dk_96 (dk_at dksX3_nodeLine_1 21 rfl rfl)
theorem dX3_nodeLine_46 : decode cX3_nodeLine 46 = .ok (.aload_n 0, 1) := dk_42 (dk_at dksX3_nodeLine_1 22 rfl rfl)
theorem dX3_nodeLine_47 : decode cX3_nodeLine 47 = .ok (.lconst 0, 1) := dk_9 (dk_at dksX3_nodeLine_1 23 rfl rfl)
theorem dX3_nodeLine_48 : decode cX3_nodeLine 48 = .ok (.ldc2_w 162, 3) := dk_20 0 162 (dk_at dksX3_nodeLine_2 0 rfl rfl)
theorem dX3_nodeLine_51 : decode cX3_nodeLine 51 = .ok (.invokevirtual 126, 3) := dk_182 0 126 (dk_at dksX3_nodeLine_2 3 rfl rfl)
theorem dX3_nodeLine_54 : decode cX3_nodeLine 54 = .ok (.lastore, 1) := dk_80 (dk_at dksX3_nodeLine_2 6 rfl rfl)
theorem dX3_nodeLine_55 : decode cX3_nodeLine 55 = .ok (.bipush 10, 2) := dk_16 10 (dk_at dksX3_nodeLine_2 7 rfl rfl)
theorem dX3_nodeLine_57 : decode cX3_nodeLine 57 = .ok (.istore_n 3, 1) := dk_62 (dk_at dksX3_nodeLine_2 9 rfl rfl)
theorem dX3_nodeLine_58 : decode cX3_nodeLine 58 = .ok (.iload_n 3, 1) := dk_29 (dk_at dksX3_nodeLine_2 10 rfl rfl)
theorem dX3_nodeLine_59 : decode cX3_nodeLine 59 = .ok (.iload_n 2, 1) := dk_28 (dk_at dksX3_nodeLine_2 11 rfl rfl)
theorem dX3_nodeLine_60 : decode cX3_nodeLine 60 = .ok (.if_icmp .ge 55, 3) := dk_162 0 55 (dk_at dksX3_nodeLine_2 12 rfl rfl)
theorem dX3_nodeLine_63 : decode cX3_nodeLine 63 = .ok (.aload_n 0, 1) := dk_42 (dk_at dksX3_nodeLine_2 15 rfl rfl)
theorem dX3_nodeLine_64 : decode cX3_nodeLine 64 = .ok (.getfield 13, 3) := dk_180 0 13 (dk_at dksX3_nodeLine_2 16 rfl rfl)
theorem dX3_nodeLine_67 : decode cX3_nodeLine 67 = .ok (.iload_n 3, 1) := dk_29 (dk_at dksX3_nodeLine_2 19 rfl rfl)
theorem dX3_nodeLine_68 : decode cX3_nodeLine 68 = .ok (.laload, 1) := dk_47 (dk_at dksX3_nodeLine_2 20 rfl rfl)
theorem dX3_nodeLine_69 : decode cX3_nodeLine 69 = .ok (.aload_n 0, 1) := dk_42 (dk_at dksX3_nodeLine_2 21 rfl rfl)
theorem dX3_nodeLine_70 : decode cX3_nodeLine 70 = .ok (.getfield 13, 3) := dk_180 0 13 (dk_at dksX3_nodeLine_3 0 rfl rfl)
theorem dX3_nodeLine_73 : decode cX3_nodeLine 73 = .ok (.iload_n 2, 1) := dk_28 (dk_at dksX3_nodeLine_3 3 rfl rfl)
theorem dX3_nodeLine_74 : decode cX3_nodeLine 74 = .ok (.laload, 1) := dk_47 (dk_at dksX3_nodeLine_3 4 rfl rfl)
theorem dX3_nodeLine_75 : decode cX3_nodeLine 75 = .ok (.lcmp, 1) := dk_148 (dk_at dksX3_nodeLine_3 5 rfl rfl)
theorem dX3_nodeLine_76 : decode cX3_nodeLine 76 = .ok (.ifCond .ne 33, 3) := dk_154 0 33 (dk_at dksX3_nodeLine_3 6 rfl rfl)
theorem dX3_nodeLine_79 : decode cX3_nodeLine 79 = .ok (.aload_n 0, 1) := dk_42 (dk_at dksX3_nodeLine_3 9 rfl rfl)
theorem dX3_nodeLine_80 : decode cX3_nodeLine 80 = .ok (.getfield 13, 3) := dk_180 0 13 (dk_at dksX3_nodeLine_3 10 rfl rfl)
theorem dX3_nodeLine_83 : decode cX3_nodeLine 83 = .ok (.iload_n 3, 1) := dk_29 (dk_at dksX3_nodeLine_3 13 rfl rfl)
theorem dX3_nodeLine_84 : decode cX3_nodeLine 84 = .ok (.iconst 1, 1) := dk_4 (dk_at dksX3_nodeLine_3 14 rfl rfl)
theorem dX3_nodeLine_85 : decode cX3_nodeLine 85 = .ok (.iadd, 1) := dk_96 (dk_at dksX3_nodeLine_3 15 rfl rfl)
theorem dX3_nodeLine_86 : decode cX3_nodeLine 86 = .ok (.laload, 1) := dk_47 (dk_at dksX3_nodeLine_3 16 rfl rfl)
theorem dX3_nodeLine_87 : decode cX3_nodeLine 87 = .ok (.aload_n 0, 1) := dk_42 (dk_at dksX3_nodeLine_3 17 rfl rfl)
theorem dX3_nodeLine_88 : decode cX3_nodeLine 88 = .ok (.getfield 13, 3) := dk_180 0 13 (dk_at dksX3_nodeLine_3 18 rfl rfl)
theorem dX3_nodeLine_91 : decode cX3_nodeLine 91 = .ok (.iload_n 2, 1) := dk_28 (dk_at dksX3_nodeLine_3 21 rfl rfl)
theorem dX3_nodeLine_92 : decode cX3_nodeLine 92 = .ok (.iconst 1, 1) := dk_4 (dk_at dksX3_nodeLine_3 22 rfl rfl)
theorem dX3_nodeLine_93 : decode cX3_nodeLine 93 = .ok (.iadd, 1) := dk_96 (dk_at dksX3_nodeLine_3 23 rfl rfl)
theorem dX3_nodeLine_94 : decode cX3_nodeLine 94 = .ok (.laload, 1) := dk_47 (dk_at dksX3_nodeLine_4 0 rfl rfl)
theorem dX3_nodeLine_95 : decode cX3_nodeLine 95 = .ok (.lcmp, 1) := dk_148 (dk_at dksX3_nodeLine_4 1 rfl rfl)
theorem dX3_nodeLine_96 : decode cX3_nodeLine 96 = .ok (.ifCond .ne 13, 3) := dk_154 0 13 (dk_at dksX3_nodeLine_4 2 rfl rfl)
theorem dX3_nodeLine_99 : decode cX3_nodeLine 99 = .ok (.aload_n 0, 1) := dk_42 (dk_at dksX3_nodeLine_4 5 rfl rfl)
theorem dX3_nodeLine_100 : decode cX3_nodeLine 100 = .ok (.bipush (-3), 2) := dk_16 253 (dk_at dksX3_nodeLine_4 6 rfl rfl)
theorem dX3_nodeLine_102 : decode cX3_nodeLine 102 = .ok (.aload_n 0, 1) := dk_42 (dk_at dksX3_nodeLine_4 8 rfl rfl)
theorem dX3_nodeLine_103 : decode cX3_nodeLine 103 = .ok (.getfield 105, 3) := dk_180 0 105 (dk_at dksX3_nodeLine_4 9 rfl rfl)
theorem dX3_nodeLine_106 : decode cX3_nodeLine 106 = .ok (.invokevirtual 97, 3) := dk_182 0 97 (dk_at dksX3_nodeLine_4 12 rfl rfl)
theorem dX3_nodeLine_109 : decode cX3_nodeLine 109 = .ok (.iinc 3 3, 3) := dk_132 3 3 (dk_at dksX3_nodeLine_4 15 rfl rfl)
theorem dX3_nodeLine_112 : decode cX3_nodeLine 112 = .ok (.goto (-54), 3) := dk_167 255 202 (dk_at dksX3_nodeLine_4 18 rfl rfl)
theorem dX3_nodeLine_115 : decode cX3_nodeLine 115 = .ok (.aload_n 0, 1) := dk_42 (dk_at dksX3_nodeLine_4 21 rfl rfl)
theorem dX3_nodeLine_116 : decode cX3_nodeLine 116 = .ok (.getfield 13, 3) := dk_180 0 13 (dk_at dksX3_nodeLine_5 0 rfl rfl)
theorem dX3_nodeLine_119 : decode cX3_nodeLine 119 = .ok (.iload_n 2, 1) := dk_28 (dk_at dksX3_nodeLine_5 3 rfl rfl)
theorem dX3_nodeLine_120 : decode cX3_nodeLine 120 = .ok (.iconst 2, 1) := dk_5 (dk_at dksX3_nodeLine_5 4 rfl rfl)
theorem dX3_nodeLine_121 : decode cX3_nodeLine 121 = .ok (.iadd, 1) := dk_96 (dk_at dksX3_nodeLine_5 5 rfl rfl)
theorem dX3_nodeLine_122 : decode cX3_nodeLine 122 = .ok (.aload_n 0, 1) := dk_42 (dk_at dksX3_nodeLine_5 6 rfl rfl)
theorem dX3_nodeLine_123 : decode cX3_nodeLine 123 = .ok (.ldc 164, 2) := dk_18 164 (dk_at dksX3_nodeLine_5 7 rfl rfl)
theorem dX3_nodeLine_125 : decode cX3_nodeLine 125 = .ok (.invokevirtual 152, 3) := dk_182 0 152 (dk_at dksX3_nodeLine_5 9 rfl rfl)
theorem dX3_nodeLine_128 : decode cX3_nodeLine 128 = .ok (.ifCond .eq 7, 3) := dk_153 0 7 (dk_at dksX3_nodeLine_5 12 rfl rfl)
theorem dX3_nodeLine_131 : decode cX3_nodeLine 131 = .ok (.lconst 1, 1) := dk_10 (dk_at dksX3_nodeLine_5 15 rfl rfl)
theorem dX3_nodeLine_132 : decode cX3_nodeLine 132 = .ok (.goto 19, 3) := dk_167 0 19 (dk_at dksX3_nodeLine_5 16 rfl rfl)
theorem dX3_nodeLine_135 : decode cX3_nodeLine 135 = .ok (.aload_n 0, 1) := dk_42 (dk_at dksX3_nodeLine_5 19 rfl rfl)
theorem dX3_nodeLine_136 : decode cX3_nodeLine 136 = .ok (.ldc 166, 2) := dk_18 166 (dk_at dksX3_nodeLine_5 20 rfl rfl)
theorem dX3_nodeLine_138 : decode cX3_nodeLine 138 = .ok (.invokevirtual 152, 3) := dk_182 0 152 (dk_at dksX3_nodeLine_6 0 rfl rfl)
theorem dX3_nodeLine_141 : decode cX3_nodeLine 141 = .ok (.ifCond .eq 9, 3) := dk_153 0 9 (dk_at dksX3_nodeLine_6 3 rfl rfl)
theorem dX3_nodeLine_144 : decode cX3_nodeLine 144 = .ok (.ldc2_w 129, 3) := dk_20 0 129 (dk_at dksX3_nodeLine_6 6 rfl rfl)
theorem dX3_nodeLine_147 : decode cX3_nodeLine 147 = .ok (.goto 4, 3) := dk_167 0 4 (dk_at dksX3_nodeLine_6 9 rfl rfl)
theorem dX3_nodeLine_150 : decode cX3_nodeLine 150 = .ok (.lconst 0, 1) := dk_9 (dk_at dksX3_nodeLine_6 12 rfl rfl)
theorem dX3_nodeLine_151 : decode cX3_nodeLine 151 = .ok (.lastore, 1) := dk_80 (dk_at dksX3_nodeLine_6 13 rfl rfl)
theorem dX3_nodeLine_152 : decode cX3_nodeLine 152 = .ok (.aload_n 0, 1) := dk_42 (dk_at dksX3_nodeLine_6 14 rfl rfl)
theorem dX3_nodeLine_153 : decode cX3_nodeLine 153 = .ok (.getfield 13, 3) := dk_180 0 13 (dk_at dksX3_nodeLine_6 15 rfl rfl)
theorem dX3_nodeLine_156 : decode cX3_nodeLine 156 = .ok (.iconst 3, 1) := dk_6 (dk_at dksX3_nodeLine_6 18 rfl rfl)
theorem dX3_nodeLine_157 : decode cX3_nodeLine 157 = .ok (.dup2, 1) := dk_92 (dk_at dksX3_nodeLine_6 19 rfl rfl)
theorem dX3_nodeLine_158 : decode cX3_nodeLine 158 = .ok (.laload, 1) := dk_47 (dk_at dksX3_nodeLine_6 20 rfl rfl)
theorem dX3_nodeLine_159 : decode cX3_nodeLine 159 = .ok (.lconst 1, 1) := dk_10 (dk_at dksX3_nodeLine_6 21 rfl rfl)
theorem dX3_nodeLine_160 : decode cX3_nodeLine 160 = .ok (.ladd, 1) := dk_97 (dk_at dksX3_nodeLine_6 22 rfl rfl)
theorem dX3_nodeLine_161 : decode cX3_nodeLine 161 = .ok (.lastore, 1) := dk_80 (dk_at dksX3_nodeLine_6 23 rfl rfl)
theorem dX3_nodeLine_162 : decode cX3_nodeLine 162 = .ok (.return_, 1) := dk_177 (dk_at dksX3_nodeLine_7 0 rfl rfl)
abbrev cX3_isRoom : ByteArray := prog_20_method_25_code
def yX3_isRoom : MethodName := ⟨RX3, "isRoom", "(III)Z"⟩
def dkwX3_isRoom_1 : List UInt8 := [182, 0, 97, 42, 180, 0, 68, 154, 0, 7, 4, 167, 0, 4, 3, 172]
abbrev dktX3_isRoom_1 : List UInt8 := dkwX3_isRoom_1 ++ []
def dkwX3_isRoom_0 : List UInt8 := [42, 180, 0, 68, 154, 0, 22, 42, 180, 0, 13, 27, 47, 28, 133, 148, 154, 0, 10, 42, 16, 252, 29]
abbrev dktX3_isRoom_0 : List UInt8 := dkwX3_isRoom_0 ++ dktX3_isRoom_1
theorem dksX3_isRoom_0 : cX3_isRoom.data.toList.drop 0 = dktX3_isRoom_0 := by decide +kernel
theorem dksX3_isRoom_1 : cX3_isRoom.data.toList.drop 23 = dktX3_isRoom_1 := dk_seg dksX3_isRoom_0 23 rfl rfl
theorem dX3_isRoom_0 : decode cX3_isRoom 0 = .ok (.aload_n 0, 1) := dk_42 (dk_at dksX3_isRoom_0 0 rfl rfl)
theorem dX3_isRoom_1 : decode cX3_isRoom 1 = .ok (.getfield 68, 3) := dk_180 0 68 (dk_at dksX3_isRoom_0 1 rfl rfl)
theorem dX3_isRoom_4 : decode cX3_isRoom 4 = .ok (.ifCond .ne 22, 3) := dk_154 0 22 (dk_at dksX3_isRoom_0 4 rfl rfl)
theorem dX3_isRoom_7 : decode cX3_isRoom 7 = .ok (.aload_n 0, 1) := dk_42 (dk_at dksX3_isRoom_0 7 rfl rfl)
theorem dX3_isRoom_8 : decode cX3_isRoom 8 = .ok (.getfield 13, 3) := dk_180 0 13 (dk_at dksX3_isRoom_0 8 rfl rfl)
theorem dX3_isRoom_11 : decode cX3_isRoom 11 = .ok (.iload_n 1, 1) := dk_27 (dk_at dksX3_isRoom_0 11 rfl rfl)
theorem dX3_isRoom_12 : decode cX3_isRoom 12 = .ok (.laload, 1) := dk_47 (dk_at dksX3_isRoom_0 12 rfl rfl)
theorem dX3_isRoom_13 : decode cX3_isRoom 13 = .ok (.iload_n 2, 1) := dk_28 (dk_at dksX3_isRoom_0 13 rfl rfl)
theorem dX3_isRoom_14 : decode cX3_isRoom 14 = .ok (.i2l, 1) := dk_133 (dk_at dksX3_isRoom_0 14 rfl rfl)
theorem dX3_isRoom_15 : decode cX3_isRoom 15 = .ok (.lcmp, 1) := dk_148 (dk_at dksX3_isRoom_0 15 rfl rfl)
theorem dX3_isRoom_16 : decode cX3_isRoom 16 = .ok (.ifCond .ne 10, 3) := dk_154 0 10 (dk_at dksX3_isRoom_0 16 rfl rfl)
theorem dX3_isRoom_19 : decode cX3_isRoom 19 = .ok (.aload_n 0, 1) := dk_42 (dk_at dksX3_isRoom_0 19 rfl rfl)
theorem dX3_isRoom_20 : decode cX3_isRoom 20 = .ok (.bipush (-4), 2) := dk_16 252 (dk_at dksX3_isRoom_0 20 rfl rfl)
theorem dX3_isRoom_22 : decode cX3_isRoom 22 = .ok (.iload_n 3, 1) := dk_29 (dk_at dksX3_isRoom_0 22 rfl rfl)
theorem dX3_isRoom_23 : decode cX3_isRoom 23 = .ok (.invokevirtual 97, 3) := dk_182 0 97 (dk_at dksX3_isRoom_1 0 rfl rfl)
theorem dX3_isRoom_26 : decode cX3_isRoom 26 = .ok (.aload_n 0, 1) := dk_42 (dk_at dksX3_isRoom_1 3 rfl rfl)
theorem dX3_isRoom_27 : decode cX3_isRoom 27 = .ok (.getfield 68, 3) := dk_180 0 68 (dk_at dksX3_isRoom_1 4 rfl rfl)
theorem dX3_isRoom_30 : decode cX3_isRoom 30 = .ok (.ifCond .ne 7, 3) := dk_154 0 7 (dk_at dksX3_isRoom_1 7 rfl rfl)
theorem dX3_isRoom_33 : decode cX3_isRoom 33 = .ok (.iconst 1, 1) := dk_4 (dk_at dksX3_isRoom_1 10 rfl rfl)
theorem dX3_isRoom_34 : decode cX3_isRoom 34 = .ok (.goto 4, 3) := dk_167 0 4 (dk_at dksX3_isRoom_1 11 rfl rfl)
theorem dX3_isRoom_37 : decode cX3_isRoom 37 = .ok (.iconst 0, 1) := dk_3 (dk_at dksX3_isRoom_1 14 rfl rfl)
theorem dX3_isRoom_38 : decode cX3_isRoom 38 = .ok (.ireturn, 1) := dk_172 (dk_at dksX3_isRoom_1 15 rfl rfl)
abbrev cX3_memberLine : ByteArray := prog_20_method_28_code
def yX3_memberLine : MethodName := ⟨RX3, "memberLine", "(I)V"⟩
def dkwX3_memberLine_7 : List UInt8 := [10, 101, 182, 0, 126, 80, 42, 180, 0, 13, 8, 92, 47, 10, 97, 80, 177]
abbrev dktX3_memberLine_7 : List UInt8 := dkwX3_memberLine_7 ++ []
def dkwX3_memberLine_6 : List UInt8 := [182, 0, 97, 132, 3, 3, 167, 255, 204, 42, 180, 0, 13, 28, 5, 96, 42, 9, 42, 180, 0, 13, 7, 47]
abbrev dktX3_memberLine_6 : List UInt8 := dkwX3_memberLine_6 ++ dktX3_memberLine_7
def dkwX3_memberLine_5 : List UInt8 := [47, 42, 180, 0, 13, 28, 4, 96, 47, 184, 0, 168, 153, 0, 13, 42, 16, 253, 42, 180, 0, 105]
abbrev dktX3_memberLine_5 : List UInt8 := dkwX3_memberLine_5 ++ dktX3_memberLine_6
def dkwX3_memberLine_4 : List UInt8 := [29, 28, 162, 0, 53, 42, 180, 0, 13, 29, 47, 42, 180, 0, 13, 29, 4, 96, 47, 42, 180, 0, 13, 28]
abbrev dktX3_memberLine_4 : List UInt8 := dkwX3_memberLine_4 ++ dktX3_memberLine_5
def dkwX3_memberLine_3 : List UInt8 := [180, 0, 13, 28, 4, 96, 47, 148, 154, 0, 13, 42, 16, 253, 42, 180, 0, 105, 182, 0, 97, 16, 40, 62]
abbrev dktX3_memberLine_3 : List UInt8 := dkwX3_memberLine_3 ++ dktX3_memberLine_4
def dkwX3_memberLine_2 : List UInt8 := [28, 4, 96, 42, 9, 42, 180, 0, 13, 6, 47, 10, 101, 182, 0, 126, 80, 42, 180, 0, 13, 28, 47, 42]
abbrev dktX3_memberLine_2 : List UInt8 := dkwX3_memberLine_2 ++ dktX3_memberLine_3
def dkwX3_memberLine_1 : List UInt8 := [61, 42, 180, 0, 13, 28, 42, 9, 42, 180, 0, 13, 6, 47, 10, 101, 182, 0, 126, 80, 42, 180, 0, 13]
abbrev dktX3_memberLine_1 : List UInt8 := dkwX3_memberLine_1 ++ dktX3_memberLine_2
def dkwX3_memberLine_0 : List UInt8 := [42, 8, 16, 16, 27, 182, 0, 158, 154, 0, 4, 177, 16, 40, 6, 42, 180, 0, 13, 8, 47, 136, 104, 96]
abbrev dktX3_memberLine_0 : List UInt8 := dkwX3_memberLine_0 ++ dktX3_memberLine_1
theorem dksX3_memberLine_0 : cX3_memberLine.data.toList.drop 0 = dktX3_memberLine_0 := by decide +kernel
theorem dksX3_memberLine_1 : cX3_memberLine.data.toList.drop 24 = dktX3_memberLine_1 := dk_seg dksX3_memberLine_0 24 rfl rfl
theorem dksX3_memberLine_2 : cX3_memberLine.data.toList.drop 48 = dktX3_memberLine_2 := dk_seg dksX3_memberLine_1 24 rfl rfl
theorem dksX3_memberLine_3 : cX3_memberLine.data.toList.drop 72 = dktX3_memberLine_3 := dk_seg dksX3_memberLine_2 24 rfl rfl
theorem dksX3_memberLine_4 : cX3_memberLine.data.toList.drop 96 = dktX3_memberLine_4 := dk_seg dksX3_memberLine_3 24 rfl rfl
theorem dksX3_memberLine_5 : cX3_memberLine.data.toList.drop 120 = dktX3_memberLine_5 := dk_seg dksX3_memberLine_4 24 rfl rfl
theorem dksX3_memberLine_6 : cX3_memberLine.data.toList.drop 142 = dktX3_memberLine_6 := dk_seg dksX3_memberLine_5 22 rfl rfl
theorem dksX3_memberLine_7 : cX3_memberLine.data.toList.drop 166 = dktX3_memberLine_7 := dk_seg dksX3_memberLine_6 24 rfl rfl
theorem dX3_memberLine_0 : decode cX3_memberLine 0 = .ok (.aload_n 0, 1) := dk_42 (dk_at dksX3_memberLine_0 0 rfl rfl)
theorem dX3_memberLine_1 : decode cX3_memberLine 1 = .ok (.iconst 5, 1) := dk_8 (dk_at dksX3_memberLine_0 1 rfl rfl)
theorem dX3_memberLine_2 : decode cX3_memberLine 2 = .ok (.bipush 16, 2) := dk_16 16 (dk_at dksX3_memberLine_0 2 rfl rfl)
theorem dX3_memberLine_4 : decode cX3_memberLine 4 = .ok (.iload_n 1, 1) := dk_27 (dk_at dksX3_memberLine_0 4 rfl rfl)
theorem dX3_memberLine_5 : decode cX3_memberLine 5 = .ok (.invokevirtual 158, 3) := dk_182 0 158 (dk_at dksX3_memberLine_0 5 rfl rfl)
theorem dX3_memberLine_8 : decode cX3_memberLine 8 = .ok (.ifCond .ne 4, 3) := dk_154 0 4 (dk_at dksX3_memberLine_0 8 rfl rfl)
theorem dX3_memberLine_11 : decode cX3_memberLine 11 = .ok (.return_, 1) := dk_177 (dk_at dksX3_memberLine_0 11 rfl rfl)
theorem dX3_memberLine_12 : decode cX3_memberLine 12 = .ok (.bipush 40, 2) := dk_16 40 (dk_at dksX3_memberLine_0 12 rfl rfl)
theorem dX3_memberLine_14 : decode cX3_memberLine 14 = .ok (.iconst 3, 1) := dk_6 (dk_at dksX3_memberLine_0 14 rfl rfl)
theorem dX3_memberLine_15 : decode cX3_memberLine 15 = .ok (.aload_n 0, 1) := dk_42 (dk_at dksX3_memberLine_0 15 rfl rfl)
theorem dX3_memberLine_16 : decode cX3_memberLine 16 = .ok (.getfield 13, 3) := dk_180 0 13 (dk_at dksX3_memberLine_0 16 rfl rfl)
theorem dX3_memberLine_19 : decode cX3_memberLine 19 = .ok (.iconst 5, 1) := dk_8 (dk_at dksX3_memberLine_0 19 rfl rfl)
theorem dX3_memberLine_20 : decode cX3_memberLine 20 = .ok (.laload, 1) := dk_47 (dk_at dksX3_memberLine_0 20 rfl rfl)
theorem dX3_memberLine_21 : decode cX3_memberLine 21 = .ok (.l2i, 1) := dk_136 (dk_at dksX3_memberLine_0 21 rfl rfl)
theorem dX3_memberLine_22 : decode cX3_memberLine 22 = .ok (.imul, 1) := dk_104 (dk_at dksX3_memberLine_0 22 rfl rfl)
theorem dX3_memberLine_23 : decode cX3_memberLine 23 = .ok (.iadd, 1) := dk_96 (dk_at dksX3_memberLine_0 23 rfl rfl)
theorem dX3_memberLine_24 : decode cX3_memberLine 24 = .ok (.istore_n 2, 1) := dk_61 (dk_at dksX3_memberLine_1 0 rfl rfl)
theorem dX3_memberLine_25 : decode cX3_memberLine 25 = .ok (.aload_n 0, 1) := dk_42 (dk_at dksX3_memberLine_1 1 rfl rfl)
theorem dX3_memberLine_26 : decode cX3_memberLine 26 = .ok (.getfield 13, 3) := dk_180 0 13 (dk_at dksX3_memberLine_1 2 rfl rfl)
theorem dX3_memberLine_29 : decode cX3_memberLine 29 = .ok (.iload_n 2, 1) := dk_28 (dk_at dksX3_memberLine_1 5 rfl rfl)
theorem dX3_memberLine_30 : decode cX3_memberLine 30 = .ok (.aload_n 0, 1) := dk_42 (dk_at dksX3_memberLine_1 6 rfl rfl)
theorem dX3_memberLine_31 : decode cX3_memberLine 31 = .ok (.lconst 0, 1) := dk_9 (dk_at dksX3_memberLine_1 7 rfl rfl)
theorem dX3_memberLine_32 : decode cX3_memberLine 32 = .ok (.aload_n 0, 1) := dk_42 (dk_at dksX3_memberLine_1 8 rfl rfl)
theorem dX3_memberLine_33 : decode cX3_memberLine 33 = .ok (.getfield 13, 3) := dk_180 0 13 (dk_at dksX3_memberLine_1 9 rfl rfl)
theorem dX3_memberLine_36 : decode cX3_memberLine 36 = .ok (.iconst 3, 1) := dk_6 (dk_at dksX3_memberLine_1 12 rfl rfl)
theorem dX3_memberLine_37 : decode cX3_memberLine 37 = .ok (.laload, 1) := dk_47 (dk_at dksX3_memberLine_1 13 rfl rfl)
theorem dX3_memberLine_38 : decode cX3_memberLine 38 = .ok (.lconst 1, 1) := dk_10 (dk_at dksX3_memberLine_1 14 rfl rfl)
theorem dX3_memberLine_39 : decode cX3_memberLine 39 = .ok (.lsub, 1) := dk_101 (dk_at dksX3_memberLine_1 15 rfl rfl)
theorem dX3_memberLine_40 : decode cX3_memberLine 40 = .ok (.invokevirtual 126, 3) := dk_182 0 126 (dk_at dksX3_memberLine_1 16 rfl rfl)
theorem dX3_memberLine_43 : decode cX3_memberLine 43 = .ok (.lastore, 1) := dk_80 (dk_at dksX3_memberLine_1 19 rfl rfl)
theorem dX3_memberLine_44 : decode cX3_memberLine 44 = .ok (.aload_n 0, 1) := dk_42 (dk_at dksX3_memberLine_1 20 rfl rfl)
theorem dX3_memberLine_45 : decode cX3_memberLine 45 = .ok (.getfield 13, 3) := dk_180 0 13 (dk_at dksX3_memberLine_1 21 rfl rfl)
theorem dX3_memberLine_48 : decode cX3_memberLine 48 = .ok (.iload_n 2, 1) := dk_28 (dk_at dksX3_memberLine_2 0 rfl rfl)
theorem dX3_memberLine_49 : decode cX3_memberLine 49 = .ok (.iconst 1, 1) := dk_4 (dk_at dksX3_memberLine_2 1 rfl rfl)
theorem dX3_memberLine_50 : decode cX3_memberLine 50 = .ok (.iadd, 1) := dk_96 (dk_at dksX3_memberLine_2 2 rfl rfl)
theorem dX3_memberLine_51 : decode cX3_memberLine 51 = .ok (.aload_n 0, 1) := dk_42 (dk_at dksX3_memberLine_2 3 rfl rfl)
theorem dX3_memberLine_52 : decode cX3_memberLine 52 = .ok (.lconst 0, 1) := dk_9 (dk_at dksX3_memberLine_2 4 rfl rfl)
theorem dX3_memberLine_53 : decode cX3_memberLine 53 = .ok (.aload_n 0, 1) := dk_42 (dk_at dksX3_memberLine_2 5 rfl rfl)
theorem dX3_memberLine_54 : decode cX3_memberLine 54 = .ok (.getfield 13, 3) := dk_180 0 13 (dk_at dksX3_memberLine_2 6 rfl rfl)
theorem dX3_memberLine_57 : decode cX3_memberLine 57 = .ok (.iconst 3, 1) := dk_6 (dk_at dksX3_memberLine_2 9 rfl rfl)
theorem dX3_memberLine_58 : decode cX3_memberLine 58 = .ok (.laload, 1) := dk_47 (dk_at dksX3_memberLine_2 10 rfl rfl)
theorem dX3_memberLine_59 : decode cX3_memberLine 59 = .ok (.lconst 1, 1) := dk_10 (dk_at dksX3_memberLine_2 11 rfl rfl)
theorem dX3_memberLine_60 : decode cX3_memberLine 60 = .ok (.lsub, 1) := dk_101 (dk_at dksX3_memberLine_2 12 rfl rfl)
theorem dX3_memberLine_61 : decode cX3_memberLine 61 = .ok (.invokevirtual 126, 3) := dk_182 0 126 (dk_at dksX3_memberLine_2 13 rfl rfl)
theorem dX3_memberLine_64 : decode cX3_memberLine 64 = .ok (.lastore, 1) := dk_80 (dk_at dksX3_memberLine_2 16 rfl rfl)
theorem dX3_memberLine_65 : decode cX3_memberLine 65 = .ok (.aload_n 0, 1) := dk_42 (dk_at dksX3_memberLine_2 17 rfl rfl)
theorem dX3_memberLine_66 : decode cX3_memberLine 66 = .ok (.getfield 13, 3) := dk_180 0 13 (dk_at dksX3_memberLine_2 18 rfl rfl)
theorem dX3_memberLine_69 : decode cX3_memberLine 69 = .ok (.iload_n 2, 1) := dk_28 (dk_at dksX3_memberLine_2 21 rfl rfl)
theorem dX3_memberLine_70 : decode cX3_memberLine 70 = .ok (.laload, 1) := dk_47 (dk_at dksX3_memberLine_2 22 rfl rfl)
theorem dX3_memberLine_71 : decode cX3_memberLine 71 = .ok (.aload_n 0, 1) := dk_42 (dk_at dksX3_memberLine_2 23 rfl rfl)
theorem dX3_memberLine_72 : decode cX3_memberLine 72 = .ok (.getfield 13, 3) := dk_180 0 13 (dk_at dksX3_memberLine_3 0 rfl rfl)
theorem dX3_memberLine_75 : decode cX3_memberLine 75 = .ok (.iload_n 2, 1) := dk_28 (dk_at dksX3_memberLine_3 3 rfl rfl)
theorem dX3_memberLine_76 : decode cX3_memberLine 76 = .ok (.iconst 1, 1) := dk_4 (dk_at dksX3_memberLine_3 4 rfl rfl)
theorem dX3_memberLine_77 : decode cX3_memberLine 77 = .ok (.iadd, 1) := dk_96 (dk_at dksX3_memberLine_3 5 rfl rfl)
theorem dX3_memberLine_78 : decode cX3_memberLine 78 = .ok (.laload, 1) := dk_47 (dk_at dksX3_memberLine_3 6 rfl rfl)
theorem dX3_memberLine_79 : decode cX3_memberLine 79 = .ok (.lcmp, 1) := dk_148 (dk_at dksX3_memberLine_3 7 rfl rfl)
theorem dX3_memberLine_80 : decode cX3_memberLine 80 = .ok (.ifCond .ne 13, 3) := dk_154 0 13 (dk_at dksX3_memberLine_3 8 rfl rfl)
theorem dX3_memberLine_83 : decode cX3_memberLine 83 = .ok (.aload_n 0, 1) := dk_42 (dk_at dksX3_memberLine_3 11 rfl rfl)
theorem dX3_memberLine_84 : decode cX3_memberLine 84 = .ok (.bipush (-3), 2) := dk_16 253 (dk_at dksX3_memberLine_3 12 rfl rfl)
theorem dX3_memberLine_86 : decode cX3_memberLine 86 = .ok (.aload_n 0, 1) := dk_42 (dk_at dksX3_memberLine_3 14 rfl rfl)
theorem dX3_memberLine_87 : decode cX3_memberLine 87 = .ok (.getfield 105, 3) := dk_180 0 105 (dk_at dksX3_memberLine_3 15 rfl rfl)
theorem dX3_memberLine_90 : decode cX3_memberLine 90 = .ok (.invokevirtual 97, 3) := dk_182 0 97 (dk_at dksX3_memberLine_3 18 rfl rfl)
theorem dX3_memberLine_93 : decode cX3_memberLine 93 = .ok (.bipush 40, 2) := dk_16 40 (dk_at dksX3_memberLine_3 21 rfl rfl)
theorem dX3_memberLine_95 : decode cX3_memberLine 95 = .ok (.istore_n 3, 1) := dk_62 (dk_at dksX3_memberLine_3 23 rfl rfl)
theorem dX3_memberLine_96 : decode cX3_memberLine 96 = .ok (.iload_n 3, 1) := dk_29 (dk_at dksX3_memberLine_4 0 rfl rfl)
theorem dX3_memberLine_97 : decode cX3_memberLine 97 = .ok (.iload_n 2, 1) := dk_28 (dk_at dksX3_memberLine_4 1 rfl rfl)
theorem dX3_memberLine_98 : decode cX3_memberLine 98 = .ok (.if_icmp .ge 53, 3) := dk_162 0 53 (dk_at dksX3_memberLine_4 2 rfl rfl)
theorem dX3_memberLine_101 : decode cX3_memberLine 101 = .ok (.aload_n 0, 1) := dk_42 (dk_at dksX3_memberLine_4 5 rfl rfl)
theorem dX3_memberLine_102 : decode cX3_memberLine 102 = .ok (.getfield 13, 3) := dk_180 0 13 (dk_at dksX3_memberLine_4 6 rfl rfl)
theorem dX3_memberLine_105 : decode cX3_memberLine 105 = .ok (.iload_n 3, 1) := dk_29 (dk_at dksX3_memberLine_4 9 rfl rfl)
theorem dX3_memberLine_106 : decode cX3_memberLine 106 = .ok (.laload, 1) := dk_47 (dk_at dksX3_memberLine_4 10 rfl rfl)
theorem dX3_memberLine_107 : decode cX3_memberLine 107 = .ok (.aload_n 0, 1) := dk_42 (dk_at dksX3_memberLine_4 11 rfl rfl)
theorem dX3_memberLine_108 : decode cX3_memberLine 108 = .ok (.getfield 13, 3) := dk_180 0 13 (dk_at dksX3_memberLine_4 12 rfl rfl)
theorem dX3_memberLine_111 : decode cX3_memberLine 111 = .ok (.iload_n 3, 1) := dk_29 (dk_at dksX3_memberLine_4 15 rfl rfl)
theorem dX3_memberLine_112 : decode cX3_memberLine 112 = .ok (.iconst 1, 1) := dk_4 (dk_at dksX3_memberLine_4 16 rfl rfl)
theorem dX3_memberLine_113 : decode cX3_memberLine 113 = .ok (.iadd, 1) := dk_96 (dk_at dksX3_memberLine_4 17 rfl rfl)
theorem dX3_memberLine_114 : decode cX3_memberLine 114 = .ok (.laload, 1) := dk_47 (dk_at dksX3_memberLine_4 18 rfl rfl)
theorem dX3_memberLine_115 : decode cX3_memberLine 115 = .ok (.aload_n 0, 1) := dk_42 (dk_at dksX3_memberLine_4 19 rfl rfl)
theorem dX3_memberLine_116 : decode cX3_memberLine 116 = .ok (.getfield 13, 3) := dk_180 0 13 (dk_at dksX3_memberLine_4 20 rfl rfl)
theorem dX3_memberLine_119 : decode cX3_memberLine 119 = .ok (.iload_n 2, 1) := dk_28 (dk_at dksX3_memberLine_4 23 rfl rfl)
theorem dX3_memberLine_120 : decode cX3_memberLine 120 = .ok (.laload, 1) := dk_47 (dk_at dksX3_memberLine_5 0 rfl rfl)
theorem dX3_memberLine_121 : decode cX3_memberLine 121 = .ok (.aload_n 0, 1) := dk_42 (dk_at dksX3_memberLine_5 1 rfl rfl)
theorem dX3_memberLine_122 : decode cX3_memberLine 122 = .ok (.getfield 13, 3) := dk_180 0 13 (dk_at dksX3_memberLine_5 2 rfl rfl)
theorem dX3_memberLine_125 : decode cX3_memberLine 125 = .ok (.iload_n 2, 1) := dk_28 (dk_at dksX3_memberLine_5 5 rfl rfl)
theorem dX3_memberLine_126 : decode cX3_memberLine 126 = .ok (.iconst 1, 1) := dk_4 (dk_at dksX3_memberLine_5 6 rfl rfl)
theorem dX3_memberLine_127 : decode cX3_memberLine 127 = .ok (.iadd, 1) := dk_96 (dk_at dksX3_memberLine_5 7 rfl rfl)
theorem dX3_memberLine_128 : decode cX3_memberLine 128 = .ok (.laload, 1) := dk_47 (dk_at dksX3_memberLine_5 8 rfl rfl)
theorem dX3_memberLine_129 : decode cX3_memberLine 129 = .ok (.invokestatic 168, 3) := dk_184 0 168 (dk_at dksX3_memberLine_5 9 rfl rfl)
theorem dX3_memberLine_132 : decode cX3_memberLine 132 = .ok (.ifCond .eq 13, 3) := dk_153 0 13 (dk_at dksX3_memberLine_5 12 rfl rfl)
theorem dX3_memberLine_135 : decode cX3_memberLine 135 = .ok (.aload_n 0, 1) := dk_42 (dk_at dksX3_memberLine_5 15 rfl rfl)
theorem dX3_memberLine_136 : decode cX3_memberLine 136 = .ok (.bipush (-3), 2) := dk_16 253 (dk_at dksX3_memberLine_5 16 rfl rfl)
theorem dX3_memberLine_138 : decode cX3_memberLine 138 = .ok (.aload_n 0, 1) := dk_42 (dk_at dksX3_memberLine_5 18 rfl rfl)
theorem dX3_memberLine_139 : decode cX3_memberLine 139 = .ok (.getfield 105, 3) := dk_180 0 105 (dk_at dksX3_memberLine_5 19 rfl rfl)
theorem dX3_memberLine_142 : decode cX3_memberLine 142 = .ok (.invokevirtual 97, 3) := dk_182 0 97 (dk_at dksX3_memberLine_6 0 rfl rfl)
theorem dX3_memberLine_145 : decode cX3_memberLine 145 = .ok (.iinc 3 3, 3) := dk_132 3 3 (dk_at dksX3_memberLine_6 3 rfl rfl)
theorem dX3_memberLine_148 : decode cX3_memberLine 148 = .ok (.goto (-52), 3) := dk_167 255 204 (dk_at dksX3_memberLine_6 6 rfl rfl)
theorem dX3_memberLine_151 : decode cX3_memberLine 151 = .ok (.aload_n 0, 1) := dk_42 (dk_at dksX3_memberLine_6 9 rfl rfl)
theorem dX3_memberLine_152 : decode cX3_memberLine 152 = .ok (.getfield 13, 3) := dk_180 0 13 (dk_at dksX3_memberLine_6 10 rfl rfl)
theorem dX3_memberLine_155 : decode cX3_memberLine 155 = .ok (.iload_n 2, 1) := dk_28 (dk_at dksX3_memberLine_6 13 rfl rfl)
theorem dX3_memberLine_156 : decode cX3_memberLine 156 = .ok (.iconst 2, 1) := dk_5 (dk_at dksX3_memberLine_6 14 rfl rfl)
theorem dX3_memberLine_157 : decode cX3_memberLine 157 = .ok (.iadd, 1) := dk_96 (dk_at dksX3_memberLine_6 15 rfl rfl)
theorem dX3_memberLine_158 : decode cX3_memberLine 158 = .ok (.aload_n 0, 1) := dk_42 (dk_at dksX3_memberLine_6 16 rfl rfl)
theorem dX3_memberLine_159 : decode cX3_memberLine 159 = .ok (.lconst 0, 1) := dk_9 (dk_at dksX3_memberLine_6 17 rfl rfl)
theorem dX3_memberLine_160 : decode cX3_memberLine 160 = .ok (.aload_n 0, 1) := dk_42 (dk_at dksX3_memberLine_6 18 rfl rfl)
theorem dX3_memberLine_161 : decode cX3_memberLine 161 = .ok (.getfield 13, 3) := dk_180 0 13 (dk_at dksX3_memberLine_6 19 rfl rfl)
theorem dX3_memberLine_164 : decode cX3_memberLine 164 = .ok (.iconst 4, 1) := dk_7 (dk_at dksX3_memberLine_6 22 rfl rfl)
theorem dX3_memberLine_165 : decode cX3_memberLine 165 = .ok (.laload, 1) := dk_47 (dk_at dksX3_memberLine_6 23 rfl rfl)
theorem dX3_memberLine_166 : decode cX3_memberLine 166 = .ok (.lconst 1, 1) := dk_10 (dk_at dksX3_memberLine_7 0 rfl rfl)
theorem dX3_memberLine_167 : decode cX3_memberLine 167 = .ok (.lsub, 1) := dk_101 (dk_at dksX3_memberLine_7 1 rfl rfl)
theorem dX3_memberLine_168 : decode cX3_memberLine 168 = .ok (.invokevirtual 126, 3) := dk_182 0 126 (dk_at dksX3_memberLine_7 2 rfl rfl)
theorem dX3_memberLine_171 : decode cX3_memberLine 171 = .ok (.lastore, 1) := dk_80 (dk_at dksX3_memberLine_7 5 rfl rfl)
theorem dX3_memberLine_172 : decode cX3_memberLine 172 = .ok (.aload_n 0, 1) := dk_42 (dk_at dksX3_memberLine_7 6 rfl rfl)
theorem dX3_memberLine_173 : decode cX3_memberLine 173 = .ok (.getfield 13, 3) := dk_180 0 13 (dk_at dksX3_memberLine_7 7 rfl rfl)
theorem dX3_memberLine_176 : decode cX3_memberLine 176 = .ok (.iconst 5, 1) := dk_8 (dk_at dksX3_memberLine_7 10 rfl rfl)
theorem dX3_memberLine_177 : decode cX3_memberLine 177 = .ok (.dup2, 1) := dk_92 (dk_at dksX3_memberLine_7 11 rfl rfl)
theorem dX3_memberLine_178 : decode cX3_memberLine 178 = .ok (.laload, 1) := dk_47 (dk_at dksX3_memberLine_7 12 rfl rfl)
theorem dX3_memberLine_179 : decode cX3_memberLine 179 = .ok (.lconst 1, 1) := dk_10 (dk_at dksX3_memberLine_7 13 rfl rfl)
theorem dX3_memberLine_180 : decode cX3_memberLine 180 = .ok (.ladd, 1) := dk_97 (dk_at dksX3_memberLine_7 14 rfl rfl)
theorem dX3_memberLine_181 : decode cX3_memberLine 181 = .ok (.lastore, 1) := dk_80 (dk_at dksX3_memberLine_7 15 rfl rfl)
theorem dX3_memberLine_182 : decode cX3_memberLine 182 = .ok (.return_, 1) := dk_177 (dk_at dksX3_memberLine_7 16 rfl rfl)
abbrev cX3_joins : ByteArray := prog_20_method_27_code
def yX3_joins : MethodName := ⟨RX3, "joins", "(JJJJ)Z"⟩
def dkwX3_joins_1 : List UInt8 := [148, 154, 0, 7, 4, 167, 0, 4, 3, 172]
abbrev dktX3_joins_1 : List UInt8 := dkwX3_joins_1 ++ []
def dkwX3_joins_0 : List UInt8 := [30, 22, 4, 148, 154, 0, 10, 32, 22, 6, 148, 153, 0, 17, 30, 22, 6, 148, 154, 0, 14, 32, 22, 4]
abbrev dktX3_joins_0 : List UInt8 := dkwX3_joins_0 ++ dktX3_joins_1
theorem dksX3_joins_0 : cX3_joins.data.toList.drop 0 = dktX3_joins_0 := by decide +kernel
theorem dksX3_joins_1 : cX3_joins.data.toList.drop 24 = dktX3_joins_1 := dk_seg dksX3_joins_0 24 rfl rfl
theorem dX3_joins_0 : decode cX3_joins 0 = .ok (.lload_n 0, 1) := dk_30 (dk_at dksX3_joins_0 0 rfl rfl)
theorem dX3_joins_1 : decode cX3_joins 1 = .ok (.lload 4, 2) := dk_22 4 (dk_at dksX3_joins_0 1 rfl rfl)
theorem dX3_joins_3 : decode cX3_joins 3 = .ok (.lcmp, 1) := dk_148 (dk_at dksX3_joins_0 3 rfl rfl)
theorem dX3_joins_4 : decode cX3_joins 4 = .ok (.ifCond .ne 10, 3) := dk_154 0 10 (dk_at dksX3_joins_0 4 rfl rfl)
theorem dX3_joins_7 : decode cX3_joins 7 = .ok (.lload_n 2, 1) := dk_32 (dk_at dksX3_joins_0 7 rfl rfl)
theorem dX3_joins_8 : decode cX3_joins 8 = .ok (.lload 6, 2) := dk_22 6 (dk_at dksX3_joins_0 8 rfl rfl)
theorem dX3_joins_10 : decode cX3_joins 10 = .ok (.lcmp, 1) := dk_148 (dk_at dksX3_joins_0 10 rfl rfl)
theorem dX3_joins_11 : decode cX3_joins 11 = .ok (.ifCond .eq 17, 3) := dk_153 0 17 (dk_at dksX3_joins_0 11 rfl rfl)
theorem dX3_joins_14 : decode cX3_joins 14 = .ok (.lload_n 0, 1) := dk_30 (dk_at dksX3_joins_0 14 rfl rfl)
theorem dX3_joins_15 : decode cX3_joins 15 = .ok (.lload 6, 2) := dk_22 6 (dk_at dksX3_joins_0 15 rfl rfl)
theorem dX3_joins_17 : decode cX3_joins 17 = .ok (.lcmp, 1) := dk_148 (dk_at dksX3_joins_0 17 rfl rfl)
theorem dX3_joins_18 : decode cX3_joins 18 = .ok (.ifCond .ne 14, 3) := dk_154 0 14 (dk_at dksX3_joins_0 18 rfl rfl)
theorem dX3_joins_21 : decode cX3_joins 21 = .ok (.lload_n 2, 1) := dk_32 (dk_at dksX3_joins_0 21 rfl rfl)
theorem dX3_joins_22 : decode cX3_joins 22 = .ok (.lload 4, 2) := dk_22 4 (dk_at dksX3_joins_0 22 rfl rfl)
theorem dX3_joins_24 : decode cX3_joins 24 = .ok (.lcmp, 1) := dk_148 (dk_at dksX3_joins_1 0 rfl rfl)
theorem dX3_joins_25 : decode cX3_joins 25 = .ok (.ifCond .ne 7, 3) := dk_154 0 7 (dk_at dksX3_joins_1 1 rfl rfl)
theorem dX3_joins_28 : decode cX3_joins 28 = .ok (.iconst 1, 1) := dk_4 (dk_at dksX3_joins_1 4 rfl rfl)
theorem dX3_joins_29 : decode cX3_joins 29 = .ok (.goto 4, 3) := dk_167 0 4 (dk_at dksX3_joins_1 5 rfl rfl)
theorem dX3_joins_32 : decode cX3_joins 32 = .ok (.iconst 0, 1) := dk_3 (dk_at dksX3_joins_1 8 rfl rfl)
theorem dX3_joins_33 : decode cX3_joins 33 = .ok (.ireturn, 1) := dk_172 (dk_at dksX3_joins_1 9 rfl rfl)
abbrev cX3_loadLine : ByteArray := prog_20_method_29_code
def yX3_loadLine : MethodName := ⟨RX3, "loadLine", "(I)V"⟩
def dkwX3_loadLine_4 : List UInt8 := [10, 97, 80, 177]
abbrev dktX3_loadLine_4 : List UInt8 := dkwX3_loadLine_4 ++ []
def dkwX3_loadLine_3 : List UInt8 := [182, 0, 174, 80, 42, 180, 0, 13, 28, 6, 96, 42, 182, 0, 174, 80, 42, 180, 0, 13, 16, 6, 92, 47]
abbrev dktX3_loadLine_3 : List UInt8 := dkwX3_loadLine_3 ++ dktX3_loadLine_4
def dkwX3_loadLine_2 : List UInt8 := [42, 9, 42, 180, 0, 13, 6, 47, 10, 101, 182, 0, 126, 80, 42, 180, 0, 13, 28, 5, 96, 42]
abbrev dktX3_loadLine_2 : List UInt8 := dkwX3_loadLine_2 ++ dktX3_loadLine_3
def dkwX3_loadLine_1 : List UInt8 := [104, 96, 61, 42, 180, 0, 13, 28, 42, 9, 20, 0, 172, 182, 0, 126, 80, 42, 180, 0, 13, 28, 4, 96]
abbrev dktX3_loadLine_1 : List UInt8 := dkwX3_loadLine_1 ++ dktX3_loadLine_2
def dkwX3_loadLine_0 : List UInt8 := [42, 16, 6, 16, 12, 27, 182, 0, 158, 154, 0, 4, 177, 16, 90, 7, 42, 180, 0, 13, 16, 6, 47, 136]
abbrev dktX3_loadLine_0 : List UInt8 := dkwX3_loadLine_0 ++ dktX3_loadLine_1
theorem dksX3_loadLine_0 : cX3_loadLine.data.toList.drop 0 = dktX3_loadLine_0 := by decide +kernel
theorem dksX3_loadLine_1 : cX3_loadLine.data.toList.drop 24 = dktX3_loadLine_1 := dk_seg dksX3_loadLine_0 24 rfl rfl
theorem dksX3_loadLine_2 : cX3_loadLine.data.toList.drop 48 = dktX3_loadLine_2 := dk_seg dksX3_loadLine_1 24 rfl rfl
theorem dksX3_loadLine_3 : cX3_loadLine.data.toList.drop 70 = dktX3_loadLine_3 := dk_seg dksX3_loadLine_2 22 rfl rfl
theorem dksX3_loadLine_4 : cX3_loadLine.data.toList.drop 94 = dktX3_loadLine_4 := dk_seg dksX3_loadLine_3 24 rfl rfl
theorem dX3_loadLine_0 : decode cX3_loadLine 0 = .ok (.aload_n 0, 1) := dk_42 (dk_at dksX3_loadLine_0 0 rfl rfl)
theorem dX3_loadLine_1 : decode cX3_loadLine 1 = .ok (.bipush 6, 2) := dk_16 6 (dk_at dksX3_loadLine_0 1 rfl rfl)
theorem dX3_loadLine_3 : decode cX3_loadLine 3 = .ok (.bipush 12, 2) := dk_16 12 (dk_at dksX3_loadLine_0 3 rfl rfl)
theorem dX3_loadLine_5 : decode cX3_loadLine 5 = .ok (.iload_n 1, 1) := dk_27 (dk_at dksX3_loadLine_0 5 rfl rfl)
theorem dX3_loadLine_6 : decode cX3_loadLine 6 = .ok (.invokevirtual 158, 3) := dk_182 0 158 (dk_at dksX3_loadLine_0 6 rfl rfl)
theorem dX3_loadLine_9 : decode cX3_loadLine 9 = .ok (.ifCond .ne 4, 3) := dk_154 0 4 (dk_at dksX3_loadLine_0 9 rfl rfl)
theorem dX3_loadLine_12 : decode cX3_loadLine 12 = .ok (.return_, 1) := dk_177 (dk_at dksX3_loadLine_0 12 rfl rfl)
theorem dX3_loadLine_13 : decode cX3_loadLine 13 = .ok (.bipush 90, 2) := dk_16 90 (dk_at dksX3_loadLine_0 13 rfl rfl)
theorem dX3_loadLine_15 : decode cX3_loadLine 15 = .ok (.iconst 4, 1) := dk_7 (dk_at dksX3_loadLine_0 15 rfl rfl)
theorem dX3_loadLine_16 : decode cX3_loadLine 16 = .ok (.aload_n 0, 1) := dk_42 (dk_at dksX3_loadLine_0 16 rfl rfl)
theorem dX3_loadLine_17 : decode cX3_loadLine 17 = .ok (.getfield 13, 3) := dk_180 0 13 (dk_at dksX3_loadLine_0 17 rfl rfl)
theorem dX3_loadLine_20 : decode cX3_loadLine 20 = .ok (.bipush 6, 2) := dk_16 6 (dk_at dksX3_loadLine_0 20 rfl rfl)
theorem dX3_loadLine_22 : decode cX3_loadLine 22 = .ok (.laload, 1) := dk_47 (dk_at dksX3_loadLine_0 22 rfl rfl)
theorem dX3_loadLine_23 : decode cX3_loadLine 23 = .ok (.l2i, 1) := dk_136 (dk_at dksX3_loadLine_0 23 rfl rfl)
theorem dX3_loadLine_24 : decode cX3_loadLine 24 = .ok (.imul, 1) := dk_104 (dk_at dksX3_loadLine_1 0 rfl rfl)
theorem dX3_loadLine_25 : decode cX3_loadLine 25 = .ok (.iadd, 1) := dk_96 (dk_at dksX3_loadLine_1 1 rfl rfl)
theorem dX3_loadLine_26 : decode cX3_loadLine 26 = .ok (.istore_n 2, 1) := dk_61 (dk_at dksX3_loadLine_1 2 rfl rfl)
theorem dX3_loadLine_27 : decode cX3_loadLine 27 = .ok (.aload_n 0, 1) := dk_42 (dk_at dksX3_loadLine_1 3 rfl rfl)
theorem dX3_loadLine_28 : decode cX3_loadLine 28 = .ok (.getfield 13, 3) := dk_180 0 13 (dk_at dksX3_loadLine_1 4 rfl rfl)
theorem dX3_loadLine_31 : decode cX3_loadLine 31 = .ok (.iload_n 2, 1) := dk_28 (dk_at dksX3_loadLine_1 7 rfl rfl)
theorem dX3_loadLine_32 : decode cX3_loadLine 32 = .ok (.aload_n 0, 1) := dk_42 (dk_at dksX3_loadLine_1 8 rfl rfl)
theorem dX3_loadLine_33 : decode cX3_loadLine 33 = .ok (.lconst 0, 1) := dk_9 (dk_at dksX3_loadLine_1 9 rfl rfl)
theorem dX3_loadLine_34 : decode cX3_loadLine 34 = .ok (.ldc2_w 172, 3) := dk_20 0 172 (dk_at dksX3_loadLine_1 10 rfl rfl)
theorem dX3_loadLine_37 : decode cX3_loadLine 37 = .ok (.invokevirtual 126, 3) := dk_182 0 126 (dk_at dksX3_loadLine_1 13 rfl rfl)
theorem dX3_loadLine_40 : decode cX3_loadLine 40 = .ok (.lastore, 1) := dk_80 (dk_at dksX3_loadLine_1 16 rfl rfl)
theorem dX3_loadLine_41 : decode cX3_loadLine 41 = .ok (.aload_n 0, 1) := dk_42 (dk_at dksX3_loadLine_1 17 rfl rfl)
theorem dX3_loadLine_42 : decode cX3_loadLine 42 = .ok (.getfield 13, 3) := dk_180 0 13 (dk_at dksX3_loadLine_1 18 rfl rfl)
theorem dX3_loadLine_45 : decode cX3_loadLine 45 = .ok (.iload_n 2, 1) := dk_28 (dk_at dksX3_loadLine_1 21 rfl rfl)
theorem dX3_loadLine_46 : decode cX3_loadLine 46 = .ok (.iconst 1, 1) := dk_4 (dk_at dksX3_loadLine_1 22 rfl rfl)
theorem dX3_loadLine_47 : decode cX3_loadLine 47 = .ok (.iadd, 1) := dk_96 (dk_at dksX3_loadLine_1 23 rfl rfl)
theorem dX3_loadLine_48 : decode cX3_loadLine 48 = .ok (.aload_n 0, 1) := dk_42 (dk_at dksX3_loadLine_2 0 rfl rfl)
theorem dX3_loadLine_49 : decode cX3_loadLine 49 = .ok (.lconst 0, 1) := dk_9 (dk_at dksX3_loadLine_2 1 rfl rfl)
theorem dX3_loadLine_50 : decode cX3_loadLine 50 = .ok (.aload_n 0, 1) := dk_42 (dk_at dksX3_loadLine_2 2 rfl rfl)
theorem dX3_loadLine_51 : decode cX3_loadLine 51 = .ok (.getfield 13, 3) := dk_180 0 13 (dk_at dksX3_loadLine_2 3 rfl rfl)
theorem dX3_loadLine_54 : decode cX3_loadLine 54 = .ok (.iconst 3, 1) := dk_6 (dk_at dksX3_loadLine_2 6 rfl rfl)
theorem dX3_loadLine_55 : decode cX3_loadLine 55 = .ok (.laload, 1) := dk_47 (dk_at dksX3_loadLine_2 7 rfl rfl)
theorem dX3_loadLine_56 : decode cX3_loadLine 56 = .ok (.lconst 1, 1) := dk_10 (dk_at dksX3_loadLine_2 8 rfl rfl)
theorem dX3_loadLine_57 : decode cX3_loadLine 57 = .ok (.lsub, 1) := dk_101 (dk_at dksX3_loadLine_2 9 rfl rfl)
theorem dX3_loadLine_58 : decode cX3_loadLine 58 = .ok (.invokevirtual 126, 3) := dk_182 0 126 (dk_at dksX3_loadLine_2 10 rfl rfl)
theorem dX3_loadLine_61 : decode cX3_loadLine 61 = .ok (.lastore, 1) := dk_80 (dk_at dksX3_loadLine_2 13 rfl rfl)
theorem dX3_loadLine_62 : decode cX3_loadLine 62 = .ok (.aload_n 0, 1) := dk_42 (dk_at dksX3_loadLine_2 14 rfl rfl)
theorem dX3_loadLine_63 : decode cX3_loadLine 63 = .ok (.getfield 13, 3) := dk_180 0 13 (dk_at dksX3_loadLine_2 15 rfl rfl)
theorem dX3_loadLine_66 : decode cX3_loadLine 66 = .ok (.iload_n 2, 1) := dk_28 (dk_at dksX3_loadLine_2 18 rfl rfl)
theorem dX3_loadLine_67 : decode cX3_loadLine 67 = .ok (.iconst 2, 1) := dk_5 (dk_at dksX3_loadLine_2 19 rfl rfl)
theorem dX3_loadLine_68 : decode cX3_loadLine 68 = .ok (.iadd, 1) := dk_96 (dk_at dksX3_loadLine_2 20 rfl rfl)
theorem dX3_loadLine_69 : decode cX3_loadLine 69 = .ok (.aload_n 0, 1) := dk_42 (dk_at dksX3_loadLine_2 21 rfl rfl)
theorem dX3_loadLine_70 : decode cX3_loadLine 70 = .ok (.invokevirtual 174, 3) := dk_182 0 174 (dk_at dksX3_loadLine_3 0 rfl rfl)
theorem dX3_loadLine_73 : decode cX3_loadLine 73 = .ok (.lastore, 1) := dk_80 (dk_at dksX3_loadLine_3 3 rfl rfl)
theorem dX3_loadLine_74 : decode cX3_loadLine 74 = .ok (.aload_n 0, 1) := dk_42 (dk_at dksX3_loadLine_3 4 rfl rfl)
theorem dX3_loadLine_75 : decode cX3_loadLine 75 = .ok (.getfield 13, 3) := dk_180 0 13 (dk_at dksX3_loadLine_3 5 rfl rfl)
theorem dX3_loadLine_78 : decode cX3_loadLine 78 = .ok (.iload_n 2, 1) := dk_28 (dk_at dksX3_loadLine_3 8 rfl rfl)
theorem dX3_loadLine_79 : decode cX3_loadLine 79 = .ok (.iconst 3, 1) := dk_6 (dk_at dksX3_loadLine_3 9 rfl rfl)
theorem dX3_loadLine_80 : decode cX3_loadLine 80 = .ok (.iadd, 1) := dk_96 (dk_at dksX3_loadLine_3 10 rfl rfl)
theorem dX3_loadLine_81 : decode cX3_loadLine 81 = .ok (.aload_n 0, 1) := dk_42 (dk_at dksX3_loadLine_3 11 rfl rfl)
theorem dX3_loadLine_82 : decode cX3_loadLine 82 = .ok (.invokevirtual 174, 3) := dk_182 0 174 (dk_at dksX3_loadLine_3 12 rfl rfl)
theorem dX3_loadLine_85 : decode cX3_loadLine 85 = .ok (.lastore, 1) := dk_80 (dk_at dksX3_loadLine_3 15 rfl rfl)
theorem dX3_loadLine_86 : decode cX3_loadLine 86 = .ok (.aload_n 0, 1) := dk_42 (dk_at dksX3_loadLine_3 16 rfl rfl)
theorem dX3_loadLine_87 : decode cX3_loadLine 87 = .ok (.getfield 13, 3) := dk_180 0 13 (dk_at dksX3_loadLine_3 17 rfl rfl)
theorem dX3_loadLine_90 : decode cX3_loadLine 90 = .ok (.bipush 6, 2) := dk_16 6 (dk_at dksX3_loadLine_3 20 rfl rfl)
theorem dX3_loadLine_92 : decode cX3_loadLine 92 = .ok (.dup2, 1) := dk_92 (dk_at dksX3_loadLine_3 22 rfl rfl)
theorem dX3_loadLine_93 : decode cX3_loadLine 93 = .ok (.laload, 1) := dk_47 (dk_at dksX3_loadLine_3 23 rfl rfl)
theorem dX3_loadLine_94 : decode cX3_loadLine 94 = .ok (.lconst 1, 1) := dk_10 (dk_at dksX3_loadLine_4 0 rfl rfl)
theorem dX3_loadLine_95 : decode cX3_loadLine 95 = .ok (.ladd, 1) := dk_97 (dk_at dksX3_loadLine_4 1 rfl rfl)
theorem dX3_loadLine_96 : decode cX3_loadLine 96 = .ok (.lastore, 1) := dk_80 (dk_at dksX3_loadLine_4 2 rfl rfl)
theorem dX3_loadLine_97 : decode cX3_loadLine 97 = .ok (.return_, 1) := dk_177 (dk_at dksX3_loadLine_4 3 rfl rfl)
abbrev cX3_readsSigned : ByteArray := prog_20_method_20_code
def yX3_readsSigned : MethodName := ⟨RX3, "readsSigned", "()J"⟩
def dkwX3_readsSigned_2 : List UInt8 := [153, 0, 8, 32, 117, 167, 0, 4, 32, 173]
abbrev dktX3_readsSigned_2 : List UInt8 := dkwX3_readsSigned_2 ++ []
def dkwX3_readsSigned_1 : List UInt8 := [153, 0, 13, 42, 89, 180, 0, 74, 4, 96, 181, 0, 74, 42, 9, 20, 0, 124, 182, 0, 126, 65, 27]
abbrev dktX3_readsSigned_1 : List UInt8 := dkwX3_readsSigned_1 ++ dktX3_readsSigned_2
def dkwX3_readsSigned_0 : List UInt8 := [42, 180, 0, 68, 154, 0, 16, 42, 182, 0, 80, 16, 45, 160, 0, 7, 4, 167, 0, 4, 3, 60, 27]
abbrev dktX3_readsSigned_0 : List UInt8 := dkwX3_readsSigned_0 ++ dktX3_readsSigned_1
theorem dksX3_readsSigned_0 : cX3_readsSigned.data.toList.drop 0 = dktX3_readsSigned_0 := by decide +kernel
theorem dksX3_readsSigned_1 : cX3_readsSigned.data.toList.drop 23 = dktX3_readsSigned_1 := dk_seg dksX3_readsSigned_0 23 rfl rfl
theorem dksX3_readsSigned_2 : cX3_readsSigned.data.toList.drop 46 = dktX3_readsSigned_2 := dk_seg dksX3_readsSigned_1 23 rfl rfl
theorem dX3_readsSigned_0 : decode cX3_readsSigned 0 = .ok (.aload_n 0, 1) := dk_42 (dk_at dksX3_readsSigned_0 0 rfl rfl)
theorem dX3_readsSigned_1 : decode cX3_readsSigned 1 = .ok (.getfield 68, 3) := dk_180 0 68 (dk_at dksX3_readsSigned_0 1 rfl rfl)
theorem dX3_readsSigned_4 : decode cX3_readsSigned 4 = .ok (.ifCond .ne 16, 3) := dk_154 0 16 (dk_at dksX3_readsSigned_0 4 rfl rfl)
theorem dX3_readsSigned_7 : decode cX3_readsSigned 7 = .ok (.aload_n 0, 1) := dk_42 (dk_at dksX3_readsSigned_0 7 rfl rfl)
theorem dX3_readsSigned_8 : decode cX3_readsSigned 8 = .ok (.invokevirtual 80, 3) := dk_182 0 80 (dk_at dksX3_readsSigned_0 8 rfl rfl)
theorem dX3_readsSigned_11 : decode cX3_readsSigned 11 = .ok (.bipush 45, 2) := dk_16 45 (dk_at dksX3_readsSigned_0 11 rfl rfl)
theorem dX3_readsSigned_13 : decode cX3_readsSigned 13 = .ok (.if_icmp .ne 7, 3) := dk_160 0 7 (dk_at dksX3_readsSigned_0 13 rfl rfl)
theorem dX3_readsSigned_16 : decode cX3_readsSigned 16 = .ok (.iconst 1, 1) := dk_4 (dk_at dksX3_readsSigned_0 16 rfl rfl)
theorem dX3_readsSigned_17 : decode cX3_readsSigned 17 = .ok (.goto 4, 3) := dk_167 0 4 (dk_at dksX3_readsSigned_0 17 rfl rfl)
theorem dX3_readsSigned_20 : decode cX3_readsSigned 20 = .ok (.iconst 0, 1) := dk_3 (dk_at dksX3_readsSigned_0 20 rfl rfl)
theorem dX3_readsSigned_21 : decode cX3_readsSigned 21 = .ok (.istore_n 1, 1) := dk_60 (dk_at dksX3_readsSigned_0 21 rfl rfl)
theorem dX3_readsSigned_22 : decode cX3_readsSigned 22 = .ok (.iload_n 1, 1) := dk_27 (dk_at dksX3_readsSigned_0 22 rfl rfl)
theorem dX3_readsSigned_23 : decode cX3_readsSigned 23 = .ok (.ifCond .eq 13, 3) := dk_153 0 13 (dk_at dksX3_readsSigned_1 0 rfl rfl)
theorem dX3_readsSigned_26 : decode cX3_readsSigned 26 = .ok (.aload_n 0, 1) := dk_42 (dk_at dksX3_readsSigned_1 3 rfl rfl)
theorem dX3_readsSigned_27 : decode cX3_readsSigned 27 = .ok (.dup, 1) := dk_89 (dk_at dksX3_readsSigned_1 4 rfl rfl)
theorem dX3_readsSigned_28 : decode cX3_readsSigned 28 = .ok (.getfield 74, 3) := dk_180 0 74 (dk_at dksX3_readsSigned_1 5 rfl rfl)
theorem dX3_readsSigned_31 : decode cX3_readsSigned 31 = .ok (.iconst 1, 1) := dk_4 (dk_at dksX3_readsSigned_1 8 rfl rfl)
theorem dX3_readsSigned_32 : decode cX3_readsSigned 32 = .ok (.iadd, 1) := dk_96 (dk_at dksX3_readsSigned_1 9 rfl rfl)
theorem dX3_readsSigned_33 : decode cX3_readsSigned 33 = .ok (.putfield 74, 3) := dk_181 0 74 (dk_at dksX3_readsSigned_1 10 rfl rfl)
theorem dX3_readsSigned_36 : decode cX3_readsSigned 36 = .ok (.aload_n 0, 1) := dk_42 (dk_at dksX3_readsSigned_1 13 rfl rfl)
theorem dX3_readsSigned_37 : decode cX3_readsSigned 37 = .ok (.lconst 0, 1) := dk_9 (dk_at dksX3_readsSigned_1 14 rfl rfl)
theorem dX3_readsSigned_38 : decode cX3_readsSigned 38 = .ok (.ldc2_w 124, 3) := dk_20 0 124 (dk_at dksX3_readsSigned_1 15 rfl rfl)
theorem dX3_readsSigned_41 : decode cX3_readsSigned 41 = .ok (.invokevirtual 126, 3) := dk_182 0 126 (dk_at dksX3_readsSigned_1 18 rfl rfl)
theorem dX3_readsSigned_44 : decode cX3_readsSigned 44 = .ok (.lstore_n 2, 1) := dk_65 (dk_at dksX3_readsSigned_1 21 rfl rfl)
theorem dX3_readsSigned_45 : decode cX3_readsSigned 45 = .ok (.iload_n 1, 1) := dk_27 (dk_at dksX3_readsSigned_1 22 rfl rfl)
theorem dX3_readsSigned_46 : decode cX3_readsSigned 46 = .ok (.ifCond .eq 8, 3) := dk_153 0 8 (dk_at dksX3_readsSigned_2 0 rfl rfl)
theorem dX3_readsSigned_49 : decode cX3_readsSigned 49 = .ok (.lload_n 2, 1) := dk_32 (dk_at dksX3_readsSigned_2 3 rfl rfl)
theorem dX3_readsSigned_50 : decode cX3_readsSigned 50 = .ok (.lneg, 1) := dk_117 (dk_at dksX3_readsSigned_2 4 rfl rfl)
theorem dX3_readsSigned_51 : decode cX3_readsSigned 51 = .ok (.goto 4, 3) := dk_167 0 4 (dk_at dksX3_readsSigned_2 5 rfl rfl)
theorem dX3_readsSigned_54 : decode cX3_readsSigned 54 = .ok (.lload_n 2, 1) := dk_32 (dk_at dksX3_readsSigned_2 8 rfl rfl)
theorem dX3_readsSigned_55 : decode cX3_readsSigned 55 = .ok (.lreturn, 1) := dk_173 (dk_at dksX3_readsSigned_2 9 rfl rfl)
abbrev cX3_sum : ByteArray := prog_20_method_22_code
def yX3_sum : MethodName := ⟨RX3, "sum", "()V"⟩
def dkwX3_sum_2 : List UInt8 := [181, 0, 74, 42, 182, 0, 131, 42, 27, 9, 182, 0, 134, 167, 255, 201, 177]
abbrev dktX3_sum_2 : List UInt8 := dkwX3_sum_2 ++ []
def dkwX3_sum_1 : List UInt8 := [16, 45, 160, 0, 36, 42, 180, 0, 19, 42, 180, 0, 74, 46, 60, 42, 89, 180, 0, 74, 4, 96]
abbrev dktX3_sum_1 : List UInt8 := dkwX3_sum_1 ++ dktX3_sum_2
def dkwX3_sum_0 : List UInt8 := [42, 182, 0, 131, 42, 180, 0, 68, 154, 0, 54, 42, 182, 0, 80, 16, 43, 159, 0, 12, 42, 182, 0, 80]
abbrev dktX3_sum_0 : List UInt8 := dkwX3_sum_0 ++ dktX3_sum_1
theorem dksX3_sum_0 : cX3_sum.data.toList.drop 0 = dktX3_sum_0 := by decide +kernel
theorem dksX3_sum_1 : cX3_sum.data.toList.drop 24 = dktX3_sum_1 := dk_seg dksX3_sum_0 24 rfl rfl
theorem dksX3_sum_2 : cX3_sum.data.toList.drop 46 = dktX3_sum_2 := dk_seg dksX3_sum_1 22 rfl rfl
theorem dX3_sum_0 : decode cX3_sum 0 = .ok (.aload_n 0, 1) := dk_42 (dk_at dksX3_sum_0 0 rfl rfl)
theorem dX3_sum_1 : decode cX3_sum 1 = .ok (.invokevirtual 131, 3) := dk_182 0 131 (dk_at dksX3_sum_0 1 rfl rfl)
theorem dX3_sum_4 : decode cX3_sum 4 = .ok (.aload_n 0, 1) := dk_42 (dk_at dksX3_sum_0 4 rfl rfl)
theorem dX3_sum_5 : decode cX3_sum 5 = .ok (.getfield 68, 3) := dk_180 0 68 (dk_at dksX3_sum_0 5 rfl rfl)
theorem dX3_sum_8 : decode cX3_sum 8 = .ok (.ifCond .ne 54, 3) := dk_154 0 54 (dk_at dksX3_sum_0 8 rfl rfl)
theorem dX3_sum_11 : decode cX3_sum 11 = .ok (.aload_n 0, 1) := dk_42 (dk_at dksX3_sum_0 11 rfl rfl)
theorem dX3_sum_12 : decode cX3_sum 12 = .ok (.invokevirtual 80, 3) := dk_182 0 80 (dk_at dksX3_sum_0 12 rfl rfl)
theorem dX3_sum_15 : decode cX3_sum 15 = .ok (.bipush 43, 2) := dk_16 43 (dk_at dksX3_sum_0 15 rfl rfl)
theorem dX3_sum_17 : decode cX3_sum 17 = .ok (.if_icmp .eq 12, 3) := dk_159 0 12 (dk_at dksX3_sum_0 17 rfl rfl)
theorem dX3_sum_20 : decode cX3_sum 20 = .ok (.aload_n 0, 1) := dk_42 (dk_at dksX3_sum_0 20 rfl rfl)
theorem dX3_sum_21 : decode cX3_sum 21 = .ok (.invokevirtual 80, 3) := dk_182 0 80 (dk_at dksX3_sum_0 21 rfl rfl)
theorem dX3_sum_24 : decode cX3_sum 24 = .ok (.bipush 45, 2) := dk_16 45 (dk_at dksX3_sum_1 0 rfl rfl)
theorem dX3_sum_26 : decode cX3_sum 26 = .ok (.if_icmp .ne 36, 3) := dk_160 0 36 (dk_at dksX3_sum_1 2 rfl rfl)
theorem dX3_sum_29 : decode cX3_sum 29 = .ok (.aload_n 0, 1) := dk_42 (dk_at dksX3_sum_1 5 rfl rfl)
theorem dX3_sum_30 : decode cX3_sum 30 = .ok (.getfield 19, 3) := dk_180 0 19 (dk_at dksX3_sum_1 6 rfl rfl)
theorem dX3_sum_33 : decode cX3_sum 33 = .ok (.aload_n 0, 1) := dk_42 (dk_at dksX3_sum_1 9 rfl rfl)
theorem dX3_sum_34 : decode cX3_sum 34 = .ok (.getfield 74, 3) := dk_180 0 74 (dk_at dksX3_sum_1 10 rfl rfl)
theorem dX3_sum_37 : decode cX3_sum 37 = .ok (.iaload, 1) := dk_46 (dk_at dksX3_sum_1 13 rfl rfl)
theorem dX3_sum_38 : decode cX3_sum 38 = .ok (.istore_n 1, 1) := dk_60 (dk_at dksX3_sum_1 14 rfl rfl)
theorem dX3_sum_39 : decode cX3_sum 39 = .ok (.aload_n 0, 1) := dk_42 (dk_at dksX3_sum_1 15 rfl rfl)
theorem dX3_sum_40 : decode cX3_sum 40 = .ok (.dup, 1) := dk_89 (dk_at dksX3_sum_1 16 rfl rfl)
theorem dX3_sum_41 : decode cX3_sum 41 = .ok (.getfield 74, 3) := dk_180 0 74 (dk_at dksX3_sum_1 17 rfl rfl)
theorem dX3_sum_44 : decode cX3_sum 44 = .ok (.iconst 1, 1) := dk_4 (dk_at dksX3_sum_1 20 rfl rfl)
theorem dX3_sum_45 : decode cX3_sum 45 = .ok (.iadd, 1) := dk_96 (dk_at dksX3_sum_1 21 rfl rfl)
theorem dX3_sum_46 : decode cX3_sum 46 = .ok (.putfield 74, 3) := dk_181 0 74 (dk_at dksX3_sum_2 0 rfl rfl)
theorem dX3_sum_49 : decode cX3_sum 49 = .ok (.aload_n 0, 1) := dk_42 (dk_at dksX3_sum_2 3 rfl rfl)
theorem dX3_sum_50 : decode cX3_sum 50 = .ok (.invokevirtual 131, 3) := dk_182 0 131 (dk_at dksX3_sum_2 4 rfl rfl)
theorem dX3_sum_53 : decode cX3_sum 53 = .ok (.aload_n 0, 1) := dk_42 (dk_at dksX3_sum_2 7 rfl rfl)
theorem dX3_sum_54 : decode cX3_sum 54 = .ok (.iload_n 1, 1) := dk_27 (dk_at dksX3_sum_2 8 rfl rfl)
theorem dX3_sum_55 : decode cX3_sum 55 = .ok (.lconst 0, 1) := dk_9 (dk_at dksX3_sum_2 9 rfl rfl)
theorem dX3_sum_56 : decode cX3_sum 56 = .ok (.invokevirtual 134, 3) := dk_182 0 134 (dk_at dksX3_sum_2 10 rfl rfl)
theorem dX3_sum_59 : decode cX3_sum 59 = .ok (.goto (-55), 3) := dk_167 255 201 (dk_at dksX3_sum_2 13 rfl rfl)
theorem dX3_sum_62 : decode cX3_sum 62 = .ok (.return_, 1) := dk_177 (dk_at dksX3_sum_2 16 rfl rfl)
abbrev cX3_term : ByteArray := prog_20_method_23_code
def yX3_term : MethodName := ⟨RX3, "term", "()V"⟩
def dkwX3_term_2 : List UInt8 := [181, 0, 74, 42, 182, 0, 137, 42, 27, 9, 182, 0, 134, 167, 255, 201, 177]
abbrev dktX3_term_2 : List UInt8 := dkwX3_term_2 ++ []
def dkwX3_term_1 : List UInt8 := [16, 47, 160, 0, 36, 42, 180, 0, 19, 42, 180, 0, 74, 46, 60, 42, 89, 180, 0, 74, 4, 96]
abbrev dktX3_term_1 : List UInt8 := dkwX3_term_1 ++ dktX3_term_2
def dkwX3_term_0 : List UInt8 := [42, 182, 0, 137, 42, 180, 0, 68, 154, 0, 54, 42, 182, 0, 80, 16, 42, 159, 0, 12, 42, 182, 0, 80]
abbrev dktX3_term_0 : List UInt8 := dkwX3_term_0 ++ dktX3_term_1
theorem dksX3_term_0 : cX3_term.data.toList.drop 0 = dktX3_term_0 := by decide +kernel
theorem dksX3_term_1 : cX3_term.data.toList.drop 24 = dktX3_term_1 := dk_seg dksX3_term_0 24 rfl rfl
theorem dksX3_term_2 : cX3_term.data.toList.drop 46 = dktX3_term_2 := dk_seg dksX3_term_1 22 rfl rfl
theorem dX3_term_0 : decode cX3_term 0 = .ok (.aload_n 0, 1) := dk_42 (dk_at dksX3_term_0 0 rfl rfl)
theorem dX3_term_1 : decode cX3_term 1 = .ok (.invokevirtual 137, 3) := dk_182 0 137 (dk_at dksX3_term_0 1 rfl rfl)
theorem dX3_term_4 : decode cX3_term 4 = .ok (.aload_n 0, 1) := dk_42 (dk_at dksX3_term_0 4 rfl rfl)
theorem dX3_term_5 : decode cX3_term 5 = .ok (.getfield 68, 3) := dk_180 0 68 (dk_at dksX3_term_0 5 rfl rfl)
theorem dX3_term_8 : decode cX3_term 8 = .ok (.ifCond .ne 54, 3) := dk_154 0 54 (dk_at dksX3_term_0 8 rfl rfl)
theorem dX3_term_11 : decode cX3_term 11 = .ok (.aload_n 0, 1) := dk_42 (dk_at dksX3_term_0 11 rfl rfl)
theorem dX3_term_12 : decode cX3_term 12 = .ok (.invokevirtual 80, 3) := dk_182 0 80 (dk_at dksX3_term_0 12 rfl rfl)
theorem dX3_term_15 : decode cX3_term 15 = .ok (.bipush 42, 2) := dk_16 42 (dk_at dksX3_term_0 15 rfl rfl)
theorem dX3_term_17 : decode cX3_term 17 = .ok (.if_icmp .eq 12, 3) := dk_159 0 12 (dk_at dksX3_term_0 17 rfl rfl)
theorem dX3_term_20 : decode cX3_term 20 = .ok (.aload_n 0, 1) := dk_42 (dk_at dksX3_term_0 20 rfl rfl)
theorem dX3_term_21 : decode cX3_term 21 = .ok (.invokevirtual 80, 3) := dk_182 0 80 (dk_at dksX3_term_0 21 rfl rfl)
theorem dX3_term_24 : decode cX3_term 24 = .ok (.bipush 47, 2) := dk_16 47 (dk_at dksX3_term_1 0 rfl rfl)
theorem dX3_term_26 : decode cX3_term 26 = .ok (.if_icmp .ne 36, 3) := dk_160 0 36 (dk_at dksX3_term_1 2 rfl rfl)
theorem dX3_term_29 : decode cX3_term 29 = .ok (.aload_n 0, 1) := dk_42 (dk_at dksX3_term_1 5 rfl rfl)
theorem dX3_term_30 : decode cX3_term 30 = .ok (.getfield 19, 3) := dk_180 0 19 (dk_at dksX3_term_1 6 rfl rfl)
theorem dX3_term_33 : decode cX3_term 33 = .ok (.aload_n 0, 1) := dk_42 (dk_at dksX3_term_1 9 rfl rfl)
theorem dX3_term_34 : decode cX3_term 34 = .ok (.getfield 74, 3) := dk_180 0 74 (dk_at dksX3_term_1 10 rfl rfl)
theorem dX3_term_37 : decode cX3_term 37 = .ok (.iaload, 1) := dk_46 (dk_at dksX3_term_1 13 rfl rfl)
theorem dX3_term_38 : decode cX3_term 38 = .ok (.istore_n 1, 1) := dk_60 (dk_at dksX3_term_1 14 rfl rfl)
theorem dX3_term_39 : decode cX3_term 39 = .ok (.aload_n 0, 1) := dk_42 (dk_at dksX3_term_1 15 rfl rfl)
theorem dX3_term_40 : decode cX3_term 40 = .ok (.dup, 1) := dk_89 (dk_at dksX3_term_1 16 rfl rfl)
theorem dX3_term_41 : decode cX3_term 41 = .ok (.getfield 74, 3) := dk_180 0 74 (dk_at dksX3_term_1 17 rfl rfl)
theorem dX3_term_44 : decode cX3_term 44 = .ok (.iconst 1, 1) := dk_4 (dk_at dksX3_term_1 20 rfl rfl)
theorem dX3_term_45 : decode cX3_term 45 = .ok (.iadd, 1) := dk_96 (dk_at dksX3_term_1 21 rfl rfl)
theorem dX3_term_46 : decode cX3_term 46 = .ok (.putfield 74, 3) := dk_181 0 74 (dk_at dksX3_term_2 0 rfl rfl)
theorem dX3_term_49 : decode cX3_term 49 = .ok (.aload_n 0, 1) := dk_42 (dk_at dksX3_term_2 3 rfl rfl)
theorem dX3_term_50 : decode cX3_term 50 = .ok (.invokevirtual 137, 3) := dk_182 0 137 (dk_at dksX3_term_2 4 rfl rfl)
theorem dX3_term_53 : decode cX3_term 53 = .ok (.aload_n 0, 1) := dk_42 (dk_at dksX3_term_2 7 rfl rfl)
theorem dX3_term_54 : decode cX3_term 54 = .ok (.iload_n 1, 1) := dk_27 (dk_at dksX3_term_2 8 rfl rfl)
theorem dX3_term_55 : decode cX3_term 55 = .ok (.lconst 0, 1) := dk_9 (dk_at dksX3_term_2 9 rfl rfl)
theorem dX3_term_56 : decode cX3_term 56 = .ok (.invokevirtual 134, 3) := dk_182 0 134 (dk_at dksX3_term_2 10 rfl rfl)
theorem dX3_term_59 : decode cX3_term 59 = .ok (.goto (-55), 3) := dk_167 255 201 (dk_at dksX3_term_2 13 rfl rfl)
theorem dX3_term_62 : decode cX3_term 62 = .ok (.return_, 1) := dk_177 (dk_at dksX3_term_2 16 rfl rfl)
abbrev cX3_factor : ByteArray := prog_20_method_24_code
def yX3_factor : MethodName := ⟨RX3, "factor", "()V"⟩
def dkwX3_factor_7 : List UInt8 := [180, 0, 74, 182, 0, 97, 177]
abbrev dktX3_factor_7 : List UInt8 := dkwX3_factor_7 ++ []
def dkwX3_factor_6 : List UInt8 := [42, 18, 156, 182, 0, 152, 153, 0, 14, 42, 4, 20, 0, 129, 182, 0, 134, 167, 0, 13, 42, 16, 254, 42]
abbrev dktX3_factor_6 : List UInt8 := dkwX3_factor_6 ++ dktX3_factor_7
def dkwX3_factor_5 : List UInt8 := [182, 0, 134, 167, 0, 51, 42, 18, 155, 182, 0, 152, 153, 0, 12, 42, 4, 10, 182, 0, 134, 167, 0, 33]
abbrev dktX3_factor_5 : List UInt8 := dkwX3_factor_5 ++ dktX3_factor_6
def dkwX3_factor_4 : List UInt8 := [20, 0, 124, 182, 0, 126, 182, 0, 134, 167, 0, 69, 42, 18, 150, 182, 0, 152, 153, 0, 12, 42, 4, 9]
abbrev dktX3_factor_4 : List UInt8 := dkwX3_factor_4 ++ dktX3_factor_5
def dkwX3_factor_3 : List UInt8 := [180, 0, 140, 4, 100, 181, 0, 140, 167, 0, 92, 42, 182, 0, 101, 153, 0, 19, 42, 3, 42, 9]
abbrev dktX3_factor_3 : List UInt8 := dkwX3_factor_3 ++ dktX3_factor_4
def dkwX3_factor_2 : List UInt8 := [42, 89, 180, 0, 74, 4, 96, 181, 0, 74, 42, 182, 0, 143, 42, 16, 41, 182, 0, 146, 42, 89]
abbrev dktX3_factor_2 : List UInt8 := dkwX3_factor_2 ++ dktX3_factor_3
def dkwX3_factor_1 : List UInt8 := [160, 0, 14, 42, 16, 251, 42, 180, 0, 74, 182, 0, 97, 177, 42, 89, 180, 0, 140, 4, 96, 181, 0, 140]
abbrev dktX3_factor_1 : List UInt8 := dkwX3_factor_1 ++ dktX3_factor_2
def dkwX3_factor_0 : List UInt8 := [42, 180, 0, 68, 153, 0, 4, 177, 42, 182, 0, 80, 16, 40, 160, 0, 65, 42, 180, 0, 140, 7]
abbrev dktX3_factor_0 : List UInt8 := dkwX3_factor_0 ++ dktX3_factor_1
theorem dksX3_factor_0 : cX3_factor.data.toList.drop 0 = dktX3_factor_0 := by decide +kernel
theorem dksX3_factor_1 : cX3_factor.data.toList.drop 22 = dktX3_factor_1 := dk_seg dksX3_factor_0 22 rfl rfl
theorem dksX3_factor_2 : cX3_factor.data.toList.drop 46 = dktX3_factor_2 := dk_seg dksX3_factor_1 24 rfl rfl
theorem dksX3_factor_3 : cX3_factor.data.toList.drop 68 = dktX3_factor_3 := dk_seg dksX3_factor_2 22 rfl rfl
theorem dksX3_factor_4 : cX3_factor.data.toList.drop 90 = dktX3_factor_4 := dk_seg dksX3_factor_3 22 rfl rfl
theorem dksX3_factor_5 : cX3_factor.data.toList.drop 114 = dktX3_factor_5 := dk_seg dksX3_factor_4 24 rfl rfl
theorem dksX3_factor_6 : cX3_factor.data.toList.drop 138 = dktX3_factor_6 := dk_seg dksX3_factor_5 24 rfl rfl
theorem dksX3_factor_7 : cX3_factor.data.toList.drop 162 = dktX3_factor_7 := dk_seg dksX3_factor_6 24 rfl rfl
theorem dX3_factor_0 : decode cX3_factor 0 = .ok (.aload_n 0, 1) := dk_42 (dk_at dksX3_factor_0 0 rfl rfl)
theorem dX3_factor_1 : decode cX3_factor 1 = .ok (.getfield 68, 3) := dk_180 0 68 (dk_at dksX3_factor_0 1 rfl rfl)
theorem dX3_factor_4 : decode cX3_factor 4 = .ok (.ifCond .eq 4, 3) := dk_153 0 4 (dk_at dksX3_factor_0 4 rfl rfl)
theorem dX3_factor_7 : decode cX3_factor 7 = .ok (.return_, 1) := dk_177 (dk_at dksX3_factor_0 7 rfl rfl)
theorem dX3_factor_8 : decode cX3_factor 8 = .ok (.aload_n 0, 1) := dk_42 (dk_at dksX3_factor_0 8 rfl rfl)
theorem dX3_factor_9 : decode cX3_factor 9 = .ok (.invokevirtual 80, 3) := dk_182 0 80 (dk_at dksX3_factor_0 9 rfl rfl)
theorem dX3_factor_12 : decode cX3_factor 12 = .ok (.bipush 40, 2) := dk_16 40 (dk_at dksX3_factor_0 12 rfl rfl)
theorem dX3_factor_14 : decode cX3_factor 14 = .ok (.if_icmp .ne 65, 3) := dk_160 0 65 (dk_at dksX3_factor_0 14 rfl rfl)
theorem dX3_factor_17 : decode cX3_factor 17 = .ok (.aload_n 0, 1) := dk_42 (dk_at dksX3_factor_0 17 rfl rfl)
theorem dX3_factor_18 : decode cX3_factor 18 = .ok (.getfield 140, 3) := dk_180 0 140 (dk_at dksX3_factor_0 18 rfl rfl)
theorem dX3_factor_21 : decode cX3_factor 21 = .ok (.iconst 4, 1) := dk_7 (dk_at dksX3_factor_0 21 rfl rfl)
theorem dX3_factor_22 : decode cX3_factor 22 = .ok (.if_icmp .ne 14, 3) := dk_160 0 14 (dk_at dksX3_factor_1 0 rfl rfl)
theorem dX3_factor_25 : decode cX3_factor 25 = .ok (.aload_n 0, 1) := dk_42 (dk_at dksX3_factor_1 3 rfl rfl)
theorem dX3_factor_26 : decode cX3_factor 26 = .ok (.bipush (-5), 2) := dk_16 251 (dk_at dksX3_factor_1 4 rfl rfl)
theorem dX3_factor_28 : decode cX3_factor 28 = .ok (.aload_n 0, 1) := dk_42 (dk_at dksX3_factor_1 6 rfl rfl)
theorem dX3_factor_29 : decode cX3_factor 29 = .ok (.getfield 74, 3) := dk_180 0 74 (dk_at dksX3_factor_1 7 rfl rfl)
theorem dX3_factor_32 : decode cX3_factor 32 = .ok (.invokevirtual 97, 3) := dk_182 0 97 (dk_at dksX3_factor_1 10 rfl rfl)
theorem dX3_factor_35 : decode cX3_factor 35 = .ok (.return_, 1) := dk_177 (dk_at dksX3_factor_1 13 rfl rfl)
theorem dX3_factor_36 : decode cX3_factor 36 = .ok (.aload_n 0, 1) := dk_42 (dk_at dksX3_factor_1 14 rfl rfl)
theorem dX3_factor_37 : decode cX3_factor 37 = .ok (.dup, 1) := dk_89 (dk_at dksX3_factor_1 15 rfl rfl)
theorem dX3_factor_38 : decode cX3_factor 38 = .ok (.getfield 140, 3) := dk_180 0 140 (dk_at dksX3_factor_1 16 rfl rfl)
theorem dX3_factor_41 : decode cX3_factor 41 = .ok (.iconst 1, 1) := dk_4 (dk_at dksX3_factor_1 19 rfl rfl)
theorem dX3_factor_42 : decode cX3_factor 42 = .ok (.iadd, 1) := dk_96 (dk_at dksX3_factor_1 20 rfl rfl)
theorem dX3_factor_43 : decode cX3_factor 43 = .ok (.putfield 140, 3) := dk_181 0 140 (dk_at dksX3_factor_1 21 rfl rfl)
theorem dX3_factor_46 : decode cX3_factor 46 = .ok (.aload_n 0, 1) := dk_42 (dk_at dksX3_factor_2 0 rfl rfl)
theorem dX3_factor_47 : decode cX3_factor 47 = .ok (.dup, 1) := dk_89 (dk_at dksX3_factor_2 1 rfl rfl)
theorem dX3_factor_48 : decode cX3_factor 48 = .ok (.getfield 74, 3) := dk_180 0 74 (dk_at dksX3_factor_2 2 rfl rfl)
theorem dX3_factor_51 : decode cX3_factor 51 = .ok (.iconst 1, 1) := dk_4 (dk_at dksX3_factor_2 5 rfl rfl)
theorem dX3_factor_52 : decode cX3_factor 52 = .ok (.iadd, 1) := dk_96 (dk_at dksX3_factor_2 6 rfl rfl)
theorem dX3_factor_53 : decode cX3_factor 53 = .ok (.putfield 74, 3) := dk_181 0 74 (dk_at dksX3_factor_2 7 rfl rfl)
theorem dX3_factor_56 : decode cX3_factor 56 = .ok (.aload_n 0, 1) := dk_42 (dk_at dksX3_factor_2 10 rfl rfl)
theorem dX3_factor_57 : decode cX3_factor 57 = .ok (.invokevirtual 143, 3) := dk_182 0 143 (dk_at dksX3_factor_2 11 rfl rfl)
theorem dX3_factor_60 : decode cX3_factor 60 = .ok (.aload_n 0, 1) := dk_42 (dk_at dksX3_factor_2 14 rfl rfl)
theorem dX3_factor_61 : decode cX3_factor 61 = .ok (.bipush 41, 2) := dk_16 41 (dk_at dksX3_factor_2 15 rfl rfl)
theorem dX3_factor_63 : decode cX3_factor 63 = .ok (.invokevirtual 146, 3) := dk_182 0 146 (dk_at dksX3_factor_2 17 rfl rfl)
theorem dX3_factor_66 : decode cX3_factor 66 = .ok (.aload_n 0, 1) := dk_42 (dk_at dksX3_factor_2 20 rfl rfl)
theorem dX3_factor_67 : decode cX3_factor 67 = .ok (.dup, 1) := dk_89 (dk_at dksX3_factor_2 21 rfl rfl)
theorem dX3_factor_68 : decode cX3_factor 68 = .ok (.getfield 140, 3) := dk_180 0 140 (dk_at dksX3_factor_3 0 rfl rfl)
theorem dX3_factor_71 : decode cX3_factor 71 = .ok (.iconst 1, 1) := dk_4 (dk_at dksX3_factor_3 3 rfl rfl)
theorem dX3_factor_72 : decode cX3_factor 72 = .ok (.isub, 1) := dk_100 (dk_at dksX3_factor_3 4 rfl rfl)
theorem dX3_factor_73 : decode cX3_factor 73 = .ok (.putfield 140, 3) := dk_181 0 140 (dk_at dksX3_factor_3 5 rfl rfl)
theorem dX3_factor_76 : decode cX3_factor 76 = .ok (.goto 92, 3) := dk_167 0 92 (dk_at dksX3_factor_3 8 rfl rfl)
theorem dX3_factor_79 : decode cX3_factor 79 = .ok (.aload_n 0, 1) := dk_42 (dk_at dksX3_factor_3 11 rfl rfl)
theorem dX3_factor_80 : decode cX3_factor 80 = .ok (.invokevirtual 101, 3) := dk_182 0 101 (dk_at dksX3_factor_3 12 rfl rfl)
theorem dX3_factor_83 : decode cX3_factor 83 = .ok (.ifCond .eq 19, 3) := dk_153 0 19 (dk_at dksX3_factor_3 15 rfl rfl)
theorem dX3_factor_86 : decode cX3_factor 86 = .ok (.aload_n 0, 1) := dk_42 (dk_at dksX3_factor_3 18 rfl rfl)
theorem dX3_factor_87 : decode cX3_factor 87 = .ok (.iconst 0, 1) := dk_3 (dk_at dksX3_factor_3 19 rfl rfl)
theorem dX3_factor_88 : decode cX3_factor 88 = .ok (.aload_n 0, 1) := dk_42 (dk_at dksX3_factor_3 20 rfl rfl)
theorem dX3_factor_89 : decode cX3_factor 89 = .ok (.lconst 0, 1) := dk_9 (dk_at dksX3_factor_3 21 rfl rfl)
theorem dX3_factor_90 : decode cX3_factor 90 = .ok (.ldc2_w 124, 3) := dk_20 0 124 (dk_at dksX3_factor_4 0 rfl rfl)
theorem dX3_factor_93 : decode cX3_factor 93 = .ok (.invokevirtual 126, 3) := dk_182 0 126 (dk_at dksX3_factor_4 3 rfl rfl)
theorem dX3_factor_96 : decode cX3_factor 96 = .ok (.invokevirtual 134, 3) := dk_182 0 134 (dk_at dksX3_factor_4 6 rfl rfl)
theorem dX3_factor_99 : decode cX3_factor 99 = .ok (.goto 69, 3) := dk_167 0 69 (dk_at dksX3_factor_4 9 rfl rfl)
theorem dX3_factor_102 : decode cX3_factor 102 = .ok (.aload_n 0, 1) := dk_42 (dk_at dksX3_factor_4 12 rfl rfl)
theorem dX3_factor_103 : decode cX3_factor 103 = .ok (.ldc 150, 2) := dk_18 150 (dk_at dksX3_factor_4 13 rfl rfl)
theorem dX3_factor_105 : decode cX3_factor 105 = .ok (.invokevirtual 152, 3) := dk_182 0 152 (dk_at dksX3_factor_4 15 rfl rfl)
theorem dX3_factor_108 : decode cX3_factor 108 = .ok (.ifCond .eq 12, 3) := dk_153 0 12 (dk_at dksX3_factor_4 18 rfl rfl)
theorem dX3_factor_111 : decode cX3_factor 111 = .ok (.aload_n 0, 1) := dk_42 (dk_at dksX3_factor_4 21 rfl rfl)
theorem dX3_factor_112 : decode cX3_factor 112 = .ok (.iconst 1, 1) := dk_4 (dk_at dksX3_factor_4 22 rfl rfl)
theorem dX3_factor_113 : decode cX3_factor 113 = .ok (.lconst 0, 1) := dk_9 (dk_at dksX3_factor_4 23 rfl rfl)
theorem dX3_factor_114 : decode cX3_factor 114 = .ok (.invokevirtual 134, 3) := dk_182 0 134 (dk_at dksX3_factor_5 0 rfl rfl)
theorem dX3_factor_117 : decode cX3_factor 117 = .ok (.goto 51, 3) := dk_167 0 51 (dk_at dksX3_factor_5 3 rfl rfl)
theorem dX3_factor_120 : decode cX3_factor 120 = .ok (.aload_n 0, 1) := dk_42 (dk_at dksX3_factor_5 6 rfl rfl)
theorem dX3_factor_121 : decode cX3_factor 121 = .ok (.ldc 155, 2) := dk_18 155 (dk_at dksX3_factor_5 7 rfl rfl)
theorem dX3_factor_123 : decode cX3_factor 123 = .ok (.invokevirtual 152, 3) := dk_182 0 152 (dk_at dksX3_factor_5 9 rfl rfl)
theorem dX3_factor_126 : decode cX3_factor 126 = .ok (.ifCond .eq 12, 3) := dk_153 0 12 (dk_at dksX3_factor_5 12 rfl rfl)
theorem dX3_factor_129 : decode cX3_factor 129 = .ok (.aload_n 0, 1) := dk_42 (dk_at dksX3_factor_5 15 rfl rfl)
theorem dX3_factor_130 : decode cX3_factor 130 = .ok (.iconst 1, 1) := dk_4 (dk_at dksX3_factor_5 16 rfl rfl)
theorem dX3_factor_131 : decode cX3_factor 131 = .ok (.lconst 1, 1) := dk_10 (dk_at dksX3_factor_5 17 rfl rfl)
theorem dX3_factor_132 : decode cX3_factor 132 = .ok (.invokevirtual 134, 3) := dk_182 0 134 (dk_at dksX3_factor_5 18 rfl rfl)
theorem dX3_factor_135 : decode cX3_factor 135 = .ok (.goto 33, 3) := dk_167 0 33 (dk_at dksX3_factor_5 21 rfl rfl)
theorem dX3_factor_138 : decode cX3_factor 138 = .ok (.aload_n 0, 1) := dk_42 (dk_at dksX3_factor_6 0 rfl rfl)
theorem dX3_factor_139 : decode cX3_factor 139 = .ok (.ldc 156, 2) := dk_18 156 (dk_at dksX3_factor_6 1 rfl rfl)
theorem dX3_factor_141 : decode cX3_factor 141 = .ok (.invokevirtual 152, 3) := dk_182 0 152 (dk_at dksX3_factor_6 3 rfl rfl)
theorem dX3_factor_144 : decode cX3_factor 144 = .ok (.ifCond .eq 14, 3) := dk_153 0 14 (dk_at dksX3_factor_6 6 rfl rfl)
theorem dX3_factor_147 : decode cX3_factor 147 = .ok (.aload_n 0, 1) := dk_42 (dk_at dksX3_factor_6 9 rfl rfl)
theorem dX3_factor_148 : decode cX3_factor 148 = .ok (.iconst 1, 1) := dk_4 (dk_at dksX3_factor_6 10 rfl rfl)
theorem dX3_factor_149 : decode cX3_factor 149 = .ok (.ldc2_w 129, 3) := dk_20 0 129 (dk_at dksX3_factor_6 11 rfl rfl)
theorem dX3_factor_152 : decode cX3_factor 152 = .ok (.invokevirtual 134, 3) := dk_182 0 134 (dk_at dksX3_factor_6 14 rfl rfl)
theorem dX3_factor_155 : decode cX3_factor 155 = .ok (.goto 13, 3) := dk_167 0 13 (dk_at dksX3_factor_6 17 rfl rfl)
theorem dX3_factor_158 : decode cX3_factor 158 = .ok (.aload_n 0, 1) := dk_42 (dk_at dksX3_factor_6 20 rfl rfl)
theorem dX3_factor_159 : decode cX3_factor 159 = .ok (.bipush (-2), 2) := dk_16 254 (dk_at dksX3_factor_6 21 rfl rfl)
theorem dX3_factor_161 : decode cX3_factor 161 = .ok (.aload_n 0, 1) := dk_42 (dk_at dksX3_factor_6 23 rfl rfl)
theorem dX3_factor_162 : decode cX3_factor 162 = .ok (.getfield 74, 3) := dk_180 0 74 (dk_at dksX3_factor_7 0 rfl rfl)
theorem dX3_factor_165 : decode cX3_factor 165 = .ok (.invokevirtual 97, 3) := dk_182 0 97 (dk_at dksX3_factor_7 3 rfl rfl)
theorem dX3_factor_168 : decode cX3_factor 168 = .ok (.return_, 1) := dk_177 (dk_at dksX3_factor_7 6 rfl rfl)
abbrev cX3_codes : ByteArray := prog_20_method_21_code
def yX3_codes : MethodName := ⟨RX3, "codes", "(IJ)V"⟩
def dkwX3_codes_2 : List UInt8 := [92, 47, 20, 0, 129, 97, 80, 177]
abbrev dktX3_codes_2 : List UInt8 := dkwX3_codes_2 ++ []
def dkwX3_codes_1 : List UInt8 := [180, 0, 13, 21, 4, 27, 133, 80, 42, 180, 0, 13, 21, 4, 4, 96, 32, 80, 42, 180, 0, 13, 16, 7]
abbrev dktX3_codes_1 : List UInt8 := dkwX3_codes_1 ++ dktX3_codes_2
def dkwX3_codes_0 : List UInt8 := [42, 180, 0, 68, 153, 0, 4, 177, 17, 0, 140, 42, 180, 0, 13, 16, 7, 47, 136, 96, 54, 4, 42]
abbrev dktX3_codes_0 : List UInt8 := dkwX3_codes_0 ++ dktX3_codes_1
theorem dksX3_codes_0 : cX3_codes.data.toList.drop 0 = dktX3_codes_0 := by decide +kernel
theorem dksX3_codes_1 : cX3_codes.data.toList.drop 23 = dktX3_codes_1 := dk_seg dksX3_codes_0 23 rfl rfl
theorem dksX3_codes_2 : cX3_codes.data.toList.drop 47 = dktX3_codes_2 := dk_seg dksX3_codes_1 24 rfl rfl
theorem dX3_codes_0 : decode cX3_codes 0 = .ok (.aload_n 0, 1) := dk_42 (dk_at dksX3_codes_0 0 rfl rfl)
theorem dX3_codes_1 : decode cX3_codes 1 = .ok (.getfield 68, 3) := dk_180 0 68 (dk_at dksX3_codes_0 1 rfl rfl)
theorem dX3_codes_4 : decode cX3_codes 4 = .ok (.ifCond .eq 4, 3) := dk_153 0 4 (dk_at dksX3_codes_0 4 rfl rfl)
theorem dX3_codes_7 : decode cX3_codes 7 = .ok (.return_, 1) := dk_177 (dk_at dksX3_codes_0 7 rfl rfl)
theorem dX3_codes_8 : decode cX3_codes 8 = .ok (.sipush 140, 3) := dk_17 0 140 (dk_at dksX3_codes_0 8 rfl rfl)
theorem dX3_codes_11 : decode cX3_codes 11 = .ok (.aload_n 0, 1) := dk_42 (dk_at dksX3_codes_0 11 rfl rfl)
theorem dX3_codes_12 : decode cX3_codes 12 = .ok (.getfield 13, 3) := dk_180 0 13 (dk_at dksX3_codes_0 12 rfl rfl)
theorem dX3_codes_15 : decode cX3_codes 15 = .ok (.bipush 7, 2) := dk_16 7 (dk_at dksX3_codes_0 15 rfl rfl)
theorem dX3_codes_17 : decode cX3_codes 17 = .ok (.laload, 1) := dk_47 (dk_at dksX3_codes_0 17 rfl rfl)
theorem dX3_codes_18 : decode cX3_codes 18 = .ok (.l2i, 1) := dk_136 (dk_at dksX3_codes_0 18 rfl rfl)
theorem dX3_codes_19 : decode cX3_codes 19 = .ok (.iadd, 1) := dk_96 (dk_at dksX3_codes_0 19 rfl rfl)
theorem dX3_codes_20 : decode cX3_codes 20 = .ok (.istore 4, 2) := dk_54 4 (dk_at dksX3_codes_0 20 rfl rfl)
theorem dX3_codes_22 : decode cX3_codes 22 = .ok (.aload_n 0, 1) := dk_42 (dk_at dksX3_codes_0 22 rfl rfl)
theorem dX3_codes_23 : decode cX3_codes 23 = .ok (.getfield 13, 3) := dk_180 0 13 (dk_at dksX3_codes_1 0 rfl rfl)
theorem dX3_codes_26 : decode cX3_codes 26 = .ok (.iload 4, 2) := dk_21 4 (dk_at dksX3_codes_1 3 rfl rfl)
theorem dX3_codes_28 : decode cX3_codes 28 = .ok (.iload_n 1, 1) := dk_27 (dk_at dksX3_codes_1 5 rfl rfl)
theorem dX3_codes_29 : decode cX3_codes 29 = .ok (.i2l, 1) := dk_133 (dk_at dksX3_codes_1 6 rfl rfl)
theorem dX3_codes_30 : decode cX3_codes 30 = .ok (.lastore, 1) := dk_80 (dk_at dksX3_codes_1 7 rfl rfl)
theorem dX3_codes_31 : decode cX3_codes 31 = .ok (.aload_n 0, 1) := dk_42 (dk_at dksX3_codes_1 8 rfl rfl)
theorem dX3_codes_32 : decode cX3_codes 32 = .ok (.getfield 13, 3) := dk_180 0 13 (dk_at dksX3_codes_1 9 rfl rfl)
theorem dX3_codes_35 : decode cX3_codes 35 = .ok (.iload 4, 2) := dk_21 4 (dk_at dksX3_codes_1 12 rfl rfl)
theorem dX3_codes_37 : decode cX3_codes 37 = .ok (.iconst 1, 1) := dk_4 (dk_at dksX3_codes_1 14 rfl rfl)
theorem dX3_codes_38 : decode cX3_codes 38 = .ok (.iadd, 1) := dk_96 (dk_at dksX3_codes_1 15 rfl rfl)
theorem dX3_codes_39 : decode cX3_codes 39 = .ok (.lload_n 2, 1) := dk_32 (dk_at dksX3_codes_1 16 rfl rfl)
theorem dX3_codes_40 : decode cX3_codes 40 = .ok (.lastore, 1) := dk_80 (dk_at dksX3_codes_1 17 rfl rfl)
theorem dX3_codes_41 : decode cX3_codes 41 = .ok (.aload_n 0, 1) := dk_42 (dk_at dksX3_codes_1 18 rfl rfl)
theorem dX3_codes_42 : decode cX3_codes 42 = .ok (.getfield 13, 3) := dk_180 0 13 (dk_at dksX3_codes_1 19 rfl rfl)
theorem dX3_codes_45 : decode cX3_codes 45 = .ok (.bipush 7, 2) := dk_16 7 (dk_at dksX3_codes_1 22 rfl rfl)
theorem dX3_codes_47 : decode cX3_codes 47 = .ok (.dup2, 1) := dk_92 (dk_at dksX3_codes_2 0 rfl rfl)
theorem dX3_codes_48 : decode cX3_codes 48 = .ok (.laload, 1) := dk_47 (dk_at dksX3_codes_2 1 rfl rfl)
theorem dX3_codes_49 : decode cX3_codes 49 = .ok (.ldc2_w 129, 3) := dk_20 0 129 (dk_at dksX3_codes_2 2 rfl rfl)
theorem dX3_codes_52 : decode cX3_codes 52 = .ok (.ladd, 1) := dk_97 (dk_at dksX3_codes_2 5 rfl rfl)
theorem dX3_codes_53 : decode cX3_codes 53 = .ok (.lastore, 1) := dk_80 (dk_at dksX3_codes_2 6 rfl rfl)
theorem dX3_codes_54 : decode cX3_codes 54 = .ok (.return_, 1) := dk_177 (dk_at dksX3_codes_2 7 rfl rfl)
abbrev cX3_change : ByteArray := prog_20_method_8_code
def yX3_change : MethodName := ⟨RX3, "change", "()V"⟩
def dkwX3_change_3 : List UInt8 := [181, 0, 58, 177]
abbrev dktX3_change_3 : List UInt8 := dkwX3_change_3 ++ []
def dkwX3_change_2 : List UInt8 := [42, 42, 180, 0, 58, 16, 8, 162, 0, 12, 42, 180, 0, 58, 4, 96, 167, 0, 7, 42, 180, 0, 58]
abbrev dktX3_change_2 : List UInt8 := dkwX3_change_2 ++ dktX3_change_3
def dkwX3_change_1 : List UInt8 := [17, 6, 214, 27, 104, 28, 96, 42, 28, 182, 0, 54, 80, 132, 2, 1, 167, 255, 229, 42, 27, 181, 0, 51]
abbrev dktX3_change_1 : List UInt8 := dkwX3_change_1 ++ dktX3_change_2
def dkwX3_change_0 : List UInt8 := [42, 180, 0, 51, 4, 96, 16, 9, 112, 60, 3, 61, 28, 17, 6, 214, 162, 0, 26, 42, 180, 0, 7]
abbrev dktX3_change_0 : List UInt8 := dkwX3_change_0 ++ dktX3_change_1
theorem dksX3_change_0 : cX3_change.data.toList.drop 0 = dktX3_change_0 := by decide +kernel
theorem dksX3_change_1 : cX3_change.data.toList.drop 23 = dktX3_change_1 := dk_seg dksX3_change_0 23 rfl rfl
theorem dksX3_change_2 : cX3_change.data.toList.drop 47 = dktX3_change_2 := dk_seg dksX3_change_1 24 rfl rfl
theorem dksX3_change_3 : cX3_change.data.toList.drop 70 = dktX3_change_3 := dk_seg dksX3_change_2 23 rfl rfl
theorem dX3_change_0 : decode cX3_change 0 = .ok (.aload_n 0, 1) := dk_42 (dk_at dksX3_change_0 0 rfl rfl)
theorem dX3_change_1 : decode cX3_change 1 = .ok (.getfield 51, 3) := dk_180 0 51 (dk_at dksX3_change_0 1 rfl rfl)
theorem dX3_change_4 : decode cX3_change 4 = .ok (.iconst 1, 1) := dk_4 (dk_at dksX3_change_0 4 rfl rfl)
theorem dX3_change_5 : decode cX3_change 5 = .ok (.iadd, 1) := dk_96 (dk_at dksX3_change_0 5 rfl rfl)
theorem dX3_change_6 : decode cX3_change 6 = .ok (.bipush 9, 2) := dk_16 9 (dk_at dksX3_change_0 6 rfl rfl)
theorem dX3_change_8 : decode cX3_change 8 = .ok (.irem, 1) := dk_112 (dk_at dksX3_change_0 8 rfl rfl)
theorem dX3_change_9 : decode cX3_change 9 = .ok (.istore_n 1, 1) := dk_60 (dk_at dksX3_change_0 9 rfl rfl)
theorem dX3_change_10 : decode cX3_change 10 = .ok (.iconst 0, 1) := dk_3 (dk_at dksX3_change_0 10 rfl rfl)
theorem dX3_change_11 : decode cX3_change 11 = .ok (.istore_n 2, 1) := dk_61 (dk_at dksX3_change_0 11 rfl rfl)
theorem dX3_change_12 : decode cX3_change 12 = .ok (.iload_n 2, 1) := dk_28 (dk_at dksX3_change_0 12 rfl rfl)
theorem dX3_change_13 : decode cX3_change 13 = .ok (.sipush 1750, 3) := dk_17 6 214 (dk_at dksX3_change_0 13 rfl rfl)
theorem dX3_change_16 : decode cX3_change 16 = .ok (.if_icmp .ge 26, 3) := dk_162 0 26 (dk_at dksX3_change_0 16 rfl rfl)
theorem dX3_change_19 : decode cX3_change 19 = .ok (.aload_n 0, 1) := dk_42 (dk_at dksX3_change_0 19 rfl rfl)
theorem dX3_change_20 : decode cX3_change 20 = .ok (.getfield 7, 3) := dk_180 0 7 (dk_at dksX3_change_0 20 rfl rfl)
theorem dX3_change_23 : decode cX3_change 23 = .ok (.sipush 1750, 3) := dk_17 6 214 (dk_at dksX3_change_1 0 rfl rfl)
theorem dX3_change_26 : decode cX3_change 26 = .ok (.iload_n 1, 1) := dk_27 (dk_at dksX3_change_1 3 rfl rfl)
theorem dX3_change_27 : decode cX3_change 27 = .ok (.imul, 1) := dk_104 (dk_at dksX3_change_1 4 rfl rfl)
theorem dX3_change_28 : decode cX3_change 28 = .ok (.iload_n 2, 1) := dk_28 (dk_at dksX3_change_1 5 rfl rfl)
theorem dX3_change_29 : decode cX3_change 29 = .ok (.iadd, 1) := dk_96 (dk_at dksX3_change_1 6 rfl rfl)
theorem dX3_change_30 : decode cX3_change 30 = .ok (.aload_n 0, 1) := dk_42 (dk_at dksX3_change_1 7 rfl rfl)
theorem dX3_change_31 : decode cX3_change 31 = .ok (.iload_n 2, 1) := dk_28 (dk_at dksX3_change_1 8 rfl rfl)
theorem dX3_change_32 : decode cX3_change 32 = .ok (.invokevirtual 54, 3) := dk_182 0 54 (dk_at dksX3_change_1 9 rfl rfl)
theorem dX3_change_35 : decode cX3_change 35 = .ok (.lastore, 1) := dk_80 (dk_at dksX3_change_1 12 rfl rfl)
theorem dX3_change_36 : decode cX3_change 36 = .ok (.iinc 2 1, 3) := dk_132 2 1 (dk_at dksX3_change_1 13 rfl rfl)
theorem dX3_change_39 : decode cX3_change 39 = .ok (.goto (-27), 3) := dk_167 255 229 (dk_at dksX3_change_1 16 rfl rfl)
theorem dX3_change_42 : decode cX3_change 42 = .ok (.aload_n 0, 1) := dk_42 (dk_at dksX3_change_1 19 rfl rfl)
theorem dX3_change_43 : decode cX3_change 43 = .ok (.iload_n 1, 1) := dk_27 (dk_at dksX3_change_1 20 rfl rfl)
theorem dX3_change_44 : decode cX3_change 44 = .ok (.putfield 51, 3) := dk_181 0 51 (dk_at dksX3_change_1 21 rfl rfl)
theorem dX3_change_47 : decode cX3_change 47 = .ok (.aload_n 0, 1) := dk_42 (dk_at dksX3_change_2 0 rfl rfl)
theorem dX3_change_48 : decode cX3_change 48 = .ok (.aload_n 0, 1) := dk_42 (dk_at dksX3_change_2 1 rfl rfl)
theorem dX3_change_49 : decode cX3_change 49 = .ok (.getfield 58, 3) := dk_180 0 58 (dk_at dksX3_change_2 2 rfl rfl)
theorem dX3_change_52 : decode cX3_change 52 = .ok (.bipush 8, 2) := dk_16 8 (dk_at dksX3_change_2 5 rfl rfl)
theorem dX3_change_54 : decode cX3_change 54 = .ok (.if_icmp .ge 12, 3) := dk_162 0 12 (dk_at dksX3_change_2 7 rfl rfl)
theorem dX3_change_57 : decode cX3_change 57 = .ok (.aload_n 0, 1) := dk_42 (dk_at dksX3_change_2 10 rfl rfl)
theorem dX3_change_58 : decode cX3_change 58 = .ok (.getfield 58, 3) := dk_180 0 58 (dk_at dksX3_change_2 11 rfl rfl)
theorem dX3_change_61 : decode cX3_change 61 = .ok (.iconst 1, 1) := dk_4 (dk_at dksX3_change_2 14 rfl rfl)
theorem dX3_change_62 : decode cX3_change 62 = .ok (.iadd, 1) := dk_96 (dk_at dksX3_change_2 15 rfl rfl)
theorem dX3_change_63 : decode cX3_change 63 = .ok (.goto 7, 3) := dk_167 0 7 (dk_at dksX3_change_2 16 rfl rfl)
theorem dX3_change_66 : decode cX3_change 66 = .ok (.aload_n 0, 1) := dk_42 (dk_at dksX3_change_2 19 rfl rfl)
theorem dX3_change_67 : decode cX3_change 67 = .ok (.getfield 58, 3) := dk_180 0 58 (dk_at dksX3_change_2 20 rfl rfl)
theorem dX3_change_70 : decode cX3_change 70 = .ok (.putfield 58, 3) := dk_181 0 58 (dk_at dksX3_change_3 0 rfl rfl)
theorem dX3_change_73 : decode cX3_change 73 = .ok (.return_, 1) := dk_177 (dk_at dksX3_change_3 3 rfl rfl)
abbrev cX3_get : ByteArray := prog_20_method_5_code
def yX3_get : MethodName := ⟨RX3, "get", "(I)J"⟩
def dkwX3_get_0 : List UInt8 := [42, 180, 0, 7, 17, 6, 214, 42, 180, 0, 51, 104, 27, 96, 47, 173]
abbrev dktX3_get_0 : List UInt8 := dkwX3_get_0 ++ []
theorem dksX3_get_0 : cX3_get.data.toList.drop 0 = dktX3_get_0 := by decide +kernel
theorem dX3_get_0 : decode cX3_get 0 = .ok (.aload_n 0, 1) := dk_42 (dk_at dksX3_get_0 0 rfl rfl)
theorem dX3_get_1 : decode cX3_get 1 = .ok (.getfield 7, 3) := dk_180 0 7 (dk_at dksX3_get_0 1 rfl rfl)
theorem dX3_get_4 : decode cX3_get 4 = .ok (.sipush 1750, 3) := dk_17 6 214 (dk_at dksX3_get_0 4 rfl rfl)
theorem dX3_get_7 : decode cX3_get 7 = .ok (.aload_n 0, 1) := dk_42 (dk_at dksX3_get_0 7 rfl rfl)
theorem dX3_get_8 : decode cX3_get 8 = .ok (.getfield 51, 3) := dk_180 0 51 (dk_at dksX3_get_0 8 rfl rfl)
theorem dX3_get_11 : decode cX3_get 11 = .ok (.imul, 1) := dk_104 (dk_at dksX3_get_0 11 rfl rfl)
theorem dX3_get_12 : decode cX3_get 12 = .ok (.iload_n 1, 1) := dk_27 (dk_at dksX3_get_0 12 rfl rfl)
theorem dX3_get_13 : decode cX3_get 13 = .ok (.iadd, 1) := dk_96 (dk_at dksX3_get_0 13 rfl rfl)
theorem dX3_get_14 : decode cX3_get 14 = .ok (.laload, 1) := dk_47 (dk_at dksX3_get_0 14 rfl rfl)
theorem dX3_get_15 : decode cX3_get 15 = .ok (.lreturn, 1) := dk_173 (dk_at dksX3_get_0 15 rfl rfl)
abbrev cX3_put : ByteArray := prog_20_method_7_code
def yX3_put : MethodName := ⟨RX3, "put", "(IJ)V"⟩
def dkwX3_put_0 : List UInt8 := [42, 180, 0, 7, 17, 6, 214, 42, 180, 0, 51, 104, 27, 96, 32, 80, 177]
abbrev dktX3_put_0 : List UInt8 := dkwX3_put_0 ++ []
theorem dksX3_put_0 : cX3_put.data.toList.drop 0 = dktX3_put_0 := by decide +kernel
theorem dX3_put_0 : decode cX3_put 0 = .ok (.aload_n 0, 1) := dk_42 (dk_at dksX3_put_0 0 rfl rfl)
theorem dX3_put_1 : decode cX3_put 1 = .ok (.getfield 7, 3) := dk_180 0 7 (dk_at dksX3_put_0 1 rfl rfl)
theorem dX3_put_4 : decode cX3_put 4 = .ok (.sipush 1750, 3) := dk_17 6 214 (dk_at dksX3_put_0 4 rfl rfl)
theorem dX3_put_7 : decode cX3_put 7 = .ok (.aload_n 0, 1) := dk_42 (dk_at dksX3_put_0 7 rfl rfl)
theorem dX3_put_8 : decode cX3_put 8 = .ok (.getfield 51, 3) := dk_180 0 51 (dk_at dksX3_put_0 8 rfl rfl)
theorem dX3_put_11 : decode cX3_put 11 = .ok (.imul, 1) := dk_104 (dk_at dksX3_put_0 11 rfl rfl)
theorem dX3_put_12 : decode cX3_put 12 = .ok (.iload_n 1, 1) := dk_27 (dk_at dksX3_put_0 12 rfl rfl)
theorem dX3_put_13 : decode cX3_put 13 = .ok (.iadd, 1) := dk_96 (dk_at dksX3_put_0 13 rfl rfl)
theorem dX3_put_14 : decode cX3_put 14 = .ok (.lload_n 2, 1) := dk_32 (dk_at dksX3_put_0 14 rfl rfl)
theorem dX3_put_15 : decode cX3_put 15 = .ok (.lastore, 1) := dk_80 (dk_at dksX3_put_0 15 rfl rfl)
theorem dX3_put_16 : decode cX3_put 16 = .ok (.return_, 1) := dk_177 (dk_at dksX3_put_0 16 rfl rfl)
abbrev cX3_num : ByteArray := prog_20_method_6_code
def yX3_num : MethodName := ⟨RX3, "num", "(I)I"⟩
def dkwX3_num_0 : List UInt8 := [42, 27, 182, 0, 54, 136, 172]
abbrev dktX3_num_0 : List UInt8 := dkwX3_num_0 ++ []
theorem dksX3_num_0 : cX3_num.data.toList.drop 0 = dktX3_num_0 := by decide +kernel
theorem dX3_num_0 : decode cX3_num 0 = .ok (.aload_n 0, 1) := dk_42 (dk_at dksX3_num_0 0 rfl rfl)
theorem dX3_num_1 : decode cX3_num 1 = .ok (.iload_n 1, 1) := dk_27 (dk_at dksX3_num_0 1 rfl rfl)
theorem dX3_num_2 : decode cX3_num 2 = .ok (.invokevirtual 54, 3) := dk_182 0 54 (dk_at dksX3_num_0 2 rfl rfl)
theorem dX3_num_5 : decode cX3_num 5 = .ok (.l2i, 1) := dk_136 (dk_at dksX3_num_0 5 rfl rfl)
theorem dX3_num_6 : decode cX3_num 6 = .ok (.ireturn, 1) := dk_172 (dk_at dksX3_num_0 6 rfl rfl)
abbrev cX3_errorOffset : ByteArray := prog_20_method_33_code
def yX3_errorOffset : MethodName := ⟨RX3, "errorOffset", "()I"⟩
def dkwX3_errorOffset_0 : List UInt8 := [42, 3, 181, 0, 48, 42, 180, 0, 23, 172]
abbrev dktX3_errorOffset_0 : List UInt8 := dkwX3_errorOffset_0 ++ []
theorem dksX3_errorOffset_0 : cX3_errorOffset.data.toList.drop 0 = dktX3_errorOffset_0 := by decide +kernel
theorem dX3_errorOffset_0 : decode cX3_errorOffset 0 = .ok (.aload_n 0, 1) := dk_42 (dk_at dksX3_errorOffset_0 0 rfl rfl)
theorem dX3_errorOffset_1 : decode cX3_errorOffset 1 = .ok (.iconst 0, 1) := dk_3 (dk_at dksX3_errorOffset_0 1 rfl rfl)
theorem dX3_errorOffset_2 : decode cX3_errorOffset 2 = .ok (.putfield 48, 3) := dk_181 0 48 (dk_at dksX3_errorOffset_0 2 rfl rfl)
theorem dX3_errorOffset_5 : decode cX3_errorOffset 5 = .ok (.aload_n 0, 1) := dk_42 (dk_at dksX3_errorOffset_0 5 rfl rfl)
theorem dX3_errorOffset_6 : decode cX3_errorOffset 6 = .ok (.getfield 23, 3) := dk_180 0 23 (dk_at dksX3_errorOffset_0 6 rfl rfl)
theorem dX3_errorOffset_9 : decode cX3_errorOffset 9 = .ok (.ireturn, 1) := dk_172 (dk_at dksX3_errorOffset_0 9 rfl rfl)
abbrev cX3_nodeCount : ByteArray := prog_20_method_56_code
def yX3_nodeCount : MethodName := ⟨RX3, "nodeCount", "()I"⟩
def dkwX3_nodeCount_0 : List UInt8 := [42, 3, 181, 0, 48, 42, 6, 182, 0, 220, 172]
abbrev dktX3_nodeCount_0 : List UInt8 := dkwX3_nodeCount_0 ++ []
theorem dksX3_nodeCount_0 : cX3_nodeCount.data.toList.drop 0 = dktX3_nodeCount_0 := by decide +kernel
theorem dX3_nodeCount_0 : decode cX3_nodeCount 0 = .ok (.aload_n 0, 1) := dk_42 (dk_at dksX3_nodeCount_0 0 rfl rfl)
theorem dX3_nodeCount_1 : decode cX3_nodeCount 1 = .ok (.iconst 0, 1) := dk_3 (dk_at dksX3_nodeCount_0 1 rfl rfl)
theorem dX3_nodeCount_2 : decode cX3_nodeCount 2 = .ok (.putfield 48, 3) := dk_181 0 48 (dk_at dksX3_nodeCount_0 2 rfl rfl)
theorem dX3_nodeCount_5 : decode cX3_nodeCount 5 = .ok (.aload_n 0, 1) := dk_42 (dk_at dksX3_nodeCount_0 5 rfl rfl)
theorem dX3_nodeCount_6 : decode cX3_nodeCount 6 = .ok (.iconst 3, 1) := dk_6 (dk_at dksX3_nodeCount_0 6 rfl rfl)
theorem dX3_nodeCount_7 : decode cX3_nodeCount 7 = .ok (.invokevirtual 220, 3) := dk_182 0 220 (dk_at dksX3_nodeCount_0 7 rfl rfl)
theorem dX3_nodeCount_10 : decode cX3_nodeCount 10 = .ok (.ireturn, 1) := dk_172 (dk_at dksX3_nodeCount_0 10 rfl rfl)
abbrev cX3_groupCount : ByteArray := prog_20_method_57_code
def yX3_groupCount : MethodName := ⟨RX3, "groupCount", "()I"⟩
def dkwX3_groupCount_0 : List UInt8 := [42, 3, 181, 0, 48, 42, 7, 182, 0, 220, 172]
abbrev dktX3_groupCount_0 : List UInt8 := dkwX3_groupCount_0 ++ []
theorem dksX3_groupCount_0 : cX3_groupCount.data.toList.drop 0 = dktX3_groupCount_0 := by decide +kernel
theorem dX3_groupCount_0 : decode cX3_groupCount 0 = .ok (.aload_n 0, 1) := dk_42 (dk_at dksX3_groupCount_0 0 rfl rfl)
theorem dX3_groupCount_1 : decode cX3_groupCount 1 = .ok (.iconst 0, 1) := dk_3 (dk_at dksX3_groupCount_0 1 rfl rfl)
theorem dX3_groupCount_2 : decode cX3_groupCount 2 = .ok (.putfield 48, 3) := dk_181 0 48 (dk_at dksX3_groupCount_0 2 rfl rfl)
theorem dX3_groupCount_5 : decode cX3_groupCount 5 = .ok (.aload_n 0, 1) := dk_42 (dk_at dksX3_groupCount_0 5 rfl rfl)
theorem dX3_groupCount_6 : decode cX3_groupCount 6 = .ok (.iconst 4, 1) := dk_7 (dk_at dksX3_groupCount_0 6 rfl rfl)
theorem dX3_groupCount_7 : decode cX3_groupCount 7 = .ok (.invokevirtual 220, 3) := dk_182 0 220 (dk_at dksX3_groupCount_0 7 rfl rfl)
theorem dX3_groupCount_10 : decode cX3_groupCount 10 = .ok (.ireturn, 1) := dk_172 (dk_at dksX3_groupCount_0 10 rfl rfl)
abbrev cX3_memberCount : ByteArray := prog_20_method_58_code
def yX3_memberCount : MethodName := ⟨RX3, "memberCount", "()I"⟩
def dkwX3_memberCount_0 : List UInt8 := [42, 3, 181, 0, 48, 42, 8, 182, 0, 220, 172]
abbrev dktX3_memberCount_0 : List UInt8 := dkwX3_memberCount_0 ++ []
theorem dksX3_memberCount_0 : cX3_memberCount.data.toList.drop 0 = dktX3_memberCount_0 := by decide +kernel
theorem dX3_memberCount_0 : decode cX3_memberCount 0 = .ok (.aload_n 0, 1) := dk_42 (dk_at dksX3_memberCount_0 0 rfl rfl)
theorem dX3_memberCount_1 : decode cX3_memberCount 1 = .ok (.iconst 0, 1) := dk_3 (dk_at dksX3_memberCount_0 1 rfl rfl)
theorem dX3_memberCount_2 : decode cX3_memberCount 2 = .ok (.putfield 48, 3) := dk_181 0 48 (dk_at dksX3_memberCount_0 2 rfl rfl)
theorem dX3_memberCount_5 : decode cX3_memberCount 5 = .ok (.aload_n 0, 1) := dk_42 (dk_at dksX3_memberCount_0 5 rfl rfl)
theorem dX3_memberCount_6 : decode cX3_memberCount 6 = .ok (.iconst 5, 1) := dk_8 (dk_at dksX3_memberCount_0 6 rfl rfl)
theorem dX3_memberCount_7 : decode cX3_memberCount 7 = .ok (.invokevirtual 220, 3) := dk_182 0 220 (dk_at dksX3_memberCount_0 7 rfl rfl)
theorem dX3_memberCount_10 : decode cX3_memberCount 10 = .ok (.ireturn, 1) := dk_172 (dk_at dksX3_memberCount_0 10 rfl rfl)
abbrev cX3_stageCount : ByteArray := prog_20_method_59_code
def yX3_stageCount : MethodName := ⟨RX3, "stageCount", "()I"⟩
def dkwX3_stageCount_0 : List UInt8 := [42, 3, 181, 0, 48, 42, 182, 1, 12, 172]
abbrev dktX3_stageCount_0 : List UInt8 := dkwX3_stageCount_0 ++ []
theorem dksX3_stageCount_0 : cX3_stageCount.data.toList.drop 0 = dktX3_stageCount_0 := by decide +kernel
theorem dX3_stageCount_0 : decode cX3_stageCount 0 = .ok (.aload_n 0, 1) := dk_42 (dk_at dksX3_stageCount_0 0 rfl rfl)
theorem dX3_stageCount_1 : decode cX3_stageCount 1 = .ok (.iconst 0, 1) := dk_3 (dk_at dksX3_stageCount_0 1 rfl rfl)
theorem dX3_stageCount_2 : decode cX3_stageCount 2 = .ok (.putfield 48, 3) := dk_181 0 48 (dk_at dksX3_stageCount_0 2 rfl rfl)
theorem dX3_stageCount_5 : decode cX3_stageCount 5 = .ok (.aload_n 0, 1) := dk_42 (dk_at dksX3_stageCount_0 5 rfl rfl)
theorem dX3_stageCount_6 : decode cX3_stageCount 6 = .ok (.invokevirtual 268, 3) := dk_182 1 12 (dk_at dksX3_stageCount_0 6 rfl rfl)
theorem dX3_stageCount_9 : decode cX3_stageCount 9 = .ok (.ireturn, 1) := dk_172 (dk_at dksX3_stageCount_0 9 rfl rfl)
abbrev cX3_stages : ByteArray := prog_20_method_39_code
def yX3_stages : MethodName := ⟨RX3, "stages", "()I"⟩
def dkwX3_stages_1 : List UInt8 := [104, 96, 182, 0, 54, 184, 0, 238, 64, 132, 3, 1, 167, 255, 226, 31, 136, 4, 96, 172]
abbrev dktX3_stages_1 : List UInt8 := dkwX3_stages_1 ++ []
def dkwX3_stages_0 : List UInt8 := [20, 0, 236, 64, 3, 62, 29, 133, 42, 16, 6, 182, 0, 54, 148, 156, 0, 24, 31, 42, 16, 90, 7, 29]
abbrev dktX3_stages_0 : List UInt8 := dkwX3_stages_0 ++ dktX3_stages_1
theorem dksX3_stages_0 : cX3_stages.data.toList.drop 0 = dktX3_stages_0 := by decide +kernel
theorem dksX3_stages_1 : cX3_stages.data.toList.drop 24 = dktX3_stages_1 := dk_seg dksX3_stages_0 24 rfl rfl
theorem dX3_stages_0 : decode cX3_stages 0 = .ok (.ldc2_w 236, 3) := dk_20 0 236 (dk_at dksX3_stages_0 0 rfl rfl)
theorem dX3_stages_3 : decode cX3_stages 3 = .ok (.lstore_n 1, 1) := dk_64 (dk_at dksX3_stages_0 3 rfl rfl)
theorem dX3_stages_4 : decode cX3_stages 4 = .ok (.iconst 0, 1) := dk_3 (dk_at dksX3_stages_0 4 rfl rfl)
theorem dX3_stages_5 : decode cX3_stages 5 = .ok (.istore_n 3, 1) := dk_62 (dk_at dksX3_stages_0 5 rfl rfl)
theorem dX3_stages_6 : decode cX3_stages 6 = .ok (.iload_n 3, 1) := dk_29 (dk_at dksX3_stages_0 6 rfl rfl)
theorem dX3_stages_7 : decode cX3_stages 7 = .ok (.i2l, 1) := dk_133 (dk_at dksX3_stages_0 7 rfl rfl)
theorem dX3_stages_8 : decode cX3_stages 8 = .ok (.aload_n 0, 1) := dk_42 (dk_at dksX3_stages_0 8 rfl rfl)
theorem dX3_stages_9 : decode cX3_stages 9 = .ok (.bipush 6, 2) := dk_16 6 (dk_at dksX3_stages_0 9 rfl rfl)
theorem dX3_stages_11 : decode cX3_stages 11 = .ok (.invokevirtual 54, 3) := dk_182 0 54 (dk_at dksX3_stages_0 11 rfl rfl)
theorem dX3_stages_14 : decode cX3_stages 14 = .ok (.lcmp, 1) := dk_148 (dk_at dksX3_stages_0 14 rfl rfl)
theorem dX3_stages_15 : decode cX3_stages 15 = .ok (.ifCond .ge 24, 3) := dk_156 0 24 (dk_at dksX3_stages_0 15 rfl rfl)
theorem dX3_stages_18 : decode cX3_stages 18 = .ok (.lload_n 1, 1) := dk_31 (dk_at dksX3_stages_0 18 rfl rfl)
theorem dX3_stages_19 : decode cX3_stages 19 = .ok (.aload_n 0, 1) := dk_42 (dk_at dksX3_stages_0 19 rfl rfl)
theorem dX3_stages_20 : decode cX3_stages 20 = .ok (.bipush 90, 2) := dk_16 90 (dk_at dksX3_stages_0 20 rfl rfl)
theorem dX3_stages_22 : decode cX3_stages 22 = .ok (.iconst 4, 1) := dk_7 (dk_at dksX3_stages_0 22 rfl rfl)
theorem dX3_stages_23 : decode cX3_stages 23 = .ok (.iload_n 3, 1) := dk_29 (dk_at dksX3_stages_0 23 rfl rfl)
theorem dX3_stages_24 : decode cX3_stages 24 = .ok (.imul, 1) := dk_104 (dk_at dksX3_stages_1 0 rfl rfl)
theorem dX3_stages_25 : decode cX3_stages 25 = .ok (.iadd, 1) := dk_96 (dk_at dksX3_stages_1 1 rfl rfl)
theorem dX3_stages_26 : decode cX3_stages 26 = .ok (.invokevirtual 54, 3) := dk_182 0 54 (dk_at dksX3_stages_1 2 rfl rfl)
theorem dX3_stages_29 : decode cX3_stages 29 = .ok (.invokestatic 238, 3) := dk_184 0 238 (dk_at dksX3_stages_1 5 rfl rfl)
theorem dX3_stages_32 : decode cX3_stages 32 = .ok (.lstore_n 1, 1) := dk_64 (dk_at dksX3_stages_1 8 rfl rfl)
theorem dX3_stages_33 : decode cX3_stages 33 = .ok (.iinc 3 1, 3) := dk_132 3 1 (dk_at dksX3_stages_1 9 rfl rfl)
theorem dX3_stages_36 : decode cX3_stages 36 = .ok (.goto (-30), 3) := dk_167 255 226 (dk_at dksX3_stages_1 12 rfl rfl)
theorem dX3_stages_39 : decode cX3_stages 39 = .ok (.lload_n 1, 1) := dk_31 (dk_at dksX3_stages_1 15 rfl rfl)
theorem dX3_stages_40 : decode cX3_stages 40 = .ok (.l2i, 1) := dk_136 (dk_at dksX3_stages_1 16 rfl rfl)
theorem dX3_stages_41 : decode cX3_stages 41 = .ok (.iconst 1, 1) := dk_4 (dk_at dksX3_stages_1 17 rfl rfl)
theorem dX3_stages_42 : decode cX3_stages 42 = .ok (.iadd, 1) := dk_96 (dk_at dksX3_stages_1 18 rfl rfl)
theorem dX3_stages_43 : decode cX3_stages 43 = .ok (.ireturn, 1) := dk_172 (dk_at dksX3_stages_1 19 rfl rfl)
abbrev cX3_weight : ByteArray := prog_20_method_60_code
def yX3_weight : MethodName := ⟨RX3, "weight", "()I"⟩
def dkwX3_weight_0 : List UInt8 := [42, 3, 181, 0, 48, 42, 182, 1, 50, 136, 172]
abbrev dktX3_weight_0 : List UInt8 := dkwX3_weight_0 ++ []
theorem dksX3_weight_0 : cX3_weight.data.toList.drop 0 = dktX3_weight_0 := by decide +kernel
theorem dX3_weight_0 : decode cX3_weight 0 = .ok (.aload_n 0, 1) := dk_42 (dk_at dksX3_weight_0 0 rfl rfl)
theorem dX3_weight_1 : decode cX3_weight 1 = .ok (.iconst 0, 1) := dk_3 (dk_at dksX3_weight_0 1 rfl rfl)
theorem dX3_weight_2 : decode cX3_weight 2 = .ok (.putfield 48, 3) := dk_181 0 48 (dk_at dksX3_weight_0 2 rfl rfl)
theorem dX3_weight_5 : decode cX3_weight 5 = .ok (.aload_n 0, 1) := dk_42 (dk_at dksX3_weight_0 5 rfl rfl)
theorem dX3_weight_6 : decode cX3_weight 6 = .ok (.invokevirtual 306, 3) := dk_182 1 50 (dk_at dksX3_weight_0 6 rfl rfl)
theorem dX3_weight_9 : decode cX3_weight 9 = .ok (.l2i, 1) := dk_136 (dk_at dksX3_weight_0 9 rfl rfl)
theorem dX3_weight_10 : decode cX3_weight 10 = .ok (.ireturn, 1) := dk_172 (dk_at dksX3_weight_0 10 rfl rfl)
abbrev cX3_weighs : ByteArray := prog_20_method_40_code
def yX3_weighs : MethodName := ⟨RX3, "weighs", "()J"⟩
def dkwX3_weighs_1 : List UInt8 := [182, 0, 244, 105, 97, 64, 132, 3, 1, 167, 255, 228, 31, 173]
abbrev dktX3_weighs_1 : List UInt8 := dkwX3_weighs_1 ++ []
def dkwX3_weighs_0 : List UInt8 := [9, 64, 3, 62, 29, 133, 42, 8, 182, 0, 54, 148, 156, 0, 23, 31, 42, 29, 182, 0, 241, 42, 29]
abbrev dktX3_weighs_0 : List UInt8 := dkwX3_weighs_0 ++ dktX3_weighs_1
theorem dksX3_weighs_0 : cX3_weighs.data.toList.drop 0 = dktX3_weighs_0 := by decide +kernel
theorem dksX3_weighs_1 : cX3_weighs.data.toList.drop 23 = dktX3_weighs_1 := dk_seg dksX3_weighs_0 23 rfl rfl
theorem dX3_weighs_0 : decode cX3_weighs 0 = .ok (.lconst 0, 1) := dk_9 (dk_at dksX3_weighs_0 0 rfl rfl)
theorem dX3_weighs_1 : decode cX3_weighs 1 = .ok (.lstore_n 1, 1) := dk_64 (dk_at dksX3_weighs_0 1 rfl rfl)
theorem dX3_weighs_2 : decode cX3_weighs 2 = .ok (.iconst 0, 1) := dk_3 (dk_at dksX3_weighs_0 2 rfl rfl)
theorem dX3_weighs_3 : decode cX3_weighs 3 = .ok (.istore_n 3, 1) := dk_62 (dk_at dksX3_weighs_0 3 rfl rfl)
theorem dX3_weighs_4 : decode cX3_weighs 4 = .ok (.iload_n 3, 1) := dk_29 (dk_at dksX3_weighs_0 4 rfl rfl)
theorem dX3_weighs_5 : decode cX3_weighs 5 = .ok (.i2l, 1) := dk_133 (dk_at dksX3_weighs_0 5 rfl rfl)
theorem dX3_weighs_6 : decode cX3_weighs 6 = .ok (.aload_n 0, 1) := dk_42 (dk_at dksX3_weighs_0 6 rfl rfl)
theorem dX3_weighs_7 : decode cX3_weighs 7 = .ok (.iconst 5, 1) := dk_8 (dk_at dksX3_weighs_0 7 rfl rfl)
theorem dX3_weighs_8 : decode cX3_weighs 8 = .ok (.invokevirtual 54, 3) := dk_182 0 54 (dk_at dksX3_weighs_0 8 rfl rfl)
theorem dX3_weighs_11 : decode cX3_weighs 11 = .ok (.lcmp, 1) := dk_148 (dk_at dksX3_weighs_0 11 rfl rfl)
theorem dX3_weighs_12 : decode cX3_weighs 12 = .ok (.ifCond .ge 23, 3) := dk_156 0 23 (dk_at dksX3_weighs_0 12 rfl rfl)
theorem dX3_weighs_15 : decode cX3_weighs 15 = .ok (.lload_n 1, 1) := dk_31 (dk_at dksX3_weighs_0 15 rfl rfl)
theorem dX3_weighs_16 : decode cX3_weighs 16 = .ok (.aload_n 0, 1) := dk_42 (dk_at dksX3_weighs_0 16 rfl rfl)
theorem dX3_weighs_17 : decode cX3_weighs 17 = .ok (.iload_n 3, 1) := dk_29 (dk_at dksX3_weighs_0 17 rfl rfl)
theorem dX3_weighs_18 : decode cX3_weighs 18 = .ok (.invokevirtual 241, 3) := dk_182 0 241 (dk_at dksX3_weighs_0 18 rfl rfl)
theorem dX3_weighs_21 : decode cX3_weighs 21 = .ok (.aload_n 0, 1) := dk_42 (dk_at dksX3_weighs_0 21 rfl rfl)
theorem dX3_weighs_22 : decode cX3_weighs 22 = .ok (.iload_n 3, 1) := dk_29 (dk_at dksX3_weighs_0 22 rfl rfl)
theorem dX3_weighs_23 : decode cX3_weighs 23 = .ok (.invokevirtual 244, 3) := dk_182 0 244 (dk_at dksX3_weighs_1 0 rfl rfl)
theorem dX3_weighs_26 : decode cX3_weighs 26 = .ok (.lmul, 1) := dk_105 (dk_at dksX3_weighs_1 3 rfl rfl)
theorem dX3_weighs_27 : decode cX3_weighs 27 = .ok (.ladd, 1) := dk_97 (dk_at dksX3_weighs_1 4 rfl rfl)
theorem dX3_weighs_28 : decode cX3_weighs 28 = .ok (.lstore_n 1, 1) := dk_64 (dk_at dksX3_weighs_1 5 rfl rfl)
theorem dX3_weighs_29 : decode cX3_weighs 29 = .ok (.iinc 3 1, 3) := dk_132 3 1 (dk_at dksX3_weighs_1 6 rfl rfl)
theorem dX3_weighs_32 : decode cX3_weighs 32 = .ok (.goto (-28), 3) := dk_167 255 228 (dk_at dksX3_weighs_1 9 rfl rfl)
theorem dX3_weighs_35 : decode cX3_weighs 35 = .ok (.lload_n 1, 1) := dk_31 (dk_at dksX3_weighs_1 12 rfl rfl)
theorem dX3_weighs_36 : decode cX3_weighs 36 = .ok (.lreturn, 1) := dk_173 (dk_at dksX3_weighs_1 13 rfl rfl)
abbrev cX3_areaOf : ByteArray := prog_20_method_36_code
def yX3_areaOf : MethodName := ⟨RX3, "areaOf", "(I)J"⟩
def dkwX3_areaOf_0 : List UInt8 := [42, 16, 34, 42, 27, 5, 182, 0, 224, 96, 182, 0, 54, 173]
abbrev dktX3_areaOf_0 : List UInt8 := dkwX3_areaOf_0 ++ []
theorem dksX3_areaOf_0 : cX3_areaOf.data.toList.drop 0 = dktX3_areaOf_0 := by decide +kernel
theorem dX3_areaOf_0 : decode cX3_areaOf 0 = .ok (.aload_n 0, 1) := dk_42 (dk_at dksX3_areaOf_0 0 rfl rfl)
theorem dX3_areaOf_1 : decode cX3_areaOf 1 = .ok (.bipush 34, 2) := dk_16 34 (dk_at dksX3_areaOf_0 1 rfl rfl)
theorem dX3_areaOf_3 : decode cX3_areaOf 3 = .ok (.aload_n 0, 1) := dk_42 (dk_at dksX3_areaOf_0 3 rfl rfl)
theorem dX3_areaOf_4 : decode cX3_areaOf 4 = .ok (.iload_n 1, 1) := dk_27 (dk_at dksX3_areaOf_0 4 rfl rfl)
theorem dX3_areaOf_5 : decode cX3_areaOf 5 = .ok (.iconst 2, 1) := dk_5 (dk_at dksX3_areaOf_0 5 rfl rfl)
theorem dX3_areaOf_6 : decode cX3_areaOf 6 = .ok (.invokevirtual 224, 3) := dk_182 0 224 (dk_at dksX3_areaOf_0 6 rfl rfl)
theorem dX3_areaOf_9 : decode cX3_areaOf 9 = .ok (.iadd, 1) := dk_96 (dk_at dksX3_areaOf_0 9 rfl rfl)
theorem dX3_areaOf_10 : decode cX3_areaOf 10 = .ok (.invokevirtual 54, 3) := dk_182 0 54 (dk_at dksX3_areaOf_0 10 rfl rfl)
theorem dX3_areaOf_13 : decode cX3_areaOf 13 = .ok (.lreturn, 1) := dk_173 (dk_at dksX3_areaOf_0 13 rfl rfl)
abbrev cX3_bar : ByteArray := prog_20_method_35_code
def yX3_bar : MethodName := ⟨RX3, "bar", "(II)I"⟩
def dkwX3_bar_0 : List UInt8 := [42, 16, 40, 6, 27, 104, 96, 28, 96, 182, 0, 220, 172]
abbrev dktX3_bar_0 : List UInt8 := dkwX3_bar_0 ++ []
theorem dksX3_bar_0 : cX3_bar.data.toList.drop 0 = dktX3_bar_0 := by decide +kernel
theorem dX3_bar_0 : decode cX3_bar 0 = .ok (.aload_n 0, 1) := dk_42 (dk_at dksX3_bar_0 0 rfl rfl)
theorem dX3_bar_1 : decode cX3_bar 1 = .ok (.bipush 40, 2) := dk_16 40 (dk_at dksX3_bar_0 1 rfl rfl)
theorem dX3_bar_3 : decode cX3_bar 3 = .ok (.iconst 3, 1) := dk_6 (dk_at dksX3_bar_0 3 rfl rfl)
theorem dX3_bar_4 : decode cX3_bar 4 = .ok (.iload_n 1, 1) := dk_27 (dk_at dksX3_bar_0 4 rfl rfl)
theorem dX3_bar_5 : decode cX3_bar 5 = .ok (.imul, 1) := dk_104 (dk_at dksX3_bar_0 5 rfl rfl)
theorem dX3_bar_6 : decode cX3_bar 6 = .ok (.iadd, 1) := dk_96 (dk_at dksX3_bar_0 6 rfl rfl)
theorem dX3_bar_7 : decode cX3_bar 7 = .ok (.iload_n 2, 1) := dk_28 (dk_at dksX3_bar_0 7 rfl rfl)
theorem dX3_bar_8 : decode cX3_bar 8 = .ok (.iadd, 1) := dk_96 (dk_at dksX3_bar_0 8 rfl rfl)
theorem dX3_bar_9 : decode cX3_bar 9 = .ok (.invokevirtual 220, 3) := dk_182 0 220 (dk_at dksX3_bar_0 9 rfl rfl)
theorem dX3_bar_12 : decode cX3_bar 12 = .ok (.ireturn, 1) := dk_172 (dk_at dksX3_bar_0 12 rfl rfl)
abbrev cX3_lengthOf : ByteArray := prog_20_method_38_code
def yX3_lengthOf : MethodName := ⟨RX3, "lengthOf", "(I)J"⟩
def dkwX3_lengthOf_3 : List UInt8 := [55, 4, 167, 0, 9, 22, 8, 10, 101, 55, 6, 167, 255, 212, 22, 4, 173]
abbrev dktX3_lengthOf_3 : List UInt8 := dkwX3_lengthOf_3 ++ []
def dkwX3_lengthOf_2 : List UInt8 := [22, 6, 97, 10, 97, 20, 0, 129, 109, 55, 8, 22, 8, 22, 8, 105, 32, 148, 157, 0, 10, 22, 8]
abbrev dktX3_lengthOf_2 : List UInt8 := dkwX3_lengthOf_2 ++ dktX3_lengthOf_3
def dkwX3_lengthOf_1 : List UInt8 := [182, 0, 231, 105, 97, 65, 9, 55, 4, 20, 0, 234, 55, 6, 22, 4, 22, 6, 148, 156, 0, 42, 22, 4]
abbrev dktX3_lengthOf_1 : List UInt8 := dkwX3_lengthOf_1 ++ dktX3_lengthOf_2
def dkwX3_lengthOf_0 : List UInt8 := [42, 27, 3, 182, 0, 231, 42, 27, 3, 182, 0, 231, 105, 42, 27, 4, 182, 0, 231, 42, 27, 4]
abbrev dktX3_lengthOf_0 : List UInt8 := dkwX3_lengthOf_0 ++ dktX3_lengthOf_1
theorem dksX3_lengthOf_0 : cX3_lengthOf.data.toList.drop 0 = dktX3_lengthOf_0 := by decide +kernel
theorem dksX3_lengthOf_1 : cX3_lengthOf.data.toList.drop 22 = dktX3_lengthOf_1 := dk_seg dksX3_lengthOf_0 22 rfl rfl
theorem dksX3_lengthOf_2 : cX3_lengthOf.data.toList.drop 46 = dktX3_lengthOf_2 := dk_seg dksX3_lengthOf_1 24 rfl rfl
theorem dksX3_lengthOf_3 : cX3_lengthOf.data.toList.drop 69 = dktX3_lengthOf_3 := dk_seg dksX3_lengthOf_2 23 rfl rfl
theorem dX3_lengthOf_0 : decode cX3_lengthOf 0 = .ok (.aload_n 0, 1) := dk_42 (dk_at dksX3_lengthOf_0 0 rfl rfl)
theorem dX3_lengthOf_1 : decode cX3_lengthOf 1 = .ok (.iload_n 1, 1) := dk_27 (dk_at dksX3_lengthOf_0 1 rfl rfl)
theorem dX3_lengthOf_2 : decode cX3_lengthOf 2 = .ok (.iconst 0, 1) := dk_3 (dk_at dksX3_lengthOf_0 2 rfl rfl)
theorem dX3_lengthOf_3 : decode cX3_lengthOf 3 = .ok (.invokevirtual 231, 3) := dk_182 0 231 (dk_at dksX3_lengthOf_0 3 rfl rfl)
theorem dX3_lengthOf_6 : decode cX3_lengthOf 6 = .ok (.aload_n 0, 1) := dk_42 (dk_at dksX3_lengthOf_0 6 rfl rfl)
theorem dX3_lengthOf_7 : decode cX3_lengthOf 7 = .ok (.iload_n 1, 1) := dk_27 (dk_at dksX3_lengthOf_0 7 rfl rfl)
theorem dX3_lengthOf_8 : decode cX3_lengthOf 8 = .ok (.iconst 0, 1) := dk_3 (dk_at dksX3_lengthOf_0 8 rfl rfl)
theorem dX3_lengthOf_9 : decode cX3_lengthOf 9 = .ok (.invokevirtual 231, 3) := dk_182 0 231 (dk_at dksX3_lengthOf_0 9 rfl rfl)
theorem dX3_lengthOf_12 : decode cX3_lengthOf 12 = .ok (.lmul, 1) := dk_105 (dk_at dksX3_lengthOf_0 12 rfl rfl)
theorem dX3_lengthOf_13 : decode cX3_lengthOf 13 = .ok (.aload_n 0, 1) := dk_42 (dk_at dksX3_lengthOf_0 13 rfl rfl)
theorem dX3_lengthOf_14 : decode cX3_lengthOf 14 = .ok (.iload_n 1, 1) := dk_27 (dk_at dksX3_lengthOf_0 14 rfl rfl)
theorem dX3_lengthOf_15 : decode cX3_lengthOf 15 = .ok (.iconst 1, 1) := dk_4 (dk_at dksX3_lengthOf_0 15 rfl rfl)
theorem dX3_lengthOf_16 : decode cX3_lengthOf 16 = .ok (.invokevirtual 231, 3) := dk_182 0 231 (dk_at dksX3_lengthOf_0 16 rfl rfl)
theorem dX3_lengthOf_19 : decode cX3_lengthOf 19 = .ok (.aload_n 0, 1) := dk_42 (dk_at dksX3_lengthOf_0 19 rfl rfl)
theorem dX3_lengthOf_20 : decode cX3_lengthOf 20 = .ok (.iload_n 1, 1) := dk_27 (dk_at dksX3_lengthOf_0 20 rfl rfl)
theorem dX3_lengthOf_21 : decode cX3_lengthOf 21 = .ok (.iconst 1, 1) := dk_4 (dk_at dksX3_lengthOf_0 21 rfl rfl)
theorem dX3_lengthOf_22 : decode cX3_lengthOf 22 = .ok (.invokevirtual 231, 3) := dk_182 0 231 (dk_at dksX3_lengthOf_1 0 rfl rfl)
theorem dX3_lengthOf_25 : decode cX3_lengthOf 25 = .ok (.lmul, 1) := dk_105 (dk_at dksX3_lengthOf_1 3 rfl rfl)
theorem dX3_lengthOf_26 : decode cX3_lengthOf 26 = .ok (.ladd, 1) := dk_97 (dk_at dksX3_lengthOf_1 4 rfl rfl)
theorem dX3_lengthOf_27 : decode cX3_lengthOf 27 = .ok (.lstore_n 2, 1) := dk_65 (dk_at dksX3_lengthOf_1 5 rfl rfl)
theorem dX3_lengthOf_28 : decode cX3_lengthOf 28 = .ok (.lconst 0, 1) := dk_9 (dk_at dksX3_lengthOf_1 6 rfl rfl)
theorem dX3_lengthOf_29 : decode cX3_lengthOf 29 = .ok (.lstore 4, 2) := dk_55 4 (dk_at dksX3_lengthOf_1 7 rfl rfl)
theorem dX3_lengthOf_31 : decode cX3_lengthOf 31 = .ok (.ldc2_w 234, 3) := dk_20 0 234 (dk_at dksX3_lengthOf_1 9 rfl rfl)
theorem dX3_lengthOf_34 : decode cX3_lengthOf 34 = .ok (.lstore 6, 2) := dk_55 6 (dk_at dksX3_lengthOf_1 12 rfl rfl)
theorem dX3_lengthOf_36 : decode cX3_lengthOf 36 = .ok (.lload 4, 2) := dk_22 4 (dk_at dksX3_lengthOf_1 14 rfl rfl)
theorem dX3_lengthOf_38 : decode cX3_lengthOf 38 = .ok (.lload 6, 2) := dk_22 6 (dk_at dksX3_lengthOf_1 16 rfl rfl)
theorem dX3_lengthOf_40 : decode cX3_lengthOf 40 = .ok (.lcmp, 1) := dk_148 (dk_at dksX3_lengthOf_1 18 rfl rfl)
theorem dX3_lengthOf_41 : decode cX3_lengthOf 41 = .ok (.ifCond .ge 42, 3) := dk_156 0 42 (dk_at dksX3_lengthOf_1 19 rfl rfl)
theorem dX3_lengthOf_44 : decode cX3_lengthOf 44 = .ok (.lload 4, 2) := dk_22 4 (dk_at dksX3_lengthOf_1 22 rfl rfl)
theorem dX3_lengthOf_46 : decode cX3_lengthOf 46 = .ok (.lload 6, 2) := dk_22 6 (dk_at dksX3_lengthOf_2 0 rfl rfl)
theorem dX3_lengthOf_48 : decode cX3_lengthOf 48 = .ok (.ladd, 1) := dk_97 (dk_at dksX3_lengthOf_2 2 rfl rfl)
theorem dX3_lengthOf_49 : decode cX3_lengthOf 49 = .ok (.lconst 1, 1) := dk_10 (dk_at dksX3_lengthOf_2 3 rfl rfl)
theorem dX3_lengthOf_50 : decode cX3_lengthOf 50 = .ok (.ladd, 1) := dk_97 (dk_at dksX3_lengthOf_2 4 rfl rfl)
theorem dX3_lengthOf_51 : decode cX3_lengthOf 51 = .ok (.ldc2_w 129, 3) := dk_20 0 129 (dk_at dksX3_lengthOf_2 5 rfl rfl)
theorem dX3_lengthOf_54 : decode cX3_lengthOf 54 = .ok (.ldiv, 1) := dk_109 (dk_at dksX3_lengthOf_2 8 rfl rfl)
theorem dX3_lengthOf_55 : decode cX3_lengthOf 55 = .ok (.lstore 8, 2) := dk_55 8 (dk_at dksX3_lengthOf_2 9 rfl rfl)
theorem dX3_lengthOf_57 : decode cX3_lengthOf 57 = .ok (.lload 8, 2) := dk_22 8 (dk_at dksX3_lengthOf_2 11 rfl rfl)
theorem dX3_lengthOf_59 : decode cX3_lengthOf 59 = .ok (.lload 8, 2) := dk_22 8 (dk_at dksX3_lengthOf_2 13 rfl rfl)
theorem dX3_lengthOf_61 : decode cX3_lengthOf 61 = .ok (.lmul, 1) := dk_105 (dk_at dksX3_lengthOf_2 15 rfl rfl)
theorem dX3_lengthOf_62 : decode cX3_lengthOf 62 = .ok (.lload_n 2, 1) := dk_32 (dk_at dksX3_lengthOf_2 16 rfl rfl)
theorem dX3_lengthOf_63 : decode cX3_lengthOf 63 = .ok (.lcmp, 1) := dk_148 (dk_at dksX3_lengthOf_2 17 rfl rfl)
theorem dX3_lengthOf_64 : decode cX3_lengthOf 64 = .ok (.ifCond .gt 10, 3) := dk_157 0 10 (dk_at dksX3_lengthOf_2 18 rfl rfl)
theorem dX3_lengthOf_67 : decode cX3_lengthOf 67 = .ok (.lload 8, 2) := dk_22 8 (dk_at dksX3_lengthOf_2 21 rfl rfl)
theorem dX3_lengthOf_69 : decode cX3_lengthOf 69 = .ok (.lstore 4, 2) := dk_55 4 (dk_at dksX3_lengthOf_3 0 rfl rfl)
theorem dX3_lengthOf_71 : decode cX3_lengthOf 71 = .ok (.goto 9, 3) := dk_167 0 9 (dk_at dksX3_lengthOf_3 2 rfl rfl)
theorem dX3_lengthOf_74 : decode cX3_lengthOf 74 = .ok (.lload 8, 2) := dk_22 8 (dk_at dksX3_lengthOf_3 5 rfl rfl)
theorem dX3_lengthOf_76 : decode cX3_lengthOf 76 = .ok (.lconst 1, 1) := dk_10 (dk_at dksX3_lengthOf_3 7 rfl rfl)
theorem dX3_lengthOf_77 : decode cX3_lengthOf 77 = .ok (.lsub, 1) := dk_101 (dk_at dksX3_lengthOf_3 8 rfl rfl)
theorem dX3_lengthOf_78 : decode cX3_lengthOf 78 = .ok (.lstore 6, 2) := dk_55 6 (dk_at dksX3_lengthOf_3 9 rfl rfl)
theorem dX3_lengthOf_80 : decode cX3_lengthOf 80 = .ok (.goto (-44), 3) := dk_167 255 212 (dk_at dksX3_lengthOf_3 11 rfl rfl)
theorem dX3_lengthOf_83 : decode cX3_lengthOf 83 = .ok (.lload 4, 2) := dk_22 4 (dk_at dksX3_lengthOf_3 14 rfl rfl)
theorem dX3_lengthOf_85 : decode cX3_lengthOf 85 = .ok (.lreturn, 1) := dk_173 (dk_at dksX3_lengthOf_3 16 rfl rfl)
abbrev cX3_along : ByteArray := prog_20_method_37_code
def yX3_along : MethodName := ⟨RX3, "along", "(II)J"⟩
def dkwX3_along_0 : List UInt8 := [42, 42, 27, 4, 182, 0, 224, 28, 182, 0, 228, 42, 42, 27, 3, 182, 0, 224, 28, 182, 0, 228, 101, 173]
abbrev dktX3_along_0 : List UInt8 := dkwX3_along_0 ++ []
theorem dksX3_along_0 : cX3_along.data.toList.drop 0 = dktX3_along_0 := by decide +kernel
theorem dX3_along_0 : decode cX3_along 0 = .ok (.aload_n 0, 1) := dk_42 (dk_at dksX3_along_0 0 rfl rfl)
theorem dX3_along_1 : decode cX3_along 1 = .ok (.aload_n 0, 1) := dk_42 (dk_at dksX3_along_0 1 rfl rfl)
theorem dX3_along_2 : decode cX3_along 2 = .ok (.iload_n 1, 1) := dk_27 (dk_at dksX3_along_0 2 rfl rfl)
theorem dX3_along_3 : decode cX3_along 3 = .ok (.iconst 1, 1) := dk_4 (dk_at dksX3_along_0 3 rfl rfl)
theorem dX3_along_4 : decode cX3_along 4 = .ok (.invokevirtual 224, 3) := dk_182 0 224 (dk_at dksX3_along_0 4 rfl rfl)
theorem dX3_along_7 : decode cX3_along 7 = .ok (.iload_n 2, 1) := dk_28 (dk_at dksX3_along_0 7 rfl rfl)
theorem dX3_along_8 : decode cX3_along 8 = .ok (.invokevirtual 228, 3) := dk_182 0 228 (dk_at dksX3_along_0 8 rfl rfl)
theorem dX3_along_11 : decode cX3_along 11 = .ok (.aload_n 0, 1) := dk_42 (dk_at dksX3_along_0 11 rfl rfl)
theorem dX3_along_12 : decode cX3_along 12 = .ok (.aload_n 0, 1) := dk_42 (dk_at dksX3_along_0 12 rfl rfl)
theorem dX3_along_13 : decode cX3_along 13 = .ok (.iload_n 1, 1) := dk_27 (dk_at dksX3_along_0 13 rfl rfl)
theorem dX3_along_14 : decode cX3_along 14 = .ok (.iconst 0, 1) := dk_3 (dk_at dksX3_along_0 14 rfl rfl)
theorem dX3_along_15 : decode cX3_along 15 = .ok (.invokevirtual 224, 3) := dk_182 0 224 (dk_at dksX3_along_0 15 rfl rfl)
theorem dX3_along_18 : decode cX3_along 18 = .ok (.iload_n 2, 1) := dk_28 (dk_at dksX3_along_0 18 rfl rfl)
theorem dX3_along_19 : decode cX3_along 19 = .ok (.invokevirtual 228, 3) := dk_182 0 228 (dk_at dksX3_along_0 19 rfl rfl)
theorem dX3_along_22 : decode cX3_along 22 = .ok (.lsub, 1) := dk_101 (dk_at dksX3_along_0 22 rfl rfl)
theorem dX3_along_23 : decode cX3_along 23 = .ok (.lreturn, 1) := dk_173 (dk_at dksX3_along_0 23 rfl rfl)
abbrev cX3_node : ByteArray := prog_20_method_34_code
def yX3_node : MethodName := ⟨RX3, "node", "(II)J"⟩
def dkwX3_node_0 : List UInt8 := [42, 16, 10, 6, 27, 104, 96, 28, 96, 182, 0, 54, 173]
abbrev dktX3_node_0 : List UInt8 := dkwX3_node_0 ++ []
theorem dksX3_node_0 : cX3_node.data.toList.drop 0 = dktX3_node_0 := by decide +kernel
theorem dX3_node_0 : decode cX3_node 0 = .ok (.aload_n 0, 1) := dk_42 (dk_at dksX3_node_0 0 rfl rfl)
theorem dX3_node_1 : decode cX3_node 1 = .ok (.bipush 10, 2) := dk_16 10 (dk_at dksX3_node_0 1 rfl rfl)
theorem dX3_node_3 : decode cX3_node 3 = .ok (.iconst 3, 1) := dk_6 (dk_at dksX3_node_0 3 rfl rfl)
theorem dX3_node_4 : decode cX3_node 4 = .ok (.iload_n 1, 1) := dk_27 (dk_at dksX3_node_0 4 rfl rfl)
theorem dX3_node_5 : decode cX3_node 5 = .ok (.imul, 1) := dk_104 (dk_at dksX3_node_0 5 rfl rfl)
theorem dX3_node_6 : decode cX3_node 6 = .ok (.iadd, 1) := dk_96 (dk_at dksX3_node_0 6 rfl rfl)
theorem dX3_node_7 : decode cX3_node 7 = .ok (.iload_n 2, 1) := dk_28 (dk_at dksX3_node_0 7 rfl rfl)
theorem dX3_node_8 : decode cX3_node 8 = .ok (.iadd, 1) := dk_96 (dk_at dksX3_node_0 8 rfl rfl)
theorem dX3_node_9 : decode cX3_node 9 = .ok (.invokevirtual 54, 3) := dk_182 0 54 (dk_at dksX3_node_0 9 rfl rfl)
theorem dX3_node_12 : decode cX3_node 12 = .ok (.lreturn, 1) := dk_173 (dk_at dksX3_node_0 12 rfl rfl)
abbrev cX3_area : ByteArray := prog_20_method_63_code
def yX3_area : MethodName := ⟨RX3, "area", "(I)I"⟩
def dkwX3_area_1 : List UInt8 := [167, 0, 4, 3, 172]
abbrev dktX3_area_1 : List UInt8 := dkwX3_area_1 ++ []
def dkwX3_area_0 : List UInt8 := [42, 3, 181, 0, 48, 42, 27, 7, 182, 1, 53, 153, 0, 14, 42, 16, 34, 27, 96, 182, 0, 220]
abbrev dktX3_area_0 : List UInt8 := dkwX3_area_0 ++ dktX3_area_1
theorem dksX3_area_0 : cX3_area.data.toList.drop 0 = dktX3_area_0 := by decide +kernel
theorem dksX3_area_1 : cX3_area.data.toList.drop 22 = dktX3_area_1 := dk_seg dksX3_area_0 22 rfl rfl
theorem dX3_area_0 : decode cX3_area 0 = .ok (.aload_n 0, 1) := dk_42 (dk_at dksX3_area_0 0 rfl rfl)
theorem dX3_area_1 : decode cX3_area 1 = .ok (.iconst 0, 1) := dk_3 (dk_at dksX3_area_0 1 rfl rfl)
theorem dX3_area_2 : decode cX3_area 2 = .ok (.putfield 48, 3) := dk_181 0 48 (dk_at dksX3_area_0 2 rfl rfl)
theorem dX3_area_5 : decode cX3_area 5 = .ok (.aload_n 0, 1) := dk_42 (dk_at dksX3_area_0 5 rfl rfl)
theorem dX3_area_6 : decode cX3_area 6 = .ok (.iload_n 1, 1) := dk_27 (dk_at dksX3_area_0 6 rfl rfl)
theorem dX3_area_7 : decode cX3_area 7 = .ok (.iconst 4, 1) := dk_7 (dk_at dksX3_area_0 7 rfl rfl)
theorem dX3_area_8 : decode cX3_area 8 = .ok (.invokevirtual 309, 3) := dk_182 1 53 (dk_at dksX3_area_0 8 rfl rfl)
theorem dX3_area_11 : decode cX3_area 11 = .ok (.ifCond .eq 14, 3) := dk_153 0 14 (dk_at dksX3_area_0 11 rfl rfl)
theorem dX3_area_14 : decode cX3_area 14 = .ok (.aload_n 0, 1) := dk_42 (dk_at dksX3_area_0 14 rfl rfl)
theorem dX3_area_15 : decode cX3_area 15 = .ok (.bipush 34, 2) := dk_16 34 (dk_at dksX3_area_0 15 rfl rfl)
theorem dX3_area_17 : decode cX3_area 17 = .ok (.iload_n 1, 1) := dk_27 (dk_at dksX3_area_0 17 rfl rfl)
theorem dX3_area_18 : decode cX3_area 18 = .ok (.iadd, 1) := dk_96 (dk_at dksX3_area_0 18 rfl rfl)
theorem dX3_area_19 : decode cX3_area 19 = .ok (.invokevirtual 220, 3) := dk_182 0 220 (dk_at dksX3_area_0 19 rfl rfl)
theorem dX3_area_22 : decode cX3_area 22 = .ok (.goto 4, 3) := dk_167 0 4 (dk_at dksX3_area_1 0 rfl rfl)
theorem dX3_area_25 : decode cX3_area 25 = .ok (.iconst 0, 1) := dk_3 (dk_at dksX3_area_1 3 rfl rfl)
theorem dX3_area_26 : decode cX3_area 26 = .ok (.ireturn, 1) := dk_172 (dk_at dksX3_area_1 4 rfl rfl)
abbrev cX3_isOne : ByteArray := prog_20_method_61_code
def yX3_isOne : MethodName := ⟨RX3, "isOne", "(II)Z"⟩
def dkwX3_isOne_0 : List UInt8 := [42, 27, 133, 9, 42, 28, 182, 0, 54, 10, 101, 184, 0, 120, 4, 182, 0, 210, 172]
abbrev dktX3_isOne_0 : List UInt8 := dkwX3_isOne_0 ++ []
theorem dksX3_isOne_0 : cX3_isOne.data.toList.drop 0 = dktX3_isOne_0 := by decide +kernel
theorem dX3_isOne_0 : decode cX3_isOne 0 = .ok (.aload_n 0, 1) := dk_42 (dk_at dksX3_isOne_0 0 rfl rfl)
theorem dX3_isOne_1 : decode cX3_isOne 1 = .ok (.iload_n 1, 1) := dk_27 (dk_at dksX3_isOne_0 1 rfl rfl)
theorem dX3_isOne_2 : decode cX3_isOne 2 = .ok (.i2l, 1) := dk_133 (dk_at dksX3_isOne_0 2 rfl rfl)
theorem dX3_isOne_3 : decode cX3_isOne 3 = .ok (.lconst 0, 1) := dk_9 (dk_at dksX3_isOne_0 3 rfl rfl)
theorem dX3_isOne_4 : decode cX3_isOne 4 = .ok (.aload_n 0, 1) := dk_42 (dk_at dksX3_isOne_0 4 rfl rfl)
theorem dX3_isOne_5 : decode cX3_isOne 5 = .ok (.iload_n 2, 1) := dk_28 (dk_at dksX3_isOne_0 5 rfl rfl)
theorem dX3_isOne_6 : decode cX3_isOne 6 = .ok (.invokevirtual 54, 3) := dk_182 0 54 (dk_at dksX3_isOne_0 6 rfl rfl)
theorem dX3_isOne_9 : decode cX3_isOne 9 = .ok (.lconst 1, 1) := dk_10 (dk_at dksX3_isOne_0 9 rfl rfl)
theorem dX3_isOne_10 : decode cX3_isOne 10 = .ok (.lsub, 1) := dk_101 (dk_at dksX3_isOne_0 10 rfl rfl)
theorem dX3_isOne_11 : decode cX3_isOne 11 = .ok (.invokestatic 120, 3) := dk_184 0 120 (dk_at dksX3_isOne_0 11 rfl rfl)
theorem dX3_isOne_14 : decode cX3_isOne 14 = .ok (.iconst 1, 1) := dk_4 (dk_at dksX3_isOne_0 14 rfl rfl)
theorem dX3_isOne_15 : decode cX3_isOne 15 = .ok (.invokevirtual 210, 3) := dk_182 0 210 (dk_at dksX3_isOne_0 15 rfl rfl)
theorem dX3_isOne_18 : decode cX3_isOne 18 = .ok (.ireturn, 1) := dk_172 (dk_at dksX3_isOne_0 18 rfl rfl)
abbrev cX3_member : ByteArray := prog_20_method_64_code
def yX3_member : MethodName := ⟨RX3, "member", "(II)I"⟩
def dkwX3_member_2 : List UInt8 := [27, 28, 182, 0, 224, 172]
abbrev dktX3_member_2 : List UInt8 := dkwX3_member_2 ++ []
def dkwX3_member_1 : List UInt8 := [5, 182, 0, 210, 154, 0, 5, 3, 172, 28, 6, 160, 0, 12, 42, 27, 182, 0, 244, 136, 167, 0, 9, 42]
abbrev dktX3_member_1 : List UInt8 := dkwX3_member_1 ++ dktX3_member_2
def dkwX3_member_0 : List UInt8 := [42, 3, 181, 0, 48, 42, 27, 8, 182, 1, 53, 153, 0, 20, 42, 28, 133, 9, 20, 0, 172, 184, 0, 120]
abbrev dktX3_member_0 : List UInt8 := dkwX3_member_0 ++ dktX3_member_1
theorem dksX3_member_0 : cX3_member.data.toList.drop 0 = dktX3_member_0 := by decide +kernel
theorem dksX3_member_1 : cX3_member.data.toList.drop 24 = dktX3_member_1 := dk_seg dksX3_member_0 24 rfl rfl
theorem dksX3_member_2 : cX3_member.data.toList.drop 48 = dktX3_member_2 := dk_seg dksX3_member_1 24 rfl rfl
theorem dX3_member_0 : decode cX3_member 0 = .ok (.aload_n 0, 1) := dk_42 (dk_at dksX3_member_0 0 rfl rfl)
theorem dX3_member_1 : decode cX3_member 1 = .ok (.iconst 0, 1) := dk_3 (dk_at dksX3_member_0 1 rfl rfl)
theorem dX3_member_2 : decode cX3_member 2 = .ok (.putfield 48, 3) := dk_181 0 48 (dk_at dksX3_member_0 2 rfl rfl)
theorem dX3_member_5 : decode cX3_member 5 = .ok (.aload_n 0, 1) := dk_42 (dk_at dksX3_member_0 5 rfl rfl)
theorem dX3_member_6 : decode cX3_member 6 = .ok (.iload_n 1, 1) := dk_27 (dk_at dksX3_member_0 6 rfl rfl)
theorem dX3_member_7 : decode cX3_member 7 = .ok (.iconst 5, 1) := dk_8 (dk_at dksX3_member_0 7 rfl rfl)
theorem dX3_member_8 : decode cX3_member 8 = .ok (.invokevirtual 309, 3) := dk_182 1 53 (dk_at dksX3_member_0 8 rfl rfl)
theorem dX3_member_11 : decode cX3_member 11 = .ok (.ifCond .eq 20, 3) := dk_153 0 20 (dk_at dksX3_member_0 11 rfl rfl)
theorem dX3_member_14 : decode cX3_member 14 = .ok (.aload_n 0, 1) := dk_42 (dk_at dksX3_member_0 14 rfl rfl)
theorem dX3_member_15 : decode cX3_member 15 = .ok (.iload_n 2, 1) := dk_28 (dk_at dksX3_member_0 15 rfl rfl)
theorem dX3_member_16 : decode cX3_member 16 = .ok (.i2l, 1) := dk_133 (dk_at dksX3_member_0 16 rfl rfl)
theorem dX3_member_17 : decode cX3_member 17 = .ok (.lconst 0, 1) := dk_9 (dk_at dksX3_member_0 17 rfl rfl)
theorem dX3_member_18 : decode cX3_member 18 = .ok (.ldc2_w 172, 3) := dk_20 0 172 (dk_at dksX3_member_0 18 rfl rfl)
theorem dX3_member_21 : decode cX3_member 21 = .ok (.invokestatic 120, 3) := dk_184 0 120 (dk_at dksX3_member_0 21 rfl rfl)
theorem dX3_member_24 : decode cX3_member 24 = .ok (.iconst 2, 1) := dk_5 (dk_at dksX3_member_1 0 rfl rfl)
theorem dX3_member_25 : decode cX3_member 25 = .ok (.invokevirtual 210, 3) := dk_182 0 210 (dk_at dksX3_member_1 1 rfl rfl)
theorem dX3_member_28 : decode cX3_member 28 = .ok (.ifCond .ne 5, 3) := dk_154 0 5 (dk_at dksX3_member_1 4 rfl rfl)
theorem dX3_member_31 : decode cX3_member 31 = .ok (.iconst 0, 1) := dk_3 (dk_at dksX3_member_1 7 rfl rfl)
theorem dX3_member_32 : decode cX3_member 32 = .ok (.ireturn, 1) := dk_172 (dk_at dksX3_member_1 8 rfl rfl)
theorem dX3_member_33 : decode cX3_member 33 = .ok (.iload_n 2, 1) := dk_28 (dk_at dksX3_member_1 9 rfl rfl)
theorem dX3_member_34 : decode cX3_member 34 = .ok (.iconst 3, 1) := dk_6 (dk_at dksX3_member_1 10 rfl rfl)
theorem dX3_member_35 : decode cX3_member 35 = .ok (.if_icmp .ne 12, 3) := dk_160 0 12 (dk_at dksX3_member_1 11 rfl rfl)
theorem dX3_member_38 : decode cX3_member 38 = .ok (.aload_n 0, 1) := dk_42 (dk_at dksX3_member_1 14 rfl rfl)
theorem dX3_member_39 : decode cX3_member 39 = .ok (.iload_n 1, 1) := dk_27 (dk_at dksX3_member_1 15 rfl rfl)
theorem dX3_member_40 : decode cX3_member 40 = .ok (.invokevirtual 244, 3) := dk_182 0 244 (dk_at dksX3_member_1 16 rfl rfl)
theorem dX3_member_43 : decode cX3_member 43 = .ok (.l2i, 1) := dk_136 (dk_at dksX3_member_1 19 rfl rfl)
theorem dX3_member_44 : decode cX3_member 44 = .ok (.goto 9, 3) := dk_167 0 9 (dk_at dksX3_member_1 20 rfl rfl)
theorem dX3_member_47 : decode cX3_member 47 = .ok (.aload_n 0, 1) := dk_42 (dk_at dksX3_member_1 23 rfl rfl)
theorem dX3_member_48 : decode cX3_member 48 = .ok (.iload_n 1, 1) := dk_27 (dk_at dksX3_member_2 0 rfl rfl)
theorem dX3_member_49 : decode cX3_member 49 = .ok (.iload_n 2, 1) := dk_28 (dk_at dksX3_member_2 1 rfl rfl)
theorem dX3_member_50 : decode cX3_member 50 = .ok (.invokevirtual 224, 3) := dk_182 0 224 (dk_at dksX3_member_2 2 rfl rfl)
theorem dX3_member_53 : decode cX3_member 53 = .ok (.ireturn, 1) := dk_172 (dk_at dksX3_member_2 5 rfl rfl)
abbrev cX3_between : ByteArray := prog_20_method_66_code
def yX3_between : MethodName := ⟨RX3, "between", "(II)I"⟩
def dkwX3_between_1 : List UInt8 := [27, 28, 182, 1, 56, 167, 0, 4, 3, 172]
abbrev dktX3_between_1 : List UInt8 := dkwX3_between_1 ++ []
def dkwX3_between_0 : List UInt8 := [42, 3, 181, 0, 48, 42, 27, 6, 182, 1, 53, 153, 0, 21, 42, 28, 6, 182, 1, 53, 153, 0, 12, 42]
abbrev dktX3_between_0 : List UInt8 := dkwX3_between_0 ++ dktX3_between_1
theorem dksX3_between_0 : cX3_between.data.toList.drop 0 = dktX3_between_0 := by decide +kernel
theorem dksX3_between_1 : cX3_between.data.toList.drop 24 = dktX3_between_1 := dk_seg dksX3_between_0 24 rfl rfl
theorem dX3_between_0 : decode cX3_between 0 = .ok (.aload_n 0, 1) := dk_42 (dk_at dksX3_between_0 0 rfl rfl)
theorem dX3_between_1 : decode cX3_between 1 = .ok (.iconst 0, 1) := dk_3 (dk_at dksX3_between_0 1 rfl rfl)
theorem dX3_between_2 : decode cX3_between 2 = .ok (.putfield 48, 3) := dk_181 0 48 (dk_at dksX3_between_0 2 rfl rfl)
theorem dX3_between_5 : decode cX3_between 5 = .ok (.aload_n 0, 1) := dk_42 (dk_at dksX3_between_0 5 rfl rfl)
theorem dX3_between_6 : decode cX3_between 6 = .ok (.iload_n 1, 1) := dk_27 (dk_at dksX3_between_0 6 rfl rfl)
theorem dX3_between_7 : decode cX3_between 7 = .ok (.iconst 3, 1) := dk_6 (dk_at dksX3_between_0 7 rfl rfl)
theorem dX3_between_8 : decode cX3_between 8 = .ok (.invokevirtual 309, 3) := dk_182 1 53 (dk_at dksX3_between_0 8 rfl rfl)
theorem dX3_between_11 : decode cX3_between 11 = .ok (.ifCond .eq 21, 3) := dk_153 0 21 (dk_at dksX3_between_0 11 rfl rfl)
theorem dX3_between_14 : decode cX3_between 14 = .ok (.aload_n 0, 1) := dk_42 (dk_at dksX3_between_0 14 rfl rfl)
theorem dX3_between_15 : decode cX3_between 15 = .ok (.iload_n 2, 1) := dk_28 (dk_at dksX3_between_0 15 rfl rfl)
theorem dX3_between_16 : decode cX3_between 16 = .ok (.iconst 3, 1) := dk_6 (dk_at dksX3_between_0 16 rfl rfl)
theorem dX3_between_17 : decode cX3_between 17 = .ok (.invokevirtual 309, 3) := dk_182 1 53 (dk_at dksX3_between_0 17 rfl rfl)
theorem dX3_between_20 : decode cX3_between 20 = .ok (.ifCond .eq 12, 3) := dk_153 0 12 (dk_at dksX3_between_0 20 rfl rfl)
theorem dX3_between_23 : decode cX3_between 23 = .ok (.aload_n 0, 1) := dk_42 (dk_at dksX3_between_0 23 rfl rfl)
theorem dX3_between_24 : decode cX3_between 24 = .ok (.iload_n 1, 1) := dk_27 (dk_at dksX3_between_1 0 rfl rfl)
theorem dX3_between_25 : decode cX3_between 25 = .ok (.iload_n 2, 1) := dk_28 (dk_at dksX3_between_1 1 rfl rfl)
theorem dX3_between_26 : decode cX3_between 26 = .ok (.invokevirtual 312, 3) := dk_182 1 56 (dk_at dksX3_between_1 2 rfl rfl)
theorem dX3_between_29 : decode cX3_between 29 = .ok (.goto 4, 3) := dk_167 0 4 (dk_at dksX3_between_1 5 rfl rfl)
theorem dX3_between_32 : decode cX3_between 32 = .ok (.iconst 0, 1) := dk_3 (dk_at dksX3_between_1 8 rfl rfl)
theorem dX3_between_33 : decode cX3_between 33 = .ok (.ireturn, 1) := dk_172 (dk_at dksX3_between_1 9 rfl rfl)
abbrev cX3_barBetween : ByteArray := prog_20_method_65_code
def yX3_barBetween : MethodName := ⟨RX3, "barBetween", "(II)I"⟩
def dkwX3_barBetween_1 : List UInt8 := [182, 0, 224, 133, 27, 133, 28, 133, 184, 0, 168, 153, 0, 5, 29, 172, 132, 3, 1, 167, 255, 216, 2, 172]
abbrev dktX3_barBetween_1 : List UInt8 := dkwX3_barBetween_1 ++ []
def dkwX3_barBetween_0 : List UInt8 := [3, 62, 29, 133, 42, 8, 182, 0, 54, 148, 156, 0, 35, 42, 29, 3, 182, 0, 224, 133, 42, 29, 4]
abbrev dktX3_barBetween_0 : List UInt8 := dkwX3_barBetween_0 ++ dktX3_barBetween_1
theorem dksX3_barBetween_0 : cX3_barBetween.data.toList.drop 0 = dktX3_barBetween_0 := by decide +kernel
theorem dksX3_barBetween_1 : cX3_barBetween.data.toList.drop 23 = dktX3_barBetween_1 := dk_seg dksX3_barBetween_0 23 rfl rfl
theorem dX3_barBetween_0 : decode cX3_barBetween 0 = .ok (.iconst 0, 1) := dk_3 (dk_at dksX3_barBetween_0 0 rfl rfl)
theorem dX3_barBetween_1 : decode cX3_barBetween 1 = .ok (.istore_n 3, 1) := dk_62 (dk_at dksX3_barBetween_0 1 rfl rfl)
theorem dX3_barBetween_2 : decode cX3_barBetween 2 = .ok (.iload_n 3, 1) := dk_29 (dk_at dksX3_barBetween_0 2 rfl rfl)
theorem dX3_barBetween_3 : decode cX3_barBetween 3 = .ok (.i2l, 1) := dk_133 (dk_at dksX3_barBetween_0 3 rfl rfl)
theorem dX3_barBetween_4 : decode cX3_barBetween 4 = .ok (.aload_n 0, 1) := dk_42 (dk_at dksX3_barBetween_0 4 rfl rfl)
theorem dX3_barBetween_5 : decode cX3_barBetween 5 = .ok (.iconst 5, 1) := dk_8 (dk_at dksX3_barBetween_0 5 rfl rfl)
theorem dX3_barBetween_6 : decode cX3_barBetween 6 = .ok (.invokevirtual 54, 3) := dk_182 0 54 (dk_at dksX3_barBetween_0 6 rfl rfl)
theorem dX3_barBetween_9 : decode cX3_barBetween 9 = .ok (.lcmp, 1) := dk_148 (dk_at dksX3_barBetween_0 9 rfl rfl)
theorem dX3_barBetween_10 : decode cX3_barBetween 10 = .ok (.ifCond .ge 35, 3) := dk_156 0 35 (dk_at dksX3_barBetween_0 10 rfl rfl)
theorem dX3_barBetween_13 : decode cX3_barBetween 13 = .ok (.aload_n 0, 1) := dk_42 (dk_at dksX3_barBetween_0 13 rfl rfl)
theorem dX3_barBetween_14 : decode cX3_barBetween 14 = .ok (.iload_n 3, 1) := dk_29 (dk_at dksX3_barBetween_0 14 rfl rfl)
theorem dX3_barBetween_15 : decode cX3_barBetween 15 = .ok (.iconst 0, 1) := dk_3 (dk_at dksX3_barBetween_0 15 rfl rfl)
theorem dX3_barBetween_16 : decode cX3_barBetween 16 = .ok (.invokevirtual 224, 3) := dk_182 0 224 (dk_at dksX3_barBetween_0 16 rfl rfl)
theorem dX3_barBetween_19 : decode cX3_barBetween 19 = .ok (.i2l, 1) := dk_133 (dk_at dksX3_barBetween_0 19 rfl rfl)
theorem dX3_barBetween_20 : decode cX3_barBetween 20 = .ok (.aload_n 0, 1) := dk_42 (dk_at dksX3_barBetween_0 20 rfl rfl)
theorem dX3_barBetween_21 : decode cX3_barBetween 21 = .ok (.iload_n 3, 1) := dk_29 (dk_at dksX3_barBetween_0 21 rfl rfl)
theorem dX3_barBetween_22 : decode cX3_barBetween 22 = .ok (.iconst 1, 1) := dk_4 (dk_at dksX3_barBetween_0 22 rfl rfl)
theorem dX3_barBetween_23 : decode cX3_barBetween 23 = .ok (.invokevirtual 224, 3) := dk_182 0 224 (dk_at dksX3_barBetween_1 0 rfl rfl)
theorem dX3_barBetween_26 : decode cX3_barBetween 26 = .ok (.i2l, 1) := dk_133 (dk_at dksX3_barBetween_1 3 rfl rfl)
theorem dX3_barBetween_27 : decode cX3_barBetween 27 = .ok (.iload_n 1, 1) := dk_27 (dk_at dksX3_barBetween_1 4 rfl rfl)
theorem dX3_barBetween_28 : decode cX3_barBetween 28 = .ok (.i2l, 1) := dk_133 (dk_at dksX3_barBetween_1 5 rfl rfl)
theorem dX3_barBetween_29 : decode cX3_barBetween 29 = .ok (.iload_n 2, 1) := dk_28 (dk_at dksX3_barBetween_1 6 rfl rfl)
theorem dX3_barBetween_30 : decode cX3_barBetween 30 = .ok (.i2l, 1) := dk_133 (dk_at dksX3_barBetween_1 7 rfl rfl)
theorem dX3_barBetween_31 : decode cX3_barBetween 31 = .ok (.invokestatic 168, 3) := dk_184 0 168 (dk_at dksX3_barBetween_1 8 rfl rfl)
theorem dX3_barBetween_34 : decode cX3_barBetween 34 = .ok (.ifCond .eq 5, 3) := dk_153 0 5 (dk_at dksX3_barBetween_1 11 rfl rfl)
theorem dX3_barBetween_37 : decode cX3_barBetween 37 = .ok (.iload_n 3, 1) := dk_29 (dk_at dksX3_barBetween_1 14 rfl rfl)
theorem dX3_barBetween_38 : decode cX3_barBetween 38 = .ok (.ireturn, 1) := dk_172 (dk_at dksX3_barBetween_1 15 rfl rfl)
theorem dX3_barBetween_39 : decode cX3_barBetween 39 = .ok (.iinc 3 1, 3) := dk_132 3 1 (dk_at dksX3_barBetween_1 16 rfl rfl)
theorem dX3_barBetween_42 : decode cX3_barBetween 42 = .ok (.goto (-40), 3) := dk_167 255 216 (dk_at dksX3_barBetween_1 19 rfl rfl)
theorem dX3_barBetween_45 : decode cX3_barBetween 45 = .ok (.iconst (-1), 1) := dk_2 (dk_at dksX3_barBetween_1 22 rfl rfl)
theorem dX3_barBetween_46 : decode cX3_barBetween 46 = .ok (.ireturn, 1) := dk_172 (dk_at dksX3_barBetween_1 23 rfl rfl)
abbrev cX3_degree : ByteArray := prog_20_method_67_code
def yX3_degree : MethodName := ⟨RX3, "degree", "(I)I"⟩
def dkwX3_degree_2 : List UInt8 := [27, 160, 0, 7, 4, 167, 0, 4, 3, 96, 61, 132, 3, 1, 167, 255, 214, 28, 172]
abbrev dktX3_degree_2 : List UInt8 := dkwX3_degree_2 ++ []
def dkwX3_degree_1 : List UInt8 := [182, 0, 54, 148, 156, 0, 37, 28, 42, 29, 3, 182, 0, 224, 27, 159, 0, 13, 42, 29, 4, 182, 0, 224]
abbrev dktX3_degree_1 : List UInt8 := dkwX3_degree_1 ++ dktX3_degree_2
def dkwX3_degree_0 : List UInt8 := [42, 3, 181, 0, 48, 42, 27, 6, 182, 1, 53, 154, 0, 5, 3, 172, 3, 61, 3, 62, 29, 133, 42, 8]
abbrev dktX3_degree_0 : List UInt8 := dkwX3_degree_0 ++ dktX3_degree_1
theorem dksX3_degree_0 : cX3_degree.data.toList.drop 0 = dktX3_degree_0 := by decide +kernel
theorem dksX3_degree_1 : cX3_degree.data.toList.drop 24 = dktX3_degree_1 := dk_seg dksX3_degree_0 24 rfl rfl
theorem dksX3_degree_2 : cX3_degree.data.toList.drop 48 = dktX3_degree_2 := dk_seg dksX3_degree_1 24 rfl rfl
theorem dX3_degree_0 : decode cX3_degree 0 = .ok (.aload_n 0, 1) := dk_42 (dk_at dksX3_degree_0 0 rfl rfl)
theorem dX3_degree_1 : decode cX3_degree 1 = .ok (.iconst 0, 1) := dk_3 (dk_at dksX3_degree_0 1 rfl rfl)
theorem dX3_degree_2 : decode cX3_degree 2 = .ok (.putfield 48, 3) := dk_181 0 48 (dk_at dksX3_degree_0 2 rfl rfl)
theorem dX3_degree_5 : decode cX3_degree 5 = .ok (.aload_n 0, 1) := dk_42 (dk_at dksX3_degree_0 5 rfl rfl)
theorem dX3_degree_6 : decode cX3_degree 6 = .ok (.iload_n 1, 1) := dk_27 (dk_at dksX3_degree_0 6 rfl rfl)
theorem dX3_degree_7 : decode cX3_degree 7 = .ok (.iconst 3, 1) := dk_6 (dk_at dksX3_degree_0 7 rfl rfl)
theorem dX3_degree_8 : decode cX3_degree 8 = .ok (.invokevirtual 309, 3) := dk_182 1 53 (dk_at dksX3_degree_0 8 rfl rfl)
theorem dX3_degree_11 : decode cX3_degree 11 = .ok (.ifCond .ne 5, 3) := dk_154 0 5 (dk_at dksX3_degree_0 11 rfl rfl)
theorem dX3_degree_14 : decode cX3_degree 14 = .ok (.iconst 0, 1) := dk_3 (dk_at dksX3_degree_0 14 rfl rfl)
theorem dX3_degree_15 : decode cX3_degree 15 = .ok (.ireturn, 1) := dk_172 (dk_at dksX3_degree_0 15 rfl rfl)
theorem dX3_degree_16 : decode cX3_degree 16 = .ok (.iconst 0, 1) := dk_3 (dk_at dksX3_degree_0 16 rfl rfl)
theorem dX3_degree_17 : decode cX3_degree 17 = .ok (.istore_n 2, 1) := dk_61 (dk_at dksX3_degree_0 17 rfl rfl)
theorem dX3_degree_18 : decode cX3_degree 18 = .ok (.iconst 0, 1) := dk_3 (dk_at dksX3_degree_0 18 rfl rfl)
theorem dX3_degree_19 : decode cX3_degree 19 = .ok (.istore_n 3, 1) := dk_62 (dk_at dksX3_degree_0 19 rfl rfl)
theorem dX3_degree_20 : decode cX3_degree 20 = .ok (.iload_n 3, 1) := dk_29 (dk_at dksX3_degree_0 20 rfl rfl)
theorem dX3_degree_21 : decode cX3_degree 21 = .ok (.i2l, 1) := dk_133 (dk_at dksX3_degree_0 21 rfl rfl)
theorem dX3_degree_22 : decode cX3_degree 22 = .ok (.aload_n 0, 1) := dk_42 (dk_at dksX3_degree_0 22 rfl rfl)
theorem dX3_degree_23 : decode cX3_degree 23 = .ok (.iconst 5, 1) := dk_8 (dk_at dksX3_degree_0 23 rfl rfl)
theorem dX3_degree_24 : decode cX3_degree 24 = .ok (.invokevirtual 54, 3) := dk_182 0 54 (dk_at dksX3_degree_1 0 rfl rfl)
theorem dX3_degree_27 : decode cX3_degree 27 = .ok (.lcmp, 1) := dk_148 (dk_at dksX3_degree_1 3 rfl rfl)
theorem dX3_degree_28 : decode cX3_degree 28 = .ok (.ifCond .ge 37, 3) := dk_156 0 37 (dk_at dksX3_degree_1 4 rfl rfl)
theorem dX3_degree_31 : decode cX3_degree 31 = .ok (.iload_n 2, 1) := dk_28 (dk_at dksX3_degree_1 7 rfl rfl)
theorem dX3_degree_32 : decode cX3_degree 32 = .ok (.aload_n 0, 1) := dk_42 (dk_at dksX3_degree_1 8 rfl rfl)
theorem dX3_degree_33 : decode cX3_degree 33 = .ok (.iload_n 3, 1) := dk_29 (dk_at dksX3_degree_1 9 rfl rfl)
theorem dX3_degree_34 : decode cX3_degree 34 = .ok (.iconst 0, 1) := dk_3 (dk_at dksX3_degree_1 10 rfl rfl)
theorem dX3_degree_35 : decode cX3_degree 35 = .ok (.invokevirtual 224, 3) := dk_182 0 224 (dk_at dksX3_degree_1 11 rfl rfl)
theorem dX3_degree_38 : decode cX3_degree 38 = .ok (.iload_n 1, 1) := dk_27 (dk_at dksX3_degree_1 14 rfl rfl)
theorem dX3_degree_39 : decode cX3_degree 39 = .ok (.if_icmp .eq 13, 3) := dk_159 0 13 (dk_at dksX3_degree_1 15 rfl rfl)
theorem dX3_degree_42 : decode cX3_degree 42 = .ok (.aload_n 0, 1) := dk_42 (dk_at dksX3_degree_1 18 rfl rfl)
theorem dX3_degree_43 : decode cX3_degree 43 = .ok (.iload_n 3, 1) := dk_29 (dk_at dksX3_degree_1 19 rfl rfl)
theorem dX3_degree_44 : decode cX3_degree 44 = .ok (.iconst 1, 1) := dk_4 (dk_at dksX3_degree_1 20 rfl rfl)
theorem dX3_degree_45 : decode cX3_degree 45 = .ok (.invokevirtual 224, 3) := dk_182 0 224 (dk_at dksX3_degree_1 21 rfl rfl)
theorem dX3_degree_48 : decode cX3_degree 48 = .ok (.iload_n 1, 1) := dk_27 (dk_at dksX3_degree_2 0 rfl rfl)
theorem dX3_degree_49 : decode cX3_degree 49 = .ok (.if_icmp .ne 7, 3) := dk_160 0 7 (dk_at dksX3_degree_2 1 rfl rfl)
theorem dX3_degree_52 : decode cX3_degree 52 = .ok (.iconst 1, 1) := dk_4 (dk_at dksX3_degree_2 4 rfl rfl)
theorem dX3_degree_53 : decode cX3_degree 53 = .ok (.goto 4, 3) := dk_167 0 4 (dk_at dksX3_degree_2 5 rfl rfl)
theorem dX3_degree_56 : decode cX3_degree 56 = .ok (.iconst 0, 1) := dk_3 (dk_at dksX3_degree_2 8 rfl rfl)
theorem dX3_degree_57 : decode cX3_degree 57 = .ok (.iadd, 1) := dk_96 (dk_at dksX3_degree_2 9 rfl rfl)
theorem dX3_degree_58 : decode cX3_degree 58 = .ok (.istore_n 2, 1) := dk_61 (dk_at dksX3_degree_2 10 rfl rfl)
theorem dX3_degree_59 : decode cX3_degree 59 = .ok (.iinc 3 1, 3) := dk_132 3 1 (dk_at dksX3_degree_2 11 rfl rfl)
theorem dX3_degree_62 : decode cX3_degree 62 = .ok (.goto (-42), 3) := dk_167 255 214 (dk_at dksX3_degree_2 14 rfl rfl)
theorem dX3_degree_65 : decode cX3_degree 65 = .ok (.iload_n 2, 1) := dk_28 (dk_at dksX3_degree_2 17 rfl rfl)
theorem dX3_degree_66 : decode cX3_degree 66 = .ok (.ireturn, 1) := dk_172 (dk_at dksX3_degree_2 18 rfl rfl)
abbrev cX3_parts : ByteArray := prog_20_method_68_code
def yX3_parts : MethodName := ⟨RX3, "parts", "()I"⟩
def dkwX3_parts_5 : List UInt8 := [180, 0, 45, 21, 5, 46, 79, 132, 5, 1, 167, 255, 211, 132, 2, 1, 167, 255, 154, 27, 172]
abbrev dktX3_parts_5 : List UInt8 := dkwX3_parts_5 ++ []
def dkwX3_parts_4 : List UInt8 := [42, 180, 0, 45, 21, 5, 42, 180, 0, 45, 21, 5, 46, 29, 160, 0, 8, 21, 4, 167, 0, 10, 42]
abbrev dktX3_parts_4 : List UInt8 := dkwX3_parts_4 ++ dktX3_parts_5
def dkwX3_parts_3 : List UInt8 := [160, 0, 6, 167, 0, 57, 132, 1, 255, 3, 54, 5, 21, 5, 133, 42, 6, 182, 0, 54, 148, 156, 0, 39]
abbrev dktX3_parts_3 : List UInt8 := dkwX3_parts_3 ++ dktX3_parts_4
def dkwX3_parts_2 : List UInt8 := [42, 28, 3, 182, 0, 224, 46, 62, 42, 180, 0, 45, 42, 28, 4, 182, 0, 224, 46, 54, 4, 29, 21, 4]
abbrev dktX3_parts_2 : List UInt8 := dkwX3_parts_2 ++ dktX3_parts_3
def dkwX3_parts_1 : List UInt8 := [79, 132, 2, 1, 167, 255, 241, 3, 61, 28, 133, 42, 8, 182, 0, 54, 148, 156, 0, 97, 42, 180, 0, 45]
abbrev dktX3_parts_1 : List UInt8 := dkwX3_parts_1 ++ dktX3_parts_2
def dkwX3_parts_0 : List UInt8 := [42, 3, 181, 0, 48, 42, 6, 182, 0, 220, 60, 3, 61, 28, 27, 162, 0, 16, 42, 180, 0, 45, 28, 28]
abbrev dktX3_parts_0 : List UInt8 := dkwX3_parts_0 ++ dktX3_parts_1
theorem dksX3_parts_0 : cX3_parts.data.toList.drop 0 = dktX3_parts_0 := by decide +kernel
theorem dksX3_parts_1 : cX3_parts.data.toList.drop 24 = dktX3_parts_1 := dk_seg dksX3_parts_0 24 rfl rfl
theorem dksX3_parts_2 : cX3_parts.data.toList.drop 48 = dktX3_parts_2 := dk_seg dksX3_parts_1 24 rfl rfl
theorem dksX3_parts_3 : cX3_parts.data.toList.drop 72 = dktX3_parts_3 := dk_seg dksX3_parts_2 24 rfl rfl
theorem dksX3_parts_4 : cX3_parts.data.toList.drop 96 = dktX3_parts_4 := dk_seg dksX3_parts_3 24 rfl rfl
theorem dksX3_parts_5 : cX3_parts.data.toList.drop 119 = dktX3_parts_5 := dk_seg dksX3_parts_4 23 rfl rfl
theorem dX3_parts_0 : decode cX3_parts 0 = .ok (.aload_n 0, 1) := dk_42 (dk_at dksX3_parts_0 0 rfl rfl)
theorem dX3_parts_1 : decode cX3_parts 1 = .ok (.iconst 0, 1) := dk_3 (dk_at dksX3_parts_0 1 rfl rfl)
theorem dX3_parts_2 : decode cX3_parts 2 = .ok (.putfield 48, 3) := dk_181 0 48 (dk_at dksX3_parts_0 2 rfl rfl)
theorem dX3_parts_5 : decode cX3_parts 5 = .ok (.aload_n 0, 1) := dk_42 (dk_at dksX3_parts_0 5 rfl rfl)
theorem dX3_parts_6 : decode cX3_parts 6 = .ok (.iconst 3, 1) := dk_6 (dk_at dksX3_parts_0 6 rfl rfl)
theorem dX3_parts_7 : decode cX3_parts 7 = .ok (.invokevirtual 220, 3) := dk_182 0 220 (dk_at dksX3_parts_0 7 rfl rfl)
theorem dX3_parts_10 : decode cX3_parts 10 = .ok (.istore_n 1, 1) := dk_60 (dk_at dksX3_parts_0 10 rfl rfl)
theorem dX3_parts_11 : decode cX3_parts 11 = .ok (.iconst 0, 1) := dk_3 (dk_at dksX3_parts_0 11 rfl rfl)
theorem dX3_parts_12 : decode cX3_parts 12 = .ok (.istore_n 2, 1) := dk_61 (dk_at dksX3_parts_0 12 rfl rfl)
theorem dX3_parts_13 : decode cX3_parts 13 = .ok (.iload_n 2, 1) := dk_28 (dk_at dksX3_parts_0 13 rfl rfl)
theorem dX3_parts_14 : decode cX3_parts 14 = .ok (.iload_n 1, 1) := dk_27 (dk_at dksX3_parts_0 14 rfl rfl)
theorem dX3_parts_15 : decode cX3_parts 15 = .ok (.if_icmp .ge 16, 3) := dk_162 0 16 (dk_at dksX3_parts_0 15 rfl rfl)
theorem dX3_parts_18 : decode cX3_parts 18 = .ok (.aload_n 0, 1) := dk_42 (dk_at dksX3_parts_0 18 rfl rfl)
theorem dX3_parts_19 : decode cX3_parts 19 = .ok (.getfield 45, 3) := dk_180 0 45 (dk_at dksX3_parts_0 19 rfl rfl)
theorem dX3_parts_22 : decode cX3_parts 22 = .ok (.iload_n 2, 1) := dk_28 (dk_at dksX3_parts_0 22 rfl rfl)
theorem dX3_parts_23 : decode cX3_parts 23 = .ok (.iload_n 2, 1) := dk_28 (dk_at dksX3_parts_0 23 rfl rfl)
theorem dX3_parts_24 : decode cX3_parts 24 = .ok (.iastore, 1) := dk_79 (dk_at dksX3_parts_1 0 rfl rfl)
theorem dX3_parts_25 : decode cX3_parts 25 = .ok (.iinc 2 1, 3) := dk_132 2 1 (dk_at dksX3_parts_1 1 rfl rfl)
theorem dX3_parts_28 : decode cX3_parts 28 = .ok (.goto (-15), 3) := dk_167 255 241 (dk_at dksX3_parts_1 4 rfl rfl)
theorem dX3_parts_31 : decode cX3_parts 31 = .ok (.iconst 0, 1) := dk_3 (dk_at dksX3_parts_1 7 rfl rfl)
theorem dX3_parts_32 : decode cX3_parts 32 = .ok (.istore_n 2, 1) := dk_61 (dk_at dksX3_parts_1 8 rfl rfl)
theorem dX3_parts_33 : decode cX3_parts 33 = .ok (.iload_n 2, 1) := dk_28 (dk_at dksX3_parts_1 9 rfl rfl)
theorem dX3_parts_34 : decode cX3_parts 34 = .ok (.i2l, 1) := dk_133 (dk_at dksX3_parts_1 10 rfl rfl)
theorem dX3_parts_35 : decode cX3_parts 35 = .ok (.aload_n 0, 1) := dk_42 (dk_at dksX3_parts_1 11 rfl rfl)
theorem dX3_parts_36 : decode cX3_parts 36 = .ok (.iconst 5, 1) := dk_8 (dk_at dksX3_parts_1 12 rfl rfl)
theorem dX3_parts_37 : decode cX3_parts 37 = .ok (.invokevirtual 54, 3) := dk_182 0 54 (dk_at dksX3_parts_1 13 rfl rfl)
theorem dX3_parts_40 : decode cX3_parts 40 = .ok (.lcmp, 1) := dk_148 (dk_at dksX3_parts_1 16 rfl rfl)
theorem dX3_parts_41 : decode cX3_parts 41 = .ok (.ifCond .ge 97, 3) := dk_156 0 97 (dk_at dksX3_parts_1 17 rfl rfl)
theorem dX3_parts_44 : decode cX3_parts 44 = .ok (.aload_n 0, 1) := dk_42 (dk_at dksX3_parts_1 20 rfl rfl)
theorem dX3_parts_45 : decode cX3_parts 45 = .ok (.getfield 45, 3) := dk_180 0 45 (dk_at dksX3_parts_1 21 rfl rfl)
theorem dX3_parts_48 : decode cX3_parts 48 = .ok (.aload_n 0, 1) := dk_42 (dk_at dksX3_parts_2 0 rfl rfl)
theorem dX3_parts_49 : decode cX3_parts 49 = .ok (.iload_n 2, 1) := dk_28 (dk_at dksX3_parts_2 1 rfl rfl)
theorem dX3_parts_50 : decode cX3_parts 50 = .ok (.iconst 0, 1) := dk_3 (dk_at dksX3_parts_2 2 rfl rfl)
theorem dX3_parts_51 : decode cX3_parts 51 = .ok (.invokevirtual 224, 3) := dk_182 0 224 (dk_at dksX3_parts_2 3 rfl rfl)
theorem dX3_parts_54 : decode cX3_parts 54 = .ok (.iaload, 1) := dk_46 (dk_at dksX3_parts_2 6 rfl rfl)
theorem dX3_parts_55 : decode cX3_parts 55 = .ok (.istore_n 3, 1) := dk_62 (dk_at dksX3_parts_2 7 rfl rfl)
theorem dX3_parts_56 : decode cX3_parts 56 = .ok (.aload_n 0, 1) := dk_42 (dk_at dksX3_parts_2 8 rfl rfl)
theorem dX3_parts_57 : decode cX3_parts 57 = .ok (.getfield 45, 3) := dk_180 0 45 (dk_at dksX3_parts_2 9 rfl rfl)
theorem dX3_parts_60 : decode cX3_parts 60 = .ok (.aload_n 0, 1) := dk_42 (dk_at dksX3_parts_2 12 rfl rfl)
theorem dX3_parts_61 : decode cX3_parts 61 = .ok (.iload_n 2, 1) := dk_28 (dk_at dksX3_parts_2 13 rfl rfl)
theorem dX3_parts_62 : decode cX3_parts 62 = .ok (.iconst 1, 1) := dk_4 (dk_at dksX3_parts_2 14 rfl rfl)
theorem dX3_parts_63 : decode cX3_parts 63 = .ok (.invokevirtual 224, 3) := dk_182 0 224 (dk_at dksX3_parts_2 15 rfl rfl)
theorem dX3_parts_66 : decode cX3_parts 66 = .ok (.iaload, 1) := dk_46 (dk_at dksX3_parts_2 18 rfl rfl)
theorem dX3_parts_67 : decode cX3_parts 67 = .ok (.istore 4, 2) := dk_54 4 (dk_at dksX3_parts_2 19 rfl rfl)
theorem dX3_parts_69 : decode cX3_parts 69 = .ok (.iload_n 3, 1) := dk_29 (dk_at dksX3_parts_2 21 rfl rfl)
theorem dX3_parts_70 : decode cX3_parts 70 = .ok (.iload 4, 2) := dk_21 4 (dk_at dksX3_parts_2 22 rfl rfl)
theorem dX3_parts_72 : decode cX3_parts 72 = .ok (.if_icmp .ne 6, 3) := dk_160 0 6 (dk_at dksX3_parts_3 0 rfl rfl)
theorem dX3_parts_75 : decode cX3_parts 75 = .ok (.goto 57, 3) := dk_167 0 57 (dk_at dksX3_parts_3 3 rfl rfl)
theorem dX3_parts_78 : decode cX3_parts 78 = .ok (.iinc 1 (-1), 3) := dk_132 1 255 (dk_at dksX3_parts_3 6 rfl rfl)
theorem dX3_parts_81 : decode cX3_parts 81 = .ok (.iconst 0, 1) := dk_3 (dk_at dksX3_parts_3 9 rfl rfl)
theorem dX3_parts_82 : decode cX3_parts 82 = .ok (.istore 5, 2) := dk_54 5 (dk_at dksX3_parts_3 10 rfl rfl)
theorem dX3_parts_84 : decode cX3_parts 84 = .ok (.iload 5, 2) := dk_21 5 (dk_at dksX3_parts_3 12 rfl rfl)
theorem dX3_parts_86 : decode cX3_parts 86 = .ok (.i2l, 1) := dk_133 (dk_at dksX3_parts_3 14 rfl rfl)
theorem dX3_parts_87 : decode cX3_parts 87 = .ok (.aload_n 0, 1) := dk_42 (dk_at dksX3_parts_3 15 rfl rfl)
theorem dX3_parts_88 : decode cX3_parts 88 = .ok (.iconst 3, 1) := dk_6 (dk_at dksX3_parts_3 16 rfl rfl)
theorem dX3_parts_89 : decode cX3_parts 89 = .ok (.invokevirtual 54, 3) := dk_182 0 54 (dk_at dksX3_parts_3 17 rfl rfl)
theorem dX3_parts_92 : decode cX3_parts 92 = .ok (.lcmp, 1) := dk_148 (dk_at dksX3_parts_3 20 rfl rfl)
theorem dX3_parts_93 : decode cX3_parts 93 = .ok (.ifCond .ge 39, 3) := dk_156 0 39 (dk_at dksX3_parts_3 21 rfl rfl)
theorem dX3_parts_96 : decode cX3_parts 96 = .ok (.aload_n 0, 1) := dk_42 (dk_at dksX3_parts_4 0 rfl rfl)
theorem dX3_parts_97 : decode cX3_parts 97 = .ok (.getfield 45, 3) := dk_180 0 45 (dk_at dksX3_parts_4 1 rfl rfl)
theorem dX3_parts_100 : decode cX3_parts 100 = .ok (.iload 5, 2) := dk_21 5 (dk_at dksX3_parts_4 4 rfl rfl)
theorem dX3_parts_102 : decode cX3_parts 102 = .ok (.aload_n 0, 1) := dk_42 (dk_at dksX3_parts_4 6 rfl rfl)
theorem dX3_parts_103 : decode cX3_parts 103 = .ok (.getfield 45, 3) := dk_180 0 45 (dk_at dksX3_parts_4 7 rfl rfl)
theorem dX3_parts_106 : decode cX3_parts 106 = .ok (.iload 5, 2) := dk_21 5 (dk_at dksX3_parts_4 10 rfl rfl)
theorem dX3_parts_108 : decode cX3_parts 108 = .ok (.iaload, 1) := dk_46 (dk_at dksX3_parts_4 12 rfl rfl)
theorem dX3_parts_109 : decode cX3_parts 109 = .ok (.iload_n 3, 1) := dk_29 (dk_at dksX3_parts_4 13 rfl rfl)
theorem dX3_parts_110 : decode cX3_parts 110 = .ok (.if_icmp .ne 8, 3) := dk_160 0 8 (dk_at dksX3_parts_4 14 rfl rfl)
theorem dX3_parts_113 : decode cX3_parts 113 = .ok (.iload 4, 2) := dk_21 4 (dk_at dksX3_parts_4 17 rfl rfl)
theorem dX3_parts_115 : decode cX3_parts 115 = .ok (.goto 10, 3) := dk_167 0 10 (dk_at dksX3_parts_4 19 rfl rfl)
theorem dX3_parts_118 : decode cX3_parts 118 = .ok (.aload_n 0, 1) := dk_42 (dk_at dksX3_parts_4 22 rfl rfl)
theorem dX3_parts_119 : decode cX3_parts 119 = .ok (.getfield 45, 3) := dk_180 0 45 (dk_at dksX3_parts_5 0 rfl rfl)
theorem dX3_parts_122 : decode cX3_parts 122 = .ok (.iload 5, 2) := dk_21 5 (dk_at dksX3_parts_5 3 rfl rfl)
theorem dX3_parts_124 : decode cX3_parts 124 = .ok (.iaload, 1) := dk_46 (dk_at dksX3_parts_5 5 rfl rfl)
theorem dX3_parts_125 : decode cX3_parts 125 = .ok (.iastore, 1) := dk_79 (dk_at dksX3_parts_5 6 rfl rfl)
theorem dX3_parts_126 : decode cX3_parts 126 = .ok (.iinc 5 1, 3) := dk_132 5 1 (dk_at dksX3_parts_5 7 rfl rfl)
theorem dX3_parts_129 : decode cX3_parts 129 = .ok (.goto (-45), 3) := dk_167 255 211 (dk_at dksX3_parts_5 10 rfl rfl)
theorem dX3_parts_132 : decode cX3_parts 132 = .ok (.iinc 2 1, 3) := dk_132 2 1 (dk_at dksX3_parts_5 13 rfl rfl)
theorem dX3_parts_135 : decode cX3_parts 135 = .ok (.goto (-102), 3) := dk_167 255 154 (dk_at dksX3_parts_5 16 rfl rfl)
theorem dX3_parts_138 : decode cX3_parts 138 = .ok (.iload_n 1, 1) := dk_27 (dk_at dksX3_parts_5 19 rfl rfl)
theorem dX3_parts_139 : decode cX3_parts 139 = .ok (.ireturn, 1) := dk_172 (dk_at dksX3_parts_5 20 rfl rfl)
abbrev cX3_displacement : ByteArray := prog_20_method_69_code
def yX3_displacement : MethodName := ⟨RX3, "displacement", "(IIZ)I"⟩
def dkwX3_displacement_2 : List UInt8 := [180, 0, 30, 16, 8, 28, 104, 27, 96, 47, 136, 172]
abbrev dktX3_displacement_2 : List UInt8 := dkwX3_displacement_2 ++ []
def dkwX3_displacement_1 : List UInt8 := [42, 182, 1, 63, 29, 153, 0, 17, 42, 180, 0, 27, 16, 8, 28, 104, 27, 96, 47, 167, 0, 14, 42]
abbrev dktX3_displacement_1 : List UInt8 := dkwX3_displacement_1 ++ dktX3_displacement_2
def dkwX3_displacement_0 : List UInt8 := [42, 3, 181, 0, 48, 42, 27, 6, 182, 1, 53, 153, 0, 11, 42, 28, 182, 1, 59, 154, 0, 5, 3, 172]
abbrev dktX3_displacement_0 : List UInt8 := dkwX3_displacement_0 ++ dktX3_displacement_1
theorem dksX3_displacement_0 : cX3_displacement.data.toList.drop 0 = dktX3_displacement_0 := by decide +kernel
theorem dksX3_displacement_1 : cX3_displacement.data.toList.drop 24 = dktX3_displacement_1 := dk_seg dksX3_displacement_0 24 rfl rfl
theorem dksX3_displacement_2 : cX3_displacement.data.toList.drop 47 = dktX3_displacement_2 := dk_seg dksX3_displacement_1 23 rfl rfl
theorem dX3_displacement_0 : decode cX3_displacement 0 = .ok (.aload_n 0, 1) := dk_42 (dk_at dksX3_displacement_0 0 rfl rfl)
theorem dX3_displacement_1 : decode cX3_displacement 1 = .ok (.iconst 0, 1) := dk_3 (dk_at dksX3_displacement_0 1 rfl rfl)
theorem dX3_displacement_2 : decode cX3_displacement 2 = .ok (.putfield 48, 3) := dk_181 0 48 (dk_at dksX3_displacement_0 2 rfl rfl)
theorem dX3_displacement_5 : decode cX3_displacement 5 = .ok (.aload_n 0, 1) := dk_42 (dk_at dksX3_displacement_0 5 rfl rfl)
theorem dX3_displacement_6 : decode cX3_displacement 6 = .ok (.iload_n 1, 1) := dk_27 (dk_at dksX3_displacement_0 6 rfl rfl)
theorem dX3_displacement_7 : decode cX3_displacement 7 = .ok (.iconst 3, 1) := dk_6 (dk_at dksX3_displacement_0 7 rfl rfl)
theorem dX3_displacement_8 : decode cX3_displacement 8 = .ok (.invokevirtual 309, 3) := dk_182 1 53 (dk_at dksX3_displacement_0 8 rfl rfl)
theorem dX3_displacement_11 : decode cX3_displacement 11 = .ok (.ifCond .eq 11, 3) := dk_153 0 11 (dk_at dksX3_displacement_0 11 rfl rfl)
theorem dX3_displacement_14 : decode cX3_displacement 14 = .ok (.aload_n 0, 1) := dk_42 (dk_at dksX3_displacement_0 14 rfl rfl)
theorem dX3_displacement_15 : decode cX3_displacement 15 = .ok (.iload_n 2, 1) := dk_28 (dk_at dksX3_displacement_0 15 rfl rfl)
theorem dX3_displacement_16 : decode cX3_displacement 16 = .ok (.invokevirtual 315, 3) := dk_182 1 59 (dk_at dksX3_displacement_0 16 rfl rfl)
theorem dX3_displacement_19 : decode cX3_displacement 19 = .ok (.ifCond .ne 5, 3) := dk_154 0 5 (dk_at dksX3_displacement_0 19 rfl rfl)
theorem dX3_displacement_22 : decode cX3_displacement 22 = .ok (.iconst 0, 1) := dk_3 (dk_at dksX3_displacement_0 22 rfl rfl)
theorem dX3_displacement_23 : decode cX3_displacement 23 = .ok (.ireturn, 1) := dk_172 (dk_at dksX3_displacement_0 23 rfl rfl)
theorem dX3_displacement_24 : decode cX3_displacement 24 = .ok (.aload_n 0, 1) := dk_42 (dk_at dksX3_displacement_1 0 rfl rfl)
theorem dX3_displacement_25 : decode cX3_displacement 25 = .ok (.invokevirtual 319, 3) := dk_182 1 63 (dk_at dksX3_displacement_1 1 rfl rfl)
theorem dX3_displacement_28 : decode cX3_displacement 28 = .ok (.iload_n 3, 1) := dk_29 (dk_at dksX3_displacement_1 4 rfl rfl)
theorem dX3_displacement_29 : decode cX3_displacement 29 = .ok (.ifCond .eq 17, 3) := dk_153 0 17 (dk_at dksX3_displacement_1 5 rfl rfl)
theorem dX3_displacement_32 : decode cX3_displacement 32 = .ok (.aload_n 0, 1) := dk_42 (dk_at dksX3_displacement_1 8 rfl rfl)
theorem dX3_displacement_33 : decode cX3_displacement 33 = .ok (.getfield 27, 3) := dk_180 0 27 (dk_at dksX3_displacement_1 9 rfl rfl)
theorem dX3_displacement_36 : decode cX3_displacement 36 = .ok (.bipush 8, 2) := dk_16 8 (dk_at dksX3_displacement_1 12 rfl rfl)
theorem dX3_displacement_38 : decode cX3_displacement 38 = .ok (.iload_n 2, 1) := dk_28 (dk_at dksX3_displacement_1 14 rfl rfl)
theorem dX3_displacement_39 : decode cX3_displacement 39 = .ok (.imul, 1) := dk_104 (dk_at dksX3_displacement_1 15 rfl rfl)
theorem dX3_displacement_40 : decode cX3_displacement 40 = .ok (.iload_n 1, 1) := dk_27 (dk_at dksX3_displacement_1 16 rfl rfl)
theorem dX3_displacement_41 : decode cX3_displacement 41 = .ok (.iadd, 1) := dk_96 (dk_at dksX3_displacement_1 17 rfl rfl)
theorem dX3_displacement_42 : decode cX3_displacement 42 = .ok (.laload, 1) := dk_47 (dk_at dksX3_displacement_1 18 rfl rfl)
theorem dX3_displacement_43 : decode cX3_displacement 43 = .ok (.goto 14, 3) := dk_167 0 14 (dk_at dksX3_displacement_1 19 rfl rfl)
theorem dX3_displacement_46 : decode cX3_displacement 46 = .ok (.aload_n 0, 1) := dk_42 (dk_at dksX3_displacement_1 22 rfl rfl)
theorem dX3_displacement_47 : decode cX3_displacement 47 = .ok (.getfield 30, 3) := dk_180 0 30 (dk_at dksX3_displacement_2 0 rfl rfl)
theorem dX3_displacement_50 : decode cX3_displacement 50 = .ok (.bipush 8, 2) := dk_16 8 (dk_at dksX3_displacement_2 3 rfl rfl)
theorem dX3_displacement_52 : decode cX3_displacement 52 = .ok (.iload_n 2, 1) := dk_28 (dk_at dksX3_displacement_2 5 rfl rfl)
theorem dX3_displacement_53 : decode cX3_displacement 53 = .ok (.imul, 1) := dk_104 (dk_at dksX3_displacement_2 6 rfl rfl)
theorem dX3_displacement_54 : decode cX3_displacement 54 = .ok (.iload_n 1, 1) := dk_27 (dk_at dksX3_displacement_2 7 rfl rfl)
theorem dX3_displacement_55 : decode cX3_displacement 55 = .ok (.iadd, 1) := dk_96 (dk_at dksX3_displacement_2 8 rfl rfl)
theorem dX3_displacement_56 : decode cX3_displacement 56 = .ok (.laload, 1) := dk_47 (dk_at dksX3_displacement_2 9 rfl rfl)
theorem dX3_displacement_57 : decode cX3_displacement 57 = .ok (.l2i, 1) := dk_136 (dk_at dksX3_displacement_2 10 rfl rfl)
theorem dX3_displacement_58 : decode cX3_displacement 58 = .ok (.ireturn, 1) := dk_172 (dk_at dksX3_displacement_2 11 rfl rfl)
abbrev cX3_isStage : ByteArray := prog_20_method_62_code
def yX3_isStage : MethodName := ⟨RX3, "isStage", "(I)Z"⟩
def dkwX3_isStage_0 : List UInt8 := [42, 27, 133, 9, 42, 182, 1, 12, 4, 100, 133, 184, 0, 120, 4, 182, 0, 210, 172]
abbrev dktX3_isStage_0 : List UInt8 := dkwX3_isStage_0 ++ []
theorem dksX3_isStage_0 : cX3_isStage.data.toList.drop 0 = dktX3_isStage_0 := by decide +kernel
theorem dX3_isStage_0 : decode cX3_isStage 0 = .ok (.aload_n 0, 1) := dk_42 (dk_at dksX3_isStage_0 0 rfl rfl)
theorem dX3_isStage_1 : decode cX3_isStage 1 = .ok (.iload_n 1, 1) := dk_27 (dk_at dksX3_isStage_0 1 rfl rfl)
theorem dX3_isStage_2 : decode cX3_isStage 2 = .ok (.i2l, 1) := dk_133 (dk_at dksX3_isStage_0 2 rfl rfl)
theorem dX3_isStage_3 : decode cX3_isStage 3 = .ok (.lconst 0, 1) := dk_9 (dk_at dksX3_isStage_0 3 rfl rfl)
theorem dX3_isStage_4 : decode cX3_isStage 4 = .ok (.aload_n 0, 1) := dk_42 (dk_at dksX3_isStage_0 4 rfl rfl)
theorem dX3_isStage_5 : decode cX3_isStage 5 = .ok (.invokevirtual 268, 3) := dk_182 1 12 (dk_at dksX3_isStage_0 5 rfl rfl)
theorem dX3_isStage_8 : decode cX3_isStage 8 = .ok (.iconst 1, 1) := dk_4 (dk_at dksX3_isStage_0 8 rfl rfl)
theorem dX3_isStage_9 : decode cX3_isStage 9 = .ok (.isub, 1) := dk_100 (dk_at dksX3_isStage_0 9 rfl rfl)
theorem dX3_isStage_10 : decode cX3_isStage 10 = .ok (.i2l, 1) := dk_133 (dk_at dksX3_isStage_0 10 rfl rfl)
theorem dX3_isStage_11 : decode cX3_isStage 11 = .ok (.invokestatic 120, 3) := dk_184 0 120 (dk_at dksX3_isStage_0 11 rfl rfl)
theorem dX3_isStage_14 : decode cX3_isStage 14 = .ok (.iconst 1, 1) := dk_4 (dk_at dksX3_isStage_0 14 rfl rfl)
theorem dX3_isStage_15 : decode cX3_isStage 15 = .ok (.invokevirtual 210, 3) := dk_182 0 210 (dk_at dksX3_isStage_0 15 rfl rfl)
theorem dX3_isStage_18 : decode cX3_isStage 18 = .ok (.ireturn, 1) := dk_172 (dk_at dksX3_isStage_0 18 rfl rfl)
abbrev cX3_relaxesAll : ByteArray := prog_20_method_46_code
def yX3_relaxesAll : MethodName := ⟨RX3, "relaxesAll", "()V"⟩
def dkwX3_relaxesAll_1 : List UInt8 := [167, 255, 240, 177]
abbrev dktX3_relaxesAll_1 : List UInt8 := dkwX3_relaxesAll_1 ++ []
def dkwX3_relaxesAll_0 : List UInt8 := [42, 182, 1, 9, 3, 60, 27, 42, 182, 1, 12, 162, 0, 14, 42, 27, 182, 1, 15, 132, 1, 1]
abbrev dktX3_relaxesAll_0 : List UInt8 := dkwX3_relaxesAll_0 ++ dktX3_relaxesAll_1
theorem dksX3_relaxesAll_0 : cX3_relaxesAll.data.toList.drop 0 = dktX3_relaxesAll_0 := by decide +kernel
theorem dksX3_relaxesAll_1 : cX3_relaxesAll.data.toList.drop 22 = dktX3_relaxesAll_1 := dk_seg dksX3_relaxesAll_0 22 rfl rfl
theorem dX3_relaxesAll_0 : decode cX3_relaxesAll 0 = .ok (.aload_n 0, 1) := dk_42 (dk_at dksX3_relaxesAll_0 0 rfl rfl)
theorem dX3_relaxesAll_1 : decode cX3_relaxesAll 1 = .ok (.invokevirtual 265, 3) := dk_182 1 9 (dk_at dksX3_relaxesAll_0 1 rfl rfl)
theorem dX3_relaxesAll_4 : decode cX3_relaxesAll 4 = .ok (.iconst 0, 1) := dk_3 (dk_at dksX3_relaxesAll_0 4 rfl rfl)
theorem dX3_relaxesAll_5 : decode cX3_relaxesAll 5 = .ok (.istore_n 1, 1) := dk_60 (dk_at dksX3_relaxesAll_0 5 rfl rfl)
theorem dX3_relaxesAll_6 : decode cX3_relaxesAll 6 = .ok (.iload_n 1, 1) := dk_27 (dk_at dksX3_relaxesAll_0 6 rfl rfl)
theorem dX3_relaxesAll_7 : decode cX3_relaxesAll 7 = .ok (.aload_n 0, 1) := dk_42 (dk_at dksX3_relaxesAll_0 7 rfl rfl)
theorem dX3_relaxesAll_8 : decode cX3_relaxesAll 8 = .ok (.invokevirtual 268, 3) := dk_182 1 12 (dk_at dksX3_relaxesAll_0 8 rfl rfl)
theorem dX3_relaxesAll_11 : decode cX3_relaxesAll 11 = .ok (.if_icmp .ge 14, 3) := dk_162 0 14 (dk_at dksX3_relaxesAll_0 11 rfl rfl)
theorem dX3_relaxesAll_14 : decode cX3_relaxesAll 14 = .ok (.aload_n 0, 1) := dk_42 (dk_at dksX3_relaxesAll_0 14 rfl rfl)
theorem dX3_relaxesAll_15 : decode cX3_relaxesAll 15 = .ok (.iload_n 1, 1) := dk_27 (dk_at dksX3_relaxesAll_0 15 rfl rfl)
theorem dX3_relaxesAll_16 : decode cX3_relaxesAll 16 = .ok (.invokevirtual 271, 3) := dk_182 1 15 (dk_at dksX3_relaxesAll_0 16 rfl rfl)
theorem dX3_relaxesAll_19 : decode cX3_relaxesAll 19 = .ok (.iinc 1 1, 3) := dk_132 1 1 (dk_at dksX3_relaxesAll_0 19 rfl rfl)
theorem dX3_relaxesAll_22 : decode cX3_relaxesAll 22 = .ok (.goto (-16), 3) := dk_167 255 240 (dk_at dksX3_relaxesAll_1 0 rfl rfl)
theorem dX3_relaxesAll_25 : decode cX3_relaxesAll 25 = .ok (.return_, 1) := dk_177 (dk_at dksX3_relaxesAll_1 3 rfl rfl)
abbrev cX3_lays : ByteArray := prog_20_method_44_code
def yX3_lays : MethodName := ⟨RX3, "lays", "()V"⟩
def dkwX3_lays_5 : List UInt8 := [184, 0, 238, 80, 132, 1, 1, 167, 255, 231, 177]
abbrev dktX3_lays_5 : List UInt8 := dkwX3_lays_5 ++ []
def dkwX3_lays_4 : List UInt8 := [167, 255, 186, 3, 60, 27, 16, 8, 162, 0, 25, 42, 180, 0, 39, 27, 10, 42, 180, 0, 39, 27, 47]
abbrev dktX3_lays_4 : List UInt8 := dkwX3_lays_4 ++ dktX3_lays_5
def dkwX3_lays_3 : List UInt8 := [182, 0, 241, 105, 42, 180, 0, 36, 27, 47, 109, 97, 80, 132, 2, 1, 167, 255, 216, 132, 1, 1]
abbrev dktX3_lays_3 : List UInt8 := dkwX3_lays_3 ++ dktX3_lays_4
def dkwX3_lays_2 : List UInt8 := [5, 162, 0, 41, 42, 180, 0, 39, 42, 27, 28, 182, 0, 224, 92, 47, 42, 3, 182, 0, 54, 42, 27]
abbrev dktX3_lays_2 : List UInt8 := dkwX3_lays_2 ++ dktX3_lays_3
def dkwX3_lays_1 : List UInt8 := [133, 42, 8, 182, 0, 54, 148, 156, 0, 65, 42, 180, 0, 36, 27, 42, 27, 182, 0, 244, 80, 3, 61, 28]
abbrev dktX3_lays_1 : List UInt8 := dkwX3_lays_1 ++ dktX3_lays_2
def dkwX3_lays_0 : List UInt8 := [3, 60, 27, 16, 8, 162, 0, 16, 42, 180, 0, 39, 27, 9, 80, 132, 1, 1, 167, 255, 240, 3, 60, 27]
abbrev dktX3_lays_0 : List UInt8 := dkwX3_lays_0 ++ dktX3_lays_1
theorem dksX3_lays_0 : cX3_lays.data.toList.drop 0 = dktX3_lays_0 := by decide +kernel
theorem dksX3_lays_1 : cX3_lays.data.toList.drop 24 = dktX3_lays_1 := dk_seg dksX3_lays_0 24 rfl rfl
theorem dksX3_lays_2 : cX3_lays.data.toList.drop 48 = dktX3_lays_2 := dk_seg dksX3_lays_1 24 rfl rfl
theorem dksX3_lays_3 : cX3_lays.data.toList.drop 71 = dktX3_lays_3 := dk_seg dksX3_lays_2 23 rfl rfl
theorem dksX3_lays_4 : cX3_lays.data.toList.drop 93 = dktX3_lays_4 := dk_seg dksX3_lays_3 22 rfl rfl
theorem dksX3_lays_5 : cX3_lays.data.toList.drop 116 = dktX3_lays_5 := dk_seg dksX3_lays_4 23 rfl rfl
theorem dX3_lays_0 : decode cX3_lays 0 = .ok (.iconst 0, 1) := dk_3 (dk_at dksX3_lays_0 0 rfl rfl)
theorem dX3_lays_1 : decode cX3_lays 1 = .ok (.istore_n 1, 1) := dk_60 (dk_at dksX3_lays_0 1 rfl rfl)
theorem dX3_lays_2 : decode cX3_lays 2 = .ok (.iload_n 1, 1) := dk_27 (dk_at dksX3_lays_0 2 rfl rfl)
theorem dX3_lays_3 : decode cX3_lays 3 = .ok (.bipush 8, 2) := dk_16 8 (dk_at dksX3_lays_0 3 rfl rfl)
theorem dX3_lays_5 : decode cX3_lays 5 = .ok (.if_icmp .ge 16, 3) := dk_162 0 16 (dk_at dksX3_lays_0 5 rfl rfl)
theorem dX3_lays_8 : decode cX3_lays 8 = .ok (.aload_n 0, 1) := dk_42 (dk_at dksX3_lays_0 8 rfl rfl)
theorem dX3_lays_9 : decode cX3_lays 9 = .ok (.getfield 39, 3) := dk_180 0 39 (dk_at dksX3_lays_0 9 rfl rfl)
theorem dX3_lays_12 : decode cX3_lays 12 = .ok (.iload_n 1, 1) := dk_27 (dk_at dksX3_lays_0 12 rfl rfl)
theorem dX3_lays_13 : decode cX3_lays 13 = .ok (.lconst 0, 1) := dk_9 (dk_at dksX3_lays_0 13 rfl rfl)
theorem dX3_lays_14 : decode cX3_lays 14 = .ok (.lastore, 1) := dk_80 (dk_at dksX3_lays_0 14 rfl rfl)
theorem dX3_lays_15 : decode cX3_lays 15 = .ok (.iinc 1 1, 3) := dk_132 1 1 (dk_at dksX3_lays_0 15 rfl rfl)
theorem dX3_lays_18 : decode cX3_lays 18 = .ok (.goto (-16), 3) := dk_167 255 240 (dk_at dksX3_lays_0 18 rfl rfl)
theorem dX3_lays_21 : decode cX3_lays 21 = .ok (.iconst 0, 1) := dk_3 (dk_at dksX3_lays_0 21 rfl rfl)
theorem dX3_lays_22 : decode cX3_lays 22 = .ok (.istore_n 1, 1) := dk_60 (dk_at dksX3_lays_0 22 rfl rfl)
theorem dX3_lays_23 : decode cX3_lays 23 = .ok (.iload_n 1, 1) := dk_27 (dk_at dksX3_lays_0 23 rfl rfl)
theorem dX3_lays_24 : decode cX3_lays 24 = .ok (.i2l, 1) := dk_133 (dk_at dksX3_lays_1 0 rfl rfl)
theorem dX3_lays_25 : decode cX3_lays 25 = .ok (.aload_n 0, 1) := dk_42 (dk_at dksX3_lays_1 1 rfl rfl)
theorem dX3_lays_26 : decode cX3_lays 26 = .ok (.iconst 5, 1) := dk_8 (dk_at dksX3_lays_1 2 rfl rfl)
theorem dX3_lays_27 : decode cX3_lays 27 = .ok (.invokevirtual 54, 3) := dk_182 0 54 (dk_at dksX3_lays_1 3 rfl rfl)
theorem dX3_lays_30 : decode cX3_lays 30 = .ok (.lcmp, 1) := dk_148 (dk_at dksX3_lays_1 6 rfl rfl)
theorem dX3_lays_31 : decode cX3_lays 31 = .ok (.ifCond .ge 65, 3) := dk_156 0 65 (dk_at dksX3_lays_1 7 rfl rfl)
theorem dX3_lays_34 : decode cX3_lays 34 = .ok (.aload_n 0, 1) := dk_42 (dk_at dksX3_lays_1 10 rfl rfl)
theorem dX3_lays_35 : decode cX3_lays 35 = .ok (.getfield 36, 3) := dk_180 0 36 (dk_at dksX3_lays_1 11 rfl rfl)
theorem dX3_lays_38 : decode cX3_lays 38 = .ok (.iload_n 1, 1) := dk_27 (dk_at dksX3_lays_1 14 rfl rfl)
theorem dX3_lays_39 : decode cX3_lays 39 = .ok (.aload_n 0, 1) := dk_42 (dk_at dksX3_lays_1 15 rfl rfl)
theorem dX3_lays_40 : decode cX3_lays 40 = .ok (.iload_n 1, 1) := dk_27 (dk_at dksX3_lays_1 16 rfl rfl)
theorem dX3_lays_41 : decode cX3_lays 41 = .ok (.invokevirtual 244, 3) := dk_182 0 244 (dk_at dksX3_lays_1 17 rfl rfl)
theorem dX3_lays_44 : decode cX3_lays 44 = .ok (.lastore, 1) := dk_80 (dk_at dksX3_lays_1 20 rfl rfl)
theorem dX3_lays_45 : decode cX3_lays 45 = .ok (.iconst 0, 1) := dk_3 (dk_at dksX3_lays_1 21 rfl rfl)
theorem dX3_lays_46 : decode cX3_lays 46 = .ok (.istore_n 2, 1) := dk_61 (dk_at dksX3_lays_1 22 rfl rfl)
theorem dX3_lays_47 : decode cX3_lays 47 = .ok (.iload_n 2, 1) := dk_28 (dk_at dksX3_lays_1 23 rfl rfl)
theorem dX3_lays_48 : decode cX3_lays 48 = .ok (.iconst 2, 1) := dk_5 (dk_at dksX3_lays_2 0 rfl rfl)
theorem dX3_lays_49 : decode cX3_lays 49 = .ok (.if_icmp .ge 41, 3) := dk_162 0 41 (dk_at dksX3_lays_2 1 rfl rfl)
theorem dX3_lays_52 : decode cX3_lays 52 = .ok (.aload_n 0, 1) := dk_42 (dk_at dksX3_lays_2 4 rfl rfl)
theorem dX3_lays_53 : decode cX3_lays 53 = .ok (.getfield 39, 3) := dk_180 0 39 (dk_at dksX3_lays_2 5 rfl rfl)
theorem dX3_lays_56 : decode cX3_lays 56 = .ok (.aload_n 0, 1) := dk_42 (dk_at dksX3_lays_2 8 rfl rfl)
theorem dX3_lays_57 : decode cX3_lays 57 = .ok (.iload_n 1, 1) := dk_27 (dk_at dksX3_lays_2 9 rfl rfl)
theorem dX3_lays_58 : decode cX3_lays 58 = .ok (.iload_n 2, 1) := dk_28 (dk_at dksX3_lays_2 10 rfl rfl)
theorem dX3_lays_59 : decode cX3_lays 59 = .ok (.invokevirtual 224, 3) := dk_182 0 224 (dk_at dksX3_lays_2 11 rfl rfl)
theorem dX3_lays_62 : decode cX3_lays 62 = .ok (.dup2, 1) := dk_92 (dk_at dksX3_lays_2 14 rfl rfl)
theorem dX3_lays_63 : decode cX3_lays 63 = .ok (.laload, 1) := dk_47 (dk_at dksX3_lays_2 15 rfl rfl)
theorem dX3_lays_64 : decode cX3_lays 64 = .ok (.aload_n 0, 1) := dk_42 (dk_at dksX3_lays_2 16 rfl rfl)
theorem dX3_lays_65 : decode cX3_lays 65 = .ok (.iconst 0, 1) := dk_3 (dk_at dksX3_lays_2 17 rfl rfl)
theorem dX3_lays_66 : decode cX3_lays 66 = .ok (.invokevirtual 54, 3) := dk_182 0 54 (dk_at dksX3_lays_2 18 rfl rfl)
theorem dX3_lays_69 : decode cX3_lays 69 = .ok (.aload_n 0, 1) := dk_42 (dk_at dksX3_lays_2 21 rfl rfl)
theorem dX3_lays_70 : decode cX3_lays 70 = .ok (.iload_n 1, 1) := dk_27 (dk_at dksX3_lays_2 22 rfl rfl)
theorem dX3_lays_71 : decode cX3_lays 71 = .ok (.invokevirtual 241, 3) := dk_182 0 241 (dk_at dksX3_lays_3 0 rfl rfl)
theorem dX3_lays_74 : decode cX3_lays 74 = .ok (.lmul, 1) := dk_105 (dk_at dksX3_lays_3 3 rfl rfl)
theorem dX3_lays_75 : decode cX3_lays 75 = .ok (.aload_n 0, 1) := dk_42 (dk_at dksX3_lays_3 4 rfl rfl)
theorem dX3_lays_76 : decode cX3_lays 76 = .ok (.getfield 36, 3) := dk_180 0 36 (dk_at dksX3_lays_3 5 rfl rfl)
theorem dX3_lays_79 : decode cX3_lays 79 = .ok (.iload_n 1, 1) := dk_27 (dk_at dksX3_lays_3 8 rfl rfl)
theorem dX3_lays_80 : decode cX3_lays 80 = .ok (.laload, 1) := dk_47 (dk_at dksX3_lays_3 9 rfl rfl)
theorem dX3_lays_81 : decode cX3_lays 81 = .ok (.ldiv, 1) := dk_109 (dk_at dksX3_lays_3 10 rfl rfl)
theorem dX3_lays_82 : decode cX3_lays 82 = .ok (.ladd, 1) := dk_97 (dk_at dksX3_lays_3 11 rfl rfl)
theorem dX3_lays_83 : decode cX3_lays 83 = .ok (.lastore, 1) := dk_80 (dk_at dksX3_lays_3 12 rfl rfl)
theorem dX3_lays_84 : decode cX3_lays 84 = .ok (.iinc 2 1, 3) := dk_132 2 1 (dk_at dksX3_lays_3 13 rfl rfl)
theorem dX3_lays_87 : decode cX3_lays 87 = .ok (.goto (-40), 3) := dk_167 255 216 (dk_at dksX3_lays_3 16 rfl rfl)
theorem dX3_lays_90 : decode cX3_lays 90 = .ok (.iinc 1 1, 3) := dk_132 1 1 (dk_at dksX3_lays_3 19 rfl rfl)
theorem dX3_lays_93 : decode cX3_lays 93 = .ok (.goto (-70), 3) := dk_167 255 186 (dk_at dksX3_lays_4 0 rfl rfl)
theorem dX3_lays_96 : decode cX3_lays 96 = .ok (.iconst 0, 1) := dk_3 (dk_at dksX3_lays_4 3 rfl rfl)
theorem dX3_lays_97 : decode cX3_lays 97 = .ok (.istore_n 1, 1) := dk_60 (dk_at dksX3_lays_4 4 rfl rfl)
theorem dX3_lays_98 : decode cX3_lays 98 = .ok (.iload_n 1, 1) := dk_27 (dk_at dksX3_lays_4 5 rfl rfl)
theorem dX3_lays_99 : decode cX3_lays 99 = .ok (.bipush 8, 2) := dk_16 8 (dk_at dksX3_lays_4 6 rfl rfl)
theorem dX3_lays_101 : decode cX3_lays 101 = .ok (.if_icmp .ge 25, 3) := dk_162 0 25 (dk_at dksX3_lays_4 8 rfl rfl)
theorem dX3_lays_104 : decode cX3_lays 104 = .ok (.aload_n 0, 1) := dk_42 (dk_at dksX3_lays_4 11 rfl rfl)
theorem dX3_lays_105 : decode cX3_lays 105 = .ok (.getfield 39, 3) := dk_180 0 39 (dk_at dksX3_lays_4 12 rfl rfl)
theorem dX3_lays_108 : decode cX3_lays 108 = .ok (.iload_n 1, 1) := dk_27 (dk_at dksX3_lays_4 15 rfl rfl)
theorem dX3_lays_109 : decode cX3_lays 109 = .ok (.lconst 1, 1) := dk_10 (dk_at dksX3_lays_4 16 rfl rfl)
theorem dX3_lays_110 : decode cX3_lays 110 = .ok (.aload_n 0, 1) := dk_42 (dk_at dksX3_lays_4 17 rfl rfl)
theorem dX3_lays_111 : decode cX3_lays 111 = .ok (.getfield 39, 3) := dk_180 0 39 (dk_at dksX3_lays_4 18 rfl rfl)
theorem dX3_lays_114 : decode cX3_lays 114 = .ok (.iload_n 1, 1) := dk_27 (dk_at dksX3_lays_4 21 rfl rfl)
theorem dX3_lays_115 : decode cX3_lays 115 = .ok (.laload, 1) := dk_47 (dk_at dksX3_lays_4 22 rfl rfl)
theorem dX3_lays_116 : decode cX3_lays 116 = .ok (.invokestatic 238, 3) := dk_184 0 238 (dk_at dksX3_lays_5 0 rfl rfl)
theorem dX3_lays_119 : decode cX3_lays 119 = .ok (.lastore, 1) := dk_80 (dk_at dksX3_lays_5 3 rfl rfl)
theorem dX3_lays_120 : decode cX3_lays 120 = .ok (.iinc 1 1, 3) := dk_132 1 1 (dk_at dksX3_lays_5 4 rfl rfl)
theorem dX3_lays_123 : decode cX3_lays 123 = .ok (.goto (-25), 3) := dk_167 255 231 (dk_at dksX3_lays_5 7 rfl rfl)
theorem dX3_lays_126 : decode cX3_lays 126 = .ok (.return_, 1) := dk_177 (dk_at dksX3_lays_5 10 rfl rfl)
abbrev cX3_relaxes : ByteArray := prog_20_method_45_code
def yX3_relaxes : MethodName := ⟨RX3, "relaxes", "(I)V"⟩
def dkwX3_relaxes_4 : List UInt8 := [167, 255, 225, 177]
abbrev dktX3_relaxes_4 : List UInt8 := dkwX3_relaxes_4 ++ []
def dkwX3_relaxes_3 : List UInt8 := [156, 0, 26, 42, 180, 0, 33, 16, 16, 27, 104, 28, 96, 42, 27, 28, 182, 0, 255, 80, 132, 2, 1]
abbrev dktX3_relaxes_3 : List UInt8 := dkwX3_relaxes_3 ++ dktX3_relaxes_4
def dkwX3_relaxes_2 : List UInt8 := [156, 0, 14, 42, 27, 182, 1, 6, 132, 2, 1, 167, 255, 237, 3, 61, 28, 133, 42, 8, 182, 0, 54, 148]
abbrev dktX3_relaxes_2 : List UInt8 := dkwX3_relaxes_2 ++ dktX3_relaxes_3
def dkwX3_relaxes_1 : List UInt8 := [16, 8, 27, 104, 28, 96, 9, 80, 132, 2, 1, 167, 255, 223, 3, 61, 28, 133, 42, 5, 182, 0, 54, 148]
abbrev dktX3_relaxes_1 : List UInt8 := dkwX3_relaxes_1 ++ dktX3_relaxes_2
def dkwX3_relaxes_0 : List UInt8 := [3, 61, 28, 16, 8, 162, 0, 33, 42, 180, 0, 27, 16, 8, 27, 104, 28, 96, 9, 80, 42, 180, 0, 30]
abbrev dktX3_relaxes_0 : List UInt8 := dkwX3_relaxes_0 ++ dktX3_relaxes_1
theorem dksX3_relaxes_0 : cX3_relaxes.data.toList.drop 0 = dktX3_relaxes_0 := by decide +kernel
theorem dksX3_relaxes_1 : cX3_relaxes.data.toList.drop 24 = dktX3_relaxes_1 := dk_seg dksX3_relaxes_0 24 rfl rfl
theorem dksX3_relaxes_2 : cX3_relaxes.data.toList.drop 48 = dktX3_relaxes_2 := dk_seg dksX3_relaxes_1 24 rfl rfl
theorem dksX3_relaxes_3 : cX3_relaxes.data.toList.drop 72 = dktX3_relaxes_3 := dk_seg dksX3_relaxes_2 24 rfl rfl
theorem dksX3_relaxes_4 : cX3_relaxes.data.toList.drop 95 = dktX3_relaxes_4 := dk_seg dksX3_relaxes_3 23 rfl rfl
theorem dX3_relaxes_0 : decode cX3_relaxes 0 = .ok (.iconst 0, 1) := dk_3 (dk_at dksX3_relaxes_0 0 rfl rfl)
theorem dX3_relaxes_1 : decode cX3_relaxes 1 = .ok (.istore_n 2, 1) := dk_61 (dk_at dksX3_relaxes_0 1 rfl rfl)
theorem dX3_relaxes_2 : decode cX3_relaxes 2 = .ok (.iload_n 2, 1) := dk_28 (dk_at dksX3_relaxes_0 2 rfl rfl)
theorem dX3_relaxes_3 : decode cX3_relaxes 3 = .ok (.bipush 8, 2) := dk_16 8 (dk_at dksX3_relaxes_0 3 rfl rfl)
theorem dX3_relaxes_5 : decode cX3_relaxes 5 = .ok (.if_icmp .ge 33, 3) := dk_162 0 33 (dk_at dksX3_relaxes_0 5 rfl rfl)
theorem dX3_relaxes_8 : decode cX3_relaxes 8 = .ok (.aload_n 0, 1) := dk_42 (dk_at dksX3_relaxes_0 8 rfl rfl)
theorem dX3_relaxes_9 : decode cX3_relaxes 9 = .ok (.getfield 27, 3) := dk_180 0 27 (dk_at dksX3_relaxes_0 9 rfl rfl)
theorem dX3_relaxes_12 : decode cX3_relaxes 12 = .ok (.bipush 8, 2) := dk_16 8 (dk_at dksX3_relaxes_0 12 rfl rfl)
theorem dX3_relaxes_14 : decode cX3_relaxes 14 = .ok (.iload_n 1, 1) := dk_27 (dk_at dksX3_relaxes_0 14 rfl rfl)
theorem dX3_relaxes_15 : decode cX3_relaxes 15 = .ok (.imul, 1) := dk_104 (dk_at dksX3_relaxes_0 15 rfl rfl)
theorem dX3_relaxes_16 : decode cX3_relaxes 16 = .ok (.iload_n 2, 1) := dk_28 (dk_at dksX3_relaxes_0 16 rfl rfl)
theorem dX3_relaxes_17 : decode cX3_relaxes 17 = .ok (.iadd, 1) := dk_96 (dk_at dksX3_relaxes_0 17 rfl rfl)
theorem dX3_relaxes_18 : decode cX3_relaxes 18 = .ok (.lconst 0, 1) := dk_9 (dk_at dksX3_relaxes_0 18 rfl rfl)
theorem dX3_relaxes_19 : decode cX3_relaxes 19 = .ok (.lastore, 1) := dk_80 (dk_at dksX3_relaxes_0 19 rfl rfl)
theorem dX3_relaxes_20 : decode cX3_relaxes 20 = .ok (.aload_n 0, 1) := dk_42 (dk_at dksX3_relaxes_0 20 rfl rfl)
theorem dX3_relaxes_21 : decode cX3_relaxes 21 = .ok (.getfield 30, 3) := dk_180 0 30 (dk_at dksX3_relaxes_0 21 rfl rfl)
theorem dX3_relaxes_24 : decode cX3_relaxes 24 = .ok (.bipush 8, 2) := dk_16 8 (dk_at dksX3_relaxes_1 0 rfl rfl)
theorem dX3_relaxes_26 : decode cX3_relaxes 26 = .ok (.iload_n 1, 1) := dk_27 (dk_at dksX3_relaxes_1 2 rfl rfl)
theorem dX3_relaxes_27 : decode cX3_relaxes 27 = .ok (.imul, 1) := dk_104 (dk_at dksX3_relaxes_1 3 rfl rfl)
theorem dX3_relaxes_28 : decode cX3_relaxes 28 = .ok (.iload_n 2, 1) := dk_28 (dk_at dksX3_relaxes_1 4 rfl rfl)
theorem dX3_relaxes_29 : decode cX3_relaxes 29 = .ok (.iadd, 1) := dk_96 (dk_at dksX3_relaxes_1 5 rfl rfl)
theorem dX3_relaxes_30 : decode cX3_relaxes 30 = .ok (.lconst 0, 1) := dk_9 (dk_at dksX3_relaxes_1 6 rfl rfl)
theorem dX3_relaxes_31 : decode cX3_relaxes 31 = .ok (.lastore, 1) := dk_80 (dk_at dksX3_relaxes_1 7 rfl rfl)
theorem dX3_relaxes_32 : decode cX3_relaxes 32 = .ok (.iinc 2 1, 3) := dk_132 2 1 (dk_at dksX3_relaxes_1 8 rfl rfl)
theorem dX3_relaxes_35 : decode cX3_relaxes 35 = .ok (.goto (-33), 3) := dk_167 255 223 (dk_at dksX3_relaxes_1 11 rfl rfl)
theorem dX3_relaxes_38 : decode cX3_relaxes 38 = .ok (.iconst 0, 1) := dk_3 (dk_at dksX3_relaxes_1 14 rfl rfl)
theorem dX3_relaxes_39 : decode cX3_relaxes 39 = .ok (.istore_n 2, 1) := dk_61 (dk_at dksX3_relaxes_1 15 rfl rfl)
theorem dX3_relaxes_40 : decode cX3_relaxes 40 = .ok (.iload_n 2, 1) := dk_28 (dk_at dksX3_relaxes_1 16 rfl rfl)
theorem dX3_relaxes_41 : decode cX3_relaxes 41 = .ok (.i2l, 1) := dk_133 (dk_at dksX3_relaxes_1 17 rfl rfl)
theorem dX3_relaxes_42 : decode cX3_relaxes 42 = .ok (.aload_n 0, 1) := dk_42 (dk_at dksX3_relaxes_1 18 rfl rfl)
theorem dX3_relaxes_43 : decode cX3_relaxes 43 = .ok (.iconst 2, 1) := dk_5 (dk_at dksX3_relaxes_1 19 rfl rfl)
theorem dX3_relaxes_44 : decode cX3_relaxes 44 = .ok (.invokevirtual 54, 3) := dk_182 0 54 (dk_at dksX3_relaxes_1 20 rfl rfl)
theorem dX3_relaxes_47 : decode cX3_relaxes 47 = .ok (.lcmp, 1) := dk_148 (dk_at dksX3_relaxes_1 23 rfl rfl)
theorem dX3_relaxes_48 : decode cX3_relaxes 48 = .ok (.ifCond .ge 14, 3) := dk_156 0 14 (dk_at dksX3_relaxes_2 0 rfl rfl)
theorem dX3_relaxes_51 : decode cX3_relaxes 51 = .ok (.aload_n 0, 1) := dk_42 (dk_at dksX3_relaxes_2 3 rfl rfl)
theorem dX3_relaxes_52 : decode cX3_relaxes 52 = .ok (.iload_n 1, 1) := dk_27 (dk_at dksX3_relaxes_2 4 rfl rfl)
theorem dX3_relaxes_53 : decode cX3_relaxes 53 = .ok (.invokevirtual 262, 3) := dk_182 1 6 (dk_at dksX3_relaxes_2 5 rfl rfl)
theorem dX3_relaxes_56 : decode cX3_relaxes 56 = .ok (.iinc 2 1, 3) := dk_132 2 1 (dk_at dksX3_relaxes_2 8 rfl rfl)
theorem dX3_relaxes_59 : decode cX3_relaxes 59 = .ok (.goto (-19), 3) := dk_167 255 237 (dk_at dksX3_relaxes_2 11 rfl rfl)
theorem dX3_relaxes_62 : decode cX3_relaxes 62 = .ok (.iconst 0, 1) := dk_3 (dk_at dksX3_relaxes_2 14 rfl rfl)
theorem dX3_relaxes_63 : decode cX3_relaxes 63 = .ok (.istore_n 2, 1) := dk_61 (dk_at dksX3_relaxes_2 15 rfl rfl)
theorem dX3_relaxes_64 : decode cX3_relaxes 64 = .ok (.iload_n 2, 1) := dk_28 (dk_at dksX3_relaxes_2 16 rfl rfl)
theorem dX3_relaxes_65 : decode cX3_relaxes 65 = .ok (.i2l, 1) := dk_133 (dk_at dksX3_relaxes_2 17 rfl rfl)
theorem dX3_relaxes_66 : decode cX3_relaxes 66 = .ok (.aload_n 0, 1) := dk_42 (dk_at dksX3_relaxes_2 18 rfl rfl)
theorem dX3_relaxes_67 : decode cX3_relaxes 67 = .ok (.iconst 5, 1) := dk_8 (dk_at dksX3_relaxes_2 19 rfl rfl)
theorem dX3_relaxes_68 : decode cX3_relaxes 68 = .ok (.invokevirtual 54, 3) := dk_182 0 54 (dk_at dksX3_relaxes_2 20 rfl rfl)
theorem dX3_relaxes_71 : decode cX3_relaxes 71 = .ok (.lcmp, 1) := dk_148 (dk_at dksX3_relaxes_2 23 rfl rfl)
theorem dX3_relaxes_72 : decode cX3_relaxes 72 = .ok (.ifCond .ge 26, 3) := dk_156 0 26 (dk_at dksX3_relaxes_3 0 rfl rfl)
theorem dX3_relaxes_75 : decode cX3_relaxes 75 = .ok (.aload_n 0, 1) := dk_42 (dk_at dksX3_relaxes_3 3 rfl rfl)
theorem dX3_relaxes_76 : decode cX3_relaxes 76 = .ok (.getfield 33, 3) := dk_180 0 33 (dk_at dksX3_relaxes_3 4 rfl rfl)
theorem dX3_relaxes_79 : decode cX3_relaxes 79 = .ok (.bipush 16, 2) := dk_16 16 (dk_at dksX3_relaxes_3 7 rfl rfl)
theorem dX3_relaxes_81 : decode cX3_relaxes 81 = .ok (.iload_n 1, 1) := dk_27 (dk_at dksX3_relaxes_3 9 rfl rfl)
theorem dX3_relaxes_82 : decode cX3_relaxes 82 = .ok (.imul, 1) := dk_104 (dk_at dksX3_relaxes_3 10 rfl rfl)
theorem dX3_relaxes_83 : decode cX3_relaxes 83 = .ok (.iload_n 2, 1) := dk_28 (dk_at dksX3_relaxes_3 11 rfl rfl)
theorem dX3_relaxes_84 : decode cX3_relaxes 84 = .ok (.iadd, 1) := dk_96 (dk_at dksX3_relaxes_3 12 rfl rfl)
theorem dX3_relaxes_85 : decode cX3_relaxes 85 = .ok (.aload_n 0, 1) := dk_42 (dk_at dksX3_relaxes_3 13 rfl rfl)
theorem dX3_relaxes_86 : decode cX3_relaxes 86 = .ok (.iload_n 1, 1) := dk_27 (dk_at dksX3_relaxes_3 14 rfl rfl)
theorem dX3_relaxes_87 : decode cX3_relaxes 87 = .ok (.iload_n 2, 1) := dk_28 (dk_at dksX3_relaxes_3 15 rfl rfl)
theorem dX3_relaxes_88 : decode cX3_relaxes 88 = .ok (.invokevirtual 255, 3) := dk_182 0 255 (dk_at dksX3_relaxes_3 16 rfl rfl)
theorem dX3_relaxes_91 : decode cX3_relaxes 91 = .ok (.lastore, 1) := dk_80 (dk_at dksX3_relaxes_3 19 rfl rfl)
theorem dX3_relaxes_92 : decode cX3_relaxes 92 = .ok (.iinc 2 1, 3) := dk_132 2 1 (dk_at dksX3_relaxes_3 20 rfl rfl)
theorem dX3_relaxes_95 : decode cX3_relaxes 95 = .ok (.goto (-31), 3) := dk_167 255 225 (dk_at dksX3_relaxes_4 0 rfl rfl)
theorem dX3_relaxes_98 : decode cX3_relaxes 98 = .ok (.return_, 1) := dk_177 (dk_at dksX3_relaxes_4 3 rfl rfl)
abbrev cX3_sweeps : ByteArray := prog_20_method_43_code
def yX3_sweeps : MethodName := ⟨RX3, "sweeps", "(I)V"⟩
def dkwX3_sweeps_5 : List UInt8 := [180, 0, 39, 28, 47, 109, 97, 20, 0, 249, 20, 0, 108, 184, 0, 251, 80, 132, 2, 1, 167, 255, 119, 177]
abbrev dktX3_sweeps_5 : List UInt8 := dkwX3_sweeps_5 ++ []
def dkwX3_sweeps_4 : List UInt8 := [148, 154, 0, 40, 42, 180, 0, 30, 21, 7, 42, 180, 0, 30, 21, 7, 47, 20, 0, 247, 22, 5, 105, 42]
abbrev dktX3_sweeps_4 : List UInt8 := dkwX3_sweeps_4 ++ dktX3_sweeps_5
def dkwX3_sweeps_3 : List UInt8 := [180, 0, 39, 28, 47, 109, 97, 20, 0, 249, 20, 0, 108, 184, 0, 251, 80, 42, 28, 5, 182, 0, 228, 9]
abbrev dktX3_sweeps_3 : List UInt8 := dkwX3_sweeps_3 ++ dktX3_sweeps_4
def dkwX3_sweeps_2 : List UInt8 := [28, 96, 54, 7, 42, 180, 0, 27, 21, 7, 42, 180, 0, 27, 21, 7, 47, 20, 0, 247, 33, 105, 42]
abbrev dktX3_sweeps_2 : List UInt8 := dkwX3_sweeps_2 ++ dktX3_sweeps_3
def dkwX3_sweeps_1 : List UInt8 := [167, 0, 112, 42, 27, 28, 3, 182, 1, 2, 66, 42, 27, 28, 4, 182, 1, 2, 55, 5, 16, 8, 27, 104]
abbrev dktX3_sweeps_1 : List UInt8 := dkwX3_sweeps_1 ++ dktX3_sweeps_2
def dkwX3_sweeps_0 : List UInt8 := [3, 61, 28, 133, 42, 6, 182, 0, 54, 148, 156, 0, 132, 42, 28, 5, 182, 0, 228, 10, 148, 154, 0, 6]
abbrev dktX3_sweeps_0 : List UInt8 := dkwX3_sweeps_0 ++ dktX3_sweeps_1
theorem dksX3_sweeps_0 : cX3_sweeps.data.toList.drop 0 = dktX3_sweeps_0 := by decide +kernel
theorem dksX3_sweeps_1 : cX3_sweeps.data.toList.drop 24 = dktX3_sweeps_1 := dk_seg dksX3_sweeps_0 24 rfl rfl
theorem dksX3_sweeps_2 : cX3_sweeps.data.toList.drop 48 = dktX3_sweeps_2 := dk_seg dksX3_sweeps_1 24 rfl rfl
theorem dksX3_sweeps_3 : cX3_sweeps.data.toList.drop 71 = dktX3_sweeps_3 := dk_seg dksX3_sweeps_2 23 rfl rfl
theorem dksX3_sweeps_4 : cX3_sweeps.data.toList.drop 95 = dktX3_sweeps_4 := dk_seg dksX3_sweeps_3 24 rfl rfl
theorem dksX3_sweeps_5 : cX3_sweeps.data.toList.drop 119 = dktX3_sweeps_5 := dk_seg dksX3_sweeps_4 24 rfl rfl
theorem dX3_sweeps_0 : decode cX3_sweeps 0 = .ok (.iconst 0, 1) := dk_3 (dk_at dksX3_sweeps_0 0 rfl rfl)
theorem dX3_sweeps_1 : decode cX3_sweeps 1 = .ok (.istore_n 2, 1) := dk_61 (dk_at dksX3_sweeps_0 1 rfl rfl)
theorem dX3_sweeps_2 : decode cX3_sweeps 2 = .ok (.iload_n 2, 1) := dk_28 (dk_at dksX3_sweeps_0 2 rfl rfl)
theorem dX3_sweeps_3 : decode cX3_sweeps 3 = .ok (.i2l, 1) := dk_133 (dk_at dksX3_sweeps_0 3 rfl rfl)
theorem dX3_sweeps_4 : decode cX3_sweeps 4 = .ok (.aload_n 0, 1) := dk_42 (dk_at dksX3_sweeps_0 4 rfl rfl)
theorem dX3_sweeps_5 : decode cX3_sweeps 5 = .ok (.iconst 3, 1) := dk_6 (dk_at dksX3_sweeps_0 5 rfl rfl)
theorem dX3_sweeps_6 : decode cX3_sweeps 6 = .ok (.invokevirtual 54, 3) := dk_182 0 54 (dk_at dksX3_sweeps_0 6 rfl rfl)
theorem dX3_sweeps_9 : decode cX3_sweeps 9 = .ok (.lcmp, 1) := dk_148 (dk_at dksX3_sweeps_0 9 rfl rfl)
theorem dX3_sweeps_10 : decode cX3_sweeps 10 = .ok (.ifCond .ge 132, 3) := dk_156 0 132 (dk_at dksX3_sweeps_0 10 rfl rfl)
theorem dX3_sweeps_13 : decode cX3_sweeps 13 = .ok (.aload_n 0, 1) := dk_42 (dk_at dksX3_sweeps_0 13 rfl rfl)
theorem dX3_sweeps_14 : decode cX3_sweeps 14 = .ok (.iload_n 2, 1) := dk_28 (dk_at dksX3_sweeps_0 14 rfl rfl)
theorem dX3_sweeps_15 : decode cX3_sweeps 15 = .ok (.iconst 2, 1) := dk_5 (dk_at dksX3_sweeps_0 15 rfl rfl)
theorem dX3_sweeps_16 : decode cX3_sweeps 16 = .ok (.invokevirtual 228, 3) := dk_182 0 228 (dk_at dksX3_sweeps_0 16 rfl rfl)
theorem dX3_sweeps_19 : decode cX3_sweeps 19 = .ok (.lconst 1, 1) := dk_10 (dk_at dksX3_sweeps_0 19 rfl rfl)
theorem dX3_sweeps_20 : decode cX3_sweeps 20 = .ok (.lcmp, 1) := dk_148 (dk_at dksX3_sweeps_0 20 rfl rfl)
theorem dX3_sweeps_21 : decode cX3_sweeps 21 = .ok (.ifCond .ne 6, 3) := dk_154 0 6 (dk_at dksX3_sweeps_0 21 rfl rfl)
theorem dX3_sweeps_24 : decode cX3_sweeps 24 = .ok (.goto 112, 3) := dk_167 0 112 (dk_at dksX3_sweeps_1 0 rfl rfl)
theorem dX3_sweeps_27 : decode cX3_sweeps 27 = .ok (.aload_n 0, 1) := dk_42 (dk_at dksX3_sweeps_1 3 rfl rfl)
theorem dX3_sweeps_28 : decode cX3_sweeps 28 = .ok (.iload_n 1, 1) := dk_27 (dk_at dksX3_sweeps_1 4 rfl rfl)
theorem dX3_sweeps_29 : decode cX3_sweeps 29 = .ok (.iload_n 2, 1) := dk_28 (dk_at dksX3_sweeps_1 5 rfl rfl)
theorem dX3_sweeps_30 : decode cX3_sweeps 30 = .ok (.iconst 0, 1) := dk_3 (dk_at dksX3_sweeps_1 6 rfl rfl)
theorem dX3_sweeps_31 : decode cX3_sweeps 31 = .ok (.invokevirtual 258, 3) := dk_182 1 2 (dk_at dksX3_sweeps_1 7 rfl rfl)
theorem dX3_sweeps_34 : decode cX3_sweeps 34 = .ok (.lstore_n 3, 1) := dk_66 (dk_at dksX3_sweeps_1 10 rfl rfl)
theorem dX3_sweeps_35 : decode cX3_sweeps 35 = .ok (.aload_n 0, 1) := dk_42 (dk_at dksX3_sweeps_1 11 rfl rfl)
theorem dX3_sweeps_36 : decode cX3_sweeps 36 = .ok (.iload_n 1, 1) := dk_27 (dk_at dksX3_sweeps_1 12 rfl rfl)
theorem dX3_sweeps_37 : decode cX3_sweeps 37 = .ok (.iload_n 2, 1) := dk_28 (dk_at dksX3_sweeps_1 13 rfl rfl)
theorem dX3_sweeps_38 : decode cX3_sweeps 38 = .ok (.iconst 1, 1) := dk_4 (dk_at dksX3_sweeps_1 14 rfl rfl)
theorem dX3_sweeps_39 : decode cX3_sweeps 39 = .ok (.invokevirtual 258, 3) := dk_182 1 2 (dk_at dksX3_sweeps_1 15 rfl rfl)
theorem dX3_sweeps_42 : decode cX3_sweeps 42 = .ok (.lstore 5, 2) := dk_55 5 (dk_at dksX3_sweeps_1 18 rfl rfl)
theorem dX3_sweeps_44 : decode cX3_sweeps 44 = .ok (.bipush 8, 2) := dk_16 8 (dk_at dksX3_sweeps_1 20 rfl rfl)
theorem dX3_sweeps_46 : decode cX3_sweeps 46 = .ok (.iload_n 1, 1) := dk_27 (dk_at dksX3_sweeps_1 22 rfl rfl)
theorem dX3_sweeps_47 : decode cX3_sweeps 47 = .ok (.imul, 1) := dk_104 (dk_at dksX3_sweeps_1 23 rfl rfl)
theorem dX3_sweeps_48 : decode cX3_sweeps 48 = .ok (.iload_n 2, 1) := dk_28 (dk_at dksX3_sweeps_2 0 rfl rfl)
theorem dX3_sweeps_49 : decode cX3_sweeps 49 = .ok (.iadd, 1) := dk_96 (dk_at dksX3_sweeps_2 1 rfl rfl)
theorem dX3_sweeps_50 : decode cX3_sweeps 50 = .ok (.istore 7, 2) := dk_54 7 (dk_at dksX3_sweeps_2 2 rfl rfl)
theorem dX3_sweeps_52 : decode cX3_sweeps 52 = .ok (.aload_n 0, 1) := dk_42 (dk_at dksX3_sweeps_2 4 rfl rfl)
theorem dX3_sweeps_53 : decode cX3_sweeps 53 = .ok (.getfield 27, 3) := dk_180 0 27 (dk_at dksX3_sweeps_2 5 rfl rfl)
theorem dX3_sweeps_56 : decode cX3_sweeps 56 = .ok (.iload 7, 2) := dk_21 7 (dk_at dksX3_sweeps_2 8 rfl rfl)
theorem dX3_sweeps_58 : decode cX3_sweeps 58 = .ok (.aload_n 0, 1) := dk_42 (dk_at dksX3_sweeps_2 10 rfl rfl)
theorem dX3_sweeps_59 : decode cX3_sweeps 59 = .ok (.getfield 27, 3) := dk_180 0 27 (dk_at dksX3_sweeps_2 11 rfl rfl)
theorem dX3_sweeps_62 : decode cX3_sweeps 62 = .ok (.iload 7, 2) := dk_21 7 (dk_at dksX3_sweeps_2 14 rfl rfl)
theorem dX3_sweeps_64 : decode cX3_sweeps 64 = .ok (.laload, 1) := dk_47 (dk_at dksX3_sweeps_2 16 rfl rfl)
theorem dX3_sweeps_65 : decode cX3_sweeps 65 = .ok (.ldc2_w 247, 3) := dk_20 0 247 (dk_at dksX3_sweeps_2 17 rfl rfl)
theorem dX3_sweeps_68 : decode cX3_sweeps 68 = .ok (.lload_n 3, 1) := dk_33 (dk_at dksX3_sweeps_2 20 rfl rfl)
theorem dX3_sweeps_69 : decode cX3_sweeps 69 = .ok (.lmul, 1) := dk_105 (dk_at dksX3_sweeps_2 21 rfl rfl)
theorem dX3_sweeps_70 : decode cX3_sweeps 70 = .ok (.aload_n 0, 1) := dk_42 (dk_at dksX3_sweeps_2 22 rfl rfl)
theorem dX3_sweeps_71 : decode cX3_sweeps 71 = .ok (.getfield 39, 3) := dk_180 0 39 (dk_at dksX3_sweeps_3 0 rfl rfl)
theorem dX3_sweeps_74 : decode cX3_sweeps 74 = .ok (.iload_n 2, 1) := dk_28 (dk_at dksX3_sweeps_3 3 rfl rfl)
theorem dX3_sweeps_75 : decode cX3_sweeps 75 = .ok (.laload, 1) := dk_47 (dk_at dksX3_sweeps_3 4 rfl rfl)
theorem dX3_sweeps_76 : decode cX3_sweeps 76 = .ok (.ldiv, 1) := dk_109 (dk_at dksX3_sweeps_3 5 rfl rfl)
theorem dX3_sweeps_77 : decode cX3_sweeps 77 = .ok (.ladd, 1) := dk_97 (dk_at dksX3_sweeps_3 6 rfl rfl)
theorem dX3_sweeps_78 : decode cX3_sweeps 78 = .ok (.ldc2_w 249, 3) := dk_20 0 249 (dk_at dksX3_sweeps_3 7 rfl rfl)
theorem dX3_sweeps_81 : decode cX3_sweeps 81 = .ok (.ldc2_w 108, 3) := dk_20 0 108 (dk_at dksX3_sweeps_3 10 rfl rfl)
theorem dX3_sweeps_84 : decode cX3_sweeps 84 = .ok (.invokestatic 251, 3) := dk_184 0 251 (dk_at dksX3_sweeps_3 13 rfl rfl)
theorem dX3_sweeps_87 : decode cX3_sweeps 87 = .ok (.lastore, 1) := dk_80 (dk_at dksX3_sweeps_3 16 rfl rfl)
theorem dX3_sweeps_88 : decode cX3_sweeps 88 = .ok (.aload_n 0, 1) := dk_42 (dk_at dksX3_sweeps_3 17 rfl rfl)
theorem dX3_sweeps_89 : decode cX3_sweeps 89 = .ok (.iload_n 2, 1) := dk_28 (dk_at dksX3_sweeps_3 18 rfl rfl)
theorem dX3_sweeps_90 : decode cX3_sweeps 90 = .ok (.iconst 2, 1) := dk_5 (dk_at dksX3_sweeps_3 19 rfl rfl)
theorem dX3_sweeps_91 : decode cX3_sweeps 91 = .ok (.invokevirtual 228, 3) := dk_182 0 228 (dk_at dksX3_sweeps_3 20 rfl rfl)
theorem dX3_sweeps_94 : decode cX3_sweeps 94 = .ok (.lconst 0, 1) := dk_9 (dk_at dksX3_sweeps_3 23 rfl rfl)
theorem dX3_sweeps_95 : decode cX3_sweeps 95 = .ok (.lcmp, 1) := dk_148 (dk_at dksX3_sweeps_4 0 rfl rfl)
theorem dX3_sweeps_96 : decode cX3_sweeps 96 = .ok (.ifCond .ne 40, 3) := dk_154 0 40 (dk_at dksX3_sweeps_4 1 rfl rfl)
theorem dX3_sweeps_99 : decode cX3_sweeps 99 = .ok (.aload_n 0, 1) := dk_42 (dk_at dksX3_sweeps_4 4 rfl rfl)
theorem dX3_sweeps_100 : decode cX3_sweeps 100 = .ok (.getfield 30, 3) := dk_180 0 30 (dk_at dksX3_sweeps_4 5 rfl rfl)
theorem dX3_sweeps_103 : decode cX3_sweeps 103 = .ok (.iload 7, 2) := dk_21 7 (dk_at dksX3_sweeps_4 8 rfl rfl)
theorem dX3_sweeps_105 : decode cX3_sweeps 105 = .ok (.aload_n 0, 1) := dk_42 (dk_at dksX3_sweeps_4 10 rfl rfl)
theorem dX3_sweeps_106 : decode cX3_sweeps 106 = .ok (.getfield 30, 3) := dk_180 0 30 (dk_at dksX3_sweeps_4 11 rfl rfl)
theorem dX3_sweeps_109 : decode cX3_sweeps 109 = .ok (.iload 7, 2) := dk_21 7 (dk_at dksX3_sweeps_4 14 rfl rfl)
theorem dX3_sweeps_111 : decode cX3_sweeps 111 = .ok (.laload, 1) := dk_47 (dk_at dksX3_sweeps_4 16 rfl rfl)
theorem dX3_sweeps_112 : decode cX3_sweeps 112 = .ok (.ldc2_w 247, 3) := dk_20 0 247 (dk_at dksX3_sweeps_4 17 rfl rfl)
theorem dX3_sweeps_115 : decode cX3_sweeps 115 = .ok (.lload 5, 2) := dk_22 5 (dk_at dksX3_sweeps_4 20 rfl rfl)
theorem dX3_sweeps_117 : decode cX3_sweeps 117 = .ok (.lmul, 1) := dk_105 (dk_at dksX3_sweeps_4 22 rfl rfl)
theorem dX3_sweeps_118 : decode cX3_sweeps 118 = .ok (.aload_n 0, 1) := dk_42 (dk_at dksX3_sweeps_4 23 rfl rfl)
theorem dX3_sweeps_119 : decode cX3_sweeps 119 = .ok (.getfield 39, 3) := dk_180 0 39 (dk_at dksX3_sweeps_5 0 rfl rfl)
theorem dX3_sweeps_122 : decode cX3_sweeps 122 = .ok (.iload_n 2, 1) := dk_28 (dk_at dksX3_sweeps_5 3 rfl rfl)
theorem dX3_sweeps_123 : decode cX3_sweeps 123 = .ok (.laload, 1) := dk_47 (dk_at dksX3_sweeps_5 4 rfl rfl)
theorem dX3_sweeps_124 : decode cX3_sweeps 124 = .ok (.ldiv, 1) := dk_109 (dk_at dksX3_sweeps_5 5 rfl rfl)
theorem dX3_sweeps_125 : decode cX3_sweeps 125 = .ok (.ladd, 1) := dk_97 (dk_at dksX3_sweeps_5 6 rfl rfl)
theorem dX3_sweeps_126 : decode cX3_sweeps 126 = .ok (.ldc2_w 249, 3) := dk_20 0 249 (dk_at dksX3_sweeps_5 7 rfl rfl)
theorem dX3_sweeps_129 : decode cX3_sweeps 129 = .ok (.ldc2_w 108, 3) := dk_20 0 108 (dk_at dksX3_sweeps_5 10 rfl rfl)
theorem dX3_sweeps_132 : decode cX3_sweeps 132 = .ok (.invokestatic 251, 3) := dk_184 0 251 (dk_at dksX3_sweeps_5 13 rfl rfl)
theorem dX3_sweeps_135 : decode cX3_sweeps 135 = .ok (.lastore, 1) := dk_80 (dk_at dksX3_sweeps_5 16 rfl rfl)
theorem dX3_sweeps_136 : decode cX3_sweeps 136 = .ok (.iinc 2 1, 3) := dk_132 2 1 (dk_at dksX3_sweeps_5 17 rfl rfl)
theorem dX3_sweeps_139 : decode cX3_sweeps 139 = .ok (.goto (-137), 3) := dk_167 255 119 (dk_at dksX3_sweeps_5 20 rfl rfl)
theorem dX3_sweeps_142 : decode cX3_sweeps 142 = .ok (.return_, 1) := dk_177 (dk_at dksX3_sweeps_5 23 rfl rfl)
abbrev cX3_drawn : ByteArray := prog_20_method_42_code
def yX3_drawn : MethodName := ⟨RX3, "drawn", "(III)J"⟩
def dkwX3_drawn_7 : List UInt8 := [105, 42, 180, 0, 36, 21, 6, 47, 109, 97, 55, 4, 132, 6, 1, 167, 255, 162, 22, 4, 173]
abbrev dktX3_drawn_7 : List UInt8 := dkwX3_drawn_7 ++ []
def dkwX3_drawn_6 : List UInt8 := [167, 0, 11, 42, 21, 6, 29, 182, 0, 231, 117, 55, 7, 22, 4, 42, 27, 21, 6, 182, 0, 255, 22, 7]
abbrev dktX3_drawn_6 : List UInt8 := dkwX3_drawn_6 ++ dktX3_drawn_7
def dkwX3_drawn_5 : List UInt8 := [159, 0, 6, 167, 0, 57, 42, 21, 6, 3, 182, 0, 224, 28, 160, 0, 13, 42, 21, 6, 29, 182, 0, 231]
abbrev dktX3_drawn_5 : List UInt8 := dkwX3_drawn_5 ++ dktX3_drawn_6
def dkwX3_drawn_4 : List UInt8 := [156, 0, 88, 42, 21, 6, 3, 182, 0, 224, 28, 159, 0, 17, 42, 21, 6, 4, 182, 0, 224, 28]
abbrev dktX3_drawn_4 : List UInt8 := dkwX3_drawn_4 ++ dktX3_drawn_5
def dkwX3_drawn_3 : List UInt8 := [182, 0, 54, 97, 55, 4, 132, 6, 1, 167, 255, 184, 3, 54, 6, 21, 6, 133, 42, 8, 182, 0, 54, 148]
abbrev dktX3_drawn_3 : List UInt8 := dkwX3_drawn_3 ++ dktX3_drawn_4
def dkwX3_drawn_2 : List UInt8 := [182, 0, 54, 28, 133, 148, 154, 0, 23, 22, 4, 42, 16, 90, 7, 21, 6, 104, 96, 5, 96, 29, 96]
abbrev dktX3_drawn_2 : List UInt8 := dkwX3_drawn_2 ++ dktX3_drawn_3
def dkwX3_drawn_1 : List UInt8 := [21, 6, 104, 96, 182, 0, 54, 27, 133, 148, 157, 0, 42, 42, 16, 90, 7, 21, 6, 104, 96, 4, 96]
abbrev dktX3_drawn_1 : List UInt8 := dkwX3_drawn_1 ++ dktX3_drawn_2
def dkwX3_drawn_0 : List UInt8 := [9, 55, 4, 3, 54, 6, 21, 6, 133, 42, 16, 6, 182, 0, 54, 148, 156, 0, 65, 42, 16, 90, 7]
abbrev dktX3_drawn_0 : List UInt8 := dkwX3_drawn_0 ++ dktX3_drawn_1
theorem dksX3_drawn_0 : cX3_drawn.data.toList.drop 0 = dktX3_drawn_0 := by decide +kernel
theorem dksX3_drawn_1 : cX3_drawn.data.toList.drop 23 = dktX3_drawn_1 := dk_seg dksX3_drawn_0 23 rfl rfl
theorem dksX3_drawn_2 : cX3_drawn.data.toList.drop 46 = dktX3_drawn_2 := dk_seg dksX3_drawn_1 23 rfl rfl
theorem dksX3_drawn_3 : cX3_drawn.data.toList.drop 69 = dktX3_drawn_3 := dk_seg dksX3_drawn_2 23 rfl rfl
theorem dksX3_drawn_4 : cX3_drawn.data.toList.drop 93 = dktX3_drawn_4 := dk_seg dksX3_drawn_3 24 rfl rfl
theorem dksX3_drawn_5 : cX3_drawn.data.toList.drop 115 = dktX3_drawn_5 := dk_seg dksX3_drawn_4 22 rfl rfl
theorem dksX3_drawn_6 : cX3_drawn.data.toList.drop 139 = dktX3_drawn_6 := dk_seg dksX3_drawn_5 24 rfl rfl
theorem dksX3_drawn_7 : cX3_drawn.data.toList.drop 163 = dktX3_drawn_7 := dk_seg dksX3_drawn_6 24 rfl rfl
theorem dX3_drawn_0 : decode cX3_drawn 0 = .ok (.lconst 0, 1) := dk_9 (dk_at dksX3_drawn_0 0 rfl rfl)
theorem dX3_drawn_1 : decode cX3_drawn 1 = .ok (.lstore 4, 2) := dk_55 4 (dk_at dksX3_drawn_0 1 rfl rfl)
theorem dX3_drawn_3 : decode cX3_drawn 3 = .ok (.iconst 0, 1) := dk_3 (dk_at dksX3_drawn_0 3 rfl rfl)
theorem dX3_drawn_4 : decode cX3_drawn 4 = .ok (.istore 6, 2) := dk_54 6 (dk_at dksX3_drawn_0 4 rfl rfl)
theorem dX3_drawn_6 : decode cX3_drawn 6 = .ok (.iload 6, 2) := dk_21 6 (dk_at dksX3_drawn_0 6 rfl rfl)
theorem dX3_drawn_8 : decode cX3_drawn 8 = .ok (.i2l, 1) := dk_133 (dk_at dksX3_drawn_0 8 rfl rfl)
theorem dX3_drawn_9 : decode cX3_drawn 9 = .ok (.aload_n 0, 1) := dk_42 (dk_at dksX3_drawn_0 9 rfl rfl)
theorem dX3_drawn_10 : decode cX3_drawn 10 = .ok (.bipush 6, 2) := dk_16 6 (dk_at dksX3_drawn_0 10 rfl rfl)
theorem dX3_drawn_12 : decode cX3_drawn 12 = .ok (.invokevirtual 54, 3) := dk_182 0 54 (dk_at dksX3_drawn_0 12 rfl rfl)
theorem dX3_drawn_15 : decode cX3_drawn 15 = .ok (.lcmp, 1) := dk_148 (dk_at dksX3_drawn_0 15 rfl rfl)
theorem dX3_drawn_16 : decode cX3_drawn 16 = .ok (.ifCond .ge 65, 3) := dk_156 0 65 (dk_at dksX3_drawn_0 16 rfl rfl)
theorem dX3_drawn_19 : decode cX3_drawn 19 = .ok (.aload_n 0, 1) := dk_42 (dk_at dksX3_drawn_0 19 rfl rfl)
theorem dX3_drawn_20 : decode cX3_drawn 20 = .ok (.bipush 90, 2) := dk_16 90 (dk_at dksX3_drawn_0 20 rfl rfl)
theorem dX3_drawn_22 : decode cX3_drawn 22 = .ok (.iconst 4, 1) := dk_7 (dk_at dksX3_drawn_0 22 rfl rfl)
theorem dX3_drawn_23 : decode cX3_drawn 23 = .ok (.iload 6, 2) := dk_21 6 (dk_at dksX3_drawn_1 0 rfl rfl)
theorem dX3_drawn_25 : decode cX3_drawn 25 = .ok (.imul, 1) := dk_104 (dk_at dksX3_drawn_1 2 rfl rfl)
theorem dX3_drawn_26 : decode cX3_drawn 26 = .ok (.iadd, 1) := dk_96 (dk_at dksX3_drawn_1 3 rfl rfl)
theorem dX3_drawn_27 : decode cX3_drawn 27 = .ok (.invokevirtual 54, 3) := dk_182 0 54 (dk_at dksX3_drawn_1 4 rfl rfl)
theorem dX3_drawn_30 : decode cX3_drawn 30 = .ok (.iload_n 1, 1) := dk_27 (dk_at dksX3_drawn_1 7 rfl rfl)
theorem dX3_drawn_31 : decode cX3_drawn 31 = .ok (.i2l, 1) := dk_133 (dk_at dksX3_drawn_1 8 rfl rfl)
theorem dX3_drawn_32 : decode cX3_drawn 32 = .ok (.lcmp, 1) := dk_148 (dk_at dksX3_drawn_1 9 rfl rfl)
theorem dX3_drawn_33 : decode cX3_drawn 33 = .ok (.ifCond .gt 42, 3) := dk_157 0 42 (dk_at dksX3_drawn_1 10 rfl rfl)
theorem dX3_drawn_36 : decode cX3_drawn 36 = .ok (.aload_n 0, 1) := dk_42 (dk_at dksX3_drawn_1 13 rfl rfl)
theorem dX3_drawn_37 : decode cX3_drawn 37 = .ok (.bipush 90, 2) := dk_16 90 (dk_at dksX3_drawn_1 14 rfl rfl)
theorem dX3_drawn_39 : decode cX3_drawn 39 = .ok (.iconst 4, 1) := dk_7 (dk_at dksX3_drawn_1 16 rfl rfl)
theorem dX3_drawn_40 : decode cX3_drawn 40 = .ok (.iload 6, 2) := dk_21 6 (dk_at dksX3_drawn_1 17 rfl rfl)
theorem dX3_drawn_42 : decode cX3_drawn 42 = .ok (.imul, 1) := dk_104 (dk_at dksX3_drawn_1 19 rfl rfl)
theorem dX3_drawn_43 : decode cX3_drawn 43 = .ok (.iadd, 1) := dk_96 (dk_at dksX3_drawn_1 20 rfl rfl)
theorem dX3_drawn_44 : decode cX3_drawn 44 = .ok (.iconst 1, 1) := dk_4 (dk_at dksX3_drawn_1 21 rfl rfl)
theorem dX3_drawn_45 : decode cX3_drawn 45 = .ok (.iadd, 1) := dk_96 (dk_at dksX3_drawn_1 22 rfl rfl)
theorem dX3_drawn_46 : decode cX3_drawn 46 = .ok (.invokevirtual 54, 3) := dk_182 0 54 (dk_at dksX3_drawn_2 0 rfl rfl)
theorem dX3_drawn_49 : decode cX3_drawn 49 = .ok (.iload_n 2, 1) := dk_28 (dk_at dksX3_drawn_2 3 rfl rfl)
theorem dX3_drawn_50 : decode cX3_drawn 50 = .ok (.i2l, 1) := dk_133 (dk_at dksX3_drawn_2 4 rfl rfl)
theorem dX3_drawn_51 : decode cX3_drawn 51 = .ok (.lcmp, 1) := dk_148 (dk_at dksX3_drawn_2 5 rfl rfl)
theorem dX3_drawn_52 : decode cX3_drawn 52 = .ok (.ifCond .ne 23, 3) := dk_154 0 23 (dk_at dksX3_drawn_2 6 rfl rfl)
theorem dX3_drawn_55 : decode cX3_drawn 55 = .ok (.lload 4, 2) := dk_22 4 (dk_at dksX3_drawn_2 9 rfl rfl)
theorem dX3_drawn_57 : decode cX3_drawn 57 = .ok (.aload_n 0, 1) := dk_42 (dk_at dksX3_drawn_2 11 rfl rfl)
theorem dX3_drawn_58 : decode cX3_drawn 58 = .ok (.bipush 90, 2) := dk_16 90 (dk_at dksX3_drawn_2 12 rfl rfl)
theorem dX3_drawn_60 : decode cX3_drawn 60 = .ok (.iconst 4, 1) := dk_7 (dk_at dksX3_drawn_2 14 rfl rfl)
theorem dX3_drawn_61 : decode cX3_drawn 61 = .ok (.iload 6, 2) := dk_21 6 (dk_at dksX3_drawn_2 15 rfl rfl)
theorem dX3_drawn_63 : decode cX3_drawn 63 = .ok (.imul, 1) := dk_104 (dk_at dksX3_drawn_2 17 rfl rfl)
theorem dX3_drawn_64 : decode cX3_drawn 64 = .ok (.iadd, 1) := dk_96 (dk_at dksX3_drawn_2 18 rfl rfl)
theorem dX3_drawn_65 : decode cX3_drawn 65 = .ok (.iconst 2, 1) := dk_5 (dk_at dksX3_drawn_2 19 rfl rfl)
theorem dX3_drawn_66 : decode cX3_drawn 66 = .ok (.iadd, 1) := dk_96 (dk_at dksX3_drawn_2 20 rfl rfl)
theorem dX3_drawn_67 : decode cX3_drawn 67 = .ok (.iload_n 3, 1) := dk_29 (dk_at dksX3_drawn_2 21 rfl rfl)
theorem dX3_drawn_68 : decode cX3_drawn 68 = .ok (.iadd, 1) := dk_96 (dk_at dksX3_drawn_2 22 rfl rfl)
theorem dX3_drawn_69 : decode cX3_drawn 69 = .ok (.invokevirtual 54, 3) := dk_182 0 54 (dk_at dksX3_drawn_3 0 rfl rfl)
theorem dX3_drawn_72 : decode cX3_drawn 72 = .ok (.ladd, 1) := dk_97 (dk_at dksX3_drawn_3 3 rfl rfl)
theorem dX3_drawn_73 : decode cX3_drawn 73 = .ok (.lstore 4, 2) := dk_55 4 (dk_at dksX3_drawn_3 4 rfl rfl)
theorem dX3_drawn_75 : decode cX3_drawn 75 = .ok (.iinc 6 1, 3) := dk_132 6 1 (dk_at dksX3_drawn_3 6 rfl rfl)
theorem dX3_drawn_78 : decode cX3_drawn 78 = .ok (.goto (-72), 3) := dk_167 255 184 (dk_at dksX3_drawn_3 9 rfl rfl)
theorem dX3_drawn_81 : decode cX3_drawn 81 = .ok (.iconst 0, 1) := dk_3 (dk_at dksX3_drawn_3 12 rfl rfl)
theorem dX3_drawn_82 : decode cX3_drawn 82 = .ok (.istore 6, 2) := dk_54 6 (dk_at dksX3_drawn_3 13 rfl rfl)
theorem dX3_drawn_84 : decode cX3_drawn 84 = .ok (.iload 6, 2) := dk_21 6 (dk_at dksX3_drawn_3 15 rfl rfl)
theorem dX3_drawn_86 : decode cX3_drawn 86 = .ok (.i2l, 1) := dk_133 (dk_at dksX3_drawn_3 17 rfl rfl)
theorem dX3_drawn_87 : decode cX3_drawn 87 = .ok (.aload_n 0, 1) := dk_42 (dk_at dksX3_drawn_3 18 rfl rfl)
theorem dX3_drawn_88 : decode cX3_drawn 88 = .ok (.iconst 5, 1) := dk_8 (dk_at dksX3_drawn_3 19 rfl rfl)
theorem dX3_drawn_89 : decode cX3_drawn 89 = .ok (.invokevirtual 54, 3) := dk_182 0 54 (dk_at dksX3_drawn_3 20 rfl rfl)
theorem dX3_drawn_92 : decode cX3_drawn 92 = .ok (.lcmp, 1) := dk_148 (dk_at dksX3_drawn_3 23 rfl rfl)
theorem dX3_drawn_93 : decode cX3_drawn 93 = .ok (.ifCond .ge 88, 3) := dk_156 0 88 (dk_at dksX3_drawn_4 0 rfl rfl)
theorem dX3_drawn_96 : decode cX3_drawn 96 = .ok (.aload_n 0, 1) := dk_42 (dk_at dksX3_drawn_4 3 rfl rfl)
theorem dX3_drawn_97 : decode cX3_drawn 97 = .ok (.iload 6, 2) := dk_21 6 (dk_at dksX3_drawn_4 4 rfl rfl)
theorem dX3_drawn_99 : decode cX3_drawn 99 = .ok (.iconst 0, 1) := dk_3 (dk_at dksX3_drawn_4 6 rfl rfl)
theorem dX3_drawn_100 : decode cX3_drawn 100 = .ok (.invokevirtual 224, 3) := dk_182 0 224 (dk_at dksX3_drawn_4 7 rfl rfl)
theorem dX3_drawn_103 : decode cX3_drawn 103 = .ok (.iload_n 2, 1) := dk_28 (dk_at dksX3_drawn_4 10 rfl rfl)
theorem dX3_drawn_104 : decode cX3_drawn 104 = .ok (.if_icmp .eq 17, 3) := dk_159 0 17 (dk_at dksX3_drawn_4 11 rfl rfl)
theorem dX3_drawn_107 : decode cX3_drawn 107 = .ok (.aload_n 0, 1) := dk_42 (dk_at dksX3_drawn_4 14 rfl rfl)
theorem dX3_drawn_108 : decode cX3_drawn 108 = .ok (.iload 6, 2) := dk_21 6 (dk_at dksX3_drawn_4 15 rfl rfl)
theorem dX3_drawn_110 : decode cX3_drawn 110 = .ok (.iconst 1, 1) := dk_4 (dk_at dksX3_drawn_4 17 rfl rfl)
theorem dX3_drawn_111 : decode cX3_drawn 111 = .ok (.invokevirtual 224, 3) := dk_182 0 224 (dk_at dksX3_drawn_4 18 rfl rfl)
theorem dX3_drawn_114 : decode cX3_drawn 114 = .ok (.iload_n 2, 1) := dk_28 (dk_at dksX3_drawn_4 21 rfl rfl)
theorem dX3_drawn_115 : decode cX3_drawn 115 = .ok (.if_icmp .eq 6, 3) := dk_159 0 6 (dk_at dksX3_drawn_5 0 rfl rfl)
theorem dX3_drawn_118 : decode cX3_drawn 118 = .ok (.goto 57, 3) := dk_167 0 57 (dk_at dksX3_drawn_5 3 rfl rfl)
theorem dX3_drawn_121 : decode cX3_drawn 121 = .ok (.aload_n 0, 1) := dk_42 (dk_at dksX3_drawn_5 6 rfl rfl)
theorem dX3_drawn_122 : decode cX3_drawn 122 = .ok (.iload 6, 2) := dk_21 6 (dk_at dksX3_drawn_5 7 rfl rfl)
theorem dX3_drawn_124 : decode cX3_drawn 124 = .ok (.iconst 0, 1) := dk_3 (dk_at dksX3_drawn_5 9 rfl rfl)
theorem dX3_drawn_125 : decode cX3_drawn 125 = .ok (.invokevirtual 224, 3) := dk_182 0 224 (dk_at dksX3_drawn_5 10 rfl rfl)
theorem dX3_drawn_128 : decode cX3_drawn 128 = .ok (.iload_n 2, 1) := dk_28 (dk_at dksX3_drawn_5 13 rfl rfl)
theorem dX3_drawn_129 : decode cX3_drawn 129 = .ok (.if_icmp .ne 13, 3) := dk_160 0 13 (dk_at dksX3_drawn_5 14 rfl rfl)
theorem dX3_drawn_132 : decode cX3_drawn 132 = .ok (.aload_n 0, 1) := dk_42 (dk_at dksX3_drawn_5 17 rfl rfl)
theorem dX3_drawn_133 : decode cX3_drawn 133 = .ok (.iload 6, 2) := dk_21 6 (dk_at dksX3_drawn_5 18 rfl rfl)
theorem dX3_drawn_135 : decode cX3_drawn 135 = .ok (.iload_n 3, 1) := dk_29 (dk_at dksX3_drawn_5 20 rfl rfl)
theorem dX3_drawn_136 : decode cX3_drawn 136 = .ok (.invokevirtual 231, 3) := dk_182 0 231 (dk_at dksX3_drawn_5 21 rfl rfl)
theorem dX3_drawn_139 : decode cX3_drawn 139 = .ok (.goto 11, 3) := dk_167 0 11 (dk_at dksX3_drawn_6 0 rfl rfl)
theorem dX3_drawn_142 : decode cX3_drawn 142 = .ok (.aload_n 0, 1) := dk_42 (dk_at dksX3_drawn_6 3 rfl rfl)
theorem dX3_drawn_143 : decode cX3_drawn 143 = .ok (.iload 6, 2) := dk_21 6 (dk_at dksX3_drawn_6 4 rfl rfl)
theorem dX3_drawn_145 : decode cX3_drawn 145 = .ok (.iload_n 3, 1) := dk_29 (dk_at dksX3_drawn_6 6 rfl rfl)
theorem dX3_drawn_146 : decode cX3_drawn 146 = .ok (.invokevirtual 231, 3) := dk_182 0 231 (dk_at dksX3_drawn_6 7 rfl rfl)
theorem dX3_drawn_149 : decode cX3_drawn 149 = .ok (.lneg, 1) := dk_117 (dk_at dksX3_drawn_6 10 rfl rfl)
theorem dX3_drawn_150 : decode cX3_drawn 150 = .ok (.lstore 7, 2) := dk_55 7 (dk_at dksX3_drawn_6 11 rfl rfl)
theorem dX3_drawn_152 : decode cX3_drawn 152 = .ok (.lload 4, 2) := dk_22 4 (dk_at dksX3_drawn_6 13 rfl rfl)
theorem dX3_drawn_154 : decode cX3_drawn 154 = .ok (.aload_n 0, 1) := dk_42 (dk_at dksX3_drawn_6 15 rfl rfl)
theorem dX3_drawn_155 : decode cX3_drawn 155 = .ok (.iload_n 1, 1) := dk_27 (dk_at dksX3_drawn_6 16 rfl rfl)
theorem dX3_drawn_156 : decode cX3_drawn 156 = .ok (.iload 6, 2) := dk_21 6 (dk_at dksX3_drawn_6 17 rfl rfl)
theorem dX3_drawn_158 : decode cX3_drawn 158 = .ok (.invokevirtual 255, 3) := dk_182 0 255 (dk_at dksX3_drawn_6 19 rfl rfl)
theorem dX3_drawn_161 : decode cX3_drawn 161 = .ok (.lload 7, 2) := dk_22 7 (dk_at dksX3_drawn_6 22 rfl rfl)
theorem dX3_drawn_163 : decode cX3_drawn 163 = .ok (.lmul, 1) := dk_105 (dk_at dksX3_drawn_7 0 rfl rfl)
theorem dX3_drawn_164 : decode cX3_drawn 164 = .ok (.aload_n 0, 1) := dk_42 (dk_at dksX3_drawn_7 1 rfl rfl)
theorem dX3_drawn_165 : decode cX3_drawn 165 = .ok (.getfield 36, 3) := dk_180 0 36 (dk_at dksX3_drawn_7 2 rfl rfl)
theorem dX3_drawn_168 : decode cX3_drawn 168 = .ok (.iload 6, 2) := dk_21 6 (dk_at dksX3_drawn_7 5 rfl rfl)
theorem dX3_drawn_170 : decode cX3_drawn 170 = .ok (.laload, 1) := dk_47 (dk_at dksX3_drawn_7 7 rfl rfl)
theorem dX3_drawn_171 : decode cX3_drawn 171 = .ok (.ldiv, 1) := dk_109 (dk_at dksX3_drawn_7 8 rfl rfl)
theorem dX3_drawn_172 : decode cX3_drawn 172 = .ok (.ladd, 1) := dk_97 (dk_at dksX3_drawn_7 9 rfl rfl)
theorem dX3_drawn_173 : decode cX3_drawn 173 = .ok (.lstore 4, 2) := dk_55 4 (dk_at dksX3_drawn_7 10 rfl rfl)
theorem dX3_drawn_175 : decode cX3_drawn 175 = .ok (.iinc 6 1, 3) := dk_132 6 1 (dk_at dksX3_drawn_7 12 rfl rfl)
theorem dX3_drawn_178 : decode cX3_drawn 178 = .ok (.goto (-94), 3) := dk_167 255 162 (dk_at dksX3_drawn_7 15 rfl rfl)
theorem dX3_drawn_181 : decode cX3_drawn 181 = .ok (.lload 4, 2) := dk_22 4 (dk_at dksX3_drawn_7 18 rfl rfl)
theorem dX3_drawn_183 : decode cX3_drawn 183 = .ok (.lreturn, 1) := dk_173 (dk_at dksX3_drawn_7 20 rfl rfl)
abbrev cX3_forceAt : ByteArray := prog_20_method_41_code
def yX3_forceAt : MethodName := ⟨RX3, "forceAt", "(II)J"⟩
def dkwX3_forceAt_4 : List UInt8 := [20, 0, 247, 42, 180, 0, 36, 28, 47, 105, 109, 20, 0, 249, 20, 0, 108, 184, 0, 251, 173]
abbrev dktX3_forceAt_4 : List UInt8 := dkwX3_forceAt_4 ++ []
def dkwX3_forceAt_3 : List UInt8 := [180, 0, 36, 28, 47, 109, 55, 5, 42, 3, 182, 0, 54, 42, 28, 182, 0, 241, 105, 22, 5, 105]
abbrev dktX3_forceAt_3 : List UInt8 := dkwX3_forceAt_3 ++ dktX3_forceAt_4
def dkwX3_forceAt_2 : List UInt8 := [180, 0, 30, 21, 4, 47, 42, 180, 0, 30, 29, 47, 101, 42, 28, 4, 182, 0, 231, 105, 97, 42]
abbrev dktX3_forceAt_2 : List UInt8 := dkwX3_forceAt_2 ++ dktX3_forceAt_3
def dkwX3_forceAt_1 : List UInt8 := [54, 4, 42, 180, 0, 27, 21, 4, 47, 42, 180, 0, 27, 29, 47, 101, 42, 28, 3, 182, 0, 231, 105, 42]
abbrev dktX3_forceAt_1 : List UInt8 := dkwX3_forceAt_1 ++ dktX3_forceAt_2
def dkwX3_forceAt_0 : List UInt8 := [16, 8, 27, 104, 42, 28, 3, 182, 0, 224, 96, 62, 16, 8, 27, 104, 42, 28, 4, 182, 0, 224, 96]
abbrev dktX3_forceAt_0 : List UInt8 := dkwX3_forceAt_0 ++ dktX3_forceAt_1
theorem dksX3_forceAt_0 : cX3_forceAt.data.toList.drop 0 = dktX3_forceAt_0 := by decide +kernel
theorem dksX3_forceAt_1 : cX3_forceAt.data.toList.drop 23 = dktX3_forceAt_1 := dk_seg dksX3_forceAt_0 23 rfl rfl
theorem dksX3_forceAt_2 : cX3_forceAt.data.toList.drop 47 = dktX3_forceAt_2 := dk_seg dksX3_forceAt_1 24 rfl rfl
theorem dksX3_forceAt_3 : cX3_forceAt.data.toList.drop 69 = dktX3_forceAt_3 := dk_seg dksX3_forceAt_2 22 rfl rfl
theorem dksX3_forceAt_4 : cX3_forceAt.data.toList.drop 91 = dktX3_forceAt_4 := dk_seg dksX3_forceAt_3 22 rfl rfl
theorem dX3_forceAt_0 : decode cX3_forceAt 0 = .ok (.bipush 8, 2) := dk_16 8 (dk_at dksX3_forceAt_0 0 rfl rfl)
theorem dX3_forceAt_2 : decode cX3_forceAt 2 = .ok (.iload_n 1, 1) := dk_27 (dk_at dksX3_forceAt_0 2 rfl rfl)
theorem dX3_forceAt_3 : decode cX3_forceAt 3 = .ok (.imul, 1) := dk_104 (dk_at dksX3_forceAt_0 3 rfl rfl)
theorem dX3_forceAt_4 : decode cX3_forceAt 4 = .ok (.aload_n 0, 1) := dk_42 (dk_at dksX3_forceAt_0 4 rfl rfl)
theorem dX3_forceAt_5 : decode cX3_forceAt 5 = .ok (.iload_n 2, 1) := dk_28 (dk_at dksX3_forceAt_0 5 rfl rfl)
theorem dX3_forceAt_6 : decode cX3_forceAt 6 = .ok (.iconst 0, 1) := dk_3 (dk_at dksX3_forceAt_0 6 rfl rfl)
theorem dX3_forceAt_7 : decode cX3_forceAt 7 = .ok (.invokevirtual 224, 3) := dk_182 0 224 (dk_at dksX3_forceAt_0 7 rfl rfl)
theorem dX3_forceAt_10 : decode cX3_forceAt 10 = .ok (.iadd, 1) := dk_96 (dk_at dksX3_forceAt_0 10 rfl rfl)
theorem dX3_forceAt_11 : decode cX3_forceAt 11 = .ok (.istore_n 3, 1) := dk_62 (dk_at dksX3_forceAt_0 11 rfl rfl)
theorem dX3_forceAt_12 : decode cX3_forceAt 12 = .ok (.bipush 8, 2) := dk_16 8 (dk_at dksX3_forceAt_0 12 rfl rfl)
theorem dX3_forceAt_14 : decode cX3_forceAt 14 = .ok (.iload_n 1, 1) := dk_27 (dk_at dksX3_forceAt_0 14 rfl rfl)
theorem dX3_forceAt_15 : decode cX3_forceAt 15 = .ok (.imul, 1) := dk_104 (dk_at dksX3_forceAt_0 15 rfl rfl)
theorem dX3_forceAt_16 : decode cX3_forceAt 16 = .ok (.aload_n 0, 1) := dk_42 (dk_at dksX3_forceAt_0 16 rfl rfl)
theorem dX3_forceAt_17 : decode cX3_forceAt 17 = .ok (.iload_n 2, 1) := dk_28 (dk_at dksX3_forceAt_0 17 rfl rfl)
theorem dX3_forceAt_18 : decode cX3_forceAt 18 = .ok (.iconst 1, 1) := dk_4 (dk_at dksX3_forceAt_0 18 rfl rfl)
theorem dX3_forceAt_19 : decode cX3_forceAt 19 = .ok (.invokevirtual 224, 3) := dk_182 0 224 (dk_at dksX3_forceAt_0 19 rfl rfl)
theorem dX3_forceAt_22 : decode cX3_forceAt 22 = .ok (.iadd, 1) := dk_96 (dk_at dksX3_forceAt_0 22 rfl rfl)
theorem dX3_forceAt_23 : decode cX3_forceAt 23 = .ok (.istore 4, 2) := dk_54 4 (dk_at dksX3_forceAt_1 0 rfl rfl)
theorem dX3_forceAt_25 : decode cX3_forceAt 25 = .ok (.aload_n 0, 1) := dk_42 (dk_at dksX3_forceAt_1 2 rfl rfl)
theorem dX3_forceAt_26 : decode cX3_forceAt 26 = .ok (.getfield 27, 3) := dk_180 0 27 (dk_at dksX3_forceAt_1 3 rfl rfl)
theorem dX3_forceAt_29 : decode cX3_forceAt 29 = .ok (.iload 4, 2) := dk_21 4 (dk_at dksX3_forceAt_1 6 rfl rfl)
theorem dX3_forceAt_31 : decode cX3_forceAt 31 = .ok (.laload, 1) := dk_47 (dk_at dksX3_forceAt_1 8 rfl rfl)
theorem dX3_forceAt_32 : decode cX3_forceAt 32 = .ok (.aload_n 0, 1) := dk_42 (dk_at dksX3_forceAt_1 9 rfl rfl)
theorem dX3_forceAt_33 : decode cX3_forceAt 33 = .ok (.getfield 27, 3) := dk_180 0 27 (dk_at dksX3_forceAt_1 10 rfl rfl)
theorem dX3_forceAt_36 : decode cX3_forceAt 36 = .ok (.iload_n 3, 1) := dk_29 (dk_at dksX3_forceAt_1 13 rfl rfl)
theorem dX3_forceAt_37 : decode cX3_forceAt 37 = .ok (.laload, 1) := dk_47 (dk_at dksX3_forceAt_1 14 rfl rfl)
theorem dX3_forceAt_38 : decode cX3_forceAt 38 = .ok (.lsub, 1) := dk_101 (dk_at dksX3_forceAt_1 15 rfl rfl)
theorem dX3_forceAt_39 : decode cX3_forceAt 39 = .ok (.aload_n 0, 1) := dk_42 (dk_at dksX3_forceAt_1 16 rfl rfl)
theorem dX3_forceAt_40 : decode cX3_forceAt 40 = .ok (.iload_n 2, 1) := dk_28 (dk_at dksX3_forceAt_1 17 rfl rfl)
theorem dX3_forceAt_41 : decode cX3_forceAt 41 = .ok (.iconst 0, 1) := dk_3 (dk_at dksX3_forceAt_1 18 rfl rfl)
theorem dX3_forceAt_42 : decode cX3_forceAt 42 = .ok (.invokevirtual 231, 3) := dk_182 0 231 (dk_at dksX3_forceAt_1 19 rfl rfl)
theorem dX3_forceAt_45 : decode cX3_forceAt 45 = .ok (.lmul, 1) := dk_105 (dk_at dksX3_forceAt_1 22 rfl rfl)
theorem dX3_forceAt_46 : decode cX3_forceAt 46 = .ok (.aload_n 0, 1) := dk_42 (dk_at dksX3_forceAt_1 23 rfl rfl)
theorem dX3_forceAt_47 : decode cX3_forceAt 47 = .ok (.getfield 30, 3) := dk_180 0 30 (dk_at dksX3_forceAt_2 0 rfl rfl)
theorem dX3_forceAt_50 : decode cX3_forceAt 50 = .ok (.iload 4, 2) := dk_21 4 (dk_at dksX3_forceAt_2 3 rfl rfl)
theorem dX3_forceAt_52 : decode cX3_forceAt 52 = .ok (.laload, 1) := dk_47 (dk_at dksX3_forceAt_2 5 rfl rfl)
theorem dX3_forceAt_53 : decode cX3_forceAt 53 = .ok (.aload_n 0, 1) := dk_42 (dk_at dksX3_forceAt_2 6 rfl rfl)
theorem dX3_forceAt_54 : decode cX3_forceAt 54 = .ok (.getfield 30, 3) := dk_180 0 30 (dk_at dksX3_forceAt_2 7 rfl rfl)
theorem dX3_forceAt_57 : decode cX3_forceAt 57 = .ok (.iload_n 3, 1) := dk_29 (dk_at dksX3_forceAt_2 10 rfl rfl)
theorem dX3_forceAt_58 : decode cX3_forceAt 58 = .ok (.laload, 1) := dk_47 (dk_at dksX3_forceAt_2 11 rfl rfl)
theorem dX3_forceAt_59 : decode cX3_forceAt 59 = .ok (.lsub, 1) := dk_101 (dk_at dksX3_forceAt_2 12 rfl rfl)
theorem dX3_forceAt_60 : decode cX3_forceAt 60 = .ok (.aload_n 0, 1) := dk_42 (dk_at dksX3_forceAt_2 13 rfl rfl)
theorem dX3_forceAt_61 : decode cX3_forceAt 61 = .ok (.iload_n 2, 1) := dk_28 (dk_at dksX3_forceAt_2 14 rfl rfl)
theorem dX3_forceAt_62 : decode cX3_forceAt 62 = .ok (.iconst 1, 1) := dk_4 (dk_at dksX3_forceAt_2 15 rfl rfl)
theorem dX3_forceAt_63 : decode cX3_forceAt 63 = .ok (.invokevirtual 231, 3) := dk_182 0 231 (dk_at dksX3_forceAt_2 16 rfl rfl)
theorem dX3_forceAt_66 : decode cX3_forceAt 66 = .ok (.lmul, 1) := dk_105 (dk_at dksX3_forceAt_2 19 rfl rfl)
theorem dX3_forceAt_67 : decode cX3_forceAt 67 = .ok (.ladd, 1) := dk_97 (dk_at dksX3_forceAt_2 20 rfl rfl)
theorem dX3_forceAt_68 : decode cX3_forceAt 68 = .ok (.aload_n 0, 1) := dk_42 (dk_at dksX3_forceAt_2 21 rfl rfl)
theorem dX3_forceAt_69 : decode cX3_forceAt 69 = .ok (.getfield 36, 3) := dk_180 0 36 (dk_at dksX3_forceAt_3 0 rfl rfl)
theorem dX3_forceAt_72 : decode cX3_forceAt 72 = .ok (.iload_n 2, 1) := dk_28 (dk_at dksX3_forceAt_3 3 rfl rfl)
theorem dX3_forceAt_73 : decode cX3_forceAt 73 = .ok (.laload, 1) := dk_47 (dk_at dksX3_forceAt_3 4 rfl rfl)
theorem dX3_forceAt_74 : decode cX3_forceAt 74 = .ok (.ldiv, 1) := dk_109 (dk_at dksX3_forceAt_3 5 rfl rfl)
theorem dX3_forceAt_75 : decode cX3_forceAt 75 = .ok (.lstore 5, 2) := dk_55 5 (dk_at dksX3_forceAt_3 6 rfl rfl)
theorem dX3_forceAt_77 : decode cX3_forceAt 77 = .ok (.aload_n 0, 1) := dk_42 (dk_at dksX3_forceAt_3 8 rfl rfl)
theorem dX3_forceAt_78 : decode cX3_forceAt 78 = .ok (.iconst 0, 1) := dk_3 (dk_at dksX3_forceAt_3 9 rfl rfl)
theorem dX3_forceAt_79 : decode cX3_forceAt 79 = .ok (.invokevirtual 54, 3) := dk_182 0 54 (dk_at dksX3_forceAt_3 10 rfl rfl)
theorem dX3_forceAt_82 : decode cX3_forceAt 82 = .ok (.aload_n 0, 1) := dk_42 (dk_at dksX3_forceAt_3 13 rfl rfl)
theorem dX3_forceAt_83 : decode cX3_forceAt 83 = .ok (.iload_n 2, 1) := dk_28 (dk_at dksX3_forceAt_3 14 rfl rfl)
theorem dX3_forceAt_84 : decode cX3_forceAt 84 = .ok (.invokevirtual 241, 3) := dk_182 0 241 (dk_at dksX3_forceAt_3 15 rfl rfl)
theorem dX3_forceAt_87 : decode cX3_forceAt 87 = .ok (.lmul, 1) := dk_105 (dk_at dksX3_forceAt_3 18 rfl rfl)
theorem dX3_forceAt_88 : decode cX3_forceAt 88 = .ok (.lload 5, 2) := dk_22 5 (dk_at dksX3_forceAt_3 19 rfl rfl)
theorem dX3_forceAt_90 : decode cX3_forceAt 90 = .ok (.lmul, 1) := dk_105 (dk_at dksX3_forceAt_3 21 rfl rfl)
theorem dX3_forceAt_91 : decode cX3_forceAt 91 = .ok (.ldc2_w 247, 3) := dk_20 0 247 (dk_at dksX3_forceAt_4 0 rfl rfl)
theorem dX3_forceAt_94 : decode cX3_forceAt 94 = .ok (.aload_n 0, 1) := dk_42 (dk_at dksX3_forceAt_4 3 rfl rfl)
theorem dX3_forceAt_95 : decode cX3_forceAt 95 = .ok (.getfield 36, 3) := dk_180 0 36 (dk_at dksX3_forceAt_4 4 rfl rfl)
theorem dX3_forceAt_98 : decode cX3_forceAt 98 = .ok (.iload_n 2, 1) := dk_28 (dk_at dksX3_forceAt_4 7 rfl rfl)
theorem dX3_forceAt_99 : decode cX3_forceAt 99 = .ok (.laload, 1) := dk_47 (dk_at dksX3_forceAt_4 8 rfl rfl)
theorem dX3_forceAt_100 : decode cX3_forceAt 100 = .ok (.lmul, 1) := dk_105 (dk_at dksX3_forceAt_4 9 rfl rfl)
theorem dX3_forceAt_101 : decode cX3_forceAt 101 = .ok (.ldiv, 1) := dk_109 (dk_at dksX3_forceAt_4 10 rfl rfl)
theorem dX3_forceAt_102 : decode cX3_forceAt 102 = .ok (.ldc2_w 249, 3) := dk_20 0 249 (dk_at dksX3_forceAt_4 11 rfl rfl)
theorem dX3_forceAt_105 : decode cX3_forceAt 105 = .ok (.ldc2_w 108, 3) := dk_20 0 108 (dk_at dksX3_forceAt_4 14 rfl rfl)
theorem dX3_forceAt_108 : decode cX3_forceAt 108 = .ok (.invokestatic 251, 3) := dk_184 0 251 (dk_at dksX3_forceAt_4 17 rfl rfl)
theorem dX3_forceAt_111 : decode cX3_forceAt 111 = .ok (.lreturn, 1) := dk_173 (dk_at dksX3_forceAt_4 20 rfl rfl)
abbrev cX3_clamped : ByteArray := prog_20_method_4_code
def yX3_clamped : MethodName := ⟨RX3, "clamped", "(JJJ)J"⟩
def dkwX3_clamped_0 : List UInt8 := [30, 32, 148, 156, 0, 7, 32, 167, 0, 16, 30, 22, 4, 148, 158, 0, 8, 22, 4, 167, 0, 4, 30, 173]
abbrev dktX3_clamped_0 : List UInt8 := dkwX3_clamped_0 ++ []
theorem dksX3_clamped_0 : cX3_clamped.data.toList.drop 0 = dktX3_clamped_0 := by decide +kernel
theorem dX3_clamped_0 : decode cX3_clamped 0 = .ok (.lload_n 0, 1) := dk_30 (dk_at dksX3_clamped_0 0 rfl rfl)
theorem dX3_clamped_1 : decode cX3_clamped 1 = .ok (.lload_n 2, 1) := dk_32 (dk_at dksX3_clamped_0 1 rfl rfl)
theorem dX3_clamped_2 : decode cX3_clamped 2 = .ok (.lcmp, 1) := dk_148 (dk_at dksX3_clamped_0 2 rfl rfl)
theorem dX3_clamped_3 : decode cX3_clamped 3 = .ok (.ifCond .ge 7, 3) := dk_156 0 7 (dk_at dksX3_clamped_0 3 rfl rfl)
theorem dX3_clamped_6 : decode cX3_clamped 6 = .ok (.lload_n 2, 1) := dk_32 (dk_at dksX3_clamped_0 6 rfl rfl)
theorem dX3_clamped_7 : decode cX3_clamped 7 = .ok (.goto 16, 3) := dk_167 0 16 (dk_at dksX3_clamped_0 7 rfl rfl)
theorem dX3_clamped_10 : decode cX3_clamped 10 = .ok (.lload_n 0, 1) := dk_30 (dk_at dksX3_clamped_0 10 rfl rfl)
theorem dX3_clamped_11 : decode cX3_clamped 11 = .ok (.lload 4, 2) := dk_22 4 (dk_at dksX3_clamped_0 11 rfl rfl)
theorem dX3_clamped_13 : decode cX3_clamped 13 = .ok (.lcmp, 1) := dk_148 (dk_at dksX3_clamped_0 13 rfl rfl)
theorem dX3_clamped_14 : decode cX3_clamped 14 = .ok (.ifCond .le 8, 3) := dk_158 0 8 (dk_at dksX3_clamped_0 14 rfl rfl)
theorem dX3_clamped_17 : decode cX3_clamped 17 = .ok (.lload 4, 2) := dk_22 4 (dk_at dksX3_clamped_0 17 rfl rfl)
theorem dX3_clamped_19 : decode cX3_clamped 19 = .ok (.goto 4, 3) := dk_167 0 4 (dk_at dksX3_clamped_0 19 rfl rfl)
theorem dX3_clamped_22 : decode cX3_clamped 22 = .ok (.lload_n 0, 1) := dk_30 (dk_at dksX3_clamped_0 22 rfl rfl)
theorem dX3_clamped_23 : decode cX3_clamped 23 = .ok (.lreturn, 1) := dk_173 (dk_at dksX3_clamped_0 23 rfl rfl)
abbrev cX3_force : ByteArray := prog_20_method_70_code
def yX3_force : MethodName := ⟨RX3, "force", "(II)I"⟩
def dkwX3_force_1 : List UInt8 := [42, 182, 1, 63, 42, 180, 0, 33, 16, 16, 28, 104, 27, 96, 47, 136, 172]
abbrev dktX3_force_1 : List UInt8 := dkwX3_force_1 ++ []
def dkwX3_force_0 : List UInt8 := [42, 3, 181, 0, 48, 42, 27, 8, 182, 1, 53, 153, 0, 11, 42, 28, 182, 1, 59, 154, 0, 5, 3, 172]
abbrev dktX3_force_0 : List UInt8 := dkwX3_force_0 ++ dktX3_force_1
theorem dksX3_force_0 : cX3_force.data.toList.drop 0 = dktX3_force_0 := by decide +kernel
theorem dksX3_force_1 : cX3_force.data.toList.drop 24 = dktX3_force_1 := dk_seg dksX3_force_0 24 rfl rfl
theorem dX3_force_0 : decode cX3_force 0 = .ok (.aload_n 0, 1) := dk_42 (dk_at dksX3_force_0 0 rfl rfl)
theorem dX3_force_1 : decode cX3_force 1 = .ok (.iconst 0, 1) := dk_3 (dk_at dksX3_force_0 1 rfl rfl)
theorem dX3_force_2 : decode cX3_force 2 = .ok (.putfield 48, 3) := dk_181 0 48 (dk_at dksX3_force_0 2 rfl rfl)
theorem dX3_force_5 : decode cX3_force 5 = .ok (.aload_n 0, 1) := dk_42 (dk_at dksX3_force_0 5 rfl rfl)
theorem dX3_force_6 : decode cX3_force 6 = .ok (.iload_n 1, 1) := dk_27 (dk_at dksX3_force_0 6 rfl rfl)
theorem dX3_force_7 : decode cX3_force 7 = .ok (.iconst 5, 1) := dk_8 (dk_at dksX3_force_0 7 rfl rfl)
theorem dX3_force_8 : decode cX3_force 8 = .ok (.invokevirtual 309, 3) := dk_182 1 53 (dk_at dksX3_force_0 8 rfl rfl)
theorem dX3_force_11 : decode cX3_force 11 = .ok (.ifCond .eq 11, 3) := dk_153 0 11 (dk_at dksX3_force_0 11 rfl rfl)
theorem dX3_force_14 : decode cX3_force 14 = .ok (.aload_n 0, 1) := dk_42 (dk_at dksX3_force_0 14 rfl rfl)
theorem dX3_force_15 : decode cX3_force 15 = .ok (.iload_n 2, 1) := dk_28 (dk_at dksX3_force_0 15 rfl rfl)
theorem dX3_force_16 : decode cX3_force 16 = .ok (.invokevirtual 315, 3) := dk_182 1 59 (dk_at dksX3_force_0 16 rfl rfl)
theorem dX3_force_19 : decode cX3_force 19 = .ok (.ifCond .ne 5, 3) := dk_154 0 5 (dk_at dksX3_force_0 19 rfl rfl)
theorem dX3_force_22 : decode cX3_force 22 = .ok (.iconst 0, 1) := dk_3 (dk_at dksX3_force_0 22 rfl rfl)
theorem dX3_force_23 : decode cX3_force 23 = .ok (.ireturn, 1) := dk_172 (dk_at dksX3_force_0 23 rfl rfl)
theorem dX3_force_24 : decode cX3_force 24 = .ok (.aload_n 0, 1) := dk_42 (dk_at dksX3_force_1 0 rfl rfl)
theorem dX3_force_25 : decode cX3_force 25 = .ok (.invokevirtual 319, 3) := dk_182 1 63 (dk_at dksX3_force_1 1 rfl rfl)
theorem dX3_force_28 : decode cX3_force 28 = .ok (.aload_n 0, 1) := dk_42 (dk_at dksX3_force_1 4 rfl rfl)
theorem dX3_force_29 : decode cX3_force 29 = .ok (.getfield 33, 3) := dk_180 0 33 (dk_at dksX3_force_1 5 rfl rfl)
theorem dX3_force_32 : decode cX3_force 32 = .ok (.bipush 16, 2) := dk_16 16 (dk_at dksX3_force_1 8 rfl rfl)
theorem dX3_force_34 : decode cX3_force 34 = .ok (.iload_n 2, 1) := dk_28 (dk_at dksX3_force_1 10 rfl rfl)
theorem dX3_force_35 : decode cX3_force 35 = .ok (.imul, 1) := dk_104 (dk_at dksX3_force_1 11 rfl rfl)
theorem dX3_force_36 : decode cX3_force 36 = .ok (.iload_n 1, 1) := dk_27 (dk_at dksX3_force_1 12 rfl rfl)
theorem dX3_force_37 : decode cX3_force 37 = .ok (.iadd, 1) := dk_96 (dk_at dksX3_force_1 13 rfl rfl)
theorem dX3_force_38 : decode cX3_force 38 = .ok (.laload, 1) := dk_47 (dk_at dksX3_force_1 14 rfl rfl)
theorem dX3_force_39 : decode cX3_force 39 = .ok (.l2i, 1) := dk_136 (dk_at dksX3_force_1 15 rfl rfl)
theorem dX3_force_40 : decode cX3_force 40 = .ok (.ireturn, 1) := dk_172 (dk_at dksX3_force_1 16 rfl rfl)
abbrev cX3_residual : ByteArray := prog_20_method_71_code
def yX3_residual : MethodName := ⟨RX3, "residual", "(IIZ)I"⟩
def dkwX3_residual_1 : List UInt8 := [42, 182, 1, 63, 42, 28, 27, 29, 153, 0, 7, 3, 167, 0, 4, 4, 182, 1, 2, 136, 172]
abbrev dktX3_residual_1 : List UInt8 := dkwX3_residual_1 ++ []
def dkwX3_residual_0 : List UInt8 := [42, 3, 181, 0, 48, 42, 27, 6, 182, 1, 53, 153, 0, 11, 42, 28, 182, 1, 59, 154, 0, 5, 3, 172]
abbrev dktX3_residual_0 : List UInt8 := dkwX3_residual_0 ++ dktX3_residual_1
theorem dksX3_residual_0 : cX3_residual.data.toList.drop 0 = dktX3_residual_0 := by decide +kernel
theorem dksX3_residual_1 : cX3_residual.data.toList.drop 24 = dktX3_residual_1 := dk_seg dksX3_residual_0 24 rfl rfl
theorem dX3_residual_0 : decode cX3_residual 0 = .ok (.aload_n 0, 1) := dk_42 (dk_at dksX3_residual_0 0 rfl rfl)
theorem dX3_residual_1 : decode cX3_residual 1 = .ok (.iconst 0, 1) := dk_3 (dk_at dksX3_residual_0 1 rfl rfl)
theorem dX3_residual_2 : decode cX3_residual 2 = .ok (.putfield 48, 3) := dk_181 0 48 (dk_at dksX3_residual_0 2 rfl rfl)
theorem dX3_residual_5 : decode cX3_residual 5 = .ok (.aload_n 0, 1) := dk_42 (dk_at dksX3_residual_0 5 rfl rfl)
theorem dX3_residual_6 : decode cX3_residual 6 = .ok (.iload_n 1, 1) := dk_27 (dk_at dksX3_residual_0 6 rfl rfl)
theorem dX3_residual_7 : decode cX3_residual 7 = .ok (.iconst 3, 1) := dk_6 (dk_at dksX3_residual_0 7 rfl rfl)
theorem dX3_residual_8 : decode cX3_residual 8 = .ok (.invokevirtual 309, 3) := dk_182 1 53 (dk_at dksX3_residual_0 8 rfl rfl)
theorem dX3_residual_11 : decode cX3_residual 11 = .ok (.ifCond .eq 11, 3) := dk_153 0 11 (dk_at dksX3_residual_0 11 rfl rfl)
theorem dX3_residual_14 : decode cX3_residual 14 = .ok (.aload_n 0, 1) := dk_42 (dk_at dksX3_residual_0 14 rfl rfl)
theorem dX3_residual_15 : decode cX3_residual 15 = .ok (.iload_n 2, 1) := dk_28 (dk_at dksX3_residual_0 15 rfl rfl)
theorem dX3_residual_16 : decode cX3_residual 16 = .ok (.invokevirtual 315, 3) := dk_182 1 59 (dk_at dksX3_residual_0 16 rfl rfl)
theorem dX3_residual_19 : decode cX3_residual 19 = .ok (.ifCond .ne 5, 3) := dk_154 0 5 (dk_at dksX3_residual_0 19 rfl rfl)
theorem dX3_residual_22 : decode cX3_residual 22 = .ok (.iconst 0, 1) := dk_3 (dk_at dksX3_residual_0 22 rfl rfl)
theorem dX3_residual_23 : decode cX3_residual 23 = .ok (.ireturn, 1) := dk_172 (dk_at dksX3_residual_0 23 rfl rfl)
theorem dX3_residual_24 : decode cX3_residual 24 = .ok (.aload_n 0, 1) := dk_42 (dk_at dksX3_residual_1 0 rfl rfl)
theorem dX3_residual_25 : decode cX3_residual 25 = .ok (.invokevirtual 319, 3) := dk_182 1 63 (dk_at dksX3_residual_1 1 rfl rfl)
theorem dX3_residual_28 : decode cX3_residual 28 = .ok (.aload_n 0, 1) := dk_42 (dk_at dksX3_residual_1 4 rfl rfl)
theorem dX3_residual_29 : decode cX3_residual 29 = .ok (.iload_n 2, 1) := dk_28 (dk_at dksX3_residual_1 5 rfl rfl)
theorem dX3_residual_30 : decode cX3_residual 30 = .ok (.iload_n 1, 1) := dk_27 (dk_at dksX3_residual_1 6 rfl rfl)
theorem dX3_residual_31 : decode cX3_residual 31 = .ok (.iload_n 3, 1) := dk_29 (dk_at dksX3_residual_1 7 rfl rfl)
theorem dX3_residual_32 : decode cX3_residual 32 = .ok (.ifCond .eq 7, 3) := dk_153 0 7 (dk_at dksX3_residual_1 8 rfl rfl)
theorem dX3_residual_35 : decode cX3_residual 35 = .ok (.iconst 0, 1) := dk_3 (dk_at dksX3_residual_1 11 rfl rfl)
theorem dX3_residual_36 : decode cX3_residual 36 = .ok (.goto 4, 3) := dk_167 0 4 (dk_at dksX3_residual_1 12 rfl rfl)
theorem dX3_residual_39 : decode cX3_residual 39 = .ok (.iconst 1, 1) := dk_4 (dk_at dksX3_residual_1 15 rfl rfl)
theorem dX3_residual_40 : decode cX3_residual 40 = .ok (.invokevirtual 258, 3) := dk_182 1 2 (dk_at dksX3_residual_1 16 rfl rfl)
theorem dX3_residual_43 : decode cX3_residual 43 = .ok (.l2i, 1) := dk_136 (dk_at dksX3_residual_1 19 rfl rfl)
theorem dX3_residual_44 : decode cX3_residual 44 = .ok (.ireturn, 1) := dk_172 (dk_at dksX3_residual_1 20 rfl rfl)
abbrev cX3_buckling : ByteArray := prog_20_method_72_code
def yX3_buckling : MethodName := ⟨RX3, "buckling", "(I)I"⟩
def dkwX3_buckling_1 : List UInt8 := [172]
abbrev dktX3_buckling_1 : List UInt8 := dkwX3_buckling_1 ++ []
def dkwX3_buckling_0 : List UInt8 := [42, 3, 181, 0, 48, 42, 27, 8, 182, 1, 53, 153, 0, 12, 42, 27, 182, 1, 24, 136, 167, 0, 4, 3]
abbrev dktX3_buckling_0 : List UInt8 := dkwX3_buckling_0 ++ dktX3_buckling_1
theorem dksX3_buckling_0 : cX3_buckling.data.toList.drop 0 = dktX3_buckling_0 := by decide +kernel
theorem dksX3_buckling_1 : cX3_buckling.data.toList.drop 24 = dktX3_buckling_1 := dk_seg dksX3_buckling_0 24 rfl rfl
theorem dX3_buckling_0 : decode cX3_buckling 0 = .ok (.aload_n 0, 1) := dk_42 (dk_at dksX3_buckling_0 0 rfl rfl)
theorem dX3_buckling_1 : decode cX3_buckling 1 = .ok (.iconst 0, 1) := dk_3 (dk_at dksX3_buckling_0 1 rfl rfl)
theorem dX3_buckling_2 : decode cX3_buckling 2 = .ok (.putfield 48, 3) := dk_181 0 48 (dk_at dksX3_buckling_0 2 rfl rfl)
theorem dX3_buckling_5 : decode cX3_buckling 5 = .ok (.aload_n 0, 1) := dk_42 (dk_at dksX3_buckling_0 5 rfl rfl)
theorem dX3_buckling_6 : decode cX3_buckling 6 = .ok (.iload_n 1, 1) := dk_27 (dk_at dksX3_buckling_0 6 rfl rfl)
theorem dX3_buckling_7 : decode cX3_buckling 7 = .ok (.iconst 5, 1) := dk_8 (dk_at dksX3_buckling_0 7 rfl rfl)
theorem dX3_buckling_8 : decode cX3_buckling 8 = .ok (.invokevirtual 309, 3) := dk_182 1 53 (dk_at dksX3_buckling_0 8 rfl rfl)
theorem dX3_buckling_11 : decode cX3_buckling 11 = .ok (.ifCond .eq 12, 3) := dk_153 0 12 (dk_at dksX3_buckling_0 11 rfl rfl)
theorem dX3_buckling_14 : decode cX3_buckling 14 = .ok (.aload_n 0, 1) := dk_42 (dk_at dksX3_buckling_0 14 rfl rfl)
theorem dX3_buckling_15 : decode cX3_buckling 15 = .ok (.iload_n 1, 1) := dk_27 (dk_at dksX3_buckling_0 15 rfl rfl)
theorem dX3_buckling_16 : decode cX3_buckling 16 = .ok (.invokevirtual 280, 3) := dk_182 1 24 (dk_at dksX3_buckling_0 16 rfl rfl)
theorem dX3_buckling_19 : decode cX3_buckling 19 = .ok (.l2i, 1) := dk_136 (dk_at dksX3_buckling_0 19 rfl rfl)
theorem dX3_buckling_20 : decode cX3_buckling 20 = .ok (.goto 4, 3) := dk_167 0 4 (dk_at dksX3_buckling_0 20 rfl rfl)
theorem dX3_buckling_23 : decode cX3_buckling 23 = .ok (.iconst 0, 1) := dk_3 (dk_at dksX3_buckling_0 23 rfl rfl)
theorem dX3_buckling_24 : decode cX3_buckling 24 = .ok (.ireturn, 1) := dk_172 (dk_at dksX3_buckling_1 0 rfl rfl)
abbrev cX3_bucklingOf : ByteArray := prog_20_method_47_code
def yX3_bucklingOf : MethodName := ⟨RX3, "bucklingOf", "(I)J"⟩
def dkwX3_bucklingOf_10 : List UInt8 := [184, 0, 251, 80, 132, 5, 2, 167, 255, 41, 42, 180, 0, 42, 3, 47, 9, 20, 0, 108, 184, 0, 251, 173]
abbrev dktX3_bucklingOf_10 : List UInt8 := dkwX3_bucklingOf_10 ++ []
def dkwX3_bucklingOf_9 : List UInt8 := [22, 12, 9, 148, 154, 0, 7, 9, 167, 0, 8, 22, 10, 22, 12, 109, 20, 0, 249, 20, 0, 108]
abbrev dktX3_bucklingOf_9 : List UInt8 := dkwX3_bucklingOf_9 ++ dktX3_bucklingOf_10
def dkwX3_bucklingOf_8 : List UInt8 := [22, 12, 101, 167, 0, 36, 22, 6, 20, 1, 22, 148, 154, 0, 11, 22, 10, 22, 12, 105, 167, 0, 19]
abbrev dktX3_bucklingOf_8 : List UInt8 := dkwX3_bucklingOf_8 ++ dktX3_bucklingOf_9
def dkwX3_bucklingOf_7 : List UInt8 := [148, 154, 0, 11, 22, 10, 22, 12, 97, 167, 0, 53, 22, 6, 20, 1, 20, 148, 154, 0, 11, 22, 10]
abbrev dktX3_bucklingOf_7 : List UInt8 := dkwX3_bucklingOf_7 ++ dktX3_bucklingOf_8
def dkwX3_bucklingOf_6 : List UInt8 := [55, 10, 42, 180, 0, 42, 21, 4, 47, 55, 12, 42, 180, 0, 42, 21, 4, 4, 100, 22, 6, 20, 1, 18]
abbrev dktX3_bucklingOf_6 : List UInt8 := dkwX3_bucklingOf_6 ++ dktX3_bucklingOf_7
def dkwX3_bucklingOf_5 : List UInt8 := [42, 3, 182, 0, 54, 80, 132, 4, 1, 167, 0, 111, 132, 4, 255, 42, 180, 0, 42, 21, 4, 4, 100, 47]
abbrev dktX3_bucklingOf_5 : List UInt8 := dkwX3_bucklingOf_5 ++ dktX3_bucklingOf_6
def dkwX3_bucklingOf_4 : List UInt8 := [9, 148, 154, 0, 11, 42, 27, 182, 0, 241, 167, 0, 19, 22, 8, 10, 148, 154, 0, 7, 32, 167, 0, 8]
abbrev dktX3_bucklingOf_4 : List UInt8 := dkwX3_bucklingOf_4 ++ dktX3_bucklingOf_5
def dkwX3_bucklingOf_3 : List UInt8 := [148, 156, 0, 59, 42, 180, 0, 42, 21, 4, 22, 6, 9, 148, 154, 0, 8, 22, 8, 167, 0, 34, 22, 8]
abbrev dktX3_bucklingOf_3 : List UInt8 := dkwX3_bucklingOf_3 ++ dktX3_bucklingOf_4
def dkwX3_bucklingOf_2 : List UInt8 := [182, 0, 54, 55, 6, 42, 17, 0, 140, 21, 5, 96, 4, 96, 182, 0, 54, 55, 8, 22, 6, 20, 0, 129]
abbrev dktX3_bucklingOf_2 : List UInt8 := dkwX3_bucklingOf_2 ++ dktX3_bucklingOf_3
def dkwX3_bucklingOf_1 : List UInt8 := [3, 54, 5, 21, 5, 133, 42, 16, 7, 182, 0, 54, 148, 156, 0, 208, 42, 17, 0, 140, 21, 5, 96]
abbrev dktX3_bucklingOf_1 : List UInt8 := dkwX3_bucklingOf_1 ++ dktX3_bucklingOf_2
def dkwX3_bucklingOf_0 : List UInt8 := [42, 16, 7, 182, 0, 54, 9, 148, 154, 0, 7, 20, 0, 108, 173, 42, 27, 182, 0, 244, 65, 3, 54, 4]
abbrev dktX3_bucklingOf_0 : List UInt8 := dkwX3_bucklingOf_0 ++ dktX3_bucklingOf_1
theorem dksX3_bucklingOf_0 : cX3_bucklingOf.data.toList.drop 0 = dktX3_bucklingOf_0 := by decide +kernel
theorem dksX3_bucklingOf_1 : cX3_bucklingOf.data.toList.drop 24 = dktX3_bucklingOf_1 := dk_seg dksX3_bucklingOf_0 24 rfl rfl
theorem dksX3_bucklingOf_2 : cX3_bucklingOf.data.toList.drop 47 = dktX3_bucklingOf_2 := dk_seg dksX3_bucklingOf_1 23 rfl rfl
theorem dksX3_bucklingOf_3 : cX3_bucklingOf.data.toList.drop 71 = dktX3_bucklingOf_3 := dk_seg dksX3_bucklingOf_2 24 rfl rfl
theorem dksX3_bucklingOf_4 : cX3_bucklingOf.data.toList.drop 95 = dktX3_bucklingOf_4 := dk_seg dksX3_bucklingOf_3 24 rfl rfl
theorem dksX3_bucklingOf_5 : cX3_bucklingOf.data.toList.drop 119 = dktX3_bucklingOf_5 := dk_seg dksX3_bucklingOf_4 24 rfl rfl
theorem dksX3_bucklingOf_6 : cX3_bucklingOf.data.toList.drop 143 = dktX3_bucklingOf_6 := dk_seg dksX3_bucklingOf_5 24 rfl rfl
theorem dksX3_bucklingOf_7 : cX3_bucklingOf.data.toList.drop 167 = dktX3_bucklingOf_7 := dk_seg dksX3_bucklingOf_6 24 rfl rfl
theorem dksX3_bucklingOf_8 : cX3_bucklingOf.data.toList.drop 190 = dktX3_bucklingOf_8 := dk_seg dksX3_bucklingOf_7 23 rfl rfl
theorem dksX3_bucklingOf_9 : cX3_bucklingOf.data.toList.drop 213 = dktX3_bucklingOf_9 := dk_seg dksX3_bucklingOf_8 23 rfl rfl
theorem dksX3_bucklingOf_10 : cX3_bucklingOf.data.toList.drop 235 = dktX3_bucklingOf_10 := dk_seg dksX3_bucklingOf_9 22 rfl rfl
theorem dX3_bucklingOf_0 : decode cX3_bucklingOf 0 = .ok (.aload_n 0, 1) := dk_42 (dk_at dksX3_bucklingOf_0 0 rfl rfl)
theorem dX3_bucklingOf_1 : decode cX3_bucklingOf 1 = .ok (.bipush 7, 2) := dk_16 7 (dk_at dksX3_bucklingOf_0 1 rfl rfl)
theorem dX3_bucklingOf_3 : decode cX3_bucklingOf 3 = .ok (.invokevirtual 54, 3) := dk_182 0 54 (dk_at dksX3_bucklingOf_0 3 rfl rfl)
theorem dX3_bucklingOf_6 : decode cX3_bucklingOf 6 = .ok (.lconst 0, 1) := dk_9 (dk_at dksX3_bucklingOf_0 6 rfl rfl)
theorem dX3_bucklingOf_7 : decode cX3_bucklingOf 7 = .ok (.lcmp, 1) := dk_148 (dk_at dksX3_bucklingOf_0 7 rfl rfl)
theorem dX3_bucklingOf_8 : decode cX3_bucklingOf 8 = .ok (.ifCond .ne 7, 3) := dk_154 0 7 (dk_at dksX3_bucklingOf_0 8 rfl rfl)
theorem dX3_bucklingOf_11 : decode cX3_bucklingOf 11 = .ok (.ldc2_w 108, 3) := dk_20 0 108 (dk_at dksX3_bucklingOf_0 11 rfl rfl)
theorem dX3_bucklingOf_14 : decode cX3_bucklingOf 14 = .ok (.lreturn, 1) := dk_173 (dk_at dksX3_bucklingOf_0 14 rfl rfl)
theorem dX3_bucklingOf_15 : decode cX3_bucklingOf 15 = .ok (.aload_n 0, 1) := dk_42 (dk_at dksX3_bucklingOf_0 15 rfl rfl)
theorem dX3_bucklingOf_16 : decode cX3_bucklingOf 16 = .ok (.iload_n 1, 1) := dk_27 (dk_at dksX3_bucklingOf_0 16 rfl rfl)
theorem dX3_bucklingOf_17 : decode cX3_bucklingOf 17 = .ok (.invokevirtual 244, 3) := dk_182 0 244 (dk_at dksX3_bucklingOf_0 17 rfl rfl)
theorem dX3_bucklingOf_20 : decode cX3_bucklingOf 20 = .ok (.lstore_n 2, 1) := dk_65 (dk_at dksX3_bucklingOf_0 20 rfl rfl)
theorem dX3_bucklingOf_21 : decode cX3_bucklingOf 21 = .ok (.iconst 0, 1) := dk_3 (dk_at dksX3_bucklingOf_0 21 rfl rfl)
theorem dX3_bucklingOf_22 : decode cX3_bucklingOf 22 = .ok (.istore 4, 2) := dk_54 4 (dk_at dksX3_bucklingOf_0 22 rfl rfl)
theorem dX3_bucklingOf_24 : decode cX3_bucklingOf 24 = .ok (.iconst 0, 1) := dk_3 (dk_at dksX3_bucklingOf_1 0 rfl rfl)
theorem dX3_bucklingOf_25 : decode cX3_bucklingOf 25 = .ok (.istore 5, 2) := dk_54 5 (dk_at dksX3_bucklingOf_1 1 rfl rfl)
theorem dX3_bucklingOf_27 : decode cX3_bucklingOf 27 = .ok (.iload 5, 2) := dk_21 5 (dk_at dksX3_bucklingOf_1 3 rfl rfl)
theorem dX3_bucklingOf_29 : decode cX3_bucklingOf 29 = .ok (.i2l, 1) := dk_133 (dk_at dksX3_bucklingOf_1 5 rfl rfl)
theorem dX3_bucklingOf_30 : decode cX3_bucklingOf 30 = .ok (.aload_n 0, 1) := dk_42 (dk_at dksX3_bucklingOf_1 6 rfl rfl)
theorem dX3_bucklingOf_31 : decode cX3_bucklingOf 31 = .ok (.bipush 7, 2) := dk_16 7 (dk_at dksX3_bucklingOf_1 7 rfl rfl)
theorem dX3_bucklingOf_33 : decode cX3_bucklingOf 33 = .ok (.invokevirtual 54, 3) := dk_182 0 54 (dk_at dksX3_bucklingOf_1 9 rfl rfl)
theorem dX3_bucklingOf_36 : decode cX3_bucklingOf 36 = .ok (.lcmp, 1) := dk_148 (dk_at dksX3_bucklingOf_1 12 rfl rfl)
theorem dX3_bucklingOf_37 : decode cX3_bucklingOf 37 = .ok (.ifCond .ge 208, 3) := dk_156 0 208 (dk_at dksX3_bucklingOf_1 13 rfl rfl)
theorem dX3_bucklingOf_40 : decode cX3_bucklingOf 40 = .ok (.aload_n 0, 1) := dk_42 (dk_at dksX3_bucklingOf_1 16 rfl rfl)
theorem dX3_bucklingOf_41 : decode cX3_bucklingOf 41 = .ok (.sipush 140, 3) := dk_17 0 140 (dk_at dksX3_bucklingOf_1 17 rfl rfl)
theorem dX3_bucklingOf_44 : decode cX3_bucklingOf 44 = .ok (.iload 5, 2) := dk_21 5 (dk_at dksX3_bucklingOf_1 20 rfl rfl)
theorem dX3_bucklingOf_46 : decode cX3_bucklingOf 46 = .ok (.iadd, 1) := dk_96 (dk_at dksX3_bucklingOf_1 22 rfl rfl)
theorem dX3_bucklingOf_47 : decode cX3_bucklingOf 47 = .ok (.invokevirtual 54, 3) := dk_182 0 54 (dk_at dksX3_bucklingOf_2 0 rfl rfl)
theorem dX3_bucklingOf_50 : decode cX3_bucklingOf 50 = .ok (.lstore 6, 2) := dk_55 6 (dk_at dksX3_bucklingOf_2 3 rfl rfl)
theorem dX3_bucklingOf_52 : decode cX3_bucklingOf 52 = .ok (.aload_n 0, 1) := dk_42 (dk_at dksX3_bucklingOf_2 5 rfl rfl)
theorem dX3_bucklingOf_53 : decode cX3_bucklingOf 53 = .ok (.sipush 140, 3) := dk_17 0 140 (dk_at dksX3_bucklingOf_2 6 rfl rfl)
theorem dX3_bucklingOf_56 : decode cX3_bucklingOf 56 = .ok (.iload 5, 2) := dk_21 5 (dk_at dksX3_bucklingOf_2 9 rfl rfl)
theorem dX3_bucklingOf_58 : decode cX3_bucklingOf 58 = .ok (.iadd, 1) := dk_96 (dk_at dksX3_bucklingOf_2 11 rfl rfl)
theorem dX3_bucklingOf_59 : decode cX3_bucklingOf 59 = .ok (.iconst 1, 1) := dk_4 (dk_at dksX3_bucklingOf_2 12 rfl rfl)
theorem dX3_bucklingOf_60 : decode cX3_bucklingOf 60 = .ok (.iadd, 1) := dk_96 (dk_at dksX3_bucklingOf_2 13 rfl rfl)
theorem dX3_bucklingOf_61 : decode cX3_bucklingOf 61 = .ok (.invokevirtual 54, 3) := dk_182 0 54 (dk_at dksX3_bucklingOf_2 14 rfl rfl)
theorem dX3_bucklingOf_64 : decode cX3_bucklingOf 64 = .ok (.lstore 8, 2) := dk_55 8 (dk_at dksX3_bucklingOf_2 17 rfl rfl)
theorem dX3_bucklingOf_66 : decode cX3_bucklingOf 66 = .ok (.lload 6, 2) := dk_22 6 (dk_at dksX3_bucklingOf_2 19 rfl rfl)
theorem dX3_bucklingOf_68 : decode cX3_bucklingOf 68 = .ok (.ldc2_w 129, 3) := dk_20 0 129 (dk_at dksX3_bucklingOf_2 21 rfl rfl)
theorem dX3_bucklingOf_71 : decode cX3_bucklingOf 71 = .ok (.lcmp, 1) := dk_148 (dk_at dksX3_bucklingOf_3 0 rfl rfl)
theorem dX3_bucklingOf_72 : decode cX3_bucklingOf 72 = .ok (.ifCond .ge 59, 3) := dk_156 0 59 (dk_at dksX3_bucklingOf_3 1 rfl rfl)
theorem dX3_bucklingOf_75 : decode cX3_bucklingOf 75 = .ok (.aload_n 0, 1) := dk_42 (dk_at dksX3_bucklingOf_3 4 rfl rfl)
theorem dX3_bucklingOf_76 : decode cX3_bucklingOf 76 = .ok (.getfield 42, 3) := dk_180 0 42 (dk_at dksX3_bucklingOf_3 5 rfl rfl)
theorem dX3_bucklingOf_79 : decode cX3_bucklingOf 79 = .ok (.iload 4, 2) := dk_21 4 (dk_at dksX3_bucklingOf_3 8 rfl rfl)
theorem dX3_bucklingOf_81 : decode cX3_bucklingOf 81 = .ok (.lload 6, 2) := dk_22 6 (dk_at dksX3_bucklingOf_3 10 rfl rfl)
theorem dX3_bucklingOf_83 : decode cX3_bucklingOf 83 = .ok (.lconst 0, 1) := dk_9 (dk_at dksX3_bucklingOf_3 12 rfl rfl)
theorem dX3_bucklingOf_84 : decode cX3_bucklingOf 84 = .ok (.lcmp, 1) := dk_148 (dk_at dksX3_bucklingOf_3 13 rfl rfl)
theorem dX3_bucklingOf_85 : decode cX3_bucklingOf 85 = .ok (.ifCond .ne 8, 3) := dk_154 0 8 (dk_at dksX3_bucklingOf_3 14 rfl rfl)
theorem dX3_bucklingOf_88 : decode cX3_bucklingOf 88 = .ok (.lload 8, 2) := dk_22 8 (dk_at dksX3_bucklingOf_3 17 rfl rfl)
theorem dX3_bucklingOf_90 : decode cX3_bucklingOf 90 = .ok (.goto 34, 3) := dk_167 0 34 (dk_at dksX3_bucklingOf_3 19 rfl rfl)
theorem dX3_bucklingOf_93 : decode cX3_bucklingOf 93 = .ok (.lload 8, 2) := dk_22 8 (dk_at dksX3_bucklingOf_3 22 rfl rfl)
theorem dX3_bucklingOf_95 : decode cX3_bucklingOf 95 = .ok (.lconst 0, 1) := dk_9 (dk_at dksX3_bucklingOf_4 0 rfl rfl)
theorem dX3_bucklingOf_96 : decode cX3_bucklingOf 96 = .ok (.lcmp, 1) := dk_148 (dk_at dksX3_bucklingOf_4 1 rfl rfl)
theorem dX3_bucklingOf_97 : decode cX3_bucklingOf 97 = .ok (.ifCond .ne 11, 3) := dk_154 0 11 (dk_at dksX3_bucklingOf_4 2 rfl rfl)
theorem dX3_bucklingOf_100 : decode cX3_bucklingOf 100 = .ok (.aload_n 0, 1) := dk_42 (dk_at dksX3_bucklingOf_4 5 rfl rfl)
theorem dX3_bucklingOf_101 : decode cX3_bucklingOf 101 = .ok (.iload_n 1, 1) := dk_27 (dk_at dksX3_bucklingOf_4 6 rfl rfl)
theorem dX3_bucklingOf_102 : decode cX3_bucklingOf 102 = .ok (.invokevirtual 241, 3) := dk_182 0 241 (dk_at dksX3_bucklingOf_4 7 rfl rfl)
theorem dX3_bucklingOf_105 : decode cX3_bucklingOf 105 = .ok (.goto 19, 3) := dk_167 0 19 (dk_at dksX3_bucklingOf_4 10 rfl rfl)
theorem dX3_bucklingOf_108 : decode cX3_bucklingOf 108 = .ok (.lload 8, 2) := dk_22 8 (dk_at dksX3_bucklingOf_4 13 rfl rfl)
theorem dX3_bucklingOf_110 : decode cX3_bucklingOf 110 = .ok (.lconst 1, 1) := dk_10 (dk_at dksX3_bucklingOf_4 15 rfl rfl)
theorem dX3_bucklingOf_111 : decode cX3_bucklingOf 111 = .ok (.lcmp, 1) := dk_148 (dk_at dksX3_bucklingOf_4 16 rfl rfl)
theorem dX3_bucklingOf_112 : decode cX3_bucklingOf 112 = .ok (.ifCond .ne 7, 3) := dk_154 0 7 (dk_at dksX3_bucklingOf_4 17 rfl rfl)
theorem dX3_bucklingOf_115 : decode cX3_bucklingOf 115 = .ok (.lload_n 2, 1) := dk_32 (dk_at dksX3_bucklingOf_4 20 rfl rfl)
theorem dX3_bucklingOf_116 : decode cX3_bucklingOf 116 = .ok (.goto 8, 3) := dk_167 0 8 (dk_at dksX3_bucklingOf_4 21 rfl rfl)
theorem dX3_bucklingOf_119 : decode cX3_bucklingOf 119 = .ok (.aload_n 0, 1) := dk_42 (dk_at dksX3_bucklingOf_5 0 rfl rfl)
theorem dX3_bucklingOf_120 : decode cX3_bucklingOf 120 = .ok (.iconst 0, 1) := dk_3 (dk_at dksX3_bucklingOf_5 1 rfl rfl)
theorem dX3_bucklingOf_121 : decode cX3_bucklingOf 121 = .ok (.invokevirtual 54, 3) := dk_182 0 54 (dk_at dksX3_bucklingOf_5 2 rfl rfl)
theorem dX3_bucklingOf_124 : decode cX3_bucklingOf 124 = .ok (.lastore, 1) := dk_80 (dk_at dksX3_bucklingOf_5 5 rfl rfl)
theorem dX3_bucklingOf_125 : decode cX3_bucklingOf 125 = .ok (.iinc 4 1, 3) := dk_132 4 1 (dk_at dksX3_bucklingOf_5 6 rfl rfl)
theorem dX3_bucklingOf_128 : decode cX3_bucklingOf 128 = .ok (.goto 111, 3) := dk_167 0 111 (dk_at dksX3_bucklingOf_5 9 rfl rfl)
theorem dX3_bucklingOf_131 : decode cX3_bucklingOf 131 = .ok (.iinc 4 (-1), 3) := dk_132 4 255 (dk_at dksX3_bucklingOf_5 12 rfl rfl)
theorem dX3_bucklingOf_134 : decode cX3_bucklingOf 134 = .ok (.aload_n 0, 1) := dk_42 (dk_at dksX3_bucklingOf_5 15 rfl rfl)
theorem dX3_bucklingOf_135 : decode cX3_bucklingOf 135 = .ok (.getfield 42, 3) := dk_180 0 42 (dk_at dksX3_bucklingOf_5 16 rfl rfl)
theorem dX3_bucklingOf_138 : decode cX3_bucklingOf 138 = .ok (.iload 4, 2) := dk_21 4 (dk_at dksX3_bucklingOf_5 19 rfl rfl)
theorem dX3_bucklingOf_140 : decode cX3_bucklingOf 140 = .ok (.iconst 1, 1) := dk_4 (dk_at dksX3_bucklingOf_5 21 rfl rfl)
theorem dX3_bucklingOf_141 : decode cX3_bucklingOf 141 = .ok (.isub, 1) := dk_100 (dk_at dksX3_bucklingOf_5 22 rfl rfl)
theorem dX3_bucklingOf_142 : decode cX3_bucklingOf 142 = .ok (.laload, 1) := dk_47 (dk_at dksX3_bucklingOf_5 23 rfl rfl)
theorem dX3_bucklingOf_143 : decode cX3_bucklingOf 143 = .ok (.lstore 10, 2) := dk_55 10 (dk_at dksX3_bucklingOf_6 0 rfl rfl)
theorem dX3_bucklingOf_145 : decode cX3_bucklingOf 145 = .ok (.aload_n 0, 1) := dk_42 (dk_at dksX3_bucklingOf_6 2 rfl rfl)
theorem dX3_bucklingOf_146 : decode cX3_bucklingOf 146 = .ok (.getfield 42, 3) := dk_180 0 42 (dk_at dksX3_bucklingOf_6 3 rfl rfl)
theorem dX3_bucklingOf_149 : decode cX3_bucklingOf 149 = .ok (.iload 4, 2) := dk_21 4 (dk_at dksX3_bucklingOf_6 6 rfl rfl)
theorem dX3_bucklingOf_151 : decode cX3_bucklingOf 151 = .ok (.laload, 1) := dk_47 (dk_at dksX3_bucklingOf_6 8 rfl rfl)
theorem dX3_bucklingOf_152 : decode cX3_bucklingOf 152 = .ok (.lstore 12, 2) := dk_55 12 (dk_at dksX3_bucklingOf_6 9 rfl rfl)
theorem dX3_bucklingOf_154 : decode cX3_bucklingOf 154 = .ok (.aload_n 0, 1) := dk_42 (dk_at dksX3_bucklingOf_6 11 rfl rfl)
theorem dX3_bucklingOf_155 : decode cX3_bucklingOf 155 = .ok (.getfield 42, 3) := dk_180 0 42 (dk_at dksX3_bucklingOf_6 12 rfl rfl)
theorem dX3_bucklingOf_158 : decode cX3_bucklingOf 158 = .ok (.iload 4, 2) := dk_21 4 (dk_at dksX3_bucklingOf_6 15 rfl rfl)
theorem dX3_bucklingOf_160 : decode cX3_bucklingOf 160 = .ok (.iconst 1, 1) := dk_4 (dk_at dksX3_bucklingOf_6 17 rfl rfl)
theorem dX3_bucklingOf_161 : decode cX3_bucklingOf 161 = .ok (.isub, 1) := dk_100 (dk_at dksX3_bucklingOf_6 18 rfl rfl)
theorem dX3_bucklingOf_162 : decode cX3_bucklingOf 162 = .ok (.lload 6, 2) := dk_22 6 (dk_at dksX3_bucklingOf_6 19 rfl rfl)
theorem dX3_bucklingOf_164 : decode cX3_bucklingOf 164 = .ok (.ldc2_w 274, 3) := dk_20 1 18 (dk_at dksX3_bucklingOf_6 21 rfl rfl)
theorem dX3_bucklingOf_167 : decode cX3_bucklingOf 167 = .ok (.lcmp, 1) := dk_148 (dk_at dksX3_bucklingOf_7 0 rfl rfl)
theorem dX3_bucklingOf_168 : decode cX3_bucklingOf 168 = .ok (.ifCond .ne 11, 3) := dk_154 0 11 (dk_at dksX3_bucklingOf_7 1 rfl rfl)
theorem dX3_bucklingOf_171 : decode cX3_bucklingOf 171 = .ok (.lload 10, 2) := dk_22 10 (dk_at dksX3_bucklingOf_7 4 rfl rfl)
theorem dX3_bucklingOf_173 : decode cX3_bucklingOf 173 = .ok (.lload 12, 2) := dk_22 12 (dk_at dksX3_bucklingOf_7 6 rfl rfl)
theorem dX3_bucklingOf_175 : decode cX3_bucklingOf 175 = .ok (.ladd, 1) := dk_97 (dk_at dksX3_bucklingOf_7 8 rfl rfl)
theorem dX3_bucklingOf_176 : decode cX3_bucklingOf 176 = .ok (.goto 53, 3) := dk_167 0 53 (dk_at dksX3_bucklingOf_7 9 rfl rfl)
theorem dX3_bucklingOf_179 : decode cX3_bucklingOf 179 = .ok (.lload 6, 2) := dk_22 6 (dk_at dksX3_bucklingOf_7 12 rfl rfl)
theorem dX3_bucklingOf_181 : decode cX3_bucklingOf 181 = .ok (.ldc2_w 276, 3) := dk_20 1 20 (dk_at dksX3_bucklingOf_7 14 rfl rfl)
theorem dX3_bucklingOf_184 : decode cX3_bucklingOf 184 = .ok (.lcmp, 1) := dk_148 (dk_at dksX3_bucklingOf_7 17 rfl rfl)
theorem dX3_bucklingOf_185 : decode cX3_bucklingOf 185 = .ok (.ifCond .ne 11, 3) := dk_154 0 11 (dk_at dksX3_bucklingOf_7 18 rfl rfl)
theorem dX3_bucklingOf_188 : decode cX3_bucklingOf 188 = .ok (.lload 10, 2) := dk_22 10 (dk_at dksX3_bucklingOf_7 21 rfl rfl)
theorem dX3_bucklingOf_190 : decode cX3_bucklingOf 190 = .ok (.lload 12, 2) := dk_22 12 (dk_at dksX3_bucklingOf_8 0 rfl rfl)
theorem dX3_bucklingOf_192 : decode cX3_bucklingOf 192 = .ok (.lsub, 1) := dk_101 (dk_at dksX3_bucklingOf_8 2 rfl rfl)
theorem dX3_bucklingOf_193 : decode cX3_bucklingOf 193 = .ok (.goto 36, 3) := dk_167 0 36 (dk_at dksX3_bucklingOf_8 3 rfl rfl)
theorem dX3_bucklingOf_196 : decode cX3_bucklingOf 196 = .ok (.lload 6, 2) := dk_22 6 (dk_at dksX3_bucklingOf_8 6 rfl rfl)
theorem dX3_bucklingOf_198 : decode cX3_bucklingOf 198 = .ok (.ldc2_w 278, 3) := dk_20 1 22 (dk_at dksX3_bucklingOf_8 8 rfl rfl)
theorem dX3_bucklingOf_201 : decode cX3_bucklingOf 201 = .ok (.lcmp, 1) := dk_148 (dk_at dksX3_bucklingOf_8 11 rfl rfl)
theorem dX3_bucklingOf_202 : decode cX3_bucklingOf 202 = .ok (.ifCond .ne 11, 3) := dk_154 0 11 (dk_at dksX3_bucklingOf_8 12 rfl rfl)
theorem dX3_bucklingOf_205 : decode cX3_bucklingOf 205 = .ok (.lload 10, 2) := dk_22 10 (dk_at dksX3_bucklingOf_8 15 rfl rfl)
theorem dX3_bucklingOf_207 : decode cX3_bucklingOf 207 = .ok (.lload 12, 2) := dk_22 12 (dk_at dksX3_bucklingOf_8 17 rfl rfl)
theorem dX3_bucklingOf_209 : decode cX3_bucklingOf 209 = .ok (.lmul, 1) := dk_105 (dk_at dksX3_bucklingOf_8 19 rfl rfl)
theorem dX3_bucklingOf_210 : decode cX3_bucklingOf 210 = .ok (.goto 19, 3) := dk_167 0 19 (dk_at dksX3_bucklingOf_8 20 rfl rfl)
theorem dX3_bucklingOf_213 : decode cX3_bucklingOf 213 = .ok (.lload 12, 2) := dk_22 12 (dk_at dksX3_bucklingOf_9 0 rfl rfl)
theorem dX3_bucklingOf_215 : decode cX3_bucklingOf 215 = .ok (.lconst 0, 1) := dk_9 (dk_at dksX3_bucklingOf_9 2 rfl rfl)
theorem dX3_bucklingOf_216 : decode cX3_bucklingOf 216 = .ok (.lcmp, 1) := dk_148 (dk_at dksX3_bucklingOf_9 3 rfl rfl)
theorem dX3_bucklingOf_217 : decode cX3_bucklingOf 217 = .ok (.ifCond .ne 7, 3) := dk_154 0 7 (dk_at dksX3_bucklingOf_9 4 rfl rfl)
theorem dX3_bucklingOf_220 : decode cX3_bucklingOf 220 = .ok (.lconst 0, 1) := dk_9 (dk_at dksX3_bucklingOf_9 7 rfl rfl)
theorem dX3_bucklingOf_221 : decode cX3_bucklingOf 221 = .ok (.goto 8, 3) := dk_167 0 8 (dk_at dksX3_bucklingOf_9 8 rfl rfl)
theorem dX3_bucklingOf_224 : decode cX3_bucklingOf 224 = .ok (.lload 10, 2) := dk_22 10 (dk_at dksX3_bucklingOf_9 11 rfl rfl)
theorem dX3_bucklingOf_226 : decode cX3_bucklingOf 226 = .ok (.lload 12, 2) := dk_22 12 (dk_at dksX3_bucklingOf_9 13 rfl rfl)
theorem dX3_bucklingOf_228 : decode cX3_bucklingOf 228 = .ok (.ldiv, 1) := dk_109 (dk_at dksX3_bucklingOf_9 15 rfl rfl)
theorem dX3_bucklingOf_229 : decode cX3_bucklingOf 229 = .ok (.ldc2_w 249, 3) := dk_20 0 249 (dk_at dksX3_bucklingOf_9 16 rfl rfl)
theorem dX3_bucklingOf_232 : decode cX3_bucklingOf 232 = .ok (.ldc2_w 108, 3) := dk_20 0 108 (dk_at dksX3_bucklingOf_9 19 rfl rfl)
theorem dX3_bucklingOf_235 : decode cX3_bucklingOf 235 = .ok (.invokestatic 251, 3) := dk_184 0 251 (dk_at dksX3_bucklingOf_10 0 rfl rfl)
theorem dX3_bucklingOf_238 : decode cX3_bucklingOf 238 = .ok (.lastore, 1) := dk_80 (dk_at dksX3_bucklingOf_10 3 rfl rfl)
theorem dX3_bucklingOf_239 : decode cX3_bucklingOf 239 = .ok (.iinc 5 2, 3) := dk_132 5 2 (dk_at dksX3_bucklingOf_10 4 rfl rfl)
theorem dX3_bucklingOf_242 : decode cX3_bucklingOf 242 = .ok (.goto (-215), 3) := dk_167 255 41 (dk_at dksX3_bucklingOf_10 7 rfl rfl)
theorem dX3_bucklingOf_245 : decode cX3_bucklingOf 245 = .ok (.aload_n 0, 1) := dk_42 (dk_at dksX3_bucklingOf_10 10 rfl rfl)
theorem dX3_bucklingOf_246 : decode cX3_bucklingOf 246 = .ok (.getfield 42, 3) := dk_180 0 42 (dk_at dksX3_bucklingOf_10 11 rfl rfl)
theorem dX3_bucklingOf_249 : decode cX3_bucklingOf 249 = .ok (.iconst 0, 1) := dk_3 (dk_at dksX3_bucklingOf_10 14 rfl rfl)
theorem dX3_bucklingOf_250 : decode cX3_bucklingOf 250 = .ok (.laload, 1) := dk_47 (dk_at dksX3_bucklingOf_10 15 rfl rfl)
theorem dX3_bucklingOf_251 : decode cX3_bucklingOf 251 = .ok (.lconst 0, 1) := dk_9 (dk_at dksX3_bucklingOf_10 16 rfl rfl)
theorem dX3_bucklingOf_252 : decode cX3_bucklingOf 252 = .ok (.ldc2_w 108, 3) := dk_20 0 108 (dk_at dksX3_bucklingOf_10 17 rfl rfl)
theorem dX3_bucklingOf_255 : decode cX3_bucklingOf 255 = .ok (.invokestatic 251, 3) := dk_184 0 251 (dk_at dksX3_bucklingOf_10 20 rfl rfl)
theorem dX3_bucklingOf_258 : decode cX3_bucklingOf 258 = .ok (.lreturn, 1) := dk_173 (dk_at dksX3_bucklingOf_10 23 rfl rfl)
abbrev cX3_capacity : ByteArray := prog_20_method_73_code
def yX3_capacity : MethodName := ⟨RX3, "capacity", "(IZ)I"⟩
def dkwX3_capacity_1 : List UInt8 := [3, 172]
abbrev dktX3_capacity_1 : List UInt8 := dkwX3_capacity_1 ++ []
def dkwX3_capacity_0 : List UInt8 := [42, 3, 181, 0, 48, 42, 27, 8, 182, 1, 53, 153, 0, 13, 42, 27, 28, 182, 1, 30, 136, 167, 0, 4]
abbrev dktX3_capacity_0 : List UInt8 := dkwX3_capacity_0 ++ dktX3_capacity_1
theorem dksX3_capacity_0 : cX3_capacity.data.toList.drop 0 = dktX3_capacity_0 := by decide +kernel
theorem dksX3_capacity_1 : cX3_capacity.data.toList.drop 24 = dktX3_capacity_1 := dk_seg dksX3_capacity_0 24 rfl rfl
theorem dX3_capacity_0 : decode cX3_capacity 0 = .ok (.aload_n 0, 1) := dk_42 (dk_at dksX3_capacity_0 0 rfl rfl)
theorem dX3_capacity_1 : decode cX3_capacity 1 = .ok (.iconst 0, 1) := dk_3 (dk_at dksX3_capacity_0 1 rfl rfl)
theorem dX3_capacity_2 : decode cX3_capacity 2 = .ok (.putfield 48, 3) := dk_181 0 48 (dk_at dksX3_capacity_0 2 rfl rfl)
theorem dX3_capacity_5 : decode cX3_capacity 5 = .ok (.aload_n 0, 1) := dk_42 (dk_at dksX3_capacity_0 5 rfl rfl)
theorem dX3_capacity_6 : decode cX3_capacity 6 = .ok (.iload_n 1, 1) := dk_27 (dk_at dksX3_capacity_0 6 rfl rfl)
theorem dX3_capacity_7 : decode cX3_capacity 7 = .ok (.iconst 5, 1) := dk_8 (dk_at dksX3_capacity_0 7 rfl rfl)
theorem dX3_capacity_8 : decode cX3_capacity 8 = .ok (.invokevirtual 309, 3) := dk_182 1 53 (dk_at dksX3_capacity_0 8 rfl rfl)
theorem dX3_capacity_11 : decode cX3_capacity 11 = .ok (.ifCond .eq 13, 3) := dk_153 0 13 (dk_at dksX3_capacity_0 11 rfl rfl)
theorem dX3_capacity_14 : decode cX3_capacity 14 = .ok (.aload_n 0, 1) := dk_42 (dk_at dksX3_capacity_0 14 rfl rfl)
theorem dX3_capacity_15 : decode cX3_capacity 15 = .ok (.iload_n 1, 1) := dk_27 (dk_at dksX3_capacity_0 15 rfl rfl)
theorem dX3_capacity_16 : decode cX3_capacity 16 = .ok (.iload_n 2, 1) := dk_28 (dk_at dksX3_capacity_0 16 rfl rfl)
theorem dX3_capacity_17 : decode cX3_capacity 17 = .ok (.invokevirtual 286, 3) := dk_182 1 30 (dk_at dksX3_capacity_0 17 rfl rfl)
theorem dX3_capacity_20 : decode cX3_capacity 20 = .ok (.l2i, 1) := dk_136 (dk_at dksX3_capacity_0 20 rfl rfl)
theorem dX3_capacity_21 : decode cX3_capacity 21 = .ok (.goto 4, 3) := dk_167 0 4 (dk_at dksX3_capacity_0 21 rfl rfl)
theorem dX3_capacity_24 : decode cX3_capacity 24 = .ok (.iconst 0, 1) := dk_3 (dk_at dksX3_capacity_1 0 rfl rfl)
theorem dX3_capacity_25 : decode cX3_capacity 25 = .ok (.ireturn, 1) := dk_172 (dk_at dksX3_capacity_1 1 rfl rfl)
abbrev cX3_bears : ByteArray := prog_20_method_48_code
def yX3_bears : MethodName := ⟨RX3, "bears", "(IZ)J"⟩
def dkwX3_bears_1 : List UInt8 := [184, 0, 114, 167, 0, 4, 33, 173]
abbrev dktX3_bears_1 : List UInt8 := dkwX3_bears_1 ++ []
def dkwX3_bears_0 : List UInt8 := [42, 4, 182, 0, 54, 42, 27, 182, 0, 241, 105, 66, 28, 153, 0, 15, 33, 42, 27, 182, 1, 24]
abbrev dktX3_bears_0 : List UInt8 := dkwX3_bears_0 ++ dktX3_bears_1
theorem dksX3_bears_0 : cX3_bears.data.toList.drop 0 = dktX3_bears_0 := by decide +kernel
theorem dksX3_bears_1 : cX3_bears.data.toList.drop 22 = dktX3_bears_1 := dk_seg dksX3_bears_0 22 rfl rfl
theorem dX3_bears_0 : decode cX3_bears 0 = .ok (.aload_n 0, 1) := dk_42 (dk_at dksX3_bears_0 0 rfl rfl)
theorem dX3_bears_1 : decode cX3_bears 1 = .ok (.iconst 1, 1) := dk_4 (dk_at dksX3_bears_0 1 rfl rfl)
theorem dX3_bears_2 : decode cX3_bears 2 = .ok (.invokevirtual 54, 3) := dk_182 0 54 (dk_at dksX3_bears_0 2 rfl rfl)
theorem dX3_bears_5 : decode cX3_bears 5 = .ok (.aload_n 0, 1) := dk_42 (dk_at dksX3_bears_0 5 rfl rfl)
theorem dX3_bears_6 : decode cX3_bears 6 = .ok (.iload_n 1, 1) := dk_27 (dk_at dksX3_bears_0 6 rfl rfl)
theorem dX3_bears_7 : decode cX3_bears 7 = .ok (.invokevirtual 241, 3) := dk_182 0 241 (dk_at dksX3_bears_0 7 rfl rfl)
theorem dX3_bears_10 : decode cX3_bears 10 = .ok (.lmul, 1) := dk_105 (dk_at dksX3_bears_0 10 rfl rfl)
theorem dX3_bears_11 : decode cX3_bears 11 = .ok (.lstore_n 3, 1) := dk_66 (dk_at dksX3_bears_0 11 rfl rfl)
theorem dX3_bears_12 : decode cX3_bears 12 = .ok (.iload_n 2, 1) := dk_28 (dk_at dksX3_bears_0 12 rfl rfl)
theorem dX3_bears_13 : decode cX3_bears 13 = .ok (.ifCond .eq 15, 3) := dk_153 0 15 (dk_at dksX3_bears_0 13 rfl rfl)
theorem dX3_bears_16 : decode cX3_bears 16 = .ok (.lload_n 3, 1) := dk_33 (dk_at dksX3_bears_0 16 rfl rfl)
theorem dX3_bears_17 : decode cX3_bears 17 = .ok (.aload_n 0, 1) := dk_42 (dk_at dksX3_bears_0 17 rfl rfl)
theorem dX3_bears_18 : decode cX3_bears 18 = .ok (.iload_n 1, 1) := dk_27 (dk_at dksX3_bears_0 18 rfl rfl)
theorem dX3_bears_19 : decode cX3_bears 19 = .ok (.invokevirtual 280, 3) := dk_182 1 24 (dk_at dksX3_bears_0 19 rfl rfl)
theorem dX3_bears_22 : decode cX3_bears 22 = .ok (.invokestatic 114, 3) := dk_184 0 114 (dk_at dksX3_bears_1 0 rfl rfl)
theorem dX3_bears_25 : decode cX3_bears 25 = .ok (.goto 4, 3) := dk_167 0 4 (dk_at dksX3_bears_1 3 rfl rfl)
theorem dX3_bears_28 : decode cX3_bears 28 = .ok (.lload_n 3, 1) := dk_33 (dk_at dksX3_bears_1 6 rfl rfl)
theorem dX3_bears_29 : decode cX3_bears 29 = .ok (.lreturn, 1) := dk_173 (dk_at dksX3_bears_1 7 rfl rfl)
abbrev cX3_use : ByteArray := prog_20_method_74_code
def yX3_use : MethodName := ⟨RX3, "use", "(II)I"⟩
def dkwX3_use_1 : List UInt8 := [42, 182, 1, 63, 42, 28, 27, 182, 1, 66, 136, 172]
abbrev dktX3_use_1 : List UInt8 := dkwX3_use_1 ++ []
def dkwX3_use_0 : List UInt8 := [42, 3, 181, 0, 48, 42, 27, 8, 182, 1, 53, 153, 0, 11, 42, 28, 182, 1, 59, 154, 0, 5, 3, 172]
abbrev dktX3_use_0 : List UInt8 := dkwX3_use_0 ++ dktX3_use_1
theorem dksX3_use_0 : cX3_use.data.toList.drop 0 = dktX3_use_0 := by decide +kernel
theorem dksX3_use_1 : cX3_use.data.toList.drop 24 = dktX3_use_1 := dk_seg dksX3_use_0 24 rfl rfl
theorem dX3_use_0 : decode cX3_use 0 = .ok (.aload_n 0, 1) := dk_42 (dk_at dksX3_use_0 0 rfl rfl)
theorem dX3_use_1 : decode cX3_use 1 = .ok (.iconst 0, 1) := dk_3 (dk_at dksX3_use_0 1 rfl rfl)
theorem dX3_use_2 : decode cX3_use 2 = .ok (.putfield 48, 3) := dk_181 0 48 (dk_at dksX3_use_0 2 rfl rfl)
theorem dX3_use_5 : decode cX3_use 5 = .ok (.aload_n 0, 1) := dk_42 (dk_at dksX3_use_0 5 rfl rfl)
theorem dX3_use_6 : decode cX3_use 6 = .ok (.iload_n 1, 1) := dk_27 (dk_at dksX3_use_0 6 rfl rfl)
theorem dX3_use_7 : decode cX3_use 7 = .ok (.iconst 5, 1) := dk_8 (dk_at dksX3_use_0 7 rfl rfl)
theorem dX3_use_8 : decode cX3_use 8 = .ok (.invokevirtual 309, 3) := dk_182 1 53 (dk_at dksX3_use_0 8 rfl rfl)
theorem dX3_use_11 : decode cX3_use 11 = .ok (.ifCond .eq 11, 3) := dk_153 0 11 (dk_at dksX3_use_0 11 rfl rfl)
theorem dX3_use_14 : decode cX3_use 14 = .ok (.aload_n 0, 1) := dk_42 (dk_at dksX3_use_0 14 rfl rfl)
theorem dX3_use_15 : decode cX3_use 15 = .ok (.iload_n 2, 1) := dk_28 (dk_at dksX3_use_0 15 rfl rfl)
theorem dX3_use_16 : decode cX3_use 16 = .ok (.invokevirtual 315, 3) := dk_182 1 59 (dk_at dksX3_use_0 16 rfl rfl)
theorem dX3_use_19 : decode cX3_use 19 = .ok (.ifCond .ne 5, 3) := dk_154 0 5 (dk_at dksX3_use_0 19 rfl rfl)
theorem dX3_use_22 : decode cX3_use 22 = .ok (.iconst 0, 1) := dk_3 (dk_at dksX3_use_0 22 rfl rfl)
theorem dX3_use_23 : decode cX3_use 23 = .ok (.ireturn, 1) := dk_172 (dk_at dksX3_use_0 23 rfl rfl)
theorem dX3_use_24 : decode cX3_use 24 = .ok (.aload_n 0, 1) := dk_42 (dk_at dksX3_use_1 0 rfl rfl)
theorem dX3_use_25 : decode cX3_use 25 = .ok (.invokevirtual 319, 3) := dk_182 1 63 (dk_at dksX3_use_1 1 rfl rfl)
theorem dX3_use_28 : decode cX3_use 28 = .ok (.aload_n 0, 1) := dk_42 (dk_at dksX3_use_1 4 rfl rfl)
theorem dX3_use_29 : decode cX3_use 29 = .ok (.iload_n 2, 1) := dk_28 (dk_at dksX3_use_1 5 rfl rfl)
theorem dX3_use_30 : decode cX3_use 30 = .ok (.iload_n 1, 1) := dk_27 (dk_at dksX3_use_1 6 rfl rfl)
theorem dX3_use_31 : decode cX3_use 31 = .ok (.invokevirtual 322, 3) := dk_182 1 66 (dk_at dksX3_use_1 7 rfl rfl)
theorem dX3_use_34 : decode cX3_use 34 = .ok (.l2i, 1) := dk_136 (dk_at dksX3_use_1 10 rfl rfl)
theorem dX3_use_35 : decode cX3_use 35 = .ok (.ireturn, 1) := dk_172 (dk_at dksX3_use_1 11 rfl rfl)
abbrev cX3_useOf : ByteArray := prog_20_method_52_code
def yX3_useOf : MethodName := ⟨RX3, "useOf", "(II)J"⟩
def dkwX3_useOf_2 : List UInt8 := [167, 0, 20, 20, 0, 124, 20, 0, 247, 33, 184, 1, 27, 105, 22, 5, 109, 184, 0, 114, 173]
abbrev dktX3_useOf_2 : List UInt8 := dkwX3_useOf_2 ++ []
def dkwX3_useOf_1 : List UInt8 := [148, 156, 0, 7, 4, 167, 0, 4, 3, 182, 1, 30, 55, 5, 22, 5, 9, 148, 154, 0, 9, 20, 0, 124]
abbrev dktX3_useOf_1 : List UInt8 := dkwX3_useOf_1 ++ dktX3_useOf_2
def dkwX3_useOf_0 : List UInt8 := [42, 180, 0, 33, 16, 16, 27, 104, 28, 96, 47, 66, 33, 9, 148, 154, 0, 5, 9, 173, 42, 28, 33, 9]
abbrev dktX3_useOf_0 : List UInt8 := dkwX3_useOf_0 ++ dktX3_useOf_1
theorem dksX3_useOf_0 : cX3_useOf.data.toList.drop 0 = dktX3_useOf_0 := by decide +kernel
theorem dksX3_useOf_1 : cX3_useOf.data.toList.drop 24 = dktX3_useOf_1 := dk_seg dksX3_useOf_0 24 rfl rfl
theorem dksX3_useOf_2 : cX3_useOf.data.toList.drop 48 = dktX3_useOf_2 := dk_seg dksX3_useOf_1 24 rfl rfl
theorem dX3_useOf_0 : decode cX3_useOf 0 = .ok (.aload_n 0, 1) := dk_42 (dk_at dksX3_useOf_0 0 rfl rfl)
theorem dX3_useOf_1 : decode cX3_useOf 1 = .ok (.getfield 33, 3) := dk_180 0 33 (dk_at dksX3_useOf_0 1 rfl rfl)
theorem dX3_useOf_4 : decode cX3_useOf 4 = .ok (.bipush 16, 2) := dk_16 16 (dk_at dksX3_useOf_0 4 rfl rfl)
theorem dX3_useOf_6 : decode cX3_useOf 6 = .ok (.iload_n 1, 1) := dk_27 (dk_at dksX3_useOf_0 6 rfl rfl)
theorem dX3_useOf_7 : decode cX3_useOf 7 = .ok (.imul, 1) := dk_104 (dk_at dksX3_useOf_0 7 rfl rfl)
theorem dX3_useOf_8 : decode cX3_useOf 8 = .ok (.iload_n 2, 1) := dk_28 (dk_at dksX3_useOf_0 8 rfl rfl)
theorem dX3_useOf_9 : decode cX3_useOf 9 = .ok (.iadd, 1) := dk_96 (dk_at dksX3_useOf_0 9 rfl rfl)
theorem dX3_useOf_10 : decode cX3_useOf 10 = .ok (.laload, 1) := dk_47 (dk_at dksX3_useOf_0 10 rfl rfl)
theorem dX3_useOf_11 : decode cX3_useOf 11 = .ok (.lstore_n 3, 1) := dk_66 (dk_at dksX3_useOf_0 11 rfl rfl)
theorem dX3_useOf_12 : decode cX3_useOf 12 = .ok (.lload_n 3, 1) := dk_33 (dk_at dksX3_useOf_0 12 rfl rfl)
theorem dX3_useOf_13 : decode cX3_useOf 13 = .ok (.lconst 0, 1) := dk_9 (dk_at dksX3_useOf_0 13 rfl rfl)
theorem dX3_useOf_14 : decode cX3_useOf 14 = .ok (.lcmp, 1) := dk_148 (dk_at dksX3_useOf_0 14 rfl rfl)
theorem dX3_useOf_15 : decode cX3_useOf 15 = .ok (.ifCond .ne 5, 3) := dk_154 0 5 (dk_at dksX3_useOf_0 15 rfl rfl)
theorem dX3_useOf_18 : decode cX3_useOf 18 = .ok (.lconst 0, 1) := dk_9 (dk_at dksX3_useOf_0 18 rfl rfl)
theorem dX3_useOf_19 : decode cX3_useOf 19 = .ok (.lreturn, 1) := dk_173 (dk_at dksX3_useOf_0 19 rfl rfl)
theorem dX3_useOf_20 : decode cX3_useOf 20 = .ok (.aload_n 0, 1) := dk_42 (dk_at dksX3_useOf_0 20 rfl rfl)
theorem dX3_useOf_21 : decode cX3_useOf 21 = .ok (.iload_n 2, 1) := dk_28 (dk_at dksX3_useOf_0 21 rfl rfl)
theorem dX3_useOf_22 : decode cX3_useOf 22 = .ok (.lload_n 3, 1) := dk_33 (dk_at dksX3_useOf_0 22 rfl rfl)
theorem dX3_useOf_23 : decode cX3_useOf 23 = .ok (.lconst 0, 1) := dk_9 (dk_at dksX3_useOf_0 23 rfl rfl)
theorem dX3_useOf_24 : decode cX3_useOf 24 = .ok (.lcmp, 1) := dk_148 (dk_at dksX3_useOf_1 0 rfl rfl)
theorem dX3_useOf_25 : decode cX3_useOf 25 = .ok (.ifCond .ge 7, 3) := dk_156 0 7 (dk_at dksX3_useOf_1 1 rfl rfl)
theorem dX3_useOf_28 : decode cX3_useOf 28 = .ok (.iconst 1, 1) := dk_4 (dk_at dksX3_useOf_1 4 rfl rfl)
theorem dX3_useOf_29 : decode cX3_useOf 29 = .ok (.goto 4, 3) := dk_167 0 4 (dk_at dksX3_useOf_1 5 rfl rfl)
theorem dX3_useOf_32 : decode cX3_useOf 32 = .ok (.iconst 0, 1) := dk_3 (dk_at dksX3_useOf_1 8 rfl rfl)
theorem dX3_useOf_33 : decode cX3_useOf 33 = .ok (.invokevirtual 286, 3) := dk_182 1 30 (dk_at dksX3_useOf_1 9 rfl rfl)
theorem dX3_useOf_36 : decode cX3_useOf 36 = .ok (.lstore 5, 2) := dk_55 5 (dk_at dksX3_useOf_1 12 rfl rfl)
theorem dX3_useOf_38 : decode cX3_useOf 38 = .ok (.lload 5, 2) := dk_22 5 (dk_at dksX3_useOf_1 14 rfl rfl)
theorem dX3_useOf_40 : decode cX3_useOf 40 = .ok (.lconst 0, 1) := dk_9 (dk_at dksX3_useOf_1 16 rfl rfl)
theorem dX3_useOf_41 : decode cX3_useOf 41 = .ok (.lcmp, 1) := dk_148 (dk_at dksX3_useOf_1 17 rfl rfl)
theorem dX3_useOf_42 : decode cX3_useOf 42 = .ok (.ifCond .ne 9, 3) := dk_154 0 9 (dk_at dksX3_useOf_1 18 rfl rfl)
theorem dX3_useOf_45 : decode cX3_useOf 45 = .ok (.ldc2_w 124, 3) := dk_20 0 124 (dk_at dksX3_useOf_1 21 rfl rfl)
theorem dX3_useOf_48 : decode cX3_useOf 48 = .ok (.goto 20, 3) := dk_167 0 20 (dk_at dksX3_useOf_2 0 rfl rfl)
theorem dX3_useOf_51 : decode cX3_useOf 51 = .ok (.ldc2_w 124, 3) := dk_20 0 124 (dk_at dksX3_useOf_2 3 rfl rfl)
theorem dX3_useOf_54 : decode cX3_useOf 54 = .ok (.ldc2_w 247, 3) := dk_20 0 247 (dk_at dksX3_useOf_2 6 rfl rfl)
theorem dX3_useOf_57 : decode cX3_useOf 57 = .ok (.lload_n 3, 1) := dk_33 (dk_at dksX3_useOf_2 9 rfl rfl)
theorem dX3_useOf_58 : decode cX3_useOf 58 = .ok (.invokestatic 283, 3) := dk_184 1 27 (dk_at dksX3_useOf_2 10 rfl rfl)
theorem dX3_useOf_61 : decode cX3_useOf 61 = .ok (.lmul, 1) := dk_105 (dk_at dksX3_useOf_2 13 rfl rfl)
theorem dX3_useOf_62 : decode cX3_useOf 62 = .ok (.lload 5, 2) := dk_22 5 (dk_at dksX3_useOf_2 14 rfl rfl)
theorem dX3_useOf_64 : decode cX3_useOf 64 = .ok (.ldiv, 1) := dk_109 (dk_at dksX3_useOf_2 16 rfl rfl)
theorem dX3_useOf_65 : decode cX3_useOf 65 = .ok (.invokestatic 114, 3) := dk_184 0 114 (dk_at dksX3_useOf_2 17 rfl rfl)
theorem dX3_useOf_68 : decode cX3_useOf 68 = .ok (.lreturn, 1) := dk_173 (dk_at dksX3_useOf_2 20 rfl rfl)
abbrev cX3_size : ByteArray := prog_20_method_49_code
def yX3_size : MethodName := ⟨RX3, "size", "(J)J"⟩
def dkwX3_size_0 : List UInt8 := [30, 9, 148, 156, 0, 8, 30, 117, 167, 0, 4, 30, 173]
abbrev dktX3_size_0 : List UInt8 := dkwX3_size_0 ++ []
theorem dksX3_size_0 : cX3_size.data.toList.drop 0 = dktX3_size_0 := by decide +kernel
theorem dX3_size_0 : decode cX3_size 0 = .ok (.lload_n 0, 1) := dk_30 (dk_at dksX3_size_0 0 rfl rfl)
theorem dX3_size_1 : decode cX3_size 1 = .ok (.lconst 0, 1) := dk_9 (dk_at dksX3_size_0 1 rfl rfl)
theorem dX3_size_2 : decode cX3_size 2 = .ok (.lcmp, 1) := dk_148 (dk_at dksX3_size_0 2 rfl rfl)
theorem dX3_size_3 : decode cX3_size 3 = .ok (.ifCond .ge 8, 3) := dk_156 0 8 (dk_at dksX3_size_0 3 rfl rfl)
theorem dX3_size_6 : decode cX3_size 6 = .ok (.lload_n 0, 1) := dk_30 (dk_at dksX3_size_0 6 rfl rfl)
theorem dX3_size_7 : decode cX3_size 7 = .ok (.lneg, 1) := dk_117 (dk_at dksX3_size_0 7 rfl rfl)
theorem dX3_size_8 : decode cX3_size 8 = .ok (.goto 4, 3) := dk_167 0 4 (dk_at dksX3_size_0 8 rfl rfl)
theorem dX3_size_11 : decode cX3_size 11 = .ok (.lload_n 0, 1) := dk_30 (dk_at dksX3_size_0 11 rfl rfl)
theorem dX3_size_12 : decode cX3_size 12 = .ok (.lreturn, 1) := dk_173 (dk_at dksX3_size_0 12 rfl rfl)
abbrev cX3_greatestUse : ByteArray := prog_20_method_75_code
def yX3_greatestUse : MethodName := ⟨RX3, "greatestUse", "()I"⟩
def dkwX3_greatestUse_2 : List UInt8 := [132, 4, 1, 167, 255, 229, 132, 3, 1, 167, 255, 212, 31, 136, 172]
abbrev dktX3_greatestUse_2 : List UInt8 := dkwX3_greatestUse_2 ++ []
def dkwX3_greatestUse_1 : List UInt8 := [21, 4, 133, 42, 8, 182, 0, 54, 148, 156, 0, 21, 31, 42, 29, 21, 4, 182, 1, 66, 184, 0, 238, 64]
abbrev dktX3_greatestUse_1 : List UInt8 := dkwX3_greatestUse_1 ++ dktX3_greatestUse_2
def dkwX3_greatestUse_0 : List UInt8 := [42, 3, 181, 0, 48, 42, 182, 1, 63, 9, 64, 3, 62, 29, 42, 182, 1, 12, 162, 0, 42, 3, 54, 4]
abbrev dktX3_greatestUse_0 : List UInt8 := dkwX3_greatestUse_0 ++ dktX3_greatestUse_1
theorem dksX3_greatestUse_0 : cX3_greatestUse.data.toList.drop 0 = dktX3_greatestUse_0 := by decide +kernel
theorem dksX3_greatestUse_1 : cX3_greatestUse.data.toList.drop 24 = dktX3_greatestUse_1 := dk_seg dksX3_greatestUse_0 24 rfl rfl
theorem dksX3_greatestUse_2 : cX3_greatestUse.data.toList.drop 48 = dktX3_greatestUse_2 := dk_seg dksX3_greatestUse_1 24 rfl rfl
theorem dX3_greatestUse_0 : decode cX3_greatestUse 0 = .ok (.aload_n 0, 1) := dk_42 (dk_at dksX3_greatestUse_0 0 rfl rfl)
theorem dX3_greatestUse_1 : decode cX3_greatestUse 1 = .ok (.iconst 0, 1) := dk_3 (dk_at dksX3_greatestUse_0 1 rfl rfl)
theorem dX3_greatestUse_2 : decode cX3_greatestUse 2 = .ok (.putfield 48, 3) := dk_181 0 48 (dk_at dksX3_greatestUse_0 2 rfl rfl)
theorem dX3_greatestUse_5 : decode cX3_greatestUse 5 = .ok (.aload_n 0, 1) := dk_42 (dk_at dksX3_greatestUse_0 5 rfl rfl)
theorem dX3_greatestUse_6 : decode cX3_greatestUse 6 = .ok (.invokevirtual 319, 3) := dk_182 1 63 (dk_at dksX3_greatestUse_0 6 rfl rfl)
theorem dX3_greatestUse_9 : decode cX3_greatestUse 9 = .ok (.lconst 0, 1) := dk_9 (dk_at dksX3_greatestUse_0 9 rfl rfl)
theorem dX3_greatestUse_10 : decode cX3_greatestUse 10 = .ok (.lstore_n 1, 1) := dk_64 (dk_at dksX3_greatestUse_0 10 rfl rfl)
theorem dX3_greatestUse_11 : decode cX3_greatestUse 11 = .ok (.iconst 0, 1) := dk_3 (dk_at dksX3_greatestUse_0 11 rfl rfl)
theorem dX3_greatestUse_12 : decode cX3_greatestUse 12 = .ok (.istore_n 3, 1) := dk_62 (dk_at dksX3_greatestUse_0 12 rfl rfl)
theorem dX3_greatestUse_13 : decode cX3_greatestUse 13 = .ok (.iload_n 3, 1) := dk_29 (dk_at dksX3_greatestUse_0 13 rfl rfl)
theorem dX3_greatestUse_14 : decode cX3_greatestUse 14 = .ok (.aload_n 0, 1) := dk_42 (dk_at dksX3_greatestUse_0 14 rfl rfl)
theorem dX3_greatestUse_15 : decode cX3_greatestUse 15 = .ok (.invokevirtual 268, 3) := dk_182 1 12 (dk_at dksX3_greatestUse_0 15 rfl rfl)
theorem dX3_greatestUse_18 : decode cX3_greatestUse 18 = .ok (.if_icmp .ge 42, 3) := dk_162 0 42 (dk_at dksX3_greatestUse_0 18 rfl rfl)
theorem dX3_greatestUse_21 : decode cX3_greatestUse 21 = .ok (.iconst 0, 1) := dk_3 (dk_at dksX3_greatestUse_0 21 rfl rfl)
theorem dX3_greatestUse_22 : decode cX3_greatestUse 22 = .ok (.istore 4, 2) := dk_54 4 (dk_at dksX3_greatestUse_0 22 rfl rfl)
theorem dX3_greatestUse_24 : decode cX3_greatestUse 24 = .ok (.iload 4, 2) := dk_21 4 (dk_at dksX3_greatestUse_1 0 rfl rfl)
theorem dX3_greatestUse_26 : decode cX3_greatestUse 26 = .ok (.i2l, 1) := dk_133 (dk_at dksX3_greatestUse_1 2 rfl rfl)
theorem dX3_greatestUse_27 : decode cX3_greatestUse 27 = .ok (.aload_n 0, 1) := dk_42 (dk_at dksX3_greatestUse_1 3 rfl rfl)
theorem dX3_greatestUse_28 : decode cX3_greatestUse 28 = .ok (.iconst 5, 1) := dk_8 (dk_at dksX3_greatestUse_1 4 rfl rfl)
theorem dX3_greatestUse_29 : decode cX3_greatestUse 29 = .ok (.invokevirtual 54, 3) := dk_182 0 54 (dk_at dksX3_greatestUse_1 5 rfl rfl)
theorem dX3_greatestUse_32 : decode cX3_greatestUse 32 = .ok (.lcmp, 1) := dk_148 (dk_at dksX3_greatestUse_1 8 rfl rfl)
theorem dX3_greatestUse_33 : decode cX3_greatestUse 33 = .ok (.ifCond .ge 21, 3) := dk_156 0 21 (dk_at dksX3_greatestUse_1 9 rfl rfl)
theorem dX3_greatestUse_36 : decode cX3_greatestUse 36 = .ok (.lload_n 1, 1) := dk_31 (dk_at dksX3_greatestUse_1 12 rfl rfl)
theorem dX3_greatestUse_37 : decode cX3_greatestUse 37 = .ok (.aload_n 0, 1) := dk_42 (dk_at dksX3_greatestUse_1 13 rfl rfl)
theorem dX3_greatestUse_38 : decode cX3_greatestUse 38 = .ok (.iload_n 3, 1) := dk_29 (dk_at dksX3_greatestUse_1 14 rfl rfl)
theorem dX3_greatestUse_39 : decode cX3_greatestUse 39 = .ok (.iload 4, 2) := dk_21 4 (dk_at dksX3_greatestUse_1 15 rfl rfl)
theorem dX3_greatestUse_41 : decode cX3_greatestUse 41 = .ok (.invokevirtual 322, 3) := dk_182 1 66 (dk_at dksX3_greatestUse_1 17 rfl rfl)
theorem dX3_greatestUse_44 : decode cX3_greatestUse 44 = .ok (.invokestatic 238, 3) := dk_184 0 238 (dk_at dksX3_greatestUse_1 20 rfl rfl)
theorem dX3_greatestUse_47 : decode cX3_greatestUse 47 = .ok (.lstore_n 1, 1) := dk_64 (dk_at dksX3_greatestUse_1 23 rfl rfl)
theorem dX3_greatestUse_48 : decode cX3_greatestUse 48 = .ok (.iinc 4 1, 3) := dk_132 4 1 (dk_at dksX3_greatestUse_2 0 rfl rfl)
theorem dX3_greatestUse_51 : decode cX3_greatestUse 51 = .ok (.goto (-27), 3) := dk_167 255 229 (dk_at dksX3_greatestUse_2 3 rfl rfl)
theorem dX3_greatestUse_54 : decode cX3_greatestUse 54 = .ok (.iinc 3 1, 3) := dk_132 3 1 (dk_at dksX3_greatestUse_2 6 rfl rfl)
theorem dX3_greatestUse_57 : decode cX3_greatestUse 57 = .ok (.goto (-44), 3) := dk_167 255 212 (dk_at dksX3_greatestUse_2 9 rfl rfl)
theorem dX3_greatestUse_60 : decode cX3_greatestUse 60 = .ok (.lload_n 1, 1) := dk_31 (dk_at dksX3_greatestUse_2 12 rfl rfl)
theorem dX3_greatestUse_61 : decode cX3_greatestUse 61 = .ok (.l2i, 1) := dk_136 (dk_at dksX3_greatestUse_2 13 rfl rfl)
theorem dX3_greatestUse_62 : decode cX3_greatestUse 62 = .ok (.ireturn, 1) := dk_172 (dk_at dksX3_greatestUse_2 14 rfl rfl)
abbrev cX3_failureCount : ByteArray := prog_20_method_77_code
def yX3_failureCount : MethodName := ⟨RX3, "failureCount", "()I"⟩
def dkwX3_failureCount_0 : List UInt8 := [42, 3, 181, 0, 48, 42, 182, 1, 63, 2, 42, 2, 182, 1, 69, 100, 172]
abbrev dktX3_failureCount_0 : List UInt8 := dkwX3_failureCount_0 ++ []
theorem dksX3_failureCount_0 : cX3_failureCount.data.toList.drop 0 = dktX3_failureCount_0 := by decide +kernel
theorem dX3_failureCount_0 : decode cX3_failureCount 0 = .ok (.aload_n 0, 1) := dk_42 (dk_at dksX3_failureCount_0 0 rfl rfl)
theorem dX3_failureCount_1 : decode cX3_failureCount 1 = .ok (.iconst 0, 1) := dk_3 (dk_at dksX3_failureCount_0 1 rfl rfl)
theorem dX3_failureCount_2 : decode cX3_failureCount 2 = .ok (.putfield 48, 3) := dk_181 0 48 (dk_at dksX3_failureCount_0 2 rfl rfl)
theorem dX3_failureCount_5 : decode cX3_failureCount 5 = .ok (.aload_n 0, 1) := dk_42 (dk_at dksX3_failureCount_0 5 rfl rfl)
theorem dX3_failureCount_6 : decode cX3_failureCount 6 = .ok (.invokevirtual 319, 3) := dk_182 1 63 (dk_at dksX3_failureCount_0 6 rfl rfl)
theorem dX3_failureCount_9 : decode cX3_failureCount 9 = .ok (.iconst (-1), 1) := dk_2 (dk_at dksX3_failureCount_0 9 rfl rfl)
theorem dX3_failureCount_10 : decode cX3_failureCount 10 = .ok (.aload_n 0, 1) := dk_42 (dk_at dksX3_failureCount_0 10 rfl rfl)
theorem dX3_failureCount_11 : decode cX3_failureCount 11 = .ok (.iconst (-1), 1) := dk_2 (dk_at dksX3_failureCount_0 11 rfl rfl)
theorem dX3_failureCount_12 : decode cX3_failureCount 12 = .ok (.invokevirtual 325, 3) := dk_182 1 69 (dk_at dksX3_failureCount_0 12 rfl rfl)
theorem dX3_failureCount_15 : decode cX3_failureCount 15 = .ok (.isub, 1) := dk_100 (dk_at dksX3_failureCount_0 15 rfl rfl)
theorem dX3_failureCount_16 : decode cX3_failureCount 16 = .ok (.ireturn, 1) := dk_172 (dk_at dksX3_failureCount_0 16 rfl rfl)
abbrev cX3_failed : ByteArray := prog_20_method_76_code
def yX3_failed : MethodName := ⟨RX3, "failed", "(I)I"⟩
def dkwX3_failed_2 : List UInt8 := [104, 21, 4, 96, 172, 132, 2, 1, 132, 4, 1, 167, 255, 212, 132, 3, 1, 167, 255, 195, 2, 28, 100, 172]
abbrev dktX3_failed_2 : List UInt8 := dkwX3_failed_2 ++ []
def dkwX3_failed_1 : List UInt8 := [156, 0, 38, 42, 29, 21, 4, 182, 1, 34, 154, 0, 6, 167, 0, 19, 28, 27, 160, 0, 11, 16, 16, 29]
abbrev dktX3_failed_1 : List UInt8 := dkwX3_failed_1 ++ dktX3_failed_2
def dkwX3_failed_0 : List UInt8 := [3, 61, 3, 62, 29, 42, 182, 1, 12, 162, 0, 59, 3, 54, 4, 21, 4, 133, 42, 8, 182, 0, 54, 148]
abbrev dktX3_failed_0 : List UInt8 := dkwX3_failed_0 ++ dktX3_failed_1
theorem dksX3_failed_0 : cX3_failed.data.toList.drop 0 = dktX3_failed_0 := by decide +kernel
theorem dksX3_failed_1 : cX3_failed.data.toList.drop 24 = dktX3_failed_1 := dk_seg dksX3_failed_0 24 rfl rfl
theorem dksX3_failed_2 : cX3_failed.data.toList.drop 48 = dktX3_failed_2 := dk_seg dksX3_failed_1 24 rfl rfl
theorem dX3_failed_0 : decode cX3_failed 0 = .ok (.iconst 0, 1) := dk_3 (dk_at dksX3_failed_0 0 rfl rfl)
theorem dX3_failed_1 : decode cX3_failed 1 = .ok (.istore_n 2, 1) := dk_61 (dk_at dksX3_failed_0 1 rfl rfl)
theorem dX3_failed_2 : decode cX3_failed 2 = .ok (.iconst 0, 1) := dk_3 (dk_at dksX3_failed_0 2 rfl rfl)
theorem dX3_failed_3 : decode cX3_failed 3 = .ok (.istore_n 3, 1) := dk_62 (dk_at dksX3_failed_0 3 rfl rfl)
theorem dX3_failed_4 : decode cX3_failed 4 = .ok (.iload_n 3, 1) := dk_29 (dk_at dksX3_failed_0 4 rfl rfl)
theorem dX3_failed_5 : decode cX3_failed 5 = .ok (.aload_n 0, 1) := dk_42 (dk_at dksX3_failed_0 5 rfl rfl)
theorem dX3_failed_6 : decode cX3_failed 6 = .ok (.invokevirtual 268, 3) := dk_182 1 12 (dk_at dksX3_failed_0 6 rfl rfl)
theorem dX3_failed_9 : decode cX3_failed 9 = .ok (.if_icmp .ge 59, 3) := dk_162 0 59 (dk_at dksX3_failed_0 9 rfl rfl)
theorem dX3_failed_12 : decode cX3_failed 12 = .ok (.iconst 0, 1) := dk_3 (dk_at dksX3_failed_0 12 rfl rfl)
theorem dX3_failed_13 : decode cX3_failed 13 = .ok (.istore 4, 2) := dk_54 4 (dk_at dksX3_failed_0 13 rfl rfl)
theorem dX3_failed_15 : decode cX3_failed 15 = .ok (.iload 4, 2) := dk_21 4 (dk_at dksX3_failed_0 15 rfl rfl)
theorem dX3_failed_17 : decode cX3_failed 17 = .ok (.i2l, 1) := dk_133 (dk_at dksX3_failed_0 17 rfl rfl)
theorem dX3_failed_18 : decode cX3_failed 18 = .ok (.aload_n 0, 1) := dk_42 (dk_at dksX3_failed_0 18 rfl rfl)
theorem dX3_failed_19 : decode cX3_failed 19 = .ok (.iconst 5, 1) := dk_8 (dk_at dksX3_failed_0 19 rfl rfl)
theorem dX3_failed_20 : decode cX3_failed 20 = .ok (.invokevirtual 54, 3) := dk_182 0 54 (dk_at dksX3_failed_0 20 rfl rfl)
theorem dX3_failed_23 : decode cX3_failed 23 = .ok (.lcmp, 1) := dk_148 (dk_at dksX3_failed_0 23 rfl rfl)
theorem dX3_failed_24 : decode cX3_failed 24 = .ok (.ifCond .ge 38, 3) := dk_156 0 38 (dk_at dksX3_failed_1 0 rfl rfl)
theorem dX3_failed_27 : decode cX3_failed 27 = .ok (.aload_n 0, 1) := dk_42 (dk_at dksX3_failed_1 3 rfl rfl)
theorem dX3_failed_28 : decode cX3_failed 28 = .ok (.iload_n 3, 1) := dk_29 (dk_at dksX3_failed_1 4 rfl rfl)
theorem dX3_failed_29 : decode cX3_failed 29 = .ok (.iload 4, 2) := dk_21 4 (dk_at dksX3_failed_1 5 rfl rfl)
theorem dX3_failed_31 : decode cX3_failed 31 = .ok (.invokevirtual 290, 3) := dk_182 1 34 (dk_at dksX3_failed_1 7 rfl rfl)
theorem dX3_failed_34 : decode cX3_failed 34 = .ok (.ifCond .ne 6, 3) := dk_154 0 6 (dk_at dksX3_failed_1 10 rfl rfl)
theorem dX3_failed_37 : decode cX3_failed 37 = .ok (.goto 19, 3) := dk_167 0 19 (dk_at dksX3_failed_1 13 rfl rfl)
theorem dX3_failed_40 : decode cX3_failed 40 = .ok (.iload_n 2, 1) := dk_28 (dk_at dksX3_failed_1 16 rfl rfl)
theorem dX3_failed_41 : decode cX3_failed 41 = .ok (.iload_n 1, 1) := dk_27 (dk_at dksX3_failed_1 17 rfl rfl)
theorem dX3_failed_42 : decode cX3_failed 42 = .ok (.if_icmp .ne 11, 3) := dk_160 0 11 (dk_at dksX3_failed_1 18 rfl rfl)
theorem dX3_failed_45 : decode cX3_failed 45 = .ok (.bipush 16, 2) := dk_16 16 (dk_at dksX3_failed_1 21 rfl rfl)
theorem dX3_failed_47 : decode cX3_failed 47 = .ok (.iload_n 3, 1) := dk_29 (dk_at dksX3_failed_1 23 rfl rfl)
theorem dX3_failed_48 : decode cX3_failed 48 = .ok (.imul, 1) := dk_104 (dk_at dksX3_failed_2 0 rfl rfl)
theorem dX3_failed_49 : decode cX3_failed 49 = .ok (.iload 4, 2) := dk_21 4 (dk_at dksX3_failed_2 1 rfl rfl)
theorem dX3_failed_51 : decode cX3_failed 51 = .ok (.iadd, 1) := dk_96 (dk_at dksX3_failed_2 3 rfl rfl)
theorem dX3_failed_52 : decode cX3_failed 52 = .ok (.ireturn, 1) := dk_172 (dk_at dksX3_failed_2 4 rfl rfl)
theorem dX3_failed_53 : decode cX3_failed 53 = .ok (.iinc 2 1, 3) := dk_132 2 1 (dk_at dksX3_failed_2 5 rfl rfl)
theorem dX3_failed_56 : decode cX3_failed 56 = .ok (.iinc 4 1, 3) := dk_132 4 1 (dk_at dksX3_failed_2 8 rfl rfl)
theorem dX3_failed_59 : decode cX3_failed 59 = .ok (.goto (-44), 3) := dk_167 255 212 (dk_at dksX3_failed_2 11 rfl rfl)
theorem dX3_failed_62 : decode cX3_failed 62 = .ok (.iinc 3 1, 3) := dk_132 3 1 (dk_at dksX3_failed_2 14 rfl rfl)
theorem dX3_failed_65 : decode cX3_failed 65 = .ok (.goto (-61), 3) := dk_167 255 195 (dk_at dksX3_failed_2 17 rfl rfl)
theorem dX3_failed_68 : decode cX3_failed 68 = .ok (.iconst (-1), 1) := dk_2 (dk_at dksX3_failed_2 20 rfl rfl)
theorem dX3_failed_69 : decode cX3_failed 69 = .ok (.iload_n 2, 1) := dk_28 (dk_at dksX3_failed_2 21 rfl rfl)
theorem dX3_failed_70 : decode cX3_failed 70 = .ok (.isub, 1) := dk_100 (dk_at dksX3_failed_2 22 rfl rfl)
theorem dX3_failed_71 : decode cX3_failed 71 = .ok (.ireturn, 1) := dk_172 (dk_at dksX3_failed_2 23 rfl rfl)
abbrev cX3_isFailed : ByteArray := prog_20_method_50_code
def yX3_isFailed : MethodName := ⟨RX3, "isFailed", "(II)Z"⟩
def dkwX3_isFailed_1 : List UInt8 := [4, 167, 0, 4, 3, 182, 1, 30, 148, 158, 0, 7, 4, 167, 0, 4, 3, 172]
abbrev dktX3_isFailed_1 : List UInt8 := dkwX3_isFailed_1 ++ []
def dkwX3_isFailed_0 : List UInt8 := [42, 180, 0, 33, 16, 16, 27, 104, 28, 96, 47, 66, 33, 184, 1, 27, 42, 28, 33, 9, 148, 156, 0, 7]
abbrev dktX3_isFailed_0 : List UInt8 := dkwX3_isFailed_0 ++ dktX3_isFailed_1
theorem dksX3_isFailed_0 : cX3_isFailed.data.toList.drop 0 = dktX3_isFailed_0 := by decide +kernel
theorem dksX3_isFailed_1 : cX3_isFailed.data.toList.drop 24 = dktX3_isFailed_1 := dk_seg dksX3_isFailed_0 24 rfl rfl
theorem dX3_isFailed_0 : decode cX3_isFailed 0 = .ok (.aload_n 0, 1) := dk_42 (dk_at dksX3_isFailed_0 0 rfl rfl)
theorem dX3_isFailed_1 : decode cX3_isFailed 1 = .ok (.getfield 33, 3) := dk_180 0 33 (dk_at dksX3_isFailed_0 1 rfl rfl)
theorem dX3_isFailed_4 : decode cX3_isFailed 4 = .ok (.bipush 16, 2) := dk_16 16 (dk_at dksX3_isFailed_0 4 rfl rfl)
theorem dX3_isFailed_6 : decode cX3_isFailed 6 = .ok (.iload_n 1, 1) := dk_27 (dk_at dksX3_isFailed_0 6 rfl rfl)
theorem dX3_isFailed_7 : decode cX3_isFailed 7 = .ok (.imul, 1) := dk_104 (dk_at dksX3_isFailed_0 7 rfl rfl)
theorem dX3_isFailed_8 : decode cX3_isFailed 8 = .ok (.iload_n 2, 1) := dk_28 (dk_at dksX3_isFailed_0 8 rfl rfl)
theorem dX3_isFailed_9 : decode cX3_isFailed 9 = .ok (.iadd, 1) := dk_96 (dk_at dksX3_isFailed_0 9 rfl rfl)
theorem dX3_isFailed_10 : decode cX3_isFailed 10 = .ok (.laload, 1) := dk_47 (dk_at dksX3_isFailed_0 10 rfl rfl)
theorem dX3_isFailed_11 : decode cX3_isFailed 11 = .ok (.lstore_n 3, 1) := dk_66 (dk_at dksX3_isFailed_0 11 rfl rfl)
theorem dX3_isFailed_12 : decode cX3_isFailed 12 = .ok (.lload_n 3, 1) := dk_33 (dk_at dksX3_isFailed_0 12 rfl rfl)
theorem dX3_isFailed_13 : decode cX3_isFailed 13 = .ok (.invokestatic 283, 3) := dk_184 1 27 (dk_at dksX3_isFailed_0 13 rfl rfl)
theorem dX3_isFailed_16 : decode cX3_isFailed 16 = .ok (.aload_n 0, 1) := dk_42 (dk_at dksX3_isFailed_0 16 rfl rfl)
theorem dX3_isFailed_17 : decode cX3_isFailed 17 = .ok (.iload_n 2, 1) := dk_28 (dk_at dksX3_isFailed_0 17 rfl rfl)
theorem dX3_isFailed_18 : decode cX3_isFailed 18 = .ok (.lload_n 3, 1) := dk_33 (dk_at dksX3_isFailed_0 18 rfl rfl)
theorem dX3_isFailed_19 : decode cX3_isFailed 19 = .ok (.lconst 0, 1) := dk_9 (dk_at dksX3_isFailed_0 19 rfl rfl)
theorem dX3_isFailed_20 : decode cX3_isFailed 20 = .ok (.lcmp, 1) := dk_148 (dk_at dksX3_isFailed_0 20 rfl rfl)
theorem dX3_isFailed_21 : decode cX3_isFailed 21 = .ok (.ifCond .ge 7, 3) := dk_156 0 7 (dk_at dksX3_isFailed_0 21 rfl rfl)
theorem dX3_isFailed_24 : decode cX3_isFailed 24 = .ok (.iconst 1, 1) := dk_4 (dk_at dksX3_isFailed_1 0 rfl rfl)
theorem dX3_isFailed_25 : decode cX3_isFailed 25 = .ok (.goto 4, 3) := dk_167 0 4 (dk_at dksX3_isFailed_1 1 rfl rfl)
theorem dX3_isFailed_28 : decode cX3_isFailed 28 = .ok (.iconst 0, 1) := dk_3 (dk_at dksX3_isFailed_1 4 rfl rfl)
theorem dX3_isFailed_29 : decode cX3_isFailed 29 = .ok (.invokevirtual 286, 3) := dk_182 1 30 (dk_at dksX3_isFailed_1 5 rfl rfl)
theorem dX3_isFailed_32 : decode cX3_isFailed 32 = .ok (.lcmp, 1) := dk_148 (dk_at dksX3_isFailed_1 8 rfl rfl)
theorem dX3_isFailed_33 : decode cX3_isFailed 33 = .ok (.ifCond .le 7, 3) := dk_158 0 7 (dk_at dksX3_isFailed_1 9 rfl rfl)
theorem dX3_isFailed_36 : decode cX3_isFailed 36 = .ok (.iconst 1, 1) := dk_4 (dk_at dksX3_isFailed_1 12 rfl rfl)
theorem dX3_isFailed_37 : decode cX3_isFailed 37 = .ok (.goto 4, 3) := dk_167 0 4 (dk_at dksX3_isFailed_1 13 rfl rfl)
theorem dX3_isFailed_40 : decode cX3_isFailed 40 = .ok (.iconst 0, 1) := dk_3 (dk_at dksX3_isFailed_1 16 rfl rfl)
theorem dX3_isFailed_41 : decode cX3_isFailed 41 = .ok (.ireturn, 1) := dk_172 (dk_at dksX3_isFailed_1 17 rfl rfl)
abbrev cX3_failure : ByteArray := prog_20_method_78_code
def yX3_failure : MethodName := ⟨RX3, "failure", "(IZ)I"⟩
def dkwX3_failure_2 : List UInt8 := [16, 16, 112, 167, 0, 7, 29, 16, 16, 108, 172]
abbrev dktX3_failure_2 : List UInt8 := dkwX3_failure_2 ++ []
def dkwX3_failure_1 : List UInt8 := [29, 155, 0, 7, 4, 167, 0, 4, 3, 4, 182, 0, 210, 154, 0, 5, 3, 172, 28, 153, 0, 10, 29]
abbrev dktX3_failure_1 : List UInt8 := dkwX3_failure_1 ++ dktX3_failure_2
def dkwX3_failure_0 : List UInt8 := [42, 3, 181, 0, 48, 42, 182, 1, 63, 27, 156, 0, 7, 2, 167, 0, 8, 42, 27, 182, 1, 69, 62, 42]
abbrev dktX3_failure_0 : List UInt8 := dkwX3_failure_0 ++ dktX3_failure_1
theorem dksX3_failure_0 : cX3_failure.data.toList.drop 0 = dktX3_failure_0 := by decide +kernel
theorem dksX3_failure_1 : cX3_failure.data.toList.drop 24 = dktX3_failure_1 := dk_seg dksX3_failure_0 24 rfl rfl
theorem dksX3_failure_2 : cX3_failure.data.toList.drop 47 = dktX3_failure_2 := dk_seg dksX3_failure_1 23 rfl rfl
theorem dX3_failure_0 : decode cX3_failure 0 = .ok (.aload_n 0, 1) := dk_42 (dk_at dksX3_failure_0 0 rfl rfl)
theorem dX3_failure_1 : decode cX3_failure 1 = .ok (.iconst 0, 1) := dk_3 (dk_at dksX3_failure_0 1 rfl rfl)
theorem dX3_failure_2 : decode cX3_failure 2 = .ok (.putfield 48, 3) := dk_181 0 48 (dk_at dksX3_failure_0 2 rfl rfl)
theorem dX3_failure_5 : decode cX3_failure 5 = .ok (.aload_n 0, 1) := dk_42 (dk_at dksX3_failure_0 5 rfl rfl)
theorem dX3_failure_6 : decode cX3_failure 6 = .ok (.invokevirtual 319, 3) := dk_182 1 63 (dk_at dksX3_failure_0 6 rfl rfl)
theorem dX3_failure_9 : decode cX3_failure 9 = .ok (.iload_n 1, 1) := dk_27 (dk_at dksX3_failure_0 9 rfl rfl)
theorem dX3_failure_10 : decode cX3_failure 10 = .ok (.ifCond .ge 7, 3) := dk_156 0 7 (dk_at dksX3_failure_0 10 rfl rfl)
theorem dX3_failure_13 : decode cX3_failure 13 = .ok (.iconst (-1), 1) := dk_2 (dk_at dksX3_failure_0 13 rfl rfl)
theorem dX3_failure_14 : decode cX3_failure 14 = .ok (.goto 8, 3) := dk_167 0 8 (dk_at dksX3_failure_0 14 rfl rfl)
theorem dX3_failure_17 : decode cX3_failure 17 = .ok (.aload_n 0, 1) := dk_42 (dk_at dksX3_failure_0 17 rfl rfl)
theorem dX3_failure_18 : decode cX3_failure 18 = .ok (.iload_n 1, 1) := dk_27 (dk_at dksX3_failure_0 18 rfl rfl)
theorem dX3_failure_19 : decode cX3_failure 19 = .ok (.invokevirtual 325, 3) := dk_182 1 69 (dk_at dksX3_failure_0 19 rfl rfl)
theorem dX3_failure_22 : decode cX3_failure 22 = .ok (.istore_n 3, 1) := dk_62 (dk_at dksX3_failure_0 22 rfl rfl)
theorem dX3_failure_23 : decode cX3_failure 23 = .ok (.aload_n 0, 1) := dk_42 (dk_at dksX3_failure_0 23 rfl rfl)
theorem dX3_failure_24 : decode cX3_failure 24 = .ok (.iload_n 3, 1) := dk_29 (dk_at dksX3_failure_1 0 rfl rfl)
theorem dX3_failure_25 : decode cX3_failure 25 = .ok (.ifCond .lt 7, 3) := dk_155 0 7 (dk_at dksX3_failure_1 1 rfl rfl)
theorem dX3_failure_28 : decode cX3_failure 28 = .ok (.iconst 1, 1) := dk_4 (dk_at dksX3_failure_1 4 rfl rfl)
theorem dX3_failure_29 : decode cX3_failure 29 = .ok (.goto 4, 3) := dk_167 0 4 (dk_at dksX3_failure_1 5 rfl rfl)
theorem dX3_failure_32 : decode cX3_failure 32 = .ok (.iconst 0, 1) := dk_3 (dk_at dksX3_failure_1 8 rfl rfl)
theorem dX3_failure_33 : decode cX3_failure 33 = .ok (.iconst 1, 1) := dk_4 (dk_at dksX3_failure_1 9 rfl rfl)
theorem dX3_failure_34 : decode cX3_failure 34 = .ok (.invokevirtual 210, 3) := dk_182 0 210 (dk_at dksX3_failure_1 10 rfl rfl)
theorem dX3_failure_37 : decode cX3_failure 37 = .ok (.ifCond .ne 5, 3) := dk_154 0 5 (dk_at dksX3_failure_1 13 rfl rfl)
theorem dX3_failure_40 : decode cX3_failure 40 = .ok (.iconst 0, 1) := dk_3 (dk_at dksX3_failure_1 16 rfl rfl)
theorem dX3_failure_41 : decode cX3_failure 41 = .ok (.ireturn, 1) := dk_172 (dk_at dksX3_failure_1 17 rfl rfl)
theorem dX3_failure_42 : decode cX3_failure 42 = .ok (.iload_n 2, 1) := dk_28 (dk_at dksX3_failure_1 18 rfl rfl)
theorem dX3_failure_43 : decode cX3_failure 43 = .ok (.ifCond .eq 10, 3) := dk_153 0 10 (dk_at dksX3_failure_1 19 rfl rfl)
theorem dX3_failure_46 : decode cX3_failure 46 = .ok (.iload_n 3, 1) := dk_29 (dk_at dksX3_failure_1 22 rfl rfl)
theorem dX3_failure_47 : decode cX3_failure 47 = .ok (.bipush 16, 2) := dk_16 16 (dk_at dksX3_failure_2 0 rfl rfl)
theorem dX3_failure_49 : decode cX3_failure 49 = .ok (.irem, 1) := dk_112 (dk_at dksX3_failure_2 2 rfl rfl)
theorem dX3_failure_50 : decode cX3_failure 50 = .ok (.goto 7, 3) := dk_167 0 7 (dk_at dksX3_failure_2 3 rfl rfl)
theorem dX3_failure_53 : decode cX3_failure 53 = .ok (.iload_n 3, 1) := dk_29 (dk_at dksX3_failure_2 6 rfl rfl)
theorem dX3_failure_54 : decode cX3_failure 54 = .ok (.bipush 16, 2) := dk_16 16 (dk_at dksX3_failure_2 7 rfl rfl)
theorem dX3_failure_56 : decode cX3_failure 56 = .ok (.idiv, 1) := dk_108 (dk_at dksX3_failure_2 9 rfl rfl)
theorem dX3_failure_57 : decode cX3_failure 57 = .ok (.ireturn, 1) := dk_172 (dk_at dksX3_failure_2 10 rfl rfl)
abbrev cX3_isRemovable : ByteArray := prog_20_method_79_code
def yX3_isRemovable : MethodName := ⟨RX3, "isRemovable", "(I)Z"⟩
def dkwX3_isRemovable_1 : List UInt8 := [167, 0, 4, 3, 172]
abbrev dktX3_isRemovable_1 : List UInt8 := dkwX3_isRemovable_1 ++ []
def dkwX3_isRemovable_0 : List UInt8 := [42, 3, 181, 0, 48, 42, 27, 8, 182, 1, 53, 153, 0, 15, 42, 27, 182, 1, 72, 153, 0, 7, 4]
abbrev dktX3_isRemovable_0 : List UInt8 := dkwX3_isRemovable_0 ++ dktX3_isRemovable_1
theorem dksX3_isRemovable_0 : cX3_isRemovable.data.toList.drop 0 = dktX3_isRemovable_0 := by decide +kernel
theorem dksX3_isRemovable_1 : cX3_isRemovable.data.toList.drop 23 = dktX3_isRemovable_1 := dk_seg dksX3_isRemovable_0 23 rfl rfl
theorem dX3_isRemovable_0 : decode cX3_isRemovable 0 = .ok (.aload_n 0, 1) := dk_42 (dk_at dksX3_isRemovable_0 0 rfl rfl)
theorem dX3_isRemovable_1 : decode cX3_isRemovable 1 = .ok (.iconst 0, 1) := dk_3 (dk_at dksX3_isRemovable_0 1 rfl rfl)
theorem dX3_isRemovable_2 : decode cX3_isRemovable 2 = .ok (.putfield 48, 3) := dk_181 0 48 (dk_at dksX3_isRemovable_0 2 rfl rfl)
theorem dX3_isRemovable_5 : decode cX3_isRemovable 5 = .ok (.aload_n 0, 1) := dk_42 (dk_at dksX3_isRemovable_0 5 rfl rfl)
theorem dX3_isRemovable_6 : decode cX3_isRemovable 6 = .ok (.iload_n 1, 1) := dk_27 (dk_at dksX3_isRemovable_0 6 rfl rfl)
theorem dX3_isRemovable_7 : decode cX3_isRemovable 7 = .ok (.iconst 5, 1) := dk_8 (dk_at dksX3_isRemovable_0 7 rfl rfl)
theorem dX3_isRemovable_8 : decode cX3_isRemovable 8 = .ok (.invokevirtual 309, 3) := dk_182 1 53 (dk_at dksX3_isRemovable_0 8 rfl rfl)
theorem dX3_isRemovable_11 : decode cX3_isRemovable 11 = .ok (.ifCond .eq 15, 3) := dk_153 0 15 (dk_at dksX3_isRemovable_0 11 rfl rfl)
theorem dX3_isRemovable_14 : decode cX3_isRemovable 14 = .ok (.aload_n 0, 1) := dk_42 (dk_at dksX3_isRemovable_0 14 rfl rfl)
theorem dX3_isRemovable_15 : decode cX3_isRemovable 15 = .ok (.iload_n 1, 1) := dk_27 (dk_at dksX3_isRemovable_0 15 rfl rfl)
theorem dX3_isRemovable_16 : decode cX3_isRemovable 16 = .ok (.invokevirtual 328, 3) := dk_182 1 72 (dk_at dksX3_isRemovable_0 16 rfl rfl)
theorem dX3_isRemovable_19 : decode cX3_isRemovable 19 = .ok (.ifCond .eq 7, 3) := dk_153 0 7 (dk_at dksX3_isRemovable_0 19 rfl rfl)
theorem dX3_isRemovable_22 : decode cX3_isRemovable 22 = .ok (.iconst 1, 1) := dk_4 (dk_at dksX3_isRemovable_0 22 rfl rfl)
theorem dX3_isRemovable_23 : decode cX3_isRemovable 23 = .ok (.goto 4, 3) := dk_167 0 4 (dk_at dksX3_isRemovable_1 0 rfl rfl)
theorem dX3_isRemovable_26 : decode cX3_isRemovable 26 = .ok (.iconst 0, 1) := dk_3 (dk_at dksX3_isRemovable_1 3 rfl rfl)
theorem dX3_isRemovable_27 : decode cX3_isRemovable 27 = .ok (.ireturn, 1) := dk_172 (dk_at dksX3_isRemovable_1 4 rfl rfl)
abbrev cX3_isSafeWithout : ByteArray := prog_20_method_54_code
def yX3_isSafeWithout : MethodName := ⟨RX3, "isSafeWithout", "(I)Z"⟩
def dkwX3_isSafeWithout_0 : List UInt8 := [42, 182, 1, 38, 42, 27, 182, 1, 41, 42, 182, 1, 44, 61, 42, 182, 1, 47, 28, 172]
abbrev dktX3_isSafeWithout_0 : List UInt8 := dkwX3_isSafeWithout_0 ++ []
theorem dksX3_isSafeWithout_0 : cX3_isSafeWithout.data.toList.drop 0 = dktX3_isSafeWithout_0 := by decide +kernel
theorem dX3_isSafeWithout_0 : decode cX3_isSafeWithout 0 = .ok (.aload_n 0, 1) := dk_42 (dk_at dksX3_isSafeWithout_0 0 rfl rfl)
theorem dX3_isSafeWithout_1 : decode cX3_isSafeWithout 1 = .ok (.invokevirtual 294, 3) := dk_182 1 38 (dk_at dksX3_isSafeWithout_0 1 rfl rfl)
theorem dX3_isSafeWithout_4 : decode cX3_isSafeWithout 4 = .ok (.aload_n 0, 1) := dk_42 (dk_at dksX3_isSafeWithout_0 4 rfl rfl)
theorem dX3_isSafeWithout_5 : decode cX3_isSafeWithout 5 = .ok (.iload_n 1, 1) := dk_27 (dk_at dksX3_isSafeWithout_0 5 rfl rfl)
theorem dX3_isSafeWithout_6 : decode cX3_isSafeWithout 6 = .ok (.invokevirtual 297, 3) := dk_182 1 41 (dk_at dksX3_isSafeWithout_0 6 rfl rfl)
theorem dX3_isSafeWithout_9 : decode cX3_isSafeWithout 9 = .ok (.aload_n 0, 1) := dk_42 (dk_at dksX3_isSafeWithout_0 9 rfl rfl)
theorem dX3_isSafeWithout_10 : decode cX3_isSafeWithout 10 = .ok (.invokevirtual 300, 3) := dk_182 1 44 (dk_at dksX3_isSafeWithout_0 10 rfl rfl)
theorem dX3_isSafeWithout_13 : decode cX3_isSafeWithout 13 = .ok (.istore_n 2, 1) := dk_61 (dk_at dksX3_isSafeWithout_0 13 rfl rfl)
theorem dX3_isSafeWithout_14 : decode cX3_isSafeWithout 14 = .ok (.aload_n 0, 1) := dk_42 (dk_at dksX3_isSafeWithout_0 14 rfl rfl)
theorem dX3_isSafeWithout_15 : decode cX3_isSafeWithout 15 = .ok (.invokevirtual 303, 3) := dk_182 1 47 (dk_at dksX3_isSafeWithout_0 15 rfl rfl)
theorem dX3_isSafeWithout_18 : decode cX3_isSafeWithout 18 = .ok (.iload_n 2, 1) := dk_28 (dk_at dksX3_isSafeWithout_0 18 rfl rfl)
theorem dX3_isSafeWithout_19 : decode cX3_isSafeWithout 19 = .ok (.ireturn, 1) := dk_172 (dk_at dksX3_isSafeWithout_0 19 rfl rfl)
abbrev cX3_laysAside : ByteArray := prog_20_method_9_code
def yX3_laysAside : MethodName := ⟨RX3, "laysAside", "()V"⟩
def dkwX3_laysAside_1 : List UInt8 := [167, 255, 235, 177]
abbrev dktX3_laysAside_1 : List UInt8 := dkwX3_laysAside_1 ++ []
def dkwX3_laysAside_0 : List UInt8 := [3, 60, 27, 17, 6, 214, 162, 0, 20, 42, 180, 0, 16, 27, 42, 27, 182, 0, 54, 80, 132, 1, 1]
abbrev dktX3_laysAside_0 : List UInt8 := dkwX3_laysAside_0 ++ dktX3_laysAside_1
theorem dksX3_laysAside_0 : cX3_laysAside.data.toList.drop 0 = dktX3_laysAside_0 := by decide +kernel
theorem dksX3_laysAside_1 : cX3_laysAside.data.toList.drop 23 = dktX3_laysAside_1 := dk_seg dksX3_laysAside_0 23 rfl rfl
theorem dX3_laysAside_0 : decode cX3_laysAside 0 = .ok (.iconst 0, 1) := dk_3 (dk_at dksX3_laysAside_0 0 rfl rfl)
theorem dX3_laysAside_1 : decode cX3_laysAside 1 = .ok (.istore_n 1, 1) := dk_60 (dk_at dksX3_laysAside_0 1 rfl rfl)
theorem dX3_laysAside_2 : decode cX3_laysAside 2 = .ok (.iload_n 1, 1) := dk_27 (dk_at dksX3_laysAside_0 2 rfl rfl)
theorem dX3_laysAside_3 : decode cX3_laysAside 3 = .ok (.sipush 1750, 3) := dk_17 6 214 (dk_at dksX3_laysAside_0 3 rfl rfl)
theorem dX3_laysAside_6 : decode cX3_laysAside 6 = .ok (.if_icmp .ge 20, 3) := dk_162 0 20 (dk_at dksX3_laysAside_0 6 rfl rfl)
theorem dX3_laysAside_9 : decode cX3_laysAside 9 = .ok (.aload_n 0, 1) := dk_42 (dk_at dksX3_laysAside_0 9 rfl rfl)
theorem dX3_laysAside_10 : decode cX3_laysAside 10 = .ok (.getfield 16, 3) := dk_180 0 16 (dk_at dksX3_laysAside_0 10 rfl rfl)
theorem dX3_laysAside_13 : decode cX3_laysAside 13 = .ok (.iload_n 1, 1) := dk_27 (dk_at dksX3_laysAside_0 13 rfl rfl)
theorem dX3_laysAside_14 : decode cX3_laysAside 14 = .ok (.aload_n 0, 1) := dk_42 (dk_at dksX3_laysAside_0 14 rfl rfl)
theorem dX3_laysAside_15 : decode cX3_laysAside 15 = .ok (.iload_n 1, 1) := dk_27 (dk_at dksX3_laysAside_0 15 rfl rfl)
theorem dX3_laysAside_16 : decode cX3_laysAside 16 = .ok (.invokevirtual 54, 3) := dk_182 0 54 (dk_at dksX3_laysAside_0 16 rfl rfl)
theorem dX3_laysAside_19 : decode cX3_laysAside 19 = .ok (.lastore, 1) := dk_80 (dk_at dksX3_laysAside_0 19 rfl rfl)
theorem dX3_laysAside_20 : decode cX3_laysAside 20 = .ok (.iinc 1 1, 3) := dk_132 1 1 (dk_at dksX3_laysAside_0 20 rfl rfl)
theorem dX3_laysAside_23 : decode cX3_laysAside 23 = .ok (.goto (-21), 3) := dk_167 255 235 (dk_at dksX3_laysAside_1 0 rfl rfl)
theorem dX3_laysAside_26 : decode cX3_laysAside 26 = .ok (.return_, 1) := dk_177 (dk_at dksX3_laysAside_1 3 rfl rfl)
abbrev cX3_loses : ByteArray := prog_20_method_53_code
def yX3_loses : MethodName := ⟨RX3, "loses", "(I)V"⟩
def dkwX3_loses_1 : List UInt8 := [182, 0, 61, 132, 2, 1, 167, 255, 235, 42, 8, 42, 8, 182, 0, 54, 10, 101, 182, 0, 61, 177]
abbrev dktX3_loses_1 : List UInt8 := dkwX3_loses_1 ++ []
def dkwX3_loses_0 : List UInt8 := [16, 40, 6, 27, 104, 96, 61, 28, 16, 85, 162, 0, 21, 42, 28, 42, 28, 6, 96, 182, 0, 54]
abbrev dktX3_loses_0 : List UInt8 := dkwX3_loses_0 ++ dktX3_loses_1
theorem dksX3_loses_0 : cX3_loses.data.toList.drop 0 = dktX3_loses_0 := by decide +kernel
theorem dksX3_loses_1 : cX3_loses.data.toList.drop 22 = dktX3_loses_1 := dk_seg dksX3_loses_0 22 rfl rfl
theorem dX3_loses_0 : decode cX3_loses 0 = .ok (.bipush 40, 2) := dk_16 40 (dk_at dksX3_loses_0 0 rfl rfl)
theorem dX3_loses_2 : decode cX3_loses 2 = .ok (.iconst 3, 1) := dk_6 (dk_at dksX3_loses_0 2 rfl rfl)
theorem dX3_loses_3 : decode cX3_loses 3 = .ok (.iload_n 1, 1) := dk_27 (dk_at dksX3_loses_0 3 rfl rfl)
theorem dX3_loses_4 : decode cX3_loses 4 = .ok (.imul, 1) := dk_104 (dk_at dksX3_loses_0 4 rfl rfl)
theorem dX3_loses_5 : decode cX3_loses 5 = .ok (.iadd, 1) := dk_96 (dk_at dksX3_loses_0 5 rfl rfl)
theorem dX3_loses_6 : decode cX3_loses 6 = .ok (.istore_n 2, 1) := dk_61 (dk_at dksX3_loses_0 6 rfl rfl)
theorem dX3_loses_7 : decode cX3_loses 7 = .ok (.iload_n 2, 1) := dk_28 (dk_at dksX3_loses_0 7 rfl rfl)
theorem dX3_loses_8 : decode cX3_loses 8 = .ok (.bipush 85, 2) := dk_16 85 (dk_at dksX3_loses_0 8 rfl rfl)
theorem dX3_loses_10 : decode cX3_loses 10 = .ok (.if_icmp .ge 21, 3) := dk_162 0 21 (dk_at dksX3_loses_0 10 rfl rfl)
theorem dX3_loses_13 : decode cX3_loses 13 = .ok (.aload_n 0, 1) := dk_42 (dk_at dksX3_loses_0 13 rfl rfl)
theorem dX3_loses_14 : decode cX3_loses 14 = .ok (.iload_n 2, 1) := dk_28 (dk_at dksX3_loses_0 14 rfl rfl)
theorem dX3_loses_15 : decode cX3_loses 15 = .ok (.aload_n 0, 1) := dk_42 (dk_at dksX3_loses_0 15 rfl rfl)
theorem dX3_loses_16 : decode cX3_loses 16 = .ok (.iload_n 2, 1) := dk_28 (dk_at dksX3_loses_0 16 rfl rfl)
theorem dX3_loses_17 : decode cX3_loses 17 = .ok (.iconst 3, 1) := dk_6 (dk_at dksX3_loses_0 17 rfl rfl)
theorem dX3_loses_18 : decode cX3_loses 18 = .ok (.iadd, 1) := dk_96 (dk_at dksX3_loses_0 18 rfl rfl)
theorem dX3_loses_19 : decode cX3_loses 19 = .ok (.invokevirtual 54, 3) := dk_182 0 54 (dk_at dksX3_loses_0 19 rfl rfl)
theorem dX3_loses_22 : decode cX3_loses 22 = .ok (.invokevirtual 61, 3) := dk_182 0 61 (dk_at dksX3_loses_1 0 rfl rfl)
theorem dX3_loses_25 : decode cX3_loses 25 = .ok (.iinc 2 1, 3) := dk_132 2 1 (dk_at dksX3_loses_1 3 rfl rfl)
theorem dX3_loses_28 : decode cX3_loses 28 = .ok (.goto (-21), 3) := dk_167 255 235 (dk_at dksX3_loses_1 6 rfl rfl)
theorem dX3_loses_31 : decode cX3_loses 31 = .ok (.aload_n 0, 1) := dk_42 (dk_at dksX3_loses_1 9 rfl rfl)
theorem dX3_loses_32 : decode cX3_loses 32 = .ok (.iconst 5, 1) := dk_8 (dk_at dksX3_loses_1 10 rfl rfl)
theorem dX3_loses_33 : decode cX3_loses 33 = .ok (.aload_n 0, 1) := dk_42 (dk_at dksX3_loses_1 11 rfl rfl)
theorem dX3_loses_34 : decode cX3_loses 34 = .ok (.iconst 5, 1) := dk_8 (dk_at dksX3_loses_1 12 rfl rfl)
theorem dX3_loses_35 : decode cX3_loses 35 = .ok (.invokevirtual 54, 3) := dk_182 0 54 (dk_at dksX3_loses_1 13 rfl rfl)
theorem dX3_loses_38 : decode cX3_loses 38 = .ok (.lconst 1, 1) := dk_10 (dk_at dksX3_loses_1 16 rfl rfl)
theorem dX3_loses_39 : decode cX3_loses 39 = .ok (.lsub, 1) := dk_101 (dk_at dksX3_loses_1 17 rfl rfl)
theorem dX3_loses_40 : decode cX3_loses 40 = .ok (.invokevirtual 61, 3) := dk_182 0 61 (dk_at dksX3_loses_1 18 rfl rfl)
theorem dX3_loses_43 : decode cX3_loses 43 = .ok (.return_, 1) := dk_177 (dk_at dksX3_loses_1 21 rfl rfl)
abbrev cX3_isSafe : ByteArray := prog_20_method_51_code
def yX3_isSafe : MethodName := ⟨RX3, "isSafe", "()Z"⟩
def dkwX3_isSafe_2 : List UInt8 := [167, 255, 231, 132, 1, 1, 167, 255, 210, 4, 172]
abbrev dktX3_isSafe_2 : List UInt8 := dkwX3_isSafe_2 ++ []
def dkwX3_isSafe_1 : List UInt8 := [8, 182, 0, 54, 148, 156, 0, 20, 42, 27, 28, 182, 1, 34, 153, 0, 5, 3, 172, 132, 2, 1]
abbrev dktX3_isSafe_1 : List UInt8 := dkwX3_isSafe_1 ++ dktX3_isSafe_2
def dkwX3_isSafe_0 : List UInt8 := [42, 182, 1, 9, 3, 60, 27, 42, 182, 1, 12, 162, 0, 44, 42, 27, 182, 1, 15, 3, 61, 28, 133, 42]
abbrev dktX3_isSafe_0 : List UInt8 := dkwX3_isSafe_0 ++ dktX3_isSafe_1
theorem dksX3_isSafe_0 : cX3_isSafe.data.toList.drop 0 = dktX3_isSafe_0 := by decide +kernel
theorem dksX3_isSafe_1 : cX3_isSafe.data.toList.drop 24 = dktX3_isSafe_1 := dk_seg dksX3_isSafe_0 24 rfl rfl
theorem dksX3_isSafe_2 : cX3_isSafe.data.toList.drop 46 = dktX3_isSafe_2 := dk_seg dksX3_isSafe_1 22 rfl rfl
theorem dX3_isSafe_0 : decode cX3_isSafe 0 = .ok (.aload_n 0, 1) := dk_42 (dk_at dksX3_isSafe_0 0 rfl rfl)
theorem dX3_isSafe_1 : decode cX3_isSafe 1 = .ok (.invokevirtual 265, 3) := dk_182 1 9 (dk_at dksX3_isSafe_0 1 rfl rfl)
theorem dX3_isSafe_4 : decode cX3_isSafe 4 = .ok (.iconst 0, 1) := dk_3 (dk_at dksX3_isSafe_0 4 rfl rfl)
theorem dX3_isSafe_5 : decode cX3_isSafe 5 = .ok (.istore_n 1, 1) := dk_60 (dk_at dksX3_isSafe_0 5 rfl rfl)
theorem dX3_isSafe_6 : decode cX3_isSafe 6 = .ok (.iload_n 1, 1) := dk_27 (dk_at dksX3_isSafe_0 6 rfl rfl)
theorem dX3_isSafe_7 : decode cX3_isSafe 7 = .ok (.aload_n 0, 1) := dk_42 (dk_at dksX3_isSafe_0 7 rfl rfl)
theorem dX3_isSafe_8 : decode cX3_isSafe 8 = .ok (.invokevirtual 268, 3) := dk_182 1 12 (dk_at dksX3_isSafe_0 8 rfl rfl)
theorem dX3_isSafe_11 : decode cX3_isSafe 11 = .ok (.if_icmp .ge 44, 3) := dk_162 0 44 (dk_at dksX3_isSafe_0 11 rfl rfl)
theorem dX3_isSafe_14 : decode cX3_isSafe 14 = .ok (.aload_n 0, 1) := dk_42 (dk_at dksX3_isSafe_0 14 rfl rfl)
theorem dX3_isSafe_15 : decode cX3_isSafe 15 = .ok (.iload_n 1, 1) := dk_27 (dk_at dksX3_isSafe_0 15 rfl rfl)
theorem dX3_isSafe_16 : decode cX3_isSafe 16 = .ok (.invokevirtual 271, 3) := dk_182 1 15 (dk_at dksX3_isSafe_0 16 rfl rfl)
theorem dX3_isSafe_19 : decode cX3_isSafe 19 = .ok (.iconst 0, 1) := dk_3 (dk_at dksX3_isSafe_0 19 rfl rfl)
theorem dX3_isSafe_20 : decode cX3_isSafe 20 = .ok (.istore_n 2, 1) := dk_61 (dk_at dksX3_isSafe_0 20 rfl rfl)
theorem dX3_isSafe_21 : decode cX3_isSafe 21 = .ok (.iload_n 2, 1) := dk_28 (dk_at dksX3_isSafe_0 21 rfl rfl)
theorem dX3_isSafe_22 : decode cX3_isSafe 22 = .ok (.i2l, 1) := dk_133 (dk_at dksX3_isSafe_0 22 rfl rfl)
theorem dX3_isSafe_23 : decode cX3_isSafe 23 = .ok (.aload_n 0, 1) := dk_42 (dk_at dksX3_isSafe_0 23 rfl rfl)
theorem dX3_isSafe_24 : decode cX3_isSafe 24 = .ok (.iconst 5, 1) := dk_8 (dk_at dksX3_isSafe_1 0 rfl rfl)
theorem dX3_isSafe_25 : decode cX3_isSafe 25 = .ok (.invokevirtual 54, 3) := dk_182 0 54 (dk_at dksX3_isSafe_1 1 rfl rfl)
theorem dX3_isSafe_28 : decode cX3_isSafe 28 = .ok (.lcmp, 1) := dk_148 (dk_at dksX3_isSafe_1 4 rfl rfl)
theorem dX3_isSafe_29 : decode cX3_isSafe 29 = .ok (.ifCond .ge 20, 3) := dk_156 0 20 (dk_at dksX3_isSafe_1 5 rfl rfl)
theorem dX3_isSafe_32 : decode cX3_isSafe 32 = .ok (.aload_n 0, 1) := dk_42 (dk_at dksX3_isSafe_1 8 rfl rfl)
theorem dX3_isSafe_33 : decode cX3_isSafe 33 = .ok (.iload_n 1, 1) := dk_27 (dk_at dksX3_isSafe_1 9 rfl rfl)
theorem dX3_isSafe_34 : decode cX3_isSafe 34 = .ok (.iload_n 2, 1) := dk_28 (dk_at dksX3_isSafe_1 10 rfl rfl)
theorem dX3_isSafe_35 : decode cX3_isSafe 35 = .ok (.invokevirtual 290, 3) := dk_182 1 34 (dk_at dksX3_isSafe_1 11 rfl rfl)
theorem dX3_isSafe_38 : decode cX3_isSafe 38 = .ok (.ifCond .eq 5, 3) := dk_153 0 5 (dk_at dksX3_isSafe_1 14 rfl rfl)
theorem dX3_isSafe_41 : decode cX3_isSafe 41 = .ok (.iconst 0, 1) := dk_3 (dk_at dksX3_isSafe_1 17 rfl rfl)
theorem dX3_isSafe_42 : decode cX3_isSafe 42 = .ok (.ireturn, 1) := dk_172 (dk_at dksX3_isSafe_1 18 rfl rfl)
theorem dX3_isSafe_43 : decode cX3_isSafe 43 = .ok (.iinc 2 1, 3) := dk_132 2 1 (dk_at dksX3_isSafe_1 19 rfl rfl)
theorem dX3_isSafe_46 : decode cX3_isSafe 46 = .ok (.goto (-25), 3) := dk_167 255 231 (dk_at dksX3_isSafe_2 0 rfl rfl)
theorem dX3_isSafe_49 : decode cX3_isSafe 49 = .ok (.iinc 1 1, 3) := dk_132 1 1 (dk_at dksX3_isSafe_2 3 rfl rfl)
theorem dX3_isSafe_52 : decode cX3_isSafe 52 = .ok (.goto (-46), 3) := dk_167 255 210 (dk_at dksX3_isSafe_2 6 rfl rfl)
theorem dX3_isSafe_55 : decode cX3_isSafe 55 = .ok (.iconst 1, 1) := dk_4 (dk_at dksX3_isSafe_2 9 rfl rfl)
theorem dX3_isSafe_56 : decode cX3_isSafe 56 = .ok (.ireturn, 1) := dk_172 (dk_at dksX3_isSafe_2 10 rfl rfl)
abbrev cX3_takesBack : ByteArray := prog_20_method_10_code
def yX3_takesBack : MethodName := ⟨RX3, "takesBack", "()V"⟩
def dkwX3_takesBack_1 : List UInt8 := [167, 255, 235, 177]
abbrev dktX3_takesBack_1 : List UInt8 := dkwX3_takesBack_1 ++ []
def dkwX3_takesBack_0 : List UInt8 := [3, 60, 27, 17, 6, 214, 162, 0, 20, 42, 27, 42, 180, 0, 16, 27, 47, 182, 0, 61, 132, 1, 1]
abbrev dktX3_takesBack_0 : List UInt8 := dkwX3_takesBack_0 ++ dktX3_takesBack_1
theorem dksX3_takesBack_0 : cX3_takesBack.data.toList.drop 0 = dktX3_takesBack_0 := by decide +kernel
theorem dksX3_takesBack_1 : cX3_takesBack.data.toList.drop 23 = dktX3_takesBack_1 := dk_seg dksX3_takesBack_0 23 rfl rfl
theorem dX3_takesBack_0 : decode cX3_takesBack 0 = .ok (.iconst 0, 1) := dk_3 (dk_at dksX3_takesBack_0 0 rfl rfl)
theorem dX3_takesBack_1 : decode cX3_takesBack 1 = .ok (.istore_n 1, 1) := dk_60 (dk_at dksX3_takesBack_0 1 rfl rfl)
theorem dX3_takesBack_2 : decode cX3_takesBack 2 = .ok (.iload_n 1, 1) := dk_27 (dk_at dksX3_takesBack_0 2 rfl rfl)
theorem dX3_takesBack_3 : decode cX3_takesBack 3 = .ok (.sipush 1750, 3) := dk_17 6 214 (dk_at dksX3_takesBack_0 3 rfl rfl)
theorem dX3_takesBack_6 : decode cX3_takesBack 6 = .ok (.if_icmp .ge 20, 3) := dk_162 0 20 (dk_at dksX3_takesBack_0 6 rfl rfl)
theorem dX3_takesBack_9 : decode cX3_takesBack 9 = .ok (.aload_n 0, 1) := dk_42 (dk_at dksX3_takesBack_0 9 rfl rfl)
theorem dX3_takesBack_10 : decode cX3_takesBack 10 = .ok (.iload_n 1, 1) := dk_27 (dk_at dksX3_takesBack_0 10 rfl rfl)
theorem dX3_takesBack_11 : decode cX3_takesBack 11 = .ok (.aload_n 0, 1) := dk_42 (dk_at dksX3_takesBack_0 11 rfl rfl)
theorem dX3_takesBack_12 : decode cX3_takesBack 12 = .ok (.getfield 16, 3) := dk_180 0 16 (dk_at dksX3_takesBack_0 12 rfl rfl)
theorem dX3_takesBack_15 : decode cX3_takesBack 15 = .ok (.iload_n 1, 1) := dk_27 (dk_at dksX3_takesBack_0 15 rfl rfl)
theorem dX3_takesBack_16 : decode cX3_takesBack 16 = .ok (.laload, 1) := dk_47 (dk_at dksX3_takesBack_0 16 rfl rfl)
theorem dX3_takesBack_17 : decode cX3_takesBack 17 = .ok (.invokevirtual 61, 3) := dk_182 0 61 (dk_at dksX3_takesBack_0 17 rfl rfl)
theorem dX3_takesBack_20 : decode cX3_takesBack 20 = .ok (.iinc 1 1, 3) := dk_132 1 1 (dk_at dksX3_takesBack_0 20 rfl rfl)
theorem dX3_takesBack_23 : decode cX3_takesBack 23 = .ok (.goto (-21), 3) := dk_167 255 235 (dk_at dksX3_takesBack_1 0 rfl rfl)
theorem dX3_takesBack_26 : decode cX3_takesBack 26 = .ok (.return_, 1) := dk_177 (dk_at dksX3_takesBack_1 3 rfl rfl)
abbrev cX3_smallestArea : ByteArray := prog_20_method_80_code
def yX3_smallestArea : MethodName := ⟨RX3, "smallestArea", "(I)I"⟩
def dkwX3_smallestArea_0 : List UInt8 := [42, 3, 181, 0, 48, 42, 27, 7, 182, 1, 53, 153, 0, 11, 42, 27, 182, 1, 75, 167, 0, 4, 3, 172]
abbrev dktX3_smallestArea_0 : List UInt8 := dkwX3_smallestArea_0 ++ []
theorem dksX3_smallestArea_0 : cX3_smallestArea.data.toList.drop 0 = dktX3_smallestArea_0 := by decide +kernel
theorem dX3_smallestArea_0 : decode cX3_smallestArea 0 = .ok (.aload_n 0, 1) := dk_42 (dk_at dksX3_smallestArea_0 0 rfl rfl)
theorem dX3_smallestArea_1 : decode cX3_smallestArea 1 = .ok (.iconst 0, 1) := dk_3 (dk_at dksX3_smallestArea_0 1 rfl rfl)
theorem dX3_smallestArea_2 : decode cX3_smallestArea 2 = .ok (.putfield 48, 3) := dk_181 0 48 (dk_at dksX3_smallestArea_0 2 rfl rfl)
theorem dX3_smallestArea_5 : decode cX3_smallestArea 5 = .ok (.aload_n 0, 1) := dk_42 (dk_at dksX3_smallestArea_0 5 rfl rfl)
theorem dX3_smallestArea_6 : decode cX3_smallestArea 6 = .ok (.iload_n 1, 1) := dk_27 (dk_at dksX3_smallestArea_0 6 rfl rfl)
theorem dX3_smallestArea_7 : decode cX3_smallestArea 7 = .ok (.iconst 4, 1) := dk_7 (dk_at dksX3_smallestArea_0 7 rfl rfl)
theorem dX3_smallestArea_8 : decode cX3_smallestArea 8 = .ok (.invokevirtual 309, 3) := dk_182 1 53 (dk_at dksX3_smallestArea_0 8 rfl rfl)
theorem dX3_smallestArea_11 : decode cX3_smallestArea 11 = .ok (.ifCond .eq 11, 3) := dk_153 0 11 (dk_at dksX3_smallestArea_0 11 rfl rfl)
theorem dX3_smallestArea_14 : decode cX3_smallestArea 14 = .ok (.aload_n 0, 1) := dk_42 (dk_at dksX3_smallestArea_0 14 rfl rfl)
theorem dX3_smallestArea_15 : decode cX3_smallestArea 15 = .ok (.iload_n 1, 1) := dk_27 (dk_at dksX3_smallestArea_0 15 rfl rfl)
theorem dX3_smallestArea_16 : decode cX3_smallestArea 16 = .ok (.invokevirtual 331, 3) := dk_182 1 75 (dk_at dksX3_smallestArea_0 16 rfl rfl)
theorem dX3_smallestArea_19 : decode cX3_smallestArea 19 = .ok (.goto 4, 3) := dk_167 0 4 (dk_at dksX3_smallestArea_0 19 rfl rfl)
theorem dX3_smallestArea_22 : decode cX3_smallestArea 22 = .ok (.iconst 0, 1) := dk_3 (dk_at dksX3_smallestArea_0 22 rfl rfl)
theorem dX3_smallestArea_23 : decode cX3_smallestArea 23 = .ok (.ireturn, 1) := dk_172 (dk_at dksX3_smallestArea_0 23 rfl rfl)
abbrev cX3_smallest : ByteArray := prog_20_method_55_code
def yX3_smallest : MethodName := ⟨RX3, "smallest", "(I)I"⟩
def dkwX3_smallest_2 : List UInt8 := [54, 4, 132, 5, 1, 167, 255, 218, 42, 16, 34, 27, 96, 32, 182, 0, 61, 21, 4, 172]
abbrev dktX3_smallest_2 : List UInt8 := dkwX3_smallest_2 ++ []
def dkwX3_smallest_1 : List UInt8 := [2, 160, 0, 31, 42, 16, 34, 27, 96, 21, 5, 133, 182, 0, 61, 42, 182, 1, 44, 153, 0, 7, 21, 5]
abbrev dktX3_smallest_1 : List UInt8 := dkwX3_smallest_1 ++ dktX3_smallest_2
def dkwX3_smallest_0 : List UInt8 := [42, 16, 34, 27, 96, 182, 0, 54, 65, 2, 54, 4, 4, 54, 5, 21, 5, 16, 50, 163, 0, 37, 21, 4]
abbrev dktX3_smallest_0 : List UInt8 := dkwX3_smallest_0 ++ dktX3_smallest_1
theorem dksX3_smallest_0 : cX3_smallest.data.toList.drop 0 = dktX3_smallest_0 := by decide +kernel
theorem dksX3_smallest_1 : cX3_smallest.data.toList.drop 24 = dktX3_smallest_1 := dk_seg dksX3_smallest_0 24 rfl rfl
theorem dksX3_smallest_2 : cX3_smallest.data.toList.drop 48 = dktX3_smallest_2 := dk_seg dksX3_smallest_1 24 rfl rfl
theorem dX3_smallest_0 : decode cX3_smallest 0 = .ok (.aload_n 0, 1) := dk_42 (dk_at dksX3_smallest_0 0 rfl rfl)
theorem dX3_smallest_1 : decode cX3_smallest 1 = .ok (.bipush 34, 2) := dk_16 34 (dk_at dksX3_smallest_0 1 rfl rfl)
theorem dX3_smallest_3 : decode cX3_smallest 3 = .ok (.iload_n 1, 1) := dk_27 (dk_at dksX3_smallest_0 3 rfl rfl)
theorem dX3_smallest_4 : decode cX3_smallest 4 = .ok (.iadd, 1) := dk_96 (dk_at dksX3_smallest_0 4 rfl rfl)
theorem dX3_smallest_5 : decode cX3_smallest 5 = .ok (.invokevirtual 54, 3) := dk_182 0 54 (dk_at dksX3_smallest_0 5 rfl rfl)
theorem dX3_smallest_8 : decode cX3_smallest 8 = .ok (.lstore_n 2, 1) := dk_65 (dk_at dksX3_smallest_0 8 rfl rfl)
theorem dX3_smallest_9 : decode cX3_smallest 9 = .ok (.iconst (-1), 1) := dk_2 (dk_at dksX3_smallest_0 9 rfl rfl)
theorem dX3_smallest_10 : decode cX3_smallest 10 = .ok (.istore 4, 2) := dk_54 4 (dk_at dksX3_smallest_0 10 rfl rfl)
theorem dX3_smallest_12 : decode cX3_smallest 12 = .ok (.iconst 1, 1) := dk_4 (dk_at dksX3_smallest_0 12 rfl rfl)
theorem dX3_smallest_13 : decode cX3_smallest 13 = .ok (.istore 5, 2) := dk_54 5 (dk_at dksX3_smallest_0 13 rfl rfl)
theorem dX3_smallest_15 : decode cX3_smallest 15 = .ok (.iload 5, 2) := dk_21 5 (dk_at dksX3_smallest_0 15 rfl rfl)
theorem dX3_smallest_17 : decode cX3_smallest 17 = .ok (.bipush 50, 2) := dk_16 50 (dk_at dksX3_smallest_0 17 rfl rfl)
theorem dX3_smallest_19 : decode cX3_smallest 19 = .ok (.if_icmp .gt 37, 3) := dk_163 0 37 (dk_at dksX3_smallest_0 19 rfl rfl)
theorem dX3_smallest_22 : decode cX3_smallest 22 = .ok (.iload 4, 2) := dk_21 4 (dk_at dksX3_smallest_0 22 rfl rfl)
theorem dX3_smallest_24 : decode cX3_smallest 24 = .ok (.iconst (-1), 1) := dk_2 (dk_at dksX3_smallest_1 0 rfl rfl)
theorem dX3_smallest_25 : decode cX3_smallest 25 = .ok (.if_icmp .ne 31, 3) := dk_160 0 31 (dk_at dksX3_smallest_1 1 rfl rfl)
theorem dX3_smallest_28 : decode cX3_smallest 28 = .ok (.aload_n 0, 1) := dk_42 (dk_at dksX3_smallest_1 4 rfl rfl)
theorem dX3_smallest_29 : decode cX3_smallest 29 = .ok (.bipush 34, 2) := dk_16 34 (dk_at dksX3_smallest_1 5 rfl rfl)
theorem dX3_smallest_31 : decode cX3_smallest 31 = .ok (.iload_n 1, 1) := dk_27 (dk_at dksX3_smallest_1 7 rfl rfl)
theorem dX3_smallest_32 : decode cX3_smallest 32 = .ok (.iadd, 1) := dk_96 (dk_at dksX3_smallest_1 8 rfl rfl)
theorem dX3_smallest_33 : decode cX3_smallest 33 = .ok (.iload 5, 2) := dk_21 5 (dk_at dksX3_smallest_1 9 rfl rfl)
theorem dX3_smallest_35 : decode cX3_smallest 35 = .ok (.i2l, 1) := dk_133 (dk_at dksX3_smallest_1 11 rfl rfl)
theorem dX3_smallest_36 : decode cX3_smallest 36 = .ok (.invokevirtual 61, 3) := dk_182 0 61 (dk_at dksX3_smallest_1 12 rfl rfl)
theorem dX3_smallest_39 : decode cX3_smallest 39 = .ok (.aload_n 0, 1) := dk_42 (dk_at dksX3_smallest_1 15 rfl rfl)
theorem dX3_smallest_40 : decode cX3_smallest 40 = .ok (.invokevirtual 300, 3) := dk_182 1 44 (dk_at dksX3_smallest_1 16 rfl rfl)
theorem dX3_smallest_43 : decode cX3_smallest 43 = .ok (.ifCond .eq 7, 3) := dk_153 0 7 (dk_at dksX3_smallest_1 19 rfl rfl)
theorem dX3_smallest_46 : decode cX3_smallest 46 = .ok (.iload 5, 2) := dk_21 5 (dk_at dksX3_smallest_1 22 rfl rfl)
theorem dX3_smallest_48 : decode cX3_smallest 48 = .ok (.istore 4, 2) := dk_54 4 (dk_at dksX3_smallest_2 0 rfl rfl)
theorem dX3_smallest_50 : decode cX3_smallest 50 = .ok (.iinc 5 1, 3) := dk_132 5 1 (dk_at dksX3_smallest_2 2 rfl rfl)
theorem dX3_smallest_53 : decode cX3_smallest 53 = .ok (.goto (-38), 3) := dk_167 255 218 (dk_at dksX3_smallest_2 5 rfl rfl)
theorem dX3_smallest_56 : decode cX3_smallest 56 = .ok (.aload_n 0, 1) := dk_42 (dk_at dksX3_smallest_2 8 rfl rfl)
theorem dX3_smallest_57 : decode cX3_smallest 57 = .ok (.bipush 34, 2) := dk_16 34 (dk_at dksX3_smallest_2 9 rfl rfl)
theorem dX3_smallest_59 : decode cX3_smallest 59 = .ok (.iload_n 1, 1) := dk_27 (dk_at dksX3_smallest_2 11 rfl rfl)
theorem dX3_smallest_60 : decode cX3_smallest 60 = .ok (.iadd, 1) := dk_96 (dk_at dksX3_smallest_2 12 rfl rfl)
theorem dX3_smallest_61 : decode cX3_smallest 61 = .ok (.lload_n 2, 1) := dk_32 (dk_at dksX3_smallest_2 13 rfl rfl)
theorem dX3_smallest_62 : decode cX3_smallest 62 = .ok (.invokevirtual 61, 3) := dk_182 0 61 (dk_at dksX3_smallest_2 14 rfl rfl)
theorem dX3_smallest_65 : decode cX3_smallest 65 = .ok (.iload 4, 2) := dk_21 4 (dk_at dksX3_smallest_2 17 rfl rfl)
theorem dX3_smallest_67 : decode cX3_smallest 67 = .ok (.ireturn, 1) := dk_172 (dk_at dksX3_smallest_2 19 rfl rfl)
abbrev cX3_setArea : ByteArray := prog_20_method_81_code
def yX3_setArea : MethodName := ⟨RX3, "setArea", "(II)I"⟩
def dkwX3_setArea_2 : List UInt8 := [182, 1, 50, 136, 172]
abbrev dktX3_setArea_2 : List UInt8 := dkwX3_setArea_2 ++ []
def dkwX3_setArea_1 : List UInt8 := [5, 182, 0, 210, 154, 0, 5, 3, 172, 42, 182, 0, 217, 42, 16, 34, 27, 96, 28, 133, 182, 0, 61, 42]
abbrev dktX3_setArea_1 : List UInt8 := dkwX3_setArea_1 ++ dktX3_setArea_2
def dkwX3_setArea_0 : List UInt8 := [42, 3, 181, 0, 48, 42, 27, 7, 182, 1, 53, 153, 0, 20, 42, 28, 133, 10, 20, 0, 185, 184, 0, 120]
abbrev dktX3_setArea_0 : List UInt8 := dkwX3_setArea_0 ++ dktX3_setArea_1
theorem dksX3_setArea_0 : cX3_setArea.data.toList.drop 0 = dktX3_setArea_0 := by decide +kernel
theorem dksX3_setArea_1 : cX3_setArea.data.toList.drop 24 = dktX3_setArea_1 := dk_seg dksX3_setArea_0 24 rfl rfl
theorem dksX3_setArea_2 : cX3_setArea.data.toList.drop 48 = dktX3_setArea_2 := dk_seg dksX3_setArea_1 24 rfl rfl
theorem dX3_setArea_0 : decode cX3_setArea 0 = .ok (.aload_n 0, 1) := dk_42 (dk_at dksX3_setArea_0 0 rfl rfl)
theorem dX3_setArea_1 : decode cX3_setArea 1 = .ok (.iconst 0, 1) := dk_3 (dk_at dksX3_setArea_0 1 rfl rfl)
theorem dX3_setArea_2 : decode cX3_setArea 2 = .ok (.putfield 48, 3) := dk_181 0 48 (dk_at dksX3_setArea_0 2 rfl rfl)
theorem dX3_setArea_5 : decode cX3_setArea 5 = .ok (.aload_n 0, 1) := dk_42 (dk_at dksX3_setArea_0 5 rfl rfl)
theorem dX3_setArea_6 : decode cX3_setArea 6 = .ok (.iload_n 1, 1) := dk_27 (dk_at dksX3_setArea_0 6 rfl rfl)
theorem dX3_setArea_7 : decode cX3_setArea 7 = .ok (.iconst 4, 1) := dk_7 (dk_at dksX3_setArea_0 7 rfl rfl)
theorem dX3_setArea_8 : decode cX3_setArea 8 = .ok (.invokevirtual 309, 3) := dk_182 1 53 (dk_at dksX3_setArea_0 8 rfl rfl)
theorem dX3_setArea_11 : decode cX3_setArea 11 = .ok (.ifCond .eq 20, 3) := dk_153 0 20 (dk_at dksX3_setArea_0 11 rfl rfl)
theorem dX3_setArea_14 : decode cX3_setArea 14 = .ok (.aload_n 0, 1) := dk_42 (dk_at dksX3_setArea_0 14 rfl rfl)
theorem dX3_setArea_15 : decode cX3_setArea 15 = .ok (.iload_n 2, 1) := dk_28 (dk_at dksX3_setArea_0 15 rfl rfl)
theorem dX3_setArea_16 : decode cX3_setArea 16 = .ok (.i2l, 1) := dk_133 (dk_at dksX3_setArea_0 16 rfl rfl)
theorem dX3_setArea_17 : decode cX3_setArea 17 = .ok (.lconst 1, 1) := dk_10 (dk_at dksX3_setArea_0 17 rfl rfl)
theorem dX3_setArea_18 : decode cX3_setArea 18 = .ok (.ldc2_w 185, 3) := dk_20 0 185 (dk_at dksX3_setArea_0 18 rfl rfl)
theorem dX3_setArea_21 : decode cX3_setArea 21 = .ok (.invokestatic 120, 3) := dk_184 0 120 (dk_at dksX3_setArea_0 21 rfl rfl)
theorem dX3_setArea_24 : decode cX3_setArea 24 = .ok (.iconst 2, 1) := dk_5 (dk_at dksX3_setArea_1 0 rfl rfl)
theorem dX3_setArea_25 : decode cX3_setArea 25 = .ok (.invokevirtual 210, 3) := dk_182 0 210 (dk_at dksX3_setArea_1 1 rfl rfl)
theorem dX3_setArea_28 : decode cX3_setArea 28 = .ok (.ifCond .ne 5, 3) := dk_154 0 5 (dk_at dksX3_setArea_1 4 rfl rfl)
theorem dX3_setArea_31 : decode cX3_setArea 31 = .ok (.iconst 0, 1) := dk_3 (dk_at dksX3_setArea_1 7 rfl rfl)
theorem dX3_setArea_32 : decode cX3_setArea 32 = .ok (.ireturn, 1) := dk_172 (dk_at dksX3_setArea_1 8 rfl rfl)
theorem dX3_setArea_33 : decode cX3_setArea 33 = .ok (.aload_n 0, 1) := dk_42 (dk_at dksX3_setArea_1 9 rfl rfl)
theorem dX3_setArea_34 : decode cX3_setArea 34 = .ok (.invokevirtual 217, 3) := dk_182 0 217 (dk_at dksX3_setArea_1 10 rfl rfl)
theorem dX3_setArea_37 : decode cX3_setArea 37 = .ok (.aload_n 0, 1) := dk_42 (dk_at dksX3_setArea_1 13 rfl rfl)
theorem dX3_setArea_38 : decode cX3_setArea 38 = .ok (.bipush 34, 2) := dk_16 34 (dk_at dksX3_setArea_1 14 rfl rfl)
theorem dX3_setArea_40 : decode cX3_setArea 40 = .ok (.iload_n 1, 1) := dk_27 (dk_at dksX3_setArea_1 16 rfl rfl)
theorem dX3_setArea_41 : decode cX3_setArea 41 = .ok (.iadd, 1) := dk_96 (dk_at dksX3_setArea_1 17 rfl rfl)
theorem dX3_setArea_42 : decode cX3_setArea 42 = .ok (.iload_n 2, 1) := dk_28 (dk_at dksX3_setArea_1 18 rfl rfl)
theorem dX3_setArea_43 : decode cX3_setArea 43 = .ok (.i2l, 1) := dk_133 (dk_at dksX3_setArea_1 19 rfl rfl)
theorem dX3_setArea_44 : decode cX3_setArea 44 = .ok (.invokevirtual 61, 3) := dk_182 0 61 (dk_at dksX3_setArea_1 20 rfl rfl)
theorem dX3_setArea_47 : decode cX3_setArea 47 = .ok (.aload_n 0, 1) := dk_42 (dk_at dksX3_setArea_1 23 rfl rfl)
theorem dX3_setArea_48 : decode cX3_setArea 48 = .ok (.invokevirtual 306, 3) := dk_182 1 50 (dk_at dksX3_setArea_2 0 rfl rfl)
theorem dX3_setArea_51 : decode cX3_setArea 51 = .ok (.l2i, 1) := dk_136 (dk_at dksX3_setArea_2 3 rfl rfl)
theorem dX3_setArea_52 : decode cX3_setArea 52 = .ok (.ireturn, 1) := dk_172 (dk_at dksX3_setArea_2 4 rfl rfl)
abbrev cX3_addMember : ByteArray := prog_20_method_82_code
def yX3_addMember : MethodName := ⟨RX3, "addMember", "(III)I"⟩
def dkwX3_addMember_6 : List UInt8 := [182, 0, 61, 42, 8, 182, 0, 220, 4, 100, 172]
abbrev dktX3_addMember_6 : List UInt8 := dkwX3_addMember_6 ++ []
def dkwX3_addMember_5 : List UInt8 := [133, 182, 0, 61, 42, 21, 4, 5, 96, 29, 133, 182, 0, 61, 42, 8, 42, 8, 182, 0, 54, 10, 97]
abbrev dktX3_addMember_5 : List UInt8 := dkwX3_addMember_5 ++ dktX3_addMember_6
def dkwX3_addMember_4 : List UInt8 := [6, 42, 8, 182, 0, 220, 104, 96, 54, 4, 42, 21, 4, 27, 133, 182, 0, 61, 42, 21, 4, 4, 96, 28]
abbrev dktX3_addMember_4 : List UInt8 := dkwX3_addMember_4 ++ dktX3_addMember_5
def dkwX3_addMember_3 : List UInt8 := [148, 156, 0, 7, 4, 167, 0, 4, 3, 6, 182, 0, 210, 154, 0, 5, 3, 172, 42, 182, 0, 217, 16, 40]
abbrev dktX3_addMember_3 : List UInt8 := dkwX3_addMember_3 ++ dktX3_addMember_4
def dkwX3_addMember_2 : List UInt8 := [154, 0, 5, 3, 172, 42, 42, 27, 28, 182, 1, 56, 2, 160, 0, 19, 42, 8, 182, 0, 54, 20, 1, 78]
abbrev dktX3_addMember_2 : List UInt8 := dkwX3_addMember_2 ++ dktX3_addMember_3
def dkwX3_addMember_1 : List UInt8 := [29, 7, 182, 1, 53, 153, 0, 21, 42, 27, 28, 159, 0, 7, 4, 167, 0, 4, 3, 5, 182, 0, 210]
abbrev dktX3_addMember_1 : List UInt8 := dkwX3_addMember_1 ++ dktX3_addMember_2
def dkwX3_addMember_0 : List UInt8 := [42, 3, 181, 0, 48, 42, 27, 6, 182, 1, 53, 153, 0, 39, 42, 28, 6, 182, 1, 53, 153, 0, 30, 42]
abbrev dktX3_addMember_0 : List UInt8 := dkwX3_addMember_0 ++ dktX3_addMember_1
theorem dksX3_addMember_0 : cX3_addMember.data.toList.drop 0 = dktX3_addMember_0 := by decide +kernel
theorem dksX3_addMember_1 : cX3_addMember.data.toList.drop 24 = dktX3_addMember_1 := dk_seg dksX3_addMember_0 24 rfl rfl
theorem dksX3_addMember_2 : cX3_addMember.data.toList.drop 47 = dktX3_addMember_2 := dk_seg dksX3_addMember_1 23 rfl rfl
theorem dksX3_addMember_3 : cX3_addMember.data.toList.drop 71 = dktX3_addMember_3 := dk_seg dksX3_addMember_2 24 rfl rfl
theorem dksX3_addMember_4 : cX3_addMember.data.toList.drop 95 = dktX3_addMember_4 := dk_seg dksX3_addMember_3 24 rfl rfl
theorem dksX3_addMember_5 : cX3_addMember.data.toList.drop 119 = dktX3_addMember_5 := dk_seg dksX3_addMember_4 24 rfl rfl
theorem dksX3_addMember_6 : cX3_addMember.data.toList.drop 142 = dktX3_addMember_6 := dk_seg dksX3_addMember_5 23 rfl rfl
theorem dX3_addMember_0 : decode cX3_addMember 0 = .ok (.aload_n 0, 1) := dk_42 (dk_at dksX3_addMember_0 0 rfl rfl)
theorem dX3_addMember_1 : decode cX3_addMember 1 = .ok (.iconst 0, 1) := dk_3 (dk_at dksX3_addMember_0 1 rfl rfl)
theorem dX3_addMember_2 : decode cX3_addMember 2 = .ok (.putfield 48, 3) := dk_181 0 48 (dk_at dksX3_addMember_0 2 rfl rfl)
theorem dX3_addMember_5 : decode cX3_addMember 5 = .ok (.aload_n 0, 1) := dk_42 (dk_at dksX3_addMember_0 5 rfl rfl)
theorem dX3_addMember_6 : decode cX3_addMember 6 = .ok (.iload_n 1, 1) := dk_27 (dk_at dksX3_addMember_0 6 rfl rfl)
theorem dX3_addMember_7 : decode cX3_addMember 7 = .ok (.iconst 3, 1) := dk_6 (dk_at dksX3_addMember_0 7 rfl rfl)
theorem dX3_addMember_8 : decode cX3_addMember 8 = .ok (.invokevirtual 309, 3) := dk_182 1 53 (dk_at dksX3_addMember_0 8 rfl rfl)
theorem dX3_addMember_11 : decode cX3_addMember 11 = .ok (.ifCond .eq 39, 3) := dk_153 0 39 (dk_at dksX3_addMember_0 11 rfl rfl)
theorem dX3_addMember_14 : decode cX3_addMember 14 = .ok (.aload_n 0, 1) := dk_42 (dk_at dksX3_addMember_0 14 rfl rfl)
theorem dX3_addMember_15 : decode cX3_addMember 15 = .ok (.iload_n 2, 1) := dk_28 (dk_at dksX3_addMember_0 15 rfl rfl)
theorem dX3_addMember_16 : decode cX3_addMember 16 = .ok (.iconst 3, 1) := dk_6 (dk_at dksX3_addMember_0 16 rfl rfl)
theorem dX3_addMember_17 : decode cX3_addMember 17 = .ok (.invokevirtual 309, 3) := dk_182 1 53 (dk_at dksX3_addMember_0 17 rfl rfl)
theorem dX3_addMember_20 : decode cX3_addMember 20 = .ok (.ifCond .eq 30, 3) := dk_153 0 30 (dk_at dksX3_addMember_0 20 rfl rfl)
theorem dX3_addMember_23 : decode cX3_addMember 23 = .ok (.aload_n 0, 1) := dk_42 (dk_at dksX3_addMember_0 23 rfl rfl)
theorem dX3_addMember_24 : decode cX3_addMember 24 = .ok (.iload_n 3, 1) := dk_29 (dk_at dksX3_addMember_1 0 rfl rfl)
theorem dX3_addMember_25 : decode cX3_addMember 25 = .ok (.iconst 4, 1) := dk_7 (dk_at dksX3_addMember_1 1 rfl rfl)
theorem dX3_addMember_26 : decode cX3_addMember 26 = .ok (.invokevirtual 309, 3) := dk_182 1 53 (dk_at dksX3_addMember_1 2 rfl rfl)
theorem dX3_addMember_29 : decode cX3_addMember 29 = .ok (.ifCond .eq 21, 3) := dk_153 0 21 (dk_at dksX3_addMember_1 5 rfl rfl)
theorem dX3_addMember_32 : decode cX3_addMember 32 = .ok (.aload_n 0, 1) := dk_42 (dk_at dksX3_addMember_1 8 rfl rfl)
theorem dX3_addMember_33 : decode cX3_addMember 33 = .ok (.iload_n 1, 1) := dk_27 (dk_at dksX3_addMember_1 9 rfl rfl)
theorem dX3_addMember_34 : decode cX3_addMember 34 = .ok (.iload_n 2, 1) := dk_28 (dk_at dksX3_addMember_1 10 rfl rfl)
theorem dX3_addMember_35 : decode cX3_addMember 35 = .ok (.if_icmp .eq 7, 3) := dk_159 0 7 (dk_at dksX3_addMember_1 11 rfl rfl)
theorem dX3_addMember_38 : decode cX3_addMember 38 = .ok (.iconst 1, 1) := dk_4 (dk_at dksX3_addMember_1 14 rfl rfl)
theorem dX3_addMember_39 : decode cX3_addMember 39 = .ok (.goto 4, 3) := dk_167 0 4 (dk_at dksX3_addMember_1 15 rfl rfl)
theorem dX3_addMember_42 : decode cX3_addMember 42 = .ok (.iconst 0, 1) := dk_3 (dk_at dksX3_addMember_1 18 rfl rfl)
theorem dX3_addMember_43 : decode cX3_addMember 43 = .ok (.iconst 2, 1) := dk_5 (dk_at dksX3_addMember_1 19 rfl rfl)
theorem dX3_addMember_44 : decode cX3_addMember 44 = .ok (.invokevirtual 210, 3) := dk_182 0 210 (dk_at dksX3_addMember_1 20 rfl rfl)
theorem dX3_addMember_47 : decode cX3_addMember 47 = .ok (.ifCond .ne 5, 3) := dk_154 0 5 (dk_at dksX3_addMember_2 0 rfl rfl)
theorem dX3_addMember_50 : decode cX3_addMember 50 = .ok (.iconst 0, 1) := dk_3 (dk_at dksX3_addMember_2 3 rfl rfl)
theorem dX3_addMember_51 : decode cX3_addMember 51 = .ok (.ireturn, 1) := dk_172 (dk_at dksX3_addMember_2 4 rfl rfl)
theorem dX3_addMember_52 : decode cX3_addMember 52 = .ok (.aload_n 0, 1) := dk_42 (dk_at dksX3_addMember_2 5 rfl rfl)
theorem dX3_addMember_53 : decode cX3_addMember 53 = .ok (.aload_n 0, 1) := dk_42 (dk_at dksX3_addMember_2 6 rfl rfl)
theorem dX3_addMember_54 : decode cX3_addMember 54 = .ok (.iload_n 1, 1) := dk_27 (dk_at dksX3_addMember_2 7 rfl rfl)
theorem dX3_addMember_55 : decode cX3_addMember 55 = .ok (.iload_n 2, 1) := dk_28 (dk_at dksX3_addMember_2 8 rfl rfl)
theorem dX3_addMember_56 : decode cX3_addMember 56 = .ok (.invokevirtual 312, 3) := dk_182 1 56 (dk_at dksX3_addMember_2 9 rfl rfl)
theorem dX3_addMember_59 : decode cX3_addMember 59 = .ok (.iconst (-1), 1) := dk_2 (dk_at dksX3_addMember_2 12 rfl rfl)
theorem dX3_addMember_60 : decode cX3_addMember 60 = .ok (.if_icmp .ne 19, 3) := dk_160 0 19 (dk_at dksX3_addMember_2 13 rfl rfl)
theorem dX3_addMember_63 : decode cX3_addMember 63 = .ok (.aload_n 0, 1) := dk_42 (dk_at dksX3_addMember_2 16 rfl rfl)
theorem dX3_addMember_64 : decode cX3_addMember 64 = .ok (.iconst 5, 1) := dk_8 (dk_at dksX3_addMember_2 17 rfl rfl)
theorem dX3_addMember_65 : decode cX3_addMember 65 = .ok (.invokevirtual 54, 3) := dk_182 0 54 (dk_at dksX3_addMember_2 18 rfl rfl)
theorem dX3_addMember_68 : decode cX3_addMember 68 = .ok (.ldc2_w 334, 3) := dk_20 1 78 (dk_at dksX3_addMember_2 21 rfl rfl)
theorem dX3_addMember_71 : decode cX3_addMember 71 = .ok (.lcmp, 1) := dk_148 (dk_at dksX3_addMember_3 0 rfl rfl)
theorem dX3_addMember_72 : decode cX3_addMember 72 = .ok (.ifCond .ge 7, 3) := dk_156 0 7 (dk_at dksX3_addMember_3 1 rfl rfl)
theorem dX3_addMember_75 : decode cX3_addMember 75 = .ok (.iconst 1, 1) := dk_4 (dk_at dksX3_addMember_3 4 rfl rfl)
theorem dX3_addMember_76 : decode cX3_addMember 76 = .ok (.goto 4, 3) := dk_167 0 4 (dk_at dksX3_addMember_3 5 rfl rfl)
theorem dX3_addMember_79 : decode cX3_addMember 79 = .ok (.iconst 0, 1) := dk_3 (dk_at dksX3_addMember_3 8 rfl rfl)
theorem dX3_addMember_80 : decode cX3_addMember 80 = .ok (.iconst 3, 1) := dk_6 (dk_at dksX3_addMember_3 9 rfl rfl)
theorem dX3_addMember_81 : decode cX3_addMember 81 = .ok (.invokevirtual 210, 3) := dk_182 0 210 (dk_at dksX3_addMember_3 10 rfl rfl)
theorem dX3_addMember_84 : decode cX3_addMember 84 = .ok (.ifCond .ne 5, 3) := dk_154 0 5 (dk_at dksX3_addMember_3 13 rfl rfl)
theorem dX3_addMember_87 : decode cX3_addMember 87 = .ok (.iconst 0, 1) := dk_3 (dk_at dksX3_addMember_3 16 rfl rfl)
theorem dX3_addMember_88 : decode cX3_addMember 88 = .ok (.ireturn, 1) := dk_172 (dk_at dksX3_addMember_3 17 rfl rfl)
theorem dX3_addMember_89 : decode cX3_addMember 89 = .ok (.aload_n 0, 1) := dk_42 (dk_at dksX3_addMember_3 18 rfl rfl)
theorem dX3_addMember_90 : decode cX3_addMember 90 = .ok (.invokevirtual 217, 3) := dk_182 0 217 (dk_at dksX3_addMember_3 19 rfl rfl)
theorem dX3_addMember_93 : decode cX3_addMember 93 = .ok (.bipush 40, 2) := dk_16 40 (dk_at dksX3_addMember_3 22 rfl rfl)
theorem dX3_addMember_95 : decode cX3_addMember 95 = .ok (.iconst 3, 1) := dk_6 (dk_at dksX3_addMember_4 0 rfl rfl)
theorem dX3_addMember_96 : decode cX3_addMember 96 = .ok (.aload_n 0, 1) := dk_42 (dk_at dksX3_addMember_4 1 rfl rfl)
theorem dX3_addMember_97 : decode cX3_addMember 97 = .ok (.iconst 5, 1) := dk_8 (dk_at dksX3_addMember_4 2 rfl rfl)
theorem dX3_addMember_98 : decode cX3_addMember 98 = .ok (.invokevirtual 220, 3) := dk_182 0 220 (dk_at dksX3_addMember_4 3 rfl rfl)
theorem dX3_addMember_101 : decode cX3_addMember 101 = .ok (.imul, 1) := dk_104 (dk_at dksX3_addMember_4 6 rfl rfl)
theorem dX3_addMember_102 : decode cX3_addMember 102 = .ok (.iadd, 1) := dk_96 (dk_at dksX3_addMember_4 7 rfl rfl)
theorem dX3_addMember_103 : decode cX3_addMember 103 = .ok (.istore 4, 2) := dk_54 4 (dk_at dksX3_addMember_4 8 rfl rfl)
theorem dX3_addMember_105 : decode cX3_addMember 105 = .ok (.aload_n 0, 1) := dk_42 (dk_at dksX3_addMember_4 10 rfl rfl)
theorem dX3_addMember_106 : decode cX3_addMember 106 = .ok (.iload 4, 2) := dk_21 4 (dk_at dksX3_addMember_4 11 rfl rfl)
theorem dX3_addMember_108 : decode cX3_addMember 108 = .ok (.iload_n 1, 1) := dk_27 (dk_at dksX3_addMember_4 13 rfl rfl)
theorem dX3_addMember_109 : decode cX3_addMember 109 = .ok (.i2l, 1) := dk_133 (dk_at dksX3_addMember_4 14 rfl rfl)
theorem dX3_addMember_110 : decode cX3_addMember 110 = .ok (.invokevirtual 61, 3) := dk_182 0 61 (dk_at dksX3_addMember_4 15 rfl rfl)
theorem dX3_addMember_113 : decode cX3_addMember 113 = .ok (.aload_n 0, 1) := dk_42 (dk_at dksX3_addMember_4 18 rfl rfl)
theorem dX3_addMember_114 : decode cX3_addMember 114 = .ok (.iload 4, 2) := dk_21 4 (dk_at dksX3_addMember_4 19 rfl rfl)
theorem dX3_addMember_116 : decode cX3_addMember 116 = .ok (.iconst 1, 1) := dk_4 (dk_at dksX3_addMember_4 21 rfl rfl)
theorem dX3_addMember_117 : decode cX3_addMember 117 = .ok (.iadd, 1) := dk_96 (dk_at dksX3_addMember_4 22 rfl rfl)
theorem dX3_addMember_118 : decode cX3_addMember 118 = .ok (.iload_n 2, 1) := dk_28 (dk_at dksX3_addMember_4 23 rfl rfl)
theorem dX3_addMember_119 : decode cX3_addMember 119 = .ok (.i2l, 1) := dk_133 (dk_at dksX3_addMember_5 0 rfl rfl)
theorem dX3_addMember_120 : decode cX3_addMember 120 = .ok (.invokevirtual 61, 3) := dk_182 0 61 (dk_at dksX3_addMember_5 1 rfl rfl)
theorem dX3_addMember_123 : decode cX3_addMember 123 = .ok (.aload_n 0, 1) := dk_42 (dk_at dksX3_addMember_5 4 rfl rfl)
theorem dX3_addMember_124 : decode cX3_addMember 124 = .ok (.iload 4, 2) := dk_21 4 (dk_at dksX3_addMember_5 5 rfl rfl)
theorem dX3_addMember_126 : decode cX3_addMember 126 = .ok (.iconst 2, 1) := dk_5 (dk_at dksX3_addMember_5 7 rfl rfl)
theorem dX3_addMember_127 : decode cX3_addMember 127 = .ok (.iadd, 1) := dk_96 (dk_at dksX3_addMember_5 8 rfl rfl)
theorem dX3_addMember_128 : decode cX3_addMember 128 = .ok (.iload_n 3, 1) := dk_29 (dk_at dksX3_addMember_5 9 rfl rfl)
theorem dX3_addMember_129 : decode cX3_addMember 129 = .ok (.i2l, 1) := dk_133 (dk_at dksX3_addMember_5 10 rfl rfl)
theorem dX3_addMember_130 : decode cX3_addMember 130 = .ok (.invokevirtual 61, 3) := dk_182 0 61 (dk_at dksX3_addMember_5 11 rfl rfl)
theorem dX3_addMember_133 : decode cX3_addMember 133 = .ok (.aload_n 0, 1) := dk_42 (dk_at dksX3_addMember_5 14 rfl rfl)
theorem dX3_addMember_134 : decode cX3_addMember 134 = .ok (.iconst 5, 1) := dk_8 (dk_at dksX3_addMember_5 15 rfl rfl)
theorem dX3_addMember_135 : decode cX3_addMember 135 = .ok (.aload_n 0, 1) := dk_42 (dk_at dksX3_addMember_5 16 rfl rfl)
theorem dX3_addMember_136 : decode cX3_addMember 136 = .ok (.iconst 5, 1) := dk_8 (dk_at dksX3_addMember_5 17 rfl rfl)
theorem dX3_addMember_137 : decode cX3_addMember 137 = .ok (.invokevirtual 54, 3) := dk_182 0 54 (dk_at dksX3_addMember_5 18 rfl rfl)
theorem dX3_addMember_140 : decode cX3_addMember 140 = .ok (.lconst 1, 1) := dk_10 (dk_at dksX3_addMember_5 21 rfl rfl)
theorem dX3_addMember_141 : decode cX3_addMember 141 = .ok (.ladd, 1) := dk_97 (dk_at dksX3_addMember_5 22 rfl rfl)
theorem dX3_addMember_142 : decode cX3_addMember 142 = .ok (.invokevirtual 61, 3) := dk_182 0 61 (dk_at dksX3_addMember_6 0 rfl rfl)
theorem dX3_addMember_145 : decode cX3_addMember 145 = .ok (.aload_n 0, 1) := dk_42 (dk_at dksX3_addMember_6 3 rfl rfl)
theorem dX3_addMember_146 : decode cX3_addMember 146 = .ok (.iconst 5, 1) := dk_8 (dk_at dksX3_addMember_6 4 rfl rfl)
theorem dX3_addMember_147 : decode cX3_addMember 147 = .ok (.invokevirtual 220, 3) := dk_182 0 220 (dk_at dksX3_addMember_6 5 rfl rfl)
theorem dX3_addMember_150 : decode cX3_addMember 150 = .ok (.iconst 1, 1) := dk_4 (dk_at dksX3_addMember_6 8 rfl rfl)
theorem dX3_addMember_151 : decode cX3_addMember 151 = .ok (.isub, 1) := dk_100 (dk_at dksX3_addMember_6 9 rfl rfl)
theorem dX3_addMember_152 : decode cX3_addMember 152 = .ok (.ireturn, 1) := dk_172 (dk_at dksX3_addMember_6 10 rfl rfl)
abbrev cX3_removeMember : ByteArray := prog_20_method_83_code
def yX3_removeMember : MethodName := ⟨RX3, "removeMember", "(I)I"⟩
def dkwX3_removeMember_1 : List UInt8 := [182, 1, 41, 42, 8, 182, 0, 220, 172]
abbrev dktX3_removeMember_1 : List UInt8 := dkwX3_removeMember_1 ++ []
def dkwX3_removeMember_0 : List UInt8 := [42, 3, 181, 0, 48, 42, 27, 8, 182, 1, 53, 154, 0, 5, 3, 172, 42, 182, 0, 217, 42, 27]
abbrev dktX3_removeMember_0 : List UInt8 := dkwX3_removeMember_0 ++ dktX3_removeMember_1
theorem dksX3_removeMember_0 : cX3_removeMember.data.toList.drop 0 = dktX3_removeMember_0 := by decide +kernel
theorem dksX3_removeMember_1 : cX3_removeMember.data.toList.drop 22 = dktX3_removeMember_1 := dk_seg dksX3_removeMember_0 22 rfl rfl
theorem dX3_removeMember_0 : decode cX3_removeMember 0 = .ok (.aload_n 0, 1) := dk_42 (dk_at dksX3_removeMember_0 0 rfl rfl)
theorem dX3_removeMember_1 : decode cX3_removeMember 1 = .ok (.iconst 0, 1) := dk_3 (dk_at dksX3_removeMember_0 1 rfl rfl)
theorem dX3_removeMember_2 : decode cX3_removeMember 2 = .ok (.putfield 48, 3) := dk_181 0 48 (dk_at dksX3_removeMember_0 2 rfl rfl)
theorem dX3_removeMember_5 : decode cX3_removeMember 5 = .ok (.aload_n 0, 1) := dk_42 (dk_at dksX3_removeMember_0 5 rfl rfl)
theorem dX3_removeMember_6 : decode cX3_removeMember 6 = .ok (.iload_n 1, 1) := dk_27 (dk_at dksX3_removeMember_0 6 rfl rfl)
theorem dX3_removeMember_7 : decode cX3_removeMember 7 = .ok (.iconst 5, 1) := dk_8 (dk_at dksX3_removeMember_0 7 rfl rfl)
theorem dX3_removeMember_8 : decode cX3_removeMember 8 = .ok (.invokevirtual 309, 3) := dk_182 1 53 (dk_at dksX3_removeMember_0 8 rfl rfl)
theorem dX3_removeMember_11 : decode cX3_removeMember 11 = .ok (.ifCond .ne 5, 3) := dk_154 0 5 (dk_at dksX3_removeMember_0 11 rfl rfl)
theorem dX3_removeMember_14 : decode cX3_removeMember 14 = .ok (.iconst 0, 1) := dk_3 (dk_at dksX3_removeMember_0 14 rfl rfl)
theorem dX3_removeMember_15 : decode cX3_removeMember 15 = .ok (.ireturn, 1) := dk_172 (dk_at dksX3_removeMember_0 15 rfl rfl)
theorem dX3_removeMember_16 : decode cX3_removeMember 16 = .ok (.aload_n 0, 1) := dk_42 (dk_at dksX3_removeMember_0 16 rfl rfl)
theorem dX3_removeMember_17 : decode cX3_removeMember 17 = .ok (.invokevirtual 217, 3) := dk_182 0 217 (dk_at dksX3_removeMember_0 17 rfl rfl)
theorem dX3_removeMember_20 : decode cX3_removeMember 20 = .ok (.aload_n 0, 1) := dk_42 (dk_at dksX3_removeMember_0 20 rfl rfl)
theorem dX3_removeMember_21 : decode cX3_removeMember 21 = .ok (.iload_n 1, 1) := dk_27 (dk_at dksX3_removeMember_0 21 rfl rfl)
theorem dX3_removeMember_22 : decode cX3_removeMember 22 = .ok (.invokevirtual 297, 3) := dk_182 1 41 (dk_at dksX3_removeMember_1 0 rfl rfl)
theorem dX3_removeMember_25 : decode cX3_removeMember 25 = .ok (.aload_n 0, 1) := dk_42 (dk_at dksX3_removeMember_1 3 rfl rfl)
theorem dX3_removeMember_26 : decode cX3_removeMember 26 = .ok (.iconst 5, 1) := dk_8 (dk_at dksX3_removeMember_1 4 rfl rfl)
theorem dX3_removeMember_27 : decode cX3_removeMember 27 = .ok (.invokevirtual 220, 3) := dk_182 0 220 (dk_at dksX3_removeMember_1 5 rfl rfl)
theorem dX3_removeMember_30 : decode cX3_removeMember 30 = .ok (.ireturn, 1) := dk_172 (dk_at dksX3_removeMember_1 8 rfl rfl)
abbrev cX3_prune : ByteArray := prog_20_method_84_code
def yX3_prune : MethodName := ⟨RX3, "prune", "()I"⟩
def dkwX3_prune_2 : List UInt8 := [42, 28, 182, 1, 41, 132, 1, 1, 132, 2, 255, 167, 255, 230, 27, 172]
abbrev dktX3_prune_2 : List UInt8 := dkwX3_prune_2 ++ []
def dkwX3_prune_1 : List UInt8 := [60, 42, 8, 182, 0, 220, 4, 100, 61, 28, 155, 0, 28, 42, 28, 182, 1, 72, 154, 0, 6, 167, 0, 11]
abbrev dktX3_prune_1 : List UInt8 := dkwX3_prune_1 ++ dktX3_prune_2
def dkwX3_prune_0 : List UInt8 := [42, 3, 181, 0, 48, 42, 42, 182, 1, 44, 4, 182, 0, 210, 154, 0, 5, 3, 172, 42, 182, 0, 217, 3]
abbrev dktX3_prune_0 : List UInt8 := dkwX3_prune_0 ++ dktX3_prune_1
theorem dksX3_prune_0 : cX3_prune.data.toList.drop 0 = dktX3_prune_0 := by decide +kernel
theorem dksX3_prune_1 : cX3_prune.data.toList.drop 24 = dktX3_prune_1 := dk_seg dksX3_prune_0 24 rfl rfl
theorem dksX3_prune_2 : cX3_prune.data.toList.drop 48 = dktX3_prune_2 := dk_seg dksX3_prune_1 24 rfl rfl
theorem dX3_prune_0 : decode cX3_prune 0 = .ok (.aload_n 0, 1) := dk_42 (dk_at dksX3_prune_0 0 rfl rfl)
theorem dX3_prune_1 : decode cX3_prune 1 = .ok (.iconst 0, 1) := dk_3 (dk_at dksX3_prune_0 1 rfl rfl)
theorem dX3_prune_2 : decode cX3_prune 2 = .ok (.putfield 48, 3) := dk_181 0 48 (dk_at dksX3_prune_0 2 rfl rfl)
theorem dX3_prune_5 : decode cX3_prune 5 = .ok (.aload_n 0, 1) := dk_42 (dk_at dksX3_prune_0 5 rfl rfl)
theorem dX3_prune_6 : decode cX3_prune 6 = .ok (.aload_n 0, 1) := dk_42 (dk_at dksX3_prune_0 6 rfl rfl)
theorem dX3_prune_7 : decode cX3_prune 7 = .ok (.invokevirtual 300, 3) := dk_182 1 44 (dk_at dksX3_prune_0 7 rfl rfl)
theorem dX3_prune_10 : decode cX3_prune 10 = .ok (.iconst 1, 1) := dk_4 (dk_at dksX3_prune_0 10 rfl rfl)
theorem dX3_prune_11 : decode cX3_prune 11 = .ok (.invokevirtual 210, 3) := dk_182 0 210 (dk_at dksX3_prune_0 11 rfl rfl)
theorem dX3_prune_14 : decode cX3_prune 14 = .ok (.ifCond .ne 5, 3) := dk_154 0 5 (dk_at dksX3_prune_0 14 rfl rfl)
theorem dX3_prune_17 : decode cX3_prune 17 = .ok (.iconst 0, 1) := dk_3 (dk_at dksX3_prune_0 17 rfl rfl)
theorem dX3_prune_18 : decode cX3_prune 18 = .ok (.ireturn, 1) := dk_172 (dk_at dksX3_prune_0 18 rfl rfl)
theorem dX3_prune_19 : decode cX3_prune 19 = .ok (.aload_n 0, 1) := dk_42 (dk_at dksX3_prune_0 19 rfl rfl)
theorem dX3_prune_20 : decode cX3_prune 20 = .ok (.invokevirtual 217, 3) := dk_182 0 217 (dk_at dksX3_prune_0 20 rfl rfl)
theorem dX3_prune_23 : decode cX3_prune 23 = .ok (.iconst 0, 1) := dk_3 (dk_at dksX3_prune_0 23 rfl rfl)
theorem dX3_prune_24 : decode cX3_prune 24 = .ok (.istore_n 1, 1) := dk_60 (dk_at dksX3_prune_1 0 rfl rfl)
theorem dX3_prune_25 : decode cX3_prune 25 = .ok (.aload_n 0, 1) := dk_42 (dk_at dksX3_prune_1 1 rfl rfl)
theorem dX3_prune_26 : decode cX3_prune 26 = .ok (.iconst 5, 1) := dk_8 (dk_at dksX3_prune_1 2 rfl rfl)
theorem dX3_prune_27 : decode cX3_prune 27 = .ok (.invokevirtual 220, 3) := dk_182 0 220 (dk_at dksX3_prune_1 3 rfl rfl)
theorem dX3_prune_30 : decode cX3_prune 30 = .ok (.iconst 1, 1) := dk_4 (dk_at dksX3_prune_1 6 rfl rfl)
theorem dX3_prune_31 : decode cX3_prune 31 = .ok (.isub, 1) := dk_100 (dk_at dksX3_prune_1 7 rfl rfl)
theorem dX3_prune_32 : decode cX3_prune 32 = .ok (.istore_n 2, 1) := dk_61 (dk_at dksX3_prune_1 8 rfl rfl)
theorem dX3_prune_33 : decode cX3_prune 33 = .ok (.iload_n 2, 1) := dk_28 (dk_at dksX3_prune_1 9 rfl rfl)
theorem dX3_prune_34 : decode cX3_prune 34 = .ok (.ifCond .lt 28, 3) := dk_155 0 28 (dk_at dksX3_prune_1 10 rfl rfl)
theorem dX3_prune_37 : decode cX3_prune 37 = .ok (.aload_n 0, 1) := dk_42 (dk_at dksX3_prune_1 13 rfl rfl)
theorem dX3_prune_38 : decode cX3_prune 38 = .ok (.iload_n 2, 1) := dk_28 (dk_at dksX3_prune_1 14 rfl rfl)
theorem dX3_prune_39 : decode cX3_prune 39 = .ok (.invokevirtual 328, 3) := dk_182 1 72 (dk_at dksX3_prune_1 15 rfl rfl)
theorem dX3_prune_42 : decode cX3_prune 42 = .ok (.ifCond .ne 6, 3) := dk_154 0 6 (dk_at dksX3_prune_1 18 rfl rfl)
theorem dX3_prune_45 : decode cX3_prune 45 = .ok (.goto 11, 3) := dk_167 0 11 (dk_at dksX3_prune_1 21 rfl rfl)
theorem dX3_prune_48 : decode cX3_prune 48 = .ok (.aload_n 0, 1) := dk_42 (dk_at dksX3_prune_2 0 rfl rfl)
theorem dX3_prune_49 : decode cX3_prune 49 = .ok (.iload_n 2, 1) := dk_28 (dk_at dksX3_prune_2 1 rfl rfl)
theorem dX3_prune_50 : decode cX3_prune 50 = .ok (.invokevirtual 297, 3) := dk_182 1 41 (dk_at dksX3_prune_2 2 rfl rfl)
theorem dX3_prune_53 : decode cX3_prune 53 = .ok (.iinc 1 1, 3) := dk_132 1 1 (dk_at dksX3_prune_2 5 rfl rfl)
theorem dX3_prune_56 : decode cX3_prune 56 = .ok (.iinc 2 (-1), 3) := dk_132 2 255 (dk_at dksX3_prune_2 8 rfl rfl)
theorem dX3_prune_59 : decode cX3_prune 59 = .ok (.goto (-26), 3) := dk_167 255 230 (dk_at dksX3_prune_2 11 rfl rfl)
theorem dX3_prune_62 : decode cX3_prune 62 = .ok (.iload_n 1, 1) := dk_27 (dk_at dksX3_prune_2 14 rfl rfl)
theorem dX3_prune_63 : decode cX3_prune 63 = .ok (.ireturn, 1) := dk_172 (dk_at dksX3_prune_2 15 rfl rfl)
abbrev cX3_shrink : ByteArray := prog_20_method_85_code
def yX3_shrink : MethodName := ⟨RX3, "shrink", "(I)I"⟩
def dkwX3_shrink_2 : List UInt8 := [182, 0, 220, 62, 42, 182, 0, 217, 42, 16, 34, 27, 96, 28, 133, 182, 0, 61, 29, 172]
abbrev dktX3_shrink_2 : List UInt8 := dkwX3_shrink_2 ++ []
def dkwX3_shrink_1 : List UInt8 := [2, 159, 0, 7, 4, 167, 0, 4, 3, 5, 182, 0, 210, 154, 0, 5, 3, 172, 42, 16, 34, 27, 96]
abbrev dktX3_shrink_1 : List UInt8 := dkwX3_shrink_1 ++ dktX3_shrink_2
def dkwX3_shrink_0 : List UInt8 := [42, 3, 181, 0, 48, 42, 27, 7, 182, 1, 53, 154, 0, 5, 3, 172, 42, 27, 182, 1, 75, 61, 42, 28]
abbrev dktX3_shrink_0 : List UInt8 := dkwX3_shrink_0 ++ dktX3_shrink_1
theorem dksX3_shrink_0 : cX3_shrink.data.toList.drop 0 = dktX3_shrink_0 := by decide +kernel
theorem dksX3_shrink_1 : cX3_shrink.data.toList.drop 24 = dktX3_shrink_1 := dk_seg dksX3_shrink_0 24 rfl rfl
theorem dksX3_shrink_2 : cX3_shrink.data.toList.drop 47 = dktX3_shrink_2 := dk_seg dksX3_shrink_1 23 rfl rfl
theorem dX3_shrink_0 : decode cX3_shrink 0 = .ok (.aload_n 0, 1) := dk_42 (dk_at dksX3_shrink_0 0 rfl rfl)
theorem dX3_shrink_1 : decode cX3_shrink 1 = .ok (.iconst 0, 1) := dk_3 (dk_at dksX3_shrink_0 1 rfl rfl)
theorem dX3_shrink_2 : decode cX3_shrink 2 = .ok (.putfield 48, 3) := dk_181 0 48 (dk_at dksX3_shrink_0 2 rfl rfl)
theorem dX3_shrink_5 : decode cX3_shrink 5 = .ok (.aload_n 0, 1) := dk_42 (dk_at dksX3_shrink_0 5 rfl rfl)
theorem dX3_shrink_6 : decode cX3_shrink 6 = .ok (.iload_n 1, 1) := dk_27 (dk_at dksX3_shrink_0 6 rfl rfl)
theorem dX3_shrink_7 : decode cX3_shrink 7 = .ok (.iconst 4, 1) := dk_7 (dk_at dksX3_shrink_0 7 rfl rfl)
theorem dX3_shrink_8 : decode cX3_shrink 8 = .ok (.invokevirtual 309, 3) := dk_182 1 53 (dk_at dksX3_shrink_0 8 rfl rfl)
theorem dX3_shrink_11 : decode cX3_shrink 11 = .ok (.ifCond .ne 5, 3) := dk_154 0 5 (dk_at dksX3_shrink_0 11 rfl rfl)
theorem dX3_shrink_14 : decode cX3_shrink 14 = .ok (.iconst 0, 1) := dk_3 (dk_at dksX3_shrink_0 14 rfl rfl)
theorem dX3_shrink_15 : decode cX3_shrink 15 = .ok (.ireturn, 1) := dk_172 (dk_at dksX3_shrink_0 15 rfl rfl)
theorem dX3_shrink_16 : decode cX3_shrink 16 = .ok (.aload_n 0, 1) := dk_42 (dk_at dksX3_shrink_0 16 rfl rfl)
theorem dX3_shrink_17 : decode cX3_shrink 17 = .ok (.iload_n 1, 1) := dk_27 (dk_at dksX3_shrink_0 17 rfl rfl)
theorem dX3_shrink_18 : decode cX3_shrink 18 = .ok (.invokevirtual 331, 3) := dk_182 1 75 (dk_at dksX3_shrink_0 18 rfl rfl)
theorem dX3_shrink_21 : decode cX3_shrink 21 = .ok (.istore_n 2, 1) := dk_61 (dk_at dksX3_shrink_0 21 rfl rfl)
theorem dX3_shrink_22 : decode cX3_shrink 22 = .ok (.aload_n 0, 1) := dk_42 (dk_at dksX3_shrink_0 22 rfl rfl)
theorem dX3_shrink_23 : decode cX3_shrink 23 = .ok (.iload_n 2, 1) := dk_28 (dk_at dksX3_shrink_0 23 rfl rfl)
theorem dX3_shrink_24 : decode cX3_shrink 24 = .ok (.iconst (-1), 1) := dk_2 (dk_at dksX3_shrink_1 0 rfl rfl)
theorem dX3_shrink_25 : decode cX3_shrink 25 = .ok (.if_icmp .eq 7, 3) := dk_159 0 7 (dk_at dksX3_shrink_1 1 rfl rfl)
theorem dX3_shrink_28 : decode cX3_shrink 28 = .ok (.iconst 1, 1) := dk_4 (dk_at dksX3_shrink_1 4 rfl rfl)
theorem dX3_shrink_29 : decode cX3_shrink 29 = .ok (.goto 4, 3) := dk_167 0 4 (dk_at dksX3_shrink_1 5 rfl rfl)
theorem dX3_shrink_32 : decode cX3_shrink 32 = .ok (.iconst 0, 1) := dk_3 (dk_at dksX3_shrink_1 8 rfl rfl)
theorem dX3_shrink_33 : decode cX3_shrink 33 = .ok (.iconst 2, 1) := dk_5 (dk_at dksX3_shrink_1 9 rfl rfl)
theorem dX3_shrink_34 : decode cX3_shrink 34 = .ok (.invokevirtual 210, 3) := dk_182 0 210 (dk_at dksX3_shrink_1 10 rfl rfl)
theorem dX3_shrink_37 : decode cX3_shrink 37 = .ok (.ifCond .ne 5, 3) := dk_154 0 5 (dk_at dksX3_shrink_1 13 rfl rfl)
theorem dX3_shrink_40 : decode cX3_shrink 40 = .ok (.iconst 0, 1) := dk_3 (dk_at dksX3_shrink_1 16 rfl rfl)
theorem dX3_shrink_41 : decode cX3_shrink 41 = .ok (.ireturn, 1) := dk_172 (dk_at dksX3_shrink_1 17 rfl rfl)
theorem dX3_shrink_42 : decode cX3_shrink 42 = .ok (.aload_n 0, 1) := dk_42 (dk_at dksX3_shrink_1 18 rfl rfl)
theorem dX3_shrink_43 : decode cX3_shrink 43 = .ok (.bipush 34, 2) := dk_16 34 (dk_at dksX3_shrink_1 19 rfl rfl)
theorem dX3_shrink_45 : decode cX3_shrink 45 = .ok (.iload_n 1, 1) := dk_27 (dk_at dksX3_shrink_1 21 rfl rfl)
theorem dX3_shrink_46 : decode cX3_shrink 46 = .ok (.iadd, 1) := dk_96 (dk_at dksX3_shrink_1 22 rfl rfl)
theorem dX3_shrink_47 : decode cX3_shrink 47 = .ok (.invokevirtual 220, 3) := dk_182 0 220 (dk_at dksX3_shrink_2 0 rfl rfl)
theorem dX3_shrink_50 : decode cX3_shrink 50 = .ok (.istore_n 3, 1) := dk_62 (dk_at dksX3_shrink_2 3 rfl rfl)
theorem dX3_shrink_51 : decode cX3_shrink 51 = .ok (.aload_n 0, 1) := dk_42 (dk_at dksX3_shrink_2 4 rfl rfl)
theorem dX3_shrink_52 : decode cX3_shrink 52 = .ok (.invokevirtual 217, 3) := dk_182 0 217 (dk_at dksX3_shrink_2 5 rfl rfl)
theorem dX3_shrink_55 : decode cX3_shrink 55 = .ok (.aload_n 0, 1) := dk_42 (dk_at dksX3_shrink_2 8 rfl rfl)
theorem dX3_shrink_56 : decode cX3_shrink 56 = .ok (.bipush 34, 2) := dk_16 34 (dk_at dksX3_shrink_2 9 rfl rfl)
theorem dX3_shrink_58 : decode cX3_shrink 58 = .ok (.iload_n 1, 1) := dk_27 (dk_at dksX3_shrink_2 11 rfl rfl)
theorem dX3_shrink_59 : decode cX3_shrink 59 = .ok (.iadd, 1) := dk_96 (dk_at dksX3_shrink_2 12 rfl rfl)
theorem dX3_shrink_60 : decode cX3_shrink 60 = .ok (.iload_n 2, 1) := dk_28 (dk_at dksX3_shrink_2 13 rfl rfl)
theorem dX3_shrink_61 : decode cX3_shrink 61 = .ok (.i2l, 1) := dk_133 (dk_at dksX3_shrink_2 14 rfl rfl)
theorem dX3_shrink_62 : decode cX3_shrink 62 = .ok (.invokevirtual 61, 3) := dk_182 0 61 (dk_at dksX3_shrink_2 15 rfl rfl)
theorem dX3_shrink_65 : decode cX3_shrink 65 = .ok (.iload_n 3, 1) := dk_29 (dk_at dksX3_shrink_2 18 rfl rfl)
theorem dX3_shrink_66 : decode cX3_shrink 66 = .ok (.ireturn, 1) := dk_172 (dk_at dksX3_shrink_2 19 rfl rfl)
abbrev cX3_shrinkAll : ByteArray := prog_20_method_86_code
def yX3_shrinkAll : MethodName := ⟨RX3, "shrinkAll", "()I"⟩
def dkwX3_shrinkAll_2 : List UInt8 := [167, 255, 221, 42, 182, 1, 50, 136, 172]
abbrev dktX3_shrinkAll_2 : List UInt8 := dkwX3_shrinkAll_2 ++ []
def dkwX3_shrinkAll_1 : List UInt8 := [182, 1, 75, 61, 28, 2, 159, 0, 13, 42, 16, 34, 27, 96, 28, 133, 182, 0, 61, 132, 1, 1]
abbrev dktX3_shrinkAll_1 : List UInt8 := dkwX3_shrinkAll_1 ++ dktX3_shrinkAll_2
def dkwX3_shrinkAll_0 : List UInt8 := [42, 3, 181, 0, 48, 42, 182, 0, 217, 3, 60, 27, 133, 42, 7, 182, 0, 54, 148, 156, 0, 30, 42, 27]
abbrev dktX3_shrinkAll_0 : List UInt8 := dkwX3_shrinkAll_0 ++ dktX3_shrinkAll_1
theorem dksX3_shrinkAll_0 : cX3_shrinkAll.data.toList.drop 0 = dktX3_shrinkAll_0 := by decide +kernel
theorem dksX3_shrinkAll_1 : cX3_shrinkAll.data.toList.drop 24 = dktX3_shrinkAll_1 := dk_seg dksX3_shrinkAll_0 24 rfl rfl
theorem dksX3_shrinkAll_2 : cX3_shrinkAll.data.toList.drop 46 = dktX3_shrinkAll_2 := dk_seg dksX3_shrinkAll_1 22 rfl rfl
theorem dX3_shrinkAll_0 : decode cX3_shrinkAll 0 = .ok (.aload_n 0, 1) := dk_42 (dk_at dksX3_shrinkAll_0 0 rfl rfl)
theorem dX3_shrinkAll_1 : decode cX3_shrinkAll 1 = .ok (.iconst 0, 1) := dk_3 (dk_at dksX3_shrinkAll_0 1 rfl rfl)
theorem dX3_shrinkAll_2 : decode cX3_shrinkAll 2 = .ok (.putfield 48, 3) := dk_181 0 48 (dk_at dksX3_shrinkAll_0 2 rfl rfl)
theorem dX3_shrinkAll_5 : decode cX3_shrinkAll 5 = .ok (.aload_n 0, 1) := dk_42 (dk_at dksX3_shrinkAll_0 5 rfl rfl)
theorem dX3_shrinkAll_6 : decode cX3_shrinkAll 6 = .ok (.invokevirtual 217, 3) := dk_182 0 217 (dk_at dksX3_shrinkAll_0 6 rfl rfl)
theorem dX3_shrinkAll_9 : decode cX3_shrinkAll 9 = .ok (.iconst 0, 1) := dk_3 (dk_at dksX3_shrinkAll_0 9 rfl rfl)
theorem dX3_shrinkAll_10 : decode cX3_shrinkAll 10 = .ok (.istore_n 1, 1) := dk_60 (dk_at dksX3_shrinkAll_0 10 rfl rfl)
theorem dX3_shrinkAll_11 : decode cX3_shrinkAll 11 = .ok (.iload_n 1, 1) := dk_27 (dk_at dksX3_shrinkAll_0 11 rfl rfl)
theorem dX3_shrinkAll_12 : decode cX3_shrinkAll 12 = .ok (.i2l, 1) := dk_133 (dk_at dksX3_shrinkAll_0 12 rfl rfl)
theorem dX3_shrinkAll_13 : decode cX3_shrinkAll 13 = .ok (.aload_n 0, 1) := dk_42 (dk_at dksX3_shrinkAll_0 13 rfl rfl)
theorem dX3_shrinkAll_14 : decode cX3_shrinkAll 14 = .ok (.iconst 4, 1) := dk_7 (dk_at dksX3_shrinkAll_0 14 rfl rfl)
theorem dX3_shrinkAll_15 : decode cX3_shrinkAll 15 = .ok (.invokevirtual 54, 3) := dk_182 0 54 (dk_at dksX3_shrinkAll_0 15 rfl rfl)
theorem dX3_shrinkAll_18 : decode cX3_shrinkAll 18 = .ok (.lcmp, 1) := dk_148 (dk_at dksX3_shrinkAll_0 18 rfl rfl)
theorem dX3_shrinkAll_19 : decode cX3_shrinkAll 19 = .ok (.ifCond .ge 30, 3) := dk_156 0 30 (dk_at dksX3_shrinkAll_0 19 rfl rfl)
theorem dX3_shrinkAll_22 : decode cX3_shrinkAll 22 = .ok (.aload_n 0, 1) := dk_42 (dk_at dksX3_shrinkAll_0 22 rfl rfl)
theorem dX3_shrinkAll_23 : decode cX3_shrinkAll 23 = .ok (.iload_n 1, 1) := dk_27 (dk_at dksX3_shrinkAll_0 23 rfl rfl)
theorem dX3_shrinkAll_24 : decode cX3_shrinkAll 24 = .ok (.invokevirtual 331, 3) := dk_182 1 75 (dk_at dksX3_shrinkAll_1 0 rfl rfl)
theorem dX3_shrinkAll_27 : decode cX3_shrinkAll 27 = .ok (.istore_n 2, 1) := dk_61 (dk_at dksX3_shrinkAll_1 3 rfl rfl)
theorem dX3_shrinkAll_28 : decode cX3_shrinkAll 28 = .ok (.iload_n 2, 1) := dk_28 (dk_at dksX3_shrinkAll_1 4 rfl rfl)
theorem dX3_shrinkAll_29 : decode cX3_shrinkAll 29 = .ok (.iconst (-1), 1) := dk_2 (dk_at dksX3_shrinkAll_1 5 rfl rfl)
theorem dX3_shrinkAll_30 : decode cX3_shrinkAll 30 = .ok (.if_icmp .eq 13, 3) := dk_159 0 13 (dk_at dksX3_shrinkAll_1 6 rfl rfl)
theorem dX3_shrinkAll_33 : decode cX3_shrinkAll 33 = .ok (.aload_n 0, 1) := dk_42 (dk_at dksX3_shrinkAll_1 9 rfl rfl)
theorem dX3_shrinkAll_34 : decode cX3_shrinkAll 34 = .ok (.bipush 34, 2) := dk_16 34 (dk_at dksX3_shrinkAll_1 10 rfl rfl)
theorem dX3_shrinkAll_36 : decode cX3_shrinkAll 36 = .ok (.iload_n 1, 1) := dk_27 (dk_at dksX3_shrinkAll_1 12 rfl rfl)
theorem dX3_shrinkAll_37 : decode cX3_shrinkAll 37 = .ok (.iadd, 1) := dk_96 (dk_at dksX3_shrinkAll_1 13 rfl rfl)
theorem dX3_shrinkAll_38 : decode cX3_shrinkAll 38 = .ok (.iload_n 2, 1) := dk_28 (dk_at dksX3_shrinkAll_1 14 rfl rfl)
theorem dX3_shrinkAll_39 : decode cX3_shrinkAll 39 = .ok (.i2l, 1) := dk_133 (dk_at dksX3_shrinkAll_1 15 rfl rfl)
theorem dX3_shrinkAll_40 : decode cX3_shrinkAll 40 = .ok (.invokevirtual 61, 3) := dk_182 0 61 (dk_at dksX3_shrinkAll_1 16 rfl rfl)
theorem dX3_shrinkAll_43 : decode cX3_shrinkAll 43 = .ok (.iinc 1 1, 3) := dk_132 1 1 (dk_at dksX3_shrinkAll_1 19 rfl rfl)
theorem dX3_shrinkAll_46 : decode cX3_shrinkAll 46 = .ok (.goto (-35), 3) := dk_167 255 221 (dk_at dksX3_shrinkAll_2 0 rfl rfl)
theorem dX3_shrinkAll_49 : decode cX3_shrinkAll 49 = .ok (.aload_n 0, 1) := dk_42 (dk_at dksX3_shrinkAll_2 3 rfl rfl)
theorem dX3_shrinkAll_50 : decode cX3_shrinkAll 50 = .ok (.invokevirtual 306, 3) := dk_182 1 50 (dk_at dksX3_shrinkAll_2 4 rfl rfl)
theorem dX3_shrinkAll_53 : decode cX3_shrinkAll 53 = .ok (.l2i, 1) := dk_136 (dk_at dksX3_shrinkAll_2 7 rfl rfl)
theorem dX3_shrinkAll_54 : decode cX3_shrinkAll 54 = .ok (.ireturn, 1) := dk_172 (dk_at dksX3_shrinkAll_2 8 rfl rfl)
abbrev cX3_undo : ByteArray := prog_20_method_87_code
def yX3_undo : MethodName := ⟨RX3, "undo", "()I"⟩
def dkwX3_undo_1 : List UInt8 := [42, 42, 180, 0, 51, 16, 9, 96, 4, 100, 16, 9, 112, 181, 0, 51, 42, 180, 0, 58, 172]
abbrev dktX3_undo_1 : List UInt8 := dkwX3_undo_1 ++ []
def dkwX3_undo_0 : List UInt8 := [42, 3, 181, 0, 48, 42, 180, 0, 58, 154, 0, 5, 2, 172, 42, 89, 180, 0, 58, 4, 100, 181, 0, 58]
abbrev dktX3_undo_0 : List UInt8 := dkwX3_undo_0 ++ dktX3_undo_1
theorem dksX3_undo_0 : cX3_undo.data.toList.drop 0 = dktX3_undo_0 := by decide +kernel
theorem dksX3_undo_1 : cX3_undo.data.toList.drop 24 = dktX3_undo_1 := dk_seg dksX3_undo_0 24 rfl rfl
theorem dX3_undo_0 : decode cX3_undo 0 = .ok (.aload_n 0, 1) := dk_42 (dk_at dksX3_undo_0 0 rfl rfl)
theorem dX3_undo_1 : decode cX3_undo 1 = .ok (.iconst 0, 1) := dk_3 (dk_at dksX3_undo_0 1 rfl rfl)
theorem dX3_undo_2 : decode cX3_undo 2 = .ok (.putfield 48, 3) := dk_181 0 48 (dk_at dksX3_undo_0 2 rfl rfl)
theorem dX3_undo_5 : decode cX3_undo 5 = .ok (.aload_n 0, 1) := dk_42 (dk_at dksX3_undo_0 5 rfl rfl)
theorem dX3_undo_6 : decode cX3_undo 6 = .ok (.getfield 58, 3) := dk_180 0 58 (dk_at dksX3_undo_0 6 rfl rfl)
theorem dX3_undo_9 : decode cX3_undo 9 = .ok (.ifCond .ne 5, 3) := dk_154 0 5 (dk_at dksX3_undo_0 9 rfl rfl)
theorem dX3_undo_12 : decode cX3_undo 12 = .ok (.iconst (-1), 1) := dk_2 (dk_at dksX3_undo_0 12 rfl rfl)
theorem dX3_undo_13 : decode cX3_undo 13 = .ok (.ireturn, 1) := dk_172 (dk_at dksX3_undo_0 13 rfl rfl)
theorem dX3_undo_14 : decode cX3_undo 14 = .ok (.aload_n 0, 1) := dk_42 (dk_at dksX3_undo_0 14 rfl rfl)
theorem dX3_undo_15 : decode cX3_undo 15 = .ok (.dup, 1) := dk_89 (dk_at dksX3_undo_0 15 rfl rfl)
theorem dX3_undo_16 : decode cX3_undo 16 = .ok (.getfield 58, 3) := dk_180 0 58 (dk_at dksX3_undo_0 16 rfl rfl)
theorem dX3_undo_19 : decode cX3_undo 19 = .ok (.iconst 1, 1) := dk_4 (dk_at dksX3_undo_0 19 rfl rfl)
theorem dX3_undo_20 : decode cX3_undo 20 = .ok (.isub, 1) := dk_100 (dk_at dksX3_undo_0 20 rfl rfl)
theorem dX3_undo_21 : decode cX3_undo 21 = .ok (.putfield 58, 3) := dk_181 0 58 (dk_at dksX3_undo_0 21 rfl rfl)
theorem dX3_undo_24 : decode cX3_undo 24 = .ok (.aload_n 0, 1) := dk_42 (dk_at dksX3_undo_1 0 rfl rfl)
theorem dX3_undo_25 : decode cX3_undo 25 = .ok (.aload_n 0, 1) := dk_42 (dk_at dksX3_undo_1 1 rfl rfl)
theorem dX3_undo_26 : decode cX3_undo 26 = .ok (.getfield 51, 3) := dk_180 0 51 (dk_at dksX3_undo_1 2 rfl rfl)
theorem dX3_undo_29 : decode cX3_undo 29 = .ok (.bipush 9, 2) := dk_16 9 (dk_at dksX3_undo_1 5 rfl rfl)
theorem dX3_undo_31 : decode cX3_undo 31 = .ok (.iadd, 1) := dk_96 (dk_at dksX3_undo_1 7 rfl rfl)
theorem dX3_undo_32 : decode cX3_undo 32 = .ok (.iconst 1, 1) := dk_4 (dk_at dksX3_undo_1 8 rfl rfl)
theorem dX3_undo_33 : decode cX3_undo 33 = .ok (.isub, 1) := dk_100 (dk_at dksX3_undo_1 9 rfl rfl)
theorem dX3_undo_34 : decode cX3_undo 34 = .ok (.bipush 9, 2) := dk_16 9 (dk_at dksX3_undo_1 10 rfl rfl)
theorem dX3_undo_36 : decode cX3_undo 36 = .ok (.irem, 1) := dk_112 (dk_at dksX3_undo_1 12 rfl rfl)
theorem dX3_undo_37 : decode cX3_undo 37 = .ok (.putfield 51, 3) := dk_181 0 51 (dk_at dksX3_undo_1 13 rfl rfl)
theorem dX3_undo_40 : decode cX3_undo 40 = .ok (.aload_n 0, 1) := dk_42 (dk_at dksX3_undo_1 16 rfl rfl)
theorem dX3_undo_41 : decode cX3_undo 41 = .ok (.getfield 58, 3) := dk_180 0 58 (dk_at dksX3_undo_1 17 rfl rfl)
theorem dX3_undo_44 : decode cX3_undo 44 = .ok (.ireturn, 1) := dk_172 (dk_at dksX3_undo_1 20 rfl rfl)
abbrev cX3_checksum : ByteArray := prog_20_method_88_code
def yX3_checksum : MethodName := ⟨RX3, "checksum", "()J"⟩
def dkwX3_checksum_5 : List UInt8 := [64, 132, 4, 1, 167, 255, 225, 132, 3, 1, 167, 255, 175, 20, 1, 80, 31, 105, 42, 182, 1, 50, 97, 173]
abbrev dktX3_checksum_5 : List UInt8 := dkwX3_checksum_5 ++ []
def dkwX3_checksum_4 : List UInt8 := [182, 1, 12, 162, 0, 28, 20, 1, 80, 31, 105, 42, 180, 0, 33, 16, 16, 21, 4, 104, 29, 96, 47, 97]
abbrev dktX3_checksum_4 : List UInt8 := dkwX3_checksum_4 ++ dktX3_checksum_5
def dkwX3_checksum_3 : List UInt8 := [42, 29, 21, 4, 182, 0, 224, 133, 97, 64, 132, 4, 1, 167, 255, 232, 3, 54, 4, 21, 4, 42]
abbrev dktX3_checksum_3 : List UInt8 := dkwX3_checksum_3 ++ dktX3_checksum_4
def dkwX3_checksum_2 : List UInt8 := [133, 42, 8, 182, 0, 54, 148, 156, 0, 76, 3, 54, 4, 21, 4, 6, 162, 0, 24, 20, 1, 80, 31, 105]
abbrev dktX3_checksum_2 : List UInt8 := dkwX3_checksum_2 ++ dktX3_checksum_3
def dkwX3_checksum_1 : List UInt8 := [20, 1, 80, 31, 105, 42, 16, 34, 29, 96, 182, 0, 54, 97, 64, 132, 3, 1, 167, 255, 227, 3, 62, 29]
abbrev dktX3_checksum_1 : List UInt8 := dkwX3_checksum_1 ++ dktX3_checksum_2
def dkwX3_checksum_0 : List UInt8 := [42, 3, 181, 0, 48, 42, 182, 1, 63, 9, 64, 3, 62, 29, 133, 42, 7, 182, 0, 54, 148, 156, 0, 24]
abbrev dktX3_checksum_0 : List UInt8 := dkwX3_checksum_0 ++ dktX3_checksum_1
theorem dksX3_checksum_0 : cX3_checksum.data.toList.drop 0 = dktX3_checksum_0 := by decide +kernel
theorem dksX3_checksum_1 : cX3_checksum.data.toList.drop 24 = dktX3_checksum_1 := dk_seg dksX3_checksum_0 24 rfl rfl
theorem dksX3_checksum_2 : cX3_checksum.data.toList.drop 48 = dktX3_checksum_2 := dk_seg dksX3_checksum_1 24 rfl rfl
theorem dksX3_checksum_3 : cX3_checksum.data.toList.drop 72 = dktX3_checksum_3 := dk_seg dksX3_checksum_2 24 rfl rfl
theorem dksX3_checksum_4 : cX3_checksum.data.toList.drop 94 = dktX3_checksum_4 := dk_seg dksX3_checksum_3 22 rfl rfl
theorem dksX3_checksum_5 : cX3_checksum.data.toList.drop 118 = dktX3_checksum_5 := dk_seg dksX3_checksum_4 24 rfl rfl
theorem dX3_checksum_0 : decode cX3_checksum 0 = .ok (.aload_n 0, 1) := dk_42 (dk_at dksX3_checksum_0 0 rfl rfl)
theorem dX3_checksum_1 : decode cX3_checksum 1 = .ok (.iconst 0, 1) := dk_3 (dk_at dksX3_checksum_0 1 rfl rfl)
theorem dX3_checksum_2 : decode cX3_checksum 2 = .ok (.putfield 48, 3) := dk_181 0 48 (dk_at dksX3_checksum_0 2 rfl rfl)
theorem dX3_checksum_5 : decode cX3_checksum 5 = .ok (.aload_n 0, 1) := dk_42 (dk_at dksX3_checksum_0 5 rfl rfl)
theorem dX3_checksum_6 : decode cX3_checksum 6 = .ok (.invokevirtual 319, 3) := dk_182 1 63 (dk_at dksX3_checksum_0 6 rfl rfl)
theorem dX3_checksum_9 : decode cX3_checksum 9 = .ok (.lconst 0, 1) := dk_9 (dk_at dksX3_checksum_0 9 rfl rfl)
theorem dX3_checksum_10 : decode cX3_checksum 10 = .ok (.lstore_n 1, 1) := dk_64 (dk_at dksX3_checksum_0 10 rfl rfl)
theorem dX3_checksum_11 : decode cX3_checksum 11 = .ok (.iconst 0, 1) := dk_3 (dk_at dksX3_checksum_0 11 rfl rfl)
theorem dX3_checksum_12 : decode cX3_checksum 12 = .ok (.istore_n 3, 1) := dk_62 (dk_at dksX3_checksum_0 12 rfl rfl)
theorem dX3_checksum_13 : decode cX3_checksum 13 = .ok (.iload_n 3, 1) := dk_29 (dk_at dksX3_checksum_0 13 rfl rfl)
theorem dX3_checksum_14 : decode cX3_checksum 14 = .ok (.i2l, 1) := dk_133 (dk_at dksX3_checksum_0 14 rfl rfl)
theorem dX3_checksum_15 : decode cX3_checksum 15 = .ok (.aload_n 0, 1) := dk_42 (dk_at dksX3_checksum_0 15 rfl rfl)
theorem dX3_checksum_16 : decode cX3_checksum 16 = .ok (.iconst 4, 1) := dk_7 (dk_at dksX3_checksum_0 16 rfl rfl)
theorem dX3_checksum_17 : decode cX3_checksum 17 = .ok (.invokevirtual 54, 3) := dk_182 0 54 (dk_at dksX3_checksum_0 17 rfl rfl)
theorem dX3_checksum_20 : decode cX3_checksum 20 = .ok (.lcmp, 1) := dk_148 (dk_at dksX3_checksum_0 20 rfl rfl)
theorem dX3_checksum_21 : decode cX3_checksum 21 = .ok (.ifCond .ge 24, 3) := dk_156 0 24 (dk_at dksX3_checksum_0 21 rfl rfl)
theorem dX3_checksum_24 : decode cX3_checksum 24 = .ok (.ldc2_w 336, 3) := dk_20 1 80 (dk_at dksX3_checksum_1 0 rfl rfl)
theorem dX3_checksum_27 : decode cX3_checksum 27 = .ok (.lload_n 1, 1) := dk_31 (dk_at dksX3_checksum_1 3 rfl rfl)
theorem dX3_checksum_28 : decode cX3_checksum 28 = .ok (.lmul, 1) := dk_105 (dk_at dksX3_checksum_1 4 rfl rfl)
theorem dX3_checksum_29 : decode cX3_checksum 29 = .ok (.aload_n 0, 1) := dk_42 (dk_at dksX3_checksum_1 5 rfl rfl)
theorem dX3_checksum_30 : decode cX3_checksum 30 = .ok (.bipush 34, 2) := dk_16 34 (dk_at dksX3_checksum_1 6 rfl rfl)
theorem dX3_checksum_32 : decode cX3_checksum 32 = .ok (.iload_n 3, 1) := dk_29 (dk_at dksX3_checksum_1 8 rfl rfl)
theorem dX3_checksum_33 : decode cX3_checksum 33 = .ok (.iadd, 1) := dk_96 (dk_at dksX3_checksum_1 9 rfl rfl)
theorem dX3_checksum_34 : decode cX3_checksum 34 = .ok (.invokevirtual 54, 3) := dk_182 0 54 (dk_at dksX3_checksum_1 10 rfl rfl)
theorem dX3_checksum_37 : decode cX3_checksum 37 = .ok (.ladd, 1) := dk_97 (dk_at dksX3_checksum_1 13 rfl rfl)
theorem dX3_checksum_38 : decode cX3_checksum 38 = .ok (.lstore_n 1, 1) := dk_64 (dk_at dksX3_checksum_1 14 rfl rfl)
theorem dX3_checksum_39 : decode cX3_checksum 39 = .ok (.iinc 3 1, 3) := dk_132 3 1 (dk_at dksX3_checksum_1 15 rfl rfl)
theorem dX3_checksum_42 : decode cX3_checksum 42 = .ok (.goto (-29), 3) := dk_167 255 227 (dk_at dksX3_checksum_1 18 rfl rfl)
theorem dX3_checksum_45 : decode cX3_checksum 45 = .ok (.iconst 0, 1) := dk_3 (dk_at dksX3_checksum_1 21 rfl rfl)
theorem dX3_checksum_46 : decode cX3_checksum 46 = .ok (.istore_n 3, 1) := dk_62 (dk_at dksX3_checksum_1 22 rfl rfl)
theorem dX3_checksum_47 : decode cX3_checksum 47 = .ok (.iload_n 3, 1) := dk_29 (dk_at dksX3_checksum_1 23 rfl rfl)
theorem dX3_checksum_48 : decode cX3_checksum 48 = .ok (.i2l, 1) := dk_133 (dk_at dksX3_checksum_2 0 rfl rfl)
theorem dX3_checksum_49 : decode cX3_checksum 49 = .ok (.aload_n 0, 1) := dk_42 (dk_at dksX3_checksum_2 1 rfl rfl)
theorem dX3_checksum_50 : decode cX3_checksum 50 = .ok (.iconst 5, 1) := dk_8 (dk_at dksX3_checksum_2 2 rfl rfl)
theorem dX3_checksum_51 : decode cX3_checksum 51 = .ok (.invokevirtual 54, 3) := dk_182 0 54 (dk_at dksX3_checksum_2 3 rfl rfl)
theorem dX3_checksum_54 : decode cX3_checksum 54 = .ok (.lcmp, 1) := dk_148 (dk_at dksX3_checksum_2 6 rfl rfl)
theorem dX3_checksum_55 : decode cX3_checksum 55 = .ok (.ifCond .ge 76, 3) := dk_156 0 76 (dk_at dksX3_checksum_2 7 rfl rfl)
theorem dX3_checksum_58 : decode cX3_checksum 58 = .ok (.iconst 0, 1) := dk_3 (dk_at dksX3_checksum_2 10 rfl rfl)
theorem dX3_checksum_59 : decode cX3_checksum 59 = .ok (.istore 4, 2) := dk_54 4 (dk_at dksX3_checksum_2 11 rfl rfl)
theorem dX3_checksum_61 : decode cX3_checksum 61 = .ok (.iload 4, 2) := dk_21 4 (dk_at dksX3_checksum_2 13 rfl rfl)
theorem dX3_checksum_63 : decode cX3_checksum 63 = .ok (.iconst 3, 1) := dk_6 (dk_at dksX3_checksum_2 15 rfl rfl)
theorem dX3_checksum_64 : decode cX3_checksum 64 = .ok (.if_icmp .ge 24, 3) := dk_162 0 24 (dk_at dksX3_checksum_2 16 rfl rfl)
theorem dX3_checksum_67 : decode cX3_checksum 67 = .ok (.ldc2_w 336, 3) := dk_20 1 80 (dk_at dksX3_checksum_2 19 rfl rfl)
theorem dX3_checksum_70 : decode cX3_checksum 70 = .ok (.lload_n 1, 1) := dk_31 (dk_at dksX3_checksum_2 22 rfl rfl)
theorem dX3_checksum_71 : decode cX3_checksum 71 = .ok (.lmul, 1) := dk_105 (dk_at dksX3_checksum_2 23 rfl rfl)
theorem dX3_checksum_72 : decode cX3_checksum 72 = .ok (.aload_n 0, 1) := dk_42 (dk_at dksX3_checksum_3 0 rfl rfl)
theorem dX3_checksum_73 : decode cX3_checksum 73 = .ok (.iload_n 3, 1) := dk_29 (dk_at dksX3_checksum_3 1 rfl rfl)
theorem dX3_checksum_74 : decode cX3_checksum 74 = .ok (.iload 4, 2) := dk_21 4 (dk_at dksX3_checksum_3 2 rfl rfl)
theorem dX3_checksum_76 : decode cX3_checksum 76 = .ok (.invokevirtual 224, 3) := dk_182 0 224 (dk_at dksX3_checksum_3 4 rfl rfl)
theorem dX3_checksum_79 : decode cX3_checksum 79 = .ok (.i2l, 1) := dk_133 (dk_at dksX3_checksum_3 7 rfl rfl)
theorem dX3_checksum_80 : decode cX3_checksum 80 = .ok (.ladd, 1) := dk_97 (dk_at dksX3_checksum_3 8 rfl rfl)
theorem dX3_checksum_81 : decode cX3_checksum 81 = .ok (.lstore_n 1, 1) := dk_64 (dk_at dksX3_checksum_3 9 rfl rfl)
theorem dX3_checksum_82 : decode cX3_checksum 82 = .ok (.iinc 4 1, 3) := dk_132 4 1 (dk_at dksX3_checksum_3 10 rfl rfl)
theorem dX3_checksum_85 : decode cX3_checksum 85 = .ok (.goto (-24), 3) := dk_167 255 232 (dk_at dksX3_checksum_3 13 rfl rfl)
theorem dX3_checksum_88 : decode cX3_checksum 88 = .ok (.iconst 0, 1) := dk_3 (dk_at dksX3_checksum_3 16 rfl rfl)
theorem dX3_checksum_89 : decode cX3_checksum 89 = .ok (.istore 4, 2) := dk_54 4 (dk_at dksX3_checksum_3 17 rfl rfl)
theorem dX3_checksum_91 : decode cX3_checksum 91 = .ok (.iload 4, 2) := dk_21 4 (dk_at dksX3_checksum_3 19 rfl rfl)
theorem dX3_checksum_93 : decode cX3_checksum 93 = .ok (.aload_n 0, 1) := dk_42 (dk_at dksX3_checksum_3 21 rfl rfl)
theorem dX3_checksum_94 : decode cX3_checksum 94 = .ok (.invokevirtual 268, 3) := dk_182 1 12 (dk_at dksX3_checksum_4 0 rfl rfl)
theorem dX3_checksum_97 : decode cX3_checksum 97 = .ok (.if_icmp .ge 28, 3) := dk_162 0 28 (dk_at dksX3_checksum_4 3 rfl rfl)
theorem dX3_checksum_100 : decode cX3_checksum 100 = .ok (.ldc2_w 336, 3) := dk_20 1 80 (dk_at dksX3_checksum_4 6 rfl rfl)
theorem dX3_checksum_103 : decode cX3_checksum 103 = .ok (.lload_n 1, 1) := dk_31 (dk_at dksX3_checksum_4 9 rfl rfl)
theorem dX3_checksum_104 : decode cX3_checksum 104 = .ok (.lmul, 1) := dk_105 (dk_at dksX3_checksum_4 10 rfl rfl)
theorem dX3_checksum_105 : decode cX3_checksum 105 = .ok (.aload_n 0, 1) := dk_42 (dk_at dksX3_checksum_4 11 rfl rfl)
theorem dX3_checksum_106 : decode cX3_checksum 106 = .ok (.getfield 33, 3) := dk_180 0 33 (dk_at dksX3_checksum_4 12 rfl rfl)
theorem dX3_checksum_109 : decode cX3_checksum 109 = .ok (.bipush 16, 2) := dk_16 16 (dk_at dksX3_checksum_4 15 rfl rfl)
theorem dX3_checksum_111 : decode cX3_checksum 111 = .ok (.iload 4, 2) := dk_21 4 (dk_at dksX3_checksum_4 17 rfl rfl)
theorem dX3_checksum_113 : decode cX3_checksum 113 = .ok (.imul, 1) := dk_104 (dk_at dksX3_checksum_4 19 rfl rfl)
theorem dX3_checksum_114 : decode cX3_checksum 114 = .ok (.iload_n 3, 1) := dk_29 (dk_at dksX3_checksum_4 20 rfl rfl)
theorem dX3_checksum_115 : decode cX3_checksum 115 = .ok (.iadd, 1) := dk_96 (dk_at dksX3_checksum_4 21 rfl rfl)
theorem dX3_checksum_116 : decode cX3_checksum 116 = .ok (.laload, 1) := dk_47 (dk_at dksX3_checksum_4 22 rfl rfl)
theorem dX3_checksum_117 : decode cX3_checksum 117 = .ok (.ladd, 1) := dk_97 (dk_at dksX3_checksum_4 23 rfl rfl)
theorem dX3_checksum_118 : decode cX3_checksum 118 = .ok (.lstore_n 1, 1) := dk_64 (dk_at dksX3_checksum_5 0 rfl rfl)
theorem dX3_checksum_119 : decode cX3_checksum 119 = .ok (.iinc 4 1, 3) := dk_132 4 1 (dk_at dksX3_checksum_5 1 rfl rfl)
theorem dX3_checksum_122 : decode cX3_checksum 122 = .ok (.goto (-31), 3) := dk_167 255 225 (dk_at dksX3_checksum_5 4 rfl rfl)
theorem dX3_checksum_125 : decode cX3_checksum 125 = .ok (.iinc 3 1, 3) := dk_132 3 1 (dk_at dksX3_checksum_5 7 rfl rfl)
theorem dX3_checksum_128 : decode cX3_checksum 128 = .ok (.goto (-81), 3) := dk_167 255 175 (dk_at dksX3_checksum_5 10 rfl rfl)
theorem dX3_checksum_131 : decode cX3_checksum 131 = .ok (.ldc2_w 336, 3) := dk_20 1 80 (dk_at dksX3_checksum_5 13 rfl rfl)
theorem dX3_checksum_134 : decode cX3_checksum 134 = .ok (.lload_n 1, 1) := dk_31 (dk_at dksX3_checksum_5 16 rfl rfl)
theorem dX3_checksum_135 : decode cX3_checksum 135 = .ok (.lmul, 1) := dk_105 (dk_at dksX3_checksum_5 17 rfl rfl)
theorem dX3_checksum_136 : decode cX3_checksum 136 = .ok (.aload_n 0, 1) := dk_42 (dk_at dksX3_checksum_5 18 rfl rfl)
theorem dX3_checksum_137 : decode cX3_checksum 137 = .ok (.invokevirtual 306, 3) := dk_182 1 50 (dk_at dksX3_checksum_5 19 rfl rfl)
theorem dX3_checksum_140 : decode cX3_checksum 140 = .ok (.ladd, 1) := dk_97 (dk_at dksX3_checksum_5 22 rfl rfl)
theorem dX3_checksum_141 : decode cX3_checksum 141 = .ok (.lreturn, 1) := dk_173 (dk_at dksX3_checksum_5 23 rfl rfl)
theorem q127 : (Jvm.Cond.initialized "ElasticTrussModel") ∈ lw_all := lw_g (lw_at lw_m1 26 rfl) rfl
theorem q1694 : (Jvm.Cond.selects "ElasticTrussModel" ({ cls := "java/lang/Object", name := "getClass", desc := "()Ljava/lang/Class;" } : Jvm.MethodName) ({ cls := "java/lang/Object", name := "getClass", desc := "()Ljava/lang/Class;" } : Jvm.MethodName)) ∈ lw_all := lw_g (lw_at lw_m7 153 rfl) rfl
theorem q1750 : (Jvm.Cond.selects "ElasticTrussModel" ({ cls := "java/lang/Object", name := "toString", desc := "()Ljava/lang/String;" } : Jvm.MethodName) ({ cls := "java/lang/Object", name := "toString", desc := "()Ljava/lang/String;" } : Jvm.MethodName)) ∈ lw_all := lw_g (lw_at lw_m7 209 rfl) rfl
theorem q1905 : (Jvm.Cond.selects "ElasticTrussModel" ({ cls := "java/lang/Object", name := "hashCode", desc := "()I" } : Jvm.MethodName) ({ cls := "java/lang/Object", name := "hashCode", desc := "()I" } : Jvm.MethodName)) ∈ lw_all := lw_g (lw_at lw_m8 124 rfl) rfl
theorem q2339 : (Jvm.Cond.selects "ElasticTrussModel" ({ cls := "java/lang/Object", name := "equals", desc := "(Ljava/lang/Object;)Z" } : Jvm.MethodName) ({ cls := "java/lang/Object", name := "equals", desc := "(Ljava/lang/Object;)Z" } : Jvm.MethodName)) ∈ lw_all := lw_g (lw_at lw_m10 78 rfl) rfl
theorem q3346 : (Jvm.Cond.instantiable "ElasticTrussModel" (23 : Nat)) ∈ lw_all := lw_g (lw_at lw_m14 125 rfl) rfl
theorem q3348 : (Jvm.Cond.instanceMethod ({ cls := "ElasticTrussModel", name := "<init>", desc := "()V" } : Jvm.MethodName)) ∈ lw_all := lw_g (lw_at lw_m14 127 rfl) rfl
theorem q3349 : (Jvm.Cond.code ({ cls := "ElasticTrussModel", name := "<init>", desc := "()V" } : Jvm.MethodName) prog_20_method_1_code (1 : Nat) (Option.none : Option Jvm.ClassFile.FieldType)) ∈ lw_all := lw_g (lw_at lw_m14 128 rfl) rfl
theorem q3350 : (Jvm.Cond.methodLink "ElasticTrussModel" (1 : Nat) ({ cls := "java/lang/Object", name := "<init>", desc := "()V" } : Jvm.MethodName)) ∈ lw_all := lw_g (lw_at lw_m14 129 rfl) rfl
theorem q3351 : (Jvm.Cond.fieldLink "ElasticTrussModel" (48 : Nat) "ElasticTrussModel" "thrown" "I") ∈ lw_all := lw_g (lw_at lw_m14 130 rfl) rfl
theorem q3352 : (Jvm.Cond.fieldLink "ElasticTrussModel" (7 : Nat) "ElasticTrussModel" "rows" "[J") ∈ lw_all := lw_g (lw_at lw_m14 131 rfl) rfl
theorem q3353 : (Jvm.Cond.fieldLink "ElasticTrussModel" (13 : Nat) "ElasticTrussModel" "read" "[J") ∈ lw_all := lw_g (lw_at lw_m14 132 rfl) rfl
theorem q3354 : (Jvm.Cond.fieldLink "ElasticTrussModel" (16 : Nat) "ElasticTrussModel" "aside" "[J") ∈ lw_all := lw_g (lw_at lw_m14 133 rfl) rfl
theorem q3355 : (Jvm.Cond.fieldLink "ElasticTrussModel" (51 : Nat) "ElasticTrussModel" "now" "I") ∈ lw_all := lw_g (lw_at lw_m14 134 rfl) rfl
theorem q3356 : (Jvm.Cond.fieldLink "ElasticTrussModel" (58 : Nat) "ElasticTrussModel" "undoable" "I") ∈ lw_all := lw_g (lw_at lw_m14 135 rfl) rfl
theorem q3357 : (Jvm.Cond.fieldLink "ElasticTrussModel" (19 : Nat) "ElasticTrussModel" "text" "[I") ∈ lw_all := lw_g (lw_at lw_m14 136 rfl) rfl
theorem q3358 : (Jvm.Cond.fieldLink "ElasticTrussModel" (65 : Nat) "ElasticTrussModel" "bytes" "I") ∈ lw_all := lw_g (lw_at lw_m14 137 rfl) rfl
theorem q3359 : (Jvm.Cond.fieldLink "ElasticTrussModel" (23 : Nat) "ElasticTrussModel" "errorAt" "I") ∈ lw_all := lw_g (lw_at lw_m14 138 rfl) rfl
theorem q3360 : (Jvm.Cond.fieldLink "ElasticTrussModel" (77 : Nat) "ElasticTrussModel" "size" "I") ∈ lw_all := lw_g (lw_at lw_m14 139 rfl) rfl
theorem q3361 : (Jvm.Cond.fieldLink "ElasticTrussModel" (74 : Nat) "ElasticTrussModel" "next" "I") ∈ lw_all := lw_g (lw_at lw_m14 140 rfl) rfl
theorem q3362 : (Jvm.Cond.fieldLink "ElasticTrussModel" (68 : Nat) "ElasticTrussModel" "error" "I") ∈ lw_all := lw_g (lw_at lw_m14 141 rfl) rfl
theorem q3363 : (Jvm.Cond.fieldLink "ElasticTrussModel" (71 : Nat) "ElasticTrussModel" "place" "I") ∈ lw_all := lw_g (lw_at lw_m14 142 rfl) rfl
theorem q3364 : (Jvm.Cond.fieldLink "ElasticTrussModel" (105 : Nat) "ElasticTrussModel" "began" "I") ∈ lw_all := lw_g (lw_at lw_m14 143 rfl) rfl
theorem q3365 : (Jvm.Cond.fieldLink "ElasticTrussModel" (140 : Nat) "ElasticTrussModel" "nested" "I") ∈ lw_all := lw_g (lw_at lw_m14 144 rfl) rfl
theorem q3366 : (Jvm.Cond.fieldLink "ElasticTrussModel" (199 : Nat) "ElasticTrussModel" "hasBuckling" "Z") ∈ lw_all := lw_g (lw_at lw_m14 145 rfl) rfl
theorem q3367 : (Jvm.Cond.fieldLink "ElasticTrussModel" (27 : Nat) "ElasticTrussModel" "ux" "[J") ∈ lw_all := lw_g (lw_at lw_m14 146 rfl) rfl
theorem q3368 : (Jvm.Cond.fieldLink "ElasticTrussModel" (30 : Nat) "ElasticTrussModel" "uy" "[J") ∈ lw_all := lw_g (lw_at lw_m14 147 rfl) rfl
theorem q3369 : (Jvm.Cond.fieldLink "ElasticTrussModel" (33 : Nat) "ElasticTrussModel" "forces" "[J") ∈ lw_all := lw_g (lw_at lw_m14 148 rfl) rfl
theorem q3370 : (Jvm.Cond.fieldLink "ElasticTrussModel" (36 : Nat) "ElasticTrussModel" "lengths" "[J") ∈ lw_all := lw_g (lw_at lw_m14 149 rfl) rfl
theorem q3371 : (Jvm.Cond.fieldLink "ElasticTrussModel" (39 : Nat) "ElasticTrussModel" "stiffness" "[J") ∈ lw_all := lw_g (lw_at lw_m14 150 rfl) rfl
theorem q3372 : (Jvm.Cond.fieldLink "ElasticTrussModel" (42 : Nat) "ElasticTrussModel" "pile" "[J") ∈ lw_all := lw_g (lw_at lw_m14 151 rfl) rfl
theorem q3373 : (Jvm.Cond.fieldLink "ElasticTrussModel" (45 : Nat) "ElasticTrussModel" "part" "[I") ∈ lw_all := lw_g (lw_at lw_m14 152 rfl) rfl
theorem q3374 : (Jvm.Cond.lays "ElasticTrussModel" "ElasticTrussModel" "thrown" "I") ∈ lw_all := lw_g (lw_at lw_m14 153 rfl) rfl
theorem q3375 : (Jvm.Cond.soleField "ElasticTrussModel" "thrown") ∈ lw_all := lw_g (lw_at lw_m14 154 rfl) rfl
theorem q3376 : (Jvm.Cond.laysFinal "ElasticTrussModel" "ElasticTrussModel" "rows" "[J") ∈ lw_all := lw_g (lw_at lw_m14 155 rfl) rfl
theorem q3377 : (Jvm.Cond.soleField "ElasticTrussModel" "rows") ∈ lw_all := lw_g (lw_at lw_m14 156 rfl) rfl
theorem q3378 : (Jvm.Cond.laysFinal "ElasticTrussModel" "ElasticTrussModel" "read" "[J") ∈ lw_all := lw_g (lw_at lw_m14 157 rfl) rfl
theorem q3379 : (Jvm.Cond.soleField "ElasticTrussModel" "read") ∈ lw_all := lw_g (lw_at lw_m14 158 rfl) rfl
theorem q3380 : (Jvm.Cond.laysFinal "ElasticTrussModel" "ElasticTrussModel" "aside" "[J") ∈ lw_all := lw_g (lw_at lw_m14 159 rfl) rfl
theorem q3381 : (Jvm.Cond.soleField "ElasticTrussModel" "aside") ∈ lw_all := lw_g (lw_at lw_m14 160 rfl) rfl
theorem q3382 : (Jvm.Cond.lays "ElasticTrussModel" "ElasticTrussModel" "now" "I") ∈ lw_all := lw_g (lw_at lw_m14 161 rfl) rfl
theorem q3383 : (Jvm.Cond.soleField "ElasticTrussModel" "now") ∈ lw_all := lw_g (lw_at lw_m14 162 rfl) rfl
theorem q3384 : (Jvm.Cond.lays "ElasticTrussModel" "ElasticTrussModel" "undoable" "I") ∈ lw_all := lw_g (lw_at lw_m14 163 rfl) rfl
theorem q3385 : (Jvm.Cond.soleField "ElasticTrussModel" "undoable") ∈ lw_all := lw_g (lw_at lw_m14 164 rfl) rfl
theorem q3386 : (Jvm.Cond.laysFinal "ElasticTrussModel" "ElasticTrussModel" "text" "[I") ∈ lw_all := lw_g (lw_at lw_m14 165 rfl) rfl
theorem q3387 : (Jvm.Cond.soleField "ElasticTrussModel" "text") ∈ lw_all := lw_g (lw_at lw_m14 166 rfl) rfl
theorem q3388 : (Jvm.Cond.lays "ElasticTrussModel" "ElasticTrussModel" "bytes" "I") ∈ lw_all := lw_g (lw_at lw_m14 167 rfl) rfl
theorem q3389 : (Jvm.Cond.soleField "ElasticTrussModel" "bytes") ∈ lw_all := lw_g (lw_at lw_m14 168 rfl) rfl
theorem q3390 : (Jvm.Cond.lays "ElasticTrussModel" "ElasticTrussModel" "errorAt" "I") ∈ lw_all := lw_g (lw_at lw_m14 169 rfl) rfl
theorem q3391 : (Jvm.Cond.soleField "ElasticTrussModel" "errorAt") ∈ lw_all := lw_g (lw_at lw_m14 170 rfl) rfl
theorem q3392 : (Jvm.Cond.lays "ElasticTrussModel" "ElasticTrussModel" "size" "I") ∈ lw_all := lw_g (lw_at lw_m14 171 rfl) rfl
theorem q3393 : (Jvm.Cond.soleField "ElasticTrussModel" "size") ∈ lw_all := lw_g (lw_at lw_m14 172 rfl) rfl
theorem q3394 : (Jvm.Cond.lays "ElasticTrussModel" "ElasticTrussModel" "next" "I") ∈ lw_all := lw_g (lw_at lw_m14 173 rfl) rfl
theorem q3395 : (Jvm.Cond.soleField "ElasticTrussModel" "next") ∈ lw_all := lw_g (lw_at lw_m14 174 rfl) rfl
theorem q3396 : (Jvm.Cond.lays "ElasticTrussModel" "ElasticTrussModel" "error" "I") ∈ lw_all := lw_g (lw_at lw_m14 175 rfl) rfl
theorem q3397 : (Jvm.Cond.soleField "ElasticTrussModel" "error") ∈ lw_all := lw_g (lw_at lw_m14 176 rfl) rfl
theorem q3398 : (Jvm.Cond.lays "ElasticTrussModel" "ElasticTrussModel" "place" "I") ∈ lw_all := lw_g (lw_at lw_m14 177 rfl) rfl
theorem q3399 : (Jvm.Cond.soleField "ElasticTrussModel" "place") ∈ lw_all := lw_g (lw_at lw_m14 178 rfl) rfl
theorem q3400 : (Jvm.Cond.lays "ElasticTrussModel" "ElasticTrussModel" "began" "I") ∈ lw_all := lw_g (lw_at lw_m14 179 rfl) rfl
theorem q3401 : (Jvm.Cond.soleField "ElasticTrussModel" "began") ∈ lw_all := lw_g (lw_at lw_m14 180 rfl) rfl
theorem q3402 : (Jvm.Cond.lays "ElasticTrussModel" "ElasticTrussModel" "nested" "I") ∈ lw_all := lw_g (lw_at lw_m14 181 rfl) rfl
theorem q3403 : (Jvm.Cond.soleField "ElasticTrussModel" "nested") ∈ lw_all := lw_g (lw_at lw_m14 182 rfl) rfl
theorem q3404 : (Jvm.Cond.lays "ElasticTrussModel" "ElasticTrussModel" "hasBuckling" "Z") ∈ lw_all := lw_g (lw_at lw_m14 183 rfl) rfl
theorem q3405 : (Jvm.Cond.soleField "ElasticTrussModel" "hasBuckling") ∈ lw_all := lw_g (lw_at lw_m14 184 rfl) rfl
theorem q3406 : (Jvm.Cond.laysFinal "ElasticTrussModel" "ElasticTrussModel" "ux" "[J") ∈ lw_all := lw_g (lw_at lw_m14 185 rfl) rfl
theorem q3407 : (Jvm.Cond.soleField "ElasticTrussModel" "ux") ∈ lw_all := lw_g (lw_at lw_m14 186 rfl) rfl
theorem q3408 : (Jvm.Cond.laysFinal "ElasticTrussModel" "ElasticTrussModel" "uy" "[J") ∈ lw_all := lw_g (lw_at lw_m14 187 rfl) rfl
theorem q3409 : (Jvm.Cond.soleField "ElasticTrussModel" "uy") ∈ lw_all := lw_g (lw_at lw_m14 188 rfl) rfl
theorem q3410 : (Jvm.Cond.laysFinal "ElasticTrussModel" "ElasticTrussModel" "forces" "[J") ∈ lw_all := lw_g (lw_at lw_m14 189 rfl) rfl
theorem q3411 : (Jvm.Cond.soleField "ElasticTrussModel" "forces") ∈ lw_all := lw_g (lw_at lw_m14 190 rfl) rfl
theorem q3412 : (Jvm.Cond.laysFinal "ElasticTrussModel" "ElasticTrussModel" "lengths" "[J") ∈ lw_all := lw_g (lw_at lw_m14 191 rfl) rfl
theorem q3413 : (Jvm.Cond.soleField "ElasticTrussModel" "lengths") ∈ lw_all := lw_g (lw_at lw_m14 192 rfl) rfl
theorem q3414 : (Jvm.Cond.laysFinal "ElasticTrussModel" "ElasticTrussModel" "stiffness" "[J") ∈ lw_all := lw_g (lw_at lw_m14 193 rfl) rfl
theorem q3415 : (Jvm.Cond.soleField "ElasticTrussModel" "stiffness") ∈ lw_all := lw_g (lw_at lw_m14 194 rfl) rfl
theorem q3416 : (Jvm.Cond.laysFinal "ElasticTrussModel" "ElasticTrussModel" "pile" "[J") ∈ lw_all := lw_g (lw_at lw_m14 195 rfl) rfl
theorem q3417 : (Jvm.Cond.soleField "ElasticTrussModel" "pile") ∈ lw_all := lw_g (lw_at lw_m14 196 rfl) rfl
theorem q3418 : (Jvm.Cond.laysFinal "ElasticTrussModel" "ElasticTrussModel" "part" "[I") ∈ lw_all := lw_g (lw_at lw_m14 197 rfl) rfl
theorem q3419 : (Jvm.Cond.soleField "ElasticTrussModel" "part") ∈ lw_all := lw_g (lw_at lw_m14 198 rfl) rfl
theorem q3420 : (Jvm.Cond.superclass "ElasticTrussModel" "java/lang/Object") ∈ lw_all := lw_g (lw_at lw_m14 199 rfl) rfl
theorem q3422 : (Jvm.Cond.instanceMethod ({ cls := "ElasticTrussModel", name := "thrown", desc := "()I" } : Jvm.MethodName)) ∈ lw_all := lw_g (lw_at lw_m14 201 rfl) rfl
theorem q3423 : (Jvm.Cond.selects "ElasticTrussModel" ({ cls := "ElasticTrussModel", name := "thrown", desc := "()I" } : Jvm.MethodName) ({ cls := "ElasticTrussModel", name := "thrown", desc := "()I" } : Jvm.MethodName)) ∈ lw_all := lw_g (lw_at lw_m14 202 rfl) rfl
theorem q3424 : (Jvm.Cond.code ({ cls := "ElasticTrussModel", name := "thrown", desc := "()I" } : Jvm.MethodName) prog_20_method_2_code (1 : Nat) (Option.some Jvm.ClassFile.FieldType.int)) ∈ lw_all := lw_g (lw_at lw_m14 203 rfl) rfl
theorem q3426 : (Jvm.Cond.instanceMethod ({ cls := "ElasticTrussModel", name := "append", desc := "(IIIII)I" } : Jvm.MethodName)) ∈ lw_all := lw_g (lw_at lw_m14 205 rfl) rfl
theorem q3427 : (Jvm.Cond.selects "ElasticTrussModel" ({ cls := "ElasticTrussModel", name := "append", desc := "(IIIII)I" } : Jvm.MethodName) ({ cls := "ElasticTrussModel", name := "append", desc := "(IIIII)I" } : Jvm.MethodName)) ∈ lw_all := lw_g (lw_at lw_m14 206 rfl) rfl
theorem q3428 : (Jvm.Cond.code ({ cls := "ElasticTrussModel", name := "append", desc := "(IIIII)I" } : Jvm.MethodName) prog_20_method_12_code (8 : Nat) (Option.some Jvm.ClassFile.FieldType.int)) ∈ lw_all := lw_g (lw_at lw_m14 207 rfl) rfl
theorem q3430 : (Jvm.Cond.instanceMethod ({ cls := "ElasticTrussModel", name := "load", desc := "(I)I" } : Jvm.MethodName)) ∈ lw_all := lw_g (lw_at lw_m14 209 rfl) rfl
theorem q3431 : (Jvm.Cond.selects "ElasticTrussModel" ({ cls := "ElasticTrussModel", name := "load", desc := "(I)I" } : Jvm.MethodName) ({ cls := "ElasticTrussModel", name := "load", desc := "(I)I" } : Jvm.MethodName)) ∈ lw_all := lw_g (lw_at lw_m14 210 rfl) rfl
theorem q3432 : (Jvm.Cond.code ({ cls := "ElasticTrussModel", name := "load", desc := "(I)I" } : Jvm.MethodName) prog_20_method_32_code (3 : Nat) (Option.some Jvm.ClassFile.FieldType.int)) ∈ lw_all := lw_g (lw_at lw_m14 211 rfl) rfl
theorem q3433 : (Jvm.Cond.methodLink "ElasticTrussModel" (120 : Nat) ({ cls := "ElasticTrussModel", name := "isIn", desc := "(JJJ)Z" } : Jvm.MethodName)) ∈ lw_all := lw_g (lw_at lw_m14 212 rfl) rfl
theorem q3434 : (Jvm.Cond.static ({ cls := "ElasticTrussModel", name := "isIn", desc := "(JJJ)Z" } : Jvm.MethodName)) ∈ lw_all := lw_g (lw_at lw_m14 213 rfl) rfl
theorem q3435 : (Jvm.Cond.code ({ cls := "ElasticTrussModel", name := "isIn", desc := "(JJJ)Z" } : Jvm.MethodName) prog_20_method_3_code (6 : Nat) (Option.some Jvm.ClassFile.FieldType.boolean)) ∈ lw_all := lw_g (lw_at lw_m14 214 rfl) rfl
theorem q3436 : (Jvm.Cond.methodLink "ElasticTrussModel" (210 : Nat) ({ cls := "ElasticTrussModel", name := "right", desc := "(ZI)Z" } : Jvm.MethodName)) ∈ lw_all := lw_g (lw_at lw_m14 215 rfl) rfl
theorem q3437 : (Jvm.Cond.privateMethod ({ cls := "ElasticTrussModel", name := "right", desc := "(ZI)Z" } : Jvm.MethodName)) ∈ lw_tbl := lw_at lw_m14 216 rfl
theorem q3438 : (Jvm.Cond.instanceMethod ({ cls := "ElasticTrussModel", name := "right", desc := "(ZI)Z" } : Jvm.MethodName)) ∈ lw_all := lw_g (lw_at lw_m14 217 rfl) rfl
theorem q3439 : (Jvm.Cond.code ({ cls := "ElasticTrussModel", name := "right", desc := "(ZI)Z" } : Jvm.MethodName) prog_20_method_11_code (3 : Nat) (Option.some Jvm.ClassFile.FieldType.boolean)) ∈ lw_all := lw_g (lw_at lw_m14 218 rfl) rfl
theorem q3440 : (Jvm.Cond.methodLink "ElasticTrussModel" (214 : Nat) ({ cls := "ElasticTrussModel", name := "texts", desc := "()V" } : Jvm.MethodName)) ∈ lw_all := lw_g (lw_at lw_m14 219 rfl) rfl
theorem q3441 : (Jvm.Cond.privateMethod ({ cls := "ElasticTrussModel", name := "texts", desc := "()V" } : Jvm.MethodName)) ∈ lw_tbl := lw_at lw_m14 220 rfl
theorem q3442 : (Jvm.Cond.instanceMethod ({ cls := "ElasticTrussModel", name := "texts", desc := "()V" } : Jvm.MethodName)) ∈ lw_all := lw_g (lw_at lw_m14 221 rfl) rfl
theorem q3443 : (Jvm.Cond.code ({ cls := "ElasticTrussModel", name := "texts", desc := "()V" } : Jvm.MethodName) prog_20_method_31_code (2 : Nat) (Option.none : Option Jvm.ClassFile.FieldType)) ∈ lw_all := lw_g (lw_at lw_m14 222 rfl) rfl
theorem q3444 : (Jvm.Cond.stringRef "ElasticTrussModel" (203 : Nat) "truss") ∈ lw_tbl := lw_at lw_m14 223 rfl
theorem q3445 : (Jvm.Cond.methodLink "ElasticTrussModel" (152 : Nat) ({ cls := "ElasticTrussModel", name := "takes", desc := "(Ljava/lang/String;)Z" } : Jvm.MethodName)) ∈ lw_all := lw_g (lw_at lw_m14 224 rfl) rfl
theorem q3446 : (Jvm.Cond.privateMethod ({ cls := "ElasticTrussModel", name := "takes", desc := "(Ljava/lang/String;)Z" } : Jvm.MethodName)) ∈ lw_tbl := lw_at lw_m14 225 rfl
theorem q3447 : (Jvm.Cond.instanceMethod ({ cls := "ElasticTrussModel", name := "takes", desc := "(Ljava/lang/String;)Z" } : Jvm.MethodName)) ∈ lw_all := lw_g (lw_at lw_m14 226 rfl) rfl
theorem q3448 : (Jvm.Cond.code ({ cls := "ElasticTrussModel", name := "takes", desc := "(Ljava/lang/String;)Z" } : Jvm.MethodName) prog_20_method_16_code (2 : Nat) (Option.some Jvm.ClassFile.FieldType.boolean)) ∈ lw_all := lw_g (lw_at lw_m14 227 rfl) rfl
theorem q3449 : (Jvm.Cond.methodLink "ElasticTrussModel" (93 : Nat) ({ cls := "ElasticTrussModel", name := "isWord", desc := "(Ljava/lang/String;)Z" } : Jvm.MethodName)) ∈ lw_all := lw_g (lw_at lw_m14 228 rfl) rfl
theorem q3450 : (Jvm.Cond.privateMethod ({ cls := "ElasticTrussModel", name := "isWord", desc := "(Ljava/lang/String;)Z" } : Jvm.MethodName)) ∈ lw_tbl := lw_at lw_m14 229 rfl
theorem q3451 : (Jvm.Cond.instanceMethod ({ cls := "ElasticTrussModel", name := "isWord", desc := "(Ljava/lang/String;)Z" } : Jvm.MethodName)) ∈ lw_all := lw_g (lw_at lw_m14 230 rfl) rfl
theorem q3452 : (Jvm.Cond.code ({ cls := "ElasticTrussModel", name := "isWord", desc := "(Ljava/lang/String;)Z" } : Jvm.MethodName) prog_20_method_15_code (5 : Nat) (Option.some Jvm.ClassFile.FieldType.boolean)) ∈ lw_all := lw_g (lw_at lw_m14 231 rfl) rfl
theorem q3453 : (Jvm.Cond.methodLink "ElasticTrussModel" (80 : Nat) ({ cls := "ElasticTrussModel", name := "sees", desc := "()I" } : Jvm.MethodName)) ∈ lw_all := lw_g (lw_at lw_m14 232 rfl) rfl
theorem q3454 : (Jvm.Cond.privateMethod ({ cls := "ElasticTrussModel", name := "sees", desc := "()I" } : Jvm.MethodName)) ∈ lw_tbl := lw_at lw_m14 233 rfl
theorem q3455 : (Jvm.Cond.instanceMethod ({ cls := "ElasticTrussModel", name := "sees", desc := "()I" } : Jvm.MethodName)) ∈ lw_all := lw_g (lw_at lw_m14 234 rfl) rfl
theorem q3456 : (Jvm.Cond.code ({ cls := "ElasticTrussModel", name := "sees", desc := "()I" } : Jvm.MethodName) prog_20_method_14_code (1 : Nat) (Option.some Jvm.ClassFile.FieldType.int)) ∈ lw_all := lw_g (lw_at lw_m14 235 rfl) rfl
theorem q3457 : (Jvm.Cond.methodLink "ElasticTrussModel" (84 : Nat) ({ cls := "java/lang/String", name := "length", desc := "()I" } : Jvm.MethodName)) ∈ lw_all := lw_g (lw_at lw_m14 236 rfl) rfl
theorem q3458 : (Jvm.Cond.methodLink "ElasticTrussModel" (89 : Nat) ({ cls := "java/lang/String", name := "charAt", desc := "(I)C" } : Jvm.MethodName)) ∈ lw_all := lw_g (lw_at lw_m14 237 rfl) rfl
theorem q3459 : (Jvm.Cond.methodLink "ElasticTrussModel" (97 : Nat) ({ cls := "ElasticTrussModel", name := "fails", desc := "(II)V" } : Jvm.MethodName)) ∈ lw_all := lw_g (lw_at lw_m14 238 rfl) rfl
theorem q3460 : (Jvm.Cond.privateMethod ({ cls := "ElasticTrussModel", name := "fails", desc := "(II)V" } : Jvm.MethodName)) ∈ lw_tbl := lw_at lw_m14 239 rfl
theorem q3461 : (Jvm.Cond.instanceMethod ({ cls := "ElasticTrussModel", name := "fails", desc := "(II)V" } : Jvm.MethodName)) ∈ lw_all := lw_g (lw_at lw_m15 0 rfl) rfl
theorem q3462 : (Jvm.Cond.code ({ cls := "ElasticTrussModel", name := "fails", desc := "(II)V" } : Jvm.MethodName) prog_20_method_13_code (3 : Nat) (Option.none : Option Jvm.ClassFile.FieldType)) ∈ lw_all := lw_g (lw_at lw_m15 1 rfl) rfl
theorem q3463 : (Jvm.Cond.constantLong "ElasticTrussModel" (124 : Nat) (9999 : Int64)) ∈ lw_all := lw_g (lw_at lw_m15 2 rfl) rfl
theorem q3464 : (Jvm.Cond.methodLink "ElasticTrussModel" (126 : Nat) ({ cls := "ElasticTrussModel", name := "reads", desc := "(JJ)J" } : Jvm.MethodName)) ∈ lw_all := lw_g (lw_at lw_m15 3 rfl) rfl
theorem q3465 : (Jvm.Cond.privateMethod ({ cls := "ElasticTrussModel", name := "reads", desc := "(JJ)J" } : Jvm.MethodName)) ∈ lw_tbl := lw_at lw_m15 4 rfl
theorem q3466 : (Jvm.Cond.instanceMethod ({ cls := "ElasticTrussModel", name := "reads", desc := "(JJ)J" } : Jvm.MethodName)) ∈ lw_all := lw_g (lw_at lw_m15 5 rfl) rfl
theorem q3467 : (Jvm.Cond.code ({ cls := "ElasticTrussModel", name := "reads", desc := "(JJ)J" } : Jvm.MethodName) prog_20_method_19_code (7 : Nat) (Option.some Jvm.ClassFile.FieldType.long)) ∈ lw_all := lw_g (lw_at lw_m15 6 rfl) rfl
theorem q3468 : (Jvm.Cond.methodLink "ElasticTrussModel" (101 : Nat) ({ cls := "ElasticTrussModel", name := "isDigit", desc := "()Z" } : Jvm.MethodName)) ∈ lw_all := lw_g (lw_at lw_m15 7 rfl) rfl
theorem q3469 : (Jvm.Cond.privateMethod ({ cls := "ElasticTrussModel", name := "isDigit", desc := "()Z" } : Jvm.MethodName)) ∈ lw_tbl := lw_at lw_m15 8 rfl
theorem q3470 : (Jvm.Cond.instanceMethod ({ cls := "ElasticTrussModel", name := "isDigit", desc := "()Z" } : Jvm.MethodName)) ∈ lw_all := lw_g (lw_at lw_m15 9 rfl) rfl
theorem q3471 : (Jvm.Cond.code ({ cls := "ElasticTrussModel", name := "isDigit", desc := "()Z" } : Jvm.MethodName) prog_20_method_18_code (1 : Nat) (Option.some Jvm.ClassFile.FieldType.boolean)) ∈ lw_all := lw_g (lw_at lw_m15 10 rfl) rfl
theorem q3472 : (Jvm.Cond.constantLong "ElasticTrussModel" (108 : Nat) (1000000 : Int64)) ∈ lw_all := lw_g (lw_at lw_m15 11 rfl) rfl
theorem q3473 : (Jvm.Cond.constantLong "ElasticTrussModel" (110 : Nat) (10 : Int64)) ∈ lw_all := lw_g (lw_at lw_m15 12 rfl) rfl
theorem q3474 : (Jvm.Cond.constantLong "ElasticTrussModel" (112 : Nat) (48 : Int64)) ∈ lw_all := lw_g (lw_at lw_m15 13 rfl) rfl
theorem q3475 : (Jvm.Cond.methodLink "ElasticTrussModel" (114 : Nat) ({ cls := "java/lang/Math", name := "min", desc := "(JJ)J" } : Jvm.MethodName)) ∈ lw_all := lw_g (lw_at lw_m15 14 rfl) rfl
theorem q3476 : (Jvm.Cond.constantLong "ElasticTrussModel" (205 : Nat) (40 : Int64)) ∈ lw_all := lw_g (lw_at lw_m15 15 rfl) rfl
theorem q3477 : (Jvm.Cond.methodLink "ElasticTrussModel" (146 : Nat) ({ cls := "ElasticTrussModel", name := "wants", desc := "(I)V" } : Jvm.MethodName)) ∈ lw_all := lw_g (lw_at lw_m15 16 rfl) rfl
theorem q3478 : (Jvm.Cond.privateMethod ({ cls := "ElasticTrussModel", name := "wants", desc := "(I)V" } : Jvm.MethodName)) ∈ lw_tbl := lw_at lw_m15 17 rfl
theorem q3479 : (Jvm.Cond.instanceMethod ({ cls := "ElasticTrussModel", name := "wants", desc := "(I)V" } : Jvm.MethodName)) ∈ lw_all := lw_g (lw_at lw_m15 18 rfl) rfl
theorem q3480 : (Jvm.Cond.code ({ cls := "ElasticTrussModel", name := "wants", desc := "(I)V" } : Jvm.MethodName) prog_20_method_17_code (2 : Nat) (Option.none : Option Jvm.ClassFile.FieldType)) ∈ lw_all := lw_g (lw_at lw_m15 19 rfl) rfl
theorem q3481 : (Jvm.Cond.methodLink "ElasticTrussModel" (207 : Nat) ({ cls := "ElasticTrussModel", name := "statement", desc := "()V" } : Jvm.MethodName)) ∈ lw_all := lw_g (lw_at lw_m15 20 rfl) rfl
theorem q3482 : (Jvm.Cond.privateMethod ({ cls := "ElasticTrussModel", name := "statement", desc := "()V" } : Jvm.MethodName)) ∈ lw_tbl := lw_at lw_m15 21 rfl
theorem q3483 : (Jvm.Cond.instanceMethod ({ cls := "ElasticTrussModel", name := "statement", desc := "()V" } : Jvm.MethodName)) ∈ lw_all := lw_g (lw_at lw_m15 22 rfl) rfl
theorem q3484 : (Jvm.Cond.code ({ cls := "ElasticTrussModel", name := "statement", desc := "()V" } : Jvm.MethodName) prog_20_method_30_code (2 : Nat) (Option.none : Option Jvm.ClassFile.FieldType)) ∈ lw_all := lw_g (lw_at lw_m15 23 rfl) rfl
theorem q3485 : (Jvm.Cond.stringRef "ElasticTrussModel" (178 : Nat) "node") ∈ lw_tbl := lw_at lw_m15 24 rfl
theorem q3486 : (Jvm.Cond.methodLink "ElasticTrussModel" (180 : Nat) ({ cls := "ElasticTrussModel", name := "nodeLine", desc := "(I)V" } : Jvm.MethodName)) ∈ lw_all := lw_g (lw_at lw_m15 25 rfl) rfl
theorem q3487 : (Jvm.Cond.privateMethod ({ cls := "ElasticTrussModel", name := "nodeLine", desc := "(I)V" } : Jvm.MethodName)) ∈ lw_tbl := lw_at lw_m15 26 rfl
theorem q3488 : (Jvm.Cond.instanceMethod ({ cls := "ElasticTrussModel", name := "nodeLine", desc := "(I)V" } : Jvm.MethodName)) ∈ lw_all := lw_g (lw_at lw_m15 27 rfl) rfl
theorem q3489 : (Jvm.Cond.code ({ cls := "ElasticTrussModel", name := "nodeLine", desc := "(I)V" } : Jvm.MethodName) prog_20_method_26_code (4 : Nat) (Option.none : Option Jvm.ClassFile.FieldType)) ∈ lw_all := lw_g (lw_at lw_m15 28 rfl) rfl
theorem q3490 : (Jvm.Cond.methodLink "ElasticTrussModel" (158 : Nat) ({ cls := "ElasticTrussModel", name := "isRoom", desc := "(III)Z" } : Jvm.MethodName)) ∈ lw_all := lw_g (lw_at lw_m15 29 rfl) rfl
theorem q3491 : (Jvm.Cond.privateMethod ({ cls := "ElasticTrussModel", name := "isRoom", desc := "(III)Z" } : Jvm.MethodName)) ∈ lw_tbl := lw_at lw_m15 30 rfl
theorem q3492 : (Jvm.Cond.instanceMethod ({ cls := "ElasticTrussModel", name := "isRoom", desc := "(III)Z" } : Jvm.MethodName)) ∈ lw_all := lw_g (lw_at lw_m15 31 rfl) rfl
theorem q3493 : (Jvm.Cond.code ({ cls := "ElasticTrussModel", name := "isRoom", desc := "(III)Z" } : Jvm.MethodName) prog_20_method_25_code (4 : Nat) (Option.some Jvm.ClassFile.FieldType.boolean)) ∈ lw_all := lw_g (lw_at lw_m15 32 rfl) rfl
theorem q3494 : (Jvm.Cond.constantLong "ElasticTrussModel" (162 : Nat) (999 : Int64)) ∈ lw_all := lw_g (lw_at lw_m15 33 rfl) rfl
theorem q3495 : (Jvm.Cond.stringRef "ElasticTrussModel" (164 : Nat) "fixed") ∈ lw_tbl := lw_at lw_m15 34 rfl
theorem q3496 : (Jvm.Cond.stringRef "ElasticTrussModel" (166 : Nat) "roller") ∈ lw_tbl := lw_at lw_m15 35 rfl
theorem q3497 : (Jvm.Cond.constantLong "ElasticTrussModel" (129 : Nat) (2 : Int64)) ∈ lw_all := lw_g (lw_at lw_m15 36 rfl) rfl
theorem q3498 : (Jvm.Cond.stringRef "ElasticTrussModel" (183 : Nat) "group") ∈ lw_tbl := lw_at lw_m15 37 rfl
theorem q3499 : (Jvm.Cond.constantLong "ElasticTrussModel" (185 : Nat) (50 : Int64)) ∈ lw_all := lw_g (lw_at lw_m15 38 rfl) rfl
theorem q3500 : (Jvm.Cond.stringRef "ElasticTrussModel" (187 : Nat) "member") ∈ lw_tbl := lw_at lw_m15 39 rfl
theorem q3501 : (Jvm.Cond.methodLink "ElasticTrussModel" (189 : Nat) ({ cls := "ElasticTrussModel", name := "memberLine", desc := "(I)V" } : Jvm.MethodName)) ∈ lw_all := lw_g (lw_at lw_m15 40 rfl) rfl
theorem q3502 : (Jvm.Cond.privateMethod ({ cls := "ElasticTrussModel", name := "memberLine", desc := "(I)V" } : Jvm.MethodName)) ∈ lw_tbl := lw_at lw_m15 41 rfl
theorem q3503 : (Jvm.Cond.instanceMethod ({ cls := "ElasticTrussModel", name := "memberLine", desc := "(I)V" } : Jvm.MethodName)) ∈ lw_all := lw_g (lw_at lw_m15 42 rfl) rfl
theorem q3504 : (Jvm.Cond.code ({ cls := "ElasticTrussModel", name := "memberLine", desc := "(I)V" } : Jvm.MethodName) prog_20_method_28_code (4 : Nat) (Option.none : Option Jvm.ClassFile.FieldType)) ∈ lw_all := lw_g (lw_at lw_m15 43 rfl) rfl
theorem q3505 : (Jvm.Cond.methodLink "ElasticTrussModel" (168 : Nat) ({ cls := "ElasticTrussModel", name := "joins", desc := "(JJJJ)Z" } : Jvm.MethodName)) ∈ lw_all := lw_g (lw_at lw_m15 44 rfl) rfl
theorem q3506 : (Jvm.Cond.static ({ cls := "ElasticTrussModel", name := "joins", desc := "(JJJJ)Z" } : Jvm.MethodName)) ∈ lw_all := lw_g (lw_at lw_m15 45 rfl) rfl
theorem q3507 : (Jvm.Cond.code ({ cls := "ElasticTrussModel", name := "joins", desc := "(JJJJ)Z" } : Jvm.MethodName) prog_20_method_27_code (8 : Nat) (Option.some Jvm.ClassFile.FieldType.boolean)) ∈ lw_all := lw_g (lw_at lw_m15 46 rfl) rfl
theorem q3508 : (Jvm.Cond.stringRef "ElasticTrussModel" (192 : Nat) "load") ∈ lw_tbl := lw_at lw_m15 47 rfl
theorem q3509 : (Jvm.Cond.methodLink "ElasticTrussModel" (194 : Nat) ({ cls := "ElasticTrussModel", name := "loadLine", desc := "(I)V" } : Jvm.MethodName)) ∈ lw_all := lw_g (lw_at lw_m15 48 rfl) rfl
theorem q3510 : (Jvm.Cond.privateMethod ({ cls := "ElasticTrussModel", name := "loadLine", desc := "(I)V" } : Jvm.MethodName)) ∈ lw_tbl := lw_at lw_m15 49 rfl
theorem q3511 : (Jvm.Cond.instanceMethod ({ cls := "ElasticTrussModel", name := "loadLine", desc := "(I)V" } : Jvm.MethodName)) ∈ lw_all := lw_g (lw_at lw_m15 50 rfl) rfl
theorem q3512 : (Jvm.Cond.code ({ cls := "ElasticTrussModel", name := "loadLine", desc := "(I)V" } : Jvm.MethodName) prog_20_method_29_code (3 : Nat) (Option.none : Option Jvm.ClassFile.FieldType)) ∈ lw_all := lw_g (lw_at lw_m15 51 rfl) rfl
theorem q3513 : (Jvm.Cond.constantLong "ElasticTrussModel" (172 : Nat) (3 : Int64)) ∈ lw_all := lw_g (lw_at lw_m15 52 rfl) rfl
theorem q3514 : (Jvm.Cond.methodLink "ElasticTrussModel" (174 : Nat) ({ cls := "ElasticTrussModel", name := "readsSigned", desc := "()J" } : Jvm.MethodName)) ∈ lw_all := lw_g (lw_at lw_m15 53 rfl) rfl
theorem q3515 : (Jvm.Cond.privateMethod ({ cls := "ElasticTrussModel", name := "readsSigned", desc := "()J" } : Jvm.MethodName)) ∈ lw_tbl := lw_at lw_m15 54 rfl
theorem q3516 : (Jvm.Cond.instanceMethod ({ cls := "ElasticTrussModel", name := "readsSigned", desc := "()J" } : Jvm.MethodName)) ∈ lw_all := lw_g (lw_at lw_m15 55 rfl) rfl
theorem q3517 : (Jvm.Cond.code ({ cls := "ElasticTrussModel", name := "readsSigned", desc := "()J" } : Jvm.MethodName) prog_20_method_20_code (4 : Nat) (Option.some Jvm.ClassFile.FieldType.long)) ∈ lw_all := lw_g (lw_at lw_m15 56 rfl) rfl
theorem q3518 : (Jvm.Cond.stringRef "ElasticTrussModel" (197 : Nat) "buckling") ∈ lw_tbl := lw_at lw_m15 57 rfl
theorem q3519 : (Jvm.Cond.methodLink "ElasticTrussModel" (143 : Nat) ({ cls := "ElasticTrussModel", name := "sum", desc := "()V" } : Jvm.MethodName)) ∈ lw_all := lw_g (lw_at lw_m15 58 rfl) rfl
theorem q3520 : (Jvm.Cond.privateMethod ({ cls := "ElasticTrussModel", name := "sum", desc := "()V" } : Jvm.MethodName)) ∈ lw_tbl := lw_at lw_m15 59 rfl
theorem q3521 : (Jvm.Cond.instanceMethod ({ cls := "ElasticTrussModel", name := "sum", desc := "()V" } : Jvm.MethodName)) ∈ lw_all := lw_g (lw_at lw_m15 60 rfl) rfl
theorem q3522 : (Jvm.Cond.code ({ cls := "ElasticTrussModel", name := "sum", desc := "()V" } : Jvm.MethodName) prog_20_method_22_code (2 : Nat) (Option.none : Option Jvm.ClassFile.FieldType)) ∈ lw_all := lw_g (lw_at lw_m15 61 rfl) rfl
theorem q3523 : (Jvm.Cond.methodLink "ElasticTrussModel" (131 : Nat) ({ cls := "ElasticTrussModel", name := "term", desc := "()V" } : Jvm.MethodName)) ∈ lw_all := lw_g (lw_at lw_m15 62 rfl) rfl
theorem q3524 : (Jvm.Cond.privateMethod ({ cls := "ElasticTrussModel", name := "term", desc := "()V" } : Jvm.MethodName)) ∈ lw_tbl := lw_at lw_m15 63 rfl
theorem q3525 : (Jvm.Cond.instanceMethod ({ cls := "ElasticTrussModel", name := "term", desc := "()V" } : Jvm.MethodName)) ∈ lw_all := lw_g (lw_at lw_m15 64 rfl) rfl
theorem q3526 : (Jvm.Cond.code ({ cls := "ElasticTrussModel", name := "term", desc := "()V" } : Jvm.MethodName) prog_20_method_23_code (2 : Nat) (Option.none : Option Jvm.ClassFile.FieldType)) ∈ lw_all := lw_g (lw_at lw_m15 65 rfl) rfl
theorem q3527 : (Jvm.Cond.methodLink "ElasticTrussModel" (137 : Nat) ({ cls := "ElasticTrussModel", name := "factor", desc := "()V" } : Jvm.MethodName)) ∈ lw_all := lw_g (lw_at lw_m15 66 rfl) rfl
theorem q3528 : (Jvm.Cond.privateMethod ({ cls := "ElasticTrussModel", name := "factor", desc := "()V" } : Jvm.MethodName)) ∈ lw_tbl := lw_at lw_m15 67 rfl
theorem q3529 : (Jvm.Cond.instanceMethod ({ cls := "ElasticTrussModel", name := "factor", desc := "()V" } : Jvm.MethodName)) ∈ lw_all := lw_g (lw_at lw_m15 68 rfl) rfl
theorem q3530 : (Jvm.Cond.code ({ cls := "ElasticTrussModel", name := "factor", desc := "()V" } : Jvm.MethodName) prog_20_method_24_code (1 : Nat) (Option.none : Option Jvm.ClassFile.FieldType)) ∈ lw_all := lw_g (lw_at lw_m15 69 rfl) rfl
theorem q3531 : (Jvm.Cond.methodLink "ElasticTrussModel" (134 : Nat) ({ cls := "ElasticTrussModel", name := "codes", desc := "(IJ)V" } : Jvm.MethodName)) ∈ lw_all := lw_g (lw_at lw_m15 70 rfl) rfl
theorem q3532 : (Jvm.Cond.privateMethod ({ cls := "ElasticTrussModel", name := "codes", desc := "(IJ)V" } : Jvm.MethodName)) ∈ lw_tbl := lw_at lw_m15 71 rfl
theorem q3533 : (Jvm.Cond.instanceMethod ({ cls := "ElasticTrussModel", name := "codes", desc := "(IJ)V" } : Jvm.MethodName)) ∈ lw_all := lw_g (lw_at lw_m15 72 rfl) rfl
theorem q3534 : (Jvm.Cond.code ({ cls := "ElasticTrussModel", name := "codes", desc := "(IJ)V" } : Jvm.MethodName) prog_20_method_21_code (5 : Nat) (Option.none : Option Jvm.ClassFile.FieldType)) ∈ lw_all := lw_g (lw_at lw_m15 73 rfl) rfl
theorem q3535 : (Jvm.Cond.stringRef "ElasticTrussModel" (150 : Nat) "area") ∈ lw_tbl := lw_at lw_m15 74 rfl
theorem q3536 : (Jvm.Cond.stringRef "ElasticTrussModel" (155 : Nat) "length") ∈ lw_tbl := lw_at lw_m15 75 rfl
theorem q3537 : (Jvm.Cond.stringRef "ElasticTrussModel" (156 : Nat) "modulus") ∈ lw_tbl := lw_at lw_m15 76 rfl
theorem q3538 : (Jvm.Cond.methodLink "ElasticTrussModel" (217 : Nat) ({ cls := "ElasticTrussModel", name := "change", desc := "()V" } : Jvm.MethodName)) ∈ lw_all := lw_g (lw_at lw_m15 77 rfl) rfl
theorem q3539 : (Jvm.Cond.privateMethod ({ cls := "ElasticTrussModel", name := "change", desc := "()V" } : Jvm.MethodName)) ∈ lw_tbl := lw_at lw_m15 78 rfl
theorem q3540 : (Jvm.Cond.instanceMethod ({ cls := "ElasticTrussModel", name := "change", desc := "()V" } : Jvm.MethodName)) ∈ lw_all := lw_g (lw_at lw_m15 79 rfl) rfl
theorem q3541 : (Jvm.Cond.code ({ cls := "ElasticTrussModel", name := "change", desc := "()V" } : Jvm.MethodName) prog_20_method_8_code (3 : Nat) (Option.none : Option Jvm.ClassFile.FieldType)) ∈ lw_all := lw_g (lw_at lw_m15 80 rfl) rfl
theorem q3542 : (Jvm.Cond.methodLink "ElasticTrussModel" (54 : Nat) ({ cls := "ElasticTrussModel", name := "get", desc := "(I)J" } : Jvm.MethodName)) ∈ lw_all := lw_g (lw_at lw_m15 81 rfl) rfl
theorem q3543 : (Jvm.Cond.privateMethod ({ cls := "ElasticTrussModel", name := "get", desc := "(I)J" } : Jvm.MethodName)) ∈ lw_tbl := lw_at lw_m15 82 rfl
theorem q3544 : (Jvm.Cond.instanceMethod ({ cls := "ElasticTrussModel", name := "get", desc := "(I)J" } : Jvm.MethodName)) ∈ lw_all := lw_g (lw_at lw_m15 83 rfl) rfl
theorem q3545 : (Jvm.Cond.code ({ cls := "ElasticTrussModel", name := "get", desc := "(I)J" } : Jvm.MethodName) prog_20_method_5_code (2 : Nat) (Option.some Jvm.ClassFile.FieldType.long)) ∈ lw_all := lw_g (lw_at lw_m15 84 rfl) rfl
theorem q3546 : (Jvm.Cond.methodLink "ElasticTrussModel" (61 : Nat) ({ cls := "ElasticTrussModel", name := "put", desc := "(IJ)V" } : Jvm.MethodName)) ∈ lw_all := lw_g (lw_at lw_m15 85 rfl) rfl
theorem q3547 : (Jvm.Cond.privateMethod ({ cls := "ElasticTrussModel", name := "put", desc := "(IJ)V" } : Jvm.MethodName)) ∈ lw_tbl := lw_at lw_m15 86 rfl
theorem q3548 : (Jvm.Cond.instanceMethod ({ cls := "ElasticTrussModel", name := "put", desc := "(IJ)V" } : Jvm.MethodName)) ∈ lw_all := lw_g (lw_at lw_m15 87 rfl) rfl
theorem q3549 : (Jvm.Cond.code ({ cls := "ElasticTrussModel", name := "put", desc := "(IJ)V" } : Jvm.MethodName) prog_20_method_7_code (4 : Nat) (Option.none : Option Jvm.ClassFile.FieldType)) ∈ lw_all := lw_g (lw_at lw_m15 88 rfl) rfl
theorem q3550 : (Jvm.Cond.methodLink "ElasticTrussModel" (220 : Nat) ({ cls := "ElasticTrussModel", name := "num", desc := "(I)I" } : Jvm.MethodName)) ∈ lw_all := lw_g (lw_at lw_m15 89 rfl) rfl
theorem q3551 : (Jvm.Cond.privateMethod ({ cls := "ElasticTrussModel", name := "num", desc := "(I)I" } : Jvm.MethodName)) ∈ lw_tbl := lw_at lw_m15 90 rfl
theorem q3552 : (Jvm.Cond.instanceMethod ({ cls := "ElasticTrussModel", name := "num", desc := "(I)I" } : Jvm.MethodName)) ∈ lw_all := lw_g (lw_at lw_m15 91 rfl) rfl
theorem q3553 : (Jvm.Cond.code ({ cls := "ElasticTrussModel", name := "num", desc := "(I)I" } : Jvm.MethodName) prog_20_method_6_code (2 : Nat) (Option.some Jvm.ClassFile.FieldType.int)) ∈ lw_all := lw_g (lw_at lw_m15 92 rfl) rfl
theorem q3555 : (Jvm.Cond.instanceMethod ({ cls := "ElasticTrussModel", name := "errorOffset", desc := "()I" } : Jvm.MethodName)) ∈ lw_all := lw_g (lw_at lw_m15 94 rfl) rfl
theorem q3556 : (Jvm.Cond.selects "ElasticTrussModel" ({ cls := "ElasticTrussModel", name := "errorOffset", desc := "()I" } : Jvm.MethodName) ({ cls := "ElasticTrussModel", name := "errorOffset", desc := "()I" } : Jvm.MethodName)) ∈ lw_all := lw_g (lw_at lw_m15 95 rfl) rfl
theorem q3557 : (Jvm.Cond.code ({ cls := "ElasticTrussModel", name := "errorOffset", desc := "()I" } : Jvm.MethodName) prog_20_method_33_code (1 : Nat) (Option.some Jvm.ClassFile.FieldType.int)) ∈ lw_all := lw_g (lw_at lw_m15 96 rfl) rfl
theorem q3559 : (Jvm.Cond.instanceMethod ({ cls := "ElasticTrussModel", name := "nodeCount", desc := "()I" } : Jvm.MethodName)) ∈ lw_all := lw_g (lw_at lw_m15 98 rfl) rfl
theorem q3560 : (Jvm.Cond.selects "ElasticTrussModel" ({ cls := "ElasticTrussModel", name := "nodeCount", desc := "()I" } : Jvm.MethodName) ({ cls := "ElasticTrussModel", name := "nodeCount", desc := "()I" } : Jvm.MethodName)) ∈ lw_all := lw_g (lw_at lw_m15 99 rfl) rfl
theorem q3561 : (Jvm.Cond.code ({ cls := "ElasticTrussModel", name := "nodeCount", desc := "()I" } : Jvm.MethodName) prog_20_method_56_code (1 : Nat) (Option.some Jvm.ClassFile.FieldType.int)) ∈ lw_all := lw_g (lw_at lw_m15 100 rfl) rfl
theorem q3563 : (Jvm.Cond.instanceMethod ({ cls := "ElasticTrussModel", name := "groupCount", desc := "()I" } : Jvm.MethodName)) ∈ lw_all := lw_g (lw_at lw_m15 102 rfl) rfl
theorem q3564 : (Jvm.Cond.selects "ElasticTrussModel" ({ cls := "ElasticTrussModel", name := "groupCount", desc := "()I" } : Jvm.MethodName) ({ cls := "ElasticTrussModel", name := "groupCount", desc := "()I" } : Jvm.MethodName)) ∈ lw_all := lw_g (lw_at lw_m15 103 rfl) rfl
theorem q3565 : (Jvm.Cond.code ({ cls := "ElasticTrussModel", name := "groupCount", desc := "()I" } : Jvm.MethodName) prog_20_method_57_code (1 : Nat) (Option.some Jvm.ClassFile.FieldType.int)) ∈ lw_all := lw_g (lw_at lw_m15 104 rfl) rfl
theorem q3567 : (Jvm.Cond.instanceMethod ({ cls := "ElasticTrussModel", name := "memberCount", desc := "()I" } : Jvm.MethodName)) ∈ lw_all := lw_g (lw_at lw_m15 106 rfl) rfl
theorem q3568 : (Jvm.Cond.selects "ElasticTrussModel" ({ cls := "ElasticTrussModel", name := "memberCount", desc := "()I" } : Jvm.MethodName) ({ cls := "ElasticTrussModel", name := "memberCount", desc := "()I" } : Jvm.MethodName)) ∈ lw_all := lw_g (lw_at lw_m15 107 rfl) rfl
theorem q3569 : (Jvm.Cond.code ({ cls := "ElasticTrussModel", name := "memberCount", desc := "()I" } : Jvm.MethodName) prog_20_method_58_code (1 : Nat) (Option.some Jvm.ClassFile.FieldType.int)) ∈ lw_all := lw_g (lw_at lw_m15 108 rfl) rfl
theorem q3571 : (Jvm.Cond.instanceMethod ({ cls := "ElasticTrussModel", name := "stageCount", desc := "()I" } : Jvm.MethodName)) ∈ lw_all := lw_g (lw_at lw_m15 110 rfl) rfl
theorem q3572 : (Jvm.Cond.selects "ElasticTrussModel" ({ cls := "ElasticTrussModel", name := "stageCount", desc := "()I" } : Jvm.MethodName) ({ cls := "ElasticTrussModel", name := "stageCount", desc := "()I" } : Jvm.MethodName)) ∈ lw_all := lw_g (lw_at lw_m15 111 rfl) rfl
theorem q3573 : (Jvm.Cond.code ({ cls := "ElasticTrussModel", name := "stageCount", desc := "()I" } : Jvm.MethodName) prog_20_method_59_code (1 : Nat) (Option.some Jvm.ClassFile.FieldType.int)) ∈ lw_all := lw_g (lw_at lw_m15 112 rfl) rfl
theorem q3574 : (Jvm.Cond.methodLink "ElasticTrussModel" (268 : Nat) ({ cls := "ElasticTrussModel", name := "stages", desc := "()I" } : Jvm.MethodName)) ∈ lw_all := lw_g (lw_at lw_m15 113 rfl) rfl
theorem q3575 : (Jvm.Cond.privateMethod ({ cls := "ElasticTrussModel", name := "stages", desc := "()I" } : Jvm.MethodName)) ∈ lw_tbl := lw_at lw_m15 114 rfl
theorem q3576 : (Jvm.Cond.instanceMethod ({ cls := "ElasticTrussModel", name := "stages", desc := "()I" } : Jvm.MethodName)) ∈ lw_all := lw_g (lw_at lw_m15 115 rfl) rfl
theorem q3577 : (Jvm.Cond.code ({ cls := "ElasticTrussModel", name := "stages", desc := "()I" } : Jvm.MethodName) prog_20_method_39_code (4 : Nat) (Option.some Jvm.ClassFile.FieldType.int)) ∈ lw_all := lw_g (lw_at lw_m15 116 rfl) rfl
theorem q3578 : (Jvm.Cond.constantLong "ElasticTrussModel" (236 : Nat) (-1 : Int64)) ∈ lw_all := lw_g (lw_at lw_m15 117 rfl) rfl
theorem q3579 : (Jvm.Cond.methodLink "ElasticTrussModel" (238 : Nat) ({ cls := "java/lang/Math", name := "max", desc := "(JJ)J" } : Jvm.MethodName)) ∈ lw_all := lw_g (lw_at lw_m15 118 rfl) rfl
theorem q3581 : (Jvm.Cond.instanceMethod ({ cls := "ElasticTrussModel", name := "weight", desc := "()I" } : Jvm.MethodName)) ∈ lw_all := lw_g (lw_at lw_m15 120 rfl) rfl
theorem q3582 : (Jvm.Cond.selects "ElasticTrussModel" ({ cls := "ElasticTrussModel", name := "weight", desc := "()I" } : Jvm.MethodName) ({ cls := "ElasticTrussModel", name := "weight", desc := "()I" } : Jvm.MethodName)) ∈ lw_all := lw_g (lw_at lw_m15 121 rfl) rfl
theorem q3583 : (Jvm.Cond.code ({ cls := "ElasticTrussModel", name := "weight", desc := "()I" } : Jvm.MethodName) prog_20_method_60_code (1 : Nat) (Option.some Jvm.ClassFile.FieldType.int)) ∈ lw_all := lw_g (lw_at lw_m15 122 rfl) rfl
theorem q3584 : (Jvm.Cond.methodLink "ElasticTrussModel" (306 : Nat) ({ cls := "ElasticTrussModel", name := "weighs", desc := "()J" } : Jvm.MethodName)) ∈ lw_all := lw_g (lw_at lw_m15 123 rfl) rfl
theorem q3585 : (Jvm.Cond.privateMethod ({ cls := "ElasticTrussModel", name := "weighs", desc := "()J" } : Jvm.MethodName)) ∈ lw_tbl := lw_at lw_m15 124 rfl
theorem q3586 : (Jvm.Cond.instanceMethod ({ cls := "ElasticTrussModel", name := "weighs", desc := "()J" } : Jvm.MethodName)) ∈ lw_all := lw_g (lw_at lw_m15 125 rfl) rfl
theorem q3587 : (Jvm.Cond.code ({ cls := "ElasticTrussModel", name := "weighs", desc := "()J" } : Jvm.MethodName) prog_20_method_40_code (4 : Nat) (Option.some Jvm.ClassFile.FieldType.long)) ∈ lw_all := lw_g (lw_at lw_m15 126 rfl) rfl
theorem q3588 : (Jvm.Cond.methodLink "ElasticTrussModel" (241 : Nat) ({ cls := "ElasticTrussModel", name := "areaOf", desc := "(I)J" } : Jvm.MethodName)) ∈ lw_all := lw_g (lw_at lw_m15 127 rfl) rfl
theorem q3589 : (Jvm.Cond.privateMethod ({ cls := "ElasticTrussModel", name := "areaOf", desc := "(I)J" } : Jvm.MethodName)) ∈ lw_tbl := lw_at lw_m15 128 rfl
theorem q3590 : (Jvm.Cond.instanceMethod ({ cls := "ElasticTrussModel", name := "areaOf", desc := "(I)J" } : Jvm.MethodName)) ∈ lw_all := lw_g (lw_at lw_m15 129 rfl) rfl
theorem q3591 : (Jvm.Cond.code ({ cls := "ElasticTrussModel", name := "areaOf", desc := "(I)J" } : Jvm.MethodName) prog_20_method_36_code (2 : Nat) (Option.some Jvm.ClassFile.FieldType.long)) ∈ lw_all := lw_g (lw_at lw_m15 130 rfl) rfl
theorem q3592 : (Jvm.Cond.methodLink "ElasticTrussModel" (224 : Nat) ({ cls := "ElasticTrussModel", name := "bar", desc := "(II)I" } : Jvm.MethodName)) ∈ lw_all := lw_g (lw_at lw_m15 131 rfl) rfl
theorem q3593 : (Jvm.Cond.privateMethod ({ cls := "ElasticTrussModel", name := "bar", desc := "(II)I" } : Jvm.MethodName)) ∈ lw_tbl := lw_at lw_m15 132 rfl
theorem q3594 : (Jvm.Cond.instanceMethod ({ cls := "ElasticTrussModel", name := "bar", desc := "(II)I" } : Jvm.MethodName)) ∈ lw_all := lw_g (lw_at lw_m15 133 rfl) rfl
theorem q3595 : (Jvm.Cond.code ({ cls := "ElasticTrussModel", name := "bar", desc := "(II)I" } : Jvm.MethodName) prog_20_method_35_code (3 : Nat) (Option.some Jvm.ClassFile.FieldType.int)) ∈ lw_all := lw_g (lw_at lw_m15 134 rfl) rfl
theorem q3596 : (Jvm.Cond.methodLink "ElasticTrussModel" (244 : Nat) ({ cls := "ElasticTrussModel", name := "lengthOf", desc := "(I)J" } : Jvm.MethodName)) ∈ lw_all := lw_g (lw_at lw_m15 135 rfl) rfl
theorem q3597 : (Jvm.Cond.privateMethod ({ cls := "ElasticTrussModel", name := "lengthOf", desc := "(I)J" } : Jvm.MethodName)) ∈ lw_tbl := lw_at lw_m15 136 rfl
theorem q3598 : (Jvm.Cond.instanceMethod ({ cls := "ElasticTrussModel", name := "lengthOf", desc := "(I)J" } : Jvm.MethodName)) ∈ lw_all := lw_g (lw_at lw_m15 137 rfl) rfl
theorem q3599 : (Jvm.Cond.code ({ cls := "ElasticTrussModel", name := "lengthOf", desc := "(I)J" } : Jvm.MethodName) prog_20_method_38_code (10 : Nat) (Option.some Jvm.ClassFile.FieldType.long)) ∈ lw_all := lw_g (lw_at lw_m15 138 rfl) rfl
theorem q3600 : (Jvm.Cond.methodLink "ElasticTrussModel" (231 : Nat) ({ cls := "ElasticTrussModel", name := "along", desc := "(II)J" } : Jvm.MethodName)) ∈ lw_all := lw_g (lw_at lw_m15 139 rfl) rfl
theorem q3601 : (Jvm.Cond.privateMethod ({ cls := "ElasticTrussModel", name := "along", desc := "(II)J" } : Jvm.MethodName)) ∈ lw_tbl := lw_at lw_m15 140 rfl
theorem q3602 : (Jvm.Cond.instanceMethod ({ cls := "ElasticTrussModel", name := "along", desc := "(II)J" } : Jvm.MethodName)) ∈ lw_all := lw_g (lw_at lw_m15 141 rfl) rfl
theorem q3603 : (Jvm.Cond.code ({ cls := "ElasticTrussModel", name := "along", desc := "(II)J" } : Jvm.MethodName) prog_20_method_37_code (3 : Nat) (Option.some Jvm.ClassFile.FieldType.long)) ∈ lw_all := lw_g (lw_at lw_m15 142 rfl) rfl
theorem q3604 : (Jvm.Cond.methodLink "ElasticTrussModel" (228 : Nat) ({ cls := "ElasticTrussModel", name := "node", desc := "(II)J" } : Jvm.MethodName)) ∈ lw_all := lw_g (lw_at lw_m15 143 rfl) rfl
theorem q3605 : (Jvm.Cond.privateMethod ({ cls := "ElasticTrussModel", name := "node", desc := "(II)J" } : Jvm.MethodName)) ∈ lw_tbl := lw_at lw_m15 144 rfl
theorem q3606 : (Jvm.Cond.instanceMethod ({ cls := "ElasticTrussModel", name := "node", desc := "(II)J" } : Jvm.MethodName)) ∈ lw_all := lw_g (lw_at lw_m15 145 rfl) rfl
theorem q3607 : (Jvm.Cond.code ({ cls := "ElasticTrussModel", name := "node", desc := "(II)J" } : Jvm.MethodName) prog_20_method_34_code (3 : Nat) (Option.some Jvm.ClassFile.FieldType.long)) ∈ lw_all := lw_g (lw_at lw_m15 146 rfl) rfl
theorem q3608 : (Jvm.Cond.constantLong "ElasticTrussModel" (234 : Nat) (1500 : Int64)) ∈ lw_all := lw_g (lw_at lw_m15 147 rfl) rfl
theorem q3610 : (Jvm.Cond.instanceMethod ({ cls := "ElasticTrussModel", name := "area", desc := "(I)I" } : Jvm.MethodName)) ∈ lw_all := lw_g (lw_at lw_m15 149 rfl) rfl
theorem q3611 : (Jvm.Cond.selects "ElasticTrussModel" ({ cls := "ElasticTrussModel", name := "area", desc := "(I)I" } : Jvm.MethodName) ({ cls := "ElasticTrussModel", name := "area", desc := "(I)I" } : Jvm.MethodName)) ∈ lw_all := lw_g (lw_at lw_m15 150 rfl) rfl
theorem q3612 : (Jvm.Cond.code ({ cls := "ElasticTrussModel", name := "area", desc := "(I)I" } : Jvm.MethodName) prog_20_method_63_code (2 : Nat) (Option.some Jvm.ClassFile.FieldType.int)) ∈ lw_all := lw_g (lw_at lw_m15 151 rfl) rfl
theorem q3613 : (Jvm.Cond.methodLink "ElasticTrussModel" (309 : Nat) ({ cls := "ElasticTrussModel", name := "isOne", desc := "(II)Z" } : Jvm.MethodName)) ∈ lw_all := lw_g (lw_at lw_m15 152 rfl) rfl
theorem q3614 : (Jvm.Cond.privateMethod ({ cls := "ElasticTrussModel", name := "isOne", desc := "(II)Z" } : Jvm.MethodName)) ∈ lw_tbl := lw_at lw_m15 153 rfl
theorem q3615 : (Jvm.Cond.instanceMethod ({ cls := "ElasticTrussModel", name := "isOne", desc := "(II)Z" } : Jvm.MethodName)) ∈ lw_all := lw_g (lw_at lw_m15 154 rfl) rfl
theorem q3616 : (Jvm.Cond.code ({ cls := "ElasticTrussModel", name := "isOne", desc := "(II)Z" } : Jvm.MethodName) prog_20_method_61_code (3 : Nat) (Option.some Jvm.ClassFile.FieldType.boolean)) ∈ lw_all := lw_g (lw_at lw_m15 155 rfl) rfl
theorem q3618 : (Jvm.Cond.instanceMethod ({ cls := "ElasticTrussModel", name := "member", desc := "(II)I" } : Jvm.MethodName)) ∈ lw_all := lw_g (lw_at lw_m15 157 rfl) rfl
theorem q3619 : (Jvm.Cond.selects "ElasticTrussModel" ({ cls := "ElasticTrussModel", name := "member", desc := "(II)I" } : Jvm.MethodName) ({ cls := "ElasticTrussModel", name := "member", desc := "(II)I" } : Jvm.MethodName)) ∈ lw_all := lw_g (lw_at lw_m15 158 rfl) rfl
theorem q3620 : (Jvm.Cond.code ({ cls := "ElasticTrussModel", name := "member", desc := "(II)I" } : Jvm.MethodName) prog_20_method_64_code (3 : Nat) (Option.some Jvm.ClassFile.FieldType.int)) ∈ lw_all := lw_g (lw_at lw_m15 159 rfl) rfl
theorem q3622 : (Jvm.Cond.instanceMethod ({ cls := "ElasticTrussModel", name := "between", desc := "(II)I" } : Jvm.MethodName)) ∈ lw_all := lw_g (lw_at lw_m15 161 rfl) rfl
theorem q3623 : (Jvm.Cond.selects "ElasticTrussModel" ({ cls := "ElasticTrussModel", name := "between", desc := "(II)I" } : Jvm.MethodName) ({ cls := "ElasticTrussModel", name := "between", desc := "(II)I" } : Jvm.MethodName)) ∈ lw_all := lw_g (lw_at lw_m15 162 rfl) rfl
theorem q3624 : (Jvm.Cond.code ({ cls := "ElasticTrussModel", name := "between", desc := "(II)I" } : Jvm.MethodName) prog_20_method_66_code (3 : Nat) (Option.some Jvm.ClassFile.FieldType.int)) ∈ lw_all := lw_g (lw_at lw_m15 163 rfl) rfl
theorem q3625 : (Jvm.Cond.methodLink "ElasticTrussModel" (312 : Nat) ({ cls := "ElasticTrussModel", name := "barBetween", desc := "(II)I" } : Jvm.MethodName)) ∈ lw_all := lw_g (lw_at lw_m15 164 rfl) rfl
theorem q3626 : (Jvm.Cond.privateMethod ({ cls := "ElasticTrussModel", name := "barBetween", desc := "(II)I" } : Jvm.MethodName)) ∈ lw_tbl := lw_at lw_m15 165 rfl
theorem q3627 : (Jvm.Cond.instanceMethod ({ cls := "ElasticTrussModel", name := "barBetween", desc := "(II)I" } : Jvm.MethodName)) ∈ lw_all := lw_g (lw_at lw_m15 166 rfl) rfl
theorem q3628 : (Jvm.Cond.code ({ cls := "ElasticTrussModel", name := "barBetween", desc := "(II)I" } : Jvm.MethodName) prog_20_method_65_code (4 : Nat) (Option.some Jvm.ClassFile.FieldType.int)) ∈ lw_all := lw_g (lw_at lw_m15 167 rfl) rfl
theorem q3630 : (Jvm.Cond.instanceMethod ({ cls := "ElasticTrussModel", name := "degree", desc := "(I)I" } : Jvm.MethodName)) ∈ lw_all := lw_g (lw_at lw_m15 169 rfl) rfl
theorem q3631 : (Jvm.Cond.selects "ElasticTrussModel" ({ cls := "ElasticTrussModel", name := "degree", desc := "(I)I" } : Jvm.MethodName) ({ cls := "ElasticTrussModel", name := "degree", desc := "(I)I" } : Jvm.MethodName)) ∈ lw_all := lw_g (lw_at lw_m15 170 rfl) rfl
theorem q3632 : (Jvm.Cond.code ({ cls := "ElasticTrussModel", name := "degree", desc := "(I)I" } : Jvm.MethodName) prog_20_method_67_code (4 : Nat) (Option.some Jvm.ClassFile.FieldType.int)) ∈ lw_all := lw_g (lw_at lw_m15 171 rfl) rfl
theorem q3634 : (Jvm.Cond.instanceMethod ({ cls := "ElasticTrussModel", name := "parts", desc := "()I" } : Jvm.MethodName)) ∈ lw_all := lw_g (lw_at lw_m15 173 rfl) rfl
theorem q3635 : (Jvm.Cond.selects "ElasticTrussModel" ({ cls := "ElasticTrussModel", name := "parts", desc := "()I" } : Jvm.MethodName) ({ cls := "ElasticTrussModel", name := "parts", desc := "()I" } : Jvm.MethodName)) ∈ lw_all := lw_g (lw_at lw_m15 174 rfl) rfl
theorem q3636 : (Jvm.Cond.code ({ cls := "ElasticTrussModel", name := "parts", desc := "()I" } : Jvm.MethodName) prog_20_method_68_code (6 : Nat) (Option.some Jvm.ClassFile.FieldType.int)) ∈ lw_all := lw_g (lw_at lw_m15 175 rfl) rfl
theorem q3638 : (Jvm.Cond.instanceMethod ({ cls := "ElasticTrussModel", name := "displacement", desc := "(IIZ)I" } : Jvm.MethodName)) ∈ lw_all := lw_g (lw_at lw_m15 177 rfl) rfl
theorem q3639 : (Jvm.Cond.selects "ElasticTrussModel" ({ cls := "ElasticTrussModel", name := "displacement", desc := "(IIZ)I" } : Jvm.MethodName) ({ cls := "ElasticTrussModel", name := "displacement", desc := "(IIZ)I" } : Jvm.MethodName)) ∈ lw_all := lw_g (lw_at lw_m15 178 rfl) rfl
theorem q3640 : (Jvm.Cond.code ({ cls := "ElasticTrussModel", name := "displacement", desc := "(IIZ)I" } : Jvm.MethodName) prog_20_method_69_code (4 : Nat) (Option.some Jvm.ClassFile.FieldType.int)) ∈ lw_all := lw_g (lw_at lw_m15 179 rfl) rfl
theorem q3641 : (Jvm.Cond.methodLink "ElasticTrussModel" (315 : Nat) ({ cls := "ElasticTrussModel", name := "isStage", desc := "(I)Z" } : Jvm.MethodName)) ∈ lw_all := lw_g (lw_at lw_m15 180 rfl) rfl
theorem q3642 : (Jvm.Cond.privateMethod ({ cls := "ElasticTrussModel", name := "isStage", desc := "(I)Z" } : Jvm.MethodName)) ∈ lw_tbl := lw_at lw_m15 181 rfl
theorem q3643 : (Jvm.Cond.instanceMethod ({ cls := "ElasticTrussModel", name := "isStage", desc := "(I)Z" } : Jvm.MethodName)) ∈ lw_all := lw_g (lw_at lw_m15 182 rfl) rfl
theorem q3644 : (Jvm.Cond.code ({ cls := "ElasticTrussModel", name := "isStage", desc := "(I)Z" } : Jvm.MethodName) prog_20_method_62_code (2 : Nat) (Option.some Jvm.ClassFile.FieldType.boolean)) ∈ lw_all := lw_g (lw_at lw_m15 183 rfl) rfl
theorem q3645 : (Jvm.Cond.methodLink "ElasticTrussModel" (319 : Nat) ({ cls := "ElasticTrussModel", name := "relaxesAll", desc := "()V" } : Jvm.MethodName)) ∈ lw_all := lw_g (lw_at lw_m15 184 rfl) rfl
theorem q3646 : (Jvm.Cond.privateMethod ({ cls := "ElasticTrussModel", name := "relaxesAll", desc := "()V" } : Jvm.MethodName)) ∈ lw_tbl := lw_at lw_m15 185 rfl
theorem q3647 : (Jvm.Cond.instanceMethod ({ cls := "ElasticTrussModel", name := "relaxesAll", desc := "()V" } : Jvm.MethodName)) ∈ lw_all := lw_g (lw_at lw_m15 186 rfl) rfl
theorem q3648 : (Jvm.Cond.code ({ cls := "ElasticTrussModel", name := "relaxesAll", desc := "()V" } : Jvm.MethodName) prog_20_method_46_code (2 : Nat) (Option.none : Option Jvm.ClassFile.FieldType)) ∈ lw_all := lw_g (lw_at lw_m15 187 rfl) rfl
theorem q3649 : (Jvm.Cond.methodLink "ElasticTrussModel" (265 : Nat) ({ cls := "ElasticTrussModel", name := "lays", desc := "()V" } : Jvm.MethodName)) ∈ lw_all := lw_g (lw_at lw_m15 188 rfl) rfl
theorem q3650 : (Jvm.Cond.privateMethod ({ cls := "ElasticTrussModel", name := "lays", desc := "()V" } : Jvm.MethodName)) ∈ lw_tbl := lw_at lw_m15 189 rfl
theorem q3651 : (Jvm.Cond.instanceMethod ({ cls := "ElasticTrussModel", name := "lays", desc := "()V" } : Jvm.MethodName)) ∈ lw_all := lw_g (lw_at lw_m15 190 rfl) rfl
theorem q3652 : (Jvm.Cond.code ({ cls := "ElasticTrussModel", name := "lays", desc := "()V" } : Jvm.MethodName) prog_20_method_44_code (3 : Nat) (Option.none : Option Jvm.ClassFile.FieldType)) ∈ lw_all := lw_g (lw_at lw_m15 191 rfl) rfl
theorem q3653 : (Jvm.Cond.methodLink "ElasticTrussModel" (271 : Nat) ({ cls := "ElasticTrussModel", name := "relaxes", desc := "(I)V" } : Jvm.MethodName)) ∈ lw_all := lw_g (lw_at lw_m15 192 rfl) rfl
theorem q3654 : (Jvm.Cond.privateMethod ({ cls := "ElasticTrussModel", name := "relaxes", desc := "(I)V" } : Jvm.MethodName)) ∈ lw_tbl := lw_at lw_m15 193 rfl
theorem q3655 : (Jvm.Cond.instanceMethod ({ cls := "ElasticTrussModel", name := "relaxes", desc := "(I)V" } : Jvm.MethodName)) ∈ lw_all := lw_g (lw_at lw_m15 194 rfl) rfl
theorem q3656 : (Jvm.Cond.code ({ cls := "ElasticTrussModel", name := "relaxes", desc := "(I)V" } : Jvm.MethodName) prog_20_method_45_code (3 : Nat) (Option.none : Option Jvm.ClassFile.FieldType)) ∈ lw_all := lw_g (lw_at lw_m15 195 rfl) rfl
theorem q3657 : (Jvm.Cond.methodLink "ElasticTrussModel" (262 : Nat) ({ cls := "ElasticTrussModel", name := "sweeps", desc := "(I)V" } : Jvm.MethodName)) ∈ lw_all := lw_g (lw_at lw_m15 196 rfl) rfl
theorem q3658 : (Jvm.Cond.privateMethod ({ cls := "ElasticTrussModel", name := "sweeps", desc := "(I)V" } : Jvm.MethodName)) ∈ lw_tbl := lw_at lw_m15 197 rfl
theorem q3659 : (Jvm.Cond.instanceMethod ({ cls := "ElasticTrussModel", name := "sweeps", desc := "(I)V" } : Jvm.MethodName)) ∈ lw_all := lw_g (lw_at lw_m15 198 rfl) rfl
theorem q3660 : (Jvm.Cond.code ({ cls := "ElasticTrussModel", name := "sweeps", desc := "(I)V" } : Jvm.MethodName) prog_20_method_43_code (8 : Nat) (Option.none : Option Jvm.ClassFile.FieldType)) ∈ lw_all := lw_g (lw_at lw_m15 199 rfl) rfl
theorem q3661 : (Jvm.Cond.methodLink "ElasticTrussModel" (258 : Nat) ({ cls := "ElasticTrussModel", name := "drawn", desc := "(III)J" } : Jvm.MethodName)) ∈ lw_all := lw_g (lw_at lw_m15 200 rfl) rfl
theorem q3662 : (Jvm.Cond.privateMethod ({ cls := "ElasticTrussModel", name := "drawn", desc := "(III)J" } : Jvm.MethodName)) ∈ lw_tbl := lw_at lw_m15 201 rfl
theorem q3663 : (Jvm.Cond.instanceMethod ({ cls := "ElasticTrussModel", name := "drawn", desc := "(III)J" } : Jvm.MethodName)) ∈ lw_all := lw_g (lw_at lw_m15 202 rfl) rfl
theorem q3664 : (Jvm.Cond.code ({ cls := "ElasticTrussModel", name := "drawn", desc := "(III)J" } : Jvm.MethodName) prog_20_method_42_code (9 : Nat) (Option.some Jvm.ClassFile.FieldType.long)) ∈ lw_all := lw_g (lw_at lw_m15 203 rfl) rfl
theorem q3665 : (Jvm.Cond.methodLink "ElasticTrussModel" (255 : Nat) ({ cls := "ElasticTrussModel", name := "forceAt", desc := "(II)J" } : Jvm.MethodName)) ∈ lw_all := lw_g (lw_at lw_m15 204 rfl) rfl
theorem q3666 : (Jvm.Cond.privateMethod ({ cls := "ElasticTrussModel", name := "forceAt", desc := "(II)J" } : Jvm.MethodName)) ∈ lw_tbl := lw_at lw_m15 205 rfl
theorem q3667 : (Jvm.Cond.instanceMethod ({ cls := "ElasticTrussModel", name := "forceAt", desc := "(II)J" } : Jvm.MethodName)) ∈ lw_all := lw_g (lw_at lw_m15 206 rfl) rfl
theorem q3668 : (Jvm.Cond.code ({ cls := "ElasticTrussModel", name := "forceAt", desc := "(II)J" } : Jvm.MethodName) prog_20_method_41_code (7 : Nat) (Option.some Jvm.ClassFile.FieldType.long)) ∈ lw_all := lw_g (lw_at lw_m15 207 rfl) rfl
theorem q3669 : (Jvm.Cond.constantLong "ElasticTrussModel" (247 : Nat) (1000 : Int64)) ∈ lw_all := lw_g (lw_at lw_m15 208 rfl) rfl
theorem q3670 : (Jvm.Cond.constantLong "ElasticTrussModel" (249 : Nat) (-1000000 : Int64)) ∈ lw_all := lw_g (lw_at lw_m15 209 rfl) rfl
theorem q3671 : (Jvm.Cond.methodLink "ElasticTrussModel" (251 : Nat) ({ cls := "ElasticTrussModel", name := "clamped", desc := "(JJJ)J" } : Jvm.MethodName)) ∈ lw_all := lw_g (lw_at lw_m15 210 rfl) rfl
theorem q3672 : (Jvm.Cond.static ({ cls := "ElasticTrussModel", name := "clamped", desc := "(JJJ)J" } : Jvm.MethodName)) ∈ lw_all := lw_g (lw_at lw_m15 211 rfl) rfl
theorem q3673 : (Jvm.Cond.code ({ cls := "ElasticTrussModel", name := "clamped", desc := "(JJJ)J" } : Jvm.MethodName) prog_20_method_4_code (6 : Nat) (Option.some Jvm.ClassFile.FieldType.long)) ∈ lw_all := lw_g (lw_at lw_m15 212 rfl) rfl
theorem q3675 : (Jvm.Cond.instanceMethod ({ cls := "ElasticTrussModel", name := "force", desc := "(II)I" } : Jvm.MethodName)) ∈ lw_all := lw_g (lw_at lw_m15 214 rfl) rfl
theorem q3676 : (Jvm.Cond.selects "ElasticTrussModel" ({ cls := "ElasticTrussModel", name := "force", desc := "(II)I" } : Jvm.MethodName) ({ cls := "ElasticTrussModel", name := "force", desc := "(II)I" } : Jvm.MethodName)) ∈ lw_all := lw_g (lw_at lw_m15 215 rfl) rfl
theorem q3677 : (Jvm.Cond.code ({ cls := "ElasticTrussModel", name := "force", desc := "(II)I" } : Jvm.MethodName) prog_20_method_70_code (3 : Nat) (Option.some Jvm.ClassFile.FieldType.int)) ∈ lw_all := lw_g (lw_at lw_m15 216 rfl) rfl
theorem q3679 : (Jvm.Cond.instanceMethod ({ cls := "ElasticTrussModel", name := "residual", desc := "(IIZ)I" } : Jvm.MethodName)) ∈ lw_all := lw_g (lw_at lw_m15 218 rfl) rfl
theorem q3680 : (Jvm.Cond.selects "ElasticTrussModel" ({ cls := "ElasticTrussModel", name := "residual", desc := "(IIZ)I" } : Jvm.MethodName) ({ cls := "ElasticTrussModel", name := "residual", desc := "(IIZ)I" } : Jvm.MethodName)) ∈ lw_all := lw_g (lw_at lw_m15 219 rfl) rfl
theorem q3681 : (Jvm.Cond.code ({ cls := "ElasticTrussModel", name := "residual", desc := "(IIZ)I" } : Jvm.MethodName) prog_20_method_71_code (4 : Nat) (Option.some Jvm.ClassFile.FieldType.int)) ∈ lw_all := lw_g (lw_at lw_m15 220 rfl) rfl
theorem q3683 : (Jvm.Cond.instanceMethod ({ cls := "ElasticTrussModel", name := "buckling", desc := "(I)I" } : Jvm.MethodName)) ∈ lw_all := lw_g (lw_at lw_m15 222 rfl) rfl
theorem q3684 : (Jvm.Cond.selects "ElasticTrussModel" ({ cls := "ElasticTrussModel", name := "buckling", desc := "(I)I" } : Jvm.MethodName) ({ cls := "ElasticTrussModel", name := "buckling", desc := "(I)I" } : Jvm.MethodName)) ∈ lw_all := lw_g (lw_at lw_m15 223 rfl) rfl
theorem q3685 : (Jvm.Cond.code ({ cls := "ElasticTrussModel", name := "buckling", desc := "(I)I" } : Jvm.MethodName) prog_20_method_72_code (2 : Nat) (Option.some Jvm.ClassFile.FieldType.int)) ∈ lw_all := lw_g (lw_at lw_m15 224 rfl) rfl
theorem q3686 : (Jvm.Cond.methodLink "ElasticTrussModel" (280 : Nat) ({ cls := "ElasticTrussModel", name := "bucklingOf", desc := "(I)J" } : Jvm.MethodName)) ∈ lw_all := lw_g (lw_at lw_m15 225 rfl) rfl
theorem q3687 : (Jvm.Cond.privateMethod ({ cls := "ElasticTrussModel", name := "bucklingOf", desc := "(I)J" } : Jvm.MethodName)) ∈ lw_tbl := lw_at lw_m15 226 rfl
theorem q3688 : (Jvm.Cond.instanceMethod ({ cls := "ElasticTrussModel", name := "bucklingOf", desc := "(I)J" } : Jvm.MethodName)) ∈ lw_all := lw_g (lw_at lw_m15 227 rfl) rfl
theorem q3689 : (Jvm.Cond.code ({ cls := "ElasticTrussModel", name := "bucklingOf", desc := "(I)J" } : Jvm.MethodName) prog_20_method_47_code (14 : Nat) (Option.some Jvm.ClassFile.FieldType.long)) ∈ lw_all := lw_g (lw_at lw_m15 228 rfl) rfl
theorem q3690 : (Jvm.Cond.constantLong "ElasticTrussModel" (274 : Nat) (43 : Int64)) ∈ lw_all := lw_g (lw_at lw_m15 229 rfl) rfl
theorem q3691 : (Jvm.Cond.constantLong "ElasticTrussModel" (276 : Nat) (45 : Int64)) ∈ lw_all := lw_g (lw_at lw_m15 230 rfl) rfl
theorem q3692 : (Jvm.Cond.constantLong "ElasticTrussModel" (278 : Nat) (42 : Int64)) ∈ lw_all := lw_g (lw_at lw_m15 231 rfl) rfl
theorem q3694 : (Jvm.Cond.instanceMethod ({ cls := "ElasticTrussModel", name := "capacity", desc := "(IZ)I" } : Jvm.MethodName)) ∈ lw_all := lw_g (lw_at lw_m15 233 rfl) rfl
theorem q3695 : (Jvm.Cond.selects "ElasticTrussModel" ({ cls := "ElasticTrussModel", name := "capacity", desc := "(IZ)I" } : Jvm.MethodName) ({ cls := "ElasticTrussModel", name := "capacity", desc := "(IZ)I" } : Jvm.MethodName)) ∈ lw_all := lw_g (lw_at lw_m15 234 rfl) rfl
theorem q3696 : (Jvm.Cond.code ({ cls := "ElasticTrussModel", name := "capacity", desc := "(IZ)I" } : Jvm.MethodName) prog_20_method_73_code (3 : Nat) (Option.some Jvm.ClassFile.FieldType.int)) ∈ lw_all := lw_g (lw_at lw_m15 235 rfl) rfl
theorem q3697 : (Jvm.Cond.methodLink "ElasticTrussModel" (286 : Nat) ({ cls := "ElasticTrussModel", name := "bears", desc := "(IZ)J" } : Jvm.MethodName)) ∈ lw_all := lw_g (lw_at lw_m15 236 rfl) rfl
theorem q3698 : (Jvm.Cond.privateMethod ({ cls := "ElasticTrussModel", name := "bears", desc := "(IZ)J" } : Jvm.MethodName)) ∈ lw_tbl := lw_at lw_m15 237 rfl
theorem q3699 : (Jvm.Cond.instanceMethod ({ cls := "ElasticTrussModel", name := "bears", desc := "(IZ)J" } : Jvm.MethodName)) ∈ lw_all := lw_g (lw_at lw_m15 238 rfl) rfl
theorem q3700 : (Jvm.Cond.code ({ cls := "ElasticTrussModel", name := "bears", desc := "(IZ)J" } : Jvm.MethodName) prog_20_method_48_code (5 : Nat) (Option.some Jvm.ClassFile.FieldType.long)) ∈ lw_all := lw_g (lw_at lw_m15 239 rfl) rfl
theorem q3702 : (Jvm.Cond.instanceMethod ({ cls := "ElasticTrussModel", name := "use", desc := "(II)I" } : Jvm.MethodName)) ∈ lw_all := lw_g (lw_at lw_m16 1 rfl) rfl
theorem q3703 : (Jvm.Cond.selects "ElasticTrussModel" ({ cls := "ElasticTrussModel", name := "use", desc := "(II)I" } : Jvm.MethodName) ({ cls := "ElasticTrussModel", name := "use", desc := "(II)I" } : Jvm.MethodName)) ∈ lw_all := lw_g (lw_at lw_m16 2 rfl) rfl
theorem q3704 : (Jvm.Cond.code ({ cls := "ElasticTrussModel", name := "use", desc := "(II)I" } : Jvm.MethodName) prog_20_method_74_code (3 : Nat) (Option.some Jvm.ClassFile.FieldType.int)) ∈ lw_all := lw_g (lw_at lw_m16 3 rfl) rfl
theorem q3705 : (Jvm.Cond.methodLink "ElasticTrussModel" (322 : Nat) ({ cls := "ElasticTrussModel", name := "useOf", desc := "(II)J" } : Jvm.MethodName)) ∈ lw_all := lw_g (lw_at lw_m16 4 rfl) rfl
theorem q3706 : (Jvm.Cond.privateMethod ({ cls := "ElasticTrussModel", name := "useOf", desc := "(II)J" } : Jvm.MethodName)) ∈ lw_tbl := lw_at lw_m16 5 rfl
theorem q3707 : (Jvm.Cond.instanceMethod ({ cls := "ElasticTrussModel", name := "useOf", desc := "(II)J" } : Jvm.MethodName)) ∈ lw_all := lw_g (lw_at lw_m16 6 rfl) rfl
theorem q3708 : (Jvm.Cond.code ({ cls := "ElasticTrussModel", name := "useOf", desc := "(II)J" } : Jvm.MethodName) prog_20_method_52_code (7 : Nat) (Option.some Jvm.ClassFile.FieldType.long)) ∈ lw_all := lw_g (lw_at lw_m16 7 rfl) rfl
theorem q3709 : (Jvm.Cond.methodLink "ElasticTrussModel" (283 : Nat) ({ cls := "ElasticTrussModel", name := "size", desc := "(J)J" } : Jvm.MethodName)) ∈ lw_all := lw_g (lw_at lw_m16 8 rfl) rfl
theorem q3710 : (Jvm.Cond.static ({ cls := "ElasticTrussModel", name := "size", desc := "(J)J" } : Jvm.MethodName)) ∈ lw_all := lw_g (lw_at lw_m16 9 rfl) rfl
theorem q3711 : (Jvm.Cond.code ({ cls := "ElasticTrussModel", name := "size", desc := "(J)J" } : Jvm.MethodName) prog_20_method_49_code (2 : Nat) (Option.some Jvm.ClassFile.FieldType.long)) ∈ lw_all := lw_g (lw_at lw_m16 10 rfl) rfl
theorem q3713 : (Jvm.Cond.instanceMethod ({ cls := "ElasticTrussModel", name := "greatestUse", desc := "()I" } : Jvm.MethodName)) ∈ lw_all := lw_g (lw_at lw_m16 12 rfl) rfl
theorem q3714 : (Jvm.Cond.selects "ElasticTrussModel" ({ cls := "ElasticTrussModel", name := "greatestUse", desc := "()I" } : Jvm.MethodName) ({ cls := "ElasticTrussModel", name := "greatestUse", desc := "()I" } : Jvm.MethodName)) ∈ lw_all := lw_g (lw_at lw_m16 13 rfl) rfl
theorem q3715 : (Jvm.Cond.code ({ cls := "ElasticTrussModel", name := "greatestUse", desc := "()I" } : Jvm.MethodName) prog_20_method_75_code (5 : Nat) (Option.some Jvm.ClassFile.FieldType.int)) ∈ lw_all := lw_g (lw_at lw_m16 14 rfl) rfl
theorem q3717 : (Jvm.Cond.instanceMethod ({ cls := "ElasticTrussModel", name := "failureCount", desc := "()I" } : Jvm.MethodName)) ∈ lw_all := lw_g (lw_at lw_m16 16 rfl) rfl
theorem q3718 : (Jvm.Cond.selects "ElasticTrussModel" ({ cls := "ElasticTrussModel", name := "failureCount", desc := "()I" } : Jvm.MethodName) ({ cls := "ElasticTrussModel", name := "failureCount", desc := "()I" } : Jvm.MethodName)) ∈ lw_all := lw_g (lw_at lw_m16 17 rfl) rfl
theorem q3719 : (Jvm.Cond.code ({ cls := "ElasticTrussModel", name := "failureCount", desc := "()I" } : Jvm.MethodName) prog_20_method_77_code (1 : Nat) (Option.some Jvm.ClassFile.FieldType.int)) ∈ lw_all := lw_g (lw_at lw_m16 18 rfl) rfl
theorem q3720 : (Jvm.Cond.methodLink "ElasticTrussModel" (325 : Nat) ({ cls := "ElasticTrussModel", name := "failed", desc := "(I)I" } : Jvm.MethodName)) ∈ lw_all := lw_g (lw_at lw_m16 19 rfl) rfl
theorem q3721 : (Jvm.Cond.privateMethod ({ cls := "ElasticTrussModel", name := "failed", desc := "(I)I" } : Jvm.MethodName)) ∈ lw_tbl := lw_at lw_m16 20 rfl
theorem q3722 : (Jvm.Cond.instanceMethod ({ cls := "ElasticTrussModel", name := "failed", desc := "(I)I" } : Jvm.MethodName)) ∈ lw_all := lw_g (lw_at lw_m16 21 rfl) rfl
theorem q3723 : (Jvm.Cond.code ({ cls := "ElasticTrussModel", name := "failed", desc := "(I)I" } : Jvm.MethodName) prog_20_method_76_code (5 : Nat) (Option.some Jvm.ClassFile.FieldType.int)) ∈ lw_all := lw_g (lw_at lw_m16 22 rfl) rfl
theorem q3724 : (Jvm.Cond.methodLink "ElasticTrussModel" (290 : Nat) ({ cls := "ElasticTrussModel", name := "isFailed", desc := "(II)Z" } : Jvm.MethodName)) ∈ lw_all := lw_g (lw_at lw_m16 23 rfl) rfl
theorem q3725 : (Jvm.Cond.privateMethod ({ cls := "ElasticTrussModel", name := "isFailed", desc := "(II)Z" } : Jvm.MethodName)) ∈ lw_tbl := lw_at lw_m16 24 rfl
theorem q3726 : (Jvm.Cond.instanceMethod ({ cls := "ElasticTrussModel", name := "isFailed", desc := "(II)Z" } : Jvm.MethodName)) ∈ lw_all := lw_g (lw_at lw_m16 25 rfl) rfl
theorem q3727 : (Jvm.Cond.code ({ cls := "ElasticTrussModel", name := "isFailed", desc := "(II)Z" } : Jvm.MethodName) prog_20_method_50_code (5 : Nat) (Option.some Jvm.ClassFile.FieldType.boolean)) ∈ lw_all := lw_g (lw_at lw_m16 26 rfl) rfl
theorem q3729 : (Jvm.Cond.instanceMethod ({ cls := "ElasticTrussModel", name := "failure", desc := "(IZ)I" } : Jvm.MethodName)) ∈ lw_all := lw_g (lw_at lw_m16 28 rfl) rfl
theorem q3730 : (Jvm.Cond.selects "ElasticTrussModel" ({ cls := "ElasticTrussModel", name := "failure", desc := "(IZ)I" } : Jvm.MethodName) ({ cls := "ElasticTrussModel", name := "failure", desc := "(IZ)I" } : Jvm.MethodName)) ∈ lw_all := lw_g (lw_at lw_m16 29 rfl) rfl
theorem q3731 : (Jvm.Cond.code ({ cls := "ElasticTrussModel", name := "failure", desc := "(IZ)I" } : Jvm.MethodName) prog_20_method_78_code (4 : Nat) (Option.some Jvm.ClassFile.FieldType.int)) ∈ lw_all := lw_g (lw_at lw_m16 30 rfl) rfl
theorem q3733 : (Jvm.Cond.instanceMethod ({ cls := "ElasticTrussModel", name := "isRemovable", desc := "(I)Z" } : Jvm.MethodName)) ∈ lw_all := lw_g (lw_at lw_m16 32 rfl) rfl
theorem q3734 : (Jvm.Cond.selects "ElasticTrussModel" ({ cls := "ElasticTrussModel", name := "isRemovable", desc := "(I)Z" } : Jvm.MethodName) ({ cls := "ElasticTrussModel", name := "isRemovable", desc := "(I)Z" } : Jvm.MethodName)) ∈ lw_all := lw_g (lw_at lw_m16 33 rfl) rfl
theorem q3735 : (Jvm.Cond.code ({ cls := "ElasticTrussModel", name := "isRemovable", desc := "(I)Z" } : Jvm.MethodName) prog_20_method_79_code (2 : Nat) (Option.some Jvm.ClassFile.FieldType.boolean)) ∈ lw_all := lw_g (lw_at lw_m16 34 rfl) rfl
theorem q3736 : (Jvm.Cond.methodLink "ElasticTrussModel" (328 : Nat) ({ cls := "ElasticTrussModel", name := "isSafeWithout", desc := "(I)Z" } : Jvm.MethodName)) ∈ lw_all := lw_g (lw_at lw_m16 35 rfl) rfl
theorem q3737 : (Jvm.Cond.privateMethod ({ cls := "ElasticTrussModel", name := "isSafeWithout", desc := "(I)Z" } : Jvm.MethodName)) ∈ lw_tbl := lw_at lw_m16 36 rfl
theorem q3738 : (Jvm.Cond.instanceMethod ({ cls := "ElasticTrussModel", name := "isSafeWithout", desc := "(I)Z" } : Jvm.MethodName)) ∈ lw_all := lw_g (lw_at lw_m16 37 rfl) rfl
theorem q3739 : (Jvm.Cond.code ({ cls := "ElasticTrussModel", name := "isSafeWithout", desc := "(I)Z" } : Jvm.MethodName) prog_20_method_54_code (3 : Nat) (Option.some Jvm.ClassFile.FieldType.boolean)) ∈ lw_all := lw_g (lw_at lw_m16 38 rfl) rfl
theorem q3740 : (Jvm.Cond.methodLink "ElasticTrussModel" (294 : Nat) ({ cls := "ElasticTrussModel", name := "laysAside", desc := "()V" } : Jvm.MethodName)) ∈ lw_all := lw_g (lw_at lw_m16 39 rfl) rfl
theorem q3741 : (Jvm.Cond.privateMethod ({ cls := "ElasticTrussModel", name := "laysAside", desc := "()V" } : Jvm.MethodName)) ∈ lw_tbl := lw_at lw_m16 40 rfl
theorem q3742 : (Jvm.Cond.instanceMethod ({ cls := "ElasticTrussModel", name := "laysAside", desc := "()V" } : Jvm.MethodName)) ∈ lw_all := lw_g (lw_at lw_m16 41 rfl) rfl
theorem q3743 : (Jvm.Cond.code ({ cls := "ElasticTrussModel", name := "laysAside", desc := "()V" } : Jvm.MethodName) prog_20_method_9_code (2 : Nat) (Option.none : Option Jvm.ClassFile.FieldType)) ∈ lw_all := lw_g (lw_at lw_m16 42 rfl) rfl
theorem q3744 : (Jvm.Cond.methodLink "ElasticTrussModel" (297 : Nat) ({ cls := "ElasticTrussModel", name := "loses", desc := "(I)V" } : Jvm.MethodName)) ∈ lw_all := lw_g (lw_at lw_m16 43 rfl) rfl
theorem q3745 : (Jvm.Cond.privateMethod ({ cls := "ElasticTrussModel", name := "loses", desc := "(I)V" } : Jvm.MethodName)) ∈ lw_tbl := lw_at lw_m16 44 rfl
theorem q3746 : (Jvm.Cond.instanceMethod ({ cls := "ElasticTrussModel", name := "loses", desc := "(I)V" } : Jvm.MethodName)) ∈ lw_all := lw_g (lw_at lw_m16 45 rfl) rfl
theorem q3747 : (Jvm.Cond.code ({ cls := "ElasticTrussModel", name := "loses", desc := "(I)V" } : Jvm.MethodName) prog_20_method_53_code (3 : Nat) (Option.none : Option Jvm.ClassFile.FieldType)) ∈ lw_all := lw_g (lw_at lw_m16 46 rfl) rfl
theorem q3748 : (Jvm.Cond.methodLink "ElasticTrussModel" (300 : Nat) ({ cls := "ElasticTrussModel", name := "isSafe", desc := "()Z" } : Jvm.MethodName)) ∈ lw_all := lw_g (lw_at lw_m16 47 rfl) rfl
theorem q3749 : (Jvm.Cond.privateMethod ({ cls := "ElasticTrussModel", name := "isSafe", desc := "()Z" } : Jvm.MethodName)) ∈ lw_tbl := lw_at lw_m16 48 rfl
theorem q3750 : (Jvm.Cond.instanceMethod ({ cls := "ElasticTrussModel", name := "isSafe", desc := "()Z" } : Jvm.MethodName)) ∈ lw_all := lw_g (lw_at lw_m16 49 rfl) rfl
theorem q3751 : (Jvm.Cond.code ({ cls := "ElasticTrussModel", name := "isSafe", desc := "()Z" } : Jvm.MethodName) prog_20_method_51_code (3 : Nat) (Option.some Jvm.ClassFile.FieldType.boolean)) ∈ lw_all := lw_g (lw_at lw_m16 50 rfl) rfl
theorem q3752 : (Jvm.Cond.methodLink "ElasticTrussModel" (303 : Nat) ({ cls := "ElasticTrussModel", name := "takesBack", desc := "()V" } : Jvm.MethodName)) ∈ lw_all := lw_g (lw_at lw_m16 51 rfl) rfl
theorem q3753 : (Jvm.Cond.privateMethod ({ cls := "ElasticTrussModel", name := "takesBack", desc := "()V" } : Jvm.MethodName)) ∈ lw_tbl := lw_at lw_m16 52 rfl
theorem q3754 : (Jvm.Cond.instanceMethod ({ cls := "ElasticTrussModel", name := "takesBack", desc := "()V" } : Jvm.MethodName)) ∈ lw_all := lw_g (lw_at lw_m16 53 rfl) rfl
theorem q3755 : (Jvm.Cond.code ({ cls := "ElasticTrussModel", name := "takesBack", desc := "()V" } : Jvm.MethodName) prog_20_method_10_code (2 : Nat) (Option.none : Option Jvm.ClassFile.FieldType)) ∈ lw_all := lw_g (lw_at lw_m16 54 rfl) rfl
theorem q3757 : (Jvm.Cond.instanceMethod ({ cls := "ElasticTrussModel", name := "smallestArea", desc := "(I)I" } : Jvm.MethodName)) ∈ lw_all := lw_g (lw_at lw_m16 56 rfl) rfl
theorem q3758 : (Jvm.Cond.selects "ElasticTrussModel" ({ cls := "ElasticTrussModel", name := "smallestArea", desc := "(I)I" } : Jvm.MethodName) ({ cls := "ElasticTrussModel", name := "smallestArea", desc := "(I)I" } : Jvm.MethodName)) ∈ lw_all := lw_g (lw_at lw_m16 57 rfl) rfl
theorem q3759 : (Jvm.Cond.code ({ cls := "ElasticTrussModel", name := "smallestArea", desc := "(I)I" } : Jvm.MethodName) prog_20_method_80_code (2 : Nat) (Option.some Jvm.ClassFile.FieldType.int)) ∈ lw_all := lw_g (lw_at lw_m16 58 rfl) rfl
theorem q3760 : (Jvm.Cond.methodLink "ElasticTrussModel" (331 : Nat) ({ cls := "ElasticTrussModel", name := "smallest", desc := "(I)I" } : Jvm.MethodName)) ∈ lw_all := lw_g (lw_at lw_m16 59 rfl) rfl
theorem q3761 : (Jvm.Cond.privateMethod ({ cls := "ElasticTrussModel", name := "smallest", desc := "(I)I" } : Jvm.MethodName)) ∈ lw_tbl := lw_at lw_m16 60 rfl
theorem q3762 : (Jvm.Cond.instanceMethod ({ cls := "ElasticTrussModel", name := "smallest", desc := "(I)I" } : Jvm.MethodName)) ∈ lw_all := lw_g (lw_at lw_m16 61 rfl) rfl
theorem q3763 : (Jvm.Cond.code ({ cls := "ElasticTrussModel", name := "smallest", desc := "(I)I" } : Jvm.MethodName) prog_20_method_55_code (6 : Nat) (Option.some Jvm.ClassFile.FieldType.int)) ∈ lw_all := lw_g (lw_at lw_m16 62 rfl) rfl
theorem q3765 : (Jvm.Cond.instanceMethod ({ cls := "ElasticTrussModel", name := "setArea", desc := "(II)I" } : Jvm.MethodName)) ∈ lw_all := lw_g (lw_at lw_m16 64 rfl) rfl
theorem q3766 : (Jvm.Cond.selects "ElasticTrussModel" ({ cls := "ElasticTrussModel", name := "setArea", desc := "(II)I" } : Jvm.MethodName) ({ cls := "ElasticTrussModel", name := "setArea", desc := "(II)I" } : Jvm.MethodName)) ∈ lw_all := lw_g (lw_at lw_m16 65 rfl) rfl
theorem q3767 : (Jvm.Cond.code ({ cls := "ElasticTrussModel", name := "setArea", desc := "(II)I" } : Jvm.MethodName) prog_20_method_81_code (3 : Nat) (Option.some Jvm.ClassFile.FieldType.int)) ∈ lw_all := lw_g (lw_at lw_m16 66 rfl) rfl
theorem q3769 : (Jvm.Cond.instanceMethod ({ cls := "ElasticTrussModel", name := "addMember", desc := "(III)I" } : Jvm.MethodName)) ∈ lw_all := lw_g (lw_at lw_m16 68 rfl) rfl
theorem q3770 : (Jvm.Cond.selects "ElasticTrussModel" ({ cls := "ElasticTrussModel", name := "addMember", desc := "(III)I" } : Jvm.MethodName) ({ cls := "ElasticTrussModel", name := "addMember", desc := "(III)I" } : Jvm.MethodName)) ∈ lw_all := lw_g (lw_at lw_m16 69 rfl) rfl
theorem q3771 : (Jvm.Cond.code ({ cls := "ElasticTrussModel", name := "addMember", desc := "(III)I" } : Jvm.MethodName) prog_20_method_82_code (5 : Nat) (Option.some Jvm.ClassFile.FieldType.int)) ∈ lw_all := lw_g (lw_at lw_m16 70 rfl) rfl
theorem q3772 : (Jvm.Cond.constantLong "ElasticTrussModel" (334 : Nat) (16 : Int64)) ∈ lw_all := lw_g (lw_at lw_m16 71 rfl) rfl
theorem q3774 : (Jvm.Cond.instanceMethod ({ cls := "ElasticTrussModel", name := "removeMember", desc := "(I)I" } : Jvm.MethodName)) ∈ lw_all := lw_g (lw_at lw_m16 73 rfl) rfl
theorem q3775 : (Jvm.Cond.selects "ElasticTrussModel" ({ cls := "ElasticTrussModel", name := "removeMember", desc := "(I)I" } : Jvm.MethodName) ({ cls := "ElasticTrussModel", name := "removeMember", desc := "(I)I" } : Jvm.MethodName)) ∈ lw_all := lw_g (lw_at lw_m16 74 rfl) rfl
theorem q3776 : (Jvm.Cond.code ({ cls := "ElasticTrussModel", name := "removeMember", desc := "(I)I" } : Jvm.MethodName) prog_20_method_83_code (2 : Nat) (Option.some Jvm.ClassFile.FieldType.int)) ∈ lw_all := lw_g (lw_at lw_m16 75 rfl) rfl
theorem q3778 : (Jvm.Cond.instanceMethod ({ cls := "ElasticTrussModel", name := "prune", desc := "()I" } : Jvm.MethodName)) ∈ lw_all := lw_g (lw_at lw_m16 77 rfl) rfl
theorem q3779 : (Jvm.Cond.selects "ElasticTrussModel" ({ cls := "ElasticTrussModel", name := "prune", desc := "()I" } : Jvm.MethodName) ({ cls := "ElasticTrussModel", name := "prune", desc := "()I" } : Jvm.MethodName)) ∈ lw_all := lw_g (lw_at lw_m16 78 rfl) rfl
theorem q3780 : (Jvm.Cond.code ({ cls := "ElasticTrussModel", name := "prune", desc := "()I" } : Jvm.MethodName) prog_20_method_84_code (3 : Nat) (Option.some Jvm.ClassFile.FieldType.int)) ∈ lw_all := lw_g (lw_at lw_m16 79 rfl) rfl
theorem q3782 : (Jvm.Cond.instanceMethod ({ cls := "ElasticTrussModel", name := "shrink", desc := "(I)I" } : Jvm.MethodName)) ∈ lw_all := lw_g (lw_at lw_m16 81 rfl) rfl
theorem q3783 : (Jvm.Cond.selects "ElasticTrussModel" ({ cls := "ElasticTrussModel", name := "shrink", desc := "(I)I" } : Jvm.MethodName) ({ cls := "ElasticTrussModel", name := "shrink", desc := "(I)I" } : Jvm.MethodName)) ∈ lw_all := lw_g (lw_at lw_m16 82 rfl) rfl
theorem q3784 : (Jvm.Cond.code ({ cls := "ElasticTrussModel", name := "shrink", desc := "(I)I" } : Jvm.MethodName) prog_20_method_85_code (4 : Nat) (Option.some Jvm.ClassFile.FieldType.int)) ∈ lw_all := lw_g (lw_at lw_m16 83 rfl) rfl
theorem q3786 : (Jvm.Cond.instanceMethod ({ cls := "ElasticTrussModel", name := "shrinkAll", desc := "()I" } : Jvm.MethodName)) ∈ lw_all := lw_g (lw_at lw_m16 85 rfl) rfl
theorem q3787 : (Jvm.Cond.selects "ElasticTrussModel" ({ cls := "ElasticTrussModel", name := "shrinkAll", desc := "()I" } : Jvm.MethodName) ({ cls := "ElasticTrussModel", name := "shrinkAll", desc := "()I" } : Jvm.MethodName)) ∈ lw_all := lw_g (lw_at lw_m16 86 rfl) rfl
theorem q3788 : (Jvm.Cond.code ({ cls := "ElasticTrussModel", name := "shrinkAll", desc := "()I" } : Jvm.MethodName) prog_20_method_86_code (3 : Nat) (Option.some Jvm.ClassFile.FieldType.int)) ∈ lw_all := lw_g (lw_at lw_m16 87 rfl) rfl
theorem q3790 : (Jvm.Cond.instanceMethod ({ cls := "ElasticTrussModel", name := "undo", desc := "()I" } : Jvm.MethodName)) ∈ lw_all := lw_g (lw_at lw_m16 89 rfl) rfl
theorem q3791 : (Jvm.Cond.selects "ElasticTrussModel" ({ cls := "ElasticTrussModel", name := "undo", desc := "()I" } : Jvm.MethodName) ({ cls := "ElasticTrussModel", name := "undo", desc := "()I" } : Jvm.MethodName)) ∈ lw_all := lw_g (lw_at lw_m16 90 rfl) rfl
theorem q3792 : (Jvm.Cond.code ({ cls := "ElasticTrussModel", name := "undo", desc := "()I" } : Jvm.MethodName) prog_20_method_87_code (1 : Nat) (Option.some Jvm.ClassFile.FieldType.int)) ∈ lw_all := lw_g (lw_at lw_m16 91 rfl) rfl
theorem q3794 : (Jvm.Cond.instanceMethod ({ cls := "ElasticTrussModel", name := "checksum", desc := "()J" } : Jvm.MethodName)) ∈ lw_all := lw_g (lw_at lw_m16 93 rfl) rfl
theorem q3795 : (Jvm.Cond.selects "ElasticTrussModel" ({ cls := "ElasticTrussModel", name := "checksum", desc := "()J" } : Jvm.MethodName) ({ cls := "ElasticTrussModel", name := "checksum", desc := "()J" } : Jvm.MethodName)) ∈ lw_all := lw_g (lw_at lw_m16 94 rfl) rfl
theorem q3796 : (Jvm.Cond.code ({ cls := "ElasticTrussModel", name := "checksum", desc := "()J" } : Jvm.MethodName) prog_20_method_88_code (5 : Nat) (Option.some Jvm.ClassFile.FieldType.long)) ∈ lw_all := lw_g (lw_at lw_m16 95 rfl) rfl
theorem q3797 : (Jvm.Cond.constantLong "ElasticTrussModel" (336 : Nat) (31 : Int64)) ∈ lw_all := lw_g (lw_at lw_m16 96 rfl) rfl
theorem q3855 : (Jvm.Cond.castable "ElasticTrussModel" "java/lang/Object") ∈ lw_tbl := lw_at lw_m16 154 rfl
theorem in_X3 : ∀ w ∈ wsX30, w ∈ lw_all := lw_in wsX30 [3374, 3376, 3378, 3380, 3382, 3384, 3386, 3388, 3390, 3392, 3394, 3396, 3398, 3400, 3402, 3404, 3406, 3408, 3410, 3412, 3414, 3416, 3418] (by decide +kernel) (by decide +kernel)
