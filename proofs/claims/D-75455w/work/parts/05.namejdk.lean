-- J0.java_util_AbstractCollection.lean.txt
/-! java/util/AbstractCollection -/
set_option maxRecDepth 100000
def RJ0 : String := "java/util/AbstractCollection"
abbrev cJ0_init : ByteArray := prog_55_method_1_code
def yJ0_init : MethodName := ⟨RJ0, "<init>", "()V"⟩
theorem dJ0_init_0 : decode cJ0_init 0 = .ok (.aload_n 0, 1) := by decide +kernel
theorem dJ0_init_1 : decode cJ0_init 1 = .ok (.invokespecial 1, 3) := by decide +kernel
theorem dJ0_init_4 : decode cJ0_init 4 = .ok (.return_, 1) := by decide +kernel
abbrev cJ0_add : ByteArray := prog_55_method_9_code
def yJ0_add : MethodName := ⟨RJ0, "add", "(Ljava/lang/Object;)Z"⟩
def dkwJ0_add_0 : List UInt8 := [187, 0, 70, 89, 183, 0, 72, 191]
abbrev dktJ0_add_0 : List UInt8 := dkwJ0_add_0 ++ []
theorem dksJ0_add_0 : cJ0_add.data.toList.drop 0 = dktJ0_add_0 := by decide +kernel
theorem dJ0_add_0 : decode cJ0_add 0 = .ok (.new 70, 3) := dk_187 0 70 (dk_at dksJ0_add_0 0 rfl rfl)
theorem dJ0_add_3 : decode cJ0_add 3 = .ok (.dup, 1) := dk_89 (dk_at dksJ0_add_0 3 rfl rfl)
theorem dJ0_add_4 : decode cJ0_add 4 = .ok (.invokespecial 72, 3) := dk_183 0 72 (dk_at dksJ0_add_0 4 rfl rfl)
theorem dJ0_add_7 : decode cJ0_add 7 = .ok (.athrow, 1) := dk_191 (dk_at dksJ0_add_0 7 rfl rfl)
theorem q104 : (Jvm.Cond.initialized "java/util/AbstractCollection") ∈ lw_all := lw_g (lw_at lw_m1 3 rfl) rfl
theorem q199 : (Jvm.Cond.instanceMethod ({ cls := "java/util/AbstractCollection", name := "<init>", desc := "()V" } : Jvm.MethodName)) ∈ lw_all := lw_g (lw_at lw_m1 98 rfl) rfl
theorem q200 : (Jvm.Cond.code ({ cls := "java/util/AbstractCollection", name := "<init>", desc := "()V" } : Jvm.MethodName) prog_55_method_1_code (1 : Nat) (Option.none : Option Jvm.ClassFile.FieldType)) ∈ lw_all := lw_g (lw_at lw_m1 99 rfl) rfl
theorem q201 : (Jvm.Cond.methodLink "java/util/AbstractCollection" (1 : Nat) ({ cls := "java/lang/Object", name := "<init>", desc := "()V" } : Jvm.MethodName)) ∈ lw_all := lw_g (lw_at lw_m1 100 rfl) rfl
theorem q1850 : (Jvm.Cond.instanceMethod ({ cls := "java/util/AbstractCollection", name := "add", desc := "(Ljava/lang/Object;)Z" } : Jvm.MethodName)) ∈ lw_all := lw_g (lw_at lw_m8 69 rfl) rfl
theorem q1851 : (Jvm.Cond.publicMethod ({ cls := "java/util/AbstractCollection", name := "add", desc := "(Ljava/lang/Object;)Z" } : Jvm.MethodName)) ∈ lw_tbl := lw_at lw_m8 70 rfl
theorem q1852 : (Jvm.Cond.code ({ cls := "java/util/AbstractCollection", name := "add", desc := "(Ljava/lang/Object;)Z" } : Jvm.MethodName) prog_55_method_9_code (2 : Nat) (Option.some Jvm.ClassFile.FieldType.boolean)) ∈ lw_all := lw_g (lw_at lw_m8 71 rfl) rfl

-- J1.java_util_AbstractList.lean.txt
/-! java/util/AbstractList -/
set_option maxRecDepth 100000
def RJ1 : String := "java/util/AbstractList"
abbrev cJ1_init : ByteArray := prog_56_method_1_code
def yJ1_init : MethodName := ⟨RJ1, "<init>", "()V"⟩
def dkwJ1_init_0 : List UInt8 := [42, 183, 0, 1, 42, 3, 181, 0, 7, 177]
abbrev dktJ1_init_0 : List UInt8 := dkwJ1_init_0 ++ []
theorem dksJ1_init_0 : cJ1_init.data.toList.drop 0 = dktJ1_init_0 := by decide +kernel
theorem dJ1_init_0 : decode cJ1_init 0 = .ok (.aload_n 0, 1) := dk_42 (dk_at dksJ1_init_0 0 rfl rfl)
theorem dJ1_init_1 : decode cJ1_init 1 = .ok (.invokespecial 1, 3) := dk_183 0 1 (dk_at dksJ1_init_0 1 rfl rfl)
theorem dJ1_init_4 : decode cJ1_init 4 = .ok (.aload_n 0, 1) := dk_42 (dk_at dksJ1_init_0 4 rfl rfl)
theorem dJ1_init_5 : decode cJ1_init 5 = .ok (.iconst 0, 1) := dk_3 (dk_at dksJ1_init_0 5 rfl rfl)
theorem dJ1_init_6 : decode cJ1_init 6 = .ok (.putfield 7, 3) := dk_181 0 7 (dk_at dksJ1_init_0 6 rfl rfl)
theorem dJ1_init_9 : decode cJ1_init 9 = .ok (.return_, 1) := dk_177 (dk_at dksJ1_init_0 9 rfl rfl)
theorem q105 : (Jvm.Cond.initialized "java/util/AbstractList") ∈ lw_all := lw_g (lw_at lw_m1 4 rfl) rfl
theorem q196 : (Jvm.Cond.instanceMethod ({ cls := "java/util/AbstractList", name := "<init>", desc := "()V" } : Jvm.MethodName)) ∈ lw_all := lw_g (lw_at lw_m1 95 rfl) rfl
theorem q197 : (Jvm.Cond.code ({ cls := "java/util/AbstractList", name := "<init>", desc := "()V" } : Jvm.MethodName) prog_56_method_1_code (1 : Nat) (Option.none : Option Jvm.ClassFile.FieldType)) ∈ lw_all := lw_g (lw_at lw_m1 96 rfl) rfl
theorem q198 : (Jvm.Cond.methodLink "java/util/AbstractList" (1 : Nat) ({ cls := "java/util/AbstractCollection", name := "<init>", desc := "()V" } : Jvm.MethodName)) ∈ lw_all := lw_g (lw_at lw_m1 97 rfl) rfl
theorem q528 : (Jvm.Cond.fieldLink "java/util/AbstractList" (7 : Nat) "java/util/AbstractList" "modCount" "I") ∈ lw_all := lw_g (lw_at lw_m2 187 rfl) rfl
theorem q537 : (Jvm.Cond.soleField "java/util/AbstractList" "modCount") ∈ lw_all := lw_g (lw_at lw_m2 196 rfl) rfl

-- J2.java_util_ArrayList.lean.txt
/-! java/util/ArrayList -/
set_option maxRecDepth 100000
def RJ2 : String := "java/util/ArrayList"
def TJ2 : u_T := fun k => match k with
  | 0 => ("java/util/AbstractList", "modCount", "I", false)
  | 1 => ("java/util/ArrayList", "elementData", "[Ljava/lang/Object;", false)
  | _ => ("java/util/ArrayList", "size", "I", false)
def tyJ2 : Nat → FieldType := fun k => match k with
  | 0 => .int
  | 1 => .array (.object "java/lang/Object")
  | _ => .int
abbrev wsJ20 : List Cond := u_ws RJ2 TJ2 3
theorem nmJ2 : ∀ a, a < 3 → ∀ b, b < 3 → a ≠ b → (TJ2 a).2.1 ≠ (TJ2 b).2.1 := by decide +kernel
theorem tyJ2_ok : ∀ k, k < 3 → parseFieldDescriptor (TJ2 k).2.2.1 = some (tyJ2 k) := by decide +kernel
abbrev cJ2_init : ByteArray := prog_61_method_1_code
def yJ2_init : MethodName := ⟨RJ2, "<init>", "(I)V"⟩
def dkwJ2_init_2 : List UInt8 := [182, 0, 25, 27, 182, 0, 29, 182, 0, 32, 183, 0, 36, 191, 177]
abbrev dktJ2_init_2 : List UInt8 := dkwJ2_init_2 ++ []
def dkwJ2_init_1 : List UInt8 := [178, 0, 15, 181, 0, 9, 167, 0, 30, 187, 0, 18, 89, 187, 0, 20, 89, 183, 0, 22, 18, 23]
abbrev dktJ2_init_1 : List UInt8 := dkwJ2_init_1 ++ dktJ2_init_2
def dkwJ2_init_0 : List UInt8 := [42, 183, 0, 1, 27, 158, 0, 14, 42, 27, 189, 0, 7, 181, 0, 9, 167, 0, 44, 27, 154, 0, 13, 42]
abbrev dktJ2_init_0 : List UInt8 := dkwJ2_init_0 ++ dktJ2_init_1
theorem dksJ2_init_0 : cJ2_init.data.toList.drop 0 = dktJ2_init_0 := by decide +kernel
theorem dksJ2_init_1 : cJ2_init.data.toList.drop 24 = dktJ2_init_1 := dk_seg dksJ2_init_0 24 rfl rfl
theorem dksJ2_init_2 : cJ2_init.data.toList.drop 46 = dktJ2_init_2 := dk_seg dksJ2_init_1 22 rfl rfl
theorem dJ2_init_0 : decode cJ2_init 0 = .ok (.aload_n 0, 1) := dk_42 (dk_at dksJ2_init_0 0 rfl rfl)
theorem dJ2_init_1 : decode cJ2_init 1 = .ok (.invokespecial 1, 3) := dk_183 0 1 (dk_at dksJ2_init_0 1 rfl rfl)
theorem dJ2_init_4 : decode cJ2_init 4 = .ok (.iload_n 1, 1) := dk_27 (dk_at dksJ2_init_0 4 rfl rfl)
theorem dJ2_init_5 : decode cJ2_init 5 = .ok (.ifCond .le 14, 3) := dk_158 0 14 (dk_at dksJ2_init_0 5 rfl rfl)
theorem dJ2_init_8 : decode cJ2_init 8 = .ok (.aload_n 0, 1) := dk_42 (dk_at dksJ2_init_0 8 rfl rfl)
theorem dJ2_init_9 : decode cJ2_init 9 = .ok (.iload_n 1, 1) := dk_27 (dk_at dksJ2_init_0 9 rfl rfl)
theorem dJ2_init_10 : decode cJ2_init 10 = .ok (.anewarray 7, 3) := dk_189 0 7 (dk_at dksJ2_init_0 10 rfl rfl)
theorem dJ2_init_13 : decode cJ2_init 13 = .ok (.putfield 9, 3) := dk_181 0 9 (dk_at dksJ2_init_0 13 rfl rfl)
theorem dJ2_init_16 : decode cJ2_init 16 = .ok (.goto 44, 3) := dk_167 0 44 (dk_at dksJ2_init_0 16 rfl rfl)
theorem dJ2_init_19 : decode cJ2_init 19 = .ok (.iload_n 1, 1) := dk_27 (dk_at dksJ2_init_0 19 rfl rfl)
theorem dJ2_init_20 : decode cJ2_init 20 = .ok (.ifCond .ne 13, 3) := dk_154 0 13 (dk_at dksJ2_init_0 20 rfl rfl)
theorem dJ2_init_23 : decode cJ2_init 23 = .ok (.aload_n 0, 1) := dk_42 (dk_at dksJ2_init_0 23 rfl rfl)
theorem dJ2_init_24 : decode cJ2_init 24 = .ok (.getstatic 15, 3) := dk_178 0 15 (dk_at dksJ2_init_1 0 rfl rfl)
theorem dJ2_init_27 : decode cJ2_init 27 = .ok (.putfield 9, 3) := dk_181 0 9 (dk_at dksJ2_init_1 3 rfl rfl)
theorem dJ2_init_30 : decode cJ2_init 30 = .ok (.goto 30, 3) := dk_167 0 30 (dk_at dksJ2_init_1 6 rfl rfl)
theorem dJ2_init_33 : decode cJ2_init 33 = .ok (.new 18, 3) := dk_187 0 18 (dk_at dksJ2_init_1 9 rfl rfl)
theorem dJ2_init_36 : decode cJ2_init 36 = .ok (.dup, 1) := dk_89 (dk_at dksJ2_init_1 12 rfl rfl)
theorem dJ2_init_37 : decode cJ2_init 37 = .ok (.new 20, 3) := dk_187 0 20 (dk_at dksJ2_init_1 13 rfl rfl)
theorem dJ2_init_40 : decode cJ2_init 40 = .ok (.dup, 1) := dk_89 (dk_at dksJ2_init_1 16 rfl rfl)
theorem dJ2_init_41 : decode cJ2_init 41 = .ok (.invokespecial 22, 3) := dk_183 0 22 (dk_at dksJ2_init_1 17 rfl rfl)
theorem dJ2_init_44 : decode cJ2_init 44 = .ok (.ldc 23, 2) := dk_18 23 (dk_at dksJ2_init_1 20 rfl rfl)
theorem dJ2_init_46 : decode cJ2_init 46 = .ok (.invokevirtual 25, 3) := dk_182 0 25 (dk_at dksJ2_init_2 0 rfl rfl)
theorem dJ2_init_49 : decode cJ2_init 49 = .ok (.iload_n 1, 1) := dk_27 (dk_at dksJ2_init_2 3 rfl rfl)
theorem dJ2_init_50 : decode cJ2_init 50 = .ok (.invokevirtual 29, 3) := dk_182 0 29 (dk_at dksJ2_init_2 4 rfl rfl)
theorem dJ2_init_53 : decode cJ2_init 53 = .ok (.invokevirtual 32, 3) := dk_182 0 32 (dk_at dksJ2_init_2 7 rfl rfl)
theorem dJ2_init_56 : decode cJ2_init 56 = .ok (.invokespecial 36, 3) := dk_183 0 36 (dk_at dksJ2_init_2 10 rfl rfl)
theorem dJ2_init_59 : decode cJ2_init 59 = .ok (.athrow, 1) := dk_191 (dk_at dksJ2_init_2 13 rfl rfl)
theorem dJ2_init_60 : decode cJ2_init 60 = .ok (.return_, 1) := dk_177 (dk_at dksJ2_init_2 14 rfl rfl)
abbrev cJ2_size : ByteArray := prog_61_method_8_code
def yJ2_size : MethodName := ⟨RJ2, "size", "()I"⟩
theorem dJ2_size_0 : decode cJ2_size 0 = .ok (.aload_n 0, 1) := by decide +kernel
theorem dJ2_size_1 : decode cJ2_size 1 = .ok (.getfield 48, 3) := by decide +kernel
theorem dJ2_size_4 : decode cJ2_size 4 = .ok (.ireturn, 1) := by decide +kernel
abbrev cJ2_iterator : ByteArray := prog_61_method_55_code
def yJ2_iterator : MethodName := ⟨RJ2, "iterator", "()Ljava/util/Iterator;"⟩
def dkwJ2_iterator_0 : List UInt8 := [187, 1, 11, 89, 42, 183, 1, 13, 176]
abbrev dktJ2_iterator_0 : List UInt8 := dkwJ2_iterator_0 ++ []
theorem dksJ2_iterator_0 : cJ2_iterator.data.toList.drop 0 = dktJ2_iterator_0 := by decide +kernel
theorem dJ2_iterator_0 : decode cJ2_iterator 0 = .ok (.new 267, 3) := dk_187 1 11 (dk_at dksJ2_iterator_0 0 rfl rfl)
theorem dJ2_iterator_3 : decode cJ2_iterator 3 = .ok (.dup, 1) := dk_89 (dk_at dksJ2_iterator_0 3 rfl rfl)
theorem dJ2_iterator_4 : decode cJ2_iterator 4 = .ok (.aload_n 0, 1) := dk_42 (dk_at dksJ2_iterator_0 4 rfl rfl)
theorem dJ2_iterator_5 : decode cJ2_iterator 5 = .ok (.invokespecial 269, 3) := dk_183 1 13 (dk_at dksJ2_iterator_0 5 rfl rfl)
theorem dJ2_iterator_8 : decode cJ2_iterator 8 = .ok (.areturn, 1) := dk_176 (dk_at dksJ2_iterator_0 8 rfl rfl)
abbrev cJ2_get : ByteArray := prog_61_method_20_code
def yJ2_get : MethodName := ⟨RJ2, "get", "(I)Ljava/lang/Object;"⟩
def dkwJ2_get_0 : List UInt8 := [27, 42, 180, 0, 48, 184, 0, 118, 87, 42, 27, 182, 0, 123, 176]
abbrev dktJ2_get_0 : List UInt8 := dkwJ2_get_0 ++ []
theorem dksJ2_get_0 : cJ2_get.data.toList.drop 0 = dktJ2_get_0 := by decide +kernel
theorem dJ2_get_0 : decode cJ2_get 0 = .ok (.iload_n 1, 1) := dk_27 (dk_at dksJ2_get_0 0 rfl rfl)
theorem dJ2_get_1 : decode cJ2_get 1 = .ok (.aload_n 0, 1) := dk_42 (dk_at dksJ2_get_0 1 rfl rfl)
theorem dJ2_get_2 : decode cJ2_get 2 = .ok (.getfield 48, 3) := dk_180 0 48 (dk_at dksJ2_get_0 2 rfl rfl)
theorem dJ2_get_5 : decode cJ2_get 5 = .ok (.invokestatic 118, 3) := dk_184 0 118 (dk_at dksJ2_get_0 5 rfl rfl)
theorem dJ2_get_8 : decode cJ2_get 8 = .ok (.pop, 1) := dk_87 (dk_at dksJ2_get_0 8 rfl rfl)
theorem dJ2_get_9 : decode cJ2_get 9 = .ok (.aload_n 0, 1) := dk_42 (dk_at dksJ2_get_0 9 rfl rfl)
theorem dJ2_get_10 : decode cJ2_get 10 = .ok (.iload_n 1, 1) := dk_27 (dk_at dksJ2_get_0 10 rfl rfl)
theorem dJ2_get_11 : decode cJ2_get 11 = .ok (.invokevirtual 123, 3) := dk_182 0 123 (dk_at dksJ2_get_0 11 rfl rfl)
theorem dJ2_get_14 : decode cJ2_get 14 = .ok (.areturn, 1) := dk_176 (dk_at dksJ2_get_0 14 rfl rfl)
abbrev cJ2_elementData : ByteArray := prog_61_method_18_code
def yJ2_elementData : MethodName := ⟨RJ2, "elementData", "(I)Ljava/lang/Object;"⟩
def dkwJ2_elementData_0 : List UInt8 := [42, 180, 0, 9, 27, 50, 176]
abbrev dktJ2_elementData_0 : List UInt8 := dkwJ2_elementData_0 ++ []
theorem dksJ2_elementData_0 : cJ2_elementData.data.toList.drop 0 = dktJ2_elementData_0 := by decide +kernel
theorem dJ2_elementData_0 : decode cJ2_elementData 0 = .ok (.aload_n 0, 1) := dk_42 (dk_at dksJ2_elementData_0 0 rfl rfl)
theorem dJ2_elementData_1 : decode cJ2_elementData 1 = .ok (.getfield 9, 3) := dk_180 0 9 (dk_at dksJ2_elementData_0 1 rfl rfl)
theorem dJ2_elementData_4 : decode cJ2_elementData 4 = .ok (.iload_n 1, 1) := dk_27 (dk_at dksJ2_elementData_0 4 rfl rfl)
theorem dJ2_elementData_5 : decode cJ2_elementData 5 = .ok (.aaload, 1) := dk_50 (dk_at dksJ2_elementData_0 5 rfl rfl)
theorem dJ2_elementData_6 : decode cJ2_elementData 6 = .ok (.areturn, 1) := dk_176 (dk_at dksJ2_elementData_0 6 rfl rfl)
abbrev cJ2_add : ByteArray := prog_61_method_25_code
def yJ2_add : MethodName := ⟨RJ2, "add", "(Ljava/lang/Object;)Z"⟩
def dkwJ2_add_1 : List UInt8 := [172]
abbrev dktJ2_add_1 : List UInt8 := dkwJ2_add_1 ++ []
def dkwJ2_add_0 : List UInt8 := [42, 89, 180, 0, 63, 4, 96, 181, 0, 63, 42, 43, 42, 180, 0, 9, 42, 180, 0, 48, 182, 0, 131, 4]
abbrev dktJ2_add_0 : List UInt8 := dkwJ2_add_0 ++ dktJ2_add_1
theorem dksJ2_add_0 : cJ2_add.data.toList.drop 0 = dktJ2_add_0 := by decide +kernel
theorem dksJ2_add_1 : cJ2_add.data.toList.drop 24 = dktJ2_add_1 := dk_seg dksJ2_add_0 24 rfl rfl
theorem dJ2_add_0 : decode cJ2_add 0 = .ok (.aload_n 0, 1) := dk_42 (dk_at dksJ2_add_0 0 rfl rfl)
theorem dJ2_add_1 : decode cJ2_add 1 = .ok (.dup, 1) := dk_89 (dk_at dksJ2_add_0 1 rfl rfl)
theorem dJ2_add_2 : decode cJ2_add 2 = .ok (.getfield 63, 3) := dk_180 0 63 (dk_at dksJ2_add_0 2 rfl rfl)
theorem dJ2_add_5 : decode cJ2_add 5 = .ok (.iconst 1, 1) := dk_4 (dk_at dksJ2_add_0 5 rfl rfl)
theorem dJ2_add_6 : decode cJ2_add 6 = .ok (.iadd, 1) := dk_96 (dk_at dksJ2_add_0 6 rfl rfl)
theorem dJ2_add_7 : decode cJ2_add 7 = .ok (.putfield 63, 3) := dk_181 0 63 (dk_at dksJ2_add_0 7 rfl rfl)
theorem dJ2_add_10 : decode cJ2_add 10 = .ok (.aload_n 0, 1) := dk_42 (dk_at dksJ2_add_0 10 rfl rfl)
theorem dJ2_add_11 : decode cJ2_add 11 = .ok (.aload_n 1, 1) := dk_43 (dk_at dksJ2_add_0 11 rfl rfl)
theorem dJ2_add_12 : decode cJ2_add 12 = .ok (.aload_n 0, 1) := dk_42 (dk_at dksJ2_add_0 12 rfl rfl)
theorem dJ2_add_13 : decode cJ2_add 13 = .ok (.getfield 9, 3) := dk_180 0 9 (dk_at dksJ2_add_0 13 rfl rfl)
theorem dJ2_add_16 : decode cJ2_add 16 = .ok (.aload_n 0, 1) := dk_42 (dk_at dksJ2_add_0 16 rfl rfl)
theorem dJ2_add_17 : decode cJ2_add 17 = .ok (.getfield 48, 3) := dk_180 0 48 (dk_at dksJ2_add_0 17 rfl rfl)
theorem dJ2_add_20 : decode cJ2_add 20 = .ok (.invokevirtual 131, 3) := dk_182 0 131 (dk_at dksJ2_add_0 20 rfl rfl)
theorem dJ2_add_23 : decode cJ2_add 23 = .ok (.iconst 1, 1) := dk_4 (dk_at dksJ2_add_0 23 rfl rfl)
theorem dJ2_add_24 : decode cJ2_add 24 = .ok (.ireturn, 1) := dk_172 (dk_at dksJ2_add_1 0 rfl rfl)
abbrev cJ2_add_2 : ByteArray := prog_61_method_24_code
def yJ2_add_2 : MethodName := ⟨RJ2, "add", "(Ljava/lang/Object;[Ljava/lang/Object;I)V"⟩
def dkwJ2_add_2_0 : List UInt8 := [29, 44, 190, 160, 0, 8, 42, 182, 0, 129, 77, 44, 29, 43, 83, 42, 29, 4, 96, 181, 0, 48, 177]
abbrev dktJ2_add_2_0 : List UInt8 := dkwJ2_add_2_0 ++ []
theorem dksJ2_add_2_0 : cJ2_add_2.data.toList.drop 0 = dktJ2_add_2_0 := by decide +kernel
theorem dJ2_add_2_0 : decode cJ2_add_2 0 = .ok (.iload_n 3, 1) := dk_29 (dk_at dksJ2_add_2_0 0 rfl rfl)
theorem dJ2_add_2_1 : decode cJ2_add_2 1 = .ok (.aload_n 2, 1) := dk_44 (dk_at dksJ2_add_2_0 1 rfl rfl)
theorem dJ2_add_2_2 : decode cJ2_add_2 2 = .ok (.arraylength, 1) := dk_190 (dk_at dksJ2_add_2_0 2 rfl rfl)
theorem dJ2_add_2_3 : decode cJ2_add_2 3 = .ok (.if_icmp .ne 8, 3) := dk_160 0 8 (dk_at dksJ2_add_2_0 3 rfl rfl)
theorem dJ2_add_2_6 : decode cJ2_add_2 6 = .ok (.aload_n 0, 1) := dk_42 (dk_at dksJ2_add_2_0 6 rfl rfl)
theorem dJ2_add_2_7 : decode cJ2_add_2 7 = .ok (.invokevirtual 129, 3) := dk_182 0 129 (dk_at dksJ2_add_2_0 7 rfl rfl)
theorem dJ2_add_2_10 : decode cJ2_add_2 10 = .ok (.astore_n 2, 1) := dk_77 (dk_at dksJ2_add_2_0 10 rfl rfl)
theorem dJ2_add_2_11 : decode cJ2_add_2 11 = .ok (.aload_n 2, 1) := dk_44 (dk_at dksJ2_add_2_0 11 rfl rfl)
theorem dJ2_add_2_12 : decode cJ2_add_2 12 = .ok (.iload_n 3, 1) := dk_29 (dk_at dksJ2_add_2_0 12 rfl rfl)
theorem dJ2_add_2_13 : decode cJ2_add_2 13 = .ok (.aload_n 1, 1) := dk_43 (dk_at dksJ2_add_2_0 13 rfl rfl)
theorem dJ2_add_2_14 : decode cJ2_add_2 14 = .ok (.aastore, 1) := dk_83 (dk_at dksJ2_add_2_0 14 rfl rfl)
theorem dJ2_add_2_15 : decode cJ2_add_2 15 = .ok (.aload_n 0, 1) := dk_42 (dk_at dksJ2_add_2_0 15 rfl rfl)
theorem dJ2_add_2_16 : decode cJ2_add_2 16 = .ok (.iload_n 3, 1) := dk_29 (dk_at dksJ2_add_2_0 16 rfl rfl)
theorem dJ2_add_2_17 : decode cJ2_add_2 17 = .ok (.iconst 1, 1) := dk_4 (dk_at dksJ2_add_2_0 17 rfl rfl)
theorem dJ2_add_2_18 : decode cJ2_add_2 18 = .ok (.iadd, 1) := dk_96 (dk_at dksJ2_add_2_0 18 rfl rfl)
theorem dJ2_add_2_19 : decode cJ2_add_2 19 = .ok (.putfield 48, 3) := dk_181 0 48 (dk_at dksJ2_add_2_0 19 rfl rfl)
theorem dJ2_add_2_22 : decode cJ2_add_2 22 = .ok (.return_, 1) := dk_177 (dk_at dksJ2_add_2_0 22 rfl rfl)
abbrev cJ2_grow : ByteArray := prog_61_method_7_code
def yJ2_grow : MethodName := ⟨RJ2, "grow", "()[Ljava/lang/Object;"⟩
def dkwJ2_grow_0 : List UInt8 := [42, 42, 180, 0, 48, 4, 96, 182, 0, 69, 176]
abbrev dktJ2_grow_0 : List UInt8 := dkwJ2_grow_0 ++ []
theorem dksJ2_grow_0 : cJ2_grow.data.toList.drop 0 = dktJ2_grow_0 := by decide +kernel
theorem dJ2_grow_0 : decode cJ2_grow 0 = .ok (.aload_n 0, 1) := dk_42 (dk_at dksJ2_grow_0 0 rfl rfl)
theorem dJ2_grow_1 : decode cJ2_grow 1 = .ok (.aload_n 0, 1) := dk_42 (dk_at dksJ2_grow_0 1 rfl rfl)
theorem dJ2_grow_2 : decode cJ2_grow 2 = .ok (.getfield 48, 3) := dk_180 0 48 (dk_at dksJ2_grow_0 2 rfl rfl)
theorem dJ2_grow_5 : decode cJ2_grow 5 = .ok (.iconst 1, 1) := dk_4 (dk_at dksJ2_grow_0 5 rfl rfl)
theorem dJ2_grow_6 : decode cJ2_grow 6 = .ok (.iadd, 1) := dk_96 (dk_at dksJ2_grow_0 6 rfl rfl)
theorem dJ2_grow_7 : decode cJ2_grow 7 = .ok (.invokevirtual 69, 3) := dk_182 0 69 (dk_at dksJ2_grow_0 7 rfl rfl)
theorem dJ2_grow_10 : decode cJ2_grow 10 = .ok (.areturn, 1) := dk_176 (dk_at dksJ2_grow_0 10 rfl rfl)
abbrev cJ2_grow_2 : ByteArray := prog_61_method_6_code
def yJ2_grow_2 : MethodName := ⟨RJ2, "grow", "(I)[Ljava/lang/Object;"⟩
def dkwJ2_grow_2_2 : List UInt8 := [27, 184, 0, 79, 189, 0, 7, 90, 181, 0, 9, 176]
abbrev dktJ2_grow_2_2 : List UInt8 := dkwJ2_grow_2_2 ++ []
def dkwJ2_grow_2_1 : List UInt8 := [28, 4, 122, 184, 0, 73, 62, 42, 42, 180, 0, 9, 29, 184, 0, 66, 90, 181, 0, 9, 176, 42, 16, 10]
abbrev dktJ2_grow_2_1 : List UInt8 := dkwJ2_grow_2_1 ++ dktJ2_grow_2_2
def dkwJ2_grow_2_0 : List UInt8 := [42, 180, 0, 9, 190, 61, 28, 157, 0, 13, 42, 180, 0, 9, 178, 0, 39, 165, 0, 28, 28, 27, 28, 100]
abbrev dktJ2_grow_2_0 : List UInt8 := dkwJ2_grow_2_0 ++ dktJ2_grow_2_1
theorem dksJ2_grow_2_0 : cJ2_grow_2.data.toList.drop 0 = dktJ2_grow_2_0 := by decide +kernel
theorem dksJ2_grow_2_1 : cJ2_grow_2.data.toList.drop 24 = dktJ2_grow_2_1 := dk_seg dksJ2_grow_2_0 24 rfl rfl
theorem dksJ2_grow_2_2 : cJ2_grow_2.data.toList.drop 48 = dktJ2_grow_2_2 := dk_seg dksJ2_grow_2_1 24 rfl rfl
theorem dJ2_grow_2_0 : decode cJ2_grow_2 0 = .ok (.aload_n 0, 1) := dk_42 (dk_at dksJ2_grow_2_0 0 rfl rfl)
theorem dJ2_grow_2_1 : decode cJ2_grow_2 1 = .ok (.getfield 9, 3) := dk_180 0 9 (dk_at dksJ2_grow_2_0 1 rfl rfl)
theorem dJ2_grow_2_4 : decode cJ2_grow_2 4 = .ok (.arraylength, 1) := dk_190 (dk_at dksJ2_grow_2_0 4 rfl rfl)
theorem dJ2_grow_2_5 : decode cJ2_grow_2 5 = .ok (.istore_n 2, 1) := dk_61 (dk_at dksJ2_grow_2_0 5 rfl rfl)
theorem dJ2_grow_2_6 : decode cJ2_grow_2 6 = .ok (.iload_n 2, 1) := dk_28 (dk_at dksJ2_grow_2_0 6 rfl rfl)
theorem dJ2_grow_2_7 : decode cJ2_grow_2 7 = .ok (.ifCond .gt 13, 3) := dk_157 0 13 (dk_at dksJ2_grow_2_0 7 rfl rfl)
theorem dJ2_grow_2_10 : decode cJ2_grow_2 10 = .ok (.aload_n 0, 1) := dk_42 (dk_at dksJ2_grow_2_0 10 rfl rfl)
theorem dJ2_grow_2_11 : decode cJ2_grow_2 11 = .ok (.getfield 9, 3) := dk_180 0 9 (dk_at dksJ2_grow_2_0 11 rfl rfl)
theorem dJ2_grow_2_14 : decode cJ2_grow_2 14 = .ok (.getstatic 39, 3) := dk_178 0 39 (dk_at dksJ2_grow_2_0 14 rfl rfl)
theorem dJ2_grow_2_17 : decode cJ2_grow_2 17 = .ok (.if_acmp .eq 28, 3) := dk_165 0 28 (dk_at dksJ2_grow_2_0 17 rfl rfl)
theorem dJ2_grow_2_20 : decode cJ2_grow_2 20 = .ok (.iload_n 2, 1) := dk_28 (dk_at dksJ2_grow_2_0 20 rfl rfl)
theorem dJ2_grow_2_21 : decode cJ2_grow_2 21 = .ok (.iload_n 1, 1) := dk_27 (dk_at dksJ2_grow_2_0 21 rfl rfl)
theorem dJ2_grow_2_22 : decode cJ2_grow_2 22 = .ok (.iload_n 2, 1) := dk_28 (dk_at dksJ2_grow_2_0 22 rfl rfl)
theorem dJ2_grow_2_23 : decode cJ2_grow_2 23 = .ok (.isub, 1) := dk_100 (dk_at dksJ2_grow_2_0 23 rfl rfl)
theorem dJ2_grow_2_24 : decode cJ2_grow_2 24 = .ok (.iload_n 2, 1) := dk_28 (dk_at dksJ2_grow_2_1 0 rfl rfl)
theorem dJ2_grow_2_25 : decode cJ2_grow_2 25 = .ok (.iconst 1, 1) := dk_4 (dk_at dksJ2_grow_2_1 1 rfl rfl)
theorem dJ2_grow_2_26 : decode cJ2_grow_2 26 = .ok (.ishr, 1) := dk_122 (dk_at dksJ2_grow_2_1 2 rfl rfl)
theorem dJ2_grow_2_27 : decode cJ2_grow_2 27 = .ok (.invokestatic 73, 3) := dk_184 0 73 (dk_at dksJ2_grow_2_1 3 rfl rfl)
theorem dJ2_grow_2_30 : decode cJ2_grow_2 30 = .ok (.istore_n 3, 1) := dk_62 (dk_at dksJ2_grow_2_1 6 rfl rfl)
theorem dJ2_grow_2_31 : decode cJ2_grow_2 31 = .ok (.aload_n 0, 1) := dk_42 (dk_at dksJ2_grow_2_1 7 rfl rfl)
theorem dJ2_grow_2_32 : decode cJ2_grow_2 32 = .ok (.aload_n 0, 1) := dk_42 (dk_at dksJ2_grow_2_1 8 rfl rfl)
theorem dJ2_grow_2_33 : decode cJ2_grow_2 33 = .ok (.getfield 9, 3) := dk_180 0 9 (dk_at dksJ2_grow_2_1 9 rfl rfl)
theorem dJ2_grow_2_36 : decode cJ2_grow_2 36 = .ok (.iload_n 3, 1) := dk_29 (dk_at dksJ2_grow_2_1 12 rfl rfl)
theorem dJ2_grow_2_37 : decode cJ2_grow_2 37 = .ok (.invokestatic 66, 3) := dk_184 0 66 (dk_at dksJ2_grow_2_1 13 rfl rfl)
theorem dJ2_grow_2_40 : decode cJ2_grow_2 40 = .ok (.dup_x1, 1) := dk_90 (dk_at dksJ2_grow_2_1 16 rfl rfl)
theorem dJ2_grow_2_41 : decode cJ2_grow_2 41 = .ok (.putfield 9, 3) := dk_181 0 9 (dk_at dksJ2_grow_2_1 17 rfl rfl)
theorem dJ2_grow_2_44 : decode cJ2_grow_2 44 = .ok (.areturn, 1) := dk_176 (dk_at dksJ2_grow_2_1 20 rfl rfl)
theorem dJ2_grow_2_45 : decode cJ2_grow_2 45 = .ok (.aload_n 0, 1) := dk_42 (dk_at dksJ2_grow_2_1 21 rfl rfl)
theorem dJ2_grow_2_46 : decode cJ2_grow_2 46 = .ok (.bipush 10, 2) := dk_16 10 (dk_at dksJ2_grow_2_1 22 rfl rfl)
theorem dJ2_grow_2_48 : decode cJ2_grow_2 48 = .ok (.iload_n 1, 1) := dk_27 (dk_at dksJ2_grow_2_2 0 rfl rfl)
theorem dJ2_grow_2_49 : decode cJ2_grow_2 49 = .ok (.invokestatic 79, 3) := dk_184 0 79 (dk_at dksJ2_grow_2_2 1 rfl rfl)
theorem dJ2_grow_2_52 : decode cJ2_grow_2 52 = .ok (.anewarray 7, 3) := dk_189 0 7 (dk_at dksJ2_grow_2_2 4 rfl rfl)
theorem dJ2_grow_2_55 : decode cJ2_grow_2 55 = .ok (.dup_x1, 1) := dk_90 (dk_at dksJ2_grow_2_2 7 rfl rfl)
theorem dJ2_grow_2_56 : decode cJ2_grow_2 56 = .ok (.putfield 9, 3) := dk_181 0 9 (dk_at dksJ2_grow_2_2 8 rfl rfl)
theorem dJ2_grow_2_59 : decode cJ2_grow_2 59 = .ok (.areturn, 1) := dk_176 (dk_at dksJ2_grow_2_2 11 rfl rfl)
theorem q106 : (Jvm.Cond.initialized "java/util/ArrayList") ∈ lw_all := lw_g (lw_at lw_m1 5 rfl) rfl
theorem q191 : (Jvm.Cond.instantiable "java/util/ArrayList" (3 : Nat)) ∈ lw_all := lw_g (lw_at lw_m1 90 rfl) rfl
theorem q193 : (Jvm.Cond.instanceMethod ({ cls := "java/util/ArrayList", name := "<init>", desc := "(I)V" } : Jvm.MethodName)) ∈ lw_all := lw_g (lw_at lw_m1 92 rfl) rfl
theorem q194 : (Jvm.Cond.code ({ cls := "java/util/ArrayList", name := "<init>", desc := "(I)V" } : Jvm.MethodName) prog_61_method_1_code (2 : Nat) (Option.none : Option Jvm.ClassFile.FieldType)) ∈ lw_all := lw_g (lw_at lw_m1 93 rfl) rfl
theorem q195 : (Jvm.Cond.methodLink "java/util/ArrayList" (1 : Nat) ({ cls := "java/util/AbstractList", name := "<init>", desc := "()V" } : Jvm.MethodName)) ∈ lw_all := lw_g (lw_at lw_m1 94 rfl) rfl
theorem q202 : (Jvm.Cond.classLink "java/util/ArrayList" (7 : Nat) "java/lang/Object") ∈ lw_all := lw_g (lw_at lw_m1 101 rfl) rfl
theorem q204 : (Jvm.Cond.fieldLink "java/util/ArrayList" (15 : Nat) "java/util/ArrayList" "EMPTY_ELEMENTDATA" "[Ljava/lang/Object;") ∈ lw_all := lw_g (lw_at lw_m1 103 rfl) rfl
theorem q205 : (Jvm.Cond.laysStatic "java/util/ArrayList" "EMPTY_ELEMENTDATA" "[Ljava/lang/Object;") ∈ lw_tbl := lw_at lw_m1 104 rfl
theorem q206 : (Jvm.Cond.classLink "java/util/ArrayList" (18 : Nat) "java/lang/IllegalArgumentException") ∈ lw_all := lw_g (lw_at lw_m1 105 rfl) rfl
theorem q250 : (Jvm.Cond.classLink "java/util/ArrayList" (20 : Nat) "java/lang/StringBuilder") ∈ lw_all := lw_g (lw_at lw_m1 149 rfl) rfl
theorem q252 : (Jvm.Cond.methodLink "java/util/ArrayList" (22 : Nat) ({ cls := "java/lang/StringBuilder", name := "<init>", desc := "()V" } : Jvm.MethodName)) ∈ lw_all := lw_g (lw_at lw_m1 151 rfl) rfl
theorem q283 : (Jvm.Cond.stringRef "java/util/ArrayList" (23 : Nat) "Illegal Capacity: ") ∈ lw_tbl := lw_at lw_m1 182 rfl
theorem q284 : (Jvm.Cond.methodLink "java/util/ArrayList" (25 : Nat) ({ cls := "java/lang/StringBuilder", name := "append", desc := "(Ljava/lang/String;)Ljava/lang/StringBuilder;" } : Jvm.MethodName)) ∈ lw_all := lw_g (lw_at lw_m1 183 rfl) rfl
theorem q404 : (Jvm.Cond.methodLink "java/util/ArrayList" (29 : Nat) ({ cls := "java/lang/StringBuilder", name := "append", desc := "(I)Ljava/lang/StringBuilder;" } : Jvm.MethodName)) ∈ lw_all := lw_g (lw_at lw_m2 63 rfl) rfl
theorem q429 : (Jvm.Cond.methodLink "java/util/ArrayList" (32 : Nat) ({ cls := "java/lang/StringBuilder", name := "toString", desc := "()Ljava/lang/String;" } : Jvm.MethodName)) ∈ lw_all := lw_g (lw_at lw_m2 88 rfl) rfl
theorem q523 : (Jvm.Cond.methodLink "java/util/ArrayList" (36 : Nat) ({ cls := "java/lang/IllegalArgumentException", name := "<init>", desc := "(Ljava/lang/String;)V" } : Jvm.MethodName)) ∈ lw_all := lw_g (lw_at lw_m2 182 rfl) rfl
theorem q524 : (Jvm.Cond.fieldLink "java/util/ArrayList" (9 : Nat) "java/util/ArrayList" "elementData" "[Ljava/lang/Object;") ∈ lw_all := lw_g (lw_at lw_m2 183 rfl) rfl
theorem q527 : (Jvm.Cond.fieldLink "java/util/ArrayList" (48 : Nat) "java/util/ArrayList" "size" "I") ∈ lw_all := lw_g (lw_at lw_m2 186 rfl) rfl
theorem q530 : (Jvm.Cond.sameField "java/util/ArrayList" "java/util/AbstractList" "modCount" "I") ∈ lw_all := lw_g (lw_at lw_m2 189 rfl) rfl
theorem q531 : (Jvm.Cond.fieldLink "java/util/ArrayList" (63 : Nat) "java/util/ArrayList" "modCount" "I") ∈ lw_all := lw_g (lw_at lw_m2 190 rfl) rfl
theorem q532 : (Jvm.Cond.lays "java/util/ArrayList" "java/util/ArrayList" "elementData" "[Ljava/lang/Object;") ∈ lw_all := lw_g (lw_at lw_m2 191 rfl) rfl
theorem q533 : (Jvm.Cond.soleField "java/util/ArrayList" "elementData") ∈ lw_all := lw_g (lw_at lw_m2 192 rfl) rfl
theorem q534 : (Jvm.Cond.lays "java/util/ArrayList" "java/util/ArrayList" "size" "I") ∈ lw_all := lw_g (lw_at lw_m2 193 rfl) rfl
theorem q535 : (Jvm.Cond.soleField "java/util/ArrayList" "size") ∈ lw_all := lw_g (lw_at lw_m2 194 rfl) rfl
theorem q536 : (Jvm.Cond.lays "java/util/ArrayList" "java/util/AbstractList" "modCount" "I") ∈ lw_all := lw_g (lw_at lw_m2 195 rfl) rfl
theorem q538 : (Jvm.Cond.superclass "java/util/ArrayList" "java/util/AbstractList") ∈ lw_all := lw_g (lw_at lw_m2 197 rfl) rfl
theorem q709 : (Jvm.Cond.castable "java/util/ArrayList" "java/util/List") ∈ lw_tbl := lw_at lw_m3 128 rfl
theorem q710 : (Jvm.Cond.selects "java/util/ArrayList" ({ cls := "java/util/List", name := "size", desc := "()I" } : Jvm.MethodName) ({ cls := "java/util/ArrayList", name := "size", desc := "()I" } : Jvm.MethodName)) ∈ lw_all := lw_g (lw_at lw_m3 129 rfl) rfl
theorem q711 : (Jvm.Cond.unhidden "java/util/ArrayList" "size" "()I") ∈ lw_tbl := lw_at lw_m3 130 rfl
theorem q712 : (Jvm.Cond.instanceMethod ({ cls := "java/util/ArrayList", name := "size", desc := "()I" } : Jvm.MethodName)) ∈ lw_all := lw_g (lw_at lw_m3 131 rfl) rfl
theorem q713 : (Jvm.Cond.publicMethod ({ cls := "java/util/ArrayList", name := "size", desc := "()I" } : Jvm.MethodName)) ∈ lw_tbl := lw_at lw_m3 132 rfl
theorem q714 : (Jvm.Cond.code ({ cls := "java/util/ArrayList", name := "size", desc := "()I" } : Jvm.MethodName) prog_61_method_8_code (1 : Nat) (Option.some Jvm.ClassFile.FieldType.int)) ∈ lw_all := lw_g (lw_at lw_m3 133 rfl) rfl
theorem q745 : (Jvm.Cond.selects "java/util/ArrayList" ({ cls := "java/util/List", name := "iterator", desc := "()Ljava/util/Iterator;" } : Jvm.MethodName) ({ cls := "java/util/ArrayList", name := "iterator", desc := "()Ljava/util/Iterator;" } : Jvm.MethodName)) ∈ lw_all := lw_g (lw_at lw_m3 164 rfl) rfl
theorem q746 : (Jvm.Cond.unhidden "java/util/ArrayList" "iterator" "()Ljava/util/Iterator;") ∈ lw_tbl := lw_at lw_m3 165 rfl
theorem q747 : (Jvm.Cond.instanceMethod ({ cls := "java/util/ArrayList", name := "iterator", desc := "()Ljava/util/Iterator;" } : Jvm.MethodName)) ∈ lw_all := lw_g (lw_at lw_m3 166 rfl) rfl
theorem q748 : (Jvm.Cond.publicMethod ({ cls := "java/util/ArrayList", name := "iterator", desc := "()Ljava/util/Iterator;" } : Jvm.MethodName)) ∈ lw_tbl := lw_at lw_m3 167 rfl
theorem q749 : (Jvm.Cond.code ({ cls := "java/util/ArrayList", name := "iterator", desc := "()Ljava/util/Iterator;" } : Jvm.MethodName) prog_61_method_55_code (1 : Nat) (Option.some (Jvm.ClassFile.FieldType.object "java/util/Iterator"))) ∈ lw_all := lw_g (lw_at lw_m3 168 rfl) rfl
theorem q750 : (Jvm.Cond.classLink "java/util/ArrayList" (267 : Nat) "java/util/ArrayList$Itr") ∈ lw_all := lw_g (lw_at lw_m3 169 rfl) rfl
theorem q752 : (Jvm.Cond.methodLink "java/util/ArrayList" (269 : Nat) ({ cls := "java/util/ArrayList$Itr", name := "<init>", desc := "(Ljava/util/ArrayList;)V" } : Jvm.MethodName)) ∈ lw_all := lw_g (lw_at lw_m3 171 rfl) rfl
theorem q953 : (Jvm.Cond.castable "java/util/ArrayList" "java/util/Collection") ∈ lw_tbl := lw_at lw_m4 132 rfl
theorem q954 : (Jvm.Cond.selects "java/util/ArrayList" ({ cls := "java/util/Collection", name := "iterator", desc := "()Ljava/util/Iterator;" } : Jvm.MethodName) ({ cls := "java/util/ArrayList", name := "iterator", desc := "()Ljava/util/Iterator;" } : Jvm.MethodName)) ∈ lw_all := lw_g (lw_at lw_m4 133 rfl) rfl
theorem q1190 : (Jvm.Cond.selects "java/util/ArrayList" ({ cls := "java/util/List", name := "get", desc := "(I)Ljava/lang/Object;" } : Jvm.MethodName) ({ cls := "java/util/ArrayList", name := "get", desc := "(I)Ljava/lang/Object;" } : Jvm.MethodName)) ∈ lw_all := lw_g (lw_at lw_m5 129 rfl) rfl
theorem q1191 : (Jvm.Cond.unhidden "java/util/ArrayList" "get" "(I)Ljava/lang/Object;") ∈ lw_tbl := lw_at lw_m5 130 rfl
theorem q1192 : (Jvm.Cond.instanceMethod ({ cls := "java/util/ArrayList", name := "get", desc := "(I)Ljava/lang/Object;" } : Jvm.MethodName)) ∈ lw_all := lw_g (lw_at lw_m5 131 rfl) rfl
theorem q1193 : (Jvm.Cond.publicMethod ({ cls := "java/util/ArrayList", name := "get", desc := "(I)Ljava/lang/Object;" } : Jvm.MethodName)) ∈ lw_tbl := lw_at lw_m5 132 rfl
theorem q1194 : (Jvm.Cond.code ({ cls := "java/util/ArrayList", name := "get", desc := "(I)Ljava/lang/Object;" } : Jvm.MethodName) prog_61_method_20_code (2 : Nat) (Option.some (Jvm.ClassFile.FieldType.object "java/lang/Object"))) ∈ lw_all := lw_g (lw_at lw_m5 133 rfl) rfl
theorem q1195 : (Jvm.Cond.methodLink "java/util/ArrayList" (118 : Nat) ({ cls := "java/util/Objects", name := "checkIndex", desc := "(II)I" } : Jvm.MethodName)) ∈ lw_all := lw_g (lw_at lw_m5 134 rfl) rfl
theorem q1201 : (Jvm.Cond.methodLink "java/util/ArrayList" (123 : Nat) ({ cls := "java/util/ArrayList", name := "elementData", desc := "(I)Ljava/lang/Object;" } : Jvm.MethodName)) ∈ lw_all := lw_g (lw_at lw_m5 140 rfl) rfl
theorem q1202 : (Jvm.Cond.instanceMethod ({ cls := "java/util/ArrayList", name := "elementData", desc := "(I)Ljava/lang/Object;" } : Jvm.MethodName)) ∈ lw_all := lw_g (lw_at lw_m5 141 rfl) rfl
theorem q1203 : (Jvm.Cond.selects "java/util/ArrayList" ({ cls := "java/util/ArrayList", name := "elementData", desc := "(I)Ljava/lang/Object;" } : Jvm.MethodName) ({ cls := "java/util/ArrayList", name := "elementData", desc := "(I)Ljava/lang/Object;" } : Jvm.MethodName)) ∈ lw_all := lw_g (lw_at lw_m5 142 rfl) rfl
theorem q1204 : (Jvm.Cond.code ({ cls := "java/util/ArrayList", name := "elementData", desc := "(I)Ljava/lang/Object;" } : Jvm.MethodName) prog_61_method_18_code (2 : Nat) (Option.some (Jvm.ClassFile.FieldType.object "java/lang/Object"))) ∈ lw_all := lw_g (lw_at lw_m5 143 rfl) rfl
theorem q1705 : (Jvm.Cond.selects "java/util/ArrayList" ({ cls := "java/lang/Object", name := "getClass", desc := "()Ljava/lang/Class;" } : Jvm.MethodName) ({ cls := "java/lang/Object", name := "getClass", desc := "()Ljava/lang/Class;" } : Jvm.MethodName)) ∈ lw_all := lw_g (lw_at lw_m7 164 rfl) rfl
theorem q2858 : (Jvm.Cond.selects "java/util/ArrayList" ({ cls := "java/util/List", name := "add", desc := "(Ljava/lang/Object;)Z" } : Jvm.MethodName) ({ cls := "java/util/ArrayList", name := "add", desc := "(Ljava/lang/Object;)Z" } : Jvm.MethodName)) ∈ lw_all := lw_g (lw_at lw_m12 117 rfl) rfl
theorem q2859 : (Jvm.Cond.unhidden "java/util/ArrayList" "add" "(Ljava/lang/Object;)Z") ∈ lw_tbl := lw_at lw_m12 118 rfl
theorem q2860 : (Jvm.Cond.instanceMethod ({ cls := "java/util/ArrayList", name := "add", desc := "(Ljava/lang/Object;)Z" } : Jvm.MethodName)) ∈ lw_all := lw_g (lw_at lw_m12 119 rfl) rfl
theorem q2861 : (Jvm.Cond.publicMethod ({ cls := "java/util/ArrayList", name := "add", desc := "(Ljava/lang/Object;)Z" } : Jvm.MethodName)) ∈ lw_tbl := lw_at lw_m12 120 rfl
theorem q2862 : (Jvm.Cond.code ({ cls := "java/util/ArrayList", name := "add", desc := "(Ljava/lang/Object;)Z" } : Jvm.MethodName) prog_61_method_25_code (2 : Nat) (Option.some Jvm.ClassFile.FieldType.boolean)) ∈ lw_all := lw_g (lw_at lw_m12 121 rfl) rfl
theorem q2863 : (Jvm.Cond.methodLink "java/util/ArrayList" (131 : Nat) ({ cls := "java/util/ArrayList", name := "add", desc := "(Ljava/lang/Object;[Ljava/lang/Object;I)V" } : Jvm.MethodName)) ∈ lw_all := lw_g (lw_at lw_m12 122 rfl) rfl
theorem q2864 : (Jvm.Cond.privateMethod ({ cls := "java/util/ArrayList", name := "add", desc := "(Ljava/lang/Object;[Ljava/lang/Object;I)V" } : Jvm.MethodName)) ∈ lw_tbl := lw_at lw_m12 123 rfl
theorem q2865 : (Jvm.Cond.instanceMethod ({ cls := "java/util/ArrayList", name := "add", desc := "(Ljava/lang/Object;[Ljava/lang/Object;I)V" } : Jvm.MethodName)) ∈ lw_all := lw_g (lw_at lw_m12 124 rfl) rfl
theorem q2866 : (Jvm.Cond.code ({ cls := "java/util/ArrayList", name := "add", desc := "(Ljava/lang/Object;[Ljava/lang/Object;I)V" } : Jvm.MethodName) prog_61_method_24_code (4 : Nat) (Option.none : Option Jvm.ClassFile.FieldType)) ∈ lw_all := lw_g (lw_at lw_m12 125 rfl) rfl
theorem q2867 : (Jvm.Cond.methodLink "java/util/ArrayList" (129 : Nat) ({ cls := "java/util/ArrayList", name := "grow", desc := "()[Ljava/lang/Object;" } : Jvm.MethodName)) ∈ lw_all := lw_g (lw_at lw_m12 126 rfl) rfl
theorem q2868 : (Jvm.Cond.privateMethod ({ cls := "java/util/ArrayList", name := "grow", desc := "()[Ljava/lang/Object;" } : Jvm.MethodName)) ∈ lw_tbl := lw_at lw_m12 127 rfl
theorem q2869 : (Jvm.Cond.instanceMethod ({ cls := "java/util/ArrayList", name := "grow", desc := "()[Ljava/lang/Object;" } : Jvm.MethodName)) ∈ lw_all := lw_g (lw_at lw_m12 128 rfl) rfl
theorem q2870 : (Jvm.Cond.code ({ cls := "java/util/ArrayList", name := "grow", desc := "()[Ljava/lang/Object;" } : Jvm.MethodName) prog_61_method_7_code (1 : Nat) (Option.some (Jvm.ClassFile.FieldType.array (Jvm.ClassFile.FieldType.object "java/lang/Object")))) ∈ lw_all := lw_g (lw_at lw_m12 129 rfl) rfl
theorem q2871 : (Jvm.Cond.methodLink "java/util/ArrayList" (69 : Nat) ({ cls := "java/util/ArrayList", name := "grow", desc := "(I)[Ljava/lang/Object;" } : Jvm.MethodName)) ∈ lw_all := lw_g (lw_at lw_m12 130 rfl) rfl
theorem q2872 : (Jvm.Cond.privateMethod ({ cls := "java/util/ArrayList", name := "grow", desc := "(I)[Ljava/lang/Object;" } : Jvm.MethodName)) ∈ lw_tbl := lw_at lw_m12 131 rfl
theorem q2873 : (Jvm.Cond.instanceMethod ({ cls := "java/util/ArrayList", name := "grow", desc := "(I)[Ljava/lang/Object;" } : Jvm.MethodName)) ∈ lw_all := lw_g (lw_at lw_m12 132 rfl) rfl
theorem q2874 : (Jvm.Cond.code ({ cls := "java/util/ArrayList", name := "grow", desc := "(I)[Ljava/lang/Object;" } : Jvm.MethodName) prog_61_method_6_code (4 : Nat) (Option.some (Jvm.ClassFile.FieldType.array (Jvm.ClassFile.FieldType.object "java/lang/Object")))) ∈ lw_all := lw_g (lw_at lw_m12 133 rfl) rfl
theorem q2875 : (Jvm.Cond.fieldLink "java/util/ArrayList" (39 : Nat) "java/util/ArrayList" "DEFAULTCAPACITY_EMPTY_ELEMENTDATA" "[Ljava/lang/Object;") ∈ lw_all := lw_g (lw_at lw_m12 134 rfl) rfl
theorem q2876 : (Jvm.Cond.laysStatic "java/util/ArrayList" "DEFAULTCAPACITY_EMPTY_ELEMENTDATA" "[Ljava/lang/Object;") ∈ lw_tbl := lw_at lw_m12 135 rfl
theorem q2877 : (Jvm.Cond.methodLink "java/util/ArrayList" (73 : Nat) ({ cls := "jdk/internal/util/ArraysSupport", name := "newLength", desc := "(III)I" } : Jvm.MethodName)) ∈ lw_all := lw_g (lw_at lw_m12 136 rfl) rfl
theorem q2878 : (Jvm.Cond.methodLink "java/util/ArrayList" (66 : Nat) ({ cls := "java/util/Arrays", name := "copyOf", desc := "([Ljava/lang/Object;I)[Ljava/lang/Object;" } : Jvm.MethodName)) ∈ lw_all := lw_g (lw_at lw_m12 137 rfl) rfl
theorem q2879 : (Jvm.Cond.methodLink "java/util/ArrayList" (79 : Nat) ({ cls := "java/lang/Math", name := "max", desc := "(II)I" } : Jvm.MethodName)) ∈ lw_all := lw_g (lw_at lw_m12 138 rfl) rfl
theorem q3831 : (Jvm.Cond.castable "java/util/ArrayList" "java/util/SequencedCollection") ∈ lw_tbl := lw_at lw_m16 130 rfl
theorem q3849 : (Jvm.Cond.castable "java/util/ArrayList" "java/lang/Object") ∈ lw_tbl := lw_at lw_m16 148 rfl
theorem in_J2 : ∀ w ∈ wsJ20, w ∈ lw_all := lw_in wsJ20 [536, 532, 534] (by decide +kernel) (by decide +kernel)

-- J3.java_lang_Throwable.lean.txt
/-! java/lang/Throwable -/
set_option maxRecDepth 100000
def RJ3 : String := "java/lang/Throwable"
def TJ3 : u_T := fun k => match k with
  | 0 => ("java/lang/Throwable", "cause", "Ljava/lang/Throwable;", false)
  | 1 => ("java/lang/Throwable", "stackTrace", "[Ljava/lang/StackTraceElement;", false)
  | 2 => ("java/lang/Throwable", "suppressedExceptions", "Ljava/util/List;", false)
  | 3 => ("java/lang/Throwable", "detailMessage", "Ljava/lang/String;", false)
  | _ => ("java/lang/Throwable", "backtrace", "Ljava/lang/Object;", false)
def tyJ3 : Nat → FieldType := fun k => match k with
  | 0 => .object "java/lang/Throwable"
  | 1 => .array (.object "java/lang/StackTraceElement")
  | 2 => .object "java/util/List"
  | 3 => .object "java/lang/String"
  | _ => .object "java/lang/Object"
abbrev wsJ30 : List Cond := u_ws RJ3 TJ3 5
theorem nmJ3 : ∀ a, a < 5 → ∀ b, b < 5 → a ≠ b → (TJ3 a).2.1 ≠ (TJ3 b).2.1 := by decide +kernel
theorem tyJ3_ok : ∀ k, k < 5 → parseFieldDescriptor (TJ3 k).2.2.1 = some (tyJ3 k) := by decide +kernel
abbrev cJ3_init : ByteArray := prog_52_method_1_code
def yJ3_init : MethodName := ⟨RJ3, "<init>", "()V"⟩
def dkwJ3_init_1 : List UInt8 := [182, 0, 27, 87, 177]
abbrev dktJ3_init_1 : List UInt8 := dkwJ3_init_1 ++ []
def dkwJ3_init_0 : List UInt8 := [42, 183, 0, 1, 42, 42, 181, 0, 7, 42, 178, 0, 13, 181, 0, 17, 42, 178, 0, 20, 181, 0, 24, 42]
abbrev dktJ3_init_0 : List UInt8 := dkwJ3_init_0 ++ dktJ3_init_1
theorem dksJ3_init_0 : cJ3_init.data.toList.drop 0 = dktJ3_init_0 := by decide +kernel
theorem dksJ3_init_1 : cJ3_init.data.toList.drop 24 = dktJ3_init_1 := dk_seg dksJ3_init_0 24 rfl rfl
theorem dJ3_init_0 : decode cJ3_init 0 = .ok (.aload_n 0, 1) := dk_42 (dk_at dksJ3_init_0 0 rfl rfl)
theorem dJ3_init_1 : decode cJ3_init 1 = .ok (.invokespecial 1, 3) := dk_183 0 1 (dk_at dksJ3_init_0 1 rfl rfl)
theorem dJ3_init_4 : decode cJ3_init 4 = .ok (.aload_n 0, 1) := dk_42 (dk_at dksJ3_init_0 4 rfl rfl)
theorem dJ3_init_5 : decode cJ3_init 5 = .ok (.aload_n 0, 1) := dk_42 (dk_at dksJ3_init_0 5 rfl rfl)
theorem dJ3_init_6 : decode cJ3_init 6 = .ok (.putfield 7, 3) := dk_181 0 7 (dk_at dksJ3_init_0 6 rfl rfl)
theorem dJ3_init_9 : decode cJ3_init 9 = .ok (.aload_n 0, 1) := dk_42 (dk_at dksJ3_init_0 9 rfl rfl)
theorem dJ3_init_10 : decode cJ3_init 10 = .ok (.getstatic 13, 3) := dk_178 0 13 (dk_at dksJ3_init_0 10 rfl rfl)
theorem dJ3_init_13 : decode cJ3_init 13 = .ok (.putfield 17, 3) := dk_181 0 17 (dk_at dksJ3_init_0 13 rfl rfl)
theorem dJ3_init_16 : decode cJ3_init 16 = .ok (.aload_n 0, 1) := dk_42 (dk_at dksJ3_init_0 16 rfl rfl)
theorem dJ3_init_17 : decode cJ3_init 17 = .ok (.getstatic 20, 3) := dk_178 0 20 (dk_at dksJ3_init_0 17 rfl rfl)
theorem dJ3_init_20 : decode cJ3_init 20 = .ok (.putfield 24, 3) := dk_181 0 24 (dk_at dksJ3_init_0 20 rfl rfl)
theorem dJ3_init_23 : decode cJ3_init 23 = .ok (.aload_n 0, 1) := dk_42 (dk_at dksJ3_init_0 23 rfl rfl)
theorem dJ3_init_24 : decode cJ3_init 24 = .ok (.invokevirtual 27, 3) := dk_182 0 27 (dk_at dksJ3_init_1 0 rfl rfl)
theorem dJ3_init_27 : decode cJ3_init 27 = .ok (.pop, 1) := dk_87 (dk_at dksJ3_init_1 3 rfl rfl)
theorem dJ3_init_28 : decode cJ3_init 28 = .ok (.return_, 1) := dk_177 (dk_at dksJ3_init_1 4 rfl rfl)
abbrev cJ3_init_2 : ByteArray := prog_52_method_2_code
def yJ3_init_2 : MethodName := ⟨RJ3, "<init>", "(Ljava/lang/String;)V"⟩
def dkwJ3_init_2_1 : List UInt8 := [182, 0, 27, 87, 42, 43, 181, 0, 31, 177]
abbrev dktJ3_init_2_1 : List UInt8 := dkwJ3_init_2_1 ++ []
def dkwJ3_init_2_0 : List UInt8 := [42, 183, 0, 1, 42, 42, 181, 0, 7, 42, 178, 0, 13, 181, 0, 17, 42, 178, 0, 20, 181, 0, 24, 42]
abbrev dktJ3_init_2_0 : List UInt8 := dkwJ3_init_2_0 ++ dktJ3_init_2_1
theorem dksJ3_init_2_0 : cJ3_init_2.data.toList.drop 0 = dktJ3_init_2_0 := by decide +kernel
theorem dksJ3_init_2_1 : cJ3_init_2.data.toList.drop 24 = dktJ3_init_2_1 := dk_seg dksJ3_init_2_0 24 rfl rfl
theorem dJ3_init_2_0 : decode cJ3_init_2 0 = .ok (.aload_n 0, 1) := dk_42 (dk_at dksJ3_init_2_0 0 rfl rfl)
theorem dJ3_init_2_1 : decode cJ3_init_2 1 = .ok (.invokespecial 1, 3) := dk_183 0 1 (dk_at dksJ3_init_2_0 1 rfl rfl)
theorem dJ3_init_2_4 : decode cJ3_init_2 4 = .ok (.aload_n 0, 1) := dk_42 (dk_at dksJ3_init_2_0 4 rfl rfl)
theorem dJ3_init_2_5 : decode cJ3_init_2 5 = .ok (.aload_n 0, 1) := dk_42 (dk_at dksJ3_init_2_0 5 rfl rfl)
theorem dJ3_init_2_6 : decode cJ3_init_2 6 = .ok (.putfield 7, 3) := dk_181 0 7 (dk_at dksJ3_init_2_0 6 rfl rfl)
theorem dJ3_init_2_9 : decode cJ3_init_2 9 = .ok (.aload_n 0, 1) := dk_42 (dk_at dksJ3_init_2_0 9 rfl rfl)
theorem dJ3_init_2_10 : decode cJ3_init_2 10 = .ok (.getstatic 13, 3) := dk_178 0 13 (dk_at dksJ3_init_2_0 10 rfl rfl)
theorem dJ3_init_2_13 : decode cJ3_init_2 13 = .ok (.putfield 17, 3) := dk_181 0 17 (dk_at dksJ3_init_2_0 13 rfl rfl)
theorem dJ3_init_2_16 : decode cJ3_init_2 16 = .ok (.aload_n 0, 1) := dk_42 (dk_at dksJ3_init_2_0 16 rfl rfl)
theorem dJ3_init_2_17 : decode cJ3_init_2 17 = .ok (.getstatic 20, 3) := dk_178 0 20 (dk_at dksJ3_init_2_0 17 rfl rfl)
theorem dJ3_init_2_20 : decode cJ3_init_2 20 = .ok (.putfield 24, 3) := dk_181 0 24 (dk_at dksJ3_init_2_0 20 rfl rfl)
theorem dJ3_init_2_23 : decode cJ3_init_2 23 = .ok (.aload_n 0, 1) := dk_42 (dk_at dksJ3_init_2_0 23 rfl rfl)
theorem dJ3_init_2_24 : decode cJ3_init_2 24 = .ok (.invokevirtual 27, 3) := dk_182 0 27 (dk_at dksJ3_init_2_1 0 rfl rfl)
theorem dJ3_init_2_27 : decode cJ3_init_2 27 = .ok (.pop, 1) := dk_87 (dk_at dksJ3_init_2_1 3 rfl rfl)
theorem dJ3_init_2_28 : decode cJ3_init_2 28 = .ok (.aload_n 0, 1) := dk_42 (dk_at dksJ3_init_2_1 4 rfl rfl)
theorem dJ3_init_2_29 : decode cJ3_init_2 29 = .ok (.aload_n 1, 1) := dk_43 (dk_at dksJ3_init_2_1 5 rfl rfl)
theorem dJ3_init_2_30 : decode cJ3_init_2 30 = .ok (.putfield 31, 3) := dk_181 0 31 (dk_at dksJ3_init_2_1 6 rfl rfl)
theorem dJ3_init_2_33 : decode cJ3_init_2 33 = .ok (.return_, 1) := dk_177 (dk_at dksJ3_init_2_1 9 rfl rfl)
abbrev cJ3_toString : ByteArray := prog_52_method_11_code
def yJ3_toString : MethodName := ⟨RJ3, "toString", "()Ljava/lang/String;"⟩
def dkwJ3_toString_1 : List UInt8 := [43, 182, 0, 49, 18, 81, 182, 0, 49, 44, 182, 0, 49, 182, 0, 60, 167, 0, 4, 43, 176]
abbrev dktJ3_toString_1 : List UInt8 := dkwJ3_toString_1 ++ []
def dkwJ3_toString_0 : List UInt8 := [42, 182, 0, 69, 182, 0, 73, 76, 42, 182, 0, 78, 77, 44, 198, 0, 29, 187, 0, 44, 89, 183, 0, 46]
abbrev dktJ3_toString_0 : List UInt8 := dkwJ3_toString_0 ++ dktJ3_toString_1
theorem dksJ3_toString_0 : cJ3_toString.data.toList.drop 0 = dktJ3_toString_0 := by decide +kernel
theorem dksJ3_toString_1 : cJ3_toString.data.toList.drop 24 = dktJ3_toString_1 := dk_seg dksJ3_toString_0 24 rfl rfl
theorem dJ3_toString_0 : decode cJ3_toString 0 = .ok (.aload_n 0, 1) := dk_42 (dk_at dksJ3_toString_0 0 rfl rfl)
theorem dJ3_toString_1 : decode cJ3_toString 1 = .ok (.invokevirtual 69, 3) := dk_182 0 69 (dk_at dksJ3_toString_0 1 rfl rfl)
theorem dJ3_toString_4 : decode cJ3_toString 4 = .ok (.invokevirtual 73, 3) := dk_182 0 73 (dk_at dksJ3_toString_0 4 rfl rfl)
theorem dJ3_toString_7 : decode cJ3_toString 7 = .ok (.astore_n 1, 1) := dk_76 (dk_at dksJ3_toString_0 7 rfl rfl)
theorem dJ3_toString_8 : decode cJ3_toString 8 = .ok (.aload_n 0, 1) := dk_42 (dk_at dksJ3_toString_0 8 rfl rfl)
theorem dJ3_toString_9 : decode cJ3_toString 9 = .ok (.invokevirtual 78, 3) := dk_182 0 78 (dk_at dksJ3_toString_0 9 rfl rfl)
theorem dJ3_toString_12 : decode cJ3_toString 12 = .ok (.astore_n 2, 1) := dk_77 (dk_at dksJ3_toString_0 12 rfl rfl)
theorem dJ3_toString_13 : decode cJ3_toString 13 = .ok (.aload_n 2, 1) := dk_44 (dk_at dksJ3_toString_0 13 rfl rfl)
theorem dJ3_toString_14 : decode cJ3_toString 14 = .ok (.ifnull 29, 3) := dk_198 0 29 (dk_at dksJ3_toString_0 14 rfl rfl)
theorem dJ3_toString_17 : decode cJ3_toString 17 = .ok (.new 44, 3) := dk_187 0 44 (dk_at dksJ3_toString_0 17 rfl rfl)
theorem dJ3_toString_20 : decode cJ3_toString 20 = .ok (.dup, 1) := dk_89 (dk_at dksJ3_toString_0 20 rfl rfl)
theorem dJ3_toString_21 : decode cJ3_toString 21 = .ok (.invokespecial 46, 3) := dk_183 0 46 (dk_at dksJ3_toString_0 21 rfl rfl)
theorem dJ3_toString_24 : decode cJ3_toString 24 = .ok (.aload_n 1, 1) := dk_43 (dk_at dksJ3_toString_1 0 rfl rfl)
theorem dJ3_toString_25 : decode cJ3_toString 25 = .ok (.invokevirtual 49, 3) := dk_182 0 49 (dk_at dksJ3_toString_1 1 rfl rfl)
theorem dJ3_toString_28 : decode cJ3_toString 28 = .ok (.ldc 81, 2) := dk_18 81 (dk_at dksJ3_toString_1 4 rfl rfl)
theorem dJ3_toString_30 : decode cJ3_toString 30 = .ok (.invokevirtual 49, 3) := dk_182 0 49 (dk_at dksJ3_toString_1 6 rfl rfl)
theorem dJ3_toString_33 : decode cJ3_toString 33 = .ok (.aload_n 2, 1) := dk_44 (dk_at dksJ3_toString_1 9 rfl rfl)
theorem dJ3_toString_34 : decode cJ3_toString 34 = .ok (.invokevirtual 49, 3) := dk_182 0 49 (dk_at dksJ3_toString_1 10 rfl rfl)
theorem dJ3_toString_37 : decode cJ3_toString 37 = .ok (.invokevirtual 60, 3) := dk_182 0 60 (dk_at dksJ3_toString_1 13 rfl rfl)
theorem dJ3_toString_40 : decode cJ3_toString 40 = .ok (.goto 4, 3) := dk_167 0 4 (dk_at dksJ3_toString_1 16 rfl rfl)
theorem dJ3_toString_43 : decode cJ3_toString 43 = .ok (.aload_n 1, 1) := dk_43 (dk_at dksJ3_toString_1 19 rfl rfl)
theorem dJ3_toString_44 : decode cJ3_toString 44 = .ok (.areturn, 1) := dk_176 (dk_at dksJ3_toString_1 20 rfl rfl)
abbrev cJ3_getLocalizedMessage : ByteArray := prog_52_method_7_code
def yJ3_getLocalizedMessage : MethodName := ⟨RJ3, "getLocalizedMessage", "()Ljava/lang/String;"⟩
theorem dJ3_getLocalizedMessage_0 : decode cJ3_getLocalizedMessage 0 = .ok (.aload_n 0, 1) := by decide +kernel
theorem dJ3_getLocalizedMessage_1 : decode cJ3_getLocalizedMessage 1 = .ok (.invokevirtual 39, 3) := by decide +kernel
theorem dJ3_getLocalizedMessage_4 : decode cJ3_getLocalizedMessage 4 = .ok (.areturn, 1) := by decide +kernel
abbrev cJ3_getMessage : ByteArray := prog_52_method_6_code
def yJ3_getMessage : MethodName := ⟨RJ3, "getMessage", "()Ljava/lang/String;"⟩
theorem dJ3_getMessage_0 : decode cJ3_getMessage 0 = .ok (.aload_n 0, 1) := by decide +kernel
theorem dJ3_getMessage_1 : decode cJ3_getMessage 1 = .ok (.getfield 31, 3) := by decide +kernel
theorem dJ3_getMessage_4 : decode cJ3_getMessage 4 = .ok (.areturn, 1) := by decide +kernel
abbrev cJ3_init_3 : ByteArray := prog_52_method_3_code
def yJ3_init_3 : MethodName := ⟨RJ3, "<init>", "(Ljava/lang/String;Ljava/lang/Throwable;)V"⟩
def dkwJ3_init_3_1 : List UInt8 := [182, 0, 27, 87, 42, 43, 181, 0, 31, 42, 44, 181, 0, 7, 177]
abbrev dktJ3_init_3_1 : List UInt8 := dkwJ3_init_3_1 ++ []
def dkwJ3_init_3_0 : List UInt8 := [42, 183, 0, 1, 42, 42, 181, 0, 7, 42, 178, 0, 13, 181, 0, 17, 42, 178, 0, 20, 181, 0, 24, 42]
abbrev dktJ3_init_3_0 : List UInt8 := dkwJ3_init_3_0 ++ dktJ3_init_3_1
theorem dksJ3_init_3_0 : cJ3_init_3.data.toList.drop 0 = dktJ3_init_3_0 := by decide +kernel
theorem dksJ3_init_3_1 : cJ3_init_3.data.toList.drop 24 = dktJ3_init_3_1 := dk_seg dksJ3_init_3_0 24 rfl rfl
theorem dJ3_init_3_0 : decode cJ3_init_3 0 = .ok (.aload_n 0, 1) := dk_42 (dk_at dksJ3_init_3_0 0 rfl rfl)
theorem dJ3_init_3_1 : decode cJ3_init_3 1 = .ok (.invokespecial 1, 3) := dk_183 0 1 (dk_at dksJ3_init_3_0 1 rfl rfl)
theorem dJ3_init_3_4 : decode cJ3_init_3 4 = .ok (.aload_n 0, 1) := dk_42 (dk_at dksJ3_init_3_0 4 rfl rfl)
theorem dJ3_init_3_5 : decode cJ3_init_3 5 = .ok (.aload_n 0, 1) := dk_42 (dk_at dksJ3_init_3_0 5 rfl rfl)
theorem dJ3_init_3_6 : decode cJ3_init_3 6 = .ok (.putfield 7, 3) := dk_181 0 7 (dk_at dksJ3_init_3_0 6 rfl rfl)
theorem dJ3_init_3_9 : decode cJ3_init_3 9 = .ok (.aload_n 0, 1) := dk_42 (dk_at dksJ3_init_3_0 9 rfl rfl)
theorem dJ3_init_3_10 : decode cJ3_init_3 10 = .ok (.getstatic 13, 3) := dk_178 0 13 (dk_at dksJ3_init_3_0 10 rfl rfl)
theorem dJ3_init_3_13 : decode cJ3_init_3 13 = .ok (.putfield 17, 3) := dk_181 0 17 (dk_at dksJ3_init_3_0 13 rfl rfl)
theorem dJ3_init_3_16 : decode cJ3_init_3 16 = .ok (.aload_n 0, 1) := dk_42 (dk_at dksJ3_init_3_0 16 rfl rfl)
theorem dJ3_init_3_17 : decode cJ3_init_3 17 = .ok (.getstatic 20, 3) := dk_178 0 20 (dk_at dksJ3_init_3_0 17 rfl rfl)
theorem dJ3_init_3_20 : decode cJ3_init_3 20 = .ok (.putfield 24, 3) := dk_181 0 24 (dk_at dksJ3_init_3_0 20 rfl rfl)
theorem dJ3_init_3_23 : decode cJ3_init_3 23 = .ok (.aload_n 0, 1) := dk_42 (dk_at dksJ3_init_3_0 23 rfl rfl)
theorem dJ3_init_3_24 : decode cJ3_init_3 24 = .ok (.invokevirtual 27, 3) := dk_182 0 27 (dk_at dksJ3_init_3_1 0 rfl rfl)
theorem dJ3_init_3_27 : decode cJ3_init_3 27 = .ok (.pop, 1) := dk_87 (dk_at dksJ3_init_3_1 3 rfl rfl)
theorem dJ3_init_3_28 : decode cJ3_init_3 28 = .ok (.aload_n 0, 1) := dk_42 (dk_at dksJ3_init_3_1 4 rfl rfl)
theorem dJ3_init_3_29 : decode cJ3_init_3 29 = .ok (.aload_n 1, 1) := dk_43 (dk_at dksJ3_init_3_1 5 rfl rfl)
theorem dJ3_init_3_30 : decode cJ3_init_3 30 = .ok (.putfield 31, 3) := dk_181 0 31 (dk_at dksJ3_init_3_1 6 rfl rfl)
theorem dJ3_init_3_33 : decode cJ3_init_3 33 = .ok (.aload_n 0, 1) := dk_42 (dk_at dksJ3_init_3_1 9 rfl rfl)
theorem dJ3_init_3_34 : decode cJ3_init_3 34 = .ok (.aload_n 2, 1) := dk_44 (dk_at dksJ3_init_3_1 10 rfl rfl)
theorem dJ3_init_3_35 : decode cJ3_init_3 35 = .ok (.putfield 7, 3) := dk_181 0 7 (dk_at dksJ3_init_3_1 11 rfl rfl)
theorem dJ3_init_3_38 : decode cJ3_init_3 38 = .ok (.return_, 1) := dk_177 (dk_at dksJ3_init_3_1 14 rfl rfl)
abbrev cJ3_init_4 : ByteArray := prog_52_method_5_code
def yJ3_init_4 : MethodName := ⟨RJ3, "<init>", "(Ljava/lang/String;Ljava/lang/Throwable;ZZ)V"⟩
def dkwJ3_init_4_2 : List UInt8 := [44, 181, 0, 7, 29, 154, 0, 8, 42, 1, 181, 0, 24, 177]
abbrev dktJ3_init_4_2 : List UInt8 := dkwJ3_init_4_2 ++ []
def dkwJ3_init_4_1 : List UInt8 := [21, 4, 153, 0, 11, 42, 182, 0, 27, 87, 167, 0, 8, 42, 1, 181, 0, 17, 42, 43, 181, 0, 31, 42]
abbrev dktJ3_init_4_1 : List UInt8 := dkwJ3_init_4_1 ++ dktJ3_init_4_2
def dkwJ3_init_4_0 : List UInt8 := [42, 183, 0, 1, 42, 42, 181, 0, 7, 42, 178, 0, 13, 181, 0, 17, 42, 178, 0, 20, 181, 0, 24]
abbrev dktJ3_init_4_0 : List UInt8 := dkwJ3_init_4_0 ++ dktJ3_init_4_1
theorem dksJ3_init_4_0 : cJ3_init_4.data.toList.drop 0 = dktJ3_init_4_0 := by decide +kernel
theorem dksJ3_init_4_1 : cJ3_init_4.data.toList.drop 23 = dktJ3_init_4_1 := dk_seg dksJ3_init_4_0 23 rfl rfl
theorem dksJ3_init_4_2 : cJ3_init_4.data.toList.drop 47 = dktJ3_init_4_2 := dk_seg dksJ3_init_4_1 24 rfl rfl
theorem dJ3_init_4_0 : decode cJ3_init_4 0 = .ok (.aload_n 0, 1) := dk_42 (dk_at dksJ3_init_4_0 0 rfl rfl)
theorem dJ3_init_4_1 : decode cJ3_init_4 1 = .ok (.invokespecial 1, 3) := dk_183 0 1 (dk_at dksJ3_init_4_0 1 rfl rfl)
theorem dJ3_init_4_4 : decode cJ3_init_4 4 = .ok (.aload_n 0, 1) := dk_42 (dk_at dksJ3_init_4_0 4 rfl rfl)
theorem dJ3_init_4_5 : decode cJ3_init_4 5 = .ok (.aload_n 0, 1) := dk_42 (dk_at dksJ3_init_4_0 5 rfl rfl)
theorem dJ3_init_4_6 : decode cJ3_init_4 6 = .ok (.putfield 7, 3) := dk_181 0 7 (dk_at dksJ3_init_4_0 6 rfl rfl)
theorem dJ3_init_4_9 : decode cJ3_init_4 9 = .ok (.aload_n 0, 1) := dk_42 (dk_at dksJ3_init_4_0 9 rfl rfl)
theorem dJ3_init_4_10 : decode cJ3_init_4 10 = .ok (.getstatic 13, 3) := dk_178 0 13 (dk_at dksJ3_init_4_0 10 rfl rfl)
theorem dJ3_init_4_13 : decode cJ3_init_4 13 = .ok (.putfield 17, 3) := dk_181 0 17 (dk_at dksJ3_init_4_0 13 rfl rfl)
theorem dJ3_init_4_16 : decode cJ3_init_4 16 = .ok (.aload_n 0, 1) := dk_42 (dk_at dksJ3_init_4_0 16 rfl rfl)
theorem dJ3_init_4_17 : decode cJ3_init_4 17 = .ok (.getstatic 20, 3) := dk_178 0 20 (dk_at dksJ3_init_4_0 17 rfl rfl)
theorem dJ3_init_4_20 : decode cJ3_init_4 20 = .ok (.putfield 24, 3) := dk_181 0 24 (dk_at dksJ3_init_4_0 20 rfl rfl)
theorem dJ3_init_4_23 : decode cJ3_init_4 23 = .ok (.iload 4, 2) := dk_21 4 (dk_at dksJ3_init_4_1 0 rfl rfl)
theorem dJ3_init_4_25 : decode cJ3_init_4 25 = .ok (.ifCond .eq 11, 3) := dk_153 0 11 (dk_at dksJ3_init_4_1 2 rfl rfl)
theorem dJ3_init_4_28 : decode cJ3_init_4 28 = .ok (.aload_n 0, 1) := dk_42 (dk_at dksJ3_init_4_1 5 rfl rfl)
theorem dJ3_init_4_29 : decode cJ3_init_4 29 = .ok (.invokevirtual 27, 3) := dk_182 0 27 (dk_at dksJ3_init_4_1 6 rfl rfl)
theorem dJ3_init_4_32 : decode cJ3_init_4 32 = .ok (.pop, 1) := dk_87 (dk_at dksJ3_init_4_1 9 rfl rfl)
theorem dJ3_init_4_33 : decode cJ3_init_4 33 = .ok (.goto 8, 3) := dk_167 0 8 (dk_at dksJ3_init_4_1 10 rfl rfl)
theorem dJ3_init_4_36 : decode cJ3_init_4 36 = .ok (.aload_n 0, 1) := dk_42 (dk_at dksJ3_init_4_1 13 rfl rfl)
theorem dJ3_init_4_37 : decode cJ3_init_4 37 = .ok (.aconst_null, 1) := dk_1 (dk_at dksJ3_init_4_1 14 rfl rfl)
theorem dJ3_init_4_38 : decode cJ3_init_4 38 = .ok (.putfield 17, 3) := dk_181 0 17 (dk_at dksJ3_init_4_1 15 rfl rfl)
theorem dJ3_init_4_41 : decode cJ3_init_4 41 = .ok (.aload_n 0, 1) := dk_42 (dk_at dksJ3_init_4_1 18 rfl rfl)
theorem dJ3_init_4_42 : decode cJ3_init_4 42 = .ok (.aload_n 1, 1) := dk_43 (dk_at dksJ3_init_4_1 19 rfl rfl)
theorem dJ3_init_4_43 : decode cJ3_init_4 43 = .ok (.putfield 31, 3) := dk_181 0 31 (dk_at dksJ3_init_4_1 20 rfl rfl)
theorem dJ3_init_4_46 : decode cJ3_init_4 46 = .ok (.aload_n 0, 1) := dk_42 (dk_at dksJ3_init_4_1 23 rfl rfl)
theorem dJ3_init_4_47 : decode cJ3_init_4 47 = .ok (.aload_n 2, 1) := dk_44 (dk_at dksJ3_init_4_2 0 rfl rfl)
theorem dJ3_init_4_48 : decode cJ3_init_4 48 = .ok (.putfield 7, 3) := dk_181 0 7 (dk_at dksJ3_init_4_2 1 rfl rfl)
theorem dJ3_init_4_51 : decode cJ3_init_4 51 = .ok (.iload_n 3, 1) := dk_29 (dk_at dksJ3_init_4_2 4 rfl rfl)
theorem dJ3_init_4_52 : decode cJ3_init_4 52 = .ok (.ifCond .ne 8, 3) := dk_154 0 8 (dk_at dksJ3_init_4_2 5 rfl rfl)
theorem dJ3_init_4_55 : decode cJ3_init_4 55 = .ok (.aload_n 0, 1) := dk_42 (dk_at dksJ3_init_4_2 8 rfl rfl)
theorem dJ3_init_4_56 : decode cJ3_init_4 56 = .ok (.aconst_null, 1) := dk_1 (dk_at dksJ3_init_4_2 9 rfl rfl)
theorem dJ3_init_4_57 : decode cJ3_init_4 57 = .ok (.putfield 24, 3) := dk_181 0 24 (dk_at dksJ3_init_4_2 10 rfl rfl)
theorem dJ3_init_4_60 : decode cJ3_init_4 60 = .ok (.return_, 1) := dk_177 (dk_at dksJ3_init_4_2 13 rfl rfl)
theorem q107 : (Jvm.Cond.initialized "java/lang/Throwable") ∈ lw_all := lw_g (lw_at lw_m1 6 rfl) rfl
theorem q213 : (Jvm.Cond.declares ({ cls := "java/lang/Throwable", name := "<init>", desc := "()V" } : Jvm.MethodName)) ∈ lw_tbl := lw_at lw_m1 112 rfl
theorem q214 : (Jvm.Cond.declares ({ cls := "java/lang/Throwable", name := "<init>", desc := "(Ljava/lang/String;)V" } : Jvm.MethodName)) ∈ lw_tbl := lw_at lw_m1 113 rfl
theorem q218 : (Jvm.Cond.lays "java/lang/Throwable" "java/lang/Throwable" "cause" "Ljava/lang/Throwable;") ∈ lw_all := lw_g (lw_at lw_m1 117 rfl) rfl
theorem q220 : (Jvm.Cond.lays "java/lang/Throwable" "java/lang/Throwable" "stackTrace" "[Ljava/lang/StackTraceElement;") ∈ lw_all := lw_g (lw_at lw_m1 119 rfl) rfl
theorem q222 : (Jvm.Cond.lays "java/lang/Throwable" "java/lang/Throwable" "suppressedExceptions" "Ljava/util/List;") ∈ lw_all := lw_g (lw_at lw_m1 121 rfl) rfl
theorem q224 : (Jvm.Cond.lays "java/lang/Throwable" "java/lang/Throwable" "detailMessage" "Ljava/lang/String;") ∈ lw_all := lw_g (lw_at lw_m1 123 rfl) rfl
theorem q226 : (Jvm.Cond.lays "java/lang/Throwable" "java/lang/Throwable" "backtrace" "Ljava/lang/Object;") ∈ lw_all := lw_g (lw_at lw_m1 125 rfl) rfl
theorem q227 : (Jvm.Cond.fieldLink "java/lang/Throwable" (198 : Nat) "java/lang/Throwable" "backtrace" "Ljava/lang/Object;") ∈ lw_all := lw_g (lw_at lw_m1 126 rfl) rfl
theorem q228 : (Jvm.Cond.superclass "java/lang/Throwable" "java/lang/Object") ∈ lw_all := lw_g (lw_at lw_m1 127 rfl) rfl
theorem q229 : (Jvm.Cond.instanceMethod ({ cls := "java/lang/Throwable", name := "<init>", desc := "()V" } : Jvm.MethodName)) ∈ lw_all := lw_g (lw_at lw_m1 128 rfl) rfl
theorem q230 : (Jvm.Cond.code ({ cls := "java/lang/Throwable", name := "<init>", desc := "()V" } : Jvm.MethodName) prog_52_method_1_code (1 : Nat) (Option.none : Option Jvm.ClassFile.FieldType)) ∈ lw_all := lw_g (lw_at lw_m1 129 rfl) rfl
theorem q231 : (Jvm.Cond.methodLink "java/lang/Throwable" (1 : Nat) ({ cls := "java/lang/Object", name := "<init>", desc := "()V" } : Jvm.MethodName)) ∈ lw_all := lw_g (lw_at lw_m1 130 rfl) rfl
theorem q232 : (Jvm.Cond.fieldLink "java/lang/Throwable" (13 : Nat) "java/lang/Throwable" "UNASSIGNED_STACK" "[Ljava/lang/StackTraceElement;") ∈ lw_all := lw_g (lw_at lw_m1 131 rfl) rfl
theorem q233 : (Jvm.Cond.laysStatic "java/lang/Throwable" "UNASSIGNED_STACK" "[Ljava/lang/StackTraceElement;") ∈ lw_tbl := lw_at lw_m1 132 rfl
theorem q234 : (Jvm.Cond.fieldLink "java/lang/Throwable" (20 : Nat) "java/lang/Throwable" "SUPPRESSED_SENTINEL" "Ljava/util/List;") ∈ lw_all := lw_g (lw_at lw_m1 133 rfl) rfl
theorem q235 : (Jvm.Cond.laysStatic "java/lang/Throwable" "SUPPRESSED_SENTINEL" "Ljava/util/List;") ∈ lw_tbl := lw_at lw_m1 134 rfl
theorem q236 : (Jvm.Cond.methodLink "java/lang/Throwable" (27 : Nat) ({ cls := "java/lang/Throwable", name := "fillInStackTrace", desc := "()Ljava/lang/Throwable;" } : Jvm.MethodName)) ∈ lw_all := lw_g (lw_at lw_m1 135 rfl) rfl
theorem q237 : (Jvm.Cond.instanceMethod ({ cls := "java/lang/Throwable", name := "fillInStackTrace", desc := "()Ljava/lang/Throwable;" } : Jvm.MethodName)) ∈ lw_all := lw_g (lw_at lw_m1 136 rfl) rfl
theorem q238 : (Jvm.Cond.sameMethod "java/lang/Throwable" "java/lang/Throwable" "fillInStackTrace" "()Ljava/lang/Throwable;") ∈ lw_all := lw_g (lw_at lw_m1 137 rfl) rfl
theorem q244 : (Jvm.Cond.codeSync ({ cls := "java/lang/Throwable", name := "fillInStackTrace", desc := "()Ljava/lang/Throwable;" } : Jvm.MethodName) prog_52_method_18_code (1 : Nat) (Option.some (Jvm.ClassFile.FieldType.object "java/lang/Throwable"))) ∈ lw_all := lw_g (lw_at lw_m1 143 rfl) rfl
theorem q245 : (Jvm.Cond.methodLink "java/lang/Throwable" (202 : Nat) ({ cls := "java/lang/Throwable", name := "fillInStackTrace", desc := "(I)Ljava/lang/Throwable;" } : Jvm.MethodName)) ∈ lw_all := lw_g (lw_at lw_m1 144 rfl) rfl
theorem q246 : (Jvm.Cond.privateMethod ({ cls := "java/lang/Throwable", name := "fillInStackTrace", desc := "(I)Ljava/lang/Throwable;" } : Jvm.MethodName)) ∈ lw_tbl := lw_at lw_m1 145 rfl
theorem q247 : (Jvm.Cond.instanceMethod ({ cls := "java/lang/Throwable", name := "fillInStackTrace", desc := "(I)Ljava/lang/Throwable;" } : Jvm.MethodName)) ∈ lw_all := lw_g (lw_at lw_m1 146 rfl) rfl
theorem q248 : (Jvm.Cond.instantiable "java/lang/Throwable" (6 : Nat)) ∈ lw_all := lw_g (lw_at lw_m1 147 rfl) rfl
theorem q249 : (Jvm.Cond.native ({ cls := "java/lang/Throwable", name := "fillInStackTrace", desc := "(I)Ljava/lang/Throwable;" } : Jvm.MethodName)) ∈ lw_all := lw_g (lw_at lw_m1 148 rfl) rfl
theorem q482 : (Jvm.Cond.instanceMethod ({ cls := "java/lang/Throwable", name := "<init>", desc := "(Ljava/lang/String;)V" } : Jvm.MethodName)) ∈ lw_all := lw_g (lw_at lw_m2 141 rfl) rfl
theorem q483 : (Jvm.Cond.code ({ cls := "java/lang/Throwable", name := "<init>", desc := "(Ljava/lang/String;)V" } : Jvm.MethodName) prog_52_method_2_code (2 : Nat) (Option.none : Option Jvm.ClassFile.FieldType)) ∈ lw_all := lw_g (lw_at lw_m2 142 rfl) rfl
theorem q484 : (Jvm.Cond.fieldLink "java/lang/Throwable" (198 : Nat) "java/lang/Throwable" "backtrace" "Ljava/lang/Object;") ∈ lw_all := lw_g (lw_at lw_m2 143 rfl) rfl
theorem q485 : (Jvm.Cond.fieldLink "java/lang/Throwable" (31 : Nat) "java/lang/Throwable" "detailMessage" "Ljava/lang/String;") ∈ lw_all := lw_g (lw_at lw_m2 144 rfl) rfl
theorem q486 : (Jvm.Cond.fieldLink "java/lang/Throwable" (7 : Nat) "java/lang/Throwable" "cause" "Ljava/lang/Throwable;") ∈ lw_all := lw_g (lw_at lw_m2 145 rfl) rfl
theorem q487 : (Jvm.Cond.fieldLink "java/lang/Throwable" (17 : Nat) "java/lang/Throwable" "stackTrace" "[Ljava/lang/StackTraceElement;") ∈ lw_all := lw_g (lw_at lw_m2 146 rfl) rfl
theorem q488 : (Jvm.Cond.fieldLink "java/lang/Throwable" (24 : Nat) "java/lang/Throwable" "suppressedExceptions" "Ljava/util/List;") ∈ lw_all := lw_g (lw_at lw_m2 147 rfl) rfl
theorem q489 : (Jvm.Cond.soleField "java/lang/Throwable" "backtrace") ∈ lw_all := lw_g (lw_at lw_m2 148 rfl) rfl
theorem q490 : (Jvm.Cond.soleField "java/lang/Throwable" "detailMessage") ∈ lw_all := lw_g (lw_at lw_m2 149 rfl) rfl
theorem q491 : (Jvm.Cond.soleField "java/lang/Throwable" "cause") ∈ lw_all := lw_g (lw_at lw_m2 150 rfl) rfl
theorem q492 : (Jvm.Cond.soleField "java/lang/Throwable" "stackTrace") ∈ lw_all := lw_g (lw_at lw_m2 151 rfl) rfl
theorem q494 : (Jvm.Cond.soleField "java/lang/Throwable" "depth") ∈ lw_all := lw_g (lw_at lw_m2 153 rfl) rfl
theorem q495 : (Jvm.Cond.soleField "java/lang/Throwable" "suppressedExceptions") ∈ lw_all := lw_g (lw_at lw_m2 154 rfl) rfl
theorem q1673 : (Jvm.Cond.instanceMethod ({ cls := "java/lang/Throwable", name := "toString", desc := "()Ljava/lang/String;" } : Jvm.MethodName)) ∈ lw_all := lw_g (lw_at lw_m7 132 rfl) rfl
theorem q1674 : (Jvm.Cond.code ({ cls := "java/lang/Throwable", name := "toString", desc := "()Ljava/lang/String;" } : Jvm.MethodName) prog_52_method_11_code (3 : Nat) (Option.some (Jvm.ClassFile.FieldType.object "java/lang/String"))) ∈ lw_all := lw_g (lw_at lw_m7 133 rfl) rfl
theorem q1675 : (Jvm.Cond.methodLink "java/lang/Throwable" (69 : Nat) ({ cls := "java/lang/Object", name := "getClass", desc := "()Ljava/lang/Class;" } : Jvm.MethodName)) ∈ lw_all := lw_g (lw_at lw_m7 134 rfl) rfl
theorem q1723 : (Jvm.Cond.methodLink "java/lang/Throwable" (78 : Nat) ({ cls := "java/lang/Throwable", name := "getLocalizedMessage", desc := "()Ljava/lang/String;" } : Jvm.MethodName)) ∈ lw_all := lw_g (lw_at lw_m7 182 rfl) rfl
theorem q1724 : (Jvm.Cond.instanceMethod ({ cls := "java/lang/Throwable", name := "getLocalizedMessage", desc := "()Ljava/lang/String;" } : Jvm.MethodName)) ∈ lw_all := lw_g (lw_at lw_m7 183 rfl) rfl
theorem q1725 : (Jvm.Cond.sameMethod "java/lang/Throwable" "java/lang/Throwable" "getLocalizedMessage" "()Ljava/lang/String;") ∈ lw_all := lw_g (lw_at lw_m7 184 rfl) rfl
theorem q1732 : (Jvm.Cond.code ({ cls := "java/lang/Throwable", name := "getLocalizedMessage", desc := "()Ljava/lang/String;" } : Jvm.MethodName) prog_52_method_7_code (1 : Nat) (Option.some (Jvm.ClassFile.FieldType.object "java/lang/String"))) ∈ lw_all := lw_g (lw_at lw_m7 191 rfl) rfl
theorem q1733 : (Jvm.Cond.methodLink "java/lang/Throwable" (39 : Nat) ({ cls := "java/lang/Throwable", name := "getMessage", desc := "()Ljava/lang/String;" } : Jvm.MethodName)) ∈ lw_all := lw_g (lw_at lw_m7 192 rfl) rfl
theorem q1734 : (Jvm.Cond.instanceMethod ({ cls := "java/lang/Throwable", name := "getMessage", desc := "()Ljava/lang/String;" } : Jvm.MethodName)) ∈ lw_all := lw_g (lw_at lw_m7 193 rfl) rfl
theorem q1735 : (Jvm.Cond.sameMethod "java/lang/Throwable" "java/lang/Throwable" "getMessage" "()Ljava/lang/String;") ∈ lw_all := lw_g (lw_at lw_m7 194 rfl) rfl
theorem q1742 : (Jvm.Cond.code ({ cls := "java/lang/Throwable", name := "getMessage", desc := "()Ljava/lang/String;" } : Jvm.MethodName) prog_52_method_6_code (1 : Nat) (Option.some (Jvm.ClassFile.FieldType.object "java/lang/String"))) ∈ lw_all := lw_g (lw_at lw_m7 201 rfl) rfl
theorem q1743 : (Jvm.Cond.classLink "java/lang/Throwable" (44 : Nat) "java/lang/StringBuilder") ∈ lw_all := lw_g (lw_at lw_m7 202 rfl) rfl
theorem q1744 : (Jvm.Cond.methodLink "java/lang/Throwable" (46 : Nat) ({ cls := "java/lang/StringBuilder", name := "<init>", desc := "()V" } : Jvm.MethodName)) ∈ lw_all := lw_g (lw_at lw_m7 203 rfl) rfl
theorem q1745 : (Jvm.Cond.methodLink "java/lang/Throwable" (49 : Nat) ({ cls := "java/lang/StringBuilder", name := "append", desc := "(Ljava/lang/String;)Ljava/lang/StringBuilder;" } : Jvm.MethodName)) ∈ lw_all := lw_g (lw_at lw_m7 204 rfl) rfl
theorem q1746 : (Jvm.Cond.stringRef "java/lang/Throwable" (81 : Nat) ": ") ∈ lw_tbl := lw_at lw_m7 205 rfl
theorem q1747 : (Jvm.Cond.methodLink "java/lang/Throwable" (60 : Nat) ({ cls := "java/lang/StringBuilder", name := "toString", desc := "()Ljava/lang/String;" } : Jvm.MethodName)) ∈ lw_all := lw_g (lw_at lw_m7 206 rfl) rfl
theorem q1776 : (Jvm.Cond.declares ({ cls := "java/lang/Throwable", name := "initCause", desc := "(Ljava/lang/Throwable;)Ljava/lang/Throwable;" } : Jvm.MethodName)) ∈ lw_tbl := lw_at lw_m7 235 rfl
theorem q1778 : (Jvm.Cond.instanceMethod ({ cls := "java/lang/Throwable", name := "initCause", desc := "(Ljava/lang/Throwable;)Ljava/lang/Throwable;" } : Jvm.MethodName)) ∈ lw_all := lw_g (lw_at lw_m7 237 rfl) rfl
theorem q1779 : (Jvm.Cond.codeSync ({ cls := "java/lang/Throwable", name := "initCause", desc := "(Ljava/lang/Throwable;)Ljava/lang/Throwable;" } : Jvm.MethodName) prog_52_method_9_code (2 : Nat) (Option.some (Jvm.ClassFile.FieldType.object "java/lang/Throwable"))) ∈ lw_all := lw_g (lw_at lw_m7 238 rfl) rfl
theorem q1780 : (Jvm.Cond.classLink "java/lang/Throwable" (42 : Nat) "java/lang/IllegalStateException") ∈ lw_all := lw_g (lw_at lw_m7 239 rfl) rfl
theorem q1789 : (Jvm.Cond.stringRef "java/lang/Throwable" (47 : Nat) "Can't overwrite cause with ") ∈ lw_tbl := lw_at lw_m8 8 rfl
theorem q1790 : (Jvm.Cond.stringRef "java/lang/Throwable" (53 : Nat) "a null") ∈ lw_tbl := lw_at lw_m8 9 rfl
theorem q1791 : (Jvm.Cond.methodLink "java/lang/Throwable" (55 : Nat) ({ cls := "java/util/Objects", name := "toString", desc := "(Ljava/lang/Object;Ljava/lang/String;)Ljava/lang/String;" } : Jvm.MethodName)) ∈ lw_all := lw_g (lw_at lw_m8 10 rfl) rfl
theorem q1795 : (Jvm.Cond.methodLink "java/lang/Throwable" (61 : Nat) ({ cls := "java/lang/IllegalStateException", name := "<init>", desc := "(Ljava/lang/String;Ljava/lang/Throwable;)V" } : Jvm.MethodName)) ∈ lw_all := lw_g (lw_at lw_m8 14 rfl) rfl
theorem q1805 : (Jvm.Cond.instanceMethod ({ cls := "java/lang/Throwable", name := "<init>", desc := "(Ljava/lang/String;Ljava/lang/Throwable;)V" } : Jvm.MethodName)) ∈ lw_all := lw_g (lw_at lw_m8 24 rfl) rfl
theorem q1806 : (Jvm.Cond.code ({ cls := "java/lang/Throwable", name := "<init>", desc := "(Ljava/lang/String;Ljava/lang/Throwable;)V" } : Jvm.MethodName) prog_52_method_3_code (3 : Nat) (Option.none : Option Jvm.ClassFile.FieldType)) ∈ lw_all := lw_g (lw_at lw_m8 25 rfl) rfl
theorem q1809 : (Jvm.Cond.classLink "java/lang/Throwable" (64 : Nat) "java/lang/IllegalArgumentException") ∈ lw_all := lw_g (lw_at lw_m8 28 rfl) rfl
theorem q1810 : (Jvm.Cond.stringRef "java/lang/Throwable" (66 : Nat) "Self-causation not permitted") ∈ lw_tbl := lw_at lw_m8 29 rfl
theorem q1811 : (Jvm.Cond.methodLink "java/lang/Throwable" (68 : Nat) ({ cls := "java/lang/IllegalArgumentException", name := "<init>", desc := "(Ljava/lang/String;Ljava/lang/Throwable;)V" } : Jvm.MethodName)) ∈ lw_all := lw_g (lw_at lw_m8 30 rfl) rfl
theorem q2765 : (Jvm.Cond.instanceMethod ({ cls := "java/lang/Throwable", name := "<init>", desc := "(Ljava/lang/String;Ljava/lang/Throwable;ZZ)V" } : Jvm.MethodName)) ∈ lw_all := lw_g (lw_at lw_m12 24 rfl) rfl
theorem q2766 : (Jvm.Cond.code ({ cls := "java/lang/Throwable", name := "<init>", desc := "(Ljava/lang/String;Ljava/lang/Throwable;ZZ)V" } : Jvm.MethodName) prog_52_method_5_code (5 : Nat) (Option.none : Option Jvm.ClassFile.FieldType)) ∈ lw_all := lw_g (lw_at lw_m12 25 rfl) rfl
theorem q3798 : (Jvm.Cond.sameMethod "java/lang/Throwable" "java/lang/Throwable" "fillInStackTrace" "(I)Ljava/lang/Throwable;") ∈ lw_all := lw_g (lw_at lw_m16 97 rfl) rfl
theorem q3889 : (Jvm.Cond.castable "java/lang/Throwable" "java/lang/Object") ∈ lw_tbl := lw_at lw_m16 188 rfl
theorem in_J3 : ∀ w ∈ wsJ30, w ∈ lw_all := lw_in wsJ30 [218, 220, 222, 224, 226] (by decide +kernel) (by decide +kernel)

-- J4.java_lang_Exception.lean.txt
/-! java/lang/Exception -/
set_option maxRecDepth 100000
def RJ4 : String := "java/lang/Exception"
abbrev cJ4_init : ByteArray := prog_32_method_2_code
def yJ4_init : MethodName := ⟨RJ4, "<init>", "(Ljava/lang/String;)V"⟩
def dkwJ4_init_0 : List UInt8 := [42, 43, 183, 0, 7, 177]
abbrev dktJ4_init_0 : List UInt8 := dkwJ4_init_0 ++ []
theorem dksJ4_init_0 : cJ4_init.data.toList.drop 0 = dktJ4_init_0 := by decide +kernel
theorem dJ4_init_0 : decode cJ4_init 0 = .ok (.aload_n 0, 1) := dk_42 (dk_at dksJ4_init_0 0 rfl rfl)
theorem dJ4_init_1 : decode cJ4_init 1 = .ok (.aload_n 1, 1) := dk_43 (dk_at dksJ4_init_0 1 rfl rfl)
theorem dJ4_init_2 : decode cJ4_init 2 = .ok (.invokespecial 7, 3) := dk_183 0 7 (dk_at dksJ4_init_0 2 rfl rfl)
theorem dJ4_init_5 : decode cJ4_init 5 = .ok (.return_, 1) := dk_177 (dk_at dksJ4_init_0 5 rfl rfl)
abbrev cJ4_init_2 : ByteArray := prog_32_method_3_code
def yJ4_init_2 : MethodName := ⟨RJ4, "<init>", "(Ljava/lang/String;Ljava/lang/Throwable;)V"⟩
def dkwJ4_init_2_0 : List UInt8 := [42, 43, 44, 183, 0, 10, 177]
abbrev dktJ4_init_2_0 : List UInt8 := dkwJ4_init_2_0 ++ []
theorem dksJ4_init_2_0 : cJ4_init_2.data.toList.drop 0 = dktJ4_init_2_0 := by decide +kernel
theorem dJ4_init_2_0 : decode cJ4_init_2 0 = .ok (.aload_n 0, 1) := dk_42 (dk_at dksJ4_init_2_0 0 rfl rfl)
theorem dJ4_init_2_1 : decode cJ4_init_2 1 = .ok (.aload_n 1, 1) := dk_43 (dk_at dksJ4_init_2_0 1 rfl rfl)
theorem dJ4_init_2_2 : decode cJ4_init_2 2 = .ok (.aload_n 2, 1) := dk_44 (dk_at dksJ4_init_2_0 2 rfl rfl)
theorem dJ4_init_2_3 : decode cJ4_init_2 3 = .ok (.invokespecial 10, 3) := dk_183 0 10 (dk_at dksJ4_init_2_0 3 rfl rfl)
theorem dJ4_init_2_6 : decode cJ4_init_2 6 = .ok (.return_, 1) := dk_177 (dk_at dksJ4_init_2_0 6 rfl rfl)
abbrev cJ4_init_3 : ByteArray := prog_32_method_1_code
def yJ4_init_3 : MethodName := ⟨RJ4, "<init>", "()V"⟩
theorem dJ4_init_3_0 : decode cJ4_init_3 0 = .ok (.aload_n 0, 1) := by decide +kernel
theorem dJ4_init_3_1 : decode cJ4_init_3 1 = .ok (.invokespecial 1, 3) := by decide +kernel
theorem dJ4_init_3_4 : decode cJ4_init_3 4 = .ok (.return_, 1) := by decide +kernel
abbrev cJ4_init_4 : ByteArray := prog_32_method_5_code
def yJ4_init_4 : MethodName := ⟨RJ4, "<init>", "(Ljava/lang/String;Ljava/lang/Throwable;ZZ)V"⟩
def dkwJ4_init_4_0 : List UInt8 := [42, 43, 44, 29, 21, 4, 183, 0, 16, 177]
abbrev dktJ4_init_4_0 : List UInt8 := dkwJ4_init_4_0 ++ []
theorem dksJ4_init_4_0 : cJ4_init_4.data.toList.drop 0 = dktJ4_init_4_0 := by decide +kernel
theorem dJ4_init_4_0 : decode cJ4_init_4 0 = .ok (.aload_n 0, 1) := dk_42 (dk_at dksJ4_init_4_0 0 rfl rfl)
theorem dJ4_init_4_1 : decode cJ4_init_4 1 = .ok (.aload_n 1, 1) := dk_43 (dk_at dksJ4_init_4_0 1 rfl rfl)
theorem dJ4_init_4_2 : decode cJ4_init_4 2 = .ok (.aload_n 2, 1) := dk_44 (dk_at dksJ4_init_4_0 2 rfl rfl)
theorem dJ4_init_4_3 : decode cJ4_init_4 3 = .ok (.iload_n 3, 1) := dk_29 (dk_at dksJ4_init_4_0 3 rfl rfl)
theorem dJ4_init_4_4 : decode cJ4_init_4 4 = .ok (.iload 4, 2) := dk_21 4 (dk_at dksJ4_init_4_0 4 rfl rfl)
theorem dJ4_init_4_6 : decode cJ4_init_4 6 = .ok (.invokespecial 16, 3) := dk_183 0 16 (dk_at dksJ4_init_4_0 6 rfl rfl)
theorem dJ4_init_4_9 : decode cJ4_init_4 9 = .ok (.return_, 1) := dk_177 (dk_at dksJ4_init_4_0 9 rfl rfl)
theorem q108 : (Jvm.Cond.initialized "java/lang/Exception") ∈ lw_all := lw_g (lw_at lw_m1 7 rfl) rfl
theorem q211 : (Jvm.Cond.declares ({ cls := "java/lang/Exception", name := "<init>", desc := "()V" } : Jvm.MethodName)) ∈ lw_tbl := lw_at lw_m1 110 rfl
theorem q212 : (Jvm.Cond.declares ({ cls := "java/lang/Exception", name := "<init>", desc := "(Ljava/lang/String;)V" } : Jvm.MethodName)) ∈ lw_tbl := lw_at lw_m1 111 rfl
theorem q479 : (Jvm.Cond.instanceMethod ({ cls := "java/lang/Exception", name := "<init>", desc := "(Ljava/lang/String;)V" } : Jvm.MethodName)) ∈ lw_all := lw_g (lw_at lw_m2 138 rfl) rfl
theorem q480 : (Jvm.Cond.code ({ cls := "java/lang/Exception", name := "<init>", desc := "(Ljava/lang/String;)V" } : Jvm.MethodName) prog_32_method_2_code (2 : Nat) (Option.none : Option Jvm.ClassFile.FieldType)) ∈ lw_all := lw_g (lw_at lw_m2 139 rfl) rfl
theorem q481 : (Jvm.Cond.methodLink "java/lang/Exception" (7 : Nat) ({ cls := "java/lang/Throwable", name := "<init>", desc := "(Ljava/lang/String;)V" } : Jvm.MethodName)) ∈ lw_all := lw_g (lw_at lw_m2 140 rfl) rfl
theorem q1802 : (Jvm.Cond.instanceMethod ({ cls := "java/lang/Exception", name := "<init>", desc := "(Ljava/lang/String;Ljava/lang/Throwable;)V" } : Jvm.MethodName)) ∈ lw_all := lw_g (lw_at lw_m8 21 rfl) rfl
theorem q1803 : (Jvm.Cond.code ({ cls := "java/lang/Exception", name := "<init>", desc := "(Ljava/lang/String;Ljava/lang/Throwable;)V" } : Jvm.MethodName) prog_32_method_3_code (3 : Nat) (Option.none : Option Jvm.ClassFile.FieldType)) ∈ lw_all := lw_g (lw_at lw_m8 22 rfl) rfl
theorem q1804 : (Jvm.Cond.methodLink "java/lang/Exception" (10 : Nat) ({ cls := "java/lang/Throwable", name := "<init>", desc := "(Ljava/lang/String;Ljava/lang/Throwable;)V" } : Jvm.MethodName)) ∈ lw_all := lw_g (lw_at lw_m8 23 rfl) rfl
theorem q2690 : (Jvm.Cond.instanceMethod ({ cls := "java/lang/Exception", name := "<init>", desc := "()V" } : Jvm.MethodName)) ∈ lw_all := lw_g (lw_at lw_m11 189 rfl) rfl
theorem q2691 : (Jvm.Cond.code ({ cls := "java/lang/Exception", name := "<init>", desc := "()V" } : Jvm.MethodName) prog_32_method_1_code (1 : Nat) (Option.none : Option Jvm.ClassFile.FieldType)) ∈ lw_all := lw_g (lw_at lw_m11 190 rfl) rfl
theorem q2692 : (Jvm.Cond.methodLink "java/lang/Exception" (1 : Nat) ({ cls := "java/lang/Throwable", name := "<init>", desc := "()V" } : Jvm.MethodName)) ∈ lw_all := lw_g (lw_at lw_m11 191 rfl) rfl
theorem q2762 : (Jvm.Cond.instanceMethod ({ cls := "java/lang/Exception", name := "<init>", desc := "(Ljava/lang/String;Ljava/lang/Throwable;ZZ)V" } : Jvm.MethodName)) ∈ lw_all := lw_g (lw_at lw_m12 21 rfl) rfl
theorem q2763 : (Jvm.Cond.code ({ cls := "java/lang/Exception", name := "<init>", desc := "(Ljava/lang/String;Ljava/lang/Throwable;ZZ)V" } : Jvm.MethodName) prog_32_method_5_code (5 : Nat) (Option.none : Option Jvm.ClassFile.FieldType)) ∈ lw_all := lw_g (lw_at lw_m12 22 rfl) rfl
theorem q2764 : (Jvm.Cond.methodLink "java/lang/Exception" (16 : Nat) ({ cls := "java/lang/Throwable", name := "<init>", desc := "(Ljava/lang/String;Ljava/lang/Throwable;ZZ)V" } : Jvm.MethodName)) ∈ lw_all := lw_g (lw_at lw_m12 23 rfl) rfl

-- J5.java_lang_RuntimeException.lean.txt
/-! java/lang/RuntimeException -/
set_option maxRecDepth 100000
def RJ5 : String := "java/lang/RuntimeException"
abbrev cJ5_init : ByteArray := prog_43_method_2_code
def yJ5_init : MethodName := ⟨RJ5, "<init>", "(Ljava/lang/String;)V"⟩
def dkwJ5_init_0 : List UInt8 := [42, 43, 183, 0, 7, 177]
abbrev dktJ5_init_0 : List UInt8 := dkwJ5_init_0 ++ []
theorem dksJ5_init_0 : cJ5_init.data.toList.drop 0 = dktJ5_init_0 := by decide +kernel
theorem dJ5_init_0 : decode cJ5_init 0 = .ok (.aload_n 0, 1) := dk_42 (dk_at dksJ5_init_0 0 rfl rfl)
theorem dJ5_init_1 : decode cJ5_init 1 = .ok (.aload_n 1, 1) := dk_43 (dk_at dksJ5_init_0 1 rfl rfl)
theorem dJ5_init_2 : decode cJ5_init 2 = .ok (.invokespecial 7, 3) := dk_183 0 7 (dk_at dksJ5_init_0 2 rfl rfl)
theorem dJ5_init_5 : decode cJ5_init 5 = .ok (.return_, 1) := dk_177 (dk_at dksJ5_init_0 5 rfl rfl)
abbrev cJ5_init_2 : ByteArray := prog_43_method_3_code
def yJ5_init_2 : MethodName := ⟨RJ5, "<init>", "(Ljava/lang/String;Ljava/lang/Throwable;)V"⟩
def dkwJ5_init_2_0 : List UInt8 := [42, 43, 44, 183, 0, 10, 177]
abbrev dktJ5_init_2_0 : List UInt8 := dkwJ5_init_2_0 ++ []
theorem dksJ5_init_2_0 : cJ5_init_2.data.toList.drop 0 = dktJ5_init_2_0 := by decide +kernel
theorem dJ5_init_2_0 : decode cJ5_init_2 0 = .ok (.aload_n 0, 1) := dk_42 (dk_at dksJ5_init_2_0 0 rfl rfl)
theorem dJ5_init_2_1 : decode cJ5_init_2 1 = .ok (.aload_n 1, 1) := dk_43 (dk_at dksJ5_init_2_0 1 rfl rfl)
theorem dJ5_init_2_2 : decode cJ5_init_2 2 = .ok (.aload_n 2, 1) := dk_44 (dk_at dksJ5_init_2_0 2 rfl rfl)
theorem dJ5_init_2_3 : decode cJ5_init_2 3 = .ok (.invokespecial 10, 3) := dk_183 0 10 (dk_at dksJ5_init_2_0 3 rfl rfl)
theorem dJ5_init_2_6 : decode cJ5_init_2 6 = .ok (.return_, 1) := dk_177 (dk_at dksJ5_init_2_0 6 rfl rfl)
abbrev cJ5_init_3 : ByteArray := prog_43_method_1_code
def yJ5_init_3 : MethodName := ⟨RJ5, "<init>", "()V"⟩
theorem dJ5_init_3_0 : decode cJ5_init_3 0 = .ok (.aload_n 0, 1) := by decide +kernel
theorem dJ5_init_3_1 : decode cJ5_init_3 1 = .ok (.invokespecial 1, 3) := by decide +kernel
theorem dJ5_init_3_4 : decode cJ5_init_3 4 = .ok (.return_, 1) := by decide +kernel
theorem q109 : (Jvm.Cond.initialized "java/lang/RuntimeException") ∈ lw_all := lw_g (lw_at lw_m1 8 rfl) rfl
theorem q209 : (Jvm.Cond.declares ({ cls := "java/lang/RuntimeException", name := "<init>", desc := "()V" } : Jvm.MethodName)) ∈ lw_tbl := lw_at lw_m1 108 rfl
theorem q210 : (Jvm.Cond.declares ({ cls := "java/lang/RuntimeException", name := "<init>", desc := "(Ljava/lang/String;)V" } : Jvm.MethodName)) ∈ lw_tbl := lw_at lw_m1 109 rfl
theorem q476 : (Jvm.Cond.instanceMethod ({ cls := "java/lang/RuntimeException", name := "<init>", desc := "(Ljava/lang/String;)V" } : Jvm.MethodName)) ∈ lw_all := lw_g (lw_at lw_m2 135 rfl) rfl
theorem q477 : (Jvm.Cond.code ({ cls := "java/lang/RuntimeException", name := "<init>", desc := "(Ljava/lang/String;)V" } : Jvm.MethodName) prog_43_method_2_code (2 : Nat) (Option.none : Option Jvm.ClassFile.FieldType)) ∈ lw_all := lw_g (lw_at lw_m2 136 rfl) rfl
theorem q478 : (Jvm.Cond.methodLink "java/lang/RuntimeException" (7 : Nat) ({ cls := "java/lang/Exception", name := "<init>", desc := "(Ljava/lang/String;)V" } : Jvm.MethodName)) ∈ lw_all := lw_g (lw_at lw_m2 137 rfl) rfl
theorem q1799 : (Jvm.Cond.instanceMethod ({ cls := "java/lang/RuntimeException", name := "<init>", desc := "(Ljava/lang/String;Ljava/lang/Throwable;)V" } : Jvm.MethodName)) ∈ lw_all := lw_g (lw_at lw_m8 18 rfl) rfl
theorem q1800 : (Jvm.Cond.code ({ cls := "java/lang/RuntimeException", name := "<init>", desc := "(Ljava/lang/String;Ljava/lang/Throwable;)V" } : Jvm.MethodName) prog_43_method_3_code (3 : Nat) (Option.none : Option Jvm.ClassFile.FieldType)) ∈ lw_all := lw_g (lw_at lw_m8 19 rfl) rfl
theorem q1801 : (Jvm.Cond.methodLink "java/lang/RuntimeException" (10 : Nat) ({ cls := "java/lang/Exception", name := "<init>", desc := "(Ljava/lang/String;Ljava/lang/Throwable;)V" } : Jvm.MethodName)) ∈ lw_all := lw_g (lw_at lw_m8 20 rfl) rfl
theorem q2687 : (Jvm.Cond.instanceMethod ({ cls := "java/lang/RuntimeException", name := "<init>", desc := "()V" } : Jvm.MethodName)) ∈ lw_all := lw_g (lw_at lw_m11 186 rfl) rfl
theorem q2688 : (Jvm.Cond.code ({ cls := "java/lang/RuntimeException", name := "<init>", desc := "()V" } : Jvm.MethodName) prog_43_method_1_code (1 : Nat) (Option.none : Option Jvm.ClassFile.FieldType)) ∈ lw_all := lw_g (lw_at lw_m11 187 rfl) rfl
theorem q2689 : (Jvm.Cond.methodLink "java/lang/RuntimeException" (1 : Nat) ({ cls := "java/lang/Exception", name := "<init>", desc := "()V" } : Jvm.MethodName)) ∈ lw_all := lw_g (lw_at lw_m11 188 rfl) rfl

-- J6.java_lang_IllegalArgumentException.lean.txt
/-! java/lang/IllegalArgumentException -/
set_option maxRecDepth 100000
def RJ6 : String := "java/lang/IllegalArgumentException"
def TJ6 : u_T := fun k => match k with
  | 0 => ("java/lang/Throwable", "cause", "Ljava/lang/Throwable;", false)
  | 1 => ("java/lang/Throwable", "stackTrace", "[Ljava/lang/StackTraceElement;", false)
  | 2 => ("java/lang/Throwable", "suppressedExceptions", "Ljava/util/List;", false)
  | 3 => ("java/lang/Throwable", "detailMessage", "Ljava/lang/String;", false)
  | 4 => ("java/lang/Throwable", "backtrace", "Ljava/lang/Object;", false)
  | _ => ("java/lang/Throwable", "depth", "I", false)
def tyJ6 : Nat → FieldType := fun k => match k with
  | 0 => .object "java/lang/Throwable"
  | 1 => .array (.object "java/lang/StackTraceElement")
  | 2 => .object "java/util/List"
  | 3 => .object "java/lang/String"
  | 4 => .object "java/lang/Object"
  | _ => .int
abbrev wsJ60 : List Cond := u_ws RJ6 TJ6 6
theorem nmJ6 : ∀ a, a < 6 → ∀ b, b < 6 → a ≠ b → (TJ6 a).2.1 ≠ (TJ6 b).2.1 := by decide +kernel
theorem tyJ6_ok : ∀ k, k < 6 → parseFieldDescriptor (TJ6 k).2.2.1 = some (tyJ6 k) := by decide +kernel
abbrev cJ6_init : ByteArray := prog_34_method_2_code
def yJ6_init : MethodName := ⟨RJ6, "<init>", "(Ljava/lang/String;)V"⟩
def dkwJ6_init_0 : List UInt8 := [42, 43, 183, 0, 7, 177]
abbrev dktJ6_init_0 : List UInt8 := dkwJ6_init_0 ++ []
theorem dksJ6_init_0 : cJ6_init.data.toList.drop 0 = dktJ6_init_0 := by decide +kernel
theorem dJ6_init_0 : decode cJ6_init 0 = .ok (.aload_n 0, 1) := dk_42 (dk_at dksJ6_init_0 0 rfl rfl)
theorem dJ6_init_1 : decode cJ6_init 1 = .ok (.aload_n 1, 1) := dk_43 (dk_at dksJ6_init_0 1 rfl rfl)
theorem dJ6_init_2 : decode cJ6_init 2 = .ok (.invokespecial 7, 3) := dk_183 0 7 (dk_at dksJ6_init_0 2 rfl rfl)
theorem dJ6_init_5 : decode cJ6_init 5 = .ok (.return_, 1) := dk_177 (dk_at dksJ6_init_0 5 rfl rfl)
abbrev cJ6_init_2 : ByteArray := prog_34_method_3_code
def yJ6_init_2 : MethodName := ⟨RJ6, "<init>", "(Ljava/lang/String;Ljava/lang/Throwable;)V"⟩
def dkwJ6_init_2_0 : List UInt8 := [42, 43, 44, 183, 0, 10, 177]
abbrev dktJ6_init_2_0 : List UInt8 := dkwJ6_init_2_0 ++ []
theorem dksJ6_init_2_0 : cJ6_init_2.data.toList.drop 0 = dktJ6_init_2_0 := by decide +kernel
theorem dJ6_init_2_0 : decode cJ6_init_2 0 = .ok (.aload_n 0, 1) := dk_42 (dk_at dksJ6_init_2_0 0 rfl rfl)
theorem dJ6_init_2_1 : decode cJ6_init_2 1 = .ok (.aload_n 1, 1) := dk_43 (dk_at dksJ6_init_2_0 1 rfl rfl)
theorem dJ6_init_2_2 : decode cJ6_init_2 2 = .ok (.aload_n 2, 1) := dk_44 (dk_at dksJ6_init_2_0 2 rfl rfl)
theorem dJ6_init_2_3 : decode cJ6_init_2 3 = .ok (.invokespecial 10, 3) := dk_183 0 10 (dk_at dksJ6_init_2_0 3 rfl rfl)
theorem dJ6_init_2_6 : decode cJ6_init_2 6 = .ok (.return_, 1) := dk_177 (dk_at dksJ6_init_2_0 6 rfl rfl)
abbrev cJ6_init_3 : ByteArray := prog_34_method_1_code
def yJ6_init_3 : MethodName := ⟨RJ6, "<init>", "()V"⟩
theorem dJ6_init_3_0 : decode cJ6_init_3 0 = .ok (.aload_n 0, 1) := by decide +kernel
theorem dJ6_init_3_1 : decode cJ6_init_3 1 = .ok (.invokespecial 1, 3) := by decide +kernel
theorem dJ6_init_3_4 : decode cJ6_init_3 4 = .ok (.return_, 1) := by decide +kernel
theorem q110 : (Jvm.Cond.initialized "java/lang/IllegalArgumentException") ∈ lw_all := lw_g (lw_at lw_m1 9 rfl) rfl
theorem q207 : (Jvm.Cond.instantiable "java/lang/IllegalArgumentException" (6 : Nat)) ∈ lw_all := lw_g (lw_at lw_m1 106 rfl) rfl
theorem q208 : (Jvm.Cond.castable "java/lang/IllegalArgumentException" "java/lang/IllegalArgumentException") ∈ lw_tbl := lw_at lw_m1 107 rfl
theorem q215 : (Jvm.Cond.selects "java/lang/IllegalArgumentException" ({ cls := "java/lang/Throwable", name := "fillInStackTrace", desc := "(I)Ljava/lang/Throwable;" } : Jvm.MethodName) ({ cls := "java/lang/Throwable", name := "fillInStackTrace", desc := "(I)Ljava/lang/Throwable;" } : Jvm.MethodName)) ∈ lw_all := lw_g (lw_at lw_m1 114 rfl) rfl
theorem q216 : (Jvm.Cond.selects "java/lang/IllegalArgumentException" ({ cls := "java/lang/Throwable", name := "fillInStackTrace", desc := "()Ljava/lang/Throwable;" } : Jvm.MethodName) ({ cls := "java/lang/Throwable", name := "fillInStackTrace", desc := "()Ljava/lang/Throwable;" } : Jvm.MethodName)) ∈ lw_all := lw_g (lw_at lw_m1 115 rfl) rfl
theorem q217 : (Jvm.Cond.lays "java/lang/IllegalArgumentException" "java/lang/Throwable" "cause" "Ljava/lang/Throwable;") ∈ lw_all := lw_g (lw_at lw_m1 116 rfl) rfl
theorem q219 : (Jvm.Cond.lays "java/lang/IllegalArgumentException" "java/lang/Throwable" "stackTrace" "[Ljava/lang/StackTraceElement;") ∈ lw_all := lw_g (lw_at lw_m1 118 rfl) rfl
theorem q221 : (Jvm.Cond.lays "java/lang/IllegalArgumentException" "java/lang/Throwable" "suppressedExceptions" "Ljava/util/List;") ∈ lw_all := lw_g (lw_at lw_m1 120 rfl) rfl
theorem q223 : (Jvm.Cond.lays "java/lang/IllegalArgumentException" "java/lang/Throwable" "detailMessage" "Ljava/lang/String;") ∈ lw_all := lw_g (lw_at lw_m1 122 rfl) rfl
theorem q225 : (Jvm.Cond.lays "java/lang/IllegalArgumentException" "java/lang/Throwable" "backtrace" "Ljava/lang/Object;") ∈ lw_all := lw_g (lw_at lw_m1 124 rfl) rfl
theorem q473 : (Jvm.Cond.instanceMethod ({ cls := "java/lang/IllegalArgumentException", name := "<init>", desc := "(Ljava/lang/String;)V" } : Jvm.MethodName)) ∈ lw_all := lw_g (lw_at lw_m2 132 rfl) rfl
theorem q474 : (Jvm.Cond.code ({ cls := "java/lang/IllegalArgumentException", name := "<init>", desc := "(Ljava/lang/String;)V" } : Jvm.MethodName) prog_34_method_2_code (2 : Nat) (Option.none : Option Jvm.ClassFile.FieldType)) ∈ lw_all := lw_g (lw_at lw_m2 133 rfl) rfl
theorem q475 : (Jvm.Cond.methodLink "java/lang/IllegalArgumentException" (7 : Nat) ({ cls := "java/lang/RuntimeException", name := "<init>", desc := "(Ljava/lang/String;)V" } : Jvm.MethodName)) ∈ lw_all := lw_g (lw_at lw_m2 134 rfl) rfl
theorem q493 : (Jvm.Cond.lays "java/lang/IllegalArgumentException" "java/lang/Throwable" "depth" "I") ∈ lw_all := lw_g (lw_at lw_m2 152 rfl) rfl
theorem q496 : (Jvm.Cond.superclass "java/lang/IllegalArgumentException" "java/lang/RuntimeException") ∈ lw_all := lw_g (lw_at lw_m2 155 rfl) rfl
theorem q1697 : (Jvm.Cond.selects "java/lang/IllegalArgumentException" ({ cls := "java/lang/Object", name := "getClass", desc := "()Ljava/lang/Class;" } : Jvm.MethodName) ({ cls := "java/lang/Object", name := "getClass", desc := "()Ljava/lang/Class;" } : Jvm.MethodName)) ∈ lw_all := lw_g (lw_at lw_m7 156 rfl) rfl
theorem q1729 : (Jvm.Cond.selects "java/lang/IllegalArgumentException" ({ cls := "java/lang/Throwable", name := "getLocalizedMessage", desc := "()Ljava/lang/String;" } : Jvm.MethodName) ({ cls := "java/lang/Throwable", name := "getLocalizedMessage", desc := "()Ljava/lang/String;" } : Jvm.MethodName)) ∈ lw_all := lw_g (lw_at lw_m7 188 rfl) rfl
theorem q1739 : (Jvm.Cond.selects "java/lang/IllegalArgumentException" ({ cls := "java/lang/Throwable", name := "getMessage", desc := "()Ljava/lang/String;" } : Jvm.MethodName) ({ cls := "java/lang/Throwable", name := "getMessage", desc := "()Ljava/lang/String;" } : Jvm.MethodName)) ∈ lw_all := lw_g (lw_at lw_m7 198 rfl) rfl
theorem q1753 : (Jvm.Cond.selects "java/lang/IllegalArgumentException" ({ cls := "java/lang/Object", name := "toString", desc := "()Ljava/lang/String;" } : Jvm.MethodName) ({ cls := "java/lang/Throwable", name := "toString", desc := "()Ljava/lang/String;" } : Jvm.MethodName)) ∈ lw_all := lw_g (lw_at lw_m7 212 rfl) rfl
theorem q1812 : (Jvm.Cond.instanceMethod ({ cls := "java/lang/IllegalArgumentException", name := "<init>", desc := "(Ljava/lang/String;Ljava/lang/Throwable;)V" } : Jvm.MethodName)) ∈ lw_all := lw_g (lw_at lw_m8 31 rfl) rfl
theorem q1813 : (Jvm.Cond.code ({ cls := "java/lang/IllegalArgumentException", name := "<init>", desc := "(Ljava/lang/String;Ljava/lang/Throwable;)V" } : Jvm.MethodName) prog_34_method_3_code (3 : Nat) (Option.none : Option Jvm.ClassFile.FieldType)) ∈ lw_all := lw_g (lw_at lw_m8 32 rfl) rfl
theorem q1814 : (Jvm.Cond.methodLink "java/lang/IllegalArgumentException" (10 : Nat) ({ cls := "java/lang/RuntimeException", name := "<init>", desc := "(Ljava/lang/String;Ljava/lang/Throwable;)V" } : Jvm.MethodName)) ∈ lw_all := lw_g (lw_at lw_m8 33 rfl) rfl
theorem q1908 : (Jvm.Cond.selects "java/lang/IllegalArgumentException" ({ cls := "java/lang/Object", name := "hashCode", desc := "()I" } : Jvm.MethodName) ({ cls := "java/lang/Object", name := "hashCode", desc := "()I" } : Jvm.MethodName)) ∈ lw_all := lw_g (lw_at lw_m8 127 rfl) rfl
theorem q2342 : (Jvm.Cond.selects "java/lang/IllegalArgumentException" ({ cls := "java/lang/Object", name := "equals", desc := "(Ljava/lang/Object;)Z" } : Jvm.MethodName) ({ cls := "java/lang/Object", name := "equals", desc := "(Ljava/lang/Object;)Z" } : Jvm.MethodName)) ∈ lw_all := lw_g (lw_at lw_m10 81 rfl) rfl
theorem q2684 : (Jvm.Cond.instanceMethod ({ cls := "java/lang/IllegalArgumentException", name := "<init>", desc := "()V" } : Jvm.MethodName)) ∈ lw_all := lw_g (lw_at lw_m11 183 rfl) rfl
theorem q2685 : (Jvm.Cond.code ({ cls := "java/lang/IllegalArgumentException", name := "<init>", desc := "()V" } : Jvm.MethodName) prog_34_method_1_code (1 : Nat) (Option.none : Option Jvm.ClassFile.FieldType)) ∈ lw_all := lw_g (lw_at lw_m11 184 rfl) rfl
theorem q2686 : (Jvm.Cond.methodLink "java/lang/IllegalArgumentException" (1 : Nat) ({ cls := "java/lang/RuntimeException", name := "<init>", desc := "()V" } : Jvm.MethodName)) ∈ lw_all := lw_g (lw_at lw_m11 185 rfl) rfl
theorem q3840 : (Jvm.Cond.castable "java/lang/IllegalArgumentException" "java/lang/Throwable") ∈ lw_tbl := lw_at lw_m16 139 rfl
theorem q3850 : (Jvm.Cond.castable "java/lang/IllegalArgumentException" "java/lang/Object") ∈ lw_tbl := lw_at lw_m16 149 rfl
theorem in_J6 : ∀ w ∈ wsJ60, w ∈ lw_all := lw_in wsJ60 [217, 219, 221, 223, 225, 493] (by decide +kernel) (by decide +kernel)

-- J9.java_lang_String.lean.txt
/-! java/lang/String -/
set_option maxRecDepth 100000
def RJ9 : String := "java/lang/String"
def TJ9 : u_T := fun k => match k with
  | 0 => ("java/lang/String", "value", "[B", true)
  | 1 => ("java/lang/String", "coder", "B", true)
  | 2 => ("java/lang/String", "hash", "I", false)
  | _ => ("java/lang/String", "hashIsZero", "Z", false)
def tyJ9 : Nat → FieldType := fun k => match k with
  | 0 => .array .byte
  | 1 => .byte
  | 2 => .int
  | _ => .boolean
abbrev wsJ90 : List Cond := u_ws RJ9 TJ9 4
theorem nmJ9 : ∀ a, a < 4 → ∀ b, b < 4 → a ≠ b → (TJ9 a).2.1 ≠ (TJ9 b).2.1 := by decide +kernel
theorem tyJ9_ok : ∀ k, k < 4 → parseFieldDescriptor (TJ9 k).2.2.1 = some (tyJ9 k) := by decide +kernel
abbrev cJ9_checkBoundsBeginEnd : ByteArray := prog_45_method_158_code
def yJ9_checkBoundsBeginEnd : MethodName := ⟨RJ9, "checkBoundsBeginEnd", "(III)V"⟩
def dkwJ9_checkBoundsBeginEnd_0 : List UInt8 := [26, 27, 28, 178, 4, 29, 184, 4, 38, 87, 177]
abbrev dktJ9_checkBoundsBeginEnd_0 : List UInt8 := dkwJ9_checkBoundsBeginEnd_0 ++ []
theorem dksJ9_checkBoundsBeginEnd_0 : cJ9_checkBoundsBeginEnd.data.toList.drop 0 = dktJ9_checkBoundsBeginEnd_0 := by decide +kernel
theorem dJ9_checkBoundsBeginEnd_0 : decode cJ9_checkBoundsBeginEnd 0 = .ok (.iload_n 0, 1) := dk_26 (dk_at dksJ9_checkBoundsBeginEnd_0 0 rfl rfl)
theorem dJ9_checkBoundsBeginEnd_1 : decode cJ9_checkBoundsBeginEnd 1 = .ok (.iload_n 1, 1) := dk_27 (dk_at dksJ9_checkBoundsBeginEnd_0 1 rfl rfl)
theorem dJ9_checkBoundsBeginEnd_2 : decode cJ9_checkBoundsBeginEnd 2 = .ok (.iload_n 2, 1) := dk_28 (dk_at dksJ9_checkBoundsBeginEnd_0 2 rfl rfl)
theorem dJ9_checkBoundsBeginEnd_3 : decode cJ9_checkBoundsBeginEnd 3 = .ok (.getstatic 1053, 3) := dk_178 4 29 (dk_at dksJ9_checkBoundsBeginEnd_0 3 rfl rfl)
theorem dJ9_checkBoundsBeginEnd_6 : decode cJ9_checkBoundsBeginEnd 6 = .ok (.invokestatic 1062, 3) := dk_184 4 38 (dk_at dksJ9_checkBoundsBeginEnd_0 6 rfl rfl)
theorem dJ9_checkBoundsBeginEnd_9 : decode cJ9_checkBoundsBeginEnd 9 = .ok (.pop, 1) := dk_87 (dk_at dksJ9_checkBoundsBeginEnd_0 9 rfl rfl)
theorem dJ9_checkBoundsBeginEnd_10 : decode cJ9_checkBoundsBeginEnd 10 = .ok (.return_, 1) := dk_177 (dk_at dksJ9_checkBoundsBeginEnd_0 10 rfl rfl)
abbrev cJ9_length : ByteArray := prog_45_method_54_code
def yJ9_length : MethodName := ⟨RJ9, "length", "()I"⟩
def dkwJ9_length_0 : List UInt8 := [42, 180, 0, 9, 190, 42, 182, 1, 79, 122, 172]
abbrev dktJ9_length_0 : List UInt8 := dkwJ9_length_0 ++ []
theorem dksJ9_length_0 : cJ9_length.data.toList.drop 0 = dktJ9_length_0 := by decide +kernel
theorem dJ9_length_0 : decode cJ9_length 0 = .ok (.aload_n 0, 1) := dk_42 (dk_at dksJ9_length_0 0 rfl rfl)
theorem dJ9_length_1 : decode cJ9_length 1 = .ok (.getfield 9, 3) := dk_180 0 9 (dk_at dksJ9_length_0 1 rfl rfl)
theorem dJ9_length_4 : decode cJ9_length 4 = .ok (.arraylength, 1) := dk_190 (dk_at dksJ9_length_0 4 rfl rfl)
theorem dJ9_length_5 : decode cJ9_length 5 = .ok (.aload_n 0, 1) := dk_42 (dk_at dksJ9_length_0 5 rfl rfl)
theorem dJ9_length_6 : decode cJ9_length 6 = .ok (.invokevirtual 335, 3) := dk_182 1 79 (dk_at dksJ9_length_0 6 rfl rfl)
theorem dJ9_length_9 : decode cJ9_length 9 = .ok (.ishr, 1) := dk_122 (dk_at dksJ9_length_0 9 rfl rfl)
theorem dJ9_length_10 : decode cJ9_length 10 = .ok (.ireturn, 1) := dk_172 (dk_at dksJ9_length_0 10 rfl rfl)
abbrev cJ9_coder : ByteArray := prog_45_method_152_code
def yJ9_coder : MethodName := ⟨RJ9, "coder", "()B"⟩
def dkwJ9_coder_0 : List UInt8 := [178, 0, 38, 153, 0, 10, 42, 180, 0, 15, 167, 0, 4, 4, 172]
abbrev dktJ9_coder_0 : List UInt8 := dkwJ9_coder_0 ++ []
theorem dksJ9_coder_0 : cJ9_coder.data.toList.drop 0 = dktJ9_coder_0 := by decide +kernel
theorem dJ9_coder_0 : decode cJ9_coder 0 = .ok (.getstatic 38, 3) := dk_178 0 38 (dk_at dksJ9_coder_0 0 rfl rfl)
theorem dJ9_coder_3 : decode cJ9_coder 3 = .ok (.ifCond .eq 10, 3) := dk_153 0 10 (dk_at dksJ9_coder_0 3 rfl rfl)
theorem dJ9_coder_6 : decode cJ9_coder 6 = .ok (.aload_n 0, 1) := dk_42 (dk_at dksJ9_coder_0 6 rfl rfl)
theorem dJ9_coder_7 : decode cJ9_coder 7 = .ok (.getfield 15, 3) := dk_180 0 15 (dk_at dksJ9_coder_0 7 rfl rfl)
theorem dJ9_coder_10 : decode cJ9_coder 10 = .ok (.goto 4, 3) := dk_167 0 4 (dk_at dksJ9_coder_0 10 rfl rfl)
theorem dJ9_coder_13 : decode cJ9_coder 13 = .ok (.iconst 1, 1) := dk_4 (dk_at dksJ9_coder_0 13 rfl rfl)
theorem dJ9_coder_14 : decode cJ9_coder 14 = .ok (.ireturn, 1) := dk_172 (dk_at dksJ9_coder_0 14 rfl rfl)
abbrev cJ9_checkBoundsOffCount : ByteArray := prog_45_method_157_code
def yJ9_checkBoundsOffCount : MethodName := ⟨RJ9, "checkBoundsOffCount", "(III)I"⟩
def dkwJ9_checkBoundsOffCount_0 : List UInt8 := [26, 27, 28, 178, 4, 29, 184, 4, 41, 172]
abbrev dktJ9_checkBoundsOffCount_0 : List UInt8 := dkwJ9_checkBoundsOffCount_0 ++ []
theorem dksJ9_checkBoundsOffCount_0 : cJ9_checkBoundsOffCount.data.toList.drop 0 = dktJ9_checkBoundsOffCount_0 := by decide +kernel
theorem dJ9_checkBoundsOffCount_0 : decode cJ9_checkBoundsOffCount 0 = .ok (.iload_n 0, 1) := dk_26 (dk_at dksJ9_checkBoundsOffCount_0 0 rfl rfl)
theorem dJ9_checkBoundsOffCount_1 : decode cJ9_checkBoundsOffCount 1 = .ok (.iload_n 1, 1) := dk_27 (dk_at dksJ9_checkBoundsOffCount_0 1 rfl rfl)
theorem dJ9_checkBoundsOffCount_2 : decode cJ9_checkBoundsOffCount 2 = .ok (.iload_n 2, 1) := dk_28 (dk_at dksJ9_checkBoundsOffCount_0 2 rfl rfl)
theorem dJ9_checkBoundsOffCount_3 : decode cJ9_checkBoundsOffCount 3 = .ok (.getstatic 1053, 3) := dk_178 4 29 (dk_at dksJ9_checkBoundsOffCount_0 3 rfl rfl)
theorem dJ9_checkBoundsOffCount_6 : decode cJ9_checkBoundsOffCount 6 = .ok (.invokestatic 1065, 3) := dk_184 4 41 (dk_at dksJ9_checkBoundsOffCount_0 6 rfl rfl)
theorem dJ9_checkBoundsOffCount_9 : decode cJ9_checkBoundsOffCount 9 = .ok (.ireturn, 1) := dk_172 (dk_at dksJ9_checkBoundsOffCount_0 9 rfl rfl)
abbrev cJ9_getBytes : ByteArray := prog_45_method_147_code
def yJ9_getBytes : MethodName := ⟨RJ9, "getBytes", "([BIB)V"⟩
def dkwJ9_getBytes_1 : List UInt8 := [184, 0, 212, 167, 0, 18, 42, 180, 0, 9, 3, 43, 28, 42, 180, 0, 9, 190, 184, 0, 106, 177]
abbrev dktJ9_getBytes_1 : List UInt8 := dkwJ9_getBytes_1 ++ []
def dkwJ9_getBytes_0 : List UInt8 := [42, 182, 1, 79, 29, 160, 0, 23, 42, 180, 0, 9, 3, 43, 28, 29, 120, 42, 180, 0, 9, 190]
abbrev dktJ9_getBytes_0 : List UInt8 := dkwJ9_getBytes_0 ++ dktJ9_getBytes_1
theorem dksJ9_getBytes_0 : cJ9_getBytes.data.toList.drop 0 = dktJ9_getBytes_0 := by decide +kernel
theorem dksJ9_getBytes_1 : cJ9_getBytes.data.toList.drop 22 = dktJ9_getBytes_1 := dk_seg dksJ9_getBytes_0 22 rfl rfl
theorem dJ9_getBytes_0 : decode cJ9_getBytes 0 = .ok (.aload_n 0, 1) := dk_42 (dk_at dksJ9_getBytes_0 0 rfl rfl)
theorem dJ9_getBytes_1 : decode cJ9_getBytes 1 = .ok (.invokevirtual 335, 3) := dk_182 1 79 (dk_at dksJ9_getBytes_0 1 rfl rfl)
theorem dJ9_getBytes_4 : decode cJ9_getBytes 4 = .ok (.iload_n 3, 1) := dk_29 (dk_at dksJ9_getBytes_0 4 rfl rfl)
theorem dJ9_getBytes_5 : decode cJ9_getBytes 5 = .ok (.if_icmp .ne 23, 3) := dk_160 0 23 (dk_at dksJ9_getBytes_0 5 rfl rfl)
theorem dJ9_getBytes_8 : decode cJ9_getBytes 8 = .ok (.aload_n 0, 1) := dk_42 (dk_at dksJ9_getBytes_0 8 rfl rfl)
theorem dJ9_getBytes_9 : decode cJ9_getBytes 9 = .ok (.getfield 9, 3) := dk_180 0 9 (dk_at dksJ9_getBytes_0 9 rfl rfl)
theorem dJ9_getBytes_12 : decode cJ9_getBytes 12 = .ok (.iconst 0, 1) := dk_3 (dk_at dksJ9_getBytes_0 12 rfl rfl)
theorem dJ9_getBytes_13 : decode cJ9_getBytes 13 = .ok (.aload_n 1, 1) := dk_43 (dk_at dksJ9_getBytes_0 13 rfl rfl)
theorem dJ9_getBytes_14 : decode cJ9_getBytes 14 = .ok (.iload_n 2, 1) := dk_28 (dk_at dksJ9_getBytes_0 14 rfl rfl)
theorem dJ9_getBytes_15 : decode cJ9_getBytes 15 = .ok (.iload_n 3, 1) := dk_29 (dk_at dksJ9_getBytes_0 15 rfl rfl)
theorem dJ9_getBytes_16 : decode cJ9_getBytes 16 = .ok (.ishl, 1) := dk_120 (dk_at dksJ9_getBytes_0 16 rfl rfl)
theorem dJ9_getBytes_17 : decode cJ9_getBytes 17 = .ok (.aload_n 0, 1) := dk_42 (dk_at dksJ9_getBytes_0 17 rfl rfl)
theorem dJ9_getBytes_18 : decode cJ9_getBytes 18 = .ok (.getfield 9, 3) := dk_180 0 9 (dk_at dksJ9_getBytes_0 18 rfl rfl)
theorem dJ9_getBytes_21 : decode cJ9_getBytes 21 = .ok (.arraylength, 1) := dk_190 (dk_at dksJ9_getBytes_0 21 rfl rfl)
theorem dJ9_getBytes_22 : decode cJ9_getBytes 22 = .ok (.invokestatic 212, 3) := dk_184 0 212 (dk_at dksJ9_getBytes_1 0 rfl rfl)
theorem dJ9_getBytes_25 : decode cJ9_getBytes 25 = .ok (.goto 18, 3) := dk_167 0 18 (dk_at dksJ9_getBytes_1 3 rfl rfl)
theorem dJ9_getBytes_28 : decode cJ9_getBytes 28 = .ok (.aload_n 0, 1) := dk_42 (dk_at dksJ9_getBytes_1 6 rfl rfl)
theorem dJ9_getBytes_29 : decode cJ9_getBytes 29 = .ok (.getfield 9, 3) := dk_180 0 9 (dk_at dksJ9_getBytes_1 7 rfl rfl)
theorem dJ9_getBytes_32 : decode cJ9_getBytes 32 = .ok (.iconst 0, 1) := dk_3 (dk_at dksJ9_getBytes_1 10 rfl rfl)
theorem dJ9_getBytes_33 : decode cJ9_getBytes 33 = .ok (.aload_n 1, 1) := dk_43 (dk_at dksJ9_getBytes_1 11 rfl rfl)
theorem dJ9_getBytes_34 : decode cJ9_getBytes 34 = .ok (.iload_n 2, 1) := dk_28 (dk_at dksJ9_getBytes_1 12 rfl rfl)
theorem dJ9_getBytes_35 : decode cJ9_getBytes 35 = .ok (.aload_n 0, 1) := dk_42 (dk_at dksJ9_getBytes_1 13 rfl rfl)
theorem dJ9_getBytes_36 : decode cJ9_getBytes 36 = .ok (.getfield 9, 3) := dk_180 0 9 (dk_at dksJ9_getBytes_1 14 rfl rfl)
theorem dJ9_getBytes_39 : decode cJ9_getBytes 39 = .ok (.arraylength, 1) := dk_190 (dk_at dksJ9_getBytes_1 17 rfl rfl)
theorem dJ9_getBytes_40 : decode cJ9_getBytes 40 = .ok (.invokestatic 106, 3) := dk_184 0 106 (dk_at dksJ9_getBytes_1 18 rfl rfl)
theorem dJ9_getBytes_43 : decode cJ9_getBytes 43 = .ok (.return_, 1) := dk_177 (dk_at dksJ9_getBytes_1 21 rfl rfl)
abbrev cJ9_init : ByteArray := prog_45_method_53_code
def yJ9_init : MethodName := ⟨RJ9, "<init>", "(Ljava/lang/StringBuilder;)V"⟩
def dkwJ9_init_0 : List UInt8 := [42, 43, 1, 183, 1, 233, 177]
abbrev dktJ9_init_0 : List UInt8 := dkwJ9_init_0 ++ []
theorem dksJ9_init_0 : cJ9_init.data.toList.drop 0 = dktJ9_init_0 := by decide +kernel
theorem dJ9_init_0 : decode cJ9_init 0 = .ok (.aload_n 0, 1) := dk_42 (dk_at dksJ9_init_0 0 rfl rfl)
theorem dJ9_init_1 : decode cJ9_init 1 = .ok (.aload_n 1, 1) := dk_43 (dk_at dksJ9_init_0 1 rfl rfl)
theorem dJ9_init_2 : decode cJ9_init 2 = .ok (.aconst_null, 1) := dk_1 (dk_at dksJ9_init_0 2 rfl rfl)
theorem dJ9_init_3 : decode cJ9_init 3 = .ok (.invokespecial 489, 3) := dk_183 1 233 (dk_at dksJ9_init_0 3 rfl rfl)
theorem dJ9_init_6 : decode cJ9_init 6 = .ok (.return_, 1) := dk_177 (dk_at dksJ9_init_0 6 rfl rfl)
abbrev cJ9_init_2 : ByteArray := prog_45_method_150_code
def yJ9_init_2 : MethodName := ⟨RJ9, "<init>", "(Ljava/lang/AbstractStringBuilder;Ljava/lang/Void;)V"⟩
def dkwJ9_init_2_4 : List UInt8 := [181, 0, 9, 177]
abbrev dktJ9_init_2_4 : List UInt8 := dkwJ9_init_2_4 ++ []
def dkwJ9_init_2_3 : List UInt8 := [184, 0, 47, 181, 0, 15, 177, 42, 4, 181, 0, 15, 42, 45, 3, 21, 4, 4, 120, 184, 0, 54]
abbrev dktJ9_init_2_3 : List UInt8 := dkwJ9_init_2_3 ++ dktJ9_init_2_4
def dkwJ9_init_2_2 : List UInt8 := [180, 4, 24, 153, 0, 28, 42, 45, 3, 21, 4, 184, 4, 27, 181, 0, 9, 42, 42, 180, 0, 9, 21, 4]
abbrev dktJ9_init_2_2 : List UInt8 := dkwJ9_init_2_2 ++ dktJ9_init_2_3
def dkwJ9_init_2_1 : List UInt8 := [181, 0, 15, 42, 45, 3, 21, 4, 184, 0, 54, 181, 0, 9, 167, 0, 59, 178, 0, 38, 153, 0, 35, 43]
abbrev dktJ9_init_2_1 : List UInt8 := dkwJ9_init_2_1 ++ dktJ9_init_2_2
def dkwJ9_init_2_0 : List UInt8 := [42, 183, 0, 1, 43, 182, 2, 40, 78, 43, 182, 2, 37, 54, 4, 43, 182, 4, 23, 153, 0, 22, 42, 3]
abbrev dktJ9_init_2_0 : List UInt8 := dkwJ9_init_2_0 ++ dktJ9_init_2_1
theorem dksJ9_init_2_0 : cJ9_init_2.data.toList.drop 0 = dktJ9_init_2_0 := by decide +kernel
theorem dksJ9_init_2_1 : cJ9_init_2.data.toList.drop 24 = dktJ9_init_2_1 := dk_seg dksJ9_init_2_0 24 rfl rfl
theorem dksJ9_init_2_2 : cJ9_init_2.data.toList.drop 48 = dktJ9_init_2_2 := dk_seg dksJ9_init_2_1 24 rfl rfl
theorem dksJ9_init_2_3 : cJ9_init_2.data.toList.drop 72 = dktJ9_init_2_3 := dk_seg dksJ9_init_2_2 24 rfl rfl
theorem dksJ9_init_2_4 : cJ9_init_2.data.toList.drop 94 = dktJ9_init_2_4 := dk_seg dksJ9_init_2_3 22 rfl rfl
theorem dJ9_init_2_0 : decode cJ9_init_2 0 = .ok (.aload_n 0, 1) := dk_42 (dk_at dksJ9_init_2_0 0 rfl rfl)
theorem dJ9_init_2_1 : decode cJ9_init_2 1 = .ok (.invokespecial 1, 3) := dk_183 0 1 (dk_at dksJ9_init_2_0 1 rfl rfl)
theorem dJ9_init_2_4 : decode cJ9_init_2 4 = .ok (.aload_n 1, 1) := dk_43 (dk_at dksJ9_init_2_0 4 rfl rfl)
theorem dJ9_init_2_5 : decode cJ9_init_2 5 = .ok (.invokevirtual 552, 3) := dk_182 2 40 (dk_at dksJ9_init_2_0 5 rfl rfl)
theorem dJ9_init_2_8 : decode cJ9_init_2 8 = .ok (.astore_n 3, 1) := dk_78 (dk_at dksJ9_init_2_0 8 rfl rfl)
theorem dJ9_init_2_9 : decode cJ9_init_2 9 = .ok (.aload_n 1, 1) := dk_43 (dk_at dksJ9_init_2_0 9 rfl rfl)
theorem dJ9_init_2_10 : decode cJ9_init_2 10 = .ok (.invokevirtual 549, 3) := dk_182 2 37 (dk_at dksJ9_init_2_0 10 rfl rfl)
theorem dJ9_init_2_13 : decode cJ9_init_2 13 = .ok (.istore 4, 2) := dk_54 4 (dk_at dksJ9_init_2_0 13 rfl rfl)
theorem dJ9_init_2_15 : decode cJ9_init_2 15 = .ok (.aload_n 1, 1) := dk_43 (dk_at dksJ9_init_2_0 15 rfl rfl)
theorem dJ9_init_2_16 : decode cJ9_init_2 16 = .ok (.invokevirtual 1047, 3) := dk_182 4 23 (dk_at dksJ9_init_2_0 16 rfl rfl)
theorem dJ9_init_2_19 : decode cJ9_init_2 19 = .ok (.ifCond .eq 22, 3) := dk_153 0 22 (dk_at dksJ9_init_2_0 19 rfl rfl)
theorem dJ9_init_2_22 : decode cJ9_init_2 22 = .ok (.aload_n 0, 1) := dk_42 (dk_at dksJ9_init_2_0 22 rfl rfl)
theorem dJ9_init_2_23 : decode cJ9_init_2 23 = .ok (.iconst 0, 1) := dk_3 (dk_at dksJ9_init_2_0 23 rfl rfl)
theorem dJ9_init_2_24 : decode cJ9_init_2 24 = .ok (.putfield 15, 3) := dk_181 0 15 (dk_at dksJ9_init_2_1 0 rfl rfl)
theorem dJ9_init_2_27 : decode cJ9_init_2 27 = .ok (.aload_n 0, 1) := dk_42 (dk_at dksJ9_init_2_1 3 rfl rfl)
theorem dJ9_init_2_28 : decode cJ9_init_2 28 = .ok (.aload_n 3, 1) := dk_45 (dk_at dksJ9_init_2_1 4 rfl rfl)
theorem dJ9_init_2_29 : decode cJ9_init_2 29 = .ok (.iconst 0, 1) := dk_3 (dk_at dksJ9_init_2_1 5 rfl rfl)
theorem dJ9_init_2_30 : decode cJ9_init_2 30 = .ok (.iload 4, 2) := dk_21 4 (dk_at dksJ9_init_2_1 6 rfl rfl)
theorem dJ9_init_2_32 : decode cJ9_init_2 32 = .ok (.invokestatic 54, 3) := dk_184 0 54 (dk_at dksJ9_init_2_1 8 rfl rfl)
theorem dJ9_init_2_35 : decode cJ9_init_2 35 = .ok (.putfield 9, 3) := dk_181 0 9 (dk_at dksJ9_init_2_1 11 rfl rfl)
theorem dJ9_init_2_38 : decode cJ9_init_2 38 = .ok (.goto 59, 3) := dk_167 0 59 (dk_at dksJ9_init_2_1 14 rfl rfl)
theorem dJ9_init_2_41 : decode cJ9_init_2 41 = .ok (.getstatic 38, 3) := dk_178 0 38 (dk_at dksJ9_init_2_1 17 rfl rfl)
theorem dJ9_init_2_44 : decode cJ9_init_2 44 = .ok (.ifCond .eq 35, 3) := dk_153 0 35 (dk_at dksJ9_init_2_1 20 rfl rfl)
theorem dJ9_init_2_47 : decode cJ9_init_2 47 = .ok (.aload_n 1, 1) := dk_43 (dk_at dksJ9_init_2_1 23 rfl rfl)
theorem dJ9_init_2_48 : decode cJ9_init_2 48 = .ok (.getfield 1048, 3) := dk_180 4 24 (dk_at dksJ9_init_2_2 0 rfl rfl)
theorem dJ9_init_2_51 : decode cJ9_init_2 51 = .ok (.ifCond .eq 28, 3) := dk_153 0 28 (dk_at dksJ9_init_2_2 3 rfl rfl)
theorem dJ9_init_2_54 : decode cJ9_init_2 54 = .ok (.aload_n 0, 1) := dk_42 (dk_at dksJ9_init_2_2 6 rfl rfl)
theorem dJ9_init_2_55 : decode cJ9_init_2 55 = .ok (.aload_n 3, 1) := dk_45 (dk_at dksJ9_init_2_2 7 rfl rfl)
theorem dJ9_init_2_56 : decode cJ9_init_2 56 = .ok (.iconst 0, 1) := dk_3 (dk_at dksJ9_init_2_2 8 rfl rfl)
theorem dJ9_init_2_57 : decode cJ9_init_2 57 = .ok (.iload 4, 2) := dk_21 4 (dk_at dksJ9_init_2_2 9 rfl rfl)
theorem dJ9_init_2_59 : decode cJ9_init_2 59 = .ok (.invokestatic 1051, 3) := dk_184 4 27 (dk_at dksJ9_init_2_2 11 rfl rfl)
theorem dJ9_init_2_62 : decode cJ9_init_2 62 = .ok (.putfield 9, 3) := dk_181 0 9 (dk_at dksJ9_init_2_2 14 rfl rfl)
theorem dJ9_init_2_65 : decode cJ9_init_2 65 = .ok (.aload_n 0, 1) := dk_42 (dk_at dksJ9_init_2_2 17 rfl rfl)
theorem dJ9_init_2_66 : decode cJ9_init_2 66 = .ok (.aload_n 0, 1) := dk_42 (dk_at dksJ9_init_2_2 18 rfl rfl)
theorem dJ9_init_2_67 : decode cJ9_init_2 67 = .ok (.getfield 9, 3) := dk_180 0 9 (dk_at dksJ9_init_2_2 19 rfl rfl)
theorem dJ9_init_2_70 : decode cJ9_init_2 70 = .ok (.iload 4, 2) := dk_21 4 (dk_at dksJ9_init_2_2 22 rfl rfl)
theorem dJ9_init_2_72 : decode cJ9_init_2 72 = .ok (.invokestatic 47, 3) := dk_184 0 47 (dk_at dksJ9_init_2_3 0 rfl rfl)
theorem dJ9_init_2_75 : decode cJ9_init_2 75 = .ok (.putfield 15, 3) := dk_181 0 15 (dk_at dksJ9_init_2_3 3 rfl rfl)
theorem dJ9_init_2_78 : decode cJ9_init_2 78 = .ok (.return_, 1) := dk_177 (dk_at dksJ9_init_2_3 6 rfl rfl)
theorem dJ9_init_2_79 : decode cJ9_init_2 79 = .ok (.aload_n 0, 1) := dk_42 (dk_at dksJ9_init_2_3 7 rfl rfl)
theorem dJ9_init_2_80 : decode cJ9_init_2 80 = .ok (.iconst 1, 1) := dk_4 (dk_at dksJ9_init_2_3 8 rfl rfl)
theorem dJ9_init_2_81 : decode cJ9_init_2 81 = .ok (.putfield 15, 3) := dk_181 0 15 (dk_at dksJ9_init_2_3 9 rfl rfl)
theorem dJ9_init_2_84 : decode cJ9_init_2 84 = .ok (.aload_n 0, 1) := dk_42 (dk_at dksJ9_init_2_3 12 rfl rfl)
theorem dJ9_init_2_85 : decode cJ9_init_2 85 = .ok (.aload_n 3, 1) := dk_45 (dk_at dksJ9_init_2_3 13 rfl rfl)
theorem dJ9_init_2_86 : decode cJ9_init_2 86 = .ok (.iconst 0, 1) := dk_3 (dk_at dksJ9_init_2_3 14 rfl rfl)
theorem dJ9_init_2_87 : decode cJ9_init_2 87 = .ok (.iload 4, 2) := dk_21 4 (dk_at dksJ9_init_2_3 15 rfl rfl)
theorem dJ9_init_2_89 : decode cJ9_init_2 89 = .ok (.iconst 1, 1) := dk_4 (dk_at dksJ9_init_2_3 17 rfl rfl)
theorem dJ9_init_2_90 : decode cJ9_init_2 90 = .ok (.ishl, 1) := dk_120 (dk_at dksJ9_init_2_3 18 rfl rfl)
theorem dJ9_init_2_91 : decode cJ9_init_2 91 = .ok (.invokestatic 54, 3) := dk_184 0 54 (dk_at dksJ9_init_2_3 19 rfl rfl)
theorem dJ9_init_2_94 : decode cJ9_init_2 94 = .ok (.putfield 9, 3) := dk_181 0 9 (dk_at dksJ9_init_2_4 0 rfl rfl)
theorem dJ9_init_2_97 : decode cJ9_init_2 97 = .ok (.return_, 1) := dk_177 (dk_at dksJ9_init_2_4 3 rfl rfl)
abbrev cJ9_checkIndex : ByteArray := prog_45_method_155_code
def yJ9_checkIndex : MethodName := ⟨RJ9, "checkIndex", "(II)V"⟩
def dkwJ9_checkIndex_0 : List UInt8 := [26, 27, 178, 4, 29, 184, 4, 35, 87, 177]
abbrev dktJ9_checkIndex_0 : List UInt8 := dkwJ9_checkIndex_0 ++ []
theorem dksJ9_checkIndex_0 : cJ9_checkIndex.data.toList.drop 0 = dktJ9_checkIndex_0 := by decide +kernel
theorem dJ9_checkIndex_0 : decode cJ9_checkIndex 0 = .ok (.iload_n 0, 1) := dk_26 (dk_at dksJ9_checkIndex_0 0 rfl rfl)
theorem dJ9_checkIndex_1 : decode cJ9_checkIndex 1 = .ok (.iload_n 1, 1) := dk_27 (dk_at dksJ9_checkIndex_0 1 rfl rfl)
theorem dJ9_checkIndex_2 : decode cJ9_checkIndex 2 = .ok (.getstatic 1053, 3) := dk_178 4 29 (dk_at dksJ9_checkIndex_0 2 rfl rfl)
theorem dJ9_checkIndex_5 : decode cJ9_checkIndex 5 = .ok (.invokestatic 1059, 3) := dk_184 4 35 (dk_at dksJ9_checkIndex_0 5 rfl rfl)
theorem dJ9_checkIndex_8 : decode cJ9_checkIndex 8 = .ok (.pop, 1) := dk_87 (dk_at dksJ9_checkIndex_0 8 rfl rfl)
theorem dJ9_checkIndex_9 : decode cJ9_checkIndex 9 = .ok (.return_, 1) := dk_177 (dk_at dksJ9_checkIndex_0 9 rfl rfl)
abbrev cJ9_isLatin1 : ByteArray := prog_45_method_154_code
def yJ9_isLatin1 : MethodName := ⟨RJ9, "isLatin1", "()Z"⟩
def dkwJ9_isLatin1_0 : List UInt8 := [178, 0, 38, 153, 0, 14, 42, 180, 0, 15, 154, 0, 7, 4, 167, 0, 4, 3, 172]
abbrev dktJ9_isLatin1_0 : List UInt8 := dkwJ9_isLatin1_0 ++ []
theorem dksJ9_isLatin1_0 : cJ9_isLatin1.data.toList.drop 0 = dktJ9_isLatin1_0 := by decide +kernel
theorem dJ9_isLatin1_0 : decode cJ9_isLatin1 0 = .ok (.getstatic 38, 3) := dk_178 0 38 (dk_at dksJ9_isLatin1_0 0 rfl rfl)
theorem dJ9_isLatin1_3 : decode cJ9_isLatin1 3 = .ok (.ifCond .eq 14, 3) := dk_153 0 14 (dk_at dksJ9_isLatin1_0 3 rfl rfl)
theorem dJ9_isLatin1_6 : decode cJ9_isLatin1 6 = .ok (.aload_n 0, 1) := dk_42 (dk_at dksJ9_isLatin1_0 6 rfl rfl)
theorem dJ9_isLatin1_7 : decode cJ9_isLatin1 7 = .ok (.getfield 15, 3) := dk_180 0 15 (dk_at dksJ9_isLatin1_0 7 rfl rfl)
theorem dJ9_isLatin1_10 : decode cJ9_isLatin1 10 = .ok (.ifCond .ne 7, 3) := dk_154 0 7 (dk_at dksJ9_isLatin1_0 10 rfl rfl)
theorem dJ9_isLatin1_13 : decode cJ9_isLatin1 13 = .ok (.iconst 1, 1) := dk_4 (dk_at dksJ9_isLatin1_0 13 rfl rfl)
theorem dJ9_isLatin1_14 : decode cJ9_isLatin1 14 = .ok (.goto 4, 3) := dk_167 0 4 (dk_at dksJ9_isLatin1_0 14 rfl rfl)
theorem dJ9_isLatin1_17 : decode cJ9_isLatin1 17 = .ok (.iconst 0, 1) := dk_3 (dk_at dksJ9_isLatin1_0 17 rfl rfl)
theorem dJ9_isLatin1_18 : decode cJ9_isLatin1 18 = .ok (.ireturn, 1) := dk_172 (dk_at dksJ9_isLatin1_0 18 rfl rfl)
abbrev cJ9_value : ByteArray := prog_45_method_153_code
def yJ9_value : MethodName := ⟨RJ9, "value", "()[B"⟩
theorem dJ9_value_0 : decode cJ9_value 0 = .ok (.aload_n 0, 1) := by decide +kernel
theorem dJ9_value_1 : decode cJ9_value 1 = .ok (.getfield 9, 3) := by decide +kernel
theorem dJ9_value_4 : decode cJ9_value 4 = .ok (.areturn, 1) := by decide +kernel
abbrev cJ9_charAt : ByteArray := prog_45_method_56_code
def yJ9_charAt : MethodName := ⟨RJ9, "charAt", "(I)C"⟩
def dkwJ9_charAt_1 : List UInt8 := [172]
abbrev dktJ9_charAt_1 : List UInt8 := dkwJ9_charAt_1 ++ []
def dkwJ9_charAt_0 : List UInt8 := [42, 182, 1, 236, 153, 0, 12, 42, 180, 0, 9, 27, 184, 1, 239, 172, 42, 180, 0, 9, 27, 184, 1, 242]
abbrev dktJ9_charAt_0 : List UInt8 := dkwJ9_charAt_0 ++ dktJ9_charAt_1
theorem dksJ9_charAt_0 : cJ9_charAt.data.toList.drop 0 = dktJ9_charAt_0 := by decide +kernel
theorem dksJ9_charAt_1 : cJ9_charAt.data.toList.drop 24 = dktJ9_charAt_1 := dk_seg dksJ9_charAt_0 24 rfl rfl
theorem dJ9_charAt_0 : decode cJ9_charAt 0 = .ok (.aload_n 0, 1) := dk_42 (dk_at dksJ9_charAt_0 0 rfl rfl)
theorem dJ9_charAt_1 : decode cJ9_charAt 1 = .ok (.invokevirtual 492, 3) := dk_182 1 236 (dk_at dksJ9_charAt_0 1 rfl rfl)
theorem dJ9_charAt_4 : decode cJ9_charAt 4 = .ok (.ifCond .eq 12, 3) := dk_153 0 12 (dk_at dksJ9_charAt_0 4 rfl rfl)
theorem dJ9_charAt_7 : decode cJ9_charAt 7 = .ok (.aload_n 0, 1) := dk_42 (dk_at dksJ9_charAt_0 7 rfl rfl)
theorem dJ9_charAt_8 : decode cJ9_charAt 8 = .ok (.getfield 9, 3) := dk_180 0 9 (dk_at dksJ9_charAt_0 8 rfl rfl)
theorem dJ9_charAt_11 : decode cJ9_charAt 11 = .ok (.iload_n 1, 1) := dk_27 (dk_at dksJ9_charAt_0 11 rfl rfl)
theorem dJ9_charAt_12 : decode cJ9_charAt 12 = .ok (.invokestatic 495, 3) := dk_184 1 239 (dk_at dksJ9_charAt_0 12 rfl rfl)
theorem dJ9_charAt_15 : decode cJ9_charAt 15 = .ok (.ireturn, 1) := dk_172 (dk_at dksJ9_charAt_0 15 rfl rfl)
theorem dJ9_charAt_16 : decode cJ9_charAt 16 = .ok (.aload_n 0, 1) := dk_42 (dk_at dksJ9_charAt_0 16 rfl rfl)
theorem dJ9_charAt_17 : decode cJ9_charAt 17 = .ok (.getfield 9, 3) := dk_180 0 9 (dk_at dksJ9_charAt_0 17 rfl rfl)
theorem dJ9_charAt_20 : decode cJ9_charAt 20 = .ok (.iload_n 1, 1) := dk_27 (dk_at dksJ9_charAt_0 20 rfl rfl)
theorem dJ9_charAt_21 : decode cJ9_charAt 21 = .ok (.invokestatic 498, 3) := dk_184 1 242 (dk_at dksJ9_charAt_0 21 rfl rfl)
theorem dJ9_charAt_24 : decode cJ9_charAt 24 = .ok (.ireturn, 1) := dk_172 (dk_at dksJ9_charAt_1 0 rfl rfl)
abbrev cJ9_valueOf : ByteArray := prog_45_method_133_code
def yJ9_valueOf : MethodName := ⟨RJ9, "valueOf", "(Ljava/lang/Object;)Ljava/lang/String;"⟩
def dkwJ9_valueOf_0 : List UInt8 := [42, 199, 0, 9, 19, 3, 237, 167, 0, 7, 42, 182, 3, 239, 176]
abbrev dktJ9_valueOf_0 : List UInt8 := dkwJ9_valueOf_0 ++ []
theorem dksJ9_valueOf_0 : cJ9_valueOf.data.toList.drop 0 = dktJ9_valueOf_0 := by decide +kernel
theorem dJ9_valueOf_0 : decode cJ9_valueOf 0 = .ok (.aload_n 0, 1) := dk_42 (dk_at dksJ9_valueOf_0 0 rfl rfl)
theorem dJ9_valueOf_1 : decode cJ9_valueOf 1 = .ok (.ifnonnull 9, 3) := dk_199 0 9 (dk_at dksJ9_valueOf_0 1 rfl rfl)
theorem dJ9_valueOf_4 : decode cJ9_valueOf 4 = .ok (.ldc_w 1005, 3) := dk_19 3 237 (dk_at dksJ9_valueOf_0 4 rfl rfl)
theorem dJ9_valueOf_7 : decode cJ9_valueOf 7 = .ok (.goto 7, 3) := dk_167 0 7 (dk_at dksJ9_valueOf_0 7 rfl rfl)
theorem dJ9_valueOf_10 : decode cJ9_valueOf 10 = .ok (.aload_n 0, 1) := dk_42 (dk_at dksJ9_valueOf_0 10 rfl rfl)
theorem dJ9_valueOf_11 : decode cJ9_valueOf 11 = .ok (.invokevirtual 1007, 3) := dk_182 3 239 (dk_at dksJ9_valueOf_0 11 rfl rfl)
theorem dJ9_valueOf_14 : decode cJ9_valueOf 14 = .ok (.areturn, 1) := dk_176 (dk_at dksJ9_valueOf_0 14 rfl rfl)
abbrev cJ9_toString : ByteArray := prog_45_method_126_code
def yJ9_toString : MethodName := ⟨RJ9, "toString", "()Ljava/lang/String;"⟩
theorem dJ9_toString_0 : decode cJ9_toString 0 = .ok (.aload_n 0, 1) := by decide +kernel
theorem dJ9_toString_1 : decode cJ9_toString 1 = .ok (.areturn, 1) := by decide +kernel
abbrev cJ9_hashCode : ByteArray := prog_45_method_78_code
def yJ9_hashCode : MethodName := ⟨RJ9, "hashCode", "()I"⟩
def dkwJ9_hashCode_2 : List UInt8 := [181, 0, 23, 167, 0, 8, 42, 27, 181, 0, 19, 27, 172]
abbrev dktJ9_hashCode_2 : List UInt8 := dkwJ9_hashCode_2 ++ []
def dkwJ9_hashCode_1 : List UInt8 := [180, 0, 9, 184, 2, 116, 167, 0, 10, 42, 180, 0, 9, 184, 2, 120, 60, 27, 154, 0, 11, 42, 4]
abbrev dktJ9_hashCode_1 : List UInt8 := dkwJ9_hashCode_1 ++ dktJ9_hashCode_2
def dkwJ9_hashCode_0 : List UInt8 := [42, 180, 0, 19, 60, 27, 154, 0, 52, 42, 180, 0, 23, 154, 0, 45, 42, 182, 1, 236, 153, 0, 13, 42]
abbrev dktJ9_hashCode_0 : List UInt8 := dkwJ9_hashCode_0 ++ dktJ9_hashCode_1
theorem dksJ9_hashCode_0 : cJ9_hashCode.data.toList.drop 0 = dktJ9_hashCode_0 := by decide +kernel
theorem dksJ9_hashCode_1 : cJ9_hashCode.data.toList.drop 24 = dktJ9_hashCode_1 := dk_seg dksJ9_hashCode_0 24 rfl rfl
theorem dksJ9_hashCode_2 : cJ9_hashCode.data.toList.drop 47 = dktJ9_hashCode_2 := dk_seg dksJ9_hashCode_1 23 rfl rfl
theorem dJ9_hashCode_0 : decode cJ9_hashCode 0 = .ok (.aload_n 0, 1) := dk_42 (dk_at dksJ9_hashCode_0 0 rfl rfl)
theorem dJ9_hashCode_1 : decode cJ9_hashCode 1 = .ok (.getfield 19, 3) := dk_180 0 19 (dk_at dksJ9_hashCode_0 1 rfl rfl)
theorem dJ9_hashCode_4 : decode cJ9_hashCode 4 = .ok (.istore_n 1, 1) := dk_60 (dk_at dksJ9_hashCode_0 4 rfl rfl)
theorem dJ9_hashCode_5 : decode cJ9_hashCode 5 = .ok (.iload_n 1, 1) := dk_27 (dk_at dksJ9_hashCode_0 5 rfl rfl)
theorem dJ9_hashCode_6 : decode cJ9_hashCode 6 = .ok (.ifCond .ne 52, 3) := dk_154 0 52 (dk_at dksJ9_hashCode_0 6 rfl rfl)
theorem dJ9_hashCode_9 : decode cJ9_hashCode 9 = .ok (.aload_n 0, 1) := dk_42 (dk_at dksJ9_hashCode_0 9 rfl rfl)
theorem dJ9_hashCode_10 : decode cJ9_hashCode 10 = .ok (.getfield 23, 3) := dk_180 0 23 (dk_at dksJ9_hashCode_0 10 rfl rfl)
theorem dJ9_hashCode_13 : decode cJ9_hashCode 13 = .ok (.ifCond .ne 45, 3) := dk_154 0 45 (dk_at dksJ9_hashCode_0 13 rfl rfl)
theorem dJ9_hashCode_16 : decode cJ9_hashCode 16 = .ok (.aload_n 0, 1) := dk_42 (dk_at dksJ9_hashCode_0 16 rfl rfl)
theorem dJ9_hashCode_17 : decode cJ9_hashCode 17 = .ok (.invokevirtual 492, 3) := dk_182 1 236 (dk_at dksJ9_hashCode_0 17 rfl rfl)
theorem dJ9_hashCode_20 : decode cJ9_hashCode 20 = .ok (.ifCond .eq 13, 3) := dk_153 0 13 (dk_at dksJ9_hashCode_0 20 rfl rfl)
theorem dJ9_hashCode_23 : decode cJ9_hashCode 23 = .ok (.aload_n 0, 1) := dk_42 (dk_at dksJ9_hashCode_0 23 rfl rfl)
theorem dJ9_hashCode_24 : decode cJ9_hashCode 24 = .ok (.getfield 9, 3) := dk_180 0 9 (dk_at dksJ9_hashCode_1 0 rfl rfl)
theorem dJ9_hashCode_27 : decode cJ9_hashCode 27 = .ok (.invokestatic 628, 3) := dk_184 2 116 (dk_at dksJ9_hashCode_1 3 rfl rfl)
theorem dJ9_hashCode_30 : decode cJ9_hashCode 30 = .ok (.goto 10, 3) := dk_167 0 10 (dk_at dksJ9_hashCode_1 6 rfl rfl)
theorem dJ9_hashCode_33 : decode cJ9_hashCode 33 = .ok (.aload_n 0, 1) := dk_42 (dk_at dksJ9_hashCode_1 9 rfl rfl)
theorem dJ9_hashCode_34 : decode cJ9_hashCode 34 = .ok (.getfield 9, 3) := dk_180 0 9 (dk_at dksJ9_hashCode_1 10 rfl rfl)
theorem dJ9_hashCode_37 : decode cJ9_hashCode 37 = .ok (.invokestatic 632, 3) := dk_184 2 120 (dk_at dksJ9_hashCode_1 13 rfl rfl)
theorem dJ9_hashCode_40 : decode cJ9_hashCode 40 = .ok (.istore_n 1, 1) := dk_60 (dk_at dksJ9_hashCode_1 16 rfl rfl)
theorem dJ9_hashCode_41 : decode cJ9_hashCode 41 = .ok (.iload_n 1, 1) := dk_27 (dk_at dksJ9_hashCode_1 17 rfl rfl)
theorem dJ9_hashCode_42 : decode cJ9_hashCode 42 = .ok (.ifCond .ne 11, 3) := dk_154 0 11 (dk_at dksJ9_hashCode_1 18 rfl rfl)
theorem dJ9_hashCode_45 : decode cJ9_hashCode 45 = .ok (.aload_n 0, 1) := dk_42 (dk_at dksJ9_hashCode_1 21 rfl rfl)
theorem dJ9_hashCode_46 : decode cJ9_hashCode 46 = .ok (.iconst 1, 1) := dk_4 (dk_at dksJ9_hashCode_1 22 rfl rfl)
theorem dJ9_hashCode_47 : decode cJ9_hashCode 47 = .ok (.putfield 23, 3) := dk_181 0 23 (dk_at dksJ9_hashCode_2 0 rfl rfl)
theorem dJ9_hashCode_50 : decode cJ9_hashCode 50 = .ok (.goto 8, 3) := dk_167 0 8 (dk_at dksJ9_hashCode_2 3 rfl rfl)
theorem dJ9_hashCode_53 : decode cJ9_hashCode 53 = .ok (.aload_n 0, 1) := dk_42 (dk_at dksJ9_hashCode_2 6 rfl rfl)
theorem dJ9_hashCode_54 : decode cJ9_hashCode 54 = .ok (.iload_n 1, 1) := dk_27 (dk_at dksJ9_hashCode_2 7 rfl rfl)
theorem dJ9_hashCode_55 : decode cJ9_hashCode 55 = .ok (.putfield 19, 3) := dk_181 0 19 (dk_at dksJ9_hashCode_2 8 rfl rfl)
theorem dJ9_hashCode_58 : decode cJ9_hashCode 58 = .ok (.iload_n 1, 1) := dk_27 (dk_at dksJ9_hashCode_2 11 rfl rfl)
theorem dJ9_hashCode_59 : decode cJ9_hashCode 59 = .ok (.ireturn, 1) := dk_172 (dk_at dksJ9_hashCode_2 12 rfl rfl)
abbrev cJ9_compareTo : ByteArray := prog_45_method_162_code
def yJ9_compareTo : MethodName := ⟨RJ9, "compareTo", "(Ljava/lang/Object;)I"⟩
def dkwJ9_compareTo_0 : List UInt8 := [42, 43, 192, 0, 10, 182, 4, 60, 172]
abbrev dktJ9_compareTo_0 : List UInt8 := dkwJ9_compareTo_0 ++ []
theorem dksJ9_compareTo_0 : cJ9_compareTo.data.toList.drop 0 = dktJ9_compareTo_0 := by decide +kernel
theorem dJ9_compareTo_0 : decode cJ9_compareTo 0 = .ok (.aload_n 0, 1) := dk_42 (dk_at dksJ9_compareTo_0 0 rfl rfl)
theorem dJ9_compareTo_1 : decode cJ9_compareTo 1 = .ok (.aload_n 1, 1) := dk_43 (dk_at dksJ9_compareTo_0 1 rfl rfl)
theorem dJ9_compareTo_2 : decode cJ9_compareTo 2 = .ok (.checkcast 10, 3) := dk_192 0 10 (dk_at dksJ9_compareTo_0 2 rfl rfl)
theorem dJ9_compareTo_5 : decode cJ9_compareTo 5 = .ok (.invokevirtual 1084, 3) := dk_182 4 60 (dk_at dksJ9_compareTo_0 5 rfl rfl)
theorem dJ9_compareTo_8 : decode cJ9_compareTo 8 = .ok (.ireturn, 1) := dk_172 (dk_at dksJ9_compareTo_0 8 rfl rfl)
abbrev cJ9_compareTo_2 : ByteArray := prog_45_method_71_code
def yJ9_compareTo_2 : MethodName := ⟨RJ9, "compareTo", "(Ljava/lang/String;)I"⟩
def dkwJ9_compareTo_2_2 : List UInt8 := [154, 0, 11, 44, 45, 184, 2, 79, 167, 0, 8, 44, 45, 184, 2, 82, 172]
abbrev dktJ9_compareTo_2_2 : List UInt8 := dkwJ9_compareTo_2_2 ++ []
def dkwJ9_compareTo_2_1 : List UInt8 := [160, 0, 22, 21, 4, 154, 0, 11, 44, 45, 184, 2, 74, 167, 0, 8, 44, 45, 184, 2, 78, 172, 21, 4]
abbrev dktJ9_compareTo_2_1 : List UInt8 := dkwJ9_compareTo_2_1 ++ dktJ9_compareTo_2_2
def dkwJ9_compareTo_2_0 : List UInt8 := [42, 180, 0, 9, 77, 43, 180, 0, 9, 78, 42, 182, 1, 79, 54, 4, 21, 4, 43, 182, 1, 79]
abbrev dktJ9_compareTo_2_0 : List UInt8 := dkwJ9_compareTo_2_0 ++ dktJ9_compareTo_2_1
theorem dksJ9_compareTo_2_0 : cJ9_compareTo_2.data.toList.drop 0 = dktJ9_compareTo_2_0 := by decide +kernel
theorem dksJ9_compareTo_2_1 : cJ9_compareTo_2.data.toList.drop 22 = dktJ9_compareTo_2_1 := dk_seg dksJ9_compareTo_2_0 22 rfl rfl
theorem dksJ9_compareTo_2_2 : cJ9_compareTo_2.data.toList.drop 46 = dktJ9_compareTo_2_2 := dk_seg dksJ9_compareTo_2_1 24 rfl rfl
theorem dJ9_compareTo_2_0 : decode cJ9_compareTo_2 0 = .ok (.aload_n 0, 1) := dk_42 (dk_at dksJ9_compareTo_2_0 0 rfl rfl)
theorem dJ9_compareTo_2_1 : decode cJ9_compareTo_2 1 = .ok (.getfield 9, 3) := dk_180 0 9 (dk_at dksJ9_compareTo_2_0 1 rfl rfl)
theorem dJ9_compareTo_2_4 : decode cJ9_compareTo_2 4 = .ok (.astore_n 2, 1) := dk_77 (dk_at dksJ9_compareTo_2_0 4 rfl rfl)
theorem dJ9_compareTo_2_5 : decode cJ9_compareTo_2 5 = .ok (.aload_n 1, 1) := dk_43 (dk_at dksJ9_compareTo_2_0 5 rfl rfl)
theorem dJ9_compareTo_2_6 : decode cJ9_compareTo_2 6 = .ok (.getfield 9, 3) := dk_180 0 9 (dk_at dksJ9_compareTo_2_0 6 rfl rfl)
theorem dJ9_compareTo_2_9 : decode cJ9_compareTo_2 9 = .ok (.astore_n 3, 1) := dk_78 (dk_at dksJ9_compareTo_2_0 9 rfl rfl)
theorem dJ9_compareTo_2_10 : decode cJ9_compareTo_2 10 = .ok (.aload_n 0, 1) := dk_42 (dk_at dksJ9_compareTo_2_0 10 rfl rfl)
theorem dJ9_compareTo_2_11 : decode cJ9_compareTo_2 11 = .ok (.invokevirtual 335, 3) := dk_182 1 79 (dk_at dksJ9_compareTo_2_0 11 rfl rfl)
theorem dJ9_compareTo_2_14 : decode cJ9_compareTo_2 14 = .ok (.istore 4, 2) := dk_54 4 (dk_at dksJ9_compareTo_2_0 14 rfl rfl)
theorem dJ9_compareTo_2_16 : decode cJ9_compareTo_2 16 = .ok (.iload 4, 2) := dk_21 4 (dk_at dksJ9_compareTo_2_0 16 rfl rfl)
theorem dJ9_compareTo_2_18 : decode cJ9_compareTo_2 18 = .ok (.aload_n 1, 1) := dk_43 (dk_at dksJ9_compareTo_2_0 18 rfl rfl)
theorem dJ9_compareTo_2_19 : decode cJ9_compareTo_2 19 = .ok (.invokevirtual 335, 3) := dk_182 1 79 (dk_at dksJ9_compareTo_2_0 19 rfl rfl)
theorem dJ9_compareTo_2_22 : decode cJ9_compareTo_2 22 = .ok (.if_icmp .ne 22, 3) := dk_160 0 22 (dk_at dksJ9_compareTo_2_1 0 rfl rfl)
theorem dJ9_compareTo_2_25 : decode cJ9_compareTo_2 25 = .ok (.iload 4, 2) := dk_21 4 (dk_at dksJ9_compareTo_2_1 3 rfl rfl)
theorem dJ9_compareTo_2_27 : decode cJ9_compareTo_2 27 = .ok (.ifCond .ne 11, 3) := dk_154 0 11 (dk_at dksJ9_compareTo_2_1 5 rfl rfl)
theorem dJ9_compareTo_2_30 : decode cJ9_compareTo_2 30 = .ok (.aload_n 2, 1) := dk_44 (dk_at dksJ9_compareTo_2_1 8 rfl rfl)
theorem dJ9_compareTo_2_31 : decode cJ9_compareTo_2 31 = .ok (.aload_n 3, 1) := dk_45 (dk_at dksJ9_compareTo_2_1 9 rfl rfl)
theorem dJ9_compareTo_2_32 : decode cJ9_compareTo_2 32 = .ok (.invokestatic 586, 3) := dk_184 2 74 (dk_at dksJ9_compareTo_2_1 10 rfl rfl)
theorem dJ9_compareTo_2_35 : decode cJ9_compareTo_2 35 = .ok (.goto 8, 3) := dk_167 0 8 (dk_at dksJ9_compareTo_2_1 13 rfl rfl)
theorem dJ9_compareTo_2_38 : decode cJ9_compareTo_2 38 = .ok (.aload_n 2, 1) := dk_44 (dk_at dksJ9_compareTo_2_1 16 rfl rfl)
theorem dJ9_compareTo_2_39 : decode cJ9_compareTo_2 39 = .ok (.aload_n 3, 1) := dk_45 (dk_at dksJ9_compareTo_2_1 17 rfl rfl)
theorem dJ9_compareTo_2_40 : decode cJ9_compareTo_2 40 = .ok (.invokestatic 590, 3) := dk_184 2 78 (dk_at dksJ9_compareTo_2_1 18 rfl rfl)
theorem dJ9_compareTo_2_43 : decode cJ9_compareTo_2 43 = .ok (.ireturn, 1) := dk_172 (dk_at dksJ9_compareTo_2_1 21 rfl rfl)
theorem dJ9_compareTo_2_44 : decode cJ9_compareTo_2 44 = .ok (.iload 4, 2) := dk_21 4 (dk_at dksJ9_compareTo_2_1 22 rfl rfl)
theorem dJ9_compareTo_2_46 : decode cJ9_compareTo_2 46 = .ok (.ifCond .ne 11, 3) := dk_154 0 11 (dk_at dksJ9_compareTo_2_2 0 rfl rfl)
theorem dJ9_compareTo_2_49 : decode cJ9_compareTo_2 49 = .ok (.aload_n 2, 1) := dk_44 (dk_at dksJ9_compareTo_2_2 3 rfl rfl)
theorem dJ9_compareTo_2_50 : decode cJ9_compareTo_2 50 = .ok (.aload_n 3, 1) := dk_45 (dk_at dksJ9_compareTo_2_2 4 rfl rfl)
theorem dJ9_compareTo_2_51 : decode cJ9_compareTo_2 51 = .ok (.invokestatic 591, 3) := dk_184 2 79 (dk_at dksJ9_compareTo_2_2 5 rfl rfl)
theorem dJ9_compareTo_2_54 : decode cJ9_compareTo_2 54 = .ok (.goto 8, 3) := dk_167 0 8 (dk_at dksJ9_compareTo_2_2 8 rfl rfl)
theorem dJ9_compareTo_2_57 : decode cJ9_compareTo_2 57 = .ok (.aload_n 2, 1) := dk_44 (dk_at dksJ9_compareTo_2_2 11 rfl rfl)
theorem dJ9_compareTo_2_58 : decode cJ9_compareTo_2 58 = .ok (.aload_n 3, 1) := dk_45 (dk_at dksJ9_compareTo_2_2 12 rfl rfl)
theorem dJ9_compareTo_2_59 : decode cJ9_compareTo_2 59 = .ok (.invokestatic 594, 3) := dk_184 2 82 (dk_at dksJ9_compareTo_2_2 13 rfl rfl)
theorem dJ9_compareTo_2_62 : decode cJ9_compareTo_2 62 = .ok (.ireturn, 1) := dk_172 (dk_at dksJ9_compareTo_2_2 16 rfl rfl)
abbrev cJ9_checkOffset : ByteArray := prog_45_method_156_code
def yJ9_checkOffset : MethodName := ⟨RJ9, "checkOffset", "(II)V"⟩
def dkwJ9_checkOffset_0 : List UInt8 := [26, 27, 27, 178, 4, 29, 184, 4, 38, 87, 177]
abbrev dktJ9_checkOffset_0 : List UInt8 := dkwJ9_checkOffset_0 ++ []
theorem dksJ9_checkOffset_0 : cJ9_checkOffset.data.toList.drop 0 = dktJ9_checkOffset_0 := by decide +kernel
theorem dJ9_checkOffset_0 : decode cJ9_checkOffset 0 = .ok (.iload_n 0, 1) := dk_26 (dk_at dksJ9_checkOffset_0 0 rfl rfl)
theorem dJ9_checkOffset_1 : decode cJ9_checkOffset 1 = .ok (.iload_n 1, 1) := dk_27 (dk_at dksJ9_checkOffset_0 1 rfl rfl)
theorem dJ9_checkOffset_2 : decode cJ9_checkOffset 2 = .ok (.iload_n 1, 1) := dk_27 (dk_at dksJ9_checkOffset_0 2 rfl rfl)
theorem dJ9_checkOffset_3 : decode cJ9_checkOffset 3 = .ok (.getstatic 1053, 3) := dk_178 4 29 (dk_at dksJ9_checkOffset_0 3 rfl rfl)
theorem dJ9_checkOffset_6 : decode cJ9_checkOffset 6 = .ok (.invokestatic 1062, 3) := dk_184 4 38 (dk_at dksJ9_checkOffset_0 6 rfl rfl)
theorem dJ9_checkOffset_9 : decode cJ9_checkOffset 9 = .ok (.pop, 1) := dk_87 (dk_at dksJ9_checkOffset_0 9 rfl rfl)
theorem dJ9_checkOffset_10 : decode cJ9_checkOffset 10 = .ok (.return_, 1) := dk_177 (dk_at dksJ9_checkOffset_0 10 rfl rfl)
abbrev cJ9_equals : ByteArray := prog_45_method_66_code
def yJ9_equals : MethodName := ⟨RJ9, "equals", "(Ljava/lang/Object;)Z"⟩
def dkwJ9_equals_2 : List UInt8 := [184, 2, 29, 153, 0, 7, 4, 167, 0, 4, 3, 172]
abbrev dktJ9_equals_2 : List UInt8 := dkwJ9_equals_2 ++ []
def dkwJ9_equals_1 : List UInt8 := [153, 0, 14, 42, 180, 0, 15, 44, 180, 0, 15, 160, 0, 21, 42, 180, 0, 9, 44, 180, 0, 9]
abbrev dktJ9_equals_1 : List UInt8 := dkwJ9_equals_1 ++ dktJ9_equals_2
def dkwJ9_equals_0 : List UInt8 := [42, 43, 166, 0, 5, 4, 172, 43, 193, 0, 10, 153, 0, 43, 43, 192, 0, 10, 77, 178, 0, 38]
abbrev dktJ9_equals_0 : List UInt8 := dkwJ9_equals_0 ++ dktJ9_equals_1
theorem dksJ9_equals_0 : cJ9_equals.data.toList.drop 0 = dktJ9_equals_0 := by decide +kernel
theorem dksJ9_equals_1 : cJ9_equals.data.toList.drop 22 = dktJ9_equals_1 := dk_seg dksJ9_equals_0 22 rfl rfl
theorem dksJ9_equals_2 : cJ9_equals.data.toList.drop 44 = dktJ9_equals_2 := dk_seg dksJ9_equals_1 22 rfl rfl
theorem dJ9_equals_0 : decode cJ9_equals 0 = .ok (.aload_n 0, 1) := dk_42 (dk_at dksJ9_equals_0 0 rfl rfl)
theorem dJ9_equals_1 : decode cJ9_equals 1 = .ok (.aload_n 1, 1) := dk_43 (dk_at dksJ9_equals_0 1 rfl rfl)
theorem dJ9_equals_2 : decode cJ9_equals 2 = .ok (.if_acmp .ne 5, 3) := dk_166 0 5 (dk_at dksJ9_equals_0 2 rfl rfl)
theorem dJ9_equals_5 : decode cJ9_equals 5 = .ok (.iconst 1, 1) := dk_4 (dk_at dksJ9_equals_0 5 rfl rfl)
theorem dJ9_equals_6 : decode cJ9_equals 6 = .ok (.ireturn, 1) := dk_172 (dk_at dksJ9_equals_0 6 rfl rfl)
theorem dJ9_equals_7 : decode cJ9_equals 7 = .ok (.aload_n 1, 1) := dk_43 (dk_at dksJ9_equals_0 7 rfl rfl)
theorem dJ9_equals_8 : decode cJ9_equals 8 = .ok (.instanceof 10, 3) := dk_193 0 10 (dk_at dksJ9_equals_0 8 rfl rfl)
theorem dJ9_equals_11 : decode cJ9_equals 11 = .ok (.ifCond .eq 43, 3) := dk_153 0 43 (dk_at dksJ9_equals_0 11 rfl rfl)
theorem dJ9_equals_14 : decode cJ9_equals 14 = .ok (.aload_n 1, 1) := dk_43 (dk_at dksJ9_equals_0 14 rfl rfl)
theorem dJ9_equals_15 : decode cJ9_equals 15 = .ok (.checkcast 10, 3) := dk_192 0 10 (dk_at dksJ9_equals_0 15 rfl rfl)
theorem dJ9_equals_18 : decode cJ9_equals 18 = .ok (.astore_n 2, 1) := dk_77 (dk_at dksJ9_equals_0 18 rfl rfl)
theorem dJ9_equals_19 : decode cJ9_equals 19 = .ok (.getstatic 38, 3) := dk_178 0 38 (dk_at dksJ9_equals_0 19 rfl rfl)
theorem dJ9_equals_22 : decode cJ9_equals 22 = .ok (.ifCond .eq 14, 3) := dk_153 0 14 (dk_at dksJ9_equals_1 0 rfl rfl)
theorem dJ9_equals_25 : decode cJ9_equals 25 = .ok (.aload_n 0, 1) := dk_42 (dk_at dksJ9_equals_1 3 rfl rfl)
theorem dJ9_equals_26 : decode cJ9_equals 26 = .ok (.getfield 15, 3) := dk_180 0 15 (dk_at dksJ9_equals_1 4 rfl rfl)
theorem dJ9_equals_29 : decode cJ9_equals 29 = .ok (.aload_n 2, 1) := dk_44 (dk_at dksJ9_equals_1 7 rfl rfl)
theorem dJ9_equals_30 : decode cJ9_equals 30 = .ok (.getfield 15, 3) := dk_180 0 15 (dk_at dksJ9_equals_1 8 rfl rfl)
theorem dJ9_equals_33 : decode cJ9_equals 33 = .ok (.if_icmp .ne 21, 3) := dk_160 0 21 (dk_at dksJ9_equals_1 11 rfl rfl)
theorem dJ9_equals_36 : decode cJ9_equals 36 = .ok (.aload_n 0, 1) := dk_42 (dk_at dksJ9_equals_1 14 rfl rfl)
theorem dJ9_equals_37 : decode cJ9_equals 37 = .ok (.getfield 9, 3) := dk_180 0 9 (dk_at dksJ9_equals_1 15 rfl rfl)
theorem dJ9_equals_40 : decode cJ9_equals 40 = .ok (.aload_n 2, 1) := dk_44 (dk_at dksJ9_equals_1 18 rfl rfl)
theorem dJ9_equals_41 : decode cJ9_equals 41 = .ok (.getfield 9, 3) := dk_180 0 9 (dk_at dksJ9_equals_1 19 rfl rfl)
theorem dJ9_equals_44 : decode cJ9_equals 44 = .ok (.invokestatic 541, 3) := dk_184 2 29 (dk_at dksJ9_equals_2 0 rfl rfl)
theorem dJ9_equals_47 : decode cJ9_equals 47 = .ok (.ifCond .eq 7, 3) := dk_153 0 7 (dk_at dksJ9_equals_2 3 rfl rfl)
theorem dJ9_equals_50 : decode cJ9_equals 50 = .ok (.iconst 1, 1) := dk_4 (dk_at dksJ9_equals_2 6 rfl rfl)
theorem dJ9_equals_51 : decode cJ9_equals 51 = .ok (.goto 4, 3) := dk_167 0 4 (dk_at dksJ9_equals_2 7 rfl rfl)
theorem dJ9_equals_54 : decode cJ9_equals 54 = .ok (.iconst 0, 1) := dk_3 (dk_at dksJ9_equals_2 10 rfl rfl)
theorem dJ9_equals_55 : decode cJ9_equals 55 = .ok (.ireturn, 1) := dk_172 (dk_at dksJ9_equals_2 11 rfl rfl)
theorem q113 : (Jvm.Cond.initialized "java/lang/String") ∈ lw_all := lw_g (lw_at lw_m1 12 rfl) rfl
theorem q260 : (Jvm.Cond.laysStatic "java/lang/String" "COMPACT_STRINGS" "Z") ∈ lw_tbl := lw_at lw_m1 159 rfl
theorem q271 : (Jvm.Cond.fieldLink "java/lang/String" (1048 : Nat) "java/lang/AbstractStringBuilder" "maybeLatin1" "Z") ∈ lw_all := lw_g (lw_at lw_m1 170 rfl) rfl
theorem q345 : (Jvm.Cond.static ({ cls := "java/lang/String", name := "checkBoundsBeginEnd", desc := "(III)V" } : Jvm.MethodName)) ∈ lw_all := lw_g (lw_at lw_m2 4 rfl) rfl
theorem q346 : (Jvm.Cond.code ({ cls := "java/lang/String", name := "checkBoundsBeginEnd", desc := "(III)V" } : Jvm.MethodName) prog_45_method_158_code (3 : Nat) (Option.none : Option Jvm.ClassFile.FieldType)) ∈ lw_all := lw_g (lw_at lw_m2 5 rfl) rfl
theorem q347 : (Jvm.Cond.fieldLink "java/lang/String" (1053 : Nat) "jdk/internal/util/Preconditions" "SIOOBE_FORMATTER" "Ljava/util/function/BiFunction;") ∈ lw_all := lw_g (lw_at lw_m2 6 rfl) rfl
theorem q349 : (Jvm.Cond.methodLink "java/lang/String" (1062 : Nat) ({ cls := "jdk/internal/util/Preconditions", name := "checkFromToIndex", desc := "(IIILjava/util/function/BiFunction;)I" } : Jvm.MethodName)) ∈ lw_all := lw_g (lw_at lw_m2 8 rfl) rfl
theorem q362 : (Jvm.Cond.instanceMethod ({ cls := "java/lang/String", name := "length", desc := "()I" } : Jvm.MethodName)) ∈ lw_all := lw_g (lw_at lw_m2 21 rfl) rfl
theorem q363 : (Jvm.Cond.selects "java/lang/String" ({ cls := "java/lang/String", name := "length", desc := "()I" } : Jvm.MethodName) ({ cls := "java/lang/String", name := "length", desc := "()I" } : Jvm.MethodName)) ∈ lw_all := lw_g (lw_at lw_m2 22 rfl) rfl
theorem q364 : (Jvm.Cond.code ({ cls := "java/lang/String", name := "length", desc := "()I" } : Jvm.MethodName) prog_45_method_54_code (1 : Nat) (Option.some Jvm.ClassFile.FieldType.int)) ∈ lw_all := lw_g (lw_at lw_m2 23 rfl) rfl
theorem q365 : (Jvm.Cond.methodLink "java/lang/String" (335 : Nat) ({ cls := "java/lang/String", name := "coder", desc := "()B" } : Jvm.MethodName)) ∈ lw_all := lw_g (lw_at lw_m2 24 rfl) rfl
theorem q366 : (Jvm.Cond.instanceMethod ({ cls := "java/lang/String", name := "coder", desc := "()B" } : Jvm.MethodName)) ∈ lw_all := lw_g (lw_at lw_m2 25 rfl) rfl
theorem q367 : (Jvm.Cond.selects "java/lang/String" ({ cls := "java/lang/String", name := "coder", desc := "()B" } : Jvm.MethodName) ({ cls := "java/lang/String", name := "coder", desc := "()B" } : Jvm.MethodName)) ∈ lw_all := lw_g (lw_at lw_m2 26 rfl) rfl
theorem q368 : (Jvm.Cond.code ({ cls := "java/lang/String", name := "coder", desc := "()B" } : Jvm.MethodName) prog_45_method_152_code (1 : Nat) (Option.some Jvm.ClassFile.FieldType.byte)) ∈ lw_all := lw_g (lw_at lw_m2 27 rfl) rfl
theorem q369 : (Jvm.Cond.fieldLink "java/lang/String" (38 : Nat) "java/lang/String" "COMPACT_STRINGS" "Z") ∈ lw_all := lw_g (lw_at lw_m2 28 rfl) rfl
theorem q393 : (Jvm.Cond.static ({ cls := "java/lang/String", name := "checkBoundsOffCount", desc := "(III)I" } : Jvm.MethodName)) ∈ lw_all := lw_g (lw_at lw_m2 52 rfl) rfl
theorem q394 : (Jvm.Cond.code ({ cls := "java/lang/String", name := "checkBoundsOffCount", desc := "(III)I" } : Jvm.MethodName) prog_45_method_157_code (3 : Nat) (Option.some Jvm.ClassFile.FieldType.int)) ∈ lw_all := lw_g (lw_at lw_m2 53 rfl) rfl
theorem q395 : (Jvm.Cond.methodLink "java/lang/String" (1065 : Nat) ({ cls := "jdk/internal/util/Preconditions", name := "checkFromIndexSize", desc := "(IIILjava/util/function/BiFunction;)I" } : Jvm.MethodName)) ∈ lw_all := lw_g (lw_at lw_m2 54 rfl) rfl
theorem q399 : (Jvm.Cond.instanceMethod ({ cls := "java/lang/String", name := "getBytes", desc := "([BIB)V" } : Jvm.MethodName)) ∈ lw_all := lw_g (lw_at lw_m2 58 rfl) rfl
theorem q400 : (Jvm.Cond.selects "java/lang/String" ({ cls := "java/lang/String", name := "getBytes", desc := "([BIB)V" } : Jvm.MethodName) ({ cls := "java/lang/String", name := "getBytes", desc := "([BIB)V" } : Jvm.MethodName)) ∈ lw_all := lw_g (lw_at lw_m2 59 rfl) rfl
theorem q401 : (Jvm.Cond.code ({ cls := "java/lang/String", name := "getBytes", desc := "([BIB)V" } : Jvm.MethodName) prog_45_method_147_code (4 : Nat) (Option.none : Option Jvm.ClassFile.FieldType)) ∈ lw_all := lw_g (lw_at lw_m2 60 rfl) rfl
theorem q402 : (Jvm.Cond.methodLink "java/lang/String" (212 : Nat) ({ cls := "java/lang/System", name := "arraycopy", desc := "(Ljava/lang/Object;ILjava/lang/Object;II)V" } : Jvm.MethodName)) ∈ lw_all := lw_g (lw_at lw_m2 61 rfl) rfl
theorem q403 : (Jvm.Cond.methodLink "java/lang/String" (106 : Nat) ({ cls := "java/lang/StringLatin1", name := "inflate", desc := "([BI[BII)V" } : Jvm.MethodName)) ∈ lw_all := lw_g (lw_at lw_m2 62 rfl) rfl
theorem q434 : (Jvm.Cond.instantiable "java/lang/String" (4 : Nat)) ∈ lw_all := lw_g (lw_at lw_m2 93 rfl) rfl
theorem q436 : (Jvm.Cond.instanceMethod ({ cls := "java/lang/String", name := "<init>", desc := "(Ljava/lang/StringBuilder;)V" } : Jvm.MethodName)) ∈ lw_all := lw_g (lw_at lw_m2 95 rfl) rfl
theorem q437 : (Jvm.Cond.code ({ cls := "java/lang/String", name := "<init>", desc := "(Ljava/lang/StringBuilder;)V" } : Jvm.MethodName) prog_45_method_53_code (2 : Nat) (Option.none : Option Jvm.ClassFile.FieldType)) ∈ lw_all := lw_g (lw_at lw_m2 96 rfl) rfl
theorem q438 : (Jvm.Cond.methodLink "java/lang/String" (489 : Nat) ({ cls := "java/lang/String", name := "<init>", desc := "(Ljava/lang/AbstractStringBuilder;Ljava/lang/Void;)V" } : Jvm.MethodName)) ∈ lw_all := lw_g (lw_at lw_m2 97 rfl) rfl
theorem q439 : (Jvm.Cond.instanceMethod ({ cls := "java/lang/String", name := "<init>", desc := "(Ljava/lang/AbstractStringBuilder;Ljava/lang/Void;)V" } : Jvm.MethodName)) ∈ lw_all := lw_g (lw_at lw_m2 98 rfl) rfl
theorem q440 : (Jvm.Cond.code ({ cls := "java/lang/String", name := "<init>", desc := "(Ljava/lang/AbstractStringBuilder;Ljava/lang/Void;)V" } : Jvm.MethodName) prog_45_method_150_code (5 : Nat) (Option.none : Option Jvm.ClassFile.FieldType)) ∈ lw_all := lw_g (lw_at lw_m2 99 rfl) rfl
theorem q441 : (Jvm.Cond.methodLink "java/lang/String" (1 : Nat) ({ cls := "java/lang/Object", name := "<init>", desc := "()V" } : Jvm.MethodName)) ∈ lw_all := lw_g (lw_at lw_m2 100 rfl) rfl
theorem q442 : (Jvm.Cond.methodLink "java/lang/String" (552 : Nat) ({ cls := "java/lang/AbstractStringBuilder", name := "getValue", desc := "()[B" } : Jvm.MethodName)) ∈ lw_all := lw_g (lw_at lw_m2 101 rfl) rfl
theorem q447 : (Jvm.Cond.methodLink "java/lang/String" (549 : Nat) ({ cls := "java/lang/AbstractStringBuilder", name := "length", desc := "()I" } : Jvm.MethodName)) ∈ lw_all := lw_g (lw_at lw_m2 106 rfl) rfl
theorem q455 : (Jvm.Cond.methodLink "java/lang/String" (1047 : Nat) ({ cls := "java/lang/AbstractStringBuilder", name := "isLatin1", desc := "()Z" } : Jvm.MethodName)) ∈ lw_all := lw_g (lw_at lw_m2 114 rfl) rfl
theorem q456 : (Jvm.Cond.methodLink "java/lang/String" (54 : Nat) ({ cls := "java/util/Arrays", name := "copyOfRange", desc := "([BII)[B" } : Jvm.MethodName)) ∈ lw_all := lw_g (lw_at lw_m2 115 rfl) rfl
theorem q497 : (Jvm.Cond.methodLink "java/lang/String" (1051 : Nat) ({ cls := "java/lang/StringUTF16", name := "compress", desc := "([BII)[B" } : Jvm.MethodName)) ∈ lw_all := lw_g (lw_at lw_m2 156 rfl) rfl
theorem q507 : (Jvm.Cond.methodLink "java/lang/String" (47 : Nat) ({ cls := "java/lang/StringUTF16", name := "coderFromArrayLen", desc := "([BI)B" } : Jvm.MethodName)) ∈ lw_all := lw_g (lw_at lw_m2 166 rfl) rfl
theorem q510 : (Jvm.Cond.fieldLink "java/lang/String" (9 : Nat) "java/lang/String" "value" "[B") ∈ lw_all := lw_g (lw_at lw_m2 169 rfl) rfl
theorem q511 : (Jvm.Cond.fieldLink "java/lang/String" (15 : Nat) "java/lang/String" "coder" "B") ∈ lw_all := lw_g (lw_at lw_m2 170 rfl) rfl
theorem q512 : (Jvm.Cond.fieldLink "java/lang/String" (19 : Nat) "java/lang/String" "hash" "I") ∈ lw_all := lw_g (lw_at lw_m2 171 rfl) rfl
theorem q513 : (Jvm.Cond.fieldLink "java/lang/String" (23 : Nat) "java/lang/String" "hashIsZero" "Z") ∈ lw_all := lw_g (lw_at lw_m2 172 rfl) rfl
theorem q514 : (Jvm.Cond.laysFinal "java/lang/String" "java/lang/String" "value" "[B") ∈ lw_all := lw_g (lw_at lw_m2 173 rfl) rfl
theorem q515 : (Jvm.Cond.soleField "java/lang/String" "value") ∈ lw_all := lw_g (lw_at lw_m2 174 rfl) rfl
theorem q516 : (Jvm.Cond.laysFinal "java/lang/String" "java/lang/String" "coder" "B") ∈ lw_all := lw_g (lw_at lw_m2 175 rfl) rfl
theorem q517 : (Jvm.Cond.soleField "java/lang/String" "coder") ∈ lw_all := lw_g (lw_at lw_m2 176 rfl) rfl
theorem q518 : (Jvm.Cond.lays "java/lang/String" "java/lang/String" "hash" "I") ∈ lw_all := lw_g (lw_at lw_m2 177 rfl) rfl
theorem q519 : (Jvm.Cond.soleField "java/lang/String" "hash") ∈ lw_all := lw_g (lw_at lw_m2 178 rfl) rfl
theorem q520 : (Jvm.Cond.lays "java/lang/String" "java/lang/String" "hashIsZero" "Z") ∈ lw_all := lw_g (lw_at lw_m2 179 rfl) rfl
theorem q521 : (Jvm.Cond.soleField "java/lang/String" "hashIsZero") ∈ lw_all := lw_g (lw_at lw_m2 180 rfl) rfl
theorem q522 : (Jvm.Cond.superclass "java/lang/String" "java/lang/Object") ∈ lw_all := lw_g (lw_at lw_m2 181 rfl) rfl
theorem q1506 : (Jvm.Cond.static ({ cls := "java/lang/String", name := "checkIndex", desc := "(II)V" } : Jvm.MethodName)) ∈ lw_all := lw_g (lw_at lw_m6 205 rfl) rfl
theorem q1507 : (Jvm.Cond.code ({ cls := "java/lang/String", name := "checkIndex", desc := "(II)V" } : Jvm.MethodName) prog_45_method_155_code (2 : Nat) (Option.none : Option Jvm.ClassFile.FieldType)) ∈ lw_all := lw_g (lw_at lw_m6 206 rfl) rfl
theorem q1508 : (Jvm.Cond.methodLink "java/lang/String" (1059 : Nat) ({ cls := "jdk/internal/util/Preconditions", name := "checkIndex", desc := "(IILjava/util/function/BiFunction;)I" } : Jvm.MethodName)) ∈ lw_all := lw_g (lw_at lw_m6 207 rfl) rfl
theorem q1557 : (Jvm.Cond.castable "java/lang/String" "java/lang/CharSequence") ∈ lw_tbl := lw_at lw_m7 16 rfl
theorem q1558 : (Jvm.Cond.selects "java/lang/String" ({ cls := "java/lang/CharSequence", name := "length", desc := "()I" } : Jvm.MethodName) ({ cls := "java/lang/String", name := "length", desc := "()I" } : Jvm.MethodName)) ∈ lw_all := lw_g (lw_at lw_m7 17 rfl) rfl
theorem q1559 : (Jvm.Cond.unhidden "java/lang/String" "length" "()I") ∈ lw_tbl := lw_at lw_m7 18 rfl
theorem q1560 : (Jvm.Cond.publicMethod ({ cls := "java/lang/String", name := "length", desc := "()I" } : Jvm.MethodName)) ∈ lw_tbl := lw_at lw_m7 19 rfl
theorem q1586 : (Jvm.Cond.instanceMethod ({ cls := "java/lang/String", name := "isLatin1", desc := "()Z" } : Jvm.MethodName)) ∈ lw_all := lw_g (lw_at lw_m7 45 rfl) rfl
theorem q1587 : (Jvm.Cond.selects "java/lang/String" ({ cls := "java/lang/String", name := "isLatin1", desc := "()Z" } : Jvm.MethodName) ({ cls := "java/lang/String", name := "isLatin1", desc := "()Z" } : Jvm.MethodName)) ∈ lw_all := lw_g (lw_at lw_m7 46 rfl) rfl
theorem q1588 : (Jvm.Cond.code ({ cls := "java/lang/String", name := "isLatin1", desc := "()Z" } : Jvm.MethodName) prog_45_method_154_code (1 : Nat) (Option.some Jvm.ClassFile.FieldType.boolean)) ∈ lw_all := lw_g (lw_at lw_m7 47 rfl) rfl
theorem q1590 : (Jvm.Cond.instanceMethod ({ cls := "java/lang/String", name := "value", desc := "()[B" } : Jvm.MethodName)) ∈ lw_all := lw_g (lw_at lw_m7 49 rfl) rfl
theorem q1591 : (Jvm.Cond.selects "java/lang/String" ({ cls := "java/lang/String", name := "value", desc := "()[B" } : Jvm.MethodName) ({ cls := "java/lang/String", name := "value", desc := "()[B" } : Jvm.MethodName)) ∈ lw_all := lw_g (lw_at lw_m7 50 rfl) rfl
theorem q1592 : (Jvm.Cond.code ({ cls := "java/lang/String", name := "value", desc := "()[B" } : Jvm.MethodName) prog_45_method_153_code (1 : Nat) (Option.some (Jvm.ClassFile.FieldType.array Jvm.ClassFile.FieldType.byte))) ∈ lw_all := lw_g (lw_at lw_m7 51 rfl) rfl
theorem q1594 : (Jvm.Cond.instanceMethod ({ cls := "java/lang/String", name := "charAt", desc := "(I)C" } : Jvm.MethodName)) ∈ lw_all := lw_g (lw_at lw_m7 53 rfl) rfl
theorem q1595 : (Jvm.Cond.selects "java/lang/String" ({ cls := "java/lang/String", name := "charAt", desc := "(I)C" } : Jvm.MethodName) ({ cls := "java/lang/String", name := "charAt", desc := "(I)C" } : Jvm.MethodName)) ∈ lw_all := lw_g (lw_at lw_m7 54 rfl) rfl
theorem q1596 : (Jvm.Cond.code ({ cls := "java/lang/String", name := "charAt", desc := "(I)C" } : Jvm.MethodName) prog_45_method_56_code (2 : Nat) (Option.some Jvm.ClassFile.FieldType.char)) ∈ lw_all := lw_g (lw_at lw_m7 55 rfl) rfl
theorem q1597 : (Jvm.Cond.methodLink "java/lang/String" (492 : Nat) ({ cls := "java/lang/String", name := "isLatin1", desc := "()Z" } : Jvm.MethodName)) ∈ lw_all := lw_g (lw_at lw_m7 56 rfl) rfl
theorem q1598 : (Jvm.Cond.methodLink "java/lang/String" (495 : Nat) ({ cls := "java/lang/StringLatin1", name := "charAt", desc := "([BI)C" } : Jvm.MethodName)) ∈ lw_all := lw_g (lw_at lw_m7 57 rfl) rfl
theorem q1602 : (Jvm.Cond.methodLink "java/lang/String" (498 : Nat) ({ cls := "java/lang/StringUTF16", name := "charAt", desc := "([BI)C" } : Jvm.MethodName)) ∈ lw_all := lw_g (lw_at lw_m7 61 rfl) rfl
theorem q1612 : (Jvm.Cond.selects "java/lang/String" ({ cls := "java/lang/CharSequence", name := "charAt", desc := "(I)C" } : Jvm.MethodName) ({ cls := "java/lang/String", name := "charAt", desc := "(I)C" } : Jvm.MethodName)) ∈ lw_all := lw_g (lw_at lw_m7 71 rfl) rfl
theorem q1613 : (Jvm.Cond.unhidden "java/lang/String" "charAt" "(I)C") ∈ lw_tbl := lw_at lw_m7 72 rfl
theorem q1614 : (Jvm.Cond.publicMethod ({ cls := "java/lang/String", name := "charAt", desc := "(I)C" } : Jvm.MethodName)) ∈ lw_tbl := lw_at lw_m7 73 rfl
theorem q1651 : (Jvm.Cond.static ({ cls := "java/lang/String", name := "valueOf", desc := "(Ljava/lang/Object;)Ljava/lang/String;" } : Jvm.MethodName)) ∈ lw_all := lw_g (lw_at lw_m7 110 rfl) rfl
theorem q1652 : (Jvm.Cond.code ({ cls := "java/lang/String", name := "valueOf", desc := "(Ljava/lang/Object;)Ljava/lang/String;" } : Jvm.MethodName) prog_45_method_133_code (1 : Nat) (Option.some (Jvm.ClassFile.FieldType.object "java/lang/String"))) ∈ lw_all := lw_g (lw_at lw_m7 111 rfl) rfl
theorem q1653 : (Jvm.Cond.stringRef "java/lang/String" (1005 : Nat) "null") ∈ lw_tbl := lw_at lw_m7 112 rfl
theorem q1655 : (Jvm.Cond.methodLink "java/lang/String" (1007 : Nat) ({ cls := "java/lang/Object", name := "toString", desc := "()Ljava/lang/String;" } : Jvm.MethodName)) ∈ lw_all := lw_g (lw_at lw_m7 114 rfl) rfl
theorem q1700 : (Jvm.Cond.selects "java/lang/String" ({ cls := "java/lang/Object", name := "getClass", desc := "()Ljava/lang/Class;" } : Jvm.MethodName) ({ cls := "java/lang/Object", name := "getClass", desc := "()Ljava/lang/Class;" } : Jvm.MethodName)) ∈ lw_all := lw_g (lw_at lw_m7 159 rfl) rfl
theorem q1756 : (Jvm.Cond.selects "java/lang/String" ({ cls := "java/lang/Object", name := "toString", desc := "()Ljava/lang/String;" } : Jvm.MethodName) ({ cls := "java/lang/String", name := "toString", desc := "()Ljava/lang/String;" } : Jvm.MethodName)) ∈ lw_all := lw_g (lw_at lw_m7 215 rfl) rfl
theorem q1757 : (Jvm.Cond.instanceMethod ({ cls := "java/lang/String", name := "toString", desc := "()Ljava/lang/String;" } : Jvm.MethodName)) ∈ lw_all := lw_g (lw_at lw_m7 216 rfl) rfl
theorem q1758 : (Jvm.Cond.code ({ cls := "java/lang/String", name := "toString", desc := "()Ljava/lang/String;" } : Jvm.MethodName) prog_45_method_126_code (1 : Nat) (Option.some (Jvm.ClassFile.FieldType.object "java/lang/String"))) ∈ lw_all := lw_g (lw_at lw_m7 217 rfl) rfl
theorem q1911 : (Jvm.Cond.selects "java/lang/String" ({ cls := "java/lang/Object", name := "hashCode", desc := "()I" } : Jvm.MethodName) ({ cls := "java/lang/String", name := "hashCode", desc := "()I" } : Jvm.MethodName)) ∈ lw_all := lw_g (lw_at lw_m8 130 rfl) rfl
theorem q1912 : (Jvm.Cond.instanceMethod ({ cls := "java/lang/String", name := "hashCode", desc := "()I" } : Jvm.MethodName)) ∈ lw_all := lw_g (lw_at lw_m8 131 rfl) rfl
theorem q1913 : (Jvm.Cond.code ({ cls := "java/lang/String", name := "hashCode", desc := "()I" } : Jvm.MethodName) prog_45_method_78_code (2 : Nat) (Option.some Jvm.ClassFile.FieldType.int)) ∈ lw_all := lw_g (lw_at lw_m8 132 rfl) rfl
theorem q1914 : (Jvm.Cond.methodLink "java/lang/String" (628 : Nat) ({ cls := "java/lang/StringLatin1", name := "hashCode", desc := "([B)I" } : Jvm.MethodName)) ∈ lw_all := lw_g (lw_at lw_m8 133 rfl) rfl
theorem q1963 : (Jvm.Cond.methodLink "java/lang/String" (632 : Nat) ({ cls := "java/lang/StringUTF16", name := "hashCode", desc := "([B)I" } : Jvm.MethodName)) ∈ lw_all := lw_g (lw_at lw_m8 182 rfl) rfl
theorem q2108 : (Jvm.Cond.castable "java/lang/String" "java/lang/Comparable") ∈ lw_tbl := lw_at lw_m9 87 rfl
theorem q2109 : (Jvm.Cond.selects "java/lang/String" ({ cls := "java/lang/Comparable", name := "compareTo", desc := "(Ljava/lang/Object;)I" } : Jvm.MethodName) ({ cls := "java/lang/String", name := "compareTo", desc := "(Ljava/lang/Object;)I" } : Jvm.MethodName)) ∈ lw_all := lw_g (lw_at lw_m9 88 rfl) rfl
theorem q2110 : (Jvm.Cond.unhidden "java/lang/String" "compareTo" "(Ljava/lang/Object;)I") ∈ lw_tbl := lw_at lw_m9 89 rfl
theorem q2111 : (Jvm.Cond.instanceMethod ({ cls := "java/lang/String", name := "compareTo", desc := "(Ljava/lang/Object;)I" } : Jvm.MethodName)) ∈ lw_all := lw_g (lw_at lw_m9 90 rfl) rfl
theorem q2112 : (Jvm.Cond.publicMethod ({ cls := "java/lang/String", name := "compareTo", desc := "(Ljava/lang/Object;)I" } : Jvm.MethodName)) ∈ lw_tbl := lw_at lw_m9 91 rfl
theorem q2113 : (Jvm.Cond.code ({ cls := "java/lang/String", name := "compareTo", desc := "(Ljava/lang/Object;)I" } : Jvm.MethodName) prog_45_method_162_code (2 : Nat) (Option.some Jvm.ClassFile.FieldType.int)) ∈ lw_all := lw_g (lw_at lw_m9 92 rfl) rfl
theorem q2114 : (Jvm.Cond.classLink "java/lang/String" (10 : Nat) "java/lang/String") ∈ lw_all := lw_g (lw_at lw_m9 93 rfl) rfl
theorem q2115 : (Jvm.Cond.methodLink "java/lang/String" (1084 : Nat) ({ cls := "java/lang/String", name := "compareTo", desc := "(Ljava/lang/String;)I" } : Jvm.MethodName)) ∈ lw_all := lw_g (lw_at lw_m9 94 rfl) rfl
theorem q2116 : (Jvm.Cond.instanceMethod ({ cls := "java/lang/String", name := "compareTo", desc := "(Ljava/lang/String;)I" } : Jvm.MethodName)) ∈ lw_all := lw_g (lw_at lw_m9 95 rfl) rfl
theorem q2117 : (Jvm.Cond.selects "java/lang/String" ({ cls := "java/lang/String", name := "compareTo", desc := "(Ljava/lang/String;)I" } : Jvm.MethodName) ({ cls := "java/lang/String", name := "compareTo", desc := "(Ljava/lang/String;)I" } : Jvm.MethodName)) ∈ lw_all := lw_g (lw_at lw_m9 96 rfl) rfl
theorem q2118 : (Jvm.Cond.code ({ cls := "java/lang/String", name := "compareTo", desc := "(Ljava/lang/String;)I" } : Jvm.MethodName) prog_45_method_71_code (5 : Nat) (Option.some Jvm.ClassFile.FieldType.int)) ∈ lw_all := lw_g (lw_at lw_m9 97 rfl) rfl
theorem q2119 : (Jvm.Cond.methodLink "java/lang/String" (586 : Nat) ({ cls := "java/lang/StringLatin1", name := "compareTo", desc := "([B[B)I" } : Jvm.MethodName)) ∈ lw_all := lw_g (lw_at lw_m9 98 rfl) rfl
theorem q2230 : (Jvm.Cond.methodLink "java/lang/String" (590 : Nat) ({ cls := "java/lang/StringUTF16", name := "compareTo", desc := "([B[B)I" } : Jvm.MethodName)) ∈ lw_all := lw_g (lw_at lw_m9 209 rfl) rfl
theorem q2237 : (Jvm.Cond.methodLink "java/lang/String" (591 : Nat) ({ cls := "java/lang/StringLatin1", name := "compareToUTF16", desc := "([B[B)I" } : Jvm.MethodName)) ∈ lw_all := lw_g (lw_at lw_m9 216 rfl) rfl
theorem q2248 : (Jvm.Cond.methodLink "java/lang/String" (594 : Nat) ({ cls := "java/lang/StringUTF16", name := "compareToLatin1", desc := "([B[B)I" } : Jvm.MethodName)) ∈ lw_all := lw_g (lw_at lw_m9 227 rfl) rfl
theorem q2274 : (Jvm.Cond.static ({ cls := "java/lang/String", name := "checkOffset", desc := "(II)V" } : Jvm.MethodName)) ∈ lw_all := lw_g (lw_at lw_m10 13 rfl) rfl
theorem q2275 : (Jvm.Cond.code ({ cls := "java/lang/String", name := "checkOffset", desc := "(II)V" } : Jvm.MethodName) prog_45_method_156_code (2 : Nat) (Option.none : Option Jvm.ClassFile.FieldType)) ∈ lw_all := lw_g (lw_at lw_m10 14 rfl) rfl
theorem q2345 : (Jvm.Cond.selects "java/lang/String" ({ cls := "java/lang/Object", name := "equals", desc := "(Ljava/lang/Object;)Z" } : Jvm.MethodName) ({ cls := "java/lang/String", name := "equals", desc := "(Ljava/lang/Object;)Z" } : Jvm.MethodName)) ∈ lw_all := lw_g (lw_at lw_m10 84 rfl) rfl
theorem q2346 : (Jvm.Cond.instanceMethod ({ cls := "java/lang/String", name := "equals", desc := "(Ljava/lang/Object;)Z" } : Jvm.MethodName)) ∈ lw_all := lw_g (lw_at lw_m10 85 rfl) rfl
theorem q2347 : (Jvm.Cond.code ({ cls := "java/lang/String", name := "equals", desc := "(Ljava/lang/Object;)Z" } : Jvm.MethodName) prog_45_method_66_code (3 : Nat) (Option.some Jvm.ClassFile.FieldType.boolean)) ∈ lw_all := lw_g (lw_at lw_m10 86 rfl) rfl
theorem q2348 : (Jvm.Cond.methodLink "java/lang/String" (541 : Nat) ({ cls := "java/lang/StringLatin1", name := "equals", desc := "([B[B)Z" } : Jvm.MethodName)) ∈ lw_all := lw_g (lw_at lw_m10 87 rfl) rfl
theorem q3852 : (Jvm.Cond.castable "java/lang/String" "java/lang/Object") ∈ lw_tbl := lw_at lw_m16 151 rfl
theorem in_J9 : ∀ w ∈ wsJ90, w ∈ lw_all := lw_in wsJ90 [514, 516, 518, 520] (by decide +kernel) (by decide +kernel)

-- J12.java_lang_Math.lean.txt
/-! java/lang/Math -/
set_option maxRecDepth 100000
def RJ12 : String := "java/lang/Math"
abbrev cJ12_max : ByteArray := prog_40_method_65_code
def yJ12_max : MethodName := ⟨RJ12, "max", "(II)I"⟩
def dkwJ12_max_0 : List UInt8 := [26, 27, 161, 0, 7, 26, 167, 0, 4, 27, 172]
abbrev dktJ12_max_0 : List UInt8 := dkwJ12_max_0 ++ []
theorem dksJ12_max_0 : cJ12_max.data.toList.drop 0 = dktJ12_max_0 := by decide +kernel
theorem dJ12_max_0 : decode cJ12_max 0 = .ok (.iload_n 0, 1) := dk_26 (dk_at dksJ12_max_0 0 rfl rfl)
theorem dJ12_max_1 : decode cJ12_max 1 = .ok (.iload_n 1, 1) := dk_27 (dk_at dksJ12_max_0 1 rfl rfl)
theorem dJ12_max_2 : decode cJ12_max 2 = .ok (.if_icmp .lt 7, 3) := dk_161 0 7 (dk_at dksJ12_max_0 2 rfl rfl)
theorem dJ12_max_5 : decode cJ12_max 5 = .ok (.iload_n 0, 1) := dk_26 (dk_at dksJ12_max_0 5 rfl rfl)
theorem dJ12_max_6 : decode cJ12_max 6 = .ok (.goto 4, 3) := dk_167 0 4 (dk_at dksJ12_max_0 6 rfl rfl)
theorem dJ12_max_9 : decode cJ12_max 9 = .ok (.iload_n 1, 1) := dk_27 (dk_at dksJ12_max_0 9 rfl rfl)
theorem dJ12_max_10 : decode cJ12_max 10 = .ok (.ireturn, 1) := dk_172 (dk_at dksJ12_max_0 10 rfl rfl)
abbrev cJ12_min : ByteArray := prog_40_method_69_code
def yJ12_min : MethodName := ⟨RJ12, "min", "(II)I"⟩
def dkwJ12_min_0 : List UInt8 := [26, 27, 163, 0, 7, 26, 167, 0, 4, 27, 172]
abbrev dktJ12_min_0 : List UInt8 := dkwJ12_min_0 ++ []
theorem dksJ12_min_0 : cJ12_min.data.toList.drop 0 = dktJ12_min_0 := by decide +kernel
theorem dJ12_min_0 : decode cJ12_min 0 = .ok (.iload_n 0, 1) := dk_26 (dk_at dksJ12_min_0 0 rfl rfl)
theorem dJ12_min_1 : decode cJ12_min 1 = .ok (.iload_n 1, 1) := dk_27 (dk_at dksJ12_min_0 1 rfl rfl)
theorem dJ12_min_2 : decode cJ12_min 2 = .ok (.if_icmp .gt 7, 3) := dk_163 0 7 (dk_at dksJ12_min_0 2 rfl rfl)
theorem dJ12_min_5 : decode cJ12_min 5 = .ok (.iload_n 0, 1) := dk_26 (dk_at dksJ12_min_0 5 rfl rfl)
theorem dJ12_min_6 : decode cJ12_min 6 = .ok (.goto 4, 3) := dk_167 0 4 (dk_at dksJ12_min_0 6 rfl rfl)
theorem dJ12_min_9 : decode cJ12_min 9 = .ok (.iload_n 1, 1) := dk_27 (dk_at dksJ12_min_0 9 rfl rfl)
theorem dJ12_min_10 : decode cJ12_min 10 = .ok (.ireturn, 1) := dk_172 (dk_at dksJ12_min_0 10 rfl rfl)
abbrev cJ12_min_2 : ByteArray := prog_40_method_70_code
def yJ12_min_2 : MethodName := ⟨RJ12, "min", "(JJ)J"⟩
def dkwJ12_min_2_0 : List UInt8 := [30, 32, 148, 157, 0, 7, 30, 167, 0, 4, 32, 173]
abbrev dktJ12_min_2_0 : List UInt8 := dkwJ12_min_2_0 ++ []
theorem dksJ12_min_2_0 : cJ12_min_2.data.toList.drop 0 = dktJ12_min_2_0 := by decide +kernel
theorem dJ12_min_2_0 : decode cJ12_min_2 0 = .ok (.lload_n 0, 1) := dk_30 (dk_at dksJ12_min_2_0 0 rfl rfl)
theorem dJ12_min_2_1 : decode cJ12_min_2 1 = .ok (.lload_n 2, 1) := dk_32 (dk_at dksJ12_min_2_0 1 rfl rfl)
theorem dJ12_min_2_2 : decode cJ12_min_2 2 = .ok (.lcmp, 1) := dk_148 (dk_at dksJ12_min_2_0 2 rfl rfl)
theorem dJ12_min_2_3 : decode cJ12_min_2 3 = .ok (.ifCond .gt 7, 3) := dk_157 0 7 (dk_at dksJ12_min_2_0 3 rfl rfl)
theorem dJ12_min_2_6 : decode cJ12_min_2 6 = .ok (.lload_n 0, 1) := dk_30 (dk_at dksJ12_min_2_0 6 rfl rfl)
theorem dJ12_min_2_7 : decode cJ12_min_2 7 = .ok (.goto 4, 3) := dk_167 0 4 (dk_at dksJ12_min_2_0 7 rfl rfl)
theorem dJ12_min_2_10 : decode cJ12_min_2 10 = .ok (.lload_n 2, 1) := dk_32 (dk_at dksJ12_min_2_0 10 rfl rfl)
theorem dJ12_min_2_11 : decode cJ12_min_2 11 = .ok (.lreturn, 1) := dk_173 (dk_at dksJ12_min_2_0 11 rfl rfl)
abbrev cJ12_max_2 : ByteArray := prog_40_method_66_code
def yJ12_max_2 : MethodName := ⟨RJ12, "max", "(JJ)J"⟩
def dkwJ12_max_2_0 : List UInt8 := [30, 32, 148, 155, 0, 7, 30, 167, 0, 4, 32, 173]
abbrev dktJ12_max_2_0 : List UInt8 := dkwJ12_max_2_0 ++ []
theorem dksJ12_max_2_0 : cJ12_max_2.data.toList.drop 0 = dktJ12_max_2_0 := by decide +kernel
theorem dJ12_max_2_0 : decode cJ12_max_2 0 = .ok (.lload_n 0, 1) := dk_30 (dk_at dksJ12_max_2_0 0 rfl rfl)
theorem dJ12_max_2_1 : decode cJ12_max_2 1 = .ok (.lload_n 2, 1) := dk_32 (dk_at dksJ12_max_2_0 1 rfl rfl)
theorem dJ12_max_2_2 : decode cJ12_max_2 2 = .ok (.lcmp, 1) := dk_148 (dk_at dksJ12_max_2_0 2 rfl rfl)
theorem dJ12_max_2_3 : decode cJ12_max_2 3 = .ok (.ifCond .lt 7, 3) := dk_155 0 7 (dk_at dksJ12_max_2_0 3 rfl rfl)
theorem dJ12_max_2_6 : decode cJ12_max_2 6 = .ok (.lload_n 0, 1) := dk_30 (dk_at dksJ12_max_2_0 6 rfl rfl)
theorem dJ12_max_2_7 : decode cJ12_max_2 7 = .ok (.goto 4, 3) := dk_167 0 4 (dk_at dksJ12_max_2_0 7 rfl rfl)
theorem dJ12_max_2_10 : decode cJ12_max_2 10 = .ok (.lload_n 2, 1) := dk_32 (dk_at dksJ12_max_2_0 10 rfl rfl)
theorem dJ12_max_2_11 : decode cJ12_max_2 11 = .ok (.lreturn, 1) := dk_173 (dk_at dksJ12_max_2_0 11 rfl rfl)
abbrev cJ12_abs : ByteArray := prog_40_method_59_code
def yJ12_abs : MethodName := ⟨RJ12, "abs", "(I)I"⟩
def dkwJ12_abs_0 : List UInt8 := [26, 156, 0, 8, 26, 116, 167, 0, 4, 26, 172]
abbrev dktJ12_abs_0 : List UInt8 := dkwJ12_abs_0 ++ []
theorem dksJ12_abs_0 : cJ12_abs.data.toList.drop 0 = dktJ12_abs_0 := by decide +kernel
theorem dJ12_abs_0 : decode cJ12_abs 0 = .ok (.iload_n 0, 1) := dk_26 (dk_at dksJ12_abs_0 0 rfl rfl)
theorem dJ12_abs_1 : decode cJ12_abs 1 = .ok (.ifCond .ge 8, 3) := dk_156 0 8 (dk_at dksJ12_abs_0 1 rfl rfl)
theorem dJ12_abs_4 : decode cJ12_abs 4 = .ok (.iload_n 0, 1) := dk_26 (dk_at dksJ12_abs_0 4 rfl rfl)
theorem dJ12_abs_5 : decode cJ12_abs 5 = .ok (.ineg, 1) := dk_116 (dk_at dksJ12_abs_0 5 rfl rfl)
theorem dJ12_abs_6 : decode cJ12_abs 6 = .ok (.goto 4, 3) := dk_167 0 4 (dk_at dksJ12_abs_0 6 rfl rfl)
theorem dJ12_abs_9 : decode cJ12_abs 9 = .ok (.iload_n 0, 1) := dk_26 (dk_at dksJ12_abs_0 9 rfl rfl)
theorem dJ12_abs_10 : decode cJ12_abs 10 = .ok (.ireturn, 1) := dk_172 (dk_at dksJ12_abs_0 10 rfl rfl)
abbrev cJ12_multiplyHigh : ByteArray := prog_40_method_45_code
def yJ12_multiplyHigh : MethodName := ⟨RJ12, "multiplyHigh", "(JJ)J"⟩
def dkwJ12_multiplyHigh_3 : List UInt8 := [22, 4, 22, 8, 105, 22, 18, 97, 22, 16, 16, 32, 123, 97, 173]
abbrev dktJ12_multiplyHigh_3 : List UInt8 := dkwJ12_multiplyHigh_3 ++ []
def dkwJ12_multiplyHigh_2 : List UInt8 := [20, 0, 138, 127, 55, 16, 22, 14, 16, 32, 123, 55, 18, 22, 16, 22, 6, 22, 8, 105, 97, 55, 16]
abbrev dktJ12_multiplyHigh_2 : List UInt8 := dkwJ12_multiplyHigh_2 ++ dktJ12_multiplyHigh_3
def dkwJ12_multiplyHigh_1 : List UInt8 := [55, 10, 22, 6, 22, 10, 105, 55, 12, 22, 4, 22, 10, 105, 22, 12, 16, 32, 125, 97, 55, 14, 22, 14]
abbrev dktJ12_multiplyHigh_1 : List UInt8 := dkwJ12_multiplyHigh_1 ++ dktJ12_multiplyHigh_2
def dkwJ12_multiplyHigh_0 : List UInt8 := [30, 16, 32, 123, 55, 4, 30, 20, 0, 138, 127, 55, 6, 32, 16, 32, 123, 55, 8, 32, 20, 0, 138, 127]
abbrev dktJ12_multiplyHigh_0 : List UInt8 := dkwJ12_multiplyHigh_0 ++ dktJ12_multiplyHigh_1
theorem dksJ12_multiplyHigh_0 : cJ12_multiplyHigh.data.toList.drop 0 = dktJ12_multiplyHigh_0 := by decide +kernel
theorem dksJ12_multiplyHigh_1 : cJ12_multiplyHigh.data.toList.drop 24 = dktJ12_multiplyHigh_1 := dk_seg dksJ12_multiplyHigh_0 24 rfl rfl
theorem dksJ12_multiplyHigh_2 : cJ12_multiplyHigh.data.toList.drop 48 = dktJ12_multiplyHigh_2 := dk_seg dksJ12_multiplyHigh_1 24 rfl rfl
theorem dksJ12_multiplyHigh_3 : cJ12_multiplyHigh.data.toList.drop 71 = dktJ12_multiplyHigh_3 := dk_seg dksJ12_multiplyHigh_2 23 rfl rfl
theorem dJ12_multiplyHigh_0 : decode cJ12_multiplyHigh 0 = .ok (.lload_n 0, 1) := dk_30 (dk_at dksJ12_multiplyHigh_0 0 rfl rfl)
theorem dJ12_multiplyHigh_1 : decode cJ12_multiplyHigh 1 = .ok (.bipush 32, 2) := dk_16 32 (dk_at dksJ12_multiplyHigh_0 1 rfl rfl)
theorem dJ12_multiplyHigh_3 : decode cJ12_multiplyHigh 3 = .ok (.lshr, 1) := dk_123 (dk_at dksJ12_multiplyHigh_0 3 rfl rfl)
theorem dJ12_multiplyHigh_4 : decode cJ12_multiplyHigh 4 = .ok (.lstore 4, 2) := dk_55 4 (dk_at dksJ12_multiplyHigh_0 4 rfl rfl)
theorem dJ12_multiplyHigh_6 : decode cJ12_multiplyHigh 6 = .ok (.lload_n 0, 1) := dk_30 (dk_at dksJ12_multiplyHigh_0 6 rfl rfl)
theorem dJ12_multiplyHigh_7 : decode cJ12_multiplyHigh 7 = .ok (.ldc2_w 138, 3) := dk_20 0 138 (dk_at dksJ12_multiplyHigh_0 7 rfl rfl)
theorem dJ12_multiplyHigh_10 : decode cJ12_multiplyHigh 10 = .ok (.land, 1) := dk_127 (dk_at dksJ12_multiplyHigh_0 10 rfl rfl)
theorem dJ12_multiplyHigh_11 : decode cJ12_multiplyHigh 11 = .ok (.lstore 6, 2) := dk_55 6 (dk_at dksJ12_multiplyHigh_0 11 rfl rfl)
theorem dJ12_multiplyHigh_13 : decode cJ12_multiplyHigh 13 = .ok (.lload_n 2, 1) := dk_32 (dk_at dksJ12_multiplyHigh_0 13 rfl rfl)
theorem dJ12_multiplyHigh_14 : decode cJ12_multiplyHigh 14 = .ok (.bipush 32, 2) := dk_16 32 (dk_at dksJ12_multiplyHigh_0 14 rfl rfl)
theorem dJ12_multiplyHigh_16 : decode cJ12_multiplyHigh 16 = .ok (.lshr, 1) := dk_123 (dk_at dksJ12_multiplyHigh_0 16 rfl rfl)
theorem dJ12_multiplyHigh_17 : decode cJ12_multiplyHigh 17 = .ok (.lstore 8, 2) := dk_55 8 (dk_at dksJ12_multiplyHigh_0 17 rfl rfl)
theorem dJ12_multiplyHigh_19 : decode cJ12_multiplyHigh 19 = .ok (.lload_n 2, 1) := dk_32 (dk_at dksJ12_multiplyHigh_0 19 rfl rfl)
theorem dJ12_multiplyHigh_20 : decode cJ12_multiplyHigh 20 = .ok (.ldc2_w 138, 3) := dk_20 0 138 (dk_at dksJ12_multiplyHigh_0 20 rfl rfl)
theorem dJ12_multiplyHigh_23 : decode cJ12_multiplyHigh 23 = .ok (.land, 1) := dk_127 (dk_at dksJ12_multiplyHigh_0 23 rfl rfl)
theorem dJ12_multiplyHigh_24 : decode cJ12_multiplyHigh 24 = .ok (.lstore 10, 2) := dk_55 10 (dk_at dksJ12_multiplyHigh_1 0 rfl rfl)
theorem dJ12_multiplyHigh_26 : decode cJ12_multiplyHigh 26 = .ok (.lload 6, 2) := dk_22 6 (dk_at dksJ12_multiplyHigh_1 2 rfl rfl)
theorem dJ12_multiplyHigh_28 : decode cJ12_multiplyHigh 28 = .ok (.lload 10, 2) := dk_22 10 (dk_at dksJ12_multiplyHigh_1 4 rfl rfl)
theorem dJ12_multiplyHigh_30 : decode cJ12_multiplyHigh 30 = .ok (.lmul, 1) := dk_105 (dk_at dksJ12_multiplyHigh_1 6 rfl rfl)
theorem dJ12_multiplyHigh_31 : decode cJ12_multiplyHigh 31 = .ok (.lstore 12, 2) := dk_55 12 (dk_at dksJ12_multiplyHigh_1 7 rfl rfl)
theorem dJ12_multiplyHigh_33 : decode cJ12_multiplyHigh 33 = .ok (.lload 4, 2) := dk_22 4 (dk_at dksJ12_multiplyHigh_1 9 rfl rfl)
theorem dJ12_multiplyHigh_35 : decode cJ12_multiplyHigh 35 = .ok (.lload 10, 2) := dk_22 10 (dk_at dksJ12_multiplyHigh_1 11 rfl rfl)
theorem dJ12_multiplyHigh_37 : decode cJ12_multiplyHigh 37 = .ok (.lmul, 1) := dk_105 (dk_at dksJ12_multiplyHigh_1 13 rfl rfl)
theorem dJ12_multiplyHigh_38 : decode cJ12_multiplyHigh 38 = .ok (.lload 12, 2) := dk_22 12 (dk_at dksJ12_multiplyHigh_1 14 rfl rfl)
theorem dJ12_multiplyHigh_40 : decode cJ12_multiplyHigh 40 = .ok (.bipush 32, 2) := dk_16 32 (dk_at dksJ12_multiplyHigh_1 16 rfl rfl)
theorem dJ12_multiplyHigh_42 : decode cJ12_multiplyHigh 42 = .ok (.lushr, 1) := dk_125 (dk_at dksJ12_multiplyHigh_1 18 rfl rfl)
theorem dJ12_multiplyHigh_43 : decode cJ12_multiplyHigh 43 = .ok (.ladd, 1) := dk_97 (dk_at dksJ12_multiplyHigh_1 19 rfl rfl)
theorem dJ12_multiplyHigh_44 : decode cJ12_multiplyHigh 44 = .ok (.lstore 14, 2) := dk_55 14 (dk_at dksJ12_multiplyHigh_1 20 rfl rfl)
theorem dJ12_multiplyHigh_46 : decode cJ12_multiplyHigh 46 = .ok (.lload 14, 2) := dk_22 14 (dk_at dksJ12_multiplyHigh_1 22 rfl rfl)
theorem dJ12_multiplyHigh_48 : decode cJ12_multiplyHigh 48 = .ok (.ldc2_w 138, 3) := dk_20 0 138 (dk_at dksJ12_multiplyHigh_2 0 rfl rfl)
theorem dJ12_multiplyHigh_51 : decode cJ12_multiplyHigh 51 = .ok (.land, 1) := dk_127 (dk_at dksJ12_multiplyHigh_2 3 rfl rfl)
theorem dJ12_multiplyHigh_52 : decode cJ12_multiplyHigh 52 = .ok (.lstore 16, 2) := dk_55 16 (dk_at dksJ12_multiplyHigh_2 4 rfl rfl)
theorem dJ12_multiplyHigh_54 : decode cJ12_multiplyHigh 54 = .ok (.lload 14, 2) := dk_22 14 (dk_at dksJ12_multiplyHigh_2 6 rfl rfl)
theorem dJ12_multiplyHigh_56 : decode cJ12_multiplyHigh 56 = .ok (.bipush 32, 2) := dk_16 32 (dk_at dksJ12_multiplyHigh_2 8 rfl rfl)
theorem dJ12_multiplyHigh_58 : decode cJ12_multiplyHigh 58 = .ok (.lshr, 1) := dk_123 (dk_at dksJ12_multiplyHigh_2 10 rfl rfl)
theorem dJ12_multiplyHigh_59 : decode cJ12_multiplyHigh 59 = .ok (.lstore 18, 2) := dk_55 18 (dk_at dksJ12_multiplyHigh_2 11 rfl rfl)
theorem dJ12_multiplyHigh_61 : decode cJ12_multiplyHigh 61 = .ok (.lload 16, 2) := dk_22 16 (dk_at dksJ12_multiplyHigh_2 13 rfl rfl)
theorem dJ12_multiplyHigh_63 : decode cJ12_multiplyHigh 63 = .ok (.lload 6, 2) := dk_22 6 (dk_at dksJ12_multiplyHigh_2 15 rfl rfl)
theorem dJ12_multiplyHigh_65 : decode cJ12_multiplyHigh 65 = .ok (.lload 8, 2) := dk_22 8 (dk_at dksJ12_multiplyHigh_2 17 rfl rfl)
theorem dJ12_multiplyHigh_67 : decode cJ12_multiplyHigh 67 = .ok (.lmul, 1) := dk_105 (dk_at dksJ12_multiplyHigh_2 19 rfl rfl)
theorem dJ12_multiplyHigh_68 : decode cJ12_multiplyHigh 68 = .ok (.ladd, 1) := dk_97 (dk_at dksJ12_multiplyHigh_2 20 rfl rfl)
theorem dJ12_multiplyHigh_69 : decode cJ12_multiplyHigh 69 = .ok (.lstore 16, 2) := dk_55 16 (dk_at dksJ12_multiplyHigh_2 21 rfl rfl)
theorem dJ12_multiplyHigh_71 : decode cJ12_multiplyHigh 71 = .ok (.lload 4, 2) := dk_22 4 (dk_at dksJ12_multiplyHigh_3 0 rfl rfl)
theorem dJ12_multiplyHigh_73 : decode cJ12_multiplyHigh 73 = .ok (.lload 8, 2) := dk_22 8 (dk_at dksJ12_multiplyHigh_3 2 rfl rfl)
theorem dJ12_multiplyHigh_75 : decode cJ12_multiplyHigh 75 = .ok (.lmul, 1) := dk_105 (dk_at dksJ12_multiplyHigh_3 4 rfl rfl)
theorem dJ12_multiplyHigh_76 : decode cJ12_multiplyHigh 76 = .ok (.lload 18, 2) := dk_22 18 (dk_at dksJ12_multiplyHigh_3 5 rfl rfl)
theorem dJ12_multiplyHigh_78 : decode cJ12_multiplyHigh 78 = .ok (.ladd, 1) := dk_97 (dk_at dksJ12_multiplyHigh_3 7 rfl rfl)
theorem dJ12_multiplyHigh_79 : decode cJ12_multiplyHigh 79 = .ok (.lload 16, 2) := dk_22 16 (dk_at dksJ12_multiplyHigh_3 8 rfl rfl)
theorem dJ12_multiplyHigh_81 : decode cJ12_multiplyHigh 81 = .ok (.bipush 32, 2) := dk_16 32 (dk_at dksJ12_multiplyHigh_3 10 rfl rfl)
theorem dJ12_multiplyHigh_83 : decode cJ12_multiplyHigh 83 = .ok (.lshr, 1) := dk_123 (dk_at dksJ12_multiplyHigh_3 12 rfl rfl)
theorem dJ12_multiplyHigh_84 : decode cJ12_multiplyHigh 84 = .ok (.ladd, 1) := dk_97 (dk_at dksJ12_multiplyHigh_3 13 rfl rfl)
theorem dJ12_multiplyHigh_85 : decode cJ12_multiplyHigh 85 = .ok (.lreturn, 1) := dk_173 (dk_at dksJ12_multiplyHigh_3 14 rfl rfl)
abbrev cJ12_ceil : ByteArray := prog_40_method_16_code
def yJ12_ceil : MethodName := ⟨RJ12, "ceil", "(D)D"⟩
theorem dJ12_ceil_0 : decode cJ12_ceil 0 = .ok (.dload_n 0, 1) := by decide +kernel
theorem dJ12_ceil_1 : decode cJ12_ceil 1 = .ok (.invokestatic 53, 3) := by decide +kernel
theorem dJ12_ceil_4 : decode cJ12_ceil 4 = .ok (.dreturn, 1) := by decide +kernel
abbrev cJ12_getExponent : ByteArray := prog_40_method_92_code
def yJ12_getExponent : MethodName := ⟨RJ12, "getExponent", "(D)I"⟩
def dkwJ12_getExponent_0 : List UInt8 := [38, 184, 0, 79, 20, 0, 87, 127, 16, 52, 123, 20, 1, 66, 101, 136, 172]
abbrev dktJ12_getExponent_0 : List UInt8 := dkwJ12_getExponent_0 ++ []
theorem dksJ12_getExponent_0 : cJ12_getExponent.data.toList.drop 0 = dktJ12_getExponent_0 := by decide +kernel
theorem dJ12_getExponent_0 : decode cJ12_getExponent 0 = .ok (.dload_n 0, 1) := dk_38 (dk_at dksJ12_getExponent_0 0 rfl rfl)
theorem dJ12_getExponent_1 : decode cJ12_getExponent 1 = .ok (.invokestatic 79, 3) := dk_184 0 79 (dk_at dksJ12_getExponent_0 1 rfl rfl)
theorem dJ12_getExponent_4 : decode cJ12_getExponent 4 = .ok (.ldc2_w 87, 3) := dk_20 0 87 (dk_at dksJ12_getExponent_0 4 rfl rfl)
theorem dJ12_getExponent_7 : decode cJ12_getExponent 7 = .ok (.land, 1) := dk_127 (dk_at dksJ12_getExponent_0 7 rfl rfl)
theorem dJ12_getExponent_8 : decode cJ12_getExponent 8 = .ok (.bipush 52, 2) := dk_16 52 (dk_at dksJ12_getExponent_0 8 rfl rfl)
theorem dJ12_getExponent_10 : decode cJ12_getExponent 10 = .ok (.lshr, 1) := dk_123 (dk_at dksJ12_getExponent_0 10 rfl rfl)
theorem dJ12_getExponent_11 : decode cJ12_getExponent 11 = .ok (.ldc2_w 322, 3) := dk_20 1 66 (dk_at dksJ12_getExponent_0 11 rfl rfl)
theorem dJ12_getExponent_14 : decode cJ12_getExponent 14 = .ok (.lsub, 1) := dk_101 (dk_at dksJ12_getExponent_0 14 rfl rfl)
theorem dJ12_getExponent_15 : decode cJ12_getExponent 15 = .ok (.l2i, 1) := dk_136 (dk_at dksJ12_getExponent_0 15 rfl rfl)
theorem dJ12_getExponent_16 : decode cJ12_getExponent 16 = .ok (.ireturn, 1) := dk_172 (dk_at dksJ12_getExponent_0 16 rfl rfl)
theorem q116 : (Jvm.Cond.initialized "java/lang/Math") ∈ lw_all := lw_g (lw_at lw_m1 15 rfl) rfl
theorem q307 : (Jvm.Cond.static ({ cls := "java/lang/Math", name := "max", desc := "(II)I" } : Jvm.MethodName)) ∈ lw_all := lw_g (lw_at lw_m1 206 rfl) rfl
theorem q308 : (Jvm.Cond.code ({ cls := "java/lang/Math", name := "max", desc := "(II)I" } : Jvm.MethodName) prog_40_method_65_code (2 : Nat) (Option.some Jvm.ClassFile.FieldType.int)) ∈ lw_all := lw_g (lw_at lw_m1 207 rfl) rfl
theorem q325 : (Jvm.Cond.static ({ cls := "java/lang/Math", name := "min", desc := "(II)I" } : Jvm.MethodName)) ∈ lw_all := lw_g (lw_at lw_m1 224 rfl) rfl
theorem q326 : (Jvm.Cond.code ({ cls := "java/lang/Math", name := "min", desc := "(II)I" } : Jvm.MethodName) prog_40_method_69_code (2 : Nat) (Option.some Jvm.ClassFile.FieldType.int)) ∈ lw_all := lw_g (lw_at lw_m1 225 rfl) rfl
theorem q1236 : (Jvm.Cond.static ({ cls := "java/lang/Math", name := "min", desc := "(JJ)J" } : Jvm.MethodName)) ∈ lw_all := lw_g (lw_at lw_m5 175 rfl) rfl
theorem q1237 : (Jvm.Cond.code ({ cls := "java/lang/Math", name := "min", desc := "(JJ)J" } : Jvm.MethodName) prog_40_method_70_code (4 : Nat) (Option.some Jvm.ClassFile.FieldType.long)) ∈ lw_all := lw_g (lw_at lw_m5 176 rfl) rfl
theorem q1239 : (Jvm.Cond.static ({ cls := "java/lang/Math", name := "max", desc := "(JJ)J" } : Jvm.MethodName)) ∈ lw_all := lw_g (lw_at lw_m5 178 rfl) rfl
theorem q1240 : (Jvm.Cond.code ({ cls := "java/lang/Math", name := "max", desc := "(JJ)J" } : Jvm.MethodName) prog_40_method_66_code (4 : Nat) (Option.some Jvm.ClassFile.FieldType.long)) ∈ lw_all := lw_g (lw_at lw_m5 179 rfl) rfl
theorem q1293 : (Jvm.Cond.static ({ cls := "java/lang/Math", name := "abs", desc := "(I)I" } : Jvm.MethodName)) ∈ lw_all := lw_g (lw_at lw_m5 232 rfl) rfl
theorem q1294 : (Jvm.Cond.code ({ cls := "java/lang/Math", name := "abs", desc := "(I)I" } : Jvm.MethodName) prog_40_method_59_code (1 : Nat) (Option.some Jvm.ClassFile.FieldType.int)) ∈ lw_all := lw_g (lw_at lw_m5 233 rfl) rfl
theorem q1407 : (Jvm.Cond.static ({ cls := "java/lang/Math", name := "multiplyHigh", desc := "(JJ)J" } : Jvm.MethodName)) ∈ lw_all := lw_g (lw_at lw_m6 106 rfl) rfl
theorem q1408 : (Jvm.Cond.code ({ cls := "java/lang/Math", name := "multiplyHigh", desc := "(JJ)J" } : Jvm.MethodName) prog_40_method_45_code (20 : Nat) (Option.some Jvm.ClassFile.FieldType.long)) ∈ lw_all := lw_g (lw_at lw_m6 107 rfl) rfl
theorem q1409 : (Jvm.Cond.constantLong "java/lang/Math" (138 : Nat) (4294967295 : Int64)) ∈ lw_all := lw_g (lw_at lw_m6 108 rfl) rfl
theorem q2492 : (Jvm.Cond.static ({ cls := "java/lang/Math", name := "ceil", desc := "(D)D" } : Jvm.MethodName)) ∈ lw_all := lw_g (lw_at lw_m10 231 rfl) rfl
theorem q2493 : (Jvm.Cond.code ({ cls := "java/lang/Math", name := "ceil", desc := "(D)D" } : Jvm.MethodName) prog_40_method_16_code (2 : Nat) (Option.some Jvm.ClassFile.FieldType.double)) ∈ lw_all := lw_g (lw_at lw_m10 232 rfl) rfl
theorem q2494 : (Jvm.Cond.methodLink "java/lang/Math" (53 : Nat) ({ cls := "java/lang/StrictMath", name := "ceil", desc := "(D)D" } : Jvm.MethodName)) ∈ lw_all := lw_g (lw_at lw_m10 233 rfl) rfl
theorem q2502 : (Jvm.Cond.static ({ cls := "java/lang/Math", name := "getExponent", desc := "(D)I" } : Jvm.MethodName)) ∈ lw_all := lw_g (lw_at lw_m11 1 rfl) rfl
theorem q2503 : (Jvm.Cond.code ({ cls := "java/lang/Math", name := "getExponent", desc := "(D)I" } : Jvm.MethodName) prog_40_method_92_code (2 : Nat) (Option.some Jvm.ClassFile.FieldType.int)) ∈ lw_all := lw_g (lw_at lw_m11 2 rfl) rfl
theorem q2504 : (Jvm.Cond.methodLink "java/lang/Math" (79 : Nat) ({ cls := "java/lang/Double", name := "doubleToRawLongBits", desc := "(D)J" } : Jvm.MethodName)) ∈ lw_all := lw_g (lw_at lw_m11 3 rfl) rfl
theorem q2507 : (Jvm.Cond.constantLong "java/lang/Math" (87 : Nat) (9218868437227405312 : Int64)) ∈ lw_all := lw_g (lw_at lw_m11 6 rfl) rfl
theorem q2508 : (Jvm.Cond.constantLong "java/lang/Math" (322 : Nat) (1023 : Int64)) ∈ lw_all := lw_g (lw_at lw_m11 7 rfl) rfl

-- J13.java_util_Arrays.lean.txt
/-! java/util/Arrays -/
set_option maxRecDepth 100000
def RJ13 : String := "java/util/Arrays"
abbrev cJ13_copyOf : ByteArray := prog_63_method_121_code
def yJ13_copyOf : MethodName := ⟨RJ13, "copyOf", "([BI)[B"⟩
def dkwJ13_copyOf_1 : List UInt8 := [27, 184, 1, 48, 184, 0, 150, 44, 176]
abbrev dktJ13_copyOf_1 : List UInt8 := dkwJ13_copyOf_1 ++ []
def dkwJ13_copyOf_0 : List UInt8 := [27, 42, 190, 160, 0, 11, 42, 182, 1, 54, 192, 1, 55, 176, 27, 188, 8, 77, 42, 3, 44, 3, 42, 190]
abbrev dktJ13_copyOf_0 : List UInt8 := dkwJ13_copyOf_0 ++ dktJ13_copyOf_1
theorem dksJ13_copyOf_0 : cJ13_copyOf.data.toList.drop 0 = dktJ13_copyOf_0 := by decide +kernel
theorem dksJ13_copyOf_1 : cJ13_copyOf.data.toList.drop 24 = dktJ13_copyOf_1 := dk_seg dksJ13_copyOf_0 24 rfl rfl
theorem dJ13_copyOf_0 : decode cJ13_copyOf 0 = .ok (.iload_n 1, 1) := dk_27 (dk_at dksJ13_copyOf_0 0 rfl rfl)
theorem dJ13_copyOf_1 : decode cJ13_copyOf 1 = .ok (.aload_n 0, 1) := dk_42 (dk_at dksJ13_copyOf_0 1 rfl rfl)
theorem dJ13_copyOf_2 : decode cJ13_copyOf 2 = .ok (.arraylength, 1) := dk_190 (dk_at dksJ13_copyOf_0 2 rfl rfl)
theorem dJ13_copyOf_3 : decode cJ13_copyOf 3 = .ok (.if_icmp .ne 11, 3) := dk_160 0 11 (dk_at dksJ13_copyOf_0 3 rfl rfl)
theorem dJ13_copyOf_6 : decode cJ13_copyOf 6 = .ok (.aload_n 0, 1) := dk_42 (dk_at dksJ13_copyOf_0 6 rfl rfl)
theorem dJ13_copyOf_7 : decode cJ13_copyOf 7 = .ok (.invokevirtual 310, 3) := dk_182 1 54 (dk_at dksJ13_copyOf_0 7 rfl rfl)
theorem dJ13_copyOf_10 : decode cJ13_copyOf 10 = .ok (.checkcast 311, 3) := dk_192 1 55 (dk_at dksJ13_copyOf_0 10 rfl rfl)
theorem dJ13_copyOf_13 : decode cJ13_copyOf 13 = .ok (.areturn, 1) := dk_176 (dk_at dksJ13_copyOf_0 13 rfl rfl)
theorem dJ13_copyOf_14 : decode cJ13_copyOf 14 = .ok (.iload_n 1, 1) := dk_27 (dk_at dksJ13_copyOf_0 14 rfl rfl)
theorem dJ13_copyOf_15 : decode cJ13_copyOf 15 = .ok (.newarray .byte, 2) := dk_188_8 (dk_at dksJ13_copyOf_0 15 rfl rfl)
theorem dJ13_copyOf_17 : decode cJ13_copyOf 17 = .ok (.astore_n 2, 1) := dk_77 (dk_at dksJ13_copyOf_0 17 rfl rfl)
theorem dJ13_copyOf_18 : decode cJ13_copyOf 18 = .ok (.aload_n 0, 1) := dk_42 (dk_at dksJ13_copyOf_0 18 rfl rfl)
theorem dJ13_copyOf_19 : decode cJ13_copyOf 19 = .ok (.iconst 0, 1) := dk_3 (dk_at dksJ13_copyOf_0 19 rfl rfl)
theorem dJ13_copyOf_20 : decode cJ13_copyOf 20 = .ok (.aload_n 2, 1) := dk_44 (dk_at dksJ13_copyOf_0 20 rfl rfl)
theorem dJ13_copyOf_21 : decode cJ13_copyOf 21 = .ok (.iconst 0, 1) := dk_3 (dk_at dksJ13_copyOf_0 21 rfl rfl)
theorem dJ13_copyOf_22 : decode cJ13_copyOf 22 = .ok (.aload_n 0, 1) := dk_42 (dk_at dksJ13_copyOf_0 22 rfl rfl)
theorem dJ13_copyOf_23 : decode cJ13_copyOf 23 = .ok (.arraylength, 1) := dk_190 (dk_at dksJ13_copyOf_0 23 rfl rfl)
theorem dJ13_copyOf_24 : decode cJ13_copyOf 24 = .ok (.iload_n 1, 1) := dk_27 (dk_at dksJ13_copyOf_1 0 rfl rfl)
theorem dJ13_copyOf_25 : decode cJ13_copyOf 25 = .ok (.invokestatic 304, 3) := dk_184 1 48 (dk_at dksJ13_copyOf_1 1 rfl rfl)
theorem dJ13_copyOf_28 : decode cJ13_copyOf 28 = .ok (.invokestatic 150, 3) := dk_184 0 150 (dk_at dksJ13_copyOf_1 4 rfl rfl)
theorem dJ13_copyOf_31 : decode cJ13_copyOf 31 = .ok (.aload_n 2, 1) := dk_44 (dk_at dksJ13_copyOf_1 7 rfl rfl)
theorem dJ13_copyOf_32 : decode cJ13_copyOf 32 = .ok (.areturn, 1) := dk_176 (dk_at dksJ13_copyOf_1 8 rfl rfl)
abbrev cJ13_copyOfRange : ByteArray := prog_63_method_132_code
def yJ13_copyOfRange : MethodName := ⟨RJ13, "copyOfRange", "([BII)[B"⟩
def dkwJ13_copyOfRange_1 : List UInt8 := [176]
abbrev dktJ13_copyOfRange_1 : List UInt8 := dkwJ13_copyOfRange_1 ++ []
def dkwJ13_copyOfRange_0 : List UInt8 := [27, 154, 0, 9, 28, 42, 190, 159, 0, 10, 42, 27, 28, 184, 1, 83, 176, 42, 182, 1, 54, 192, 1, 55]
abbrev dktJ13_copyOfRange_0 : List UInt8 := dkwJ13_copyOfRange_0 ++ dktJ13_copyOfRange_1
theorem dksJ13_copyOfRange_0 : cJ13_copyOfRange.data.toList.drop 0 = dktJ13_copyOfRange_0 := by decide +kernel
theorem dksJ13_copyOfRange_1 : cJ13_copyOfRange.data.toList.drop 24 = dktJ13_copyOfRange_1 := dk_seg dksJ13_copyOfRange_0 24 rfl rfl
theorem dJ13_copyOfRange_0 : decode cJ13_copyOfRange 0 = .ok (.iload_n 1, 1) := dk_27 (dk_at dksJ13_copyOfRange_0 0 rfl rfl)
theorem dJ13_copyOfRange_1 : decode cJ13_copyOfRange 1 = .ok (.ifCond .ne 9, 3) := dk_154 0 9 (dk_at dksJ13_copyOfRange_0 1 rfl rfl)
theorem dJ13_copyOfRange_4 : decode cJ13_copyOfRange 4 = .ok (.iload_n 2, 1) := dk_28 (dk_at dksJ13_copyOfRange_0 4 rfl rfl)
theorem dJ13_copyOfRange_5 : decode cJ13_copyOfRange 5 = .ok (.aload_n 0, 1) := dk_42 (dk_at dksJ13_copyOfRange_0 5 rfl rfl)
theorem dJ13_copyOfRange_6 : decode cJ13_copyOfRange 6 = .ok (.arraylength, 1) := dk_190 (dk_at dksJ13_copyOfRange_0 6 rfl rfl)
theorem dJ13_copyOfRange_7 : decode cJ13_copyOfRange 7 = .ok (.if_icmp .eq 10, 3) := dk_159 0 10 (dk_at dksJ13_copyOfRange_0 7 rfl rfl)
theorem dJ13_copyOfRange_10 : decode cJ13_copyOfRange 10 = .ok (.aload_n 0, 1) := dk_42 (dk_at dksJ13_copyOfRange_0 10 rfl rfl)
theorem dJ13_copyOfRange_11 : decode cJ13_copyOfRange 11 = .ok (.iload_n 1, 1) := dk_27 (dk_at dksJ13_copyOfRange_0 11 rfl rfl)
theorem dJ13_copyOfRange_12 : decode cJ13_copyOfRange 12 = .ok (.iload_n 2, 1) := dk_28 (dk_at dksJ13_copyOfRange_0 12 rfl rfl)
theorem dJ13_copyOfRange_13 : decode cJ13_copyOfRange 13 = .ok (.invokestatic 339, 3) := dk_184 1 83 (dk_at dksJ13_copyOfRange_0 13 rfl rfl)
theorem dJ13_copyOfRange_16 : decode cJ13_copyOfRange 16 = .ok (.areturn, 1) := dk_176 (dk_at dksJ13_copyOfRange_0 16 rfl rfl)
theorem dJ13_copyOfRange_17 : decode cJ13_copyOfRange 17 = .ok (.aload_n 0, 1) := dk_42 (dk_at dksJ13_copyOfRange_0 17 rfl rfl)
theorem dJ13_copyOfRange_18 : decode cJ13_copyOfRange 18 = .ok (.invokevirtual 310, 3) := dk_182 1 54 (dk_at dksJ13_copyOfRange_0 18 rfl rfl)
theorem dJ13_copyOfRange_21 : decode cJ13_copyOfRange 21 = .ok (.checkcast 311, 3) := dk_192 1 55 (dk_at dksJ13_copyOfRange_0 21 rfl rfl)
theorem dJ13_copyOfRange_24 : decode cJ13_copyOfRange 24 = .ok (.areturn, 1) := dk_176 (dk_at dksJ13_copyOfRange_1 0 rfl rfl)
abbrev cJ13_copyOfRangeByte : ByteArray := prog_63_method_133_code
def yJ13_copyOfRangeByte : MethodName := ⟨RJ13, "copyOfRangeByte", "([BII)[B"⟩
def dkwJ13_copyOfRangeByte_1 : List UInt8 := [184, 1, 48, 184, 0, 150, 25, 4, 176]
abbrev dktJ13_copyOfRangeByte_1 : List UInt8 := dkwJ13_copyOfRangeByte_1 ++ []
def dkwJ13_copyOfRangeByte_0 : List UInt8 := [27, 28, 184, 1, 87, 28, 27, 100, 62, 29, 188, 8, 58, 4, 42, 27, 25, 4, 3, 42, 190, 27, 100, 29]
abbrev dktJ13_copyOfRangeByte_0 : List UInt8 := dkwJ13_copyOfRangeByte_0 ++ dktJ13_copyOfRangeByte_1
theorem dksJ13_copyOfRangeByte_0 : cJ13_copyOfRangeByte.data.toList.drop 0 = dktJ13_copyOfRangeByte_0 := by decide +kernel
theorem dksJ13_copyOfRangeByte_1 : cJ13_copyOfRangeByte.data.toList.drop 24 = dktJ13_copyOfRangeByte_1 := dk_seg dksJ13_copyOfRangeByte_0 24 rfl rfl
theorem dJ13_copyOfRangeByte_0 : decode cJ13_copyOfRangeByte 0 = .ok (.iload_n 1, 1) := dk_27 (dk_at dksJ13_copyOfRangeByte_0 0 rfl rfl)
theorem dJ13_copyOfRangeByte_1 : decode cJ13_copyOfRangeByte 1 = .ok (.iload_n 2, 1) := dk_28 (dk_at dksJ13_copyOfRangeByte_0 1 rfl rfl)
theorem dJ13_copyOfRangeByte_2 : decode cJ13_copyOfRangeByte 2 = .ok (.invokestatic 343, 3) := dk_184 1 87 (dk_at dksJ13_copyOfRangeByte_0 2 rfl rfl)
theorem dJ13_copyOfRangeByte_5 : decode cJ13_copyOfRangeByte 5 = .ok (.iload_n 2, 1) := dk_28 (dk_at dksJ13_copyOfRangeByte_0 5 rfl rfl)
theorem dJ13_copyOfRangeByte_6 : decode cJ13_copyOfRangeByte 6 = .ok (.iload_n 1, 1) := dk_27 (dk_at dksJ13_copyOfRangeByte_0 6 rfl rfl)
theorem dJ13_copyOfRangeByte_7 : decode cJ13_copyOfRangeByte 7 = .ok (.isub, 1) := dk_100 (dk_at dksJ13_copyOfRangeByte_0 7 rfl rfl)
theorem dJ13_copyOfRangeByte_8 : decode cJ13_copyOfRangeByte 8 = .ok (.istore_n 3, 1) := dk_62 (dk_at dksJ13_copyOfRangeByte_0 8 rfl rfl)
theorem dJ13_copyOfRangeByte_9 : decode cJ13_copyOfRangeByte 9 = .ok (.iload_n 3, 1) := dk_29 (dk_at dksJ13_copyOfRangeByte_0 9 rfl rfl)
theorem dJ13_copyOfRangeByte_10 : decode cJ13_copyOfRangeByte 10 = .ok (.newarray .byte, 2) := dk_188_8 (dk_at dksJ13_copyOfRangeByte_0 10 rfl rfl)
theorem dJ13_copyOfRangeByte_12 : decode cJ13_copyOfRangeByte 12 = .ok (.astore 4, 2) := dk_58 4 (dk_at dksJ13_copyOfRangeByte_0 12 rfl rfl)
theorem dJ13_copyOfRangeByte_14 : decode cJ13_copyOfRangeByte 14 = .ok (.aload_n 0, 1) := dk_42 (dk_at dksJ13_copyOfRangeByte_0 14 rfl rfl)
theorem dJ13_copyOfRangeByte_15 : decode cJ13_copyOfRangeByte 15 = .ok (.iload_n 1, 1) := dk_27 (dk_at dksJ13_copyOfRangeByte_0 15 rfl rfl)
theorem dJ13_copyOfRangeByte_16 : decode cJ13_copyOfRangeByte 16 = .ok (.aload 4, 2) := dk_25 4 (dk_at dksJ13_copyOfRangeByte_0 16 rfl rfl)
theorem dJ13_copyOfRangeByte_18 : decode cJ13_copyOfRangeByte 18 = .ok (.iconst 0, 1) := dk_3 (dk_at dksJ13_copyOfRangeByte_0 18 rfl rfl)
theorem dJ13_copyOfRangeByte_19 : decode cJ13_copyOfRangeByte 19 = .ok (.aload_n 0, 1) := dk_42 (dk_at dksJ13_copyOfRangeByte_0 19 rfl rfl)
theorem dJ13_copyOfRangeByte_20 : decode cJ13_copyOfRangeByte 20 = .ok (.arraylength, 1) := dk_190 (dk_at dksJ13_copyOfRangeByte_0 20 rfl rfl)
theorem dJ13_copyOfRangeByte_21 : decode cJ13_copyOfRangeByte 21 = .ok (.iload_n 1, 1) := dk_27 (dk_at dksJ13_copyOfRangeByte_0 21 rfl rfl)
theorem dJ13_copyOfRangeByte_22 : decode cJ13_copyOfRangeByte 22 = .ok (.isub, 1) := dk_100 (dk_at dksJ13_copyOfRangeByte_0 22 rfl rfl)
theorem dJ13_copyOfRangeByte_23 : decode cJ13_copyOfRangeByte 23 = .ok (.iload_n 3, 1) := dk_29 (dk_at dksJ13_copyOfRangeByte_0 23 rfl rfl)
theorem dJ13_copyOfRangeByte_24 : decode cJ13_copyOfRangeByte 24 = .ok (.invokestatic 304, 3) := dk_184 1 48 (dk_at dksJ13_copyOfRangeByte_1 0 rfl rfl)
theorem dJ13_copyOfRangeByte_27 : decode cJ13_copyOfRangeByte 27 = .ok (.invokestatic 150, 3) := dk_184 0 150 (dk_at dksJ13_copyOfRangeByte_1 3 rfl rfl)
theorem dJ13_copyOfRangeByte_30 : decode cJ13_copyOfRangeByte 30 = .ok (.aload 4, 2) := dk_25 4 (dk_at dksJ13_copyOfRangeByte_1 6 rfl rfl)
theorem dJ13_copyOfRangeByte_32 : decode cJ13_copyOfRangeByte 32 = .ok (.areturn, 1) := dk_176 (dk_at dksJ13_copyOfRangeByte_1 8 rfl rfl)
abbrev cJ13_checkLength : ByteArray := prog_63_method_131_code
def yJ13_checkLength : MethodName := ⟨RJ13, "checkLength", "(II)V"⟩
def dkwJ13_checkLength_1 : List UInt8 := [182, 0, 50, 27, 182, 0, 54, 182, 0, 61, 183, 0, 65, 191, 177]
abbrev dktJ13_checkLength_1 : List UInt8 := dkwJ13_checkLength_1 ++ []
def dkwJ13_checkLength_0 : List UInt8 := [27, 26, 162, 0, 35, 187, 0, 43, 89, 187, 0, 45, 89, 183, 0, 47, 26, 182, 0, 54, 19, 1, 81]
abbrev dktJ13_checkLength_0 : List UInt8 := dkwJ13_checkLength_0 ++ dktJ13_checkLength_1
theorem dksJ13_checkLength_0 : cJ13_checkLength.data.toList.drop 0 = dktJ13_checkLength_0 := by decide +kernel
theorem dksJ13_checkLength_1 : cJ13_checkLength.data.toList.drop 23 = dktJ13_checkLength_1 := dk_seg dksJ13_checkLength_0 23 rfl rfl
theorem dJ13_checkLength_0 : decode cJ13_checkLength 0 = .ok (.iload_n 1, 1) := dk_27 (dk_at dksJ13_checkLength_0 0 rfl rfl)
theorem dJ13_checkLength_1 : decode cJ13_checkLength 1 = .ok (.iload_n 0, 1) := dk_26 (dk_at dksJ13_checkLength_0 1 rfl rfl)
theorem dJ13_checkLength_2 : decode cJ13_checkLength 2 = .ok (.if_icmp .ge 35, 3) := dk_162 0 35 (dk_at dksJ13_checkLength_0 2 rfl rfl)
theorem dJ13_checkLength_5 : decode cJ13_checkLength 5 = .ok (.new 43, 3) := dk_187 0 43 (dk_at dksJ13_checkLength_0 5 rfl rfl)
theorem dJ13_checkLength_8 : decode cJ13_checkLength 8 = .ok (.dup, 1) := dk_89 (dk_at dksJ13_checkLength_0 8 rfl rfl)
theorem dJ13_checkLength_9 : decode cJ13_checkLength 9 = .ok (.new 45, 3) := dk_187 0 45 (dk_at dksJ13_checkLength_0 9 rfl rfl)
theorem dJ13_checkLength_12 : decode cJ13_checkLength 12 = .ok (.dup, 1) := dk_89 (dk_at dksJ13_checkLength_0 12 rfl rfl)
theorem dJ13_checkLength_13 : decode cJ13_checkLength 13 = .ok (.invokespecial 47, 3) := dk_183 0 47 (dk_at dksJ13_checkLength_0 13 rfl rfl)
theorem dJ13_checkLength_16 : decode cJ13_checkLength 16 = .ok (.iload_n 0, 1) := dk_26 (dk_at dksJ13_checkLength_0 16 rfl rfl)
theorem dJ13_checkLength_17 : decode cJ13_checkLength 17 = .ok (.invokevirtual 54, 3) := dk_182 0 54 (dk_at dksJ13_checkLength_0 17 rfl rfl)
theorem dJ13_checkLength_20 : decode cJ13_checkLength 20 = .ok (.ldc_w 337, 3) := dk_19 1 81 (dk_at dksJ13_checkLength_0 20 rfl rfl)
theorem dJ13_checkLength_23 : decode cJ13_checkLength 23 = .ok (.invokevirtual 50, 3) := dk_182 0 50 (dk_at dksJ13_checkLength_1 0 rfl rfl)
theorem dJ13_checkLength_26 : decode cJ13_checkLength 26 = .ok (.iload_n 1, 1) := dk_27 (dk_at dksJ13_checkLength_1 3 rfl rfl)
theorem dJ13_checkLength_27 : decode cJ13_checkLength 27 = .ok (.invokevirtual 54, 3) := dk_182 0 54 (dk_at dksJ13_checkLength_1 4 rfl rfl)
theorem dJ13_checkLength_30 : decode cJ13_checkLength 30 = .ok (.invokevirtual 61, 3) := dk_182 0 61 (dk_at dksJ13_checkLength_1 7 rfl rfl)
theorem dJ13_checkLength_33 : decode cJ13_checkLength 33 = .ok (.invokespecial 65, 3) := dk_183 0 65 (dk_at dksJ13_checkLength_1 10 rfl rfl)
theorem dJ13_checkLength_36 : decode cJ13_checkLength 36 = .ok (.athrow, 1) := dk_191 (dk_at dksJ13_checkLength_1 13 rfl rfl)
theorem dJ13_checkLength_37 : decode cJ13_checkLength 37 = .ok (.return_, 1) := dk_177 (dk_at dksJ13_checkLength_1 14 rfl rfl)
abbrev cJ13_fill : ByteArray := prog_63_method_101_code
def yJ13_fill : MethodName := ⟨RJ13, "fill", "([JJ)V"⟩
def dkwJ13_fill_0 : List UInt8 := [3, 62, 42, 190, 54, 4, 29, 21, 4, 162, 0, 13, 42, 29, 31, 80, 132, 3, 1, 167, 255, 243, 177]
abbrev dktJ13_fill_0 : List UInt8 := dkwJ13_fill_0 ++ []
theorem dksJ13_fill_0 : cJ13_fill.data.toList.drop 0 = dktJ13_fill_0 := by decide +kernel
theorem dJ13_fill_0 : decode cJ13_fill 0 = .ok (.iconst 0, 1) := dk_3 (dk_at dksJ13_fill_0 0 rfl rfl)
theorem dJ13_fill_1 : decode cJ13_fill 1 = .ok (.istore_n 3, 1) := dk_62 (dk_at dksJ13_fill_0 1 rfl rfl)
theorem dJ13_fill_2 : decode cJ13_fill 2 = .ok (.aload_n 0, 1) := dk_42 (dk_at dksJ13_fill_0 2 rfl rfl)
theorem dJ13_fill_3 : decode cJ13_fill 3 = .ok (.arraylength, 1) := dk_190 (dk_at dksJ13_fill_0 3 rfl rfl)
theorem dJ13_fill_4 : decode cJ13_fill 4 = .ok (.istore 4, 2) := dk_54 4 (dk_at dksJ13_fill_0 4 rfl rfl)
theorem dJ13_fill_6 : decode cJ13_fill 6 = .ok (.iload_n 3, 1) := dk_29 (dk_at dksJ13_fill_0 6 rfl rfl)
theorem dJ13_fill_7 : decode cJ13_fill 7 = .ok (.iload 4, 2) := dk_21 4 (dk_at dksJ13_fill_0 7 rfl rfl)
theorem dJ13_fill_9 : decode cJ13_fill 9 = .ok (.if_icmp .ge 13, 3) := dk_162 0 13 (dk_at dksJ13_fill_0 9 rfl rfl)
theorem dJ13_fill_12 : decode cJ13_fill 12 = .ok (.aload_n 0, 1) := dk_42 (dk_at dksJ13_fill_0 12 rfl rfl)
theorem dJ13_fill_13 : decode cJ13_fill 13 = .ok (.iload_n 3, 1) := dk_29 (dk_at dksJ13_fill_0 13 rfl rfl)
theorem dJ13_fill_14 : decode cJ13_fill 14 = .ok (.lload_n 1, 1) := dk_31 (dk_at dksJ13_fill_0 14 rfl rfl)
theorem dJ13_fill_15 : decode cJ13_fill 15 = .ok (.lastore, 1) := dk_80 (dk_at dksJ13_fill_0 15 rfl rfl)
theorem dJ13_fill_16 : decode cJ13_fill 16 = .ok (.iinc 3 1, 3) := dk_132 3 1 (dk_at dksJ13_fill_0 16 rfl rfl)
theorem dJ13_fill_19 : decode cJ13_fill 19 = .ok (.goto (-13), 3) := dk_167 255 243 (dk_at dksJ13_fill_0 19 rfl rfl)
theorem dJ13_fill_22 : decode cJ13_fill 22 = .ok (.return_, 1) := dk_177 (dk_at dksJ13_fill_0 22 rfl rfl)
abbrev cJ13_copyOf_2 : ByteArray := prog_63_method_119_code
def yJ13_copyOf_2 : MethodName := ⟨RJ13, "copyOf", "([Ljava/lang/Object;I)[Ljava/lang/Object;"⟩
def dkwJ13_copyOf_2_0 : List UInt8 := [42, 27, 42, 182, 0, 86, 184, 1, 44, 176]
abbrev dktJ13_copyOf_2_0 : List UInt8 := dkwJ13_copyOf_2_0 ++ []
theorem dksJ13_copyOf_2_0 : cJ13_copyOf_2.data.toList.drop 0 = dktJ13_copyOf_2_0 := by decide +kernel
theorem dJ13_copyOf_2_0 : decode cJ13_copyOf_2 0 = .ok (.aload_n 0, 1) := dk_42 (dk_at dksJ13_copyOf_2_0 0 rfl rfl)
theorem dJ13_copyOf_2_1 : decode cJ13_copyOf_2 1 = .ok (.iload_n 1, 1) := dk_27 (dk_at dksJ13_copyOf_2_0 1 rfl rfl)
theorem dJ13_copyOf_2_2 : decode cJ13_copyOf_2 2 = .ok (.aload_n 0, 1) := dk_42 (dk_at dksJ13_copyOf_2_0 2 rfl rfl)
theorem dJ13_copyOf_2_3 : decode cJ13_copyOf_2 3 = .ok (.invokevirtual 86, 3) := dk_182 0 86 (dk_at dksJ13_copyOf_2_0 3 rfl rfl)
theorem dJ13_copyOf_2_6 : decode cJ13_copyOf_2 6 = .ok (.invokestatic 300, 3) := dk_184 1 44 (dk_at dksJ13_copyOf_2_0 6 rfl rfl)
theorem dJ13_copyOf_2_9 : decode cJ13_copyOf_2 9 = .ok (.areturn, 1) := dk_176 (dk_at dksJ13_copyOf_2_0 9 rfl rfl)
abbrev cJ13_copyOf_3 : ByteArray := prog_63_method_120_code
def yJ13_copyOf_3 : MethodName := ⟨RJ13, "copyOf", "([Ljava/lang/Object;ILjava/lang/Class;)[Ljava/lang/Object;"⟩
def dkwJ13_copyOf_3_1 : List UInt8 := [78, 42, 3, 45, 3, 42, 190, 27, 184, 1, 48, 184, 0, 150, 45, 176]
abbrev dktJ13_copyOf_3_1 : List UInt8 := dkwJ13_copyOf_3_1 ++ []
def dkwJ13_copyOf_3_0 : List UInt8 := [44, 18, 110, 166, 0, 10, 27, 189, 0, 2, 167, 0, 14, 44, 182, 0, 90, 27, 184, 0, 95, 192, 0, 110]
abbrev dktJ13_copyOf_3_0 : List UInt8 := dkwJ13_copyOf_3_0 ++ dktJ13_copyOf_3_1
theorem dksJ13_copyOf_3_0 : cJ13_copyOf_3.data.toList.drop 0 = dktJ13_copyOf_3_0 := by decide +kernel
theorem dksJ13_copyOf_3_1 : cJ13_copyOf_3.data.toList.drop 24 = dktJ13_copyOf_3_1 := dk_seg dksJ13_copyOf_3_0 24 rfl rfl
theorem dJ13_copyOf_3_0 : decode cJ13_copyOf_3 0 = .ok (.aload_n 2, 1) := dk_44 (dk_at dksJ13_copyOf_3_0 0 rfl rfl)
theorem dJ13_copyOf_3_1 : decode cJ13_copyOf_3 1 = .ok (.ldc 110, 2) := dk_18 110 (dk_at dksJ13_copyOf_3_0 1 rfl rfl)
theorem dJ13_copyOf_3_3 : decode cJ13_copyOf_3 3 = .ok (.if_acmp .ne 10, 3) := dk_166 0 10 (dk_at dksJ13_copyOf_3_0 3 rfl rfl)
theorem dJ13_copyOf_3_6 : decode cJ13_copyOf_3 6 = .ok (.iload_n 1, 1) := dk_27 (dk_at dksJ13_copyOf_3_0 6 rfl rfl)
theorem dJ13_copyOf_3_7 : decode cJ13_copyOf_3 7 = .ok (.anewarray 2, 3) := dk_189 0 2 (dk_at dksJ13_copyOf_3_0 7 rfl rfl)
theorem dJ13_copyOf_3_10 : decode cJ13_copyOf_3 10 = .ok (.goto 14, 3) := dk_167 0 14 (dk_at dksJ13_copyOf_3_0 10 rfl rfl)
theorem dJ13_copyOf_3_13 : decode cJ13_copyOf_3 13 = .ok (.aload_n 2, 1) := dk_44 (dk_at dksJ13_copyOf_3_0 13 rfl rfl)
theorem dJ13_copyOf_3_14 : decode cJ13_copyOf_3 14 = .ok (.invokevirtual 90, 3) := dk_182 0 90 (dk_at dksJ13_copyOf_3_0 14 rfl rfl)
theorem dJ13_copyOf_3_17 : decode cJ13_copyOf_3 17 = .ok (.iload_n 1, 1) := dk_27 (dk_at dksJ13_copyOf_3_0 17 rfl rfl)
theorem dJ13_copyOf_3_18 : decode cJ13_copyOf_3 18 = .ok (.invokestatic 95, 3) := dk_184 0 95 (dk_at dksJ13_copyOf_3_0 18 rfl rfl)
theorem dJ13_copyOf_3_21 : decode cJ13_copyOf_3 21 = .ok (.checkcast 110, 3) := dk_192 0 110 (dk_at dksJ13_copyOf_3_0 21 rfl rfl)
theorem dJ13_copyOf_3_24 : decode cJ13_copyOf_3 24 = .ok (.astore_n 3, 1) := dk_78 (dk_at dksJ13_copyOf_3_1 0 rfl rfl)
theorem dJ13_copyOf_3_25 : decode cJ13_copyOf_3 25 = .ok (.aload_n 0, 1) := dk_42 (dk_at dksJ13_copyOf_3_1 1 rfl rfl)
theorem dJ13_copyOf_3_26 : decode cJ13_copyOf_3 26 = .ok (.iconst 0, 1) := dk_3 (dk_at dksJ13_copyOf_3_1 2 rfl rfl)
theorem dJ13_copyOf_3_27 : decode cJ13_copyOf_3 27 = .ok (.aload_n 3, 1) := dk_45 (dk_at dksJ13_copyOf_3_1 3 rfl rfl)
theorem dJ13_copyOf_3_28 : decode cJ13_copyOf_3 28 = .ok (.iconst 0, 1) := dk_3 (dk_at dksJ13_copyOf_3_1 4 rfl rfl)
theorem dJ13_copyOf_3_29 : decode cJ13_copyOf_3 29 = .ok (.aload_n 0, 1) := dk_42 (dk_at dksJ13_copyOf_3_1 5 rfl rfl)
theorem dJ13_copyOf_3_30 : decode cJ13_copyOf_3 30 = .ok (.arraylength, 1) := dk_190 (dk_at dksJ13_copyOf_3_1 6 rfl rfl)
theorem dJ13_copyOf_3_31 : decode cJ13_copyOf_3 31 = .ok (.iload_n 1, 1) := dk_27 (dk_at dksJ13_copyOf_3_1 7 rfl rfl)
theorem dJ13_copyOf_3_32 : decode cJ13_copyOf_3 32 = .ok (.invokestatic 304, 3) := dk_184 1 48 (dk_at dksJ13_copyOf_3_1 8 rfl rfl)
theorem dJ13_copyOf_3_35 : decode cJ13_copyOf_3 35 = .ok (.invokestatic 150, 3) := dk_184 0 150 (dk_at dksJ13_copyOf_3_1 11 rfl rfl)
theorem dJ13_copyOf_3_38 : decode cJ13_copyOf_3 38 = .ok (.aload_n 3, 1) := dk_45 (dk_at dksJ13_copyOf_3_1 14 rfl rfl)
theorem dJ13_copyOf_3_39 : decode cJ13_copyOf_3 39 = .ok (.areturn, 1) := dk_176 (dk_at dksJ13_copyOf_3_1 15 rfl rfl)
theorem q117 : (Jvm.Cond.initialized "java/util/Arrays") ∈ lw_all := lw_g (lw_at lw_m1 16 rfl) rfl
theorem q315 : (Jvm.Cond.static ({ cls := "java/util/Arrays", name := "copyOf", desc := "([BI)[B" } : Jvm.MethodName)) ∈ lw_all := lw_g (lw_at lw_m1 214 rfl) rfl
theorem q316 : (Jvm.Cond.code ({ cls := "java/util/Arrays", name := "copyOf", desc := "([BI)[B" } : Jvm.MethodName) prog_63_method_121_code (3 : Nat) (Option.some (Jvm.ClassFile.FieldType.array Jvm.ClassFile.FieldType.byte))) ∈ lw_all := lw_g (lw_at lw_m1 215 rfl) rfl
theorem q317 : (Jvm.Cond.methodLink "java/util/Arrays" (310 : Nat) ({ cls := "[B", name := "clone", desc := "()Ljava/lang/Object;" } : Jvm.MethodName)) ∈ lw_all := lw_g (lw_at lw_m1 216 rfl) rfl
theorem q323 : (Jvm.Cond.classLink "java/util/Arrays" (311 : Nat) "[B") ∈ lw_all := lw_g (lw_at lw_m1 222 rfl) rfl
theorem q324 : (Jvm.Cond.methodLink "java/util/Arrays" (304 : Nat) ({ cls := "java/lang/Math", name := "min", desc := "(II)I" } : Jvm.MethodName)) ∈ lw_all := lw_g (lw_at lw_m1 223 rfl) rfl
theorem q327 : (Jvm.Cond.methodLink "java/util/Arrays" (150 : Nat) ({ cls := "java/lang/System", name := "arraycopy", desc := "(Ljava/lang/Object;ILjava/lang/Object;II)V" } : Jvm.MethodName)) ∈ lw_all := lw_g (lw_at lw_m1 226 rfl) rfl
theorem q457 : (Jvm.Cond.static ({ cls := "java/util/Arrays", name := "copyOfRange", desc := "([BII)[B" } : Jvm.MethodName)) ∈ lw_all := lw_g (lw_at lw_m2 116 rfl) rfl
theorem q458 : (Jvm.Cond.code ({ cls := "java/util/Arrays", name := "copyOfRange", desc := "([BII)[B" } : Jvm.MethodName) prog_63_method_132_code (3 : Nat) (Option.some (Jvm.ClassFile.FieldType.array Jvm.ClassFile.FieldType.byte))) ∈ lw_all := lw_g (lw_at lw_m2 117 rfl) rfl
theorem q459 : (Jvm.Cond.methodLink "java/util/Arrays" (339 : Nat) ({ cls := "java/util/Arrays", name := "copyOfRangeByte", desc := "([BII)[B" } : Jvm.MethodName)) ∈ lw_all := lw_g (lw_at lw_m2 118 rfl) rfl
theorem q460 : (Jvm.Cond.static ({ cls := "java/util/Arrays", name := "copyOfRangeByte", desc := "([BII)[B" } : Jvm.MethodName)) ∈ lw_all := lw_g (lw_at lw_m2 119 rfl) rfl
theorem q461 : (Jvm.Cond.code ({ cls := "java/util/Arrays", name := "copyOfRangeByte", desc := "([BII)[B" } : Jvm.MethodName) prog_63_method_133_code (5 : Nat) (Option.some (Jvm.ClassFile.FieldType.array Jvm.ClassFile.FieldType.byte))) ∈ lw_all := lw_g (lw_at lw_m2 120 rfl) rfl
theorem q462 : (Jvm.Cond.methodLink "java/util/Arrays" (343 : Nat) ({ cls := "java/util/Arrays", name := "checkLength", desc := "(II)V" } : Jvm.MethodName)) ∈ lw_all := lw_g (lw_at lw_m2 121 rfl) rfl
theorem q463 : (Jvm.Cond.static ({ cls := "java/util/Arrays", name := "checkLength", desc := "(II)V" } : Jvm.MethodName)) ∈ lw_all := lw_g (lw_at lw_m2 122 rfl) rfl
theorem q464 : (Jvm.Cond.code ({ cls := "java/util/Arrays", name := "checkLength", desc := "(II)V" } : Jvm.MethodName) prog_63_method_131_code (2 : Nat) (Option.none : Option Jvm.ClassFile.FieldType)) ∈ lw_all := lw_g (lw_at lw_m2 123 rfl) rfl
theorem q465 : (Jvm.Cond.classLink "java/util/Arrays" (43 : Nat) "java/lang/IllegalArgumentException") ∈ lw_all := lw_g (lw_at lw_m2 124 rfl) rfl
theorem q466 : (Jvm.Cond.classLink "java/util/Arrays" (45 : Nat) "java/lang/StringBuilder") ∈ lw_all := lw_g (lw_at lw_m2 125 rfl) rfl
theorem q467 : (Jvm.Cond.methodLink "java/util/Arrays" (47 : Nat) ({ cls := "java/lang/StringBuilder", name := "<init>", desc := "()V" } : Jvm.MethodName)) ∈ lw_all := lw_g (lw_at lw_m2 126 rfl) rfl
theorem q468 : (Jvm.Cond.methodLink "java/util/Arrays" (54 : Nat) ({ cls := "java/lang/StringBuilder", name := "append", desc := "(I)Ljava/lang/StringBuilder;" } : Jvm.MethodName)) ∈ lw_all := lw_g (lw_at lw_m2 127 rfl) rfl
theorem q469 : (Jvm.Cond.stringRef "java/util/Arrays" (337 : Nat) " > ") ∈ lw_tbl := lw_at lw_m2 128 rfl
theorem q470 : (Jvm.Cond.methodLink "java/util/Arrays" (50 : Nat) ({ cls := "java/lang/StringBuilder", name := "append", desc := "(Ljava/lang/String;)Ljava/lang/StringBuilder;" } : Jvm.MethodName)) ∈ lw_all := lw_g (lw_at lw_m2 129 rfl) rfl
theorem q471 : (Jvm.Cond.methodLink "java/util/Arrays" (61 : Nat) ({ cls := "java/lang/StringBuilder", name := "toString", desc := "()Ljava/lang/String;" } : Jvm.MethodName)) ∈ lw_all := lw_g (lw_at lw_m2 130 rfl) rfl
theorem q472 : (Jvm.Cond.methodLink "java/util/Arrays" (65 : Nat) ({ cls := "java/lang/IllegalArgumentException", name := "<init>", desc := "(Ljava/lang/String;)V" } : Jvm.MethodName)) ∈ lw_all := lw_g (lw_at lw_m2 131 rfl) rfl
theorem q1184 : (Jvm.Cond.static ({ cls := "java/util/Arrays", name := "fill", desc := "([JJ)V" } : Jvm.MethodName)) ∈ lw_all := lw_g (lw_at lw_m5 123 rfl) rfl
theorem q1185 : (Jvm.Cond.code ({ cls := "java/util/Arrays", name := "fill", desc := "([JJ)V" } : Jvm.MethodName) prog_63_method_101_code (5 : Nat) (Option.none : Option Jvm.ClassFile.FieldType)) ∈ lw_all := lw_g (lw_at lw_m5 124 rfl) rfl
theorem q2603 : (Jvm.Cond.static ({ cls := "java/util/Arrays", name := "copyOf", desc := "([Ljava/lang/Object;I)[Ljava/lang/Object;" } : Jvm.MethodName)) ∈ lw_all := lw_g (lw_at lw_m11 102 rfl) rfl
theorem q2604 : (Jvm.Cond.code ({ cls := "java/util/Arrays", name := "copyOf", desc := "([Ljava/lang/Object;I)[Ljava/lang/Object;" } : Jvm.MethodName) prog_63_method_119_code (2 : Nat) (Option.some (Jvm.ClassFile.FieldType.array (Jvm.ClassFile.FieldType.object "java/lang/Object")))) ∈ lw_all := lw_g (lw_at lw_m11 103 rfl) rfl
theorem q2605 : (Jvm.Cond.methodLink "java/util/Arrays" (86 : Nat) ({ cls := "java/lang/Object", name := "getClass", desc := "()Ljava/lang/Class;" } : Jvm.MethodName)) ∈ lw_all := lw_g (lw_at lw_m11 104 rfl) rfl
theorem q2606 : (Jvm.Cond.methodLink "java/util/Arrays" (300 : Nat) ({ cls := "java/util/Arrays", name := "copyOf", desc := "([Ljava/lang/Object;ILjava/lang/Class;)[Ljava/lang/Object;" } : Jvm.MethodName)) ∈ lw_all := lw_g (lw_at lw_m11 105 rfl) rfl
theorem q2607 : (Jvm.Cond.static ({ cls := "java/util/Arrays", name := "copyOf", desc := "([Ljava/lang/Object;ILjava/lang/Class;)[Ljava/lang/Object;" } : Jvm.MethodName)) ∈ lw_all := lw_g (lw_at lw_m11 106 rfl) rfl
theorem q2608 : (Jvm.Cond.code ({ cls := "java/util/Arrays", name := "copyOf", desc := "([Ljava/lang/Object;ILjava/lang/Class;)[Ljava/lang/Object;" } : Jvm.MethodName) prog_63_method_120_code (4 : Nat) (Option.some (Jvm.ClassFile.FieldType.array (Jvm.ClassFile.FieldType.object "java/lang/Object")))) ∈ lw_all := lw_g (lw_at lw_m11 107 rfl) rfl
theorem q2609 : (Jvm.Cond.classLink "java/util/Arrays" (110 : Nat) "[Ljava/lang/Object;") ∈ lw_all := lw_g (lw_at lw_m11 108 rfl) rfl
theorem q2610 : (Jvm.Cond.classLink "java/util/Arrays" (2 : Nat) "java/lang/Object") ∈ lw_all := lw_g (lw_at lw_m11 109 rfl) rfl

-- J14.jdk_internal_util_Preconditions.lean.txt
/-! jdk/internal/util/Preconditions -/
set_option maxRecDepth 100000
def RJ14 : String := "jdk/internal/util/Preconditions"
abbrev cJ14_checkFromToIndex : ByteArray := prog_100_method_12_code
def yJ14_checkFromToIndex : MethodName := ⟨RJ14, "checkFromToIndex", "(IIILjava/util/function/BiFunction;)I"⟩
def dkwJ14_checkFromToIndex_0 : List UInt8 := [26, 155, 0, 13, 26, 27, 163, 0, 8, 27, 28, 164, 0, 11, 45, 26, 27, 28, 184, 0, 99, 191, 26, 172]
abbrev dktJ14_checkFromToIndex_0 : List UInt8 := dkwJ14_checkFromToIndex_0 ++ []
theorem dksJ14_checkFromToIndex_0 : cJ14_checkFromToIndex.data.toList.drop 0 = dktJ14_checkFromToIndex_0 := by decide +kernel
theorem dJ14_checkFromToIndex_0 : decode cJ14_checkFromToIndex 0 = .ok (.iload_n 0, 1) := dk_26 (dk_at dksJ14_checkFromToIndex_0 0 rfl rfl)
theorem dJ14_checkFromToIndex_1 : decode cJ14_checkFromToIndex 1 = .ok (.ifCond .lt 13, 3) := dk_155 0 13 (dk_at dksJ14_checkFromToIndex_0 1 rfl rfl)
theorem dJ14_checkFromToIndex_4 : decode cJ14_checkFromToIndex 4 = .ok (.iload_n 0, 1) := dk_26 (dk_at dksJ14_checkFromToIndex_0 4 rfl rfl)
theorem dJ14_checkFromToIndex_5 : decode cJ14_checkFromToIndex 5 = .ok (.iload_n 1, 1) := dk_27 (dk_at dksJ14_checkFromToIndex_0 5 rfl rfl)
theorem dJ14_checkFromToIndex_6 : decode cJ14_checkFromToIndex 6 = .ok (.if_icmp .gt 8, 3) := dk_163 0 8 (dk_at dksJ14_checkFromToIndex_0 6 rfl rfl)
theorem dJ14_checkFromToIndex_9 : decode cJ14_checkFromToIndex 9 = .ok (.iload_n 1, 1) := dk_27 (dk_at dksJ14_checkFromToIndex_0 9 rfl rfl)
theorem dJ14_checkFromToIndex_10 : decode cJ14_checkFromToIndex 10 = .ok (.iload_n 2, 1) := dk_28 (dk_at dksJ14_checkFromToIndex_0 10 rfl rfl)
theorem dJ14_checkFromToIndex_11 : decode cJ14_checkFromToIndex 11 = .ok (.if_icmp .le 11, 3) := dk_164 0 11 (dk_at dksJ14_checkFromToIndex_0 11 rfl rfl)
theorem dJ14_checkFromToIndex_14 : decode cJ14_checkFromToIndex 14 = .ok (.aload_n 3, 1) := dk_45 (dk_at dksJ14_checkFromToIndex_0 14 rfl rfl)
theorem dJ14_checkFromToIndex_15 : decode cJ14_checkFromToIndex 15 = .ok (.iload_n 0, 1) := dk_26 (dk_at dksJ14_checkFromToIndex_0 15 rfl rfl)
theorem dJ14_checkFromToIndex_16 : decode cJ14_checkFromToIndex 16 = .ok (.iload_n 1, 1) := dk_27 (dk_at dksJ14_checkFromToIndex_0 16 rfl rfl)
theorem dJ14_checkFromToIndex_17 : decode cJ14_checkFromToIndex 17 = .ok (.iload_n 2, 1) := dk_28 (dk_at dksJ14_checkFromToIndex_0 17 rfl rfl)
theorem dJ14_checkFromToIndex_18 : decode cJ14_checkFromToIndex 18 = .ok (.invokestatic 99, 3) := dk_184 0 99 (dk_at dksJ14_checkFromToIndex_0 18 rfl rfl)
theorem dJ14_checkFromToIndex_21 : decode cJ14_checkFromToIndex 21 = .ok (.athrow, 1) := dk_191 (dk_at dksJ14_checkFromToIndex_0 21 rfl rfl)
theorem dJ14_checkFromToIndex_22 : decode cJ14_checkFromToIndex 22 = .ok (.iload_n 0, 1) := dk_26 (dk_at dksJ14_checkFromToIndex_0 22 rfl rfl)
theorem dJ14_checkFromToIndex_23 : decode cJ14_checkFromToIndex 23 = .ok (.ireturn, 1) := dk_172 (dk_at dksJ14_checkFromToIndex_0 23 rfl rfl)
abbrev cJ14_checkFromIndexSize : ByteArray := prog_100_method_13_code
def yJ14_checkFromIndexSize : MethodName := ⟨RJ14, "checkFromIndexSize", "(IIILjava/util/function/BiFunction;)I"⟩
def dkwJ14_checkFromIndexSize_1 : List UInt8 := [172]
abbrev dktJ14_checkFromIndexSize_1 : List UInt8 := dkwJ14_checkFromIndexSize_1 ++ []
def dkwJ14_checkFromIndexSize_0 : List UInt8 := [28, 26, 128, 27, 128, 155, 0, 10, 27, 28, 26, 100, 164, 0, 11, 45, 26, 27, 28, 184, 0, 103, 191, 26]
abbrev dktJ14_checkFromIndexSize_0 : List UInt8 := dkwJ14_checkFromIndexSize_0 ++ dktJ14_checkFromIndexSize_1
theorem dksJ14_checkFromIndexSize_0 : cJ14_checkFromIndexSize.data.toList.drop 0 = dktJ14_checkFromIndexSize_0 := by decide +kernel
theorem dksJ14_checkFromIndexSize_1 : cJ14_checkFromIndexSize.data.toList.drop 24 = dktJ14_checkFromIndexSize_1 := dk_seg dksJ14_checkFromIndexSize_0 24 rfl rfl
theorem dJ14_checkFromIndexSize_0 : decode cJ14_checkFromIndexSize 0 = .ok (.iload_n 2, 1) := dk_28 (dk_at dksJ14_checkFromIndexSize_0 0 rfl rfl)
theorem dJ14_checkFromIndexSize_1 : decode cJ14_checkFromIndexSize 1 = .ok (.iload_n 0, 1) := dk_26 (dk_at dksJ14_checkFromIndexSize_0 1 rfl rfl)
theorem dJ14_checkFromIndexSize_2 : decode cJ14_checkFromIndexSize 2 = .ok (.ior, 1) := dk_128 (dk_at dksJ14_checkFromIndexSize_0 2 rfl rfl)
theorem dJ14_checkFromIndexSize_3 : decode cJ14_checkFromIndexSize 3 = .ok (.iload_n 1, 1) := dk_27 (dk_at dksJ14_checkFromIndexSize_0 3 rfl rfl)
theorem dJ14_checkFromIndexSize_4 : decode cJ14_checkFromIndexSize 4 = .ok (.ior, 1) := dk_128 (dk_at dksJ14_checkFromIndexSize_0 4 rfl rfl)
theorem dJ14_checkFromIndexSize_5 : decode cJ14_checkFromIndexSize 5 = .ok (.ifCond .lt 10, 3) := dk_155 0 10 (dk_at dksJ14_checkFromIndexSize_0 5 rfl rfl)
theorem dJ14_checkFromIndexSize_8 : decode cJ14_checkFromIndexSize 8 = .ok (.iload_n 1, 1) := dk_27 (dk_at dksJ14_checkFromIndexSize_0 8 rfl rfl)
theorem dJ14_checkFromIndexSize_9 : decode cJ14_checkFromIndexSize 9 = .ok (.iload_n 2, 1) := dk_28 (dk_at dksJ14_checkFromIndexSize_0 9 rfl rfl)
theorem dJ14_checkFromIndexSize_10 : decode cJ14_checkFromIndexSize 10 = .ok (.iload_n 0, 1) := dk_26 (dk_at dksJ14_checkFromIndexSize_0 10 rfl rfl)
theorem dJ14_checkFromIndexSize_11 : decode cJ14_checkFromIndexSize 11 = .ok (.isub, 1) := dk_100 (dk_at dksJ14_checkFromIndexSize_0 11 rfl rfl)
theorem dJ14_checkFromIndexSize_12 : decode cJ14_checkFromIndexSize 12 = .ok (.if_icmp .le 11, 3) := dk_164 0 11 (dk_at dksJ14_checkFromIndexSize_0 12 rfl rfl)
theorem dJ14_checkFromIndexSize_15 : decode cJ14_checkFromIndexSize 15 = .ok (.aload_n 3, 1) := dk_45 (dk_at dksJ14_checkFromIndexSize_0 15 rfl rfl)
theorem dJ14_checkFromIndexSize_16 : decode cJ14_checkFromIndexSize 16 = .ok (.iload_n 0, 1) := dk_26 (dk_at dksJ14_checkFromIndexSize_0 16 rfl rfl)
theorem dJ14_checkFromIndexSize_17 : decode cJ14_checkFromIndexSize 17 = .ok (.iload_n 1, 1) := dk_27 (dk_at dksJ14_checkFromIndexSize_0 17 rfl rfl)
theorem dJ14_checkFromIndexSize_18 : decode cJ14_checkFromIndexSize 18 = .ok (.iload_n 2, 1) := dk_28 (dk_at dksJ14_checkFromIndexSize_0 18 rfl rfl)
theorem dJ14_checkFromIndexSize_19 : decode cJ14_checkFromIndexSize 19 = .ok (.invokestatic 103, 3) := dk_184 0 103 (dk_at dksJ14_checkFromIndexSize_0 19 rfl rfl)
theorem dJ14_checkFromIndexSize_22 : decode cJ14_checkFromIndexSize 22 = .ok (.athrow, 1) := dk_191 (dk_at dksJ14_checkFromIndexSize_0 22 rfl rfl)
theorem dJ14_checkFromIndexSize_23 : decode cJ14_checkFromIndexSize 23 = .ok (.iload_n 0, 1) := dk_26 (dk_at dksJ14_checkFromIndexSize_0 23 rfl rfl)
theorem dJ14_checkFromIndexSize_24 : decode cJ14_checkFromIndexSize 24 = .ok (.ireturn, 1) := dk_172 (dk_at dksJ14_checkFromIndexSize_1 0 rfl rfl)
abbrev cJ14_checkIndex : ByteArray := prog_100_method_11_code
def yJ14_checkIndex : MethodName := ⟨RJ14, "checkIndex", "(IILjava/util/function/BiFunction;)I"⟩
def dkwJ14_checkIndex_0 : List UInt8 := [26, 155, 0, 8, 26, 27, 161, 0, 10, 44, 26, 27, 184, 0, 95, 191, 26, 172]
abbrev dktJ14_checkIndex_0 : List UInt8 := dkwJ14_checkIndex_0 ++ []
theorem dksJ14_checkIndex_0 : cJ14_checkIndex.data.toList.drop 0 = dktJ14_checkIndex_0 := by decide +kernel
theorem dJ14_checkIndex_0 : decode cJ14_checkIndex 0 = .ok (.iload_n 0, 1) := dk_26 (dk_at dksJ14_checkIndex_0 0 rfl rfl)
theorem dJ14_checkIndex_1 : decode cJ14_checkIndex 1 = .ok (.ifCond .lt 8, 3) := dk_155 0 8 (dk_at dksJ14_checkIndex_0 1 rfl rfl)
theorem dJ14_checkIndex_4 : decode cJ14_checkIndex 4 = .ok (.iload_n 0, 1) := dk_26 (dk_at dksJ14_checkIndex_0 4 rfl rfl)
theorem dJ14_checkIndex_5 : decode cJ14_checkIndex 5 = .ok (.iload_n 1, 1) := dk_27 (dk_at dksJ14_checkIndex_0 5 rfl rfl)
theorem dJ14_checkIndex_6 : decode cJ14_checkIndex 6 = .ok (.if_icmp .lt 10, 3) := dk_161 0 10 (dk_at dksJ14_checkIndex_0 6 rfl rfl)
theorem dJ14_checkIndex_9 : decode cJ14_checkIndex 9 = .ok (.aload_n 2, 1) := dk_44 (dk_at dksJ14_checkIndex_0 9 rfl rfl)
theorem dJ14_checkIndex_10 : decode cJ14_checkIndex 10 = .ok (.iload_n 0, 1) := dk_26 (dk_at dksJ14_checkIndex_0 10 rfl rfl)
theorem dJ14_checkIndex_11 : decode cJ14_checkIndex 11 = .ok (.iload_n 1, 1) := dk_27 (dk_at dksJ14_checkIndex_0 11 rfl rfl)
theorem dJ14_checkIndex_12 : decode cJ14_checkIndex 12 = .ok (.invokestatic 95, 3) := dk_184 0 95 (dk_at dksJ14_checkIndex_0 12 rfl rfl)
theorem dJ14_checkIndex_15 : decode cJ14_checkIndex 15 = .ok (.athrow, 1) := dk_191 (dk_at dksJ14_checkIndex_0 15 rfl rfl)
theorem dJ14_checkIndex_16 : decode cJ14_checkIndex 16 = .ok (.iload_n 0, 1) := dk_26 (dk_at dksJ14_checkIndex_0 16 rfl rfl)
theorem dJ14_checkIndex_17 : decode cJ14_checkIndex 17 = .ok (.ireturn, 1) := dk_172 (dk_at dksJ14_checkIndex_0 17 rfl rfl)
theorem q119 : (Jvm.Cond.initialized "jdk/internal/util/Preconditions") ∈ lw_all := lw_g (lw_at lw_m1 18 rfl) rfl
theorem q348 : (Jvm.Cond.laysStatic "jdk/internal/util/Preconditions" "SIOOBE_FORMATTER" "Ljava/util/function/BiFunction;") ∈ lw_tbl := lw_at lw_m2 7 rfl
theorem q350 : (Jvm.Cond.static ({ cls := "jdk/internal/util/Preconditions", name := "checkFromToIndex", desc := "(IIILjava/util/function/BiFunction;)I" } : Jvm.MethodName)) ∈ lw_all := lw_g (lw_at lw_m2 9 rfl) rfl
theorem q351 : (Jvm.Cond.code ({ cls := "jdk/internal/util/Preconditions", name := "checkFromToIndex", desc := "(IIILjava/util/function/BiFunction;)I" } : Jvm.MethodName) prog_100_method_12_code (4 : Nat) (Option.some Jvm.ClassFile.FieldType.int)) ∈ lw_all := lw_g (lw_at lw_m2 10 rfl) rfl
theorem q396 : (Jvm.Cond.static ({ cls := "jdk/internal/util/Preconditions", name := "checkFromIndexSize", desc := "(IIILjava/util/function/BiFunction;)I" } : Jvm.MethodName)) ∈ lw_all := lw_g (lw_at lw_m2 55 rfl) rfl
theorem q397 : (Jvm.Cond.code ({ cls := "jdk/internal/util/Preconditions", name := "checkFromIndexSize", desc := "(IIILjava/util/function/BiFunction;)I" } : Jvm.MethodName) prog_100_method_13_code (4 : Nat) (Option.some Jvm.ClassFile.FieldType.int)) ∈ lw_all := lw_g (lw_at lw_m2 56 rfl) rfl
theorem q1199 : (Jvm.Cond.static ({ cls := "jdk/internal/util/Preconditions", name := "checkIndex", desc := "(IILjava/util/function/BiFunction;)I" } : Jvm.MethodName)) ∈ lw_all := lw_g (lw_at lw_m5 138 rfl) rfl
theorem q1200 : (Jvm.Cond.code ({ cls := "jdk/internal/util/Preconditions", name := "checkIndex", desc := "(IILjava/util/function/BiFunction;)I" } : Jvm.MethodName) prog_100_method_11_code (3 : Nat) (Option.some Jvm.ClassFile.FieldType.int)) ∈ lw_all := lw_g (lw_at lw_m5 139 rfl) rfl
theorem q1579 : (Jvm.Cond.laysStatic "jdk/internal/util/Preconditions" "IOOBE_FORMATTER" "Ljava/util/function/BiFunction;") ∈ lw_tbl := lw_at lw_m7 38 rfl

-- J15.java_lang_StringLatin1.lean.txt
/-! java/lang/StringLatin1 -/
set_option maxRecDepth 100000
def RJ15 : String := "java/lang/StringLatin1"
abbrev cJ15_inflate : ByteArray := prog_48_method_50_code
def yJ15_inflate : MethodName := ⟨RJ15, "inflate", "([BI[BII)V"⟩
def dkwJ15_inflate_0 : List UInt8 := [42, 27, 44, 29, 21, 4, 184, 0, 240, 177]
abbrev dktJ15_inflate_0 : List UInt8 := dkwJ15_inflate_0 ++ []
theorem dksJ15_inflate_0 : cJ15_inflate.data.toList.drop 0 = dktJ15_inflate_0 := by decide +kernel
theorem dJ15_inflate_0 : decode cJ15_inflate 0 = .ok (.aload_n 0, 1) := dk_42 (dk_at dksJ15_inflate_0 0 rfl rfl)
theorem dJ15_inflate_1 : decode cJ15_inflate 1 = .ok (.iload_n 1, 1) := dk_27 (dk_at dksJ15_inflate_0 1 rfl rfl)
theorem dJ15_inflate_2 : decode cJ15_inflate 2 = .ok (.aload_n 2, 1) := dk_44 (dk_at dksJ15_inflate_0 2 rfl rfl)
theorem dJ15_inflate_3 : decode cJ15_inflate 3 = .ok (.iload_n 3, 1) := dk_29 (dk_at dksJ15_inflate_0 3 rfl rfl)
theorem dJ15_inflate_4 : decode cJ15_inflate 4 = .ok (.iload 4, 2) := dk_21 4 (dk_at dksJ15_inflate_0 4 rfl rfl)
theorem dJ15_inflate_6 : decode cJ15_inflate 6 = .ok (.invokestatic 240, 3) := dk_184 0 240 (dk_at dksJ15_inflate_0 6 rfl rfl)
theorem dJ15_inflate_9 : decode cJ15_inflate 9 = .ok (.return_, 1) := dk_177 (dk_at dksJ15_inflate_0 9 rfl rfl)
abbrev cJ15_canEncode : ByteArray := prog_48_method_3_code
def yJ15_canEncode : MethodName := ⟨RJ15, "canEncode", "(C)Z"⟩
def dkwJ15_canEncode_0 : List UInt8 := [26, 17, 0, 255, 163, 0, 7, 4, 167, 0, 4, 3, 172]
abbrev dktJ15_canEncode_0 : List UInt8 := dkwJ15_canEncode_0 ++ []
theorem dksJ15_canEncode_0 : cJ15_canEncode.data.toList.drop 0 = dktJ15_canEncode_0 := by decide +kernel
theorem dJ15_canEncode_0 : decode cJ15_canEncode 0 = .ok (.iload_n 0, 1) := dk_26 (dk_at dksJ15_canEncode_0 0 rfl rfl)
theorem dJ15_canEncode_1 : decode cJ15_canEncode 1 = .ok (.sipush 255, 3) := dk_17 0 255 (dk_at dksJ15_canEncode_0 1 rfl rfl)
theorem dJ15_canEncode_4 : decode cJ15_canEncode 4 = .ok (.if_icmp .gt 7, 3) := dk_163 0 7 (dk_at dksJ15_canEncode_0 4 rfl rfl)
theorem dJ15_canEncode_7 : decode cJ15_canEncode 7 = .ok (.iconst 1, 1) := dk_4 (dk_at dksJ15_canEncode_0 7 rfl rfl)
theorem dJ15_canEncode_8 : decode cJ15_canEncode 8 = .ok (.goto 4, 3) := dk_167 0 4 (dk_at dksJ15_canEncode_0 8 rfl rfl)
theorem dJ15_canEncode_11 : decode cJ15_canEncode 11 = .ok (.iconst 0, 1) := dk_3 (dk_at dksJ15_canEncode_0 11 rfl rfl)
theorem dJ15_canEncode_12 : decode cJ15_canEncode 12 = .ok (.ireturn, 1) := dk_172 (dk_at dksJ15_canEncode_0 12 rfl rfl)
abbrev cJ15_charAt : ByteArray := prog_48_method_2_code
def yJ15_charAt : MethodName := ⟨RJ15, "charAt", "([BI)C"⟩
def dkwJ15_charAt_0 : List UInt8 := [27, 42, 190, 184, 0, 9, 42, 27, 51, 17, 0, 255, 126, 146, 172]
abbrev dktJ15_charAt_0 : List UInt8 := dkwJ15_charAt_0 ++ []
theorem dksJ15_charAt_0 : cJ15_charAt.data.toList.drop 0 = dktJ15_charAt_0 := by decide +kernel
theorem dJ15_charAt_0 : decode cJ15_charAt 0 = .ok (.iload_n 1, 1) := dk_27 (dk_at dksJ15_charAt_0 0 rfl rfl)
theorem dJ15_charAt_1 : decode cJ15_charAt 1 = .ok (.aload_n 0, 1) := dk_42 (dk_at dksJ15_charAt_0 1 rfl rfl)
theorem dJ15_charAt_2 : decode cJ15_charAt 2 = .ok (.arraylength, 1) := dk_190 (dk_at dksJ15_charAt_0 2 rfl rfl)
theorem dJ15_charAt_3 : decode cJ15_charAt 3 = .ok (.invokestatic 9, 3) := dk_184 0 9 (dk_at dksJ15_charAt_0 3 rfl rfl)
theorem dJ15_charAt_6 : decode cJ15_charAt 6 = .ok (.aload_n 0, 1) := dk_42 (dk_at dksJ15_charAt_0 6 rfl rfl)
theorem dJ15_charAt_7 : decode cJ15_charAt 7 = .ok (.iload_n 1, 1) := dk_27 (dk_at dksJ15_charAt_0 7 rfl rfl)
theorem dJ15_charAt_8 : decode cJ15_charAt 8 = .ok (.baload, 1) := dk_51 (dk_at dksJ15_charAt_0 8 rfl rfl)
theorem dJ15_charAt_9 : decode cJ15_charAt 9 = .ok (.sipush 255, 3) := dk_17 0 255 (dk_at dksJ15_charAt_0 9 rfl rfl)
theorem dJ15_charAt_12 : decode cJ15_charAt 12 = .ok (.iand, 1) := dk_126 (dk_at dksJ15_charAt_0 12 rfl rfl)
theorem dJ15_charAt_13 : decode cJ15_charAt 13 = .ok (.i2c, 1) := dk_146 (dk_at dksJ15_charAt_0 13 rfl rfl)
theorem dJ15_charAt_14 : decode cJ15_charAt 14 = .ok (.ireturn, 1) := dk_172 (dk_at dksJ15_charAt_0 14 rfl rfl)
abbrev cJ15_hashCode : ByteArray := prog_48_method_21_code
def yJ15_hashCode : MethodName := ⟨RJ15, "hashCode", "([B)I"⟩
def dkwJ15_hashCode_2 : List UInt8 := [3, 167, 0, 22, 42, 3, 51, 17, 0, 255, 126, 167, 0, 12, 42, 3, 42, 190, 3, 7, 184, 0, 84, 172]
abbrev dktJ15_hashCode_2 : List UInt8 := dkwJ15_hashCode_2 ++ []
def dkwJ15_hashCode_1 : List UInt8 := [171, 0, 0, 0, 0, 40, 0, 0, 0, 2, 0, 0, 0, 0, 0, 0, 0, 26, 0, 0, 0, 1, 0, 0, 0, 30]
abbrev dktJ15_hashCode_1 : List UInt8 := dkwJ15_hashCode_1 ++ dktJ15_hashCode_2
def dkwJ15_hashCode_0 : List UInt8 := [42, 190]
abbrev dktJ15_hashCode_0 : List UInt8 := dkwJ15_hashCode_0 ++ dktJ15_hashCode_1
theorem dksJ15_hashCode_0 : cJ15_hashCode.data.toList.drop 0 = dktJ15_hashCode_0 := by decide +kernel
theorem dksJ15_hashCode_1 : cJ15_hashCode.data.toList.drop 2 = dktJ15_hashCode_1 := dk_seg dksJ15_hashCode_0 2 rfl rfl
theorem dksJ15_hashCode_2 : cJ15_hashCode.data.toList.drop 28 = dktJ15_hashCode_2 := dk_seg dksJ15_hashCode_1 26 rfl rfl
theorem dJ15_hashCode_0 : decode cJ15_hashCode 0 = .ok (.aload_n 0, 1) := dk_42 (dk_at dksJ15_hashCode_0 0 rfl rfl)
theorem dJ15_hashCode_1 : decode cJ15_hashCode 1 = .ok (.arraylength, 1) := dk_190 (dk_at dksJ15_hashCode_0 1 rfl rfl)
theorem dJ15_hashCode_2 : decode cJ15_hashCode 2 = .ok (.lookupswitch 40 #[(0, 26), (1, 30)], 26) := by decide +kernel
theorem dJ15_hashCode_28 : decode cJ15_hashCode 28 = .ok (.iconst 0, 1) := dk_3 (dk_at dksJ15_hashCode_2 0 rfl rfl)
theorem dJ15_hashCode_29 : decode cJ15_hashCode 29 = .ok (.goto 22, 3) := dk_167 0 22 (dk_at dksJ15_hashCode_2 1 rfl rfl)
theorem dJ15_hashCode_32 : decode cJ15_hashCode 32 = .ok (.aload_n 0, 1) := dk_42 (dk_at dksJ15_hashCode_2 4 rfl rfl)
theorem dJ15_hashCode_33 : decode cJ15_hashCode 33 = .ok (.iconst 0, 1) := dk_3 (dk_at dksJ15_hashCode_2 5 rfl rfl)
theorem dJ15_hashCode_34 : decode cJ15_hashCode 34 = .ok (.baload, 1) := dk_51 (dk_at dksJ15_hashCode_2 6 rfl rfl)
theorem dJ15_hashCode_35 : decode cJ15_hashCode 35 = .ok (.sipush 255, 3) := dk_17 0 255 (dk_at dksJ15_hashCode_2 7 rfl rfl)
theorem dJ15_hashCode_38 : decode cJ15_hashCode 38 = .ok (.iand, 1) := dk_126 (dk_at dksJ15_hashCode_2 10 rfl rfl)
theorem dJ15_hashCode_39 : decode cJ15_hashCode 39 = .ok (.goto 12, 3) := dk_167 0 12 (dk_at dksJ15_hashCode_2 11 rfl rfl)
theorem dJ15_hashCode_42 : decode cJ15_hashCode 42 = .ok (.aload_n 0, 1) := dk_42 (dk_at dksJ15_hashCode_2 14 rfl rfl)
theorem dJ15_hashCode_43 : decode cJ15_hashCode 43 = .ok (.iconst 0, 1) := dk_3 (dk_at dksJ15_hashCode_2 15 rfl rfl)
theorem dJ15_hashCode_44 : decode cJ15_hashCode 44 = .ok (.aload_n 0, 1) := dk_42 (dk_at dksJ15_hashCode_2 16 rfl rfl)
theorem dJ15_hashCode_45 : decode cJ15_hashCode 45 = .ok (.arraylength, 1) := dk_190 (dk_at dksJ15_hashCode_2 17 rfl rfl)
theorem dJ15_hashCode_46 : decode cJ15_hashCode 46 = .ok (.iconst 0, 1) := dk_3 (dk_at dksJ15_hashCode_2 18 rfl rfl)
theorem dJ15_hashCode_47 : decode cJ15_hashCode 47 = .ok (.iconst 4, 1) := dk_7 (dk_at dksJ15_hashCode_2 19 rfl rfl)
theorem dJ15_hashCode_48 : decode cJ15_hashCode 48 = .ok (.invokestatic 84, 3) := dk_184 0 84 (dk_at dksJ15_hashCode_2 20 rfl rfl)
theorem dJ15_hashCode_51 : decode cJ15_hashCode 51 = .ok (.ireturn, 1) := dk_172 (dk_at dksJ15_hashCode_2 23 rfl rfl)
abbrev cJ15_compareTo : ByteArray := prog_48_method_14_code
def yJ15_compareTo : MethodName := ⟨RJ15, "compareTo", "([B[B)I"⟩
def dkwJ15_compareTo_0 : List UInt8 := [42, 190, 61, 43, 190, 62, 42, 43, 28, 29, 184, 0, 34, 172]
abbrev dktJ15_compareTo_0 : List UInt8 := dkwJ15_compareTo_0 ++ []
theorem dksJ15_compareTo_0 : cJ15_compareTo.data.toList.drop 0 = dktJ15_compareTo_0 := by decide +kernel
theorem dJ15_compareTo_0 : decode cJ15_compareTo 0 = .ok (.aload_n 0, 1) := dk_42 (dk_at dksJ15_compareTo_0 0 rfl rfl)
theorem dJ15_compareTo_1 : decode cJ15_compareTo 1 = .ok (.arraylength, 1) := dk_190 (dk_at dksJ15_compareTo_0 1 rfl rfl)
theorem dJ15_compareTo_2 : decode cJ15_compareTo 2 = .ok (.istore_n 2, 1) := dk_61 (dk_at dksJ15_compareTo_0 2 rfl rfl)
theorem dJ15_compareTo_3 : decode cJ15_compareTo 3 = .ok (.aload_n 1, 1) := dk_43 (dk_at dksJ15_compareTo_0 3 rfl rfl)
theorem dJ15_compareTo_4 : decode cJ15_compareTo 4 = .ok (.arraylength, 1) := dk_190 (dk_at dksJ15_compareTo_0 4 rfl rfl)
theorem dJ15_compareTo_5 : decode cJ15_compareTo 5 = .ok (.istore_n 3, 1) := dk_62 (dk_at dksJ15_compareTo_0 5 rfl rfl)
theorem dJ15_compareTo_6 : decode cJ15_compareTo 6 = .ok (.aload_n 0, 1) := dk_42 (dk_at dksJ15_compareTo_0 6 rfl rfl)
theorem dJ15_compareTo_7 : decode cJ15_compareTo 7 = .ok (.aload_n 1, 1) := dk_43 (dk_at dksJ15_compareTo_0 7 rfl rfl)
theorem dJ15_compareTo_8 : decode cJ15_compareTo 8 = .ok (.iload_n 2, 1) := dk_28 (dk_at dksJ15_compareTo_0 8 rfl rfl)
theorem dJ15_compareTo_9 : decode cJ15_compareTo 9 = .ok (.iload_n 3, 1) := dk_29 (dk_at dksJ15_compareTo_0 9 rfl rfl)
theorem dJ15_compareTo_10 : decode cJ15_compareTo 10 = .ok (.invokestatic 34, 3) := dk_184 0 34 (dk_at dksJ15_compareTo_0 10 rfl rfl)
theorem dJ15_compareTo_13 : decode cJ15_compareTo 13 = .ok (.ireturn, 1) := dk_172 (dk_at dksJ15_compareTo_0 13 rfl rfl)
abbrev cJ15_compareTo_2 : ByteArray := prog_48_method_15_code
def yJ15_compareTo_2 : MethodName := ⟨RJ15, "compareTo", "([B[BII)I"⟩
def dkwJ15_compareTo_2_1 : List UInt8 := [167, 0, 16, 42, 21, 5, 184, 0, 50, 43, 21, 5, 184, 0, 50, 100, 172]
abbrev dktJ15_compareTo_2_1 : List UInt8 := dkwJ15_compareTo_2_1 ++ []
def dkwJ15_compareTo_2_0 : List UInt8 := [28, 29, 184, 0, 38, 54, 4, 42, 43, 21, 4, 184, 0, 44, 54, 5, 21, 5, 156, 0, 9, 28, 29, 100]
abbrev dktJ15_compareTo_2_0 : List UInt8 := dkwJ15_compareTo_2_0 ++ dktJ15_compareTo_2_1
theorem dksJ15_compareTo_2_0 : cJ15_compareTo_2.data.toList.drop 0 = dktJ15_compareTo_2_0 := by decide +kernel
theorem dksJ15_compareTo_2_1 : cJ15_compareTo_2.data.toList.drop 24 = dktJ15_compareTo_2_1 := dk_seg dksJ15_compareTo_2_0 24 rfl rfl
theorem dJ15_compareTo_2_0 : decode cJ15_compareTo_2 0 = .ok (.iload_n 2, 1) := dk_28 (dk_at dksJ15_compareTo_2_0 0 rfl rfl)
theorem dJ15_compareTo_2_1 : decode cJ15_compareTo_2 1 = .ok (.iload_n 3, 1) := dk_29 (dk_at dksJ15_compareTo_2_0 1 rfl rfl)
theorem dJ15_compareTo_2_2 : decode cJ15_compareTo_2 2 = .ok (.invokestatic 38, 3) := dk_184 0 38 (dk_at dksJ15_compareTo_2_0 2 rfl rfl)
theorem dJ15_compareTo_2_5 : decode cJ15_compareTo_2 5 = .ok (.istore 4, 2) := dk_54 4 (dk_at dksJ15_compareTo_2_0 5 rfl rfl)
theorem dJ15_compareTo_2_7 : decode cJ15_compareTo_2 7 = .ok (.aload_n 0, 1) := dk_42 (dk_at dksJ15_compareTo_2_0 7 rfl rfl)
theorem dJ15_compareTo_2_8 : decode cJ15_compareTo_2 8 = .ok (.aload_n 1, 1) := dk_43 (dk_at dksJ15_compareTo_2_0 8 rfl rfl)
theorem dJ15_compareTo_2_9 : decode cJ15_compareTo_2 9 = .ok (.iload 4, 2) := dk_21 4 (dk_at dksJ15_compareTo_2_0 9 rfl rfl)
theorem dJ15_compareTo_2_11 : decode cJ15_compareTo_2 11 = .ok (.invokestatic 44, 3) := dk_184 0 44 (dk_at dksJ15_compareTo_2_0 11 rfl rfl)
theorem dJ15_compareTo_2_14 : decode cJ15_compareTo_2 14 = .ok (.istore 5, 2) := dk_54 5 (dk_at dksJ15_compareTo_2_0 14 rfl rfl)
theorem dJ15_compareTo_2_16 : decode cJ15_compareTo_2 16 = .ok (.iload 5, 2) := dk_21 5 (dk_at dksJ15_compareTo_2_0 16 rfl rfl)
theorem dJ15_compareTo_2_18 : decode cJ15_compareTo_2 18 = .ok (.ifCond .ge 9, 3) := dk_156 0 9 (dk_at dksJ15_compareTo_2_0 18 rfl rfl)
theorem dJ15_compareTo_2_21 : decode cJ15_compareTo_2 21 = .ok (.iload_n 2, 1) := dk_28 (dk_at dksJ15_compareTo_2_0 21 rfl rfl)
theorem dJ15_compareTo_2_22 : decode cJ15_compareTo_2 22 = .ok (.iload_n 3, 1) := dk_29 (dk_at dksJ15_compareTo_2_0 22 rfl rfl)
theorem dJ15_compareTo_2_23 : decode cJ15_compareTo_2 23 = .ok (.isub, 1) := dk_100 (dk_at dksJ15_compareTo_2_0 23 rfl rfl)
theorem dJ15_compareTo_2_24 : decode cJ15_compareTo_2 24 = .ok (.goto 16, 3) := dk_167 0 16 (dk_at dksJ15_compareTo_2_1 0 rfl rfl)
theorem dJ15_compareTo_2_27 : decode cJ15_compareTo_2 27 = .ok (.aload_n 0, 1) := dk_42 (dk_at dksJ15_compareTo_2_1 3 rfl rfl)
theorem dJ15_compareTo_2_28 : decode cJ15_compareTo_2 28 = .ok (.iload 5, 2) := dk_21 5 (dk_at dksJ15_compareTo_2_1 4 rfl rfl)
theorem dJ15_compareTo_2_30 : decode cJ15_compareTo_2 30 = .ok (.invokestatic 50, 3) := dk_184 0 50 (dk_at dksJ15_compareTo_2_1 6 rfl rfl)
theorem dJ15_compareTo_2_33 : decode cJ15_compareTo_2 33 = .ok (.aload_n 1, 1) := dk_43 (dk_at dksJ15_compareTo_2_1 9 rfl rfl)
theorem dJ15_compareTo_2_34 : decode cJ15_compareTo_2 34 = .ok (.iload 5, 2) := dk_21 5 (dk_at dksJ15_compareTo_2_1 10 rfl rfl)
theorem dJ15_compareTo_2_36 : decode cJ15_compareTo_2 36 = .ok (.invokestatic 50, 3) := dk_184 0 50 (dk_at dksJ15_compareTo_2_1 12 rfl rfl)
theorem dJ15_compareTo_2_39 : decode cJ15_compareTo_2 39 = .ok (.isub, 1) := dk_100 (dk_at dksJ15_compareTo_2_1 15 rfl rfl)
theorem dJ15_compareTo_2_40 : decode cJ15_compareTo_2 40 = .ok (.ireturn, 1) := dk_172 (dk_at dksJ15_compareTo_2_1 16 rfl rfl)
abbrev cJ15_getChar : ByteArray := prog_48_method_44_code
def yJ15_getChar : MethodName := ⟨RJ15, "getChar", "([BI)C"⟩
def dkwJ15_getChar_0 : List UInt8 := [42, 27, 51, 17, 0, 255, 126, 146, 172]
abbrev dktJ15_getChar_0 : List UInt8 := dkwJ15_getChar_0 ++ []
theorem dksJ15_getChar_0 : cJ15_getChar.data.toList.drop 0 = dktJ15_getChar_0 := by decide +kernel
theorem dJ15_getChar_0 : decode cJ15_getChar 0 = .ok (.aload_n 0, 1) := dk_42 (dk_at dksJ15_getChar_0 0 rfl rfl)
theorem dJ15_getChar_1 : decode cJ15_getChar 1 = .ok (.iload_n 1, 1) := dk_27 (dk_at dksJ15_getChar_0 1 rfl rfl)
theorem dJ15_getChar_2 : decode cJ15_getChar 2 = .ok (.baload, 1) := dk_51 (dk_at dksJ15_getChar_0 2 rfl rfl)
theorem dJ15_getChar_3 : decode cJ15_getChar 3 = .ok (.sipush 255, 3) := dk_17 0 255 (dk_at dksJ15_getChar_0 3 rfl rfl)
theorem dJ15_getChar_6 : decode cJ15_getChar 6 = .ok (.iand, 1) := dk_126 (dk_at dksJ15_getChar_0 6 rfl rfl)
theorem dJ15_getChar_7 : decode cJ15_getChar 7 = .ok (.i2c, 1) := dk_146 (dk_at dksJ15_getChar_0 7 rfl rfl)
theorem dJ15_getChar_8 : decode cJ15_getChar 8 = .ok (.ireturn, 1) := dk_172 (dk_at dksJ15_getChar_0 8 rfl rfl)
abbrev cJ15_compareToUTF16 : ByteArray := prog_48_method_16_code
def yJ15_compareToUTF16 : MethodName := ⟨RJ15, "compareToUTF16", "([B[B)I"⟩
def dkwJ15_compareToUTF16_0 : List UInt8 := [42, 184, 0, 54, 61, 43, 184, 0, 58, 62, 42, 43, 28, 29, 184, 0, 59, 172]
abbrev dktJ15_compareToUTF16_0 : List UInt8 := dkwJ15_compareToUTF16_0 ++ []
theorem dksJ15_compareToUTF16_0 : cJ15_compareToUTF16.data.toList.drop 0 = dktJ15_compareToUTF16_0 := by decide +kernel
theorem dJ15_compareToUTF16_0 : decode cJ15_compareToUTF16 0 = .ok (.aload_n 0, 1) := dk_42 (dk_at dksJ15_compareToUTF16_0 0 rfl rfl)
theorem dJ15_compareToUTF16_1 : decode cJ15_compareToUTF16 1 = .ok (.invokestatic 54, 3) := dk_184 0 54 (dk_at dksJ15_compareToUTF16_0 1 rfl rfl)
theorem dJ15_compareToUTF16_4 : decode cJ15_compareToUTF16 4 = .ok (.istore_n 2, 1) := dk_61 (dk_at dksJ15_compareToUTF16_0 4 rfl rfl)
theorem dJ15_compareToUTF16_5 : decode cJ15_compareToUTF16 5 = .ok (.aload_n 1, 1) := dk_43 (dk_at dksJ15_compareToUTF16_0 5 rfl rfl)
theorem dJ15_compareToUTF16_6 : decode cJ15_compareToUTF16 6 = .ok (.invokestatic 58, 3) := dk_184 0 58 (dk_at dksJ15_compareToUTF16_0 6 rfl rfl)
theorem dJ15_compareToUTF16_9 : decode cJ15_compareToUTF16 9 = .ok (.istore_n 3, 1) := dk_62 (dk_at dksJ15_compareToUTF16_0 9 rfl rfl)
theorem dJ15_compareToUTF16_10 : decode cJ15_compareToUTF16 10 = .ok (.aload_n 0, 1) := dk_42 (dk_at dksJ15_compareToUTF16_0 10 rfl rfl)
theorem dJ15_compareToUTF16_11 : decode cJ15_compareToUTF16 11 = .ok (.aload_n 1, 1) := dk_43 (dk_at dksJ15_compareToUTF16_0 11 rfl rfl)
theorem dJ15_compareToUTF16_12 : decode cJ15_compareToUTF16 12 = .ok (.iload_n 2, 1) := dk_28 (dk_at dksJ15_compareToUTF16_0 12 rfl rfl)
theorem dJ15_compareToUTF16_13 : decode cJ15_compareToUTF16 13 = .ok (.iload_n 3, 1) := dk_29 (dk_at dksJ15_compareToUTF16_0 13 rfl rfl)
theorem dJ15_compareToUTF16_14 : decode cJ15_compareToUTF16 14 = .ok (.invokestatic 59, 3) := dk_184 0 59 (dk_at dksJ15_compareToUTF16_0 14 rfl rfl)
theorem dJ15_compareToUTF16_17 : decode cJ15_compareToUTF16 17 = .ok (.ireturn, 1) := dk_172 (dk_at dksJ15_compareToUTF16_0 17 rfl rfl)
abbrev cJ15_length : ByteArray := prog_48_method_5_code
def yJ15_length : MethodName := ⟨RJ15, "length", "([B)I"⟩
theorem dJ15_length_0 : decode cJ15_length 0 = .ok (.aload_n 0, 1) := by decide +kernel
theorem dJ15_length_1 : decode cJ15_length 1 = .ok (.arraylength, 1) := by decide +kernel
theorem dJ15_length_2 : decode cJ15_length 2 = .ok (.ireturn, 1) := by decide +kernel
abbrev cJ15_compareToUTF16Values : ByteArray := prog_48_method_18_code
def yJ15_compareToUTF16Values : MethodName := ⟨RJ15, "compareToUTF16Values", "([B[BII)I"⟩
def dkwJ15_compareToUTF16Values_2 : List UInt8 := [132, 5, 1, 167, 255, 217, 28, 29, 100, 172]
abbrev dktJ15_compareToUTF16Values_2 : List UInt8 := dkwJ15_compareToUTF16Values_2 ++ []
def dkwJ15_compareToUTF16Values_1 : List UInt8 := [54, 6, 43, 21, 5, 184, 0, 65, 54, 7, 21, 6, 21, 7, 159, 0, 9, 21, 6, 21, 7, 100, 172]
abbrev dktJ15_compareToUTF16Values_1 : List UInt8 := dkwJ15_compareToUTF16Values_1 ++ dktJ15_compareToUTF16Values_2
def dkwJ15_compareToUTF16Values_0 : List UInt8 := [28, 29, 184, 0, 38, 54, 4, 3, 54, 5, 21, 5, 21, 4, 162, 0, 38, 42, 21, 5, 184, 0, 50]
abbrev dktJ15_compareToUTF16Values_0 : List UInt8 := dkwJ15_compareToUTF16Values_0 ++ dktJ15_compareToUTF16Values_1
theorem dksJ15_compareToUTF16Values_0 : cJ15_compareToUTF16Values.data.toList.drop 0 = dktJ15_compareToUTF16Values_0 := by decide +kernel
theorem dksJ15_compareToUTF16Values_1 : cJ15_compareToUTF16Values.data.toList.drop 23 = dktJ15_compareToUTF16Values_1 := dk_seg dksJ15_compareToUTF16Values_0 23 rfl rfl
theorem dksJ15_compareToUTF16Values_2 : cJ15_compareToUTF16Values.data.toList.drop 46 = dktJ15_compareToUTF16Values_2 := dk_seg dksJ15_compareToUTF16Values_1 23 rfl rfl
theorem dJ15_compareToUTF16Values_0 : decode cJ15_compareToUTF16Values 0 = .ok (.iload_n 2, 1) := dk_28 (dk_at dksJ15_compareToUTF16Values_0 0 rfl rfl)
theorem dJ15_compareToUTF16Values_1 : decode cJ15_compareToUTF16Values 1 = .ok (.iload_n 3, 1) := dk_29 (dk_at dksJ15_compareToUTF16Values_0 1 rfl rfl)
theorem dJ15_compareToUTF16Values_2 : decode cJ15_compareToUTF16Values 2 = .ok (.invokestatic 38, 3) := dk_184 0 38 (dk_at dksJ15_compareToUTF16Values_0 2 rfl rfl)
theorem dJ15_compareToUTF16Values_5 : decode cJ15_compareToUTF16Values 5 = .ok (.istore 4, 2) := dk_54 4 (dk_at dksJ15_compareToUTF16Values_0 5 rfl rfl)
theorem dJ15_compareToUTF16Values_7 : decode cJ15_compareToUTF16Values 7 = .ok (.iconst 0, 1) := dk_3 (dk_at dksJ15_compareToUTF16Values_0 7 rfl rfl)
theorem dJ15_compareToUTF16Values_8 : decode cJ15_compareToUTF16Values 8 = .ok (.istore 5, 2) := dk_54 5 (dk_at dksJ15_compareToUTF16Values_0 8 rfl rfl)
theorem dJ15_compareToUTF16Values_10 : decode cJ15_compareToUTF16Values 10 = .ok (.iload 5, 2) := dk_21 5 (dk_at dksJ15_compareToUTF16Values_0 10 rfl rfl)
theorem dJ15_compareToUTF16Values_12 : decode cJ15_compareToUTF16Values 12 = .ok (.iload 4, 2) := dk_21 4 (dk_at dksJ15_compareToUTF16Values_0 12 rfl rfl)
theorem dJ15_compareToUTF16Values_14 : decode cJ15_compareToUTF16Values 14 = .ok (.if_icmp .ge 38, 3) := dk_162 0 38 (dk_at dksJ15_compareToUTF16Values_0 14 rfl rfl)
theorem dJ15_compareToUTF16Values_17 : decode cJ15_compareToUTF16Values 17 = .ok (.aload_n 0, 1) := dk_42 (dk_at dksJ15_compareToUTF16Values_0 17 rfl rfl)
theorem dJ15_compareToUTF16Values_18 : decode cJ15_compareToUTF16Values 18 = .ok (.iload 5, 2) := dk_21 5 (dk_at dksJ15_compareToUTF16Values_0 18 rfl rfl)
theorem dJ15_compareToUTF16Values_20 : decode cJ15_compareToUTF16Values 20 = .ok (.invokestatic 50, 3) := dk_184 0 50 (dk_at dksJ15_compareToUTF16Values_0 20 rfl rfl)
theorem dJ15_compareToUTF16Values_23 : decode cJ15_compareToUTF16Values 23 = .ok (.istore 6, 2) := dk_54 6 (dk_at dksJ15_compareToUTF16Values_1 0 rfl rfl)
theorem dJ15_compareToUTF16Values_25 : decode cJ15_compareToUTF16Values 25 = .ok (.aload_n 1, 1) := dk_43 (dk_at dksJ15_compareToUTF16Values_1 2 rfl rfl)
theorem dJ15_compareToUTF16Values_26 : decode cJ15_compareToUTF16Values 26 = .ok (.iload 5, 2) := dk_21 5 (dk_at dksJ15_compareToUTF16Values_1 3 rfl rfl)
theorem dJ15_compareToUTF16Values_28 : decode cJ15_compareToUTF16Values 28 = .ok (.invokestatic 65, 3) := dk_184 0 65 (dk_at dksJ15_compareToUTF16Values_1 5 rfl rfl)
theorem dJ15_compareToUTF16Values_31 : decode cJ15_compareToUTF16Values 31 = .ok (.istore 7, 2) := dk_54 7 (dk_at dksJ15_compareToUTF16Values_1 8 rfl rfl)
theorem dJ15_compareToUTF16Values_33 : decode cJ15_compareToUTF16Values 33 = .ok (.iload 6, 2) := dk_21 6 (dk_at dksJ15_compareToUTF16Values_1 10 rfl rfl)
theorem dJ15_compareToUTF16Values_35 : decode cJ15_compareToUTF16Values 35 = .ok (.iload 7, 2) := dk_21 7 (dk_at dksJ15_compareToUTF16Values_1 12 rfl rfl)
theorem dJ15_compareToUTF16Values_37 : decode cJ15_compareToUTF16Values 37 = .ok (.if_icmp .eq 9, 3) := dk_159 0 9 (dk_at dksJ15_compareToUTF16Values_1 14 rfl rfl)
theorem dJ15_compareToUTF16Values_40 : decode cJ15_compareToUTF16Values 40 = .ok (.iload 6, 2) := dk_21 6 (dk_at dksJ15_compareToUTF16Values_1 17 rfl rfl)
theorem dJ15_compareToUTF16Values_42 : decode cJ15_compareToUTF16Values 42 = .ok (.iload 7, 2) := dk_21 7 (dk_at dksJ15_compareToUTF16Values_1 19 rfl rfl)
theorem dJ15_compareToUTF16Values_44 : decode cJ15_compareToUTF16Values 44 = .ok (.isub, 1) := dk_100 (dk_at dksJ15_compareToUTF16Values_1 21 rfl rfl)
theorem dJ15_compareToUTF16Values_45 : decode cJ15_compareToUTF16Values 45 = .ok (.ireturn, 1) := dk_172 (dk_at dksJ15_compareToUTF16Values_1 22 rfl rfl)
theorem dJ15_compareToUTF16Values_46 : decode cJ15_compareToUTF16Values 46 = .ok (.iinc 5 1, 3) := dk_132 5 1 (dk_at dksJ15_compareToUTF16Values_2 0 rfl rfl)
theorem dJ15_compareToUTF16Values_49 : decode cJ15_compareToUTF16Values 49 = .ok (.goto (-39), 3) := dk_167 255 217 (dk_at dksJ15_compareToUTF16Values_2 3 rfl rfl)
theorem dJ15_compareToUTF16Values_52 : decode cJ15_compareToUTF16Values 52 = .ok (.iload_n 2, 1) := dk_28 (dk_at dksJ15_compareToUTF16Values_2 6 rfl rfl)
theorem dJ15_compareToUTF16Values_53 : decode cJ15_compareToUTF16Values 53 = .ok (.iload_n 3, 1) := dk_29 (dk_at dksJ15_compareToUTF16Values_2 7 rfl rfl)
theorem dJ15_compareToUTF16Values_54 : decode cJ15_compareToUTF16Values 54 = .ok (.isub, 1) := dk_100 (dk_at dksJ15_compareToUTF16Values_2 8 rfl rfl)
theorem dJ15_compareToUTF16Values_55 : decode cJ15_compareToUTF16Values 55 = .ok (.ireturn, 1) := dk_172 (dk_at dksJ15_compareToUTF16Values_2 9 rfl rfl)
abbrev cJ15_compareToUTF16_2 : ByteArray := prog_48_method_17_code
def yJ15_compareToUTF16_2 : MethodName := ⟨RJ15, "compareToUTF16", "([B[BII)I"⟩
def dkwJ15_compareToUTF16_2_0 : List UInt8 := [28, 42, 184, 0, 54, 184, 0, 62, 29, 43, 184, 0, 58, 184, 0, 62, 42, 43, 28, 29, 184, 0, 59, 172]
abbrev dktJ15_compareToUTF16_2_0 : List UInt8 := dkwJ15_compareToUTF16_2_0 ++ []
theorem dksJ15_compareToUTF16_2_0 : cJ15_compareToUTF16_2.data.toList.drop 0 = dktJ15_compareToUTF16_2_0 := by decide +kernel
theorem dJ15_compareToUTF16_2_0 : decode cJ15_compareToUTF16_2 0 = .ok (.iload_n 2, 1) := dk_28 (dk_at dksJ15_compareToUTF16_2_0 0 rfl rfl)
theorem dJ15_compareToUTF16_2_1 : decode cJ15_compareToUTF16_2 1 = .ok (.aload_n 0, 1) := dk_42 (dk_at dksJ15_compareToUTF16_2_0 1 rfl rfl)
theorem dJ15_compareToUTF16_2_2 : decode cJ15_compareToUTF16_2 2 = .ok (.invokestatic 54, 3) := dk_184 0 54 (dk_at dksJ15_compareToUTF16_2_0 2 rfl rfl)
theorem dJ15_compareToUTF16_2_5 : decode cJ15_compareToUTF16_2 5 = .ok (.invokestatic 62, 3) := dk_184 0 62 (dk_at dksJ15_compareToUTF16_2_0 5 rfl rfl)
theorem dJ15_compareToUTF16_2_8 : decode cJ15_compareToUTF16_2 8 = .ok (.iload_n 3, 1) := dk_29 (dk_at dksJ15_compareToUTF16_2_0 8 rfl rfl)
theorem dJ15_compareToUTF16_2_9 : decode cJ15_compareToUTF16_2 9 = .ok (.aload_n 1, 1) := dk_43 (dk_at dksJ15_compareToUTF16_2_0 9 rfl rfl)
theorem dJ15_compareToUTF16_2_10 : decode cJ15_compareToUTF16_2 10 = .ok (.invokestatic 58, 3) := dk_184 0 58 (dk_at dksJ15_compareToUTF16_2_0 10 rfl rfl)
theorem dJ15_compareToUTF16_2_13 : decode cJ15_compareToUTF16_2 13 = .ok (.invokestatic 62, 3) := dk_184 0 62 (dk_at dksJ15_compareToUTF16_2_0 13 rfl rfl)
theorem dJ15_compareToUTF16_2_16 : decode cJ15_compareToUTF16_2 16 = .ok (.aload_n 0, 1) := dk_42 (dk_at dksJ15_compareToUTF16_2_0 16 rfl rfl)
theorem dJ15_compareToUTF16_2_17 : decode cJ15_compareToUTF16_2 17 = .ok (.aload_n 1, 1) := dk_43 (dk_at dksJ15_compareToUTF16_2_0 17 rfl rfl)
theorem dJ15_compareToUTF16_2_18 : decode cJ15_compareToUTF16_2 18 = .ok (.iload_n 2, 1) := dk_28 (dk_at dksJ15_compareToUTF16_2_0 18 rfl rfl)
theorem dJ15_compareToUTF16_2_19 : decode cJ15_compareToUTF16_2 19 = .ok (.iload_n 3, 1) := dk_29 (dk_at dksJ15_compareToUTF16_2_0 19 rfl rfl)
theorem dJ15_compareToUTF16_2_20 : decode cJ15_compareToUTF16_2 20 = .ok (.invokestatic 59, 3) := dk_184 0 59 (dk_at dksJ15_compareToUTF16_2_0 20 rfl rfl)
theorem dJ15_compareToUTF16_2_23 : decode cJ15_compareToUTF16_2 23 = .ok (.ireturn, 1) := dk_172 (dk_at dksJ15_compareToUTF16_2_0 23 rfl rfl)
abbrev cJ15_equals : ByteArray := prog_48_method_13_code
def yJ15_equals : MethodName := ⟨RJ15, "equals", "([B[B)Z"⟩
def dkwJ15_equals_1 : List UInt8 := [3, 172, 132, 2, 1, 167, 255, 236, 4, 172, 3, 172]
abbrev dktJ15_equals_1 : List UInt8 := dkwJ15_equals_1 ++ []
def dkwJ15_equals_0 : List UInt8 := [42, 190, 43, 190, 160, 0, 30, 3, 61, 28, 42, 190, 162, 0, 20, 42, 28, 51, 43, 28, 51, 159, 0, 5]
abbrev dktJ15_equals_0 : List UInt8 := dkwJ15_equals_0 ++ dktJ15_equals_1
theorem dksJ15_equals_0 : cJ15_equals.data.toList.drop 0 = dktJ15_equals_0 := by decide +kernel
theorem dksJ15_equals_1 : cJ15_equals.data.toList.drop 24 = dktJ15_equals_1 := dk_seg dksJ15_equals_0 24 rfl rfl
theorem dJ15_equals_0 : decode cJ15_equals 0 = .ok (.aload_n 0, 1) := dk_42 (dk_at dksJ15_equals_0 0 rfl rfl)
theorem dJ15_equals_1 : decode cJ15_equals 1 = .ok (.arraylength, 1) := dk_190 (dk_at dksJ15_equals_0 1 rfl rfl)
theorem dJ15_equals_2 : decode cJ15_equals 2 = .ok (.aload_n 1, 1) := dk_43 (dk_at dksJ15_equals_0 2 rfl rfl)
theorem dJ15_equals_3 : decode cJ15_equals 3 = .ok (.arraylength, 1) := dk_190 (dk_at dksJ15_equals_0 3 rfl rfl)
theorem dJ15_equals_4 : decode cJ15_equals 4 = .ok (.if_icmp .ne 30, 3) := dk_160 0 30 (dk_at dksJ15_equals_0 4 rfl rfl)
theorem dJ15_equals_7 : decode cJ15_equals 7 = .ok (.iconst 0, 1) := dk_3 (dk_at dksJ15_equals_0 7 rfl rfl)
theorem dJ15_equals_8 : decode cJ15_equals 8 = .ok (.istore_n 2, 1) := dk_61 (dk_at dksJ15_equals_0 8 rfl rfl)
theorem dJ15_equals_9 : decode cJ15_equals 9 = .ok (.iload_n 2, 1) := dk_28 (dk_at dksJ15_equals_0 9 rfl rfl)
theorem dJ15_equals_10 : decode cJ15_equals 10 = .ok (.aload_n 0, 1) := dk_42 (dk_at dksJ15_equals_0 10 rfl rfl)
theorem dJ15_equals_11 : decode cJ15_equals 11 = .ok (.arraylength, 1) := dk_190 (dk_at dksJ15_equals_0 11 rfl rfl)
theorem dJ15_equals_12 : decode cJ15_equals 12 = .ok (.if_icmp .ge 20, 3) := dk_162 0 20 (dk_at dksJ15_equals_0 12 rfl rfl)
theorem dJ15_equals_15 : decode cJ15_equals 15 = .ok (.aload_n 0, 1) := dk_42 (dk_at dksJ15_equals_0 15 rfl rfl)
theorem dJ15_equals_16 : decode cJ15_equals 16 = .ok (.iload_n 2, 1) := dk_28 (dk_at dksJ15_equals_0 16 rfl rfl)
theorem dJ15_equals_17 : decode cJ15_equals 17 = .ok (.baload, 1) := dk_51 (dk_at dksJ15_equals_0 17 rfl rfl)
theorem dJ15_equals_18 : decode cJ15_equals 18 = .ok (.aload_n 1, 1) := dk_43 (dk_at dksJ15_equals_0 18 rfl rfl)
theorem dJ15_equals_19 : decode cJ15_equals 19 = .ok (.iload_n 2, 1) := dk_28 (dk_at dksJ15_equals_0 19 rfl rfl)
theorem dJ15_equals_20 : decode cJ15_equals 20 = .ok (.baload, 1) := dk_51 (dk_at dksJ15_equals_0 20 rfl rfl)
theorem dJ15_equals_21 : decode cJ15_equals 21 = .ok (.if_icmp .eq 5, 3) := dk_159 0 5 (dk_at dksJ15_equals_0 21 rfl rfl)
theorem dJ15_equals_24 : decode cJ15_equals 24 = .ok (.iconst 0, 1) := dk_3 (dk_at dksJ15_equals_1 0 rfl rfl)
theorem dJ15_equals_25 : decode cJ15_equals 25 = .ok (.ireturn, 1) := dk_172 (dk_at dksJ15_equals_1 1 rfl rfl)
theorem dJ15_equals_26 : decode cJ15_equals 26 = .ok (.iinc 2 1, 3) := dk_132 2 1 (dk_at dksJ15_equals_1 2 rfl rfl)
theorem dJ15_equals_29 : decode cJ15_equals 29 = .ok (.goto (-20), 3) := dk_167 255 236 (dk_at dksJ15_equals_1 5 rfl rfl)
theorem dJ15_equals_32 : decode cJ15_equals 32 = .ok (.iconst 1, 1) := dk_4 (dk_at dksJ15_equals_1 8 rfl rfl)
theorem dJ15_equals_33 : decode cJ15_equals 33 = .ok (.ireturn, 1) := dk_172 (dk_at dksJ15_equals_1 9 rfl rfl)
theorem dJ15_equals_34 : decode cJ15_equals 34 = .ok (.iconst 0, 1) := dk_3 (dk_at dksJ15_equals_1 10 rfl rfl)
theorem dJ15_equals_35 : decode cJ15_equals 35 = .ok (.ireturn, 1) := dk_172 (dk_at dksJ15_equals_1 11 rfl rfl)
theorem q120 : (Jvm.Cond.initialized "java/lang/StringLatin1") ∈ lw_all := lw_g (lw_at lw_m1 19 rfl) rfl
theorem q384 : (Jvm.Cond.static ({ cls := "java/lang/StringLatin1", name := "inflate", desc := "([BI[BII)V" } : Jvm.MethodName)) ∈ lw_all := lw_g (lw_at lw_m2 43 rfl) rfl
theorem q385 : (Jvm.Cond.code ({ cls := "java/lang/StringLatin1", name := "inflate", desc := "([BI[BII)V" } : Jvm.MethodName) prog_48_method_50_code (5 : Nat) (Option.none : Option Jvm.ClassFile.FieldType)) ∈ lw_all := lw_g (lw_at lw_m2 44 rfl) rfl
theorem q386 : (Jvm.Cond.methodLink "java/lang/StringLatin1" (240 : Nat) ({ cls := "java/lang/StringUTF16", name := "inflate", desc := "([BI[BII)V" } : Jvm.MethodName)) ∈ lw_all := lw_g (lw_at lw_m2 45 rfl) rfl
theorem q1467 : (Jvm.Cond.static ({ cls := "java/lang/StringLatin1", name := "canEncode", desc := "(C)Z" } : Jvm.MethodName)) ∈ lw_all := lw_g (lw_at lw_m6 166 rfl) rfl
theorem q1468 : (Jvm.Cond.code ({ cls := "java/lang/StringLatin1", name := "canEncode", desc := "(C)Z" } : Jvm.MethodName) prog_48_method_3_code (1 : Nat) (Option.some Jvm.ClassFile.FieldType.boolean)) ∈ lw_all := lw_g (lw_at lw_m6 167 rfl) rfl
theorem q1599 : (Jvm.Cond.static ({ cls := "java/lang/StringLatin1", name := "charAt", desc := "([BI)C" } : Jvm.MethodName)) ∈ lw_all := lw_g (lw_at lw_m7 58 rfl) rfl
theorem q1600 : (Jvm.Cond.code ({ cls := "java/lang/StringLatin1", name := "charAt", desc := "([BI)C" } : Jvm.MethodName) prog_48_method_2_code (2 : Nat) (Option.some Jvm.ClassFile.FieldType.char)) ∈ lw_all := lw_g (lw_at lw_m7 59 rfl) rfl
theorem q1601 : (Jvm.Cond.methodLink "java/lang/StringLatin1" (9 : Nat) ({ cls := "java/lang/String", name := "checkIndex", desc := "(II)V" } : Jvm.MethodName)) ∈ lw_all := lw_g (lw_at lw_m7 60 rfl) rfl
theorem q1915 : (Jvm.Cond.static ({ cls := "java/lang/StringLatin1", name := "hashCode", desc := "([B)I" } : Jvm.MethodName)) ∈ lw_all := lw_g (lw_at lw_m8 134 rfl) rfl
theorem q1916 : (Jvm.Cond.code ({ cls := "java/lang/StringLatin1", name := "hashCode", desc := "([B)I" } : Jvm.MethodName) prog_48_method_21_code (1 : Nat) (Option.some Jvm.ClassFile.FieldType.int)) ∈ lw_all := lw_g (lw_at lw_m8 135 rfl) rfl
theorem q1917 : (Jvm.Cond.methodLink "java/lang/StringLatin1" (84 : Nat) ({ cls := "jdk/internal/util/ArraysSupport", name := "vectorizedHashCode", desc := "(Ljava/lang/Object;IIII)I" } : Jvm.MethodName)) ∈ lw_all := lw_g (lw_at lw_m8 136 rfl) rfl
theorem q2120 : (Jvm.Cond.static ({ cls := "java/lang/StringLatin1", name := "compareTo", desc := "([B[B)I" } : Jvm.MethodName)) ∈ lw_all := lw_g (lw_at lw_m9 99 rfl) rfl
theorem q2121 : (Jvm.Cond.code ({ cls := "java/lang/StringLatin1", name := "compareTo", desc := "([B[B)I" } : Jvm.MethodName) prog_48_method_14_code (4 : Nat) (Option.some Jvm.ClassFile.FieldType.int)) ∈ lw_all := lw_g (lw_at lw_m9 100 rfl) rfl
theorem q2122 : (Jvm.Cond.methodLink "java/lang/StringLatin1" (34 : Nat) ({ cls := "java/lang/StringLatin1", name := "compareTo", desc := "([B[BII)I" } : Jvm.MethodName)) ∈ lw_all := lw_g (lw_at lw_m9 101 rfl) rfl
theorem q2123 : (Jvm.Cond.static ({ cls := "java/lang/StringLatin1", name := "compareTo", desc := "([B[BII)I" } : Jvm.MethodName)) ∈ lw_all := lw_g (lw_at lw_m9 102 rfl) rfl
theorem q2124 : (Jvm.Cond.code ({ cls := "java/lang/StringLatin1", name := "compareTo", desc := "([B[BII)I" } : Jvm.MethodName) prog_48_method_15_code (6 : Nat) (Option.some Jvm.ClassFile.FieldType.int)) ∈ lw_all := lw_g (lw_at lw_m9 103 rfl) rfl
theorem q2125 : (Jvm.Cond.methodLink "java/lang/StringLatin1" (38 : Nat) ({ cls := "java/lang/Math", name := "min", desc := "(II)I" } : Jvm.MethodName)) ∈ lw_all := lw_g (lw_at lw_m9 104 rfl) rfl
theorem q2126 : (Jvm.Cond.methodLink "java/lang/StringLatin1" (44 : Nat) ({ cls := "jdk/internal/util/ArraysSupport", name := "mismatch", desc := "([B[BI)I" } : Jvm.MethodName)) ∈ lw_all := lw_g (lw_at lw_m9 105 rfl) rfl
theorem q2227 : (Jvm.Cond.methodLink "java/lang/StringLatin1" (50 : Nat) ({ cls := "java/lang/StringLatin1", name := "getChar", desc := "([BI)C" } : Jvm.MethodName)) ∈ lw_all := lw_g (lw_at lw_m9 206 rfl) rfl
theorem q2228 : (Jvm.Cond.static ({ cls := "java/lang/StringLatin1", name := "getChar", desc := "([BI)C" } : Jvm.MethodName)) ∈ lw_all := lw_g (lw_at lw_m9 207 rfl) rfl
theorem q2229 : (Jvm.Cond.code ({ cls := "java/lang/StringLatin1", name := "getChar", desc := "([BI)C" } : Jvm.MethodName) prog_48_method_44_code (2 : Nat) (Option.some Jvm.ClassFile.FieldType.char)) ∈ lw_all := lw_g (lw_at lw_m9 208 rfl) rfl
theorem q2238 : (Jvm.Cond.static ({ cls := "java/lang/StringLatin1", name := "compareToUTF16", desc := "([B[B)I" } : Jvm.MethodName)) ∈ lw_all := lw_g (lw_at lw_m9 217 rfl) rfl
theorem q2239 : (Jvm.Cond.code ({ cls := "java/lang/StringLatin1", name := "compareToUTF16", desc := "([B[B)I" } : Jvm.MethodName) prog_48_method_16_code (4 : Nat) (Option.some Jvm.ClassFile.FieldType.int)) ∈ lw_all := lw_g (lw_at lw_m9 218 rfl) rfl
theorem q2240 : (Jvm.Cond.methodLink "java/lang/StringLatin1" (54 : Nat) ({ cls := "java/lang/StringLatin1", name := "length", desc := "([B)I" } : Jvm.MethodName)) ∈ lw_all := lw_g (lw_at lw_m9 219 rfl) rfl
theorem q2241 : (Jvm.Cond.static ({ cls := "java/lang/StringLatin1", name := "length", desc := "([B)I" } : Jvm.MethodName)) ∈ lw_all := lw_g (lw_at lw_m9 220 rfl) rfl
theorem q2242 : (Jvm.Cond.code ({ cls := "java/lang/StringLatin1", name := "length", desc := "([B)I" } : Jvm.MethodName) prog_48_method_5_code (1 : Nat) (Option.some Jvm.ClassFile.FieldType.int)) ∈ lw_all := lw_g (lw_at lw_m9 221 rfl) rfl
theorem q2243 : (Jvm.Cond.methodLink "java/lang/StringLatin1" (58 : Nat) ({ cls := "java/lang/StringUTF16", name := "length", desc := "([B)I" } : Jvm.MethodName)) ∈ lw_all := lw_g (lw_at lw_m9 222 rfl) rfl
theorem q2244 : (Jvm.Cond.methodLink "java/lang/StringLatin1" (59 : Nat) ({ cls := "java/lang/StringLatin1", name := "compareToUTF16Values", desc := "([B[BII)I" } : Jvm.MethodName)) ∈ lw_all := lw_g (lw_at lw_m9 223 rfl) rfl
theorem q2245 : (Jvm.Cond.static ({ cls := "java/lang/StringLatin1", name := "compareToUTF16Values", desc := "([B[BII)I" } : Jvm.MethodName)) ∈ lw_all := lw_g (lw_at lw_m9 224 rfl) rfl
theorem q2246 : (Jvm.Cond.code ({ cls := "java/lang/StringLatin1", name := "compareToUTF16Values", desc := "([B[BII)I" } : Jvm.MethodName) prog_48_method_18_code (8 : Nat) (Option.some Jvm.ClassFile.FieldType.int)) ∈ lw_all := lw_g (lw_at lw_m9 225 rfl) rfl
theorem q2247 : (Jvm.Cond.methodLink "java/lang/StringLatin1" (65 : Nat) ({ cls := "java/lang/StringUTF16", name := "getChar", desc := "([BI)C" } : Jvm.MethodName)) ∈ lw_all := lw_g (lw_at lw_m9 226 rfl) rfl
theorem q2277 : (Jvm.Cond.static ({ cls := "java/lang/StringLatin1", name := "compareToUTF16", desc := "([B[BII)I" } : Jvm.MethodName)) ∈ lw_all := lw_g (lw_at lw_m10 16 rfl) rfl
theorem q2278 : (Jvm.Cond.code ({ cls := "java/lang/StringLatin1", name := "compareToUTF16", desc := "([B[BII)I" } : Jvm.MethodName) prog_48_method_17_code (4 : Nat) (Option.some Jvm.ClassFile.FieldType.int)) ∈ lw_all := lw_g (lw_at lw_m10 17 rfl) rfl
theorem q2279 : (Jvm.Cond.methodLink "java/lang/StringLatin1" (62 : Nat) ({ cls := "java/lang/String", name := "checkOffset", desc := "(II)V" } : Jvm.MethodName)) ∈ lw_all := lw_g (lw_at lw_m10 18 rfl) rfl
theorem q2349 : (Jvm.Cond.static ({ cls := "java/lang/StringLatin1", name := "equals", desc := "([B[B)Z" } : Jvm.MethodName)) ∈ lw_all := lw_g (lw_at lw_m10 88 rfl) rfl
theorem q2350 : (Jvm.Cond.code ({ cls := "java/lang/StringLatin1", name := "equals", desc := "([B[B)Z" } : Jvm.MethodName) prog_48_method_13_code (3 : Nat) (Option.some Jvm.ClassFile.FieldType.boolean)) ∈ lw_all := lw_g (lw_at lw_m10 89 rfl) rfl

-- J17.java_util_AbstractMap.lean.txt
/-! java/util/AbstractMap -/
set_option maxRecDepth 100000
def RJ17 : String := "java/util/AbstractMap"
abbrev cJ17_init : ByteArray := prog_57_method_1_code
def yJ17_init : MethodName := ⟨RJ17, "<init>", "()V"⟩
theorem dJ17_init_0 : decode cJ17_init 0 = .ok (.aload_n 0, 1) := by decide +kernel
theorem dJ17_init_1 : decode cJ17_init 1 = .ok (.invokespecial 1, 3) := by decide +kernel
theorem dJ17_init_4 : decode cJ17_init 4 = .ok (.return_, 1) := by decide +kernel
theorem q123 : (Jvm.Cond.initialized "java/util/AbstractMap") ∈ lw_all := lw_g (lw_at lw_m1 22 rfl) rfl
theorem q548 : (Jvm.Cond.instanceMethod ({ cls := "java/util/AbstractMap", name := "<init>", desc := "()V" } : Jvm.MethodName)) ∈ lw_all := lw_g (lw_at lw_m2 207 rfl) rfl
theorem q549 : (Jvm.Cond.code ({ cls := "java/util/AbstractMap", name := "<init>", desc := "()V" } : Jvm.MethodName) prog_57_method_1_code (1 : Nat) (Option.none : Option Jvm.ClassFile.FieldType)) ∈ lw_all := lw_g (lw_at lw_m2 208 rfl) rfl
theorem q550 : (Jvm.Cond.methodLink "java/util/AbstractMap" (1 : Nat) ({ cls := "java/lang/Object", name := "<init>", desc := "()V" } : Jvm.MethodName)) ∈ lw_all := lw_g (lw_at lw_m2 209 rfl) rfl
theorem q602 : (Jvm.Cond.soleField "java/util/AbstractMap" "keySet") ∈ lw_all := lw_g (lw_at lw_m3 21 rfl) rfl
theorem q604 : (Jvm.Cond.soleField "java/util/AbstractMap" "values") ∈ lw_all := lw_g (lw_at lw_m3 23 rfl) rfl

-- J18.java_util_HashMap.lean.txt
/-! java/util/HashMap -/
set_option maxRecDepth 100000
def RJ18 : String := "java/util/HashMap"
abbrev cJ18_init : ByteArray := prog_66_method_7_code
def yJ18_init : MethodName := ⟨RJ18, "<init>", "()V"⟩
def dkwJ18_init_0 : List UInt8 := [42, 183, 0, 43, 42, 18, 92, 181, 0, 81, 177]
abbrev dktJ18_init_0 : List UInt8 := dkwJ18_init_0 ++ []
theorem dksJ18_init_0 : cJ18_init.data.toList.drop 0 = dktJ18_init_0 := by decide +kernel
theorem dJ18_init_0 : decode cJ18_init 0 = .ok (.aload_n 0, 1) := dk_42 (dk_at dksJ18_init_0 0 rfl rfl)
theorem dJ18_init_1 : decode cJ18_init 1 = .ok (.invokespecial 43, 3) := dk_183 0 43 (dk_at dksJ18_init_0 1 rfl rfl)
theorem dJ18_init_4 : decode cJ18_init 4 = .ok (.aload_n 0, 1) := dk_42 (dk_at dksJ18_init_0 4 rfl rfl)
theorem dJ18_init_5 : decode cJ18_init 5 = .ok (.ldc 92, 2) := dk_18 92 (dk_at dksJ18_init_0 5 rfl rfl)
theorem dJ18_init_7 : decode cJ18_init 7 = .ok (.putfield 81, 3) := dk_181 0 81 (dk_at dksJ18_init_0 7 rfl rfl)
theorem dJ18_init_10 : decode cJ18_init 10 = .ok (.return_, 1) := dk_177 (dk_at dksJ18_init_0 10 rfl rfl)
abbrev cJ18_size : ByteArray := prog_66_method_10_code
def yJ18_size : MethodName := ⟨RJ18, "size", "()I"⟩
theorem dJ18_size_0 : decode cJ18_size 0 = .ok (.aload_n 0, 1) := by decide +kernel
theorem dJ18_size_1 : decode cJ18_size 1 = .ok (.getfield 156, 3) := by decide +kernel
theorem dJ18_size_4 : decode cJ18_size 4 = .ok (.ireturn, 1) := by decide +kernel
abbrev cJ18_init_2 : ByteArray := prog_66_method_5_code
def yJ18_init_2 : MethodName := ⟨RJ18, "<init>", "(IF)V"⟩
def dkwJ18_init_2_4 : List UInt8 := [181, 0, 88, 177]
abbrev dktJ18_init_2_4 : List UInt8 := dkwJ18_init_2_4 ++ []
def dkwJ18_init_2_3 : List UInt8 := [182, 0, 56, 36, 182, 0, 78, 182, 0, 63, 183, 0, 67, 191, 42, 36, 181, 0, 81, 42, 27, 184, 0, 85]
abbrev dktJ18_init_2_3 : List UInt8 := dkwJ18_init_2_3 ++ dktJ18_init_2_4
def dkwJ18_init_2_2 : List UInt8 := [158, 0, 10, 36, 184, 0, 70, 153, 0, 30, 187, 0, 49, 89, 187, 0, 51, 89, 183, 0, 53, 18, 76]
abbrev dktJ18_init_2_2 : List UInt8 := dkwJ18_init_2_2 ++ dktJ18_init_2_3
def dkwJ18_init_2_1 : List UInt8 := [27, 182, 0, 60, 182, 0, 63, 183, 0, 67, 191, 27, 18, 42, 164, 0, 6, 18, 42, 60, 36, 11, 150]
abbrev dktJ18_init_2_1 : List UInt8 := dkwJ18_init_2_1 ++ dktJ18_init_2_2
def dkwJ18_init_2_0 : List UInt8 := [42, 183, 0, 43, 27, 156, 0, 30, 187, 0, 49, 89, 187, 0, 51, 89, 183, 0, 53, 18, 54, 182, 0, 56]
abbrev dktJ18_init_2_0 : List UInt8 := dkwJ18_init_2_0 ++ dktJ18_init_2_1
theorem dksJ18_init_2_0 : cJ18_init_2.data.toList.drop 0 = dktJ18_init_2_0 := by decide +kernel
theorem dksJ18_init_2_1 : cJ18_init_2.data.toList.drop 24 = dktJ18_init_2_1 := dk_seg dksJ18_init_2_0 24 rfl rfl
theorem dksJ18_init_2_2 : cJ18_init_2.data.toList.drop 47 = dktJ18_init_2_2 := dk_seg dksJ18_init_2_1 23 rfl rfl
theorem dksJ18_init_2_3 : cJ18_init_2.data.toList.drop 70 = dktJ18_init_2_3 := dk_seg dksJ18_init_2_2 23 rfl rfl
theorem dksJ18_init_2_4 : cJ18_init_2.data.toList.drop 94 = dktJ18_init_2_4 := dk_seg dksJ18_init_2_3 24 rfl rfl
theorem dJ18_init_2_0 : decode cJ18_init_2 0 = .ok (.aload_n 0, 1) := dk_42 (dk_at dksJ18_init_2_0 0 rfl rfl)
theorem dJ18_init_2_1 : decode cJ18_init_2 1 = .ok (.invokespecial 43, 3) := dk_183 0 43 (dk_at dksJ18_init_2_0 1 rfl rfl)
theorem dJ18_init_2_4 : decode cJ18_init_2 4 = .ok (.iload_n 1, 1) := dk_27 (dk_at dksJ18_init_2_0 4 rfl rfl)
theorem dJ18_init_2_5 : decode cJ18_init_2 5 = .ok (.ifCond .ge 30, 3) := dk_156 0 30 (dk_at dksJ18_init_2_0 5 rfl rfl)
theorem dJ18_init_2_8 : decode cJ18_init_2 8 = .ok (.new 49, 3) := dk_187 0 49 (dk_at dksJ18_init_2_0 8 rfl rfl)
theorem dJ18_init_2_11 : decode cJ18_init_2 11 = .ok (.dup, 1) := dk_89 (dk_at dksJ18_init_2_0 11 rfl rfl)
theorem dJ18_init_2_12 : decode cJ18_init_2 12 = .ok (.new 51, 3) := dk_187 0 51 (dk_at dksJ18_init_2_0 12 rfl rfl)
theorem dJ18_init_2_15 : decode cJ18_init_2 15 = .ok (.dup, 1) := dk_89 (dk_at dksJ18_init_2_0 15 rfl rfl)
theorem dJ18_init_2_16 : decode cJ18_init_2 16 = .ok (.invokespecial 53, 3) := dk_183 0 53 (dk_at dksJ18_init_2_0 16 rfl rfl)
theorem dJ18_init_2_19 : decode cJ18_init_2 19 = .ok (.ldc 54, 2) := dk_18 54 (dk_at dksJ18_init_2_0 19 rfl rfl)
theorem dJ18_init_2_21 : decode cJ18_init_2 21 = .ok (.invokevirtual 56, 3) := dk_182 0 56 (dk_at dksJ18_init_2_0 21 rfl rfl)
theorem dJ18_init_2_24 : decode cJ18_init_2 24 = .ok (.iload_n 1, 1) := dk_27 (dk_at dksJ18_init_2_1 0 rfl rfl)
theorem dJ18_init_2_25 : decode cJ18_init_2 25 = .ok (.invokevirtual 60, 3) := dk_182 0 60 (dk_at dksJ18_init_2_1 1 rfl rfl)
theorem dJ18_init_2_28 : decode cJ18_init_2 28 = .ok (.invokevirtual 63, 3) := dk_182 0 63 (dk_at dksJ18_init_2_1 4 rfl rfl)
theorem dJ18_init_2_31 : decode cJ18_init_2 31 = .ok (.invokespecial 67, 3) := dk_183 0 67 (dk_at dksJ18_init_2_1 7 rfl rfl)
theorem dJ18_init_2_34 : decode cJ18_init_2 34 = .ok (.athrow, 1) := dk_191 (dk_at dksJ18_init_2_1 10 rfl rfl)
theorem dJ18_init_2_35 : decode cJ18_init_2 35 = .ok (.iload_n 1, 1) := dk_27 (dk_at dksJ18_init_2_1 11 rfl rfl)
theorem dJ18_init_2_36 : decode cJ18_init_2 36 = .ok (.ldc 42, 2) := dk_18 42 (dk_at dksJ18_init_2_1 12 rfl rfl)
theorem dJ18_init_2_38 : decode cJ18_init_2 38 = .ok (.if_icmp .le 6, 3) := dk_164 0 6 (dk_at dksJ18_init_2_1 14 rfl rfl)
theorem dJ18_init_2_41 : decode cJ18_init_2 41 = .ok (.ldc 42, 2) := dk_18 42 (dk_at dksJ18_init_2_1 17 rfl rfl)
theorem dJ18_init_2_43 : decode cJ18_init_2 43 = .ok (.istore_n 1, 1) := dk_60 (dk_at dksJ18_init_2_1 19 rfl rfl)
theorem dJ18_init_2_44 : decode cJ18_init_2 44 = .ok (.fload_n 2, 1) := dk_36 (dk_at dksJ18_init_2_1 20 rfl rfl)
theorem dJ18_init_2_45 : decode cJ18_init_2 45 = .ok (.fconst 0, 1) := dk_11 (dk_at dksJ18_init_2_1 21 rfl rfl)
theorem dJ18_init_2_46 : decode cJ18_init_2 46 = .ok (.fcmp .g, 1) := dk_150 (dk_at dksJ18_init_2_1 22 rfl rfl)
theorem dJ18_init_2_47 : decode cJ18_init_2 47 = .ok (.ifCond .le 10, 3) := dk_158 0 10 (dk_at dksJ18_init_2_2 0 rfl rfl)
theorem dJ18_init_2_50 : decode cJ18_init_2 50 = .ok (.fload_n 2, 1) := dk_36 (dk_at dksJ18_init_2_2 3 rfl rfl)
theorem dJ18_init_2_51 : decode cJ18_init_2 51 = .ok (.invokestatic 70, 3) := dk_184 0 70 (dk_at dksJ18_init_2_2 4 rfl rfl)
theorem dJ18_init_2_54 : decode cJ18_init_2 54 = .ok (.ifCond .eq 30, 3) := dk_153 0 30 (dk_at dksJ18_init_2_2 7 rfl rfl)
theorem dJ18_init_2_57 : decode cJ18_init_2 57 = .ok (.new 49, 3) := dk_187 0 49 (dk_at dksJ18_init_2_2 10 rfl rfl)
theorem dJ18_init_2_60 : decode cJ18_init_2 60 = .ok (.dup, 1) := dk_89 (dk_at dksJ18_init_2_2 13 rfl rfl)
theorem dJ18_init_2_61 : decode cJ18_init_2 61 = .ok (.new 51, 3) := dk_187 0 51 (dk_at dksJ18_init_2_2 14 rfl rfl)
theorem dJ18_init_2_64 : decode cJ18_init_2 64 = .ok (.dup, 1) := dk_89 (dk_at dksJ18_init_2_2 17 rfl rfl)
theorem dJ18_init_2_65 : decode cJ18_init_2 65 = .ok (.invokespecial 53, 3) := dk_183 0 53 (dk_at dksJ18_init_2_2 18 rfl rfl)
theorem dJ18_init_2_68 : decode cJ18_init_2 68 = .ok (.ldc 76, 2) := dk_18 76 (dk_at dksJ18_init_2_2 21 rfl rfl)
theorem dJ18_init_2_70 : decode cJ18_init_2 70 = .ok (.invokevirtual 56, 3) := dk_182 0 56 (dk_at dksJ18_init_2_3 0 rfl rfl)
theorem dJ18_init_2_73 : decode cJ18_init_2 73 = .ok (.fload_n 2, 1) := dk_36 (dk_at dksJ18_init_2_3 3 rfl rfl)
theorem dJ18_init_2_74 : decode cJ18_init_2 74 = .ok (.invokevirtual 78, 3) := dk_182 0 78 (dk_at dksJ18_init_2_3 4 rfl rfl)
theorem dJ18_init_2_77 : decode cJ18_init_2 77 = .ok (.invokevirtual 63, 3) := dk_182 0 63 (dk_at dksJ18_init_2_3 7 rfl rfl)
theorem dJ18_init_2_80 : decode cJ18_init_2 80 = .ok (.invokespecial 67, 3) := dk_183 0 67 (dk_at dksJ18_init_2_3 10 rfl rfl)
theorem dJ18_init_2_83 : decode cJ18_init_2 83 = .ok (.athrow, 1) := dk_191 (dk_at dksJ18_init_2_3 13 rfl rfl)
theorem dJ18_init_2_84 : decode cJ18_init_2 84 = .ok (.aload_n 0, 1) := dk_42 (dk_at dksJ18_init_2_3 14 rfl rfl)
theorem dJ18_init_2_85 : decode cJ18_init_2 85 = .ok (.fload_n 2, 1) := dk_36 (dk_at dksJ18_init_2_3 15 rfl rfl)
theorem dJ18_init_2_86 : decode cJ18_init_2 86 = .ok (.putfield 81, 3) := dk_181 0 81 (dk_at dksJ18_init_2_3 16 rfl rfl)
theorem dJ18_init_2_89 : decode cJ18_init_2 89 = .ok (.aload_n 0, 1) := dk_42 (dk_at dksJ18_init_2_3 19 rfl rfl)
theorem dJ18_init_2_90 : decode cJ18_init_2 90 = .ok (.iload_n 1, 1) := dk_27 (dk_at dksJ18_init_2_3 20 rfl rfl)
theorem dJ18_init_2_91 : decode cJ18_init_2 91 = .ok (.invokestatic 85, 3) := dk_184 0 85 (dk_at dksJ18_init_2_3 21 rfl rfl)
theorem dJ18_init_2_94 : decode cJ18_init_2 94 = .ok (.putfield 88, 3) := dk_181 0 88 (dk_at dksJ18_init_2_4 0 rfl rfl)
theorem dJ18_init_2_97 : decode cJ18_init_2 97 = .ok (.return_, 1) := dk_177 (dk_at dksJ18_init_2_4 3 rfl rfl)
abbrev cJ18_tableSizeFor : ByteArray := prog_66_method_4_code
def yJ18_tableSizeFor : MethodName := ⟨RJ18, "tableSizeFor", "(I)I"⟩
def dkwJ18_tableSizeFor_1 : List UInt8 := [18, 42, 167, 0, 6, 27, 4, 96, 172]
abbrev dktJ18_tableSizeFor_1 : List UInt8 := dkwJ18_tableSizeFor_1 ++ []
def dkwJ18_tableSizeFor_0 : List UInt8 := [2, 26, 4, 100, 184, 0, 34, 124, 60, 27, 156, 0, 7, 4, 167, 0, 17, 27, 18, 42, 161, 0, 8]
abbrev dktJ18_tableSizeFor_0 : List UInt8 := dkwJ18_tableSizeFor_0 ++ dktJ18_tableSizeFor_1
theorem dksJ18_tableSizeFor_0 : cJ18_tableSizeFor.data.toList.drop 0 = dktJ18_tableSizeFor_0 := by decide +kernel
theorem dksJ18_tableSizeFor_1 : cJ18_tableSizeFor.data.toList.drop 23 = dktJ18_tableSizeFor_1 := dk_seg dksJ18_tableSizeFor_0 23 rfl rfl
theorem dJ18_tableSizeFor_0 : decode cJ18_tableSizeFor 0 = .ok (.iconst (-1), 1) := dk_2 (dk_at dksJ18_tableSizeFor_0 0 rfl rfl)
theorem dJ18_tableSizeFor_1 : decode cJ18_tableSizeFor 1 = .ok (.iload_n 0, 1) := dk_26 (dk_at dksJ18_tableSizeFor_0 1 rfl rfl)
theorem dJ18_tableSizeFor_2 : decode cJ18_tableSizeFor 2 = .ok (.iconst 1, 1) := dk_4 (dk_at dksJ18_tableSizeFor_0 2 rfl rfl)
theorem dJ18_tableSizeFor_3 : decode cJ18_tableSizeFor 3 = .ok (.isub, 1) := dk_100 (dk_at dksJ18_tableSizeFor_0 3 rfl rfl)
theorem dJ18_tableSizeFor_4 : decode cJ18_tableSizeFor 4 = .ok (.invokestatic 34, 3) := dk_184 0 34 (dk_at dksJ18_tableSizeFor_0 4 rfl rfl)
theorem dJ18_tableSizeFor_7 : decode cJ18_tableSizeFor 7 = .ok (.iushr, 1) := dk_124 (dk_at dksJ18_tableSizeFor_0 7 rfl rfl)
theorem dJ18_tableSizeFor_8 : decode cJ18_tableSizeFor 8 = .ok (.istore_n 1, 1) := dk_60 (dk_at dksJ18_tableSizeFor_0 8 rfl rfl)
theorem dJ18_tableSizeFor_9 : decode cJ18_tableSizeFor 9 = .ok (.iload_n 1, 1) := dk_27 (dk_at dksJ18_tableSizeFor_0 9 rfl rfl)
theorem dJ18_tableSizeFor_10 : decode cJ18_tableSizeFor 10 = .ok (.ifCond .ge 7, 3) := dk_156 0 7 (dk_at dksJ18_tableSizeFor_0 10 rfl rfl)
theorem dJ18_tableSizeFor_13 : decode cJ18_tableSizeFor 13 = .ok (.iconst 1, 1) := dk_4 (dk_at dksJ18_tableSizeFor_0 13 rfl rfl)
theorem dJ18_tableSizeFor_14 : decode cJ18_tableSizeFor 14 = .ok (.goto 17, 3) := dk_167 0 17 (dk_at dksJ18_tableSizeFor_0 14 rfl rfl)
theorem dJ18_tableSizeFor_17 : decode cJ18_tableSizeFor 17 = .ok (.iload_n 1, 1) := dk_27 (dk_at dksJ18_tableSizeFor_0 17 rfl rfl)
theorem dJ18_tableSizeFor_18 : decode cJ18_tableSizeFor 18 = .ok (.ldc 42, 2) := dk_18 42 (dk_at dksJ18_tableSizeFor_0 18 rfl rfl)
theorem dJ18_tableSizeFor_20 : decode cJ18_tableSizeFor 20 = .ok (.if_icmp .lt 8, 3) := dk_161 0 8 (dk_at dksJ18_tableSizeFor_0 20 rfl rfl)
theorem dJ18_tableSizeFor_23 : decode cJ18_tableSizeFor 23 = .ok (.ldc 42, 2) := dk_18 42 (dk_at dksJ18_tableSizeFor_1 0 rfl rfl)
theorem dJ18_tableSizeFor_25 : decode cJ18_tableSizeFor 25 = .ok (.goto 6, 3) := dk_167 0 6 (dk_at dksJ18_tableSizeFor_1 2 rfl rfl)
theorem dJ18_tableSizeFor_28 : decode cJ18_tableSizeFor 28 = .ok (.iload_n 1, 1) := dk_27 (dk_at dksJ18_tableSizeFor_1 5 rfl rfl)
theorem dJ18_tableSizeFor_29 : decode cJ18_tableSizeFor 29 = .ok (.iconst 1, 1) := dk_4 (dk_at dksJ18_tableSizeFor_1 6 rfl rfl)
theorem dJ18_tableSizeFor_30 : decode cJ18_tableSizeFor 30 = .ok (.iadd, 1) := dk_96 (dk_at dksJ18_tableSizeFor_1 7 rfl rfl)
theorem dJ18_tableSizeFor_31 : decode cJ18_tableSizeFor 31 = .ok (.ireturn, 1) := dk_172 (dk_at dksJ18_tableSizeFor_1 8 rfl rfl)
abbrev cJ18_put : ByteArray := prog_66_method_15_code
def yJ18_put : MethodName := ⟨RJ18, "put", "(Ljava/lang/Object;Ljava/lang/Object;)Ljava/lang/Object;"⟩
def dkwJ18_put_0 : List UInt8 := [42, 43, 184, 0, 149, 43, 44, 3, 4, 182, 0, 152, 176]
abbrev dktJ18_put_0 : List UInt8 := dkwJ18_put_0 ++ []
theorem dksJ18_put_0 : cJ18_put.data.toList.drop 0 = dktJ18_put_0 := by decide +kernel
theorem dJ18_put_0 : decode cJ18_put 0 = .ok (.aload_n 0, 1) := dk_42 (dk_at dksJ18_put_0 0 rfl rfl)
theorem dJ18_put_1 : decode cJ18_put 1 = .ok (.aload_n 1, 1) := dk_43 (dk_at dksJ18_put_0 1 rfl rfl)
theorem dJ18_put_2 : decode cJ18_put 2 = .ok (.invokestatic 149, 3) := dk_184 0 149 (dk_at dksJ18_put_0 2 rfl rfl)
theorem dJ18_put_5 : decode cJ18_put 5 = .ok (.aload_n 1, 1) := dk_43 (dk_at dksJ18_put_0 5 rfl rfl)
theorem dJ18_put_6 : decode cJ18_put 6 = .ok (.aload_n 2, 1) := dk_44 (dk_at dksJ18_put_0 6 rfl rfl)
theorem dJ18_put_7 : decode cJ18_put 7 = .ok (.iconst 0, 1) := dk_3 (dk_at dksJ18_put_0 7 rfl rfl)
theorem dJ18_put_8 : decode cJ18_put 8 = .ok (.iconst 1, 1) := dk_4 (dk_at dksJ18_put_0 8 rfl rfl)
theorem dJ18_put_9 : decode cJ18_put 9 = .ok (.invokevirtual 152, 3) := dk_182 0 152 (dk_at dksJ18_put_0 9 rfl rfl)
theorem dJ18_put_12 : decode cJ18_put 12 = .ok (.areturn, 1) := dk_176 (dk_at dksJ18_put_0 12 rfl rfl)
abbrev cJ18_hash : ByteArray := prog_66_method_1_code
def yJ18_hash : MethodName := ⟨RJ18, "hash", "(Ljava/lang/Object;)I"⟩
def dkwJ18_hash_0 : List UInt8 := [42, 199, 0, 7, 3, 167, 0, 14, 42, 182, 0, 1, 89, 60, 27, 16, 16, 124, 130, 172]
abbrev dktJ18_hash_0 : List UInt8 := dkwJ18_hash_0 ++ []
theorem dksJ18_hash_0 : cJ18_hash.data.toList.drop 0 = dktJ18_hash_0 := by decide +kernel
theorem dJ18_hash_0 : decode cJ18_hash 0 = .ok (.aload_n 0, 1) := dk_42 (dk_at dksJ18_hash_0 0 rfl rfl)
theorem dJ18_hash_1 : decode cJ18_hash 1 = .ok (.ifnonnull 7, 3) := dk_199 0 7 (dk_at dksJ18_hash_0 1 rfl rfl)
theorem dJ18_hash_4 : decode cJ18_hash 4 = .ok (.iconst 0, 1) := dk_3 (dk_at dksJ18_hash_0 4 rfl rfl)
theorem dJ18_hash_5 : decode cJ18_hash 5 = .ok (.goto 14, 3) := dk_167 0 14 (dk_at dksJ18_hash_0 5 rfl rfl)
theorem dJ18_hash_8 : decode cJ18_hash 8 = .ok (.aload_n 0, 1) := dk_42 (dk_at dksJ18_hash_0 8 rfl rfl)
theorem dJ18_hash_9 : decode cJ18_hash 9 = .ok (.invokevirtual 1, 3) := dk_182 0 1 (dk_at dksJ18_hash_0 9 rfl rfl)
theorem dJ18_hash_12 : decode cJ18_hash 12 = .ok (.dup, 1) := dk_89 (dk_at dksJ18_hash_0 12 rfl rfl)
theorem dJ18_hash_13 : decode cJ18_hash 13 = .ok (.istore_n 1, 1) := dk_60 (dk_at dksJ18_hash_0 13 rfl rfl)
theorem dJ18_hash_14 : decode cJ18_hash 14 = .ok (.iload_n 1, 1) := dk_27 (dk_at dksJ18_hash_0 14 rfl rfl)
theorem dJ18_hash_15 : decode cJ18_hash 15 = .ok (.bipush 16, 2) := dk_16 16 (dk_at dksJ18_hash_0 15 rfl rfl)
theorem dJ18_hash_17 : decode cJ18_hash 17 = .ok (.iushr, 1) := dk_124 (dk_at dksJ18_hash_0 17 rfl rfl)
theorem dJ18_hash_18 : decode cJ18_hash 18 = .ok (.ixor, 1) := dk_130 (dk_at dksJ18_hash_0 18 rfl rfl)
theorem dJ18_hash_19 : decode cJ18_hash 19 = .ok (.ireturn, 1) := dk_172 (dk_at dksJ18_hash_0 19 rfl rfl)
abbrev cJ18_putVal : ByteArray := prog_66_method_16_code
def yJ18_putVal : MethodName := ⟨RJ18, "putVal", "(ILjava/lang/Object;Ljava/lang/Object;ZZ)Ljava/lang/Object;"⟩
def dkwJ18_putVal_12 : List UInt8 := [181, 0, 156, 42, 180, 0, 88, 164, 0, 8, 42, 182, 0, 117, 87, 42, 21, 5, 182, 0, 205, 1, 176]
abbrev dktJ18_putVal_12 : List UInt8 := dkwJ18_putVal_12 ++ []
def dkwJ18_putVal_11 : List UInt8 := [182, 0, 198, 25, 12, 176, 42, 89, 180, 0, 202, 4, 96, 181, 0, 202, 42, 89, 180, 0, 156, 4, 96, 90]
abbrev dktJ18_putVal_11 : List UInt8 := dkwJ18_putVal_11 ++ dktJ18_putVal_12
def dkwJ18_putVal_10 : List UInt8 := [180, 0, 162, 58, 12, 21, 4, 153, 0, 8, 25, 12, 199, 0, 9, 25, 10, 45, 181, 0, 162, 42, 25, 10]
abbrev dktJ18_putVal_10 : List UInt8 := dkwJ18_putVal_10 ++ dktJ18_putVal_11
def dkwJ18_putVal_9 : List UInt8 := [153, 0, 6, 167, 0, 13, 25, 10, 58, 7, 132, 12, 1, 167, 255, 171, 25, 10, 198, 0, 35, 25, 10]
abbrev dktJ18_putVal_9 : List UInt8 := dkwJ18_putVal_9 ++ dktJ18_putVal_10
def dkwJ18_putVal_8 : List UInt8 := [25, 10, 180, 0, 170, 89, 58, 11, 44, 165, 0, 29, 44, 198, 0, 15, 44, 25, 11, 182, 0, 173]
abbrev dktJ18_putVal_8 : List UInt8 := dkwJ18_putVal_8 ++ dktJ18_putVal_9
def dkwJ18_putVal_7 : List UInt8 := [16, 7, 161, 0, 60, 42, 25, 6, 27, 182, 0, 194, 167, 0, 50, 25, 10, 180, 0, 168, 27, 160, 0, 31]
abbrev dktJ18_putVal_7 : List UInt8 := dkwJ18_putVal_7 ++ dktJ18_putVal_8
def dkwJ18_putVal_6 : List UInt8 := [180, 0, 177, 89, 58, 10, 199, 0, 33, 25, 7, 42, 27, 44, 45, 1, 182, 0, 186, 181, 0, 177, 21, 12]
abbrev dktJ18_putVal_6 : List UInt8 := dkwJ18_putVal_6 ++ dktJ18_putVal_7
def dkwJ18_putVal_5 : List UInt8 := [192, 0, 180, 42, 25, 6, 27, 44, 45, 182, 0, 190, 58, 10, 167, 0, 94, 3, 54, 12, 25, 7]
abbrev dktJ18_putVal_5 : List UInt8 := dkwJ18_putVal_5 ++ dktJ18_putVal_6
def dkwJ18_putVal_4 : List UInt8 := [182, 0, 173, 153, 0, 10, 25, 7, 58, 10, 167, 0, 121, 25, 7, 193, 0, 180, 153, 0, 22, 25, 7]
abbrev dktJ18_putVal_4 : List UInt8 := dkwJ18_putVal_4 ++ dktJ18_putVal_5
def dkwJ18_putVal_3 : List UInt8 := [160, 0, 35, 25, 7, 180, 0, 170, 89, 58, 11, 44, 165, 0, 16, 44, 198, 0, 19, 44, 25, 11]
abbrev dktJ18_putVal_3 : List UInt8 := dkwJ18_putVal_3 ++ dktJ18_putVal_4
def dkwJ18_putVal_2 : List UInt8 := [25, 6, 21, 9, 42, 27, 44, 45, 1, 182, 0, 186, 83, 167, 0, 199, 25, 7, 180, 0, 168, 27]
abbrev dktJ18_putVal_2 : List UInt8 := dkwJ18_putVal_2 ++ dktJ18_putVal_3
def dkwJ18_putVal_1 : List UInt8 := [58, 6, 190, 54, 8, 25, 6, 21, 8, 4, 100, 27, 126, 89, 54, 9, 50, 89, 58, 7, 199, 0, 19]
abbrev dktJ18_putVal_1 : List UInt8 := dkwJ18_putVal_1 ++ dktJ18_putVal_2
def dkwJ18_putVal_0 : List UInt8 := [42, 180, 0, 105, 89, 58, 6, 198, 0, 12, 25, 6, 190, 89, 54, 8, 154, 0, 13, 42, 182, 0, 117, 89]
abbrev dktJ18_putVal_0 : List UInt8 := dkwJ18_putVal_0 ++ dktJ18_putVal_1
theorem dksJ18_putVal_0 : cJ18_putVal.data.toList.drop 0 = dktJ18_putVal_0 := by decide +kernel
theorem dksJ18_putVal_1 : cJ18_putVal.data.toList.drop 24 = dktJ18_putVal_1 := dk_seg dksJ18_putVal_0 24 rfl rfl
theorem dksJ18_putVal_2 : cJ18_putVal.data.toList.drop 47 = dktJ18_putVal_2 := dk_seg dksJ18_putVal_1 23 rfl rfl
theorem dksJ18_putVal_3 : cJ18_putVal.data.toList.drop 69 = dktJ18_putVal_3 := dk_seg dksJ18_putVal_2 22 rfl rfl
theorem dksJ18_putVal_4 : cJ18_putVal.data.toList.drop 91 = dktJ18_putVal_4 := dk_seg dksJ18_putVal_3 22 rfl rfl
theorem dksJ18_putVal_5 : cJ18_putVal.data.toList.drop 114 = dktJ18_putVal_5 := dk_seg dksJ18_putVal_4 23 rfl rfl
theorem dksJ18_putVal_6 : cJ18_putVal.data.toList.drop 136 = dktJ18_putVal_6 := dk_seg dksJ18_putVal_5 22 rfl rfl
theorem dksJ18_putVal_7 : cJ18_putVal.data.toList.drop 160 = dktJ18_putVal_7 := dk_seg dksJ18_putVal_6 24 rfl rfl
theorem dksJ18_putVal_8 : cJ18_putVal.data.toList.drop 184 = dktJ18_putVal_8 := dk_seg dksJ18_putVal_7 24 rfl rfl
theorem dksJ18_putVal_9 : cJ18_putVal.data.toList.drop 206 = dktJ18_putVal_9 := dk_seg dksJ18_putVal_8 22 rfl rfl
theorem dksJ18_putVal_10 : cJ18_putVal.data.toList.drop 229 = dktJ18_putVal_10 := dk_seg dksJ18_putVal_9 23 rfl rfl
theorem dksJ18_putVal_11 : cJ18_putVal.data.toList.drop 253 = dktJ18_putVal_11 := dk_seg dksJ18_putVal_10 24 rfl rfl
theorem dksJ18_putVal_12 : cJ18_putVal.data.toList.drop 277 = dktJ18_putVal_12 := dk_seg dksJ18_putVal_11 24 rfl rfl
theorem dJ18_putVal_0 : decode cJ18_putVal 0 = .ok (.aload_n 0, 1) := dk_42 (dk_at dksJ18_putVal_0 0 rfl rfl)
theorem dJ18_putVal_1 : decode cJ18_putVal 1 = .ok (.getfield 105, 3) := dk_180 0 105 (dk_at dksJ18_putVal_0 1 rfl rfl)
theorem dJ18_putVal_4 : decode cJ18_putVal 4 = .ok (.dup, 1) := dk_89 (dk_at dksJ18_putVal_0 4 rfl rfl)
theorem dJ18_putVal_5 : decode cJ18_putVal 5 = .ok (.astore 6, 2) := dk_58 6 (dk_at dksJ18_putVal_0 5 rfl rfl)
theorem dJ18_putVal_7 : decode cJ18_putVal 7 = .ok (.ifnull 12, 3) := dk_198 0 12 (dk_at dksJ18_putVal_0 7 rfl rfl)
theorem dJ18_putVal_10 : decode cJ18_putVal 10 = .ok (.aload 6, 2) := dk_25 6 (dk_at dksJ18_putVal_0 10 rfl rfl)
theorem dJ18_putVal_12 : decode cJ18_putVal 12 = .ok (.arraylength, 1) := dk_190 (dk_at dksJ18_putVal_0 12 rfl rfl)
theorem dJ18_putVal_13 : decode cJ18_putVal 13 = .ok (.dup, 1) := dk_89 (dk_at dksJ18_putVal_0 13 rfl rfl)
theorem dJ18_putVal_14 : decode cJ18_putVal 14 = .ok (.istore 8, 2) := dk_54 8 (dk_at dksJ18_putVal_0 14 rfl rfl)
theorem dJ18_putVal_16 : decode cJ18_putVal 16 = .ok (.ifCond .ne 13, 3) := dk_154 0 13 (dk_at dksJ18_putVal_0 16 rfl rfl)
theorem dJ18_putVal_19 : decode cJ18_putVal 19 = .ok (.aload_n 0, 1) := dk_42 (dk_at dksJ18_putVal_0 19 rfl rfl)
theorem dJ18_putVal_20 : decode cJ18_putVal 20 = .ok (.invokevirtual 117, 3) := dk_182 0 117 (dk_at dksJ18_putVal_0 20 rfl rfl)
theorem dJ18_putVal_23 : decode cJ18_putVal 23 = .ok (.dup, 1) := dk_89 (dk_at dksJ18_putVal_0 23 rfl rfl)
theorem dJ18_putVal_24 : decode cJ18_putVal 24 = .ok (.astore 6, 2) := dk_58 6 (dk_at dksJ18_putVal_1 0 rfl rfl)
theorem dJ18_putVal_26 : decode cJ18_putVal 26 = .ok (.arraylength, 1) := dk_190 (dk_at dksJ18_putVal_1 2 rfl rfl)
theorem dJ18_putVal_27 : decode cJ18_putVal 27 = .ok (.istore 8, 2) := dk_54 8 (dk_at dksJ18_putVal_1 3 rfl rfl)
theorem dJ18_putVal_29 : decode cJ18_putVal 29 = .ok (.aload 6, 2) := dk_25 6 (dk_at dksJ18_putVal_1 5 rfl rfl)
theorem dJ18_putVal_31 : decode cJ18_putVal 31 = .ok (.iload 8, 2) := dk_21 8 (dk_at dksJ18_putVal_1 7 rfl rfl)
theorem dJ18_putVal_33 : decode cJ18_putVal 33 = .ok (.iconst 1, 1) := dk_4 (dk_at dksJ18_putVal_1 9 rfl rfl)
theorem dJ18_putVal_34 : decode cJ18_putVal 34 = .ok (.isub, 1) := dk_100 (dk_at dksJ18_putVal_1 10 rfl rfl)
theorem dJ18_putVal_35 : decode cJ18_putVal 35 = .ok (.iload_n 1, 1) := dk_27 (dk_at dksJ18_putVal_1 11 rfl rfl)
theorem dJ18_putVal_36 : decode cJ18_putVal 36 = .ok (.iand, 1) := dk_126 (dk_at dksJ18_putVal_1 12 rfl rfl)
theorem dJ18_putVal_37 : decode cJ18_putVal 37 = .ok (.dup, 1) := dk_89 (dk_at dksJ18_putVal_1 13 rfl rfl)
theorem dJ18_putVal_38 : decode cJ18_putVal 38 = .ok (.istore 9, 2) := dk_54 9 (dk_at dksJ18_putVal_1 14 rfl rfl)
theorem dJ18_putVal_40 : decode cJ18_putVal 40 = .ok (.aaload, 1) := dk_50 (dk_at dksJ18_putVal_1 16 rfl rfl)
theorem dJ18_putVal_41 : decode cJ18_putVal 41 = .ok (.dup, 1) := dk_89 (dk_at dksJ18_putVal_1 17 rfl rfl)
theorem dJ18_putVal_42 : decode cJ18_putVal 42 = .ok (.astore 7, 2) := dk_58 7 (dk_at dksJ18_putVal_1 18 rfl rfl)
theorem dJ18_putVal_44 : decode cJ18_putVal 44 = .ok (.ifnonnull 19, 3) := dk_199 0 19 (dk_at dksJ18_putVal_1 20 rfl rfl)
theorem dJ18_putVal_47 : decode cJ18_putVal 47 = .ok (.aload 6, 2) := dk_25 6 (dk_at dksJ18_putVal_2 0 rfl rfl)
theorem dJ18_putVal_49 : decode cJ18_putVal 49 = .ok (.iload 9, 2) := dk_21 9 (dk_at dksJ18_putVal_2 2 rfl rfl)
theorem dJ18_putVal_51 : decode cJ18_putVal 51 = .ok (.aload_n 0, 1) := dk_42 (dk_at dksJ18_putVal_2 4 rfl rfl)
theorem dJ18_putVal_52 : decode cJ18_putVal 52 = .ok (.iload_n 1, 1) := dk_27 (dk_at dksJ18_putVal_2 5 rfl rfl)
theorem dJ18_putVal_53 : decode cJ18_putVal 53 = .ok (.aload_n 2, 1) := dk_44 (dk_at dksJ18_putVal_2 6 rfl rfl)
theorem dJ18_putVal_54 : decode cJ18_putVal 54 = .ok (.aload_n 3, 1) := dk_45 (dk_at dksJ18_putVal_2 7 rfl rfl)
theorem dJ18_putVal_55 : decode cJ18_putVal 55 = .ok (.aconst_null, 1) := dk_1 (dk_at dksJ18_putVal_2 8 rfl rfl)
theorem dJ18_putVal_56 : decode cJ18_putVal 56 = .ok (.invokevirtual 186, 3) := dk_182 0 186 (dk_at dksJ18_putVal_2 9 rfl rfl)
theorem dJ18_putVal_59 : decode cJ18_putVal 59 = .ok (.aastore, 1) := dk_83 (dk_at dksJ18_putVal_2 12 rfl rfl)
theorem dJ18_putVal_60 : decode cJ18_putVal 60 = .ok (.goto 199, 3) := dk_167 0 199 (dk_at dksJ18_putVal_2 13 rfl rfl)
theorem dJ18_putVal_63 : decode cJ18_putVal 63 = .ok (.aload 7, 2) := dk_25 7 (dk_at dksJ18_putVal_2 16 rfl rfl)
theorem dJ18_putVal_65 : decode cJ18_putVal 65 = .ok (.getfield 168, 3) := dk_180 0 168 (dk_at dksJ18_putVal_2 18 rfl rfl)
theorem dJ18_putVal_68 : decode cJ18_putVal 68 = .ok (.iload_n 1, 1) := dk_27 (dk_at dksJ18_putVal_2 21 rfl rfl)
theorem dJ18_putVal_69 : decode cJ18_putVal 69 = .ok (.if_icmp .ne 35, 3) := dk_160 0 35 (dk_at dksJ18_putVal_3 0 rfl rfl)
theorem dJ18_putVal_72 : decode cJ18_putVal 72 = .ok (.aload 7, 2) := dk_25 7 (dk_at dksJ18_putVal_3 3 rfl rfl)
theorem dJ18_putVal_74 : decode cJ18_putVal 74 = .ok (.getfield 170, 3) := dk_180 0 170 (dk_at dksJ18_putVal_3 5 rfl rfl)
theorem dJ18_putVal_77 : decode cJ18_putVal 77 = .ok (.dup, 1) := dk_89 (dk_at dksJ18_putVal_3 8 rfl rfl)
theorem dJ18_putVal_78 : decode cJ18_putVal 78 = .ok (.astore 11, 2) := dk_58 11 (dk_at dksJ18_putVal_3 9 rfl rfl)
theorem dJ18_putVal_80 : decode cJ18_putVal 80 = .ok (.aload_n 2, 1) := dk_44 (dk_at dksJ18_putVal_3 11 rfl rfl)
theorem dJ18_putVal_81 : decode cJ18_putVal 81 = .ok (.if_acmp .eq 16, 3) := dk_165 0 16 (dk_at dksJ18_putVal_3 12 rfl rfl)
theorem dJ18_putVal_84 : decode cJ18_putVal 84 = .ok (.aload_n 2, 1) := dk_44 (dk_at dksJ18_putVal_3 15 rfl rfl)
theorem dJ18_putVal_85 : decode cJ18_putVal 85 = .ok (.ifnull 19, 3) := dk_198 0 19 (dk_at dksJ18_putVal_3 16 rfl rfl)
theorem dJ18_putVal_88 : decode cJ18_putVal 88 = .ok (.aload_n 2, 1) := dk_44 (dk_at dksJ18_putVal_3 19 rfl rfl)
theorem dJ18_putVal_89 : decode cJ18_putVal 89 = .ok (.aload 11, 2) := dk_25 11 (dk_at dksJ18_putVal_3 20 rfl rfl)
theorem dJ18_putVal_91 : decode cJ18_putVal 91 = .ok (.invokevirtual 173, 3) := dk_182 0 173 (dk_at dksJ18_putVal_4 0 rfl rfl)
theorem dJ18_putVal_94 : decode cJ18_putVal 94 = .ok (.ifCond .eq 10, 3) := dk_153 0 10 (dk_at dksJ18_putVal_4 3 rfl rfl)
theorem dJ18_putVal_97 : decode cJ18_putVal 97 = .ok (.aload 7, 2) := dk_25 7 (dk_at dksJ18_putVal_4 6 rfl rfl)
theorem dJ18_putVal_99 : decode cJ18_putVal 99 = .ok (.astore 10, 2) := dk_58 10 (dk_at dksJ18_putVal_4 8 rfl rfl)
theorem dJ18_putVal_101 : decode cJ18_putVal 101 = .ok (.goto 121, 3) := dk_167 0 121 (dk_at dksJ18_putVal_4 10 rfl rfl)
theorem dJ18_putVal_104 : decode cJ18_putVal 104 = .ok (.aload 7, 2) := dk_25 7 (dk_at dksJ18_putVal_4 13 rfl rfl)
theorem dJ18_putVal_106 : decode cJ18_putVal 106 = .ok (.instanceof 180, 3) := dk_193 0 180 (dk_at dksJ18_putVal_4 15 rfl rfl)
theorem dJ18_putVal_109 : decode cJ18_putVal 109 = .ok (.ifCond .eq 22, 3) := dk_153 0 22 (dk_at dksJ18_putVal_4 18 rfl rfl)
theorem dJ18_putVal_112 : decode cJ18_putVal 112 = .ok (.aload 7, 2) := dk_25 7 (dk_at dksJ18_putVal_4 21 rfl rfl)
theorem dJ18_putVal_114 : decode cJ18_putVal 114 = .ok (.checkcast 180, 3) := dk_192 0 180 (dk_at dksJ18_putVal_5 0 rfl rfl)
theorem dJ18_putVal_117 : decode cJ18_putVal 117 = .ok (.aload_n 0, 1) := dk_42 (dk_at dksJ18_putVal_5 3 rfl rfl)
theorem dJ18_putVal_118 : decode cJ18_putVal 118 = .ok (.aload 6, 2) := dk_25 6 (dk_at dksJ18_putVal_5 4 rfl rfl)
theorem dJ18_putVal_120 : decode cJ18_putVal 120 = .ok (.iload_n 1, 1) := dk_27 (dk_at dksJ18_putVal_5 6 rfl rfl)
theorem dJ18_putVal_121 : decode cJ18_putVal 121 = .ok (.aload_n 2, 1) := dk_44 (dk_at dksJ18_putVal_5 7 rfl rfl)
theorem dJ18_putVal_122 : decode cJ18_putVal 122 = .ok (.aload_n 3, 1) := dk_45 (dk_at dksJ18_putVal_5 8 rfl rfl)
theorem dJ18_putVal_123 : decode cJ18_putVal 123 = .ok (.invokevirtual 190, 3) := dk_182 0 190 (dk_at dksJ18_putVal_5 9 rfl rfl)
theorem dJ18_putVal_126 : decode cJ18_putVal 126 = .ok (.astore 10, 2) := dk_58 10 (dk_at dksJ18_putVal_5 12 rfl rfl)
theorem dJ18_putVal_128 : decode cJ18_putVal 128 = .ok (.goto 94, 3) := dk_167 0 94 (dk_at dksJ18_putVal_5 14 rfl rfl)
theorem dJ18_putVal_131 : decode cJ18_putVal 131 = .ok (.iconst 0, 1) := dk_3 (dk_at dksJ18_putVal_5 17 rfl rfl)
theorem dJ18_putVal_132 : decode cJ18_putVal 132 = .ok (.istore 12, 2) := dk_54 12 (dk_at dksJ18_putVal_5 18 rfl rfl)
theorem dJ18_putVal_134 : decode cJ18_putVal 134 = .ok (.aload 7, 2) := dk_25 7 (dk_at dksJ18_putVal_5 20 rfl rfl)
theorem dJ18_putVal_136 : decode cJ18_putVal 136 = .ok (.getfield 177, 3) := dk_180 0 177 (dk_at dksJ18_putVal_6 0 rfl rfl)
theorem dJ18_putVal_139 : decode cJ18_putVal 139 = .ok (.dup, 1) := dk_89 (dk_at dksJ18_putVal_6 3 rfl rfl)
theorem dJ18_putVal_140 : decode cJ18_putVal 140 = .ok (.astore 10, 2) := dk_58 10 (dk_at dksJ18_putVal_6 4 rfl rfl)
theorem dJ18_putVal_142 : decode cJ18_putVal 142 = .ok (.ifnonnull 33, 3) := dk_199 0 33 (dk_at dksJ18_putVal_6 6 rfl rfl)
theorem dJ18_putVal_145 : decode cJ18_putVal 145 = .ok (.aload 7, 2) := dk_25 7 (dk_at dksJ18_putVal_6 9 rfl rfl)
theorem dJ18_putVal_147 : decode cJ18_putVal 147 = .ok (.aload_n 0, 1) := dk_42 (dk_at dksJ18_putVal_6 11 rfl rfl)
theorem dJ18_putVal_148 : decode cJ18_putVal 148 = .ok (.iload_n 1, 1) := dk_27 (dk_at dksJ18_putVal_6 12 rfl rfl)
theorem dJ18_putVal_149 : decode cJ18_putVal 149 = .ok (.aload_n 2, 1) := dk_44 (dk_at dksJ18_putVal_6 13 rfl rfl)
theorem dJ18_putVal_150 : decode cJ18_putVal 150 = .ok (.aload_n 3, 1) := dk_45 (dk_at dksJ18_putVal_6 14 rfl rfl)
theorem dJ18_putVal_151 : decode cJ18_putVal 151 = .ok (.aconst_null, 1) := dk_1 (dk_at dksJ18_putVal_6 15 rfl rfl)
theorem dJ18_putVal_152 : decode cJ18_putVal 152 = .ok (.invokevirtual 186, 3) := dk_182 0 186 (dk_at dksJ18_putVal_6 16 rfl rfl)
theorem dJ18_putVal_155 : decode cJ18_putVal 155 = .ok (.putfield 177, 3) := dk_181 0 177 (dk_at dksJ18_putVal_6 19 rfl rfl)
theorem dJ18_putVal_158 : decode cJ18_putVal 158 = .ok (.iload 12, 2) := dk_21 12 (dk_at dksJ18_putVal_6 22 rfl rfl)
theorem dJ18_putVal_160 : decode cJ18_putVal 160 = .ok (.bipush 7, 2) := dk_16 7 (dk_at dksJ18_putVal_7 0 rfl rfl)
theorem dJ18_putVal_162 : decode cJ18_putVal 162 = .ok (.if_icmp .lt 60, 3) := dk_161 0 60 (dk_at dksJ18_putVal_7 2 rfl rfl)
theorem dJ18_putVal_165 : decode cJ18_putVal 165 = .ok (.aload_n 0, 1) := dk_42 (dk_at dksJ18_putVal_7 5 rfl rfl)
theorem dJ18_putVal_166 : decode cJ18_putVal 166 = .ok (.aload 6, 2) := dk_25 6 (dk_at dksJ18_putVal_7 6 rfl rfl)
theorem dJ18_putVal_168 : decode cJ18_putVal 168 = .ok (.iload_n 1, 1) := dk_27 (dk_at dksJ18_putVal_7 8 rfl rfl)
theorem dJ18_putVal_169 : decode cJ18_putVal 169 = .ok (.invokevirtual 194, 3) := dk_182 0 194 (dk_at dksJ18_putVal_7 9 rfl rfl)
theorem dJ18_putVal_172 : decode cJ18_putVal 172 = .ok (.goto 50, 3) := dk_167 0 50 (dk_at dksJ18_putVal_7 12 rfl rfl)
theorem dJ18_putVal_175 : decode cJ18_putVal 175 = .ok (.aload 10, 2) := dk_25 10 (dk_at dksJ18_putVal_7 15 rfl rfl)
theorem dJ18_putVal_177 : decode cJ18_putVal 177 = .ok (.getfield 168, 3) := dk_180 0 168 (dk_at dksJ18_putVal_7 17 rfl rfl)
theorem dJ18_putVal_180 : decode cJ18_putVal 180 = .ok (.iload_n 1, 1) := dk_27 (dk_at dksJ18_putVal_7 20 rfl rfl)
theorem dJ18_putVal_181 : decode cJ18_putVal 181 = .ok (.if_icmp .ne 31, 3) := dk_160 0 31 (dk_at dksJ18_putVal_7 21 rfl rfl)
theorem dJ18_putVal_184 : decode cJ18_putVal 184 = .ok (.aload 10, 2) := dk_25 10 (dk_at dksJ18_putVal_8 0 rfl rfl)
theorem dJ18_putVal_186 : decode cJ18_putVal 186 = .ok (.getfield 170, 3) := dk_180 0 170 (dk_at dksJ18_putVal_8 2 rfl rfl)
theorem dJ18_putVal_189 : decode cJ18_putVal 189 = .ok (.dup, 1) := dk_89 (dk_at dksJ18_putVal_8 5 rfl rfl)
theorem dJ18_putVal_190 : decode cJ18_putVal 190 = .ok (.astore 11, 2) := dk_58 11 (dk_at dksJ18_putVal_8 6 rfl rfl)
theorem dJ18_putVal_192 : decode cJ18_putVal 192 = .ok (.aload_n 2, 1) := dk_44 (dk_at dksJ18_putVal_8 8 rfl rfl)
theorem dJ18_putVal_193 : decode cJ18_putVal 193 = .ok (.if_acmp .eq 29, 3) := dk_165 0 29 (dk_at dksJ18_putVal_8 9 rfl rfl)
theorem dJ18_putVal_196 : decode cJ18_putVal 196 = .ok (.aload_n 2, 1) := dk_44 (dk_at dksJ18_putVal_8 12 rfl rfl)
theorem dJ18_putVal_197 : decode cJ18_putVal 197 = .ok (.ifnull 15, 3) := dk_198 0 15 (dk_at dksJ18_putVal_8 13 rfl rfl)
theorem dJ18_putVal_200 : decode cJ18_putVal 200 = .ok (.aload_n 2, 1) := dk_44 (dk_at dksJ18_putVal_8 16 rfl rfl)
theorem dJ18_putVal_201 : decode cJ18_putVal 201 = .ok (.aload 11, 2) := dk_25 11 (dk_at dksJ18_putVal_8 17 rfl rfl)
theorem dJ18_putVal_203 : decode cJ18_putVal 203 = .ok (.invokevirtual 173, 3) := dk_182 0 173 (dk_at dksJ18_putVal_8 19 rfl rfl)
theorem dJ18_putVal_206 : decode cJ18_putVal 206 = .ok (.ifCond .eq 6, 3) := dk_153 0 6 (dk_at dksJ18_putVal_9 0 rfl rfl)
theorem dJ18_putVal_209 : decode cJ18_putVal 209 = .ok (.goto 13, 3) := dk_167 0 13 (dk_at dksJ18_putVal_9 3 rfl rfl)
theorem dJ18_putVal_212 : decode cJ18_putVal 212 = .ok (.aload 10, 2) := dk_25 10 (dk_at dksJ18_putVal_9 6 rfl rfl)
theorem dJ18_putVal_214 : decode cJ18_putVal 214 = .ok (.astore 7, 2) := dk_58 7 (dk_at dksJ18_putVal_9 8 rfl rfl)
theorem dJ18_putVal_216 : decode cJ18_putVal 216 = .ok (.iinc 12 1, 3) := dk_132 12 1 (dk_at dksJ18_putVal_9 10 rfl rfl)
theorem dJ18_putVal_219 : decode cJ18_putVal 219 = .ok (.goto (-85), 3) := dk_167 255 171 (dk_at dksJ18_putVal_9 13 rfl rfl)
theorem dJ18_putVal_222 : decode cJ18_putVal 222 = .ok (.aload 10, 2) := dk_25 10 (dk_at dksJ18_putVal_9 16 rfl rfl)
theorem dJ18_putVal_224 : decode cJ18_putVal 224 = .ok (.ifnull 35, 3) := dk_198 0 35 (dk_at dksJ18_putVal_9 18 rfl rfl)
theorem dJ18_putVal_227 : decode cJ18_putVal 227 = .ok (.aload 10, 2) := dk_25 10 (dk_at dksJ18_putVal_9 21 rfl rfl)
theorem dJ18_putVal_229 : decode cJ18_putVal 229 = .ok (.getfield 162, 3) := dk_180 0 162 (dk_at dksJ18_putVal_10 0 rfl rfl)
theorem dJ18_putVal_232 : decode cJ18_putVal 232 = .ok (.astore 12, 2) := dk_58 12 (dk_at dksJ18_putVal_10 3 rfl rfl)
theorem dJ18_putVal_234 : decode cJ18_putVal 234 = .ok (.iload 4, 2) := dk_21 4 (dk_at dksJ18_putVal_10 5 rfl rfl)
theorem dJ18_putVal_236 : decode cJ18_putVal 236 = .ok (.ifCond .eq 8, 3) := dk_153 0 8 (dk_at dksJ18_putVal_10 7 rfl rfl)
theorem dJ18_putVal_239 : decode cJ18_putVal 239 = .ok (.aload 12, 2) := dk_25 12 (dk_at dksJ18_putVal_10 10 rfl rfl)
theorem dJ18_putVal_241 : decode cJ18_putVal 241 = .ok (.ifnonnull 9, 3) := dk_199 0 9 (dk_at dksJ18_putVal_10 12 rfl rfl)
theorem dJ18_putVal_244 : decode cJ18_putVal 244 = .ok (.aload 10, 2) := dk_25 10 (dk_at dksJ18_putVal_10 15 rfl rfl)
theorem dJ18_putVal_246 : decode cJ18_putVal 246 = .ok (.aload_n 3, 1) := dk_45 (dk_at dksJ18_putVal_10 17 rfl rfl)
theorem dJ18_putVal_247 : decode cJ18_putVal 247 = .ok (.putfield 162, 3) := dk_181 0 162 (dk_at dksJ18_putVal_10 18 rfl rfl)
theorem dJ18_putVal_250 : decode cJ18_putVal 250 = .ok (.aload_n 0, 1) := dk_42 (dk_at dksJ18_putVal_10 21 rfl rfl)
theorem dJ18_putVal_251 : decode cJ18_putVal 251 = .ok (.aload 10, 2) := dk_25 10 (dk_at dksJ18_putVal_10 22 rfl rfl)
theorem dJ18_putVal_253 : decode cJ18_putVal 253 = .ok (.invokevirtual 198, 3) := dk_182 0 198 (dk_at dksJ18_putVal_11 0 rfl rfl)
theorem dJ18_putVal_256 : decode cJ18_putVal 256 = .ok (.aload 12, 2) := dk_25 12 (dk_at dksJ18_putVal_11 3 rfl rfl)
theorem dJ18_putVal_258 : decode cJ18_putVal 258 = .ok (.areturn, 1) := dk_176 (dk_at dksJ18_putVal_11 5 rfl rfl)
theorem dJ18_putVal_259 : decode cJ18_putVal 259 = .ok (.aload_n 0, 1) := dk_42 (dk_at dksJ18_putVal_11 6 rfl rfl)
theorem dJ18_putVal_260 : decode cJ18_putVal 260 = .ok (.dup, 1) := dk_89 (dk_at dksJ18_putVal_11 7 rfl rfl)
theorem dJ18_putVal_261 : decode cJ18_putVal 261 = .ok (.getfield 202, 3) := dk_180 0 202 (dk_at dksJ18_putVal_11 8 rfl rfl)
theorem dJ18_putVal_264 : decode cJ18_putVal 264 = .ok (.iconst 1, 1) := dk_4 (dk_at dksJ18_putVal_11 11 rfl rfl)
theorem dJ18_putVal_265 : decode cJ18_putVal 265 = .ok (.iadd, 1) := dk_96 (dk_at dksJ18_putVal_11 12 rfl rfl)
theorem dJ18_putVal_266 : decode cJ18_putVal 266 = .ok (.putfield 202, 3) := dk_181 0 202 (dk_at dksJ18_putVal_11 13 rfl rfl)
theorem dJ18_putVal_269 : decode cJ18_putVal 269 = .ok (.aload_n 0, 1) := dk_42 (dk_at dksJ18_putVal_11 16 rfl rfl)
theorem dJ18_putVal_270 : decode cJ18_putVal 270 = .ok (.dup, 1) := dk_89 (dk_at dksJ18_putVal_11 17 rfl rfl)
theorem dJ18_putVal_271 : decode cJ18_putVal 271 = .ok (.getfield 156, 3) := dk_180 0 156 (dk_at dksJ18_putVal_11 18 rfl rfl)
theorem dJ18_putVal_274 : decode cJ18_putVal 274 = .ok (.iconst 1, 1) := dk_4 (dk_at dksJ18_putVal_11 21 rfl rfl)
theorem dJ18_putVal_275 : decode cJ18_putVal 275 = .ok (.iadd, 1) := dk_96 (dk_at dksJ18_putVal_11 22 rfl rfl)
theorem dJ18_putVal_276 : decode cJ18_putVal 276 = .ok (.dup_x1, 1) := dk_90 (dk_at dksJ18_putVal_11 23 rfl rfl)
theorem dJ18_putVal_277 : decode cJ18_putVal 277 = .ok (.putfield 156, 3) := dk_181 0 156 (dk_at dksJ18_putVal_12 0 rfl rfl)
theorem dJ18_putVal_280 : decode cJ18_putVal 280 = .ok (.aload_n 0, 1) := dk_42 (dk_at dksJ18_putVal_12 3 rfl rfl)
theorem dJ18_putVal_281 : decode cJ18_putVal 281 = .ok (.getfield 88, 3) := dk_180 0 88 (dk_at dksJ18_putVal_12 4 rfl rfl)
theorem dJ18_putVal_284 : decode cJ18_putVal 284 = .ok (.if_icmp .le 8, 3) := dk_164 0 8 (dk_at dksJ18_putVal_12 7 rfl rfl)
theorem dJ18_putVal_287 : decode cJ18_putVal 287 = .ok (.aload_n 0, 1) := dk_42 (dk_at dksJ18_putVal_12 10 rfl rfl)
theorem dJ18_putVal_288 : decode cJ18_putVal 288 = .ok (.invokevirtual 117, 3) := dk_182 0 117 (dk_at dksJ18_putVal_12 11 rfl rfl)
theorem dJ18_putVal_291 : decode cJ18_putVal 291 = .ok (.pop, 1) := dk_87 (dk_at dksJ18_putVal_12 14 rfl rfl)
theorem dJ18_putVal_292 : decode cJ18_putVal 292 = .ok (.aload_n 0, 1) := dk_42 (dk_at dksJ18_putVal_12 15 rfl rfl)
theorem dJ18_putVal_293 : decode cJ18_putVal 293 = .ok (.iload 5, 2) := dk_21 5 (dk_at dksJ18_putVal_12 16 rfl rfl)
theorem dJ18_putVal_295 : decode cJ18_putVal 295 = .ok (.invokevirtual 205, 3) := dk_182 0 205 (dk_at dksJ18_putVal_12 18 rfl rfl)
theorem dJ18_putVal_298 : decode cJ18_putVal 298 = .ok (.aconst_null, 1) := dk_1 (dk_at dksJ18_putVal_12 21 rfl rfl)
theorem dJ18_putVal_299 : decode cJ18_putVal 299 = .ok (.areturn, 1) := dk_176 (dk_at dksJ18_putVal_12 22 rfl rfl)
abbrev cJ18_resize : ByteArray := prog_66_method_17_code
def yJ18_resize : MethodName := ⟨RJ18, "resize", "()[Ljava/util/HashMap$Node;"⟩
def dkwJ18_resize_15 : List UInt8 := [25, 6, 176]
abbrev dktJ18_resize_15 : List UInt8 := dkwJ18_resize_15 ++ []
def dkwJ18_resize_14 : List UInt8 := [198, 0, 18, 25, 12, 1, 181, 0, 177, 25, 6, 21, 7, 28, 96, 25, 11, 83, 132, 7, 1, 167, 255, 57]
abbrev dktJ18_resize_14 : List UInt8 := dkwJ18_resize_14 ++ dktJ18_resize_15
def dkwJ18_resize_13 : List UInt8 := [199, 255, 185, 25, 10, 198, 0, 16, 25, 10, 1, 181, 0, 177, 25, 6, 21, 7, 25, 9, 83, 25, 12]
abbrev dktJ18_resize_13 : List UInt8 := dkwJ18_resize_13 ++ dktJ18_resize_14
def dkwJ18_resize_12 : List UInt8 := [25, 8, 58, 11, 167, 0, 10, 25, 12, 25, 8, 181, 0, 177, 25, 8, 58, 12, 25, 13, 89, 58, 8]
abbrev dktJ18_resize_12 : List UInt8 := dkwJ18_resize_12 ++ dktJ18_resize_13
def dkwJ18_resize_11 : List UInt8 := [58, 9, 167, 0, 10, 25, 10, 25, 8, 181, 0, 177, 25, 8, 58, 10, 167, 0, 26, 25, 12, 199, 0, 10]
abbrev dktJ18_resize_11 : List UInt8 := dkwJ18_resize_11 ++ dktJ18_resize_12
def dkwJ18_resize_10 : List UInt8 := [25, 8, 180, 0, 177, 58, 13, 25, 8, 180, 0, 168, 28, 126, 154, 0, 29, 25, 10, 199, 0, 10, 25, 8]
abbrev dktJ18_resize_10 : List UInt8 := dkwJ18_resize_10 ++ dktJ18_resize_11
def dkwJ18_resize_9 : List UInt8 := [42, 25, 6, 21, 7, 28, 182, 0, 211, 167, 0, 127, 1, 58, 9, 1, 58, 10, 1, 58, 11, 1, 58, 12]
abbrev dktJ18_resize_9 : List UInt8 := dkwJ18_resize_9 ++ dktJ18_resize_10
def dkwJ18_resize_8 : List UInt8 := [21, 4, 4, 100, 126, 25, 8, 83, 167, 0, 152, 25, 8, 193, 0, 180, 153, 0, 20, 25, 8, 192, 0, 180]
abbrev dktJ18_resize_8 : List UInt8 := dkwJ18_resize_8 ++ dktJ18_resize_9
def dkwJ18_resize_7 : List UInt8 := [198, 0, 183, 43, 21, 7, 1, 83, 25, 8, 180, 0, 177, 199, 0, 21, 25, 6, 25, 8, 180, 0, 168]
abbrev dktJ18_resize_7 : List UInt8 := dkwJ18_resize_7 ++ dktJ18_resize_8
def dkwJ18_resize_6 : List UInt8 := [181, 0, 105, 43, 198, 0, 208, 3, 54, 7, 21, 7, 28, 162, 0, 199, 43, 21, 7, 50, 89, 58, 8]
abbrev dktJ18_resize_6 : List UInt8 := dkwJ18_resize_6 ++ dktJ18_resize_7
def dkwJ18_resize_5 : List UInt8 := [167, 0, 5, 18, 209, 54, 5, 42, 21, 5, 181, 0, 88, 21, 4, 189, 0, 163, 58, 6, 42, 25, 6]
abbrev dktJ18_resize_5 : List UInt8 := dkwJ18_resize_5 ++ dktJ18_resize_6
def dkwJ18_resize_4 : List UInt8 := [180, 0, 81, 106, 56, 6, 21, 4, 18, 42, 162, 0, 17, 23, 6, 18, 210, 150, 156, 0, 9, 23, 6, 139]
abbrev dktJ18_resize_4 : List UInt8 := dkwJ18_resize_4 ++ dktJ18_resize_5
def dkwJ18_resize_3 : List UInt8 := [54, 4, 167, 0, 11, 16, 16, 54, 4, 16, 12, 54, 5, 21, 5, 154, 0, 38, 21, 4, 134, 42]
abbrev dktJ18_resize_3 : List UInt8 := dkwJ18_resize_3 ++ dktJ18_resize_4
def dkwJ18_resize_2 : List UInt8 := [18, 42, 162, 0, 35, 28, 16, 16, 161, 0, 29, 29, 4, 120, 54, 5, 167, 0, 21, 29, 158, 0, 9, 29]
abbrev dktJ18_resize_2 : List UInt8 := dkwJ18_resize_2 ++ dktJ18_resize_3
def dkwJ18_resize_1 : List UInt8 := [28, 158, 0, 42, 28, 18, 42, 161, 0, 11, 42, 18, 209, 181, 0, 88, 43, 176, 28, 4, 120, 89, 54, 4]
abbrev dktJ18_resize_1 : List UInt8 := dkwJ18_resize_1 ++ dktJ18_resize_2
def dkwJ18_resize_0 : List UInt8 := [42, 180, 0, 105, 76, 43, 199, 0, 7, 3, 167, 0, 5, 43, 190, 61, 42, 180, 0, 88, 62, 3, 54, 5]
abbrev dktJ18_resize_0 : List UInt8 := dkwJ18_resize_0 ++ dktJ18_resize_1
theorem dksJ18_resize_0 : cJ18_resize.data.toList.drop 0 = dktJ18_resize_0 := by decide +kernel
theorem dksJ18_resize_1 : cJ18_resize.data.toList.drop 24 = dktJ18_resize_1 := dk_seg dksJ18_resize_0 24 rfl rfl
theorem dksJ18_resize_2 : cJ18_resize.data.toList.drop 48 = dktJ18_resize_2 := dk_seg dksJ18_resize_1 24 rfl rfl
theorem dksJ18_resize_3 : cJ18_resize.data.toList.drop 72 = dktJ18_resize_3 := dk_seg dksJ18_resize_2 24 rfl rfl
theorem dksJ18_resize_4 : cJ18_resize.data.toList.drop 94 = dktJ18_resize_4 := dk_seg dksJ18_resize_3 22 rfl rfl
theorem dksJ18_resize_5 : cJ18_resize.data.toList.drop 118 = dktJ18_resize_5 := dk_seg dksJ18_resize_4 24 rfl rfl
theorem dksJ18_resize_6 : cJ18_resize.data.toList.drop 141 = dktJ18_resize_6 := dk_seg dksJ18_resize_5 23 rfl rfl
theorem dksJ18_resize_7 : cJ18_resize.data.toList.drop 164 = dktJ18_resize_7 := dk_seg dksJ18_resize_6 23 rfl rfl
theorem dksJ18_resize_8 : cJ18_resize.data.toList.drop 187 = dktJ18_resize_8 := dk_seg dksJ18_resize_7 23 rfl rfl
theorem dksJ18_resize_9 : cJ18_resize.data.toList.drop 211 = dktJ18_resize_9 := dk_seg dksJ18_resize_8 24 rfl rfl
theorem dksJ18_resize_10 : cJ18_resize.data.toList.drop 235 = dktJ18_resize_10 := dk_seg dksJ18_resize_9 24 rfl rfl
theorem dksJ18_resize_11 : cJ18_resize.data.toList.drop 259 = dktJ18_resize_11 := dk_seg dksJ18_resize_10 24 rfl rfl
theorem dksJ18_resize_12 : cJ18_resize.data.toList.drop 283 = dktJ18_resize_12 := dk_seg dksJ18_resize_11 24 rfl rfl
theorem dksJ18_resize_13 : cJ18_resize.data.toList.drop 306 = dktJ18_resize_13 := dk_seg dksJ18_resize_12 23 rfl rfl
theorem dksJ18_resize_14 : cJ18_resize.data.toList.drop 329 = dktJ18_resize_14 := dk_seg dksJ18_resize_13 23 rfl rfl
theorem dksJ18_resize_15 : cJ18_resize.data.toList.drop 353 = dktJ18_resize_15 := dk_seg dksJ18_resize_14 24 rfl rfl
theorem dJ18_resize_0 : decode cJ18_resize 0 = .ok (.aload_n 0, 1) := dk_42 (dk_at dksJ18_resize_0 0 rfl rfl)
theorem dJ18_resize_1 : decode cJ18_resize 1 = .ok (.getfield 105, 3) := dk_180 0 105 (dk_at dksJ18_resize_0 1 rfl rfl)
theorem dJ18_resize_4 : decode cJ18_resize 4 = .ok (.astore_n 1, 1) := dk_76 (dk_at dksJ18_resize_0 4 rfl rfl)
theorem dJ18_resize_5 : decode cJ18_resize 5 = .ok (.aload_n 1, 1) := dk_43 (dk_at dksJ18_resize_0 5 rfl rfl)
theorem dJ18_resize_6 : decode cJ18_resize 6 = .ok (.ifnonnull 7, 3) := dk_199 0 7 (dk_at dksJ18_resize_0 6 rfl rfl)
theorem dJ18_resize_9 : decode cJ18_resize 9 = .ok (.iconst 0, 1) := dk_3 (dk_at dksJ18_resize_0 9 rfl rfl)
theorem dJ18_resize_10 : decode cJ18_resize 10 = .ok (.goto 5, 3) := dk_167 0 5 (dk_at dksJ18_resize_0 10 rfl rfl)
theorem dJ18_resize_13 : decode cJ18_resize 13 = .ok (.aload_n 1, 1) := dk_43 (dk_at dksJ18_resize_0 13 rfl rfl)
theorem dJ18_resize_14 : decode cJ18_resize 14 = .ok (.arraylength, 1) := dk_190 (dk_at dksJ18_resize_0 14 rfl rfl)
theorem dJ18_resize_15 : decode cJ18_resize 15 = .ok (.istore_n 2, 1) := dk_61 (dk_at dksJ18_resize_0 15 rfl rfl)
theorem dJ18_resize_16 : decode cJ18_resize 16 = .ok (.aload_n 0, 1) := dk_42 (dk_at dksJ18_resize_0 16 rfl rfl)
theorem dJ18_resize_17 : decode cJ18_resize 17 = .ok (.getfield 88, 3) := dk_180 0 88 (dk_at dksJ18_resize_0 17 rfl rfl)
theorem dJ18_resize_20 : decode cJ18_resize 20 = .ok (.istore_n 3, 1) := dk_62 (dk_at dksJ18_resize_0 20 rfl rfl)
theorem dJ18_resize_21 : decode cJ18_resize 21 = .ok (.iconst 0, 1) := dk_3 (dk_at dksJ18_resize_0 21 rfl rfl)
theorem dJ18_resize_22 : decode cJ18_resize 22 = .ok (.istore 5, 2) := dk_54 5 (dk_at dksJ18_resize_0 22 rfl rfl)
theorem dJ18_resize_24 : decode cJ18_resize 24 = .ok (.iload_n 2, 1) := dk_28 (dk_at dksJ18_resize_1 0 rfl rfl)
theorem dJ18_resize_25 : decode cJ18_resize 25 = .ok (.ifCond .le 42, 3) := dk_158 0 42 (dk_at dksJ18_resize_1 1 rfl rfl)
theorem dJ18_resize_28 : decode cJ18_resize 28 = .ok (.iload_n 2, 1) := dk_28 (dk_at dksJ18_resize_1 4 rfl rfl)
theorem dJ18_resize_29 : decode cJ18_resize 29 = .ok (.ldc 42, 2) := dk_18 42 (dk_at dksJ18_resize_1 5 rfl rfl)
theorem dJ18_resize_31 : decode cJ18_resize 31 = .ok (.if_icmp .lt 11, 3) := dk_161 0 11 (dk_at dksJ18_resize_1 7 rfl rfl)
theorem dJ18_resize_34 : decode cJ18_resize 34 = .ok (.aload_n 0, 1) := dk_42 (dk_at dksJ18_resize_1 10 rfl rfl)
theorem dJ18_resize_35 : decode cJ18_resize 35 = .ok (.ldc 209, 2) := dk_18 209 (dk_at dksJ18_resize_1 11 rfl rfl)
theorem dJ18_resize_37 : decode cJ18_resize 37 = .ok (.putfield 88, 3) := dk_181 0 88 (dk_at dksJ18_resize_1 13 rfl rfl)
theorem dJ18_resize_40 : decode cJ18_resize 40 = .ok (.aload_n 1, 1) := dk_43 (dk_at dksJ18_resize_1 16 rfl rfl)
theorem dJ18_resize_41 : decode cJ18_resize 41 = .ok (.areturn, 1) := dk_176 (dk_at dksJ18_resize_1 17 rfl rfl)
theorem dJ18_resize_42 : decode cJ18_resize 42 = .ok (.iload_n 2, 1) := dk_28 (dk_at dksJ18_resize_1 18 rfl rfl)
theorem dJ18_resize_43 : decode cJ18_resize 43 = .ok (.iconst 1, 1) := dk_4 (dk_at dksJ18_resize_1 19 rfl rfl)
theorem dJ18_resize_44 : decode cJ18_resize 44 = .ok (.ishl, 1) := dk_120 (dk_at dksJ18_resize_1 20 rfl rfl)
theorem dJ18_resize_45 : decode cJ18_resize 45 = .ok (.dup, 1) := dk_89 (dk_at dksJ18_resize_1 21 rfl rfl)
theorem dJ18_resize_46 : decode cJ18_resize 46 = .ok (.istore 4, 2) := dk_54 4 (dk_at dksJ18_resize_1 22 rfl rfl)
theorem dJ18_resize_48 : decode cJ18_resize 48 = .ok (.ldc 42, 2) := dk_18 42 (dk_at dksJ18_resize_2 0 rfl rfl)
theorem dJ18_resize_50 : decode cJ18_resize 50 = .ok (.if_icmp .ge 35, 3) := dk_162 0 35 (dk_at dksJ18_resize_2 2 rfl rfl)
theorem dJ18_resize_53 : decode cJ18_resize 53 = .ok (.iload_n 2, 1) := dk_28 (dk_at dksJ18_resize_2 5 rfl rfl)
theorem dJ18_resize_54 : decode cJ18_resize 54 = .ok (.bipush 16, 2) := dk_16 16 (dk_at dksJ18_resize_2 6 rfl rfl)
theorem dJ18_resize_56 : decode cJ18_resize 56 = .ok (.if_icmp .lt 29, 3) := dk_161 0 29 (dk_at dksJ18_resize_2 8 rfl rfl)
theorem dJ18_resize_59 : decode cJ18_resize 59 = .ok (.iload_n 3, 1) := dk_29 (dk_at dksJ18_resize_2 11 rfl rfl)
theorem dJ18_resize_60 : decode cJ18_resize 60 = .ok (.iconst 1, 1) := dk_4 (dk_at dksJ18_resize_2 12 rfl rfl)
theorem dJ18_resize_61 : decode cJ18_resize 61 = .ok (.ishl, 1) := dk_120 (dk_at dksJ18_resize_2 13 rfl rfl)
theorem dJ18_resize_62 : decode cJ18_resize 62 = .ok (.istore 5, 2) := dk_54 5 (dk_at dksJ18_resize_2 14 rfl rfl)
theorem dJ18_resize_64 : decode cJ18_resize 64 = .ok (.goto 21, 3) := dk_167 0 21 (dk_at dksJ18_resize_2 16 rfl rfl)
theorem dJ18_resize_67 : decode cJ18_resize 67 = .ok (.iload_n 3, 1) := dk_29 (dk_at dksJ18_resize_2 19 rfl rfl)
theorem dJ18_resize_68 : decode cJ18_resize 68 = .ok (.ifCond .le 9, 3) := dk_158 0 9 (dk_at dksJ18_resize_2 20 rfl rfl)
theorem dJ18_resize_71 : decode cJ18_resize 71 = .ok (.iload_n 3, 1) := dk_29 (dk_at dksJ18_resize_2 23 rfl rfl)
theorem dJ18_resize_72 : decode cJ18_resize 72 = .ok (.istore 4, 2) := dk_54 4 (dk_at dksJ18_resize_3 0 rfl rfl)
theorem dJ18_resize_74 : decode cJ18_resize 74 = .ok (.goto 11, 3) := dk_167 0 11 (dk_at dksJ18_resize_3 2 rfl rfl)
theorem dJ18_resize_77 : decode cJ18_resize 77 = .ok (.bipush 16, 2) := dk_16 16 (dk_at dksJ18_resize_3 5 rfl rfl)
theorem dJ18_resize_79 : decode cJ18_resize 79 = .ok (.istore 4, 2) := dk_54 4 (dk_at dksJ18_resize_3 7 rfl rfl)
theorem dJ18_resize_81 : decode cJ18_resize 81 = .ok (.bipush 12, 2) := dk_16 12 (dk_at dksJ18_resize_3 9 rfl rfl)
theorem dJ18_resize_83 : decode cJ18_resize 83 = .ok (.istore 5, 2) := dk_54 5 (dk_at dksJ18_resize_3 11 rfl rfl)
theorem dJ18_resize_85 : decode cJ18_resize 85 = .ok (.iload 5, 2) := dk_21 5 (dk_at dksJ18_resize_3 13 rfl rfl)
theorem dJ18_resize_87 : decode cJ18_resize 87 = .ok (.ifCond .ne 38, 3) := dk_154 0 38 (dk_at dksJ18_resize_3 15 rfl rfl)
theorem dJ18_resize_90 : decode cJ18_resize 90 = .ok (.iload 4, 2) := dk_21 4 (dk_at dksJ18_resize_3 18 rfl rfl)
theorem dJ18_resize_92 : decode cJ18_resize 92 = .ok (.i2f, 1) := dk_134 (dk_at dksJ18_resize_3 20 rfl rfl)
theorem dJ18_resize_93 : decode cJ18_resize 93 = .ok (.aload_n 0, 1) := dk_42 (dk_at dksJ18_resize_3 21 rfl rfl)
theorem dJ18_resize_94 : decode cJ18_resize 94 = .ok (.getfield 81, 3) := dk_180 0 81 (dk_at dksJ18_resize_4 0 rfl rfl)
theorem dJ18_resize_97 : decode cJ18_resize 97 = .ok (.fmul, 1) := dk_106 (dk_at dksJ18_resize_4 3 rfl rfl)
theorem dJ18_resize_98 : decode cJ18_resize 98 = .ok (.fstore 6, 2) := dk_56 6 (dk_at dksJ18_resize_4 4 rfl rfl)
theorem dJ18_resize_100 : decode cJ18_resize 100 = .ok (.iload 4, 2) := dk_21 4 (dk_at dksJ18_resize_4 6 rfl rfl)
theorem dJ18_resize_102 : decode cJ18_resize 102 = .ok (.ldc 42, 2) := dk_18 42 (dk_at dksJ18_resize_4 8 rfl rfl)
theorem dJ18_resize_104 : decode cJ18_resize 104 = .ok (.if_icmp .ge 17, 3) := dk_162 0 17 (dk_at dksJ18_resize_4 10 rfl rfl)
theorem dJ18_resize_107 : decode cJ18_resize 107 = .ok (.fload 6, 2) := dk_23 6 (dk_at dksJ18_resize_4 13 rfl rfl)
theorem dJ18_resize_109 : decode cJ18_resize 109 = .ok (.ldc 210, 2) := dk_18 210 (dk_at dksJ18_resize_4 15 rfl rfl)
theorem dJ18_resize_111 : decode cJ18_resize 111 = .ok (.fcmp .g, 1) := dk_150 (dk_at dksJ18_resize_4 17 rfl rfl)
theorem dJ18_resize_112 : decode cJ18_resize 112 = .ok (.ifCond .ge 9, 3) := dk_156 0 9 (dk_at dksJ18_resize_4 18 rfl rfl)
theorem dJ18_resize_115 : decode cJ18_resize 115 = .ok (.fload 6, 2) := dk_23 6 (dk_at dksJ18_resize_4 21 rfl rfl)
theorem dJ18_resize_117 : decode cJ18_resize 117 = .ok (.f2i, 1) := dk_139 (dk_at dksJ18_resize_4 23 rfl rfl)
theorem dJ18_resize_118 : decode cJ18_resize 118 = .ok (.goto 5, 3) := dk_167 0 5 (dk_at dksJ18_resize_5 0 rfl rfl)
theorem dJ18_resize_121 : decode cJ18_resize 121 = .ok (.ldc 209, 2) := dk_18 209 (dk_at dksJ18_resize_5 3 rfl rfl)
theorem dJ18_resize_123 : decode cJ18_resize 123 = .ok (.istore 5, 2) := dk_54 5 (dk_at dksJ18_resize_5 5 rfl rfl)
theorem dJ18_resize_125 : decode cJ18_resize 125 = .ok (.aload_n 0, 1) := dk_42 (dk_at dksJ18_resize_5 7 rfl rfl)
theorem dJ18_resize_126 : decode cJ18_resize 126 = .ok (.iload 5, 2) := dk_21 5 (dk_at dksJ18_resize_5 8 rfl rfl)
theorem dJ18_resize_128 : decode cJ18_resize 128 = .ok (.putfield 88, 3) := dk_181 0 88 (dk_at dksJ18_resize_5 10 rfl rfl)
theorem dJ18_resize_131 : decode cJ18_resize 131 = .ok (.iload 4, 2) := dk_21 4 (dk_at dksJ18_resize_5 13 rfl rfl)
theorem dJ18_resize_133 : decode cJ18_resize 133 = .ok (.anewarray 163, 3) := dk_189 0 163 (dk_at dksJ18_resize_5 15 rfl rfl)
theorem dJ18_resize_136 : decode cJ18_resize 136 = .ok (.astore 6, 2) := dk_58 6 (dk_at dksJ18_resize_5 18 rfl rfl)
theorem dJ18_resize_138 : decode cJ18_resize 138 = .ok (.aload_n 0, 1) := dk_42 (dk_at dksJ18_resize_5 20 rfl rfl)
theorem dJ18_resize_139 : decode cJ18_resize 139 = .ok (.aload 6, 2) := dk_25 6 (dk_at dksJ18_resize_5 21 rfl rfl)
theorem dJ18_resize_141 : decode cJ18_resize 141 = .ok (.putfield 105, 3) := dk_181 0 105 (dk_at dksJ18_resize_6 0 rfl rfl)
theorem dJ18_resize_144 : decode cJ18_resize 144 = .ok (.aload_n 1, 1) := dk_43 (dk_at dksJ18_resize_6 3 rfl rfl)
theorem dJ18_resize_145 : decode cJ18_resize 145 = .ok (.ifnull 208, 3) := dk_198 0 208 (dk_at dksJ18_resize_6 4 rfl rfl)
theorem dJ18_resize_148 : decode cJ18_resize 148 = .ok (.iconst 0, 1) := dk_3 (dk_at dksJ18_resize_6 7 rfl rfl)
theorem dJ18_resize_149 : decode cJ18_resize 149 = .ok (.istore 7, 2) := dk_54 7 (dk_at dksJ18_resize_6 8 rfl rfl)
theorem dJ18_resize_151 : decode cJ18_resize 151 = .ok (.iload 7, 2) := dk_21 7 (dk_at dksJ18_resize_6 10 rfl rfl)
theorem dJ18_resize_153 : decode cJ18_resize 153 = .ok (.iload_n 2, 1) := dk_28 (dk_at dksJ18_resize_6 12 rfl rfl)
theorem dJ18_resize_154 : decode cJ18_resize 154 = .ok (.if_icmp .ge 199, 3) := dk_162 0 199 (dk_at dksJ18_resize_6 13 rfl rfl)
theorem dJ18_resize_157 : decode cJ18_resize 157 = .ok (.aload_n 1, 1) := dk_43 (dk_at dksJ18_resize_6 16 rfl rfl)
theorem dJ18_resize_158 : decode cJ18_resize 158 = .ok (.iload 7, 2) := dk_21 7 (dk_at dksJ18_resize_6 17 rfl rfl)
theorem dJ18_resize_160 : decode cJ18_resize 160 = .ok (.aaload, 1) := dk_50 (dk_at dksJ18_resize_6 19 rfl rfl)
theorem dJ18_resize_161 : decode cJ18_resize 161 = .ok (.dup, 1) := dk_89 (dk_at dksJ18_resize_6 20 rfl rfl)
theorem dJ18_resize_162 : decode cJ18_resize 162 = .ok (.astore 8, 2) := dk_58 8 (dk_at dksJ18_resize_6 21 rfl rfl)
theorem dJ18_resize_164 : decode cJ18_resize 164 = .ok (.ifnull 183, 3) := dk_198 0 183 (dk_at dksJ18_resize_7 0 rfl rfl)
theorem dJ18_resize_167 : decode cJ18_resize 167 = .ok (.aload_n 1, 1) := dk_43 (dk_at dksJ18_resize_7 3 rfl rfl)
theorem dJ18_resize_168 : decode cJ18_resize 168 = .ok (.iload 7, 2) := dk_21 7 (dk_at dksJ18_resize_7 4 rfl rfl)
theorem dJ18_resize_170 : decode cJ18_resize 170 = .ok (.aconst_null, 1) := dk_1 (dk_at dksJ18_resize_7 6 rfl rfl)
theorem dJ18_resize_171 : decode cJ18_resize 171 = .ok (.aastore, 1) := dk_83 (dk_at dksJ18_resize_7 7 rfl rfl)
theorem dJ18_resize_172 : decode cJ18_resize 172 = .ok (.aload 8, 2) := dk_25 8 (dk_at dksJ18_resize_7 8 rfl rfl)
theorem dJ18_resize_174 : decode cJ18_resize 174 = .ok (.getfield 177, 3) := dk_180 0 177 (dk_at dksJ18_resize_7 10 rfl rfl)
theorem dJ18_resize_177 : decode cJ18_resize 177 = .ok (.ifnonnull 21, 3) := dk_199 0 21 (dk_at dksJ18_resize_7 13 rfl rfl)
theorem dJ18_resize_180 : decode cJ18_resize 180 = .ok (.aload 6, 2) := dk_25 6 (dk_at dksJ18_resize_7 16 rfl rfl)
theorem dJ18_resize_182 : decode cJ18_resize 182 = .ok (.aload 8, 2) := dk_25 8 (dk_at dksJ18_resize_7 18 rfl rfl)
theorem dJ18_resize_184 : decode cJ18_resize 184 = .ok (.getfield 168, 3) := dk_180 0 168 (dk_at dksJ18_resize_7 20 rfl rfl)
theorem dJ18_resize_187 : decode cJ18_resize 187 = .ok (.iload 4, 2) := dk_21 4 (dk_at dksJ18_resize_8 0 rfl rfl)
theorem dJ18_resize_189 : decode cJ18_resize 189 = .ok (.iconst 1, 1) := dk_4 (dk_at dksJ18_resize_8 2 rfl rfl)
theorem dJ18_resize_190 : decode cJ18_resize 190 = .ok (.isub, 1) := dk_100 (dk_at dksJ18_resize_8 3 rfl rfl)
theorem dJ18_resize_191 : decode cJ18_resize 191 = .ok (.iand, 1) := dk_126 (dk_at dksJ18_resize_8 4 rfl rfl)
theorem dJ18_resize_192 : decode cJ18_resize 192 = .ok (.aload 8, 2) := dk_25 8 (dk_at dksJ18_resize_8 5 rfl rfl)
theorem dJ18_resize_194 : decode cJ18_resize 194 = .ok (.aastore, 1) := dk_83 (dk_at dksJ18_resize_8 7 rfl rfl)
theorem dJ18_resize_195 : decode cJ18_resize 195 = .ok (.goto 152, 3) := dk_167 0 152 (dk_at dksJ18_resize_8 8 rfl rfl)
theorem dJ18_resize_198 : decode cJ18_resize 198 = .ok (.aload 8, 2) := dk_25 8 (dk_at dksJ18_resize_8 11 rfl rfl)
theorem dJ18_resize_200 : decode cJ18_resize 200 = .ok (.instanceof 180, 3) := dk_193 0 180 (dk_at dksJ18_resize_8 13 rfl rfl)
theorem dJ18_resize_203 : decode cJ18_resize 203 = .ok (.ifCond .eq 20, 3) := dk_153 0 20 (dk_at dksJ18_resize_8 16 rfl rfl)
theorem dJ18_resize_206 : decode cJ18_resize 206 = .ok (.aload 8, 2) := dk_25 8 (dk_at dksJ18_resize_8 19 rfl rfl)
theorem dJ18_resize_208 : decode cJ18_resize 208 = .ok (.checkcast 180, 3) := dk_192 0 180 (dk_at dksJ18_resize_8 21 rfl rfl)
theorem dJ18_resize_211 : decode cJ18_resize 211 = .ok (.aload_n 0, 1) := dk_42 (dk_at dksJ18_resize_9 0 rfl rfl)
theorem dJ18_resize_212 : decode cJ18_resize 212 = .ok (.aload 6, 2) := dk_25 6 (dk_at dksJ18_resize_9 1 rfl rfl)
theorem dJ18_resize_214 : decode cJ18_resize 214 = .ok (.iload 7, 2) := dk_21 7 (dk_at dksJ18_resize_9 3 rfl rfl)
theorem dJ18_resize_216 : decode cJ18_resize 216 = .ok (.iload_n 2, 1) := dk_28 (dk_at dksJ18_resize_9 5 rfl rfl)
theorem dJ18_resize_217 : decode cJ18_resize 217 = .ok (.invokevirtual 211, 3) := dk_182 0 211 (dk_at dksJ18_resize_9 6 rfl rfl)
theorem dJ18_resize_220 : decode cJ18_resize 220 = .ok (.goto 127, 3) := dk_167 0 127 (dk_at dksJ18_resize_9 9 rfl rfl)
theorem dJ18_resize_223 : decode cJ18_resize 223 = .ok (.aconst_null, 1) := dk_1 (dk_at dksJ18_resize_9 12 rfl rfl)
theorem dJ18_resize_224 : decode cJ18_resize 224 = .ok (.astore 9, 2) := dk_58 9 (dk_at dksJ18_resize_9 13 rfl rfl)
theorem dJ18_resize_226 : decode cJ18_resize 226 = .ok (.aconst_null, 1) := dk_1 (dk_at dksJ18_resize_9 15 rfl rfl)
theorem dJ18_resize_227 : decode cJ18_resize 227 = .ok (.astore 10, 2) := dk_58 10 (dk_at dksJ18_resize_9 16 rfl rfl)
theorem dJ18_resize_229 : decode cJ18_resize 229 = .ok (.aconst_null, 1) := dk_1 (dk_at dksJ18_resize_9 18 rfl rfl)
theorem dJ18_resize_230 : decode cJ18_resize 230 = .ok (.astore 11, 2) := dk_58 11 (dk_at dksJ18_resize_9 19 rfl rfl)
theorem dJ18_resize_232 : decode cJ18_resize 232 = .ok (.aconst_null, 1) := dk_1 (dk_at dksJ18_resize_9 21 rfl rfl)
theorem dJ18_resize_233 : decode cJ18_resize 233 = .ok (.astore 12, 2) := dk_58 12 (dk_at dksJ18_resize_9 22 rfl rfl)
theorem dJ18_resize_235 : decode cJ18_resize 235 = .ok (.aload 8, 2) := dk_25 8 (dk_at dksJ18_resize_10 0 rfl rfl)
theorem dJ18_resize_237 : decode cJ18_resize 237 = .ok (.getfield 177, 3) := dk_180 0 177 (dk_at dksJ18_resize_10 2 rfl rfl)
theorem dJ18_resize_240 : decode cJ18_resize 240 = .ok (.astore 13, 2) := dk_58 13 (dk_at dksJ18_resize_10 5 rfl rfl)
theorem dJ18_resize_242 : decode cJ18_resize 242 = .ok (.aload 8, 2) := dk_25 8 (dk_at dksJ18_resize_10 7 rfl rfl)
theorem dJ18_resize_244 : decode cJ18_resize 244 = .ok (.getfield 168, 3) := dk_180 0 168 (dk_at dksJ18_resize_10 9 rfl rfl)
theorem dJ18_resize_247 : decode cJ18_resize 247 = .ok (.iload_n 2, 1) := dk_28 (dk_at dksJ18_resize_10 12 rfl rfl)
theorem dJ18_resize_248 : decode cJ18_resize 248 = .ok (.iand, 1) := dk_126 (dk_at dksJ18_resize_10 13 rfl rfl)
theorem dJ18_resize_249 : decode cJ18_resize 249 = .ok (.ifCond .ne 29, 3) := dk_154 0 29 (dk_at dksJ18_resize_10 14 rfl rfl)
theorem dJ18_resize_252 : decode cJ18_resize 252 = .ok (.aload 10, 2) := dk_25 10 (dk_at dksJ18_resize_10 17 rfl rfl)
theorem dJ18_resize_254 : decode cJ18_resize 254 = .ok (.ifnonnull 10, 3) := dk_199 0 10 (dk_at dksJ18_resize_10 19 rfl rfl)
theorem dJ18_resize_257 : decode cJ18_resize 257 = .ok (.aload 8, 2) := dk_25 8 (dk_at dksJ18_resize_10 22 rfl rfl)
theorem dJ18_resize_259 : decode cJ18_resize 259 = .ok (.astore 9, 2) := dk_58 9 (dk_at dksJ18_resize_11 0 rfl rfl)
theorem dJ18_resize_261 : decode cJ18_resize 261 = .ok (.goto 10, 3) := dk_167 0 10 (dk_at dksJ18_resize_11 2 rfl rfl)
theorem dJ18_resize_264 : decode cJ18_resize 264 = .ok (.aload 10, 2) := dk_25 10 (dk_at dksJ18_resize_11 5 rfl rfl)
theorem dJ18_resize_266 : decode cJ18_resize 266 = .ok (.aload 8, 2) := dk_25 8 (dk_at dksJ18_resize_11 7 rfl rfl)
theorem dJ18_resize_268 : decode cJ18_resize 268 = .ok (.putfield 177, 3) := dk_181 0 177 (dk_at dksJ18_resize_11 9 rfl rfl)
theorem dJ18_resize_271 : decode cJ18_resize 271 = .ok (.aload 8, 2) := dk_25 8 (dk_at dksJ18_resize_11 12 rfl rfl)
theorem dJ18_resize_273 : decode cJ18_resize 273 = .ok (.astore 10, 2) := dk_58 10 (dk_at dksJ18_resize_11 14 rfl rfl)
theorem dJ18_resize_275 : decode cJ18_resize 275 = .ok (.goto 26, 3) := dk_167 0 26 (dk_at dksJ18_resize_11 16 rfl rfl)
theorem dJ18_resize_278 : decode cJ18_resize 278 = .ok (.aload 12, 2) := dk_25 12 (dk_at dksJ18_resize_11 19 rfl rfl)
theorem dJ18_resize_280 : decode cJ18_resize 280 = .ok (.ifnonnull 10, 3) := dk_199 0 10 (dk_at dksJ18_resize_11 21 rfl rfl)
theorem dJ18_resize_283 : decode cJ18_resize 283 = .ok (.aload 8, 2) := dk_25 8 (dk_at dksJ18_resize_12 0 rfl rfl)
theorem dJ18_resize_285 : decode cJ18_resize 285 = .ok (.astore 11, 2) := dk_58 11 (dk_at dksJ18_resize_12 2 rfl rfl)
theorem dJ18_resize_287 : decode cJ18_resize 287 = .ok (.goto 10, 3) := dk_167 0 10 (dk_at dksJ18_resize_12 4 rfl rfl)
theorem dJ18_resize_290 : decode cJ18_resize 290 = .ok (.aload 12, 2) := dk_25 12 (dk_at dksJ18_resize_12 7 rfl rfl)
theorem dJ18_resize_292 : decode cJ18_resize 292 = .ok (.aload 8, 2) := dk_25 8 (dk_at dksJ18_resize_12 9 rfl rfl)
theorem dJ18_resize_294 : decode cJ18_resize 294 = .ok (.putfield 177, 3) := dk_181 0 177 (dk_at dksJ18_resize_12 11 rfl rfl)
theorem dJ18_resize_297 : decode cJ18_resize 297 = .ok (.aload 8, 2) := dk_25 8 (dk_at dksJ18_resize_12 14 rfl rfl)
theorem dJ18_resize_299 : decode cJ18_resize 299 = .ok (.astore 12, 2) := dk_58 12 (dk_at dksJ18_resize_12 16 rfl rfl)
theorem dJ18_resize_301 : decode cJ18_resize 301 = .ok (.aload 13, 2) := dk_25 13 (dk_at dksJ18_resize_12 18 rfl rfl)
theorem dJ18_resize_303 : decode cJ18_resize 303 = .ok (.dup, 1) := dk_89 (dk_at dksJ18_resize_12 20 rfl rfl)
theorem dJ18_resize_304 : decode cJ18_resize 304 = .ok (.astore 8, 2) := dk_58 8 (dk_at dksJ18_resize_12 21 rfl rfl)
theorem dJ18_resize_306 : decode cJ18_resize 306 = .ok (.ifnonnull (-71), 3) := dk_199 255 185 (dk_at dksJ18_resize_13 0 rfl rfl)
theorem dJ18_resize_309 : decode cJ18_resize 309 = .ok (.aload 10, 2) := dk_25 10 (dk_at dksJ18_resize_13 3 rfl rfl)
theorem dJ18_resize_311 : decode cJ18_resize 311 = .ok (.ifnull 16, 3) := dk_198 0 16 (dk_at dksJ18_resize_13 5 rfl rfl)
theorem dJ18_resize_314 : decode cJ18_resize 314 = .ok (.aload 10, 2) := dk_25 10 (dk_at dksJ18_resize_13 8 rfl rfl)
theorem dJ18_resize_316 : decode cJ18_resize 316 = .ok (.aconst_null, 1) := dk_1 (dk_at dksJ18_resize_13 10 rfl rfl)
theorem dJ18_resize_317 : decode cJ18_resize 317 = .ok (.putfield 177, 3) := dk_181 0 177 (dk_at dksJ18_resize_13 11 rfl rfl)
theorem dJ18_resize_320 : decode cJ18_resize 320 = .ok (.aload 6, 2) := dk_25 6 (dk_at dksJ18_resize_13 14 rfl rfl)
theorem dJ18_resize_322 : decode cJ18_resize 322 = .ok (.iload 7, 2) := dk_21 7 (dk_at dksJ18_resize_13 16 rfl rfl)
theorem dJ18_resize_324 : decode cJ18_resize 324 = .ok (.aload 9, 2) := dk_25 9 (dk_at dksJ18_resize_13 18 rfl rfl)
theorem dJ18_resize_326 : decode cJ18_resize 326 = .ok (.aastore, 1) := dk_83 (dk_at dksJ18_resize_13 20 rfl rfl)
theorem dJ18_resize_327 : decode cJ18_resize 327 = .ok (.aload 12, 2) := dk_25 12 (dk_at dksJ18_resize_13 21 rfl rfl)
theorem dJ18_resize_329 : decode cJ18_resize 329 = .ok (.ifnull 18, 3) := dk_198 0 18 (dk_at dksJ18_resize_14 0 rfl rfl)
theorem dJ18_resize_332 : decode cJ18_resize 332 = .ok (.aload 12, 2) := dk_25 12 (dk_at dksJ18_resize_14 3 rfl rfl)
theorem dJ18_resize_334 : decode cJ18_resize 334 = .ok (.aconst_null, 1) := dk_1 (dk_at dksJ18_resize_14 5 rfl rfl)
theorem dJ18_resize_335 : decode cJ18_resize 335 = .ok (.putfield 177, 3) := dk_181 0 177 (dk_at dksJ18_resize_14 6 rfl rfl)
theorem dJ18_resize_338 : decode cJ18_resize 338 = .ok (.aload 6, 2) := dk_25 6 (dk_at dksJ18_resize_14 9 rfl rfl)
theorem dJ18_resize_340 : decode cJ18_resize 340 = .ok (.iload 7, 2) := dk_21 7 (dk_at dksJ18_resize_14 11 rfl rfl)
theorem dJ18_resize_342 : decode cJ18_resize 342 = .ok (.iload_n 2, 1) := dk_28 (dk_at dksJ18_resize_14 13 rfl rfl)
theorem dJ18_resize_343 : decode cJ18_resize 343 = .ok (.iadd, 1) := dk_96 (dk_at dksJ18_resize_14 14 rfl rfl)
theorem dJ18_resize_344 : decode cJ18_resize 344 = .ok (.aload 11, 2) := dk_25 11 (dk_at dksJ18_resize_14 15 rfl rfl)
theorem dJ18_resize_346 : decode cJ18_resize 346 = .ok (.aastore, 1) := dk_83 (dk_at dksJ18_resize_14 17 rfl rfl)
theorem dJ18_resize_347 : decode cJ18_resize 347 = .ok (.iinc 7 1, 3) := dk_132 7 1 (dk_at dksJ18_resize_14 18 rfl rfl)
theorem dJ18_resize_350 : decode cJ18_resize 350 = .ok (.goto (-199), 3) := dk_167 255 57 (dk_at dksJ18_resize_14 21 rfl rfl)
theorem dJ18_resize_353 : decode cJ18_resize 353 = .ok (.aload 6, 2) := dk_25 6 (dk_at dksJ18_resize_15 0 rfl rfl)
theorem dJ18_resize_355 : decode cJ18_resize 355 = .ok (.areturn, 1) := dk_176 (dk_at dksJ18_resize_15 2 rfl rfl)
abbrev cJ18_comparableClassFor : ByteArray := prog_66_method_2_code
def yJ18_comparableClassFor : MethodName := ⟨RJ18, "comparableClassFor", "(Ljava/lang/Object;)Ljava/lang/Class;"⟩
def dkwJ18_comparableClassFor_4 : List UInt8 := [4, 160, 0, 12, 45, 3, 50, 43, 166, 0, 5, 43, 176, 132, 7, 1, 167, 255, 186, 1, 176]
abbrev dktJ18_comparableClassFor_4 : List UInt8 := dkwJ18_comparableClassFor_4 ++ []
def dkwJ18_comparableClassFor_3 : List UInt8 := [185, 0, 23, 1, 0, 18, 7, 166, 0, 30, 25, 4, 185, 0, 27, 1, 0, 89, 78, 198, 0, 18, 45, 190]
abbrev dktJ18_comparableClassFor_3 : List UInt8 := dkwJ18_comparableClassFor_3 ++ dktJ18_comparableClassFor_4
def dkwJ18_comparableClassFor_2 : List UInt8 := [25, 5, 21, 7, 50, 58, 8, 25, 8, 193, 0, 21, 153, 0, 48, 25, 8, 192, 0, 21, 89, 58, 4]
abbrev dktJ18_comparableClassFor_2 : List UInt8 := dkwJ18_comparableClassFor_2 ++ dktJ18_comparableClassFor_3
def dkwJ18_comparableClassFor_1 : List UInt8 := [89, 77, 198, 0, 87, 44, 58, 5, 25, 5, 190, 54, 6, 3, 54, 7, 21, 7, 21, 6, 162, 0, 69]
abbrev dktJ18_comparableClassFor_1 : List UInt8 := dkwJ18_comparableClassFor_1 ++ dktJ18_comparableClassFor_2
def dkwJ18_comparableClassFor_0 : List UInt8 := [42, 193, 0, 7, 153, 0, 109, 42, 182, 0, 9, 89, 76, 18, 13, 166, 0, 5, 43, 176, 43, 182, 0, 15]
abbrev dktJ18_comparableClassFor_0 : List UInt8 := dkwJ18_comparableClassFor_0 ++ dktJ18_comparableClassFor_1
theorem dksJ18_comparableClassFor_0 : cJ18_comparableClassFor.data.toList.drop 0 = dktJ18_comparableClassFor_0 := by decide +kernel
theorem dksJ18_comparableClassFor_1 : cJ18_comparableClassFor.data.toList.drop 24 = dktJ18_comparableClassFor_1 := dk_seg dksJ18_comparableClassFor_0 24 rfl rfl
theorem dksJ18_comparableClassFor_2 : cJ18_comparableClassFor.data.toList.drop 47 = dktJ18_comparableClassFor_2 := dk_seg dksJ18_comparableClassFor_1 23 rfl rfl
theorem dksJ18_comparableClassFor_3 : cJ18_comparableClassFor.data.toList.drop 70 = dktJ18_comparableClassFor_3 := dk_seg dksJ18_comparableClassFor_2 23 rfl rfl
theorem dksJ18_comparableClassFor_4 : cJ18_comparableClassFor.data.toList.drop 94 = dktJ18_comparableClassFor_4 := dk_seg dksJ18_comparableClassFor_3 24 rfl rfl
theorem dJ18_comparableClassFor_0 : decode cJ18_comparableClassFor 0 = .ok (.aload_n 0, 1) := dk_42 (dk_at dksJ18_comparableClassFor_0 0 rfl rfl)
theorem dJ18_comparableClassFor_1 : decode cJ18_comparableClassFor 1 = .ok (.instanceof 7, 3) := dk_193 0 7 (dk_at dksJ18_comparableClassFor_0 1 rfl rfl)
theorem dJ18_comparableClassFor_4 : decode cJ18_comparableClassFor 4 = .ok (.ifCond .eq 109, 3) := dk_153 0 109 (dk_at dksJ18_comparableClassFor_0 4 rfl rfl)
theorem dJ18_comparableClassFor_7 : decode cJ18_comparableClassFor 7 = .ok (.aload_n 0, 1) := dk_42 (dk_at dksJ18_comparableClassFor_0 7 rfl rfl)
theorem dJ18_comparableClassFor_8 : decode cJ18_comparableClassFor 8 = .ok (.invokevirtual 9, 3) := dk_182 0 9 (dk_at dksJ18_comparableClassFor_0 8 rfl rfl)
theorem dJ18_comparableClassFor_11 : decode cJ18_comparableClassFor 11 = .ok (.dup, 1) := dk_89 (dk_at dksJ18_comparableClassFor_0 11 rfl rfl)
theorem dJ18_comparableClassFor_12 : decode cJ18_comparableClassFor 12 = .ok (.astore_n 1, 1) := dk_76 (dk_at dksJ18_comparableClassFor_0 12 rfl rfl)
theorem dJ18_comparableClassFor_13 : decode cJ18_comparableClassFor 13 = .ok (.ldc 13, 2) := dk_18 13 (dk_at dksJ18_comparableClassFor_0 13 rfl rfl)
theorem dJ18_comparableClassFor_15 : decode cJ18_comparableClassFor 15 = .ok (.if_acmp .ne 5, 3) := dk_166 0 5 (dk_at dksJ18_comparableClassFor_0 15 rfl rfl)
theorem dJ18_comparableClassFor_18 : decode cJ18_comparableClassFor 18 = .ok (.aload_n 1, 1) := dk_43 (dk_at dksJ18_comparableClassFor_0 18 rfl rfl)
theorem dJ18_comparableClassFor_19 : decode cJ18_comparableClassFor 19 = .ok (.areturn, 1) := dk_176 (dk_at dksJ18_comparableClassFor_0 19 rfl rfl)
theorem dJ18_comparableClassFor_20 : decode cJ18_comparableClassFor 20 = .ok (.aload_n 1, 1) := dk_43 (dk_at dksJ18_comparableClassFor_0 20 rfl rfl)
theorem dJ18_comparableClassFor_21 : decode cJ18_comparableClassFor 21 = .ok (.invokevirtual 15, 3) := dk_182 0 15 (dk_at dksJ18_comparableClassFor_0 21 rfl rfl)
theorem dJ18_comparableClassFor_24 : decode cJ18_comparableClassFor 24 = .ok (.dup, 1) := dk_89 (dk_at dksJ18_comparableClassFor_1 0 rfl rfl)
theorem dJ18_comparableClassFor_25 : decode cJ18_comparableClassFor 25 = .ok (.astore_n 2, 1) := dk_77 (dk_at dksJ18_comparableClassFor_1 1 rfl rfl)
theorem dJ18_comparableClassFor_26 : decode cJ18_comparableClassFor 26 = .ok (.ifnull 87, 3) := dk_198 0 87 (dk_at dksJ18_comparableClassFor_1 2 rfl rfl)
theorem dJ18_comparableClassFor_29 : decode cJ18_comparableClassFor 29 = .ok (.aload_n 2, 1) := dk_44 (dk_at dksJ18_comparableClassFor_1 5 rfl rfl)
theorem dJ18_comparableClassFor_30 : decode cJ18_comparableClassFor 30 = .ok (.astore 5, 2) := dk_58 5 (dk_at dksJ18_comparableClassFor_1 6 rfl rfl)
theorem dJ18_comparableClassFor_32 : decode cJ18_comparableClassFor 32 = .ok (.aload 5, 2) := dk_25 5 (dk_at dksJ18_comparableClassFor_1 8 rfl rfl)
theorem dJ18_comparableClassFor_34 : decode cJ18_comparableClassFor 34 = .ok (.arraylength, 1) := dk_190 (dk_at dksJ18_comparableClassFor_1 10 rfl rfl)
theorem dJ18_comparableClassFor_35 : decode cJ18_comparableClassFor 35 = .ok (.istore 6, 2) := dk_54 6 (dk_at dksJ18_comparableClassFor_1 11 rfl rfl)
theorem dJ18_comparableClassFor_37 : decode cJ18_comparableClassFor 37 = .ok (.iconst 0, 1) := dk_3 (dk_at dksJ18_comparableClassFor_1 13 rfl rfl)
theorem dJ18_comparableClassFor_38 : decode cJ18_comparableClassFor 38 = .ok (.istore 7, 2) := dk_54 7 (dk_at dksJ18_comparableClassFor_1 14 rfl rfl)
theorem dJ18_comparableClassFor_40 : decode cJ18_comparableClassFor 40 = .ok (.iload 7, 2) := dk_21 7 (dk_at dksJ18_comparableClassFor_1 16 rfl rfl)
theorem dJ18_comparableClassFor_42 : decode cJ18_comparableClassFor 42 = .ok (.iload 6, 2) := dk_21 6 (dk_at dksJ18_comparableClassFor_1 18 rfl rfl)
theorem dJ18_comparableClassFor_44 : decode cJ18_comparableClassFor 44 = .ok (.if_icmp .ge 69, 3) := dk_162 0 69 (dk_at dksJ18_comparableClassFor_1 20 rfl rfl)
theorem dJ18_comparableClassFor_47 : decode cJ18_comparableClassFor 47 = .ok (.aload 5, 2) := dk_25 5 (dk_at dksJ18_comparableClassFor_2 0 rfl rfl)
theorem dJ18_comparableClassFor_49 : decode cJ18_comparableClassFor 49 = .ok (.iload 7, 2) := dk_21 7 (dk_at dksJ18_comparableClassFor_2 2 rfl rfl)
theorem dJ18_comparableClassFor_51 : decode cJ18_comparableClassFor 51 = .ok (.aaload, 1) := dk_50 (dk_at dksJ18_comparableClassFor_2 4 rfl rfl)
theorem dJ18_comparableClassFor_52 : decode cJ18_comparableClassFor 52 = .ok (.astore 8, 2) := dk_58 8 (dk_at dksJ18_comparableClassFor_2 5 rfl rfl)
theorem dJ18_comparableClassFor_54 : decode cJ18_comparableClassFor 54 = .ok (.aload 8, 2) := dk_25 8 (dk_at dksJ18_comparableClassFor_2 7 rfl rfl)
theorem dJ18_comparableClassFor_56 : decode cJ18_comparableClassFor 56 = .ok (.instanceof 21, 3) := dk_193 0 21 (dk_at dksJ18_comparableClassFor_2 9 rfl rfl)
theorem dJ18_comparableClassFor_59 : decode cJ18_comparableClassFor 59 = .ok (.ifCond .eq 48, 3) := dk_153 0 48 (dk_at dksJ18_comparableClassFor_2 12 rfl rfl)
theorem dJ18_comparableClassFor_62 : decode cJ18_comparableClassFor 62 = .ok (.aload 8, 2) := dk_25 8 (dk_at dksJ18_comparableClassFor_2 15 rfl rfl)
theorem dJ18_comparableClassFor_64 : decode cJ18_comparableClassFor 64 = .ok (.checkcast 21, 3) := dk_192 0 21 (dk_at dksJ18_comparableClassFor_2 17 rfl rfl)
theorem dJ18_comparableClassFor_67 : decode cJ18_comparableClassFor 67 = .ok (.dup, 1) := dk_89 (dk_at dksJ18_comparableClassFor_2 20 rfl rfl)
theorem dJ18_comparableClassFor_68 : decode cJ18_comparableClassFor 68 = .ok (.astore 4, 2) := dk_58 4 (dk_at dksJ18_comparableClassFor_2 21 rfl rfl)
theorem dJ18_comparableClassFor_70 : decode cJ18_comparableClassFor 70 = .ok (.invokeinterface 23 1, 5) := by decide +kernel
theorem dJ18_comparableClassFor_75 : decode cJ18_comparableClassFor 75 = .ok (.ldc 7, 2) := dk_18 7 (dk_at dksJ18_comparableClassFor_3 5 rfl rfl)
theorem dJ18_comparableClassFor_77 : decode cJ18_comparableClassFor 77 = .ok (.if_acmp .ne 30, 3) := dk_166 0 30 (dk_at dksJ18_comparableClassFor_3 7 rfl rfl)
theorem dJ18_comparableClassFor_80 : decode cJ18_comparableClassFor 80 = .ok (.aload 4, 2) := dk_25 4 (dk_at dksJ18_comparableClassFor_3 10 rfl rfl)
theorem dJ18_comparableClassFor_82 : decode cJ18_comparableClassFor 82 = .ok (.invokeinterface 27 1, 5) := by decide +kernel
theorem dJ18_comparableClassFor_87 : decode cJ18_comparableClassFor 87 = .ok (.dup, 1) := dk_89 (dk_at dksJ18_comparableClassFor_3 17 rfl rfl)
theorem dJ18_comparableClassFor_88 : decode cJ18_comparableClassFor 88 = .ok (.astore_n 3, 1) := dk_78 (dk_at dksJ18_comparableClassFor_3 18 rfl rfl)
theorem dJ18_comparableClassFor_89 : decode cJ18_comparableClassFor 89 = .ok (.ifnull 18, 3) := dk_198 0 18 (dk_at dksJ18_comparableClassFor_3 19 rfl rfl)
theorem dJ18_comparableClassFor_92 : decode cJ18_comparableClassFor 92 = .ok (.aload_n 3, 1) := dk_45 (dk_at dksJ18_comparableClassFor_3 22 rfl rfl)
theorem dJ18_comparableClassFor_93 : decode cJ18_comparableClassFor 93 = .ok (.arraylength, 1) := dk_190 (dk_at dksJ18_comparableClassFor_3 23 rfl rfl)
theorem dJ18_comparableClassFor_94 : decode cJ18_comparableClassFor 94 = .ok (.iconst 1, 1) := dk_4 (dk_at dksJ18_comparableClassFor_4 0 rfl rfl)
theorem dJ18_comparableClassFor_95 : decode cJ18_comparableClassFor 95 = .ok (.if_icmp .ne 12, 3) := dk_160 0 12 (dk_at dksJ18_comparableClassFor_4 1 rfl rfl)
theorem dJ18_comparableClassFor_98 : decode cJ18_comparableClassFor 98 = .ok (.aload_n 3, 1) := dk_45 (dk_at dksJ18_comparableClassFor_4 4 rfl rfl)
theorem dJ18_comparableClassFor_99 : decode cJ18_comparableClassFor 99 = .ok (.iconst 0, 1) := dk_3 (dk_at dksJ18_comparableClassFor_4 5 rfl rfl)
theorem dJ18_comparableClassFor_100 : decode cJ18_comparableClassFor 100 = .ok (.aaload, 1) := dk_50 (dk_at dksJ18_comparableClassFor_4 6 rfl rfl)
theorem dJ18_comparableClassFor_101 : decode cJ18_comparableClassFor 101 = .ok (.aload_n 1, 1) := dk_43 (dk_at dksJ18_comparableClassFor_4 7 rfl rfl)
theorem dJ18_comparableClassFor_102 : decode cJ18_comparableClassFor 102 = .ok (.if_acmp .ne 5, 3) := dk_166 0 5 (dk_at dksJ18_comparableClassFor_4 8 rfl rfl)
theorem dJ18_comparableClassFor_105 : decode cJ18_comparableClassFor 105 = .ok (.aload_n 1, 1) := dk_43 (dk_at dksJ18_comparableClassFor_4 11 rfl rfl)
theorem dJ18_comparableClassFor_106 : decode cJ18_comparableClassFor 106 = .ok (.areturn, 1) := dk_176 (dk_at dksJ18_comparableClassFor_4 12 rfl rfl)
theorem dJ18_comparableClassFor_107 : decode cJ18_comparableClassFor 107 = .ok (.iinc 7 1, 3) := dk_132 7 1 (dk_at dksJ18_comparableClassFor_4 13 rfl rfl)
theorem dJ18_comparableClassFor_110 : decode cJ18_comparableClassFor 110 = .ok (.goto (-70), 3) := dk_167 255 186 (dk_at dksJ18_comparableClassFor_4 16 rfl rfl)
theorem dJ18_comparableClassFor_113 : decode cJ18_comparableClassFor 113 = .ok (.aconst_null, 1) := dk_1 (dk_at dksJ18_comparableClassFor_4 19 rfl rfl)
theorem dJ18_comparableClassFor_114 : decode cJ18_comparableClassFor 114 = .ok (.areturn, 1) := dk_176 (dk_at dksJ18_comparableClassFor_4 20 rfl rfl)
abbrev cJ18_compareComparables : ByteArray := prog_66_method_3_code
def yJ18_compareComparables : MethodName := ⟨RJ18, "compareComparables", "(Ljava/lang/Class;Ljava/lang/Object;Ljava/lang/Object;)I"⟩
def dkwJ18_compareComparables_1 : List UInt8 := [185, 0, 30, 2, 0, 172]
abbrev dktJ18_compareComparables_1 : List UInt8 := dkwJ18_compareComparables_1 ++ []
def dkwJ18_compareComparables_0 : List UInt8 := [44, 198, 0, 11, 44, 182, 0, 9, 42, 165, 0, 7, 3, 167, 0, 13, 43, 192, 0, 7, 44]
abbrev dktJ18_compareComparables_0 : List UInt8 := dkwJ18_compareComparables_0 ++ dktJ18_compareComparables_1
theorem dksJ18_compareComparables_0 : cJ18_compareComparables.data.toList.drop 0 = dktJ18_compareComparables_0 := by decide +kernel
theorem dksJ18_compareComparables_1 : cJ18_compareComparables.data.toList.drop 21 = dktJ18_compareComparables_1 := dk_seg dksJ18_compareComparables_0 21 rfl rfl
theorem dJ18_compareComparables_0 : decode cJ18_compareComparables 0 = .ok (.aload_n 2, 1) := dk_44 (dk_at dksJ18_compareComparables_0 0 rfl rfl)
theorem dJ18_compareComparables_1 : decode cJ18_compareComparables 1 = .ok (.ifnull 11, 3) := dk_198 0 11 (dk_at dksJ18_compareComparables_0 1 rfl rfl)
theorem dJ18_compareComparables_4 : decode cJ18_compareComparables 4 = .ok (.aload_n 2, 1) := dk_44 (dk_at dksJ18_compareComparables_0 4 rfl rfl)
theorem dJ18_compareComparables_5 : decode cJ18_compareComparables 5 = .ok (.invokevirtual 9, 3) := dk_182 0 9 (dk_at dksJ18_compareComparables_0 5 rfl rfl)
theorem dJ18_compareComparables_8 : decode cJ18_compareComparables 8 = .ok (.aload_n 0, 1) := dk_42 (dk_at dksJ18_compareComparables_0 8 rfl rfl)
theorem dJ18_compareComparables_9 : decode cJ18_compareComparables 9 = .ok (.if_acmp .eq 7, 3) := dk_165 0 7 (dk_at dksJ18_compareComparables_0 9 rfl rfl)
theorem dJ18_compareComparables_12 : decode cJ18_compareComparables 12 = .ok (.iconst 0, 1) := dk_3 (dk_at dksJ18_compareComparables_0 12 rfl rfl)
theorem dJ18_compareComparables_13 : decode cJ18_compareComparables 13 = .ok (.goto 13, 3) := dk_167 0 13 (dk_at dksJ18_compareComparables_0 13 rfl rfl)
theorem dJ18_compareComparables_16 : decode cJ18_compareComparables 16 = .ok (.aload_n 1, 1) := dk_43 (dk_at dksJ18_compareComparables_0 16 rfl rfl)
theorem dJ18_compareComparables_17 : decode cJ18_compareComparables 17 = .ok (.checkcast 7, 3) := dk_192 0 7 (dk_at dksJ18_compareComparables_0 17 rfl rfl)
theorem dJ18_compareComparables_20 : decode cJ18_compareComparables 20 = .ok (.aload_n 2, 1) := dk_44 (dk_at dksJ18_compareComparables_0 20 rfl rfl)
theorem dJ18_compareComparables_21 : decode cJ18_compareComparables 21 = .ok (.invokeinterface 30 2, 5) := by decide +kernel
theorem dJ18_compareComparables_26 : decode cJ18_compareComparables 26 = .ok (.ireturn, 1) := dk_172 (dk_at dksJ18_compareComparables_1 5 rfl rfl)
abbrev cJ18_treeifyBin : ByteArray := prog_66_method_18_code
def yJ18_treeifyBin : MethodName := ⟨RJ18, "treeifyBin", "([Ljava/util/HashMap$Node;I)V"⟩
def dkwJ18_treeifyBin_4 : List UInt8 := [21, 4, 25, 6, 91, 83, 198, 0, 9, 25, 6, 43, 182, 0, 224, 177]
abbrev dktJ18_treeifyBin_4 : List UInt8 := dkwJ18_treeifyBin_4 ++ []
def dkwJ18_treeifyBin_3 : List UInt8 := [25, 7, 25, 8, 181, 0, 223, 25, 8, 58, 7, 25, 5, 180, 0, 177, 89, 58, 5, 199, 255, 209, 43]
abbrev dktJ18_treeifyBin_3 : List UInt8 := dkwJ18_treeifyBin_3 ++ dktJ18_treeifyBin_4
def dkwJ18_treeifyBin_2 : List UInt8 := [182, 0, 215, 58, 8, 25, 7, 199, 0, 10, 25, 8, 58, 6, 167, 0, 17, 25, 8, 25, 7, 181, 0, 219]
abbrev dktJ18_treeifyBin_2 : List UInt8 := dkwJ18_treeifyBin_2 ++ dktJ18_treeifyBin_3
def dkwJ18_treeifyBin_1 : List UInt8 := [100, 28, 126, 89, 54, 4, 50, 89, 58, 5, 198, 0, 75, 1, 58, 6, 1, 58, 7, 42, 25, 5, 1]
abbrev dktJ18_treeifyBin_1 : List UInt8 := dkwJ18_treeifyBin_1 ++ dktJ18_treeifyBin_2
def dkwJ18_treeifyBin_0 : List UInt8 := [43, 198, 0, 12, 43, 190, 89, 62, 16, 64, 162, 0, 11, 42, 182, 0, 117, 87, 167, 0, 91, 43, 29, 4]
abbrev dktJ18_treeifyBin_0 : List UInt8 := dkwJ18_treeifyBin_0 ++ dktJ18_treeifyBin_1
theorem dksJ18_treeifyBin_0 : cJ18_treeifyBin.data.toList.drop 0 = dktJ18_treeifyBin_0 := by decide +kernel
theorem dksJ18_treeifyBin_1 : cJ18_treeifyBin.data.toList.drop 24 = dktJ18_treeifyBin_1 := dk_seg dksJ18_treeifyBin_0 24 rfl rfl
theorem dksJ18_treeifyBin_2 : cJ18_treeifyBin.data.toList.drop 47 = dktJ18_treeifyBin_2 := dk_seg dksJ18_treeifyBin_1 23 rfl rfl
theorem dksJ18_treeifyBin_3 : cJ18_treeifyBin.data.toList.drop 71 = dktJ18_treeifyBin_3 := dk_seg dksJ18_treeifyBin_2 24 rfl rfl
theorem dksJ18_treeifyBin_4 : cJ18_treeifyBin.data.toList.drop 94 = dktJ18_treeifyBin_4 := dk_seg dksJ18_treeifyBin_3 23 rfl rfl
theorem dJ18_treeifyBin_0 : decode cJ18_treeifyBin 0 = .ok (.aload_n 1, 1) := dk_43 (dk_at dksJ18_treeifyBin_0 0 rfl rfl)
theorem dJ18_treeifyBin_1 : decode cJ18_treeifyBin 1 = .ok (.ifnull 12, 3) := dk_198 0 12 (dk_at dksJ18_treeifyBin_0 1 rfl rfl)
theorem dJ18_treeifyBin_4 : decode cJ18_treeifyBin 4 = .ok (.aload_n 1, 1) := dk_43 (dk_at dksJ18_treeifyBin_0 4 rfl rfl)
theorem dJ18_treeifyBin_5 : decode cJ18_treeifyBin 5 = .ok (.arraylength, 1) := dk_190 (dk_at dksJ18_treeifyBin_0 5 rfl rfl)
theorem dJ18_treeifyBin_6 : decode cJ18_treeifyBin 6 = .ok (.dup, 1) := dk_89 (dk_at dksJ18_treeifyBin_0 6 rfl rfl)
theorem dJ18_treeifyBin_7 : decode cJ18_treeifyBin 7 = .ok (.istore_n 3, 1) := dk_62 (dk_at dksJ18_treeifyBin_0 7 rfl rfl)
theorem dJ18_treeifyBin_8 : decode cJ18_treeifyBin 8 = .ok (.bipush 64, 2) := dk_16 64 (dk_at dksJ18_treeifyBin_0 8 rfl rfl)
theorem dJ18_treeifyBin_10 : decode cJ18_treeifyBin 10 = .ok (.if_icmp .ge 11, 3) := dk_162 0 11 (dk_at dksJ18_treeifyBin_0 10 rfl rfl)
theorem dJ18_treeifyBin_13 : decode cJ18_treeifyBin 13 = .ok (.aload_n 0, 1) := dk_42 (dk_at dksJ18_treeifyBin_0 13 rfl rfl)
theorem dJ18_treeifyBin_14 : decode cJ18_treeifyBin 14 = .ok (.invokevirtual 117, 3) := dk_182 0 117 (dk_at dksJ18_treeifyBin_0 14 rfl rfl)
theorem dJ18_treeifyBin_17 : decode cJ18_treeifyBin 17 = .ok (.pop, 1) := dk_87 (dk_at dksJ18_treeifyBin_0 17 rfl rfl)
theorem dJ18_treeifyBin_18 : decode cJ18_treeifyBin 18 = .ok (.goto 91, 3) := dk_167 0 91 (dk_at dksJ18_treeifyBin_0 18 rfl rfl)
theorem dJ18_treeifyBin_21 : decode cJ18_treeifyBin 21 = .ok (.aload_n 1, 1) := dk_43 (dk_at dksJ18_treeifyBin_0 21 rfl rfl)
theorem dJ18_treeifyBin_22 : decode cJ18_treeifyBin 22 = .ok (.iload_n 3, 1) := dk_29 (dk_at dksJ18_treeifyBin_0 22 rfl rfl)
theorem dJ18_treeifyBin_23 : decode cJ18_treeifyBin 23 = .ok (.iconst 1, 1) := dk_4 (dk_at dksJ18_treeifyBin_0 23 rfl rfl)
theorem dJ18_treeifyBin_24 : decode cJ18_treeifyBin 24 = .ok (.isub, 1) := dk_100 (dk_at dksJ18_treeifyBin_1 0 rfl rfl)
theorem dJ18_treeifyBin_25 : decode cJ18_treeifyBin 25 = .ok (.iload_n 2, 1) := dk_28 (dk_at dksJ18_treeifyBin_1 1 rfl rfl)
theorem dJ18_treeifyBin_26 : decode cJ18_treeifyBin 26 = .ok (.iand, 1) := dk_126 (dk_at dksJ18_treeifyBin_1 2 rfl rfl)
theorem dJ18_treeifyBin_27 : decode cJ18_treeifyBin 27 = .ok (.dup, 1) := dk_89 (dk_at dksJ18_treeifyBin_1 3 rfl rfl)
theorem dJ18_treeifyBin_28 : decode cJ18_treeifyBin 28 = .ok (.istore 4, 2) := dk_54 4 (dk_at dksJ18_treeifyBin_1 4 rfl rfl)
theorem dJ18_treeifyBin_30 : decode cJ18_treeifyBin 30 = .ok (.aaload, 1) := dk_50 (dk_at dksJ18_treeifyBin_1 6 rfl rfl)
theorem dJ18_treeifyBin_31 : decode cJ18_treeifyBin 31 = .ok (.dup, 1) := dk_89 (dk_at dksJ18_treeifyBin_1 7 rfl rfl)
theorem dJ18_treeifyBin_32 : decode cJ18_treeifyBin 32 = .ok (.astore 5, 2) := dk_58 5 (dk_at dksJ18_treeifyBin_1 8 rfl rfl)
theorem dJ18_treeifyBin_34 : decode cJ18_treeifyBin 34 = .ok (.ifnull 75, 3) := dk_198 0 75 (dk_at dksJ18_treeifyBin_1 10 rfl rfl)
theorem dJ18_treeifyBin_37 : decode cJ18_treeifyBin 37 = .ok (.aconst_null, 1) := dk_1 (dk_at dksJ18_treeifyBin_1 13 rfl rfl)
theorem dJ18_treeifyBin_38 : decode cJ18_treeifyBin 38 = .ok (.astore 6, 2) := dk_58 6 (dk_at dksJ18_treeifyBin_1 14 rfl rfl)
theorem dJ18_treeifyBin_40 : decode cJ18_treeifyBin 40 = .ok (.aconst_null, 1) := dk_1 (dk_at dksJ18_treeifyBin_1 16 rfl rfl)
theorem dJ18_treeifyBin_41 : decode cJ18_treeifyBin 41 = .ok (.astore 7, 2) := dk_58 7 (dk_at dksJ18_treeifyBin_1 17 rfl rfl)
theorem dJ18_treeifyBin_43 : decode cJ18_treeifyBin 43 = .ok (.aload_n 0, 1) := dk_42 (dk_at dksJ18_treeifyBin_1 19 rfl rfl)
theorem dJ18_treeifyBin_44 : decode cJ18_treeifyBin 44 = .ok (.aload 5, 2) := dk_25 5 (dk_at dksJ18_treeifyBin_1 20 rfl rfl)
theorem dJ18_treeifyBin_46 : decode cJ18_treeifyBin 46 = .ok (.aconst_null, 1) := dk_1 (dk_at dksJ18_treeifyBin_1 22 rfl rfl)
theorem dJ18_treeifyBin_47 : decode cJ18_treeifyBin 47 = .ok (.invokevirtual 215, 3) := dk_182 0 215 (dk_at dksJ18_treeifyBin_2 0 rfl rfl)
theorem dJ18_treeifyBin_50 : decode cJ18_treeifyBin 50 = .ok (.astore 8, 2) := dk_58 8 (dk_at dksJ18_treeifyBin_2 3 rfl rfl)
theorem dJ18_treeifyBin_52 : decode cJ18_treeifyBin 52 = .ok (.aload 7, 2) := dk_25 7 (dk_at dksJ18_treeifyBin_2 5 rfl rfl)
theorem dJ18_treeifyBin_54 : decode cJ18_treeifyBin 54 = .ok (.ifnonnull 10, 3) := dk_199 0 10 (dk_at dksJ18_treeifyBin_2 7 rfl rfl)
theorem dJ18_treeifyBin_57 : decode cJ18_treeifyBin 57 = .ok (.aload 8, 2) := dk_25 8 (dk_at dksJ18_treeifyBin_2 10 rfl rfl)
theorem dJ18_treeifyBin_59 : decode cJ18_treeifyBin 59 = .ok (.astore 6, 2) := dk_58 6 (dk_at dksJ18_treeifyBin_2 12 rfl rfl)
theorem dJ18_treeifyBin_61 : decode cJ18_treeifyBin 61 = .ok (.goto 17, 3) := dk_167 0 17 (dk_at dksJ18_treeifyBin_2 14 rfl rfl)
theorem dJ18_treeifyBin_64 : decode cJ18_treeifyBin 64 = .ok (.aload 8, 2) := dk_25 8 (dk_at dksJ18_treeifyBin_2 17 rfl rfl)
theorem dJ18_treeifyBin_66 : decode cJ18_treeifyBin 66 = .ok (.aload 7, 2) := dk_25 7 (dk_at dksJ18_treeifyBin_2 19 rfl rfl)
theorem dJ18_treeifyBin_68 : decode cJ18_treeifyBin 68 = .ok (.putfield 219, 3) := dk_181 0 219 (dk_at dksJ18_treeifyBin_2 21 rfl rfl)
theorem dJ18_treeifyBin_71 : decode cJ18_treeifyBin 71 = .ok (.aload 7, 2) := dk_25 7 (dk_at dksJ18_treeifyBin_3 0 rfl rfl)
theorem dJ18_treeifyBin_73 : decode cJ18_treeifyBin 73 = .ok (.aload 8, 2) := dk_25 8 (dk_at dksJ18_treeifyBin_3 2 rfl rfl)
theorem dJ18_treeifyBin_75 : decode cJ18_treeifyBin 75 = .ok (.putfield 223, 3) := dk_181 0 223 (dk_at dksJ18_treeifyBin_3 4 rfl rfl)
theorem dJ18_treeifyBin_78 : decode cJ18_treeifyBin 78 = .ok (.aload 8, 2) := dk_25 8 (dk_at dksJ18_treeifyBin_3 7 rfl rfl)
theorem dJ18_treeifyBin_80 : decode cJ18_treeifyBin 80 = .ok (.astore 7, 2) := dk_58 7 (dk_at dksJ18_treeifyBin_3 9 rfl rfl)
theorem dJ18_treeifyBin_82 : decode cJ18_treeifyBin 82 = .ok (.aload 5, 2) := dk_25 5 (dk_at dksJ18_treeifyBin_3 11 rfl rfl)
theorem dJ18_treeifyBin_84 : decode cJ18_treeifyBin 84 = .ok (.getfield 177, 3) := dk_180 0 177 (dk_at dksJ18_treeifyBin_3 13 rfl rfl)
theorem dJ18_treeifyBin_87 : decode cJ18_treeifyBin 87 = .ok (.dup, 1) := dk_89 (dk_at dksJ18_treeifyBin_3 16 rfl rfl)
theorem dJ18_treeifyBin_88 : decode cJ18_treeifyBin 88 = .ok (.astore 5, 2) := dk_58 5 (dk_at dksJ18_treeifyBin_3 17 rfl rfl)
theorem dJ18_treeifyBin_90 : decode cJ18_treeifyBin 90 = .ok (.ifnonnull (-47), 3) := dk_199 255 209 (dk_at dksJ18_treeifyBin_3 19 rfl rfl)
theorem dJ18_treeifyBin_93 : decode cJ18_treeifyBin 93 = .ok (.aload_n 1, 1) := dk_43 (dk_at dksJ18_treeifyBin_3 22 rfl rfl)
theorem dJ18_treeifyBin_94 : decode cJ18_treeifyBin 94 = .ok (.iload 4, 2) := dk_21 4 (dk_at dksJ18_treeifyBin_4 0 rfl rfl)
theorem dJ18_treeifyBin_96 : decode cJ18_treeifyBin 96 = .ok (.aload 6, 2) := dk_25 6 (dk_at dksJ18_treeifyBin_4 2 rfl rfl)
theorem dJ18_treeifyBin_98 : decode cJ18_treeifyBin 98 = .ok (.dup_x2, 1) := dk_91 (dk_at dksJ18_treeifyBin_4 4 rfl rfl)
theorem dJ18_treeifyBin_99 : decode cJ18_treeifyBin 99 = .ok (.aastore, 1) := dk_83 (dk_at dksJ18_treeifyBin_4 5 rfl rfl)
theorem dJ18_treeifyBin_100 : decode cJ18_treeifyBin 100 = .ok (.ifnull 9, 3) := dk_198 0 9 (dk_at dksJ18_treeifyBin_4 6 rfl rfl)
theorem dJ18_treeifyBin_103 : decode cJ18_treeifyBin 103 = .ok (.aload 6, 2) := dk_25 6 (dk_at dksJ18_treeifyBin_4 9 rfl rfl)
theorem dJ18_treeifyBin_105 : decode cJ18_treeifyBin 105 = .ok (.aload_n 1, 1) := dk_43 (dk_at dksJ18_treeifyBin_4 11 rfl rfl)
theorem dJ18_treeifyBin_106 : decode cJ18_treeifyBin 106 = .ok (.invokevirtual 224, 3) := dk_182 0 224 (dk_at dksJ18_treeifyBin_4 12 rfl rfl)
theorem dJ18_treeifyBin_109 : decode cJ18_treeifyBin 109 = .ok (.return_, 1) := dk_177 (dk_at dksJ18_treeifyBin_4 15 rfl rfl)
abbrev cJ18_putAll : ByteArray := prog_66_method_19_code
def yJ18_putAll : MethodName := ⟨RJ18, "putAll", "(Ljava/util/Map;)V"⟩
def dkwJ18_putAll_0 : List UInt8 := [42, 43, 4, 182, 0, 96, 177]
abbrev dktJ18_putAll_0 : List UInt8 := dkwJ18_putAll_0 ++ []
theorem dksJ18_putAll_0 : cJ18_putAll.data.toList.drop 0 = dktJ18_putAll_0 := by decide +kernel
theorem dJ18_putAll_0 : decode cJ18_putAll 0 = .ok (.aload_n 0, 1) := dk_42 (dk_at dksJ18_putAll_0 0 rfl rfl)
theorem dJ18_putAll_1 : decode cJ18_putAll 1 = .ok (.aload_n 1, 1) := dk_43 (dk_at dksJ18_putAll_0 1 rfl rfl)
theorem dJ18_putAll_2 : decode cJ18_putAll 2 = .ok (.iconst 1, 1) := dk_4 (dk_at dksJ18_putAll_0 2 rfl rfl)
theorem dJ18_putAll_3 : decode cJ18_putAll 3 = .ok (.invokevirtual 96, 3) := dk_182 0 96 (dk_at dksJ18_putAll_0 3 rfl rfl)
theorem dJ18_putAll_6 : decode cJ18_putAll 6 = .ok (.return_, 1) := dk_177 (dk_at dksJ18_putAll_0 6 rfl rfl)
abbrev cJ18_putMapEntries : ByteArray := prog_66_method_9_code
def yJ18_putMapEntries : MethodName := ⟨RJ18, "putMapEntries", "(Ljava/util/Map;Z)V"⟩
def dkwJ18_putMapEntries_7 : List UInt8 := [87, 167, 255, 200, 177]
abbrev dktJ18_putMapEntries_7 : List UInt8 := dkwJ18_putMapEntries_7 ++ []
def dkwJ18_putMapEntries_6 : List UInt8 := [25, 5, 185, 0, 146, 1, 0, 58, 7, 42, 25, 6, 184, 0, 149, 25, 6, 25, 7, 3, 28, 182, 0, 152]
abbrev dktJ18_putMapEntries_6 : List UInt8 := dkwJ18_putMapEntries_6 ++ dktJ18_putMapEntries_7
def dkwJ18_putMapEntries_5 : List UInt8 := [153, 0, 52, 25, 4, 185, 0, 137, 1, 0, 192, 0, 141, 58, 5, 25, 5, 185, 0, 143, 1, 0, 58, 6]
abbrev dktJ18_putMapEntries_5 : List UInt8 := dkwJ18_putMapEntries_5 ++ dktJ18_putMapEntries_6
def dkwJ18_putMapEntries_4 : List UInt8 := [167, 255, 233, 43, 185, 0, 121, 1, 0, 185, 0, 125, 1, 0, 58, 4, 25, 4, 185, 0, 131, 1, 0]
abbrev dktJ18_putMapEntries_4 : List UInt8 := dkwJ18_putMapEntries_4 ++ dktJ18_putMapEntries_5
def dkwJ18_putMapEntries_3 : List UInt8 := [42, 180, 0, 88, 164, 0, 21, 42, 180, 0, 105, 190, 18, 42, 162, 0, 11, 42, 182, 0, 117, 87]
abbrev dktJ18_putMapEntries_3 : List UInt8 := dkwJ18_putMapEntries_3 ++ dktJ18_putMapEntries_4
def dkwJ18_putMapEntries_2 : List UInt8 := [54, 6, 21, 6, 42, 180, 0, 88, 164, 0, 12, 42, 21, 6, 184, 0, 85, 181, 0, 88, 167, 0, 29, 29]
abbrev dktJ18_putMapEntries_2 : List UInt8 := dkwJ18_putMapEntries_2 ++ dktJ18_putMapEntries_3
def dkwJ18_putMapEntries_1 : List UInt8 := [141, 111, 184, 0, 109, 57, 4, 24, 4, 20, 0, 115, 152, 156, 0, 9, 24, 4, 142, 167, 0, 5, 18, 42]
abbrev dktJ18_putMapEntries_1 : List UInt8 := dkwJ18_putMapEntries_1 ++ dktJ18_putMapEntries_2
def dkwJ18_putMapEntries_0 : List UInt8 := [43, 185, 0, 100, 1, 0, 62, 29, 158, 0, 161, 42, 180, 0, 105, 199, 0, 56, 29, 135, 42, 180, 0, 81]
abbrev dktJ18_putMapEntries_0 : List UInt8 := dkwJ18_putMapEntries_0 ++ dktJ18_putMapEntries_1
theorem dksJ18_putMapEntries_0 : cJ18_putMapEntries.data.toList.drop 0 = dktJ18_putMapEntries_0 := by decide +kernel
theorem dksJ18_putMapEntries_1 : cJ18_putMapEntries.data.toList.drop 24 = dktJ18_putMapEntries_1 := dk_seg dksJ18_putMapEntries_0 24 rfl rfl
theorem dksJ18_putMapEntries_2 : cJ18_putMapEntries.data.toList.drop 48 = dktJ18_putMapEntries_2 := dk_seg dksJ18_putMapEntries_1 24 rfl rfl
theorem dksJ18_putMapEntries_3 : cJ18_putMapEntries.data.toList.drop 72 = dktJ18_putMapEntries_3 := dk_seg dksJ18_putMapEntries_2 24 rfl rfl
theorem dksJ18_putMapEntries_4 : cJ18_putMapEntries.data.toList.drop 94 = dktJ18_putMapEntries_4 := dk_seg dksJ18_putMapEntries_3 22 rfl rfl
theorem dksJ18_putMapEntries_5 : cJ18_putMapEntries.data.toList.drop 117 = dktJ18_putMapEntries_5 := dk_seg dksJ18_putMapEntries_4 23 rfl rfl
theorem dksJ18_putMapEntries_6 : cJ18_putMapEntries.data.toList.drop 141 = dktJ18_putMapEntries_6 := dk_seg dksJ18_putMapEntries_5 24 rfl rfl
theorem dksJ18_putMapEntries_7 : cJ18_putMapEntries.data.toList.drop 165 = dktJ18_putMapEntries_7 := dk_seg dksJ18_putMapEntries_6 24 rfl rfl
theorem dJ18_putMapEntries_0 : decode cJ18_putMapEntries 0 = .ok (.aload_n 1, 1) := dk_43 (dk_at dksJ18_putMapEntries_0 0 rfl rfl)
theorem dJ18_putMapEntries_1 : decode cJ18_putMapEntries 1 = .ok (.invokeinterface 100 1, 5) := by decide +kernel
theorem dJ18_putMapEntries_6 : decode cJ18_putMapEntries 6 = .ok (.istore_n 3, 1) := dk_62 (dk_at dksJ18_putMapEntries_0 6 rfl rfl)
theorem dJ18_putMapEntries_7 : decode cJ18_putMapEntries 7 = .ok (.iload_n 3, 1) := dk_29 (dk_at dksJ18_putMapEntries_0 7 rfl rfl)
theorem dJ18_putMapEntries_8 : decode cJ18_putMapEntries 8 = .ok (.ifCond .le 161, 3) := dk_158 0 161 (dk_at dksJ18_putMapEntries_0 8 rfl rfl)
theorem dJ18_putMapEntries_11 : decode cJ18_putMapEntries 11 = .ok (.aload_n 0, 1) := dk_42 (dk_at dksJ18_putMapEntries_0 11 rfl rfl)
theorem dJ18_putMapEntries_12 : decode cJ18_putMapEntries 12 = .ok (.getfield 105, 3) := dk_180 0 105 (dk_at dksJ18_putMapEntries_0 12 rfl rfl)
theorem dJ18_putMapEntries_15 : decode cJ18_putMapEntries 15 = .ok (.ifnonnull 56, 3) := dk_199 0 56 (dk_at dksJ18_putMapEntries_0 15 rfl rfl)
theorem dJ18_putMapEntries_18 : decode cJ18_putMapEntries 18 = .ok (.iload_n 3, 1) := dk_29 (dk_at dksJ18_putMapEntries_0 18 rfl rfl)
theorem dJ18_putMapEntries_19 : decode cJ18_putMapEntries 19 = .ok (.i2d, 1) := dk_135 (dk_at dksJ18_putMapEntries_0 19 rfl rfl)
theorem dJ18_putMapEntries_20 : decode cJ18_putMapEntries 20 = .ok (.aload_n 0, 1) := dk_42 (dk_at dksJ18_putMapEntries_0 20 rfl rfl)
theorem dJ18_putMapEntries_21 : decode cJ18_putMapEntries 21 = .ok (.getfield 81, 3) := dk_180 0 81 (dk_at dksJ18_putMapEntries_0 21 rfl rfl)
theorem dJ18_putMapEntries_24 : decode cJ18_putMapEntries 24 = .ok (.f2d, 1) := dk_141 (dk_at dksJ18_putMapEntries_1 0 rfl rfl)
theorem dJ18_putMapEntries_25 : decode cJ18_putMapEntries 25 = .ok (.ddiv, 1) := dk_111 (dk_at dksJ18_putMapEntries_1 1 rfl rfl)
theorem dJ18_putMapEntries_26 : decode cJ18_putMapEntries 26 = .ok (.invokestatic 109, 3) := dk_184 0 109 (dk_at dksJ18_putMapEntries_1 2 rfl rfl)
theorem dJ18_putMapEntries_29 : decode cJ18_putMapEntries 29 = .ok (.dstore 4, 2) := dk_57 4 (dk_at dksJ18_putMapEntries_1 5 rfl rfl)
theorem dJ18_putMapEntries_31 : decode cJ18_putMapEntries 31 = .ok (.dload 4, 2) := dk_24 4 (dk_at dksJ18_putMapEntries_1 7 rfl rfl)
theorem dJ18_putMapEntries_33 : decode cJ18_putMapEntries 33 = .ok (.ldc2_w 115, 3) := dk_20 0 115 (dk_at dksJ18_putMapEntries_1 9 rfl rfl)
theorem dJ18_putMapEntries_36 : decode cJ18_putMapEntries 36 = .ok (.dcmp .g, 1) := dk_152 (dk_at dksJ18_putMapEntries_1 12 rfl rfl)
theorem dJ18_putMapEntries_37 : decode cJ18_putMapEntries 37 = .ok (.ifCond .ge 9, 3) := dk_156 0 9 (dk_at dksJ18_putMapEntries_1 13 rfl rfl)
theorem dJ18_putMapEntries_40 : decode cJ18_putMapEntries 40 = .ok (.dload 4, 2) := dk_24 4 (dk_at dksJ18_putMapEntries_1 16 rfl rfl)
theorem dJ18_putMapEntries_42 : decode cJ18_putMapEntries 42 = .ok (.d2i, 1) := dk_142 (dk_at dksJ18_putMapEntries_1 18 rfl rfl)
theorem dJ18_putMapEntries_43 : decode cJ18_putMapEntries 43 = .ok (.goto 5, 3) := dk_167 0 5 (dk_at dksJ18_putMapEntries_1 19 rfl rfl)
theorem dJ18_putMapEntries_46 : decode cJ18_putMapEntries 46 = .ok (.ldc 42, 2) := dk_18 42 (dk_at dksJ18_putMapEntries_1 22 rfl rfl)
theorem dJ18_putMapEntries_48 : decode cJ18_putMapEntries 48 = .ok (.istore 6, 2) := dk_54 6 (dk_at dksJ18_putMapEntries_2 0 rfl rfl)
theorem dJ18_putMapEntries_50 : decode cJ18_putMapEntries 50 = .ok (.iload 6, 2) := dk_21 6 (dk_at dksJ18_putMapEntries_2 2 rfl rfl)
theorem dJ18_putMapEntries_52 : decode cJ18_putMapEntries 52 = .ok (.aload_n 0, 1) := dk_42 (dk_at dksJ18_putMapEntries_2 4 rfl rfl)
theorem dJ18_putMapEntries_53 : decode cJ18_putMapEntries 53 = .ok (.getfield 88, 3) := dk_180 0 88 (dk_at dksJ18_putMapEntries_2 5 rfl rfl)
theorem dJ18_putMapEntries_56 : decode cJ18_putMapEntries 56 = .ok (.if_icmp .le 12, 3) := dk_164 0 12 (dk_at dksJ18_putMapEntries_2 8 rfl rfl)
theorem dJ18_putMapEntries_59 : decode cJ18_putMapEntries 59 = .ok (.aload_n 0, 1) := dk_42 (dk_at dksJ18_putMapEntries_2 11 rfl rfl)
theorem dJ18_putMapEntries_60 : decode cJ18_putMapEntries 60 = .ok (.iload 6, 2) := dk_21 6 (dk_at dksJ18_putMapEntries_2 12 rfl rfl)
theorem dJ18_putMapEntries_62 : decode cJ18_putMapEntries 62 = .ok (.invokestatic 85, 3) := dk_184 0 85 (dk_at dksJ18_putMapEntries_2 14 rfl rfl)
theorem dJ18_putMapEntries_65 : decode cJ18_putMapEntries 65 = .ok (.putfield 88, 3) := dk_181 0 88 (dk_at dksJ18_putMapEntries_2 17 rfl rfl)
theorem dJ18_putMapEntries_68 : decode cJ18_putMapEntries 68 = .ok (.goto 29, 3) := dk_167 0 29 (dk_at dksJ18_putMapEntries_2 20 rfl rfl)
theorem dJ18_putMapEntries_71 : decode cJ18_putMapEntries 71 = .ok (.iload_n 3, 1) := dk_29 (dk_at dksJ18_putMapEntries_2 23 rfl rfl)
theorem dJ18_putMapEntries_72 : decode cJ18_putMapEntries 72 = .ok (.aload_n 0, 1) := dk_42 (dk_at dksJ18_putMapEntries_3 0 rfl rfl)
theorem dJ18_putMapEntries_73 : decode cJ18_putMapEntries 73 = .ok (.getfield 88, 3) := dk_180 0 88 (dk_at dksJ18_putMapEntries_3 1 rfl rfl)
theorem dJ18_putMapEntries_76 : decode cJ18_putMapEntries 76 = .ok (.if_icmp .le 21, 3) := dk_164 0 21 (dk_at dksJ18_putMapEntries_3 4 rfl rfl)
theorem dJ18_putMapEntries_79 : decode cJ18_putMapEntries 79 = .ok (.aload_n 0, 1) := dk_42 (dk_at dksJ18_putMapEntries_3 7 rfl rfl)
theorem dJ18_putMapEntries_80 : decode cJ18_putMapEntries 80 = .ok (.getfield 105, 3) := dk_180 0 105 (dk_at dksJ18_putMapEntries_3 8 rfl rfl)
theorem dJ18_putMapEntries_83 : decode cJ18_putMapEntries 83 = .ok (.arraylength, 1) := dk_190 (dk_at dksJ18_putMapEntries_3 11 rfl rfl)
theorem dJ18_putMapEntries_84 : decode cJ18_putMapEntries 84 = .ok (.ldc 42, 2) := dk_18 42 (dk_at dksJ18_putMapEntries_3 12 rfl rfl)
theorem dJ18_putMapEntries_86 : decode cJ18_putMapEntries 86 = .ok (.if_icmp .ge 11, 3) := dk_162 0 11 (dk_at dksJ18_putMapEntries_3 14 rfl rfl)
theorem dJ18_putMapEntries_89 : decode cJ18_putMapEntries 89 = .ok (.aload_n 0, 1) := dk_42 (dk_at dksJ18_putMapEntries_3 17 rfl rfl)
theorem dJ18_putMapEntries_90 : decode cJ18_putMapEntries 90 = .ok (.invokevirtual 117, 3) := dk_182 0 117 (dk_at dksJ18_putMapEntries_3 18 rfl rfl)
theorem dJ18_putMapEntries_93 : decode cJ18_putMapEntries 93 = .ok (.pop, 1) := dk_87 (dk_at dksJ18_putMapEntries_3 21 rfl rfl)
theorem dJ18_putMapEntries_94 : decode cJ18_putMapEntries 94 = .ok (.goto (-23), 3) := dk_167 255 233 (dk_at dksJ18_putMapEntries_4 0 rfl rfl)
theorem dJ18_putMapEntries_97 : decode cJ18_putMapEntries 97 = .ok (.aload_n 1, 1) := dk_43 (dk_at dksJ18_putMapEntries_4 3 rfl rfl)
theorem dJ18_putMapEntries_98 : decode cJ18_putMapEntries 98 = .ok (.invokeinterface 121 1, 5) := by decide +kernel
theorem dJ18_putMapEntries_103 : decode cJ18_putMapEntries 103 = .ok (.invokeinterface 125 1, 5) := by decide +kernel
theorem dJ18_putMapEntries_108 : decode cJ18_putMapEntries 108 = .ok (.astore 4, 2) := dk_58 4 (dk_at dksJ18_putMapEntries_4 14 rfl rfl)
theorem dJ18_putMapEntries_110 : decode cJ18_putMapEntries 110 = .ok (.aload 4, 2) := dk_25 4 (dk_at dksJ18_putMapEntries_4 16 rfl rfl)
theorem dJ18_putMapEntries_112 : decode cJ18_putMapEntries 112 = .ok (.invokeinterface 131 1, 5) := by decide +kernel
theorem dJ18_putMapEntries_117 : decode cJ18_putMapEntries 117 = .ok (.ifCond .eq 52, 3) := dk_153 0 52 (dk_at dksJ18_putMapEntries_5 0 rfl rfl)
theorem dJ18_putMapEntries_120 : decode cJ18_putMapEntries 120 = .ok (.aload 4, 2) := dk_25 4 (dk_at dksJ18_putMapEntries_5 3 rfl rfl)
theorem dJ18_putMapEntries_122 : decode cJ18_putMapEntries 122 = .ok (.invokeinterface 137 1, 5) := by decide +kernel
theorem dJ18_putMapEntries_127 : decode cJ18_putMapEntries 127 = .ok (.checkcast 141, 3) := dk_192 0 141 (dk_at dksJ18_putMapEntries_5 10 rfl rfl)
theorem dJ18_putMapEntries_130 : decode cJ18_putMapEntries 130 = .ok (.astore 5, 2) := dk_58 5 (dk_at dksJ18_putMapEntries_5 13 rfl rfl)
theorem dJ18_putMapEntries_132 : decode cJ18_putMapEntries 132 = .ok (.aload 5, 2) := dk_25 5 (dk_at dksJ18_putMapEntries_5 15 rfl rfl)
theorem dJ18_putMapEntries_134 : decode cJ18_putMapEntries 134 = .ok (.invokeinterface 143 1, 5) := by decide +kernel
theorem dJ18_putMapEntries_139 : decode cJ18_putMapEntries 139 = .ok (.astore 6, 2) := dk_58 6 (dk_at dksJ18_putMapEntries_5 22 rfl rfl)
theorem dJ18_putMapEntries_141 : decode cJ18_putMapEntries 141 = .ok (.aload 5, 2) := dk_25 5 (dk_at dksJ18_putMapEntries_6 0 rfl rfl)
theorem dJ18_putMapEntries_143 : decode cJ18_putMapEntries 143 = .ok (.invokeinterface 146 1, 5) := by decide +kernel
theorem dJ18_putMapEntries_148 : decode cJ18_putMapEntries 148 = .ok (.astore 7, 2) := dk_58 7 (dk_at dksJ18_putMapEntries_6 7 rfl rfl)
theorem dJ18_putMapEntries_150 : decode cJ18_putMapEntries 150 = .ok (.aload_n 0, 1) := dk_42 (dk_at dksJ18_putMapEntries_6 9 rfl rfl)
theorem dJ18_putMapEntries_151 : decode cJ18_putMapEntries 151 = .ok (.aload 6, 2) := dk_25 6 (dk_at dksJ18_putMapEntries_6 10 rfl rfl)
theorem dJ18_putMapEntries_153 : decode cJ18_putMapEntries 153 = .ok (.invokestatic 149, 3) := dk_184 0 149 (dk_at dksJ18_putMapEntries_6 12 rfl rfl)
theorem dJ18_putMapEntries_156 : decode cJ18_putMapEntries 156 = .ok (.aload 6, 2) := dk_25 6 (dk_at dksJ18_putMapEntries_6 15 rfl rfl)
theorem dJ18_putMapEntries_158 : decode cJ18_putMapEntries 158 = .ok (.aload 7, 2) := dk_25 7 (dk_at dksJ18_putMapEntries_6 17 rfl rfl)
theorem dJ18_putMapEntries_160 : decode cJ18_putMapEntries 160 = .ok (.iconst 0, 1) := dk_3 (dk_at dksJ18_putMapEntries_6 19 rfl rfl)
theorem dJ18_putMapEntries_161 : decode cJ18_putMapEntries 161 = .ok (.iload_n 2, 1) := dk_28 (dk_at dksJ18_putMapEntries_6 20 rfl rfl)
theorem dJ18_putMapEntries_162 : decode cJ18_putMapEntries 162 = .ok (.invokevirtual 152, 3) := dk_182 0 152 (dk_at dksJ18_putMapEntries_6 21 rfl rfl)
theorem dJ18_putMapEntries_165 : decode cJ18_putMapEntries 165 = .ok (.pop, 1) := dk_87 (dk_at dksJ18_putMapEntries_7 0 rfl rfl)
theorem dJ18_putMapEntries_166 : decode cJ18_putMapEntries 166 = .ok (.goto (-56), 3) := dk_167 255 200 (dk_at dksJ18_putMapEntries_7 1 rfl rfl)
theorem dJ18_putMapEntries_169 : decode cJ18_putMapEntries 169 = .ok (.return_, 1) := dk_177 (dk_at dksJ18_putMapEntries_7 4 rfl rfl)
abbrev cJ18_containsKey : ByteArray := prog_66_method_14_code
def yJ18_containsKey : MethodName := ⟨RJ18, "containsKey", "(Ljava/lang/Object;)Z"⟩
def dkwJ18_containsKey_0 : List UInt8 := [42, 43, 182, 0, 158, 198, 0, 7, 4, 167, 0, 4, 3, 172]
abbrev dktJ18_containsKey_0 : List UInt8 := dkwJ18_containsKey_0 ++ []
theorem dksJ18_containsKey_0 : cJ18_containsKey.data.toList.drop 0 = dktJ18_containsKey_0 := by decide +kernel
theorem dJ18_containsKey_0 : decode cJ18_containsKey 0 = .ok (.aload_n 0, 1) := dk_42 (dk_at dksJ18_containsKey_0 0 rfl rfl)
theorem dJ18_containsKey_1 : decode cJ18_containsKey 1 = .ok (.aload_n 1, 1) := dk_43 (dk_at dksJ18_containsKey_0 1 rfl rfl)
theorem dJ18_containsKey_2 : decode cJ18_containsKey 2 = .ok (.invokevirtual 158, 3) := dk_182 0 158 (dk_at dksJ18_containsKey_0 2 rfl rfl)
theorem dJ18_containsKey_5 : decode cJ18_containsKey 5 = .ok (.ifnull 7, 3) := dk_198 0 7 (dk_at dksJ18_containsKey_0 5 rfl rfl)
theorem dJ18_containsKey_8 : decode cJ18_containsKey 8 = .ok (.iconst 1, 1) := dk_4 (dk_at dksJ18_containsKey_0 8 rfl rfl)
theorem dJ18_containsKey_9 : decode cJ18_containsKey 9 = .ok (.goto 4, 3) := dk_167 0 4 (dk_at dksJ18_containsKey_0 9 rfl rfl)
theorem dJ18_containsKey_12 : decode cJ18_containsKey 12 = .ok (.iconst 0, 1) := dk_3 (dk_at dksJ18_containsKey_0 12 rfl rfl)
theorem dJ18_containsKey_13 : decode cJ18_containsKey 13 = .ok (.ireturn, 1) := dk_172 (dk_at dksJ18_containsKey_0 13 rfl rfl)
abbrev cJ18_getNode : ByteArray := prog_66_method_13_code
def yJ18_getNode : MethodName := ⟨RJ18, "getNode", "(Ljava/lang/Object;)Ljava/util/HashMap$Node;"⟩
def dkwJ18_getNode_6 : List UInt8 := [89, 58, 4, 199, 255, 210, 1, 176]
abbrev dktJ18_getNode_6 : List UInt8 := dkwJ18_getNode_6 ++ []
def dkwJ18_getNode_5 : List UInt8 := [165, 0, 16, 43, 198, 0, 15, 43, 25, 7, 182, 0, 173, 153, 0, 6, 25, 4, 176, 25, 4, 180, 0, 177]
abbrev dktJ18_getNode_5 : List UInt8 := dkwJ18_getNode_5 ++ dktJ18_getNode_6
def dkwJ18_getNode_4 : List UInt8 := [43, 182, 0, 182, 176, 25, 4, 180, 0, 168, 21, 6, 160, 0, 31, 25, 4, 180, 0, 170, 89, 58, 7, 43]
abbrev dktJ18_getNode_4 : List UInt8 := dkwJ18_getNode_4 ++ dktJ18_getNode_5
def dkwJ18_getNode_3 : List UInt8 := [176, 45, 180, 0, 177, 89, 58, 4, 198, 0, 70, 45, 193, 0, 180, 153, 0, 14, 45, 192, 0, 180, 21, 6]
abbrev dktJ18_getNode_3 : List UInt8 := dkwJ18_getNode_3 ++ dktJ18_getNode_4
def dkwJ18_getNode_2 : List UInt8 := [180, 0, 170, 89, 58, 7, 43, 165, 0, 16, 43, 198, 0, 14, 43, 25, 7, 182, 0, 173, 153, 0, 5, 45]
abbrev dktJ18_getNode_2 : List UInt8 := dkwJ18_getNode_2 ++ dktJ18_getNode_3
def dkwJ18_getNode_1 : List UInt8 := [184, 0, 149, 89, 54, 6, 126, 50, 89, 78, 198, 0, 115, 45, 180, 0, 168, 21, 6, 160, 0, 29, 45]
abbrev dktJ18_getNode_1 : List UInt8 := dkwJ18_getNode_1 ++ dktJ18_getNode_2
def dkwJ18_getNode_0 : List UInt8 := [42, 180, 0, 105, 89, 77, 198, 0, 142, 44, 190, 89, 54, 5, 158, 0, 134, 44, 21, 5, 4, 100, 43]
abbrev dktJ18_getNode_0 : List UInt8 := dkwJ18_getNode_0 ++ dktJ18_getNode_1
theorem dksJ18_getNode_0 : cJ18_getNode.data.toList.drop 0 = dktJ18_getNode_0 := by decide +kernel
theorem dksJ18_getNode_1 : cJ18_getNode.data.toList.drop 23 = dktJ18_getNode_1 := dk_seg dksJ18_getNode_0 23 rfl rfl
theorem dksJ18_getNode_2 : cJ18_getNode.data.toList.drop 46 = dktJ18_getNode_2 := dk_seg dksJ18_getNode_1 23 rfl rfl
theorem dksJ18_getNode_3 : cJ18_getNode.data.toList.drop 70 = dktJ18_getNode_3 := dk_seg dksJ18_getNode_2 24 rfl rfl
theorem dksJ18_getNode_4 : cJ18_getNode.data.toList.drop 94 = dktJ18_getNode_4 := dk_seg dksJ18_getNode_3 24 rfl rfl
theorem dksJ18_getNode_5 : cJ18_getNode.data.toList.drop 118 = dktJ18_getNode_5 := dk_seg dksJ18_getNode_4 24 rfl rfl
theorem dksJ18_getNode_6 : cJ18_getNode.data.toList.drop 142 = dktJ18_getNode_6 := dk_seg dksJ18_getNode_5 24 rfl rfl
theorem dJ18_getNode_0 : decode cJ18_getNode 0 = .ok (.aload_n 0, 1) := dk_42 (dk_at dksJ18_getNode_0 0 rfl rfl)
theorem dJ18_getNode_1 : decode cJ18_getNode 1 = .ok (.getfield 105, 3) := dk_180 0 105 (dk_at dksJ18_getNode_0 1 rfl rfl)
theorem dJ18_getNode_4 : decode cJ18_getNode 4 = .ok (.dup, 1) := dk_89 (dk_at dksJ18_getNode_0 4 rfl rfl)
theorem dJ18_getNode_5 : decode cJ18_getNode 5 = .ok (.astore_n 2, 1) := dk_77 (dk_at dksJ18_getNode_0 5 rfl rfl)
theorem dJ18_getNode_6 : decode cJ18_getNode 6 = .ok (.ifnull 142, 3) := dk_198 0 142 (dk_at dksJ18_getNode_0 6 rfl rfl)
theorem dJ18_getNode_9 : decode cJ18_getNode 9 = .ok (.aload_n 2, 1) := dk_44 (dk_at dksJ18_getNode_0 9 rfl rfl)
theorem dJ18_getNode_10 : decode cJ18_getNode 10 = .ok (.arraylength, 1) := dk_190 (dk_at dksJ18_getNode_0 10 rfl rfl)
theorem dJ18_getNode_11 : decode cJ18_getNode 11 = .ok (.dup, 1) := dk_89 (dk_at dksJ18_getNode_0 11 rfl rfl)
theorem dJ18_getNode_12 : decode cJ18_getNode 12 = .ok (.istore 5, 2) := dk_54 5 (dk_at dksJ18_getNode_0 12 rfl rfl)
theorem dJ18_getNode_14 : decode cJ18_getNode 14 = .ok (.ifCond .le 134, 3) := dk_158 0 134 (dk_at dksJ18_getNode_0 14 rfl rfl)
theorem dJ18_getNode_17 : decode cJ18_getNode 17 = .ok (.aload_n 2, 1) := dk_44 (dk_at dksJ18_getNode_0 17 rfl rfl)
theorem dJ18_getNode_18 : decode cJ18_getNode 18 = .ok (.iload 5, 2) := dk_21 5 (dk_at dksJ18_getNode_0 18 rfl rfl)
theorem dJ18_getNode_20 : decode cJ18_getNode 20 = .ok (.iconst 1, 1) := dk_4 (dk_at dksJ18_getNode_0 20 rfl rfl)
theorem dJ18_getNode_21 : decode cJ18_getNode 21 = .ok (.isub, 1) := dk_100 (dk_at dksJ18_getNode_0 21 rfl rfl)
theorem dJ18_getNode_22 : decode cJ18_getNode 22 = .ok (.aload_n 1, 1) := dk_43 (dk_at dksJ18_getNode_0 22 rfl rfl)
theorem dJ18_getNode_23 : decode cJ18_getNode 23 = .ok (.invokestatic 149, 3) := dk_184 0 149 (dk_at dksJ18_getNode_1 0 rfl rfl)
theorem dJ18_getNode_26 : decode cJ18_getNode 26 = .ok (.dup, 1) := dk_89 (dk_at dksJ18_getNode_1 3 rfl rfl)
theorem dJ18_getNode_27 : decode cJ18_getNode 27 = .ok (.istore 6, 2) := dk_54 6 (dk_at dksJ18_getNode_1 4 rfl rfl)
theorem dJ18_getNode_29 : decode cJ18_getNode 29 = .ok (.iand, 1) := dk_126 (dk_at dksJ18_getNode_1 6 rfl rfl)
theorem dJ18_getNode_30 : decode cJ18_getNode 30 = .ok (.aaload, 1) := dk_50 (dk_at dksJ18_getNode_1 7 rfl rfl)
theorem dJ18_getNode_31 : decode cJ18_getNode 31 = .ok (.dup, 1) := dk_89 (dk_at dksJ18_getNode_1 8 rfl rfl)
theorem dJ18_getNode_32 : decode cJ18_getNode 32 = .ok (.astore_n 3, 1) := dk_78 (dk_at dksJ18_getNode_1 9 rfl rfl)
theorem dJ18_getNode_33 : decode cJ18_getNode 33 = .ok (.ifnull 115, 3) := dk_198 0 115 (dk_at dksJ18_getNode_1 10 rfl rfl)
theorem dJ18_getNode_36 : decode cJ18_getNode 36 = .ok (.aload_n 3, 1) := dk_45 (dk_at dksJ18_getNode_1 13 rfl rfl)
theorem dJ18_getNode_37 : decode cJ18_getNode 37 = .ok (.getfield 168, 3) := dk_180 0 168 (dk_at dksJ18_getNode_1 14 rfl rfl)
theorem dJ18_getNode_40 : decode cJ18_getNode 40 = .ok (.iload 6, 2) := dk_21 6 (dk_at dksJ18_getNode_1 17 rfl rfl)
theorem dJ18_getNode_42 : decode cJ18_getNode 42 = .ok (.if_icmp .ne 29, 3) := dk_160 0 29 (dk_at dksJ18_getNode_1 19 rfl rfl)
theorem dJ18_getNode_45 : decode cJ18_getNode 45 = .ok (.aload_n 3, 1) := dk_45 (dk_at dksJ18_getNode_1 22 rfl rfl)
theorem dJ18_getNode_46 : decode cJ18_getNode 46 = .ok (.getfield 170, 3) := dk_180 0 170 (dk_at dksJ18_getNode_2 0 rfl rfl)
theorem dJ18_getNode_49 : decode cJ18_getNode 49 = .ok (.dup, 1) := dk_89 (dk_at dksJ18_getNode_2 3 rfl rfl)
theorem dJ18_getNode_50 : decode cJ18_getNode 50 = .ok (.astore 7, 2) := dk_58 7 (dk_at dksJ18_getNode_2 4 rfl rfl)
theorem dJ18_getNode_52 : decode cJ18_getNode 52 = .ok (.aload_n 1, 1) := dk_43 (dk_at dksJ18_getNode_2 6 rfl rfl)
theorem dJ18_getNode_53 : decode cJ18_getNode 53 = .ok (.if_acmp .eq 16, 3) := dk_165 0 16 (dk_at dksJ18_getNode_2 7 rfl rfl)
theorem dJ18_getNode_56 : decode cJ18_getNode 56 = .ok (.aload_n 1, 1) := dk_43 (dk_at dksJ18_getNode_2 10 rfl rfl)
theorem dJ18_getNode_57 : decode cJ18_getNode 57 = .ok (.ifnull 14, 3) := dk_198 0 14 (dk_at dksJ18_getNode_2 11 rfl rfl)
theorem dJ18_getNode_60 : decode cJ18_getNode 60 = .ok (.aload_n 1, 1) := dk_43 (dk_at dksJ18_getNode_2 14 rfl rfl)
theorem dJ18_getNode_61 : decode cJ18_getNode 61 = .ok (.aload 7, 2) := dk_25 7 (dk_at dksJ18_getNode_2 15 rfl rfl)
theorem dJ18_getNode_63 : decode cJ18_getNode 63 = .ok (.invokevirtual 173, 3) := dk_182 0 173 (dk_at dksJ18_getNode_2 17 rfl rfl)
theorem dJ18_getNode_66 : decode cJ18_getNode 66 = .ok (.ifCond .eq 5, 3) := dk_153 0 5 (dk_at dksJ18_getNode_2 20 rfl rfl)
theorem dJ18_getNode_69 : decode cJ18_getNode 69 = .ok (.aload_n 3, 1) := dk_45 (dk_at dksJ18_getNode_2 23 rfl rfl)
theorem dJ18_getNode_70 : decode cJ18_getNode 70 = .ok (.areturn, 1) := dk_176 (dk_at dksJ18_getNode_3 0 rfl rfl)
theorem dJ18_getNode_71 : decode cJ18_getNode 71 = .ok (.aload_n 3, 1) := dk_45 (dk_at dksJ18_getNode_3 1 rfl rfl)
theorem dJ18_getNode_72 : decode cJ18_getNode 72 = .ok (.getfield 177, 3) := dk_180 0 177 (dk_at dksJ18_getNode_3 2 rfl rfl)
theorem dJ18_getNode_75 : decode cJ18_getNode 75 = .ok (.dup, 1) := dk_89 (dk_at dksJ18_getNode_3 5 rfl rfl)
theorem dJ18_getNode_76 : decode cJ18_getNode 76 = .ok (.astore 4, 2) := dk_58 4 (dk_at dksJ18_getNode_3 6 rfl rfl)
theorem dJ18_getNode_78 : decode cJ18_getNode 78 = .ok (.ifnull 70, 3) := dk_198 0 70 (dk_at dksJ18_getNode_3 8 rfl rfl)
theorem dJ18_getNode_81 : decode cJ18_getNode 81 = .ok (.aload_n 3, 1) := dk_45 (dk_at dksJ18_getNode_3 11 rfl rfl)
theorem dJ18_getNode_82 : decode cJ18_getNode 82 = .ok (.instanceof 180, 3) := dk_193 0 180 (dk_at dksJ18_getNode_3 12 rfl rfl)
theorem dJ18_getNode_85 : decode cJ18_getNode 85 = .ok (.ifCond .eq 14, 3) := dk_153 0 14 (dk_at dksJ18_getNode_3 15 rfl rfl)
theorem dJ18_getNode_88 : decode cJ18_getNode 88 = .ok (.aload_n 3, 1) := dk_45 (dk_at dksJ18_getNode_3 18 rfl rfl)
theorem dJ18_getNode_89 : decode cJ18_getNode 89 = .ok (.checkcast 180, 3) := dk_192 0 180 (dk_at dksJ18_getNode_3 19 rfl rfl)
theorem dJ18_getNode_92 : decode cJ18_getNode 92 = .ok (.iload 6, 2) := dk_21 6 (dk_at dksJ18_getNode_3 22 rfl rfl)
theorem dJ18_getNode_94 : decode cJ18_getNode 94 = .ok (.aload_n 1, 1) := dk_43 (dk_at dksJ18_getNode_4 0 rfl rfl)
theorem dJ18_getNode_95 : decode cJ18_getNode 95 = .ok (.invokevirtual 182, 3) := dk_182 0 182 (dk_at dksJ18_getNode_4 1 rfl rfl)
theorem dJ18_getNode_98 : decode cJ18_getNode 98 = .ok (.areturn, 1) := dk_176 (dk_at dksJ18_getNode_4 4 rfl rfl)
theorem dJ18_getNode_99 : decode cJ18_getNode 99 = .ok (.aload 4, 2) := dk_25 4 (dk_at dksJ18_getNode_4 5 rfl rfl)
theorem dJ18_getNode_101 : decode cJ18_getNode 101 = .ok (.getfield 168, 3) := dk_180 0 168 (dk_at dksJ18_getNode_4 7 rfl rfl)
theorem dJ18_getNode_104 : decode cJ18_getNode 104 = .ok (.iload 6, 2) := dk_21 6 (dk_at dksJ18_getNode_4 10 rfl rfl)
theorem dJ18_getNode_106 : decode cJ18_getNode 106 = .ok (.if_icmp .ne 31, 3) := dk_160 0 31 (dk_at dksJ18_getNode_4 12 rfl rfl)
theorem dJ18_getNode_109 : decode cJ18_getNode 109 = .ok (.aload 4, 2) := dk_25 4 (dk_at dksJ18_getNode_4 15 rfl rfl)
theorem dJ18_getNode_111 : decode cJ18_getNode 111 = .ok (.getfield 170, 3) := dk_180 0 170 (dk_at dksJ18_getNode_4 17 rfl rfl)
theorem dJ18_getNode_114 : decode cJ18_getNode 114 = .ok (.dup, 1) := dk_89 (dk_at dksJ18_getNode_4 20 rfl rfl)
theorem dJ18_getNode_115 : decode cJ18_getNode 115 = .ok (.astore 7, 2) := dk_58 7 (dk_at dksJ18_getNode_4 21 rfl rfl)
theorem dJ18_getNode_117 : decode cJ18_getNode 117 = .ok (.aload_n 1, 1) := dk_43 (dk_at dksJ18_getNode_4 23 rfl rfl)
theorem dJ18_getNode_118 : decode cJ18_getNode 118 = .ok (.if_acmp .eq 16, 3) := dk_165 0 16 (dk_at dksJ18_getNode_5 0 rfl rfl)
theorem dJ18_getNode_121 : decode cJ18_getNode 121 = .ok (.aload_n 1, 1) := dk_43 (dk_at dksJ18_getNode_5 3 rfl rfl)
theorem dJ18_getNode_122 : decode cJ18_getNode 122 = .ok (.ifnull 15, 3) := dk_198 0 15 (dk_at dksJ18_getNode_5 4 rfl rfl)
theorem dJ18_getNode_125 : decode cJ18_getNode 125 = .ok (.aload_n 1, 1) := dk_43 (dk_at dksJ18_getNode_5 7 rfl rfl)
theorem dJ18_getNode_126 : decode cJ18_getNode 126 = .ok (.aload 7, 2) := dk_25 7 (dk_at dksJ18_getNode_5 8 rfl rfl)
theorem dJ18_getNode_128 : decode cJ18_getNode 128 = .ok (.invokevirtual 173, 3) := dk_182 0 173 (dk_at dksJ18_getNode_5 10 rfl rfl)
theorem dJ18_getNode_131 : decode cJ18_getNode 131 = .ok (.ifCond .eq 6, 3) := dk_153 0 6 (dk_at dksJ18_getNode_5 13 rfl rfl)
theorem dJ18_getNode_134 : decode cJ18_getNode 134 = .ok (.aload 4, 2) := dk_25 4 (dk_at dksJ18_getNode_5 16 rfl rfl)
theorem dJ18_getNode_136 : decode cJ18_getNode 136 = .ok (.areturn, 1) := dk_176 (dk_at dksJ18_getNode_5 18 rfl rfl)
theorem dJ18_getNode_137 : decode cJ18_getNode 137 = .ok (.aload 4, 2) := dk_25 4 (dk_at dksJ18_getNode_5 19 rfl rfl)
theorem dJ18_getNode_139 : decode cJ18_getNode 139 = .ok (.getfield 177, 3) := dk_180 0 177 (dk_at dksJ18_getNode_5 21 rfl rfl)
theorem dJ18_getNode_142 : decode cJ18_getNode 142 = .ok (.dup, 1) := dk_89 (dk_at dksJ18_getNode_6 0 rfl rfl)
theorem dJ18_getNode_143 : decode cJ18_getNode 143 = .ok (.astore 4, 2) := dk_58 4 (dk_at dksJ18_getNode_6 1 rfl rfl)
theorem dJ18_getNode_145 : decode cJ18_getNode 145 = .ok (.ifnonnull (-46), 3) := dk_199 255 210 (dk_at dksJ18_getNode_6 3 rfl rfl)
theorem dJ18_getNode_148 : decode cJ18_getNode 148 = .ok (.aconst_null, 1) := dk_1 (dk_at dksJ18_getNode_6 6 rfl rfl)
theorem dJ18_getNode_149 : decode cJ18_getNode 149 = .ok (.areturn, 1) := dk_176 (dk_at dksJ18_getNode_6 7 rfl rfl)
abbrev cJ18_remove : ByteArray := prog_66_method_20_code
def yJ18_remove : MethodName := ⟨RJ18, "remove", "(Ljava/lang/Object;)Ljava/lang/Object;"⟩
def dkwJ18_remove_1 : List UInt8 := [180, 0, 162, 176]
abbrev dktJ18_remove_1 : List UInt8 := dkwJ18_remove_1 ++ []
def dkwJ18_remove_0 : List UInt8 := [42, 43, 184, 0, 149, 43, 1, 3, 4, 182, 0, 228, 89, 77, 199, 0, 7, 1, 167, 0, 7, 44]
abbrev dktJ18_remove_0 : List UInt8 := dkwJ18_remove_0 ++ dktJ18_remove_1
theorem dksJ18_remove_0 : cJ18_remove.data.toList.drop 0 = dktJ18_remove_0 := by decide +kernel
theorem dksJ18_remove_1 : cJ18_remove.data.toList.drop 22 = dktJ18_remove_1 := dk_seg dksJ18_remove_0 22 rfl rfl
theorem dJ18_remove_0 : decode cJ18_remove 0 = .ok (.aload_n 0, 1) := dk_42 (dk_at dksJ18_remove_0 0 rfl rfl)
theorem dJ18_remove_1 : decode cJ18_remove 1 = .ok (.aload_n 1, 1) := dk_43 (dk_at dksJ18_remove_0 1 rfl rfl)
theorem dJ18_remove_2 : decode cJ18_remove 2 = .ok (.invokestatic 149, 3) := dk_184 0 149 (dk_at dksJ18_remove_0 2 rfl rfl)
theorem dJ18_remove_5 : decode cJ18_remove 5 = .ok (.aload_n 1, 1) := dk_43 (dk_at dksJ18_remove_0 5 rfl rfl)
theorem dJ18_remove_6 : decode cJ18_remove 6 = .ok (.aconst_null, 1) := dk_1 (dk_at dksJ18_remove_0 6 rfl rfl)
theorem dJ18_remove_7 : decode cJ18_remove 7 = .ok (.iconst 0, 1) := dk_3 (dk_at dksJ18_remove_0 7 rfl rfl)
theorem dJ18_remove_8 : decode cJ18_remove 8 = .ok (.iconst 1, 1) := dk_4 (dk_at dksJ18_remove_0 8 rfl rfl)
theorem dJ18_remove_9 : decode cJ18_remove 9 = .ok (.invokevirtual 228, 3) := dk_182 0 228 (dk_at dksJ18_remove_0 9 rfl rfl)
theorem dJ18_remove_12 : decode cJ18_remove 12 = .ok (.dup, 1) := dk_89 (dk_at dksJ18_remove_0 12 rfl rfl)
theorem dJ18_remove_13 : decode cJ18_remove 13 = .ok (.astore_n 2, 1) := dk_77 (dk_at dksJ18_remove_0 13 rfl rfl)
theorem dJ18_remove_14 : decode cJ18_remove 14 = .ok (.ifnonnull 7, 3) := dk_199 0 7 (dk_at dksJ18_remove_0 14 rfl rfl)
theorem dJ18_remove_17 : decode cJ18_remove 17 = .ok (.aconst_null, 1) := dk_1 (dk_at dksJ18_remove_0 17 rfl rfl)
theorem dJ18_remove_18 : decode cJ18_remove 18 = .ok (.goto 7, 3) := dk_167 0 7 (dk_at dksJ18_remove_0 18 rfl rfl)
theorem dJ18_remove_21 : decode cJ18_remove 21 = .ok (.aload_n 2, 1) := dk_44 (dk_at dksJ18_remove_0 21 rfl rfl)
theorem dJ18_remove_22 : decode cJ18_remove 22 = .ok (.getfield 162, 3) := dk_180 0 162 (dk_at dksJ18_remove_1 0 rfl rfl)
theorem dJ18_remove_25 : decode cJ18_remove 25 = .ok (.areturn, 1) := dk_176 (dk_at dksJ18_remove_1 3 rfl rfl)
abbrev cJ18_removeNode : ByteArray := prog_66_method_21_code
def yJ18_removeNode : MethodName := ⟨RJ18, "removeNode", "(ILjava/lang/Object;Ljava/lang/Object;ZZ)Ljava/util/HashMap$Node;"⟩
def dkwJ18_removeNode_12 : List UInt8 := [181, 0, 156, 42, 25, 10, 182, 0, 236, 25, 10, 176, 1, 176]
abbrev dktJ18_removeNode_12 : List UInt8 := dkwJ18_removeNode_12 ++ []
def dkwJ18_removeNode_11 : List UInt8 := [180, 0, 177, 181, 0, 177, 42, 89, 180, 0, 202, 4, 96, 181, 0, 202, 42, 89, 180, 0, 156, 4, 100]
abbrev dktJ18_removeNode_11 : List UInt8 := dkwJ18_removeNode_11 ++ dktJ18_removeNode_12
def dkwJ18_removeNode_10 : List UInt8 := [25, 10, 25, 7, 166, 0, 16, 25, 6, 21, 9, 25, 10, 180, 0, 177, 83, 167, 0, 13, 25, 7, 25, 10]
abbrev dktJ18_removeNode_10 : List UInt8 := dkwJ18_removeNode_10 ++ dktJ18_removeNode_11
def dkwJ18_removeNode_9 : List UInt8 := [25, 10, 193, 0, 180, 153, 0, 19, 25, 10, 192, 0, 180, 42, 25, 6, 21, 5, 182, 0, 232, 167, 0, 33]
abbrev dktJ18_removeNode_9 : List UInt8 := dkwJ18_removeNode_9 ++ dktJ18_removeNode_10
def dkwJ18_removeNode_8 : List UInt8 := [180, 0, 162, 89, 58, 13, 45, 165, 0, 16, 45, 198, 0, 95, 45, 25, 13, 182, 0, 173, 153, 0, 86]
abbrev dktJ18_removeNode_8 : List UInt8 := dkwJ18_removeNode_8 ++ dktJ18_removeNode_9
def dkwJ18_removeNode_7 : List UInt8 := [25, 11, 180, 0, 177, 89, 58, 11, 199, 255, 203, 25, 10, 198, 0, 116, 21, 4, 153, 0, 28, 25, 10]
abbrev dktJ18_removeNode_7 : List UInt8 := dkwJ18_removeNode_7 ++ dktJ18_removeNode_8
def dkwJ18_removeNode_6 : List UInt8 := [198, 0, 19, 44, 25, 12, 182, 0, 173, 153, 0, 10, 25, 11, 58, 10, 167, 0, 18, 25, 11, 58, 7]
abbrev dktJ18_removeNode_6 : List UInt8 := dkwJ18_removeNode_6 ++ dktJ18_removeNode_7
def dkwJ18_removeNode_5 : List UInt8 := [25, 11, 180, 0, 168, 27, 160, 0, 35, 25, 11, 180, 0, 170, 89, 58, 12, 44, 165, 0, 16, 44]
abbrev dktJ18_removeNode_5 : List UInt8 := dkwJ18_removeNode_5 ++ dktJ18_removeNode_6
def dkwJ18_removeNode_4 : List UInt8 := [25, 7, 193, 0, 180, 153, 0, 18, 25, 7, 192, 0, 180, 27, 44, 182, 0, 182, 58, 10, 167, 0, 59]
abbrev dktJ18_removeNode_4 : List UInt8 := dkwJ18_removeNode_4 ++ dktJ18_removeNode_5
def dkwJ18_removeNode_3 : List UInt8 := [182, 0, 173, 153, 0, 10, 25, 7, 58, 10, 167, 0, 93, 25, 7, 180, 0, 177, 89, 58, 11, 198, 0, 82]
abbrev dktJ18_removeNode_3 : List UInt8 := dkwJ18_removeNode_3 ++ dktJ18_removeNode_4
def dkwJ18_removeNode_2 : List UInt8 := [160, 0, 35, 25, 7, 180, 0, 170, 89, 58, 12, 44, 165, 0, 16, 44, 198, 0, 19, 44, 25, 12]
abbrev dktJ18_removeNode_2 : List UInt8 := dkwJ18_removeNode_2 ++ dktJ18_removeNode_3
def dkwJ18_removeNode_1 : List UInt8 := [100, 27, 126, 89, 54, 9, 50, 89, 58, 7, 198, 0, 255, 1, 58, 10, 25, 7, 180, 0, 168, 27]
abbrev dktJ18_removeNode_1 : List UInt8 := dkwJ18_removeNode_1 ++ dktJ18_removeNode_2
def dkwJ18_removeNode_0 : List UInt8 := [42, 180, 0, 105, 89, 58, 6, 198, 1, 26, 25, 6, 190, 89, 54, 8, 158, 1, 17, 25, 6, 21, 8, 4]
abbrev dktJ18_removeNode_0 : List UInt8 := dkwJ18_removeNode_0 ++ dktJ18_removeNode_1
theorem dksJ18_removeNode_0 : cJ18_removeNode.data.toList.drop 0 = dktJ18_removeNode_0 := by decide +kernel
theorem dksJ18_removeNode_1 : cJ18_removeNode.data.toList.drop 24 = dktJ18_removeNode_1 := dk_seg dksJ18_removeNode_0 24 rfl rfl
theorem dksJ18_removeNode_2 : cJ18_removeNode.data.toList.drop 46 = dktJ18_removeNode_2 := dk_seg dksJ18_removeNode_1 22 rfl rfl
theorem dksJ18_removeNode_3 : cJ18_removeNode.data.toList.drop 68 = dktJ18_removeNode_3 := dk_seg dksJ18_removeNode_2 22 rfl rfl
theorem dksJ18_removeNode_4 : cJ18_removeNode.data.toList.drop 92 = dktJ18_removeNode_4 := dk_seg dksJ18_removeNode_3 24 rfl rfl
theorem dksJ18_removeNode_5 : cJ18_removeNode.data.toList.drop 115 = dktJ18_removeNode_5 := dk_seg dksJ18_removeNode_4 23 rfl rfl
theorem dksJ18_removeNode_6 : cJ18_removeNode.data.toList.drop 137 = dktJ18_removeNode_6 := dk_seg dksJ18_removeNode_5 22 rfl rfl
theorem dksJ18_removeNode_7 : cJ18_removeNode.data.toList.drop 160 = dktJ18_removeNode_7 := dk_seg dksJ18_removeNode_6 23 rfl rfl
theorem dksJ18_removeNode_8 : cJ18_removeNode.data.toList.drop 183 = dktJ18_removeNode_8 := dk_seg dksJ18_removeNode_7 23 rfl rfl
theorem dksJ18_removeNode_9 : cJ18_removeNode.data.toList.drop 206 = dktJ18_removeNode_9 := dk_seg dksJ18_removeNode_8 23 rfl rfl
theorem dksJ18_removeNode_10 : cJ18_removeNode.data.toList.drop 230 = dktJ18_removeNode_10 := dk_seg dksJ18_removeNode_9 24 rfl rfl
theorem dksJ18_removeNode_11 : cJ18_removeNode.data.toList.drop 254 = dktJ18_removeNode_11 := dk_seg dksJ18_removeNode_10 24 rfl rfl
theorem dksJ18_removeNode_12 : cJ18_removeNode.data.toList.drop 277 = dktJ18_removeNode_12 := dk_seg dksJ18_removeNode_11 23 rfl rfl
theorem dJ18_removeNode_0 : decode cJ18_removeNode 0 = .ok (.aload_n 0, 1) := dk_42 (dk_at dksJ18_removeNode_0 0 rfl rfl)
theorem dJ18_removeNode_1 : decode cJ18_removeNode 1 = .ok (.getfield 105, 3) := dk_180 0 105 (dk_at dksJ18_removeNode_0 1 rfl rfl)
theorem dJ18_removeNode_4 : decode cJ18_removeNode 4 = .ok (.dup, 1) := dk_89 (dk_at dksJ18_removeNode_0 4 rfl rfl)
theorem dJ18_removeNode_5 : decode cJ18_removeNode 5 = .ok (.astore 6, 2) := dk_58 6 (dk_at dksJ18_removeNode_0 5 rfl rfl)
theorem dJ18_removeNode_7 : decode cJ18_removeNode 7 = .ok (.ifnull 282, 3) := dk_198 1 26 (dk_at dksJ18_removeNode_0 7 rfl rfl)
theorem dJ18_removeNode_10 : decode cJ18_removeNode 10 = .ok (.aload 6, 2) := dk_25 6 (dk_at dksJ18_removeNode_0 10 rfl rfl)
theorem dJ18_removeNode_12 : decode cJ18_removeNode 12 = .ok (.arraylength, 1) := dk_190 (dk_at dksJ18_removeNode_0 12 rfl rfl)
theorem dJ18_removeNode_13 : decode cJ18_removeNode 13 = .ok (.dup, 1) := dk_89 (dk_at dksJ18_removeNode_0 13 rfl rfl)
theorem dJ18_removeNode_14 : decode cJ18_removeNode 14 = .ok (.istore 8, 2) := dk_54 8 (dk_at dksJ18_removeNode_0 14 rfl rfl)
theorem dJ18_removeNode_16 : decode cJ18_removeNode 16 = .ok (.ifCond .le 273, 3) := dk_158 1 17 (dk_at dksJ18_removeNode_0 16 rfl rfl)
theorem dJ18_removeNode_19 : decode cJ18_removeNode 19 = .ok (.aload 6, 2) := dk_25 6 (dk_at dksJ18_removeNode_0 19 rfl rfl)
theorem dJ18_removeNode_21 : decode cJ18_removeNode 21 = .ok (.iload 8, 2) := dk_21 8 (dk_at dksJ18_removeNode_0 21 rfl rfl)
theorem dJ18_removeNode_23 : decode cJ18_removeNode 23 = .ok (.iconst 1, 1) := dk_4 (dk_at dksJ18_removeNode_0 23 rfl rfl)
theorem dJ18_removeNode_24 : decode cJ18_removeNode 24 = .ok (.isub, 1) := dk_100 (dk_at dksJ18_removeNode_1 0 rfl rfl)
theorem dJ18_removeNode_25 : decode cJ18_removeNode 25 = .ok (.iload_n 1, 1) := dk_27 (dk_at dksJ18_removeNode_1 1 rfl rfl)
theorem dJ18_removeNode_26 : decode cJ18_removeNode 26 = .ok (.iand, 1) := dk_126 (dk_at dksJ18_removeNode_1 2 rfl rfl)
theorem dJ18_removeNode_27 : decode cJ18_removeNode 27 = .ok (.dup, 1) := dk_89 (dk_at dksJ18_removeNode_1 3 rfl rfl)
theorem dJ18_removeNode_28 : decode cJ18_removeNode 28 = .ok (.istore 9, 2) := dk_54 9 (dk_at dksJ18_removeNode_1 4 rfl rfl)
theorem dJ18_removeNode_30 : decode cJ18_removeNode 30 = .ok (.aaload, 1) := dk_50 (dk_at dksJ18_removeNode_1 6 rfl rfl)
theorem dJ18_removeNode_31 : decode cJ18_removeNode 31 = .ok (.dup, 1) := dk_89 (dk_at dksJ18_removeNode_1 7 rfl rfl)
theorem dJ18_removeNode_32 : decode cJ18_removeNode 32 = .ok (.astore 7, 2) := dk_58 7 (dk_at dksJ18_removeNode_1 8 rfl rfl)
theorem dJ18_removeNode_34 : decode cJ18_removeNode 34 = .ok (.ifnull 255, 3) := dk_198 0 255 (dk_at dksJ18_removeNode_1 10 rfl rfl)
theorem dJ18_removeNode_37 : decode cJ18_removeNode 37 = .ok (.aconst_null, 1) := dk_1 (dk_at dksJ18_removeNode_1 13 rfl rfl)
theorem dJ18_removeNode_38 : decode cJ18_removeNode 38 = .ok (.astore 10, 2) := dk_58 10 (dk_at dksJ18_removeNode_1 14 rfl rfl)
theorem dJ18_removeNode_40 : decode cJ18_removeNode 40 = .ok (.aload 7, 2) := dk_25 7 (dk_at dksJ18_removeNode_1 16 rfl rfl)
theorem dJ18_removeNode_42 : decode cJ18_removeNode 42 = .ok (.getfield 168, 3) := dk_180 0 168 (dk_at dksJ18_removeNode_1 18 rfl rfl)
theorem dJ18_removeNode_45 : decode cJ18_removeNode 45 = .ok (.iload_n 1, 1) := dk_27 (dk_at dksJ18_removeNode_1 21 rfl rfl)
theorem dJ18_removeNode_46 : decode cJ18_removeNode 46 = .ok (.if_icmp .ne 35, 3) := dk_160 0 35 (dk_at dksJ18_removeNode_2 0 rfl rfl)
theorem dJ18_removeNode_49 : decode cJ18_removeNode 49 = .ok (.aload 7, 2) := dk_25 7 (dk_at dksJ18_removeNode_2 3 rfl rfl)
theorem dJ18_removeNode_51 : decode cJ18_removeNode 51 = .ok (.getfield 170, 3) := dk_180 0 170 (dk_at dksJ18_removeNode_2 5 rfl rfl)
theorem dJ18_removeNode_54 : decode cJ18_removeNode 54 = .ok (.dup, 1) := dk_89 (dk_at dksJ18_removeNode_2 8 rfl rfl)
theorem dJ18_removeNode_55 : decode cJ18_removeNode 55 = .ok (.astore 12, 2) := dk_58 12 (dk_at dksJ18_removeNode_2 9 rfl rfl)
theorem dJ18_removeNode_57 : decode cJ18_removeNode 57 = .ok (.aload_n 2, 1) := dk_44 (dk_at dksJ18_removeNode_2 11 rfl rfl)
theorem dJ18_removeNode_58 : decode cJ18_removeNode 58 = .ok (.if_acmp .eq 16, 3) := dk_165 0 16 (dk_at dksJ18_removeNode_2 12 rfl rfl)
theorem dJ18_removeNode_61 : decode cJ18_removeNode 61 = .ok (.aload_n 2, 1) := dk_44 (dk_at dksJ18_removeNode_2 15 rfl rfl)
theorem dJ18_removeNode_62 : decode cJ18_removeNode 62 = .ok (.ifnull 19, 3) := dk_198 0 19 (dk_at dksJ18_removeNode_2 16 rfl rfl)
theorem dJ18_removeNode_65 : decode cJ18_removeNode 65 = .ok (.aload_n 2, 1) := dk_44 (dk_at dksJ18_removeNode_2 19 rfl rfl)
theorem dJ18_removeNode_66 : decode cJ18_removeNode 66 = .ok (.aload 12, 2) := dk_25 12 (dk_at dksJ18_removeNode_2 20 rfl rfl)
theorem dJ18_removeNode_68 : decode cJ18_removeNode 68 = .ok (.invokevirtual 173, 3) := dk_182 0 173 (dk_at dksJ18_removeNode_3 0 rfl rfl)
theorem dJ18_removeNode_71 : decode cJ18_removeNode 71 = .ok (.ifCond .eq 10, 3) := dk_153 0 10 (dk_at dksJ18_removeNode_3 3 rfl rfl)
theorem dJ18_removeNode_74 : decode cJ18_removeNode 74 = .ok (.aload 7, 2) := dk_25 7 (dk_at dksJ18_removeNode_3 6 rfl rfl)
theorem dJ18_removeNode_76 : decode cJ18_removeNode 76 = .ok (.astore 10, 2) := dk_58 10 (dk_at dksJ18_removeNode_3 8 rfl rfl)
theorem dJ18_removeNode_78 : decode cJ18_removeNode 78 = .ok (.goto 93, 3) := dk_167 0 93 (dk_at dksJ18_removeNode_3 10 rfl rfl)
theorem dJ18_removeNode_81 : decode cJ18_removeNode 81 = .ok (.aload 7, 2) := dk_25 7 (dk_at dksJ18_removeNode_3 13 rfl rfl)
theorem dJ18_removeNode_83 : decode cJ18_removeNode 83 = .ok (.getfield 177, 3) := dk_180 0 177 (dk_at dksJ18_removeNode_3 15 rfl rfl)
theorem dJ18_removeNode_86 : decode cJ18_removeNode 86 = .ok (.dup, 1) := dk_89 (dk_at dksJ18_removeNode_3 18 rfl rfl)
theorem dJ18_removeNode_87 : decode cJ18_removeNode 87 = .ok (.astore 11, 2) := dk_58 11 (dk_at dksJ18_removeNode_3 19 rfl rfl)
theorem dJ18_removeNode_89 : decode cJ18_removeNode 89 = .ok (.ifnull 82, 3) := dk_198 0 82 (dk_at dksJ18_removeNode_3 21 rfl rfl)
theorem dJ18_removeNode_92 : decode cJ18_removeNode 92 = .ok (.aload 7, 2) := dk_25 7 (dk_at dksJ18_removeNode_4 0 rfl rfl)
theorem dJ18_removeNode_94 : decode cJ18_removeNode 94 = .ok (.instanceof 180, 3) := dk_193 0 180 (dk_at dksJ18_removeNode_4 2 rfl rfl)
theorem dJ18_removeNode_97 : decode cJ18_removeNode 97 = .ok (.ifCond .eq 18, 3) := dk_153 0 18 (dk_at dksJ18_removeNode_4 5 rfl rfl)
theorem dJ18_removeNode_100 : decode cJ18_removeNode 100 = .ok (.aload 7, 2) := dk_25 7 (dk_at dksJ18_removeNode_4 8 rfl rfl)
theorem dJ18_removeNode_102 : decode cJ18_removeNode 102 = .ok (.checkcast 180, 3) := dk_192 0 180 (dk_at dksJ18_removeNode_4 10 rfl rfl)
theorem dJ18_removeNode_105 : decode cJ18_removeNode 105 = .ok (.iload_n 1, 1) := dk_27 (dk_at dksJ18_removeNode_4 13 rfl rfl)
theorem dJ18_removeNode_106 : decode cJ18_removeNode 106 = .ok (.aload_n 2, 1) := dk_44 (dk_at dksJ18_removeNode_4 14 rfl rfl)
theorem dJ18_removeNode_107 : decode cJ18_removeNode 107 = .ok (.invokevirtual 182, 3) := dk_182 0 182 (dk_at dksJ18_removeNode_4 15 rfl rfl)
theorem dJ18_removeNode_110 : decode cJ18_removeNode 110 = .ok (.astore 10, 2) := dk_58 10 (dk_at dksJ18_removeNode_4 18 rfl rfl)
theorem dJ18_removeNode_112 : decode cJ18_removeNode 112 = .ok (.goto 59, 3) := dk_167 0 59 (dk_at dksJ18_removeNode_4 20 rfl rfl)
theorem dJ18_removeNode_115 : decode cJ18_removeNode 115 = .ok (.aload 11, 2) := dk_25 11 (dk_at dksJ18_removeNode_5 0 rfl rfl)
theorem dJ18_removeNode_117 : decode cJ18_removeNode 117 = .ok (.getfield 168, 3) := dk_180 0 168 (dk_at dksJ18_removeNode_5 2 rfl rfl)
theorem dJ18_removeNode_120 : decode cJ18_removeNode 120 = .ok (.iload_n 1, 1) := dk_27 (dk_at dksJ18_removeNode_5 5 rfl rfl)
theorem dJ18_removeNode_121 : decode cJ18_removeNode 121 = .ok (.if_icmp .ne 35, 3) := dk_160 0 35 (dk_at dksJ18_removeNode_5 6 rfl rfl)
theorem dJ18_removeNode_124 : decode cJ18_removeNode 124 = .ok (.aload 11, 2) := dk_25 11 (dk_at dksJ18_removeNode_5 9 rfl rfl)
theorem dJ18_removeNode_126 : decode cJ18_removeNode 126 = .ok (.getfield 170, 3) := dk_180 0 170 (dk_at dksJ18_removeNode_5 11 rfl rfl)
theorem dJ18_removeNode_129 : decode cJ18_removeNode 129 = .ok (.dup, 1) := dk_89 (dk_at dksJ18_removeNode_5 14 rfl rfl)
theorem dJ18_removeNode_130 : decode cJ18_removeNode 130 = .ok (.astore 12, 2) := dk_58 12 (dk_at dksJ18_removeNode_5 15 rfl rfl)
theorem dJ18_removeNode_132 : decode cJ18_removeNode 132 = .ok (.aload_n 2, 1) := dk_44 (dk_at dksJ18_removeNode_5 17 rfl rfl)
theorem dJ18_removeNode_133 : decode cJ18_removeNode 133 = .ok (.if_acmp .eq 16, 3) := dk_165 0 16 (dk_at dksJ18_removeNode_5 18 rfl rfl)
theorem dJ18_removeNode_136 : decode cJ18_removeNode 136 = .ok (.aload_n 2, 1) := dk_44 (dk_at dksJ18_removeNode_5 21 rfl rfl)
theorem dJ18_removeNode_137 : decode cJ18_removeNode 137 = .ok (.ifnull 19, 3) := dk_198 0 19 (dk_at dksJ18_removeNode_6 0 rfl rfl)
theorem dJ18_removeNode_140 : decode cJ18_removeNode 140 = .ok (.aload_n 2, 1) := dk_44 (dk_at dksJ18_removeNode_6 3 rfl rfl)
theorem dJ18_removeNode_141 : decode cJ18_removeNode 141 = .ok (.aload 12, 2) := dk_25 12 (dk_at dksJ18_removeNode_6 4 rfl rfl)
theorem dJ18_removeNode_143 : decode cJ18_removeNode 143 = .ok (.invokevirtual 173, 3) := dk_182 0 173 (dk_at dksJ18_removeNode_6 6 rfl rfl)
theorem dJ18_removeNode_146 : decode cJ18_removeNode 146 = .ok (.ifCond .eq 10, 3) := dk_153 0 10 (dk_at dksJ18_removeNode_6 9 rfl rfl)
theorem dJ18_removeNode_149 : decode cJ18_removeNode 149 = .ok (.aload 11, 2) := dk_25 11 (dk_at dksJ18_removeNode_6 12 rfl rfl)
theorem dJ18_removeNode_151 : decode cJ18_removeNode 151 = .ok (.astore 10, 2) := dk_58 10 (dk_at dksJ18_removeNode_6 14 rfl rfl)
theorem dJ18_removeNode_153 : decode cJ18_removeNode 153 = .ok (.goto 18, 3) := dk_167 0 18 (dk_at dksJ18_removeNode_6 16 rfl rfl)
theorem dJ18_removeNode_156 : decode cJ18_removeNode 156 = .ok (.aload 11, 2) := dk_25 11 (dk_at dksJ18_removeNode_6 19 rfl rfl)
theorem dJ18_removeNode_158 : decode cJ18_removeNode 158 = .ok (.astore 7, 2) := dk_58 7 (dk_at dksJ18_removeNode_6 21 rfl rfl)
theorem dJ18_removeNode_160 : decode cJ18_removeNode 160 = .ok (.aload 11, 2) := dk_25 11 (dk_at dksJ18_removeNode_7 0 rfl rfl)
theorem dJ18_removeNode_162 : decode cJ18_removeNode 162 = .ok (.getfield 177, 3) := dk_180 0 177 (dk_at dksJ18_removeNode_7 2 rfl rfl)
theorem dJ18_removeNode_165 : decode cJ18_removeNode 165 = .ok (.dup, 1) := dk_89 (dk_at dksJ18_removeNode_7 5 rfl rfl)
theorem dJ18_removeNode_166 : decode cJ18_removeNode 166 = .ok (.astore 11, 2) := dk_58 11 (dk_at dksJ18_removeNode_7 6 rfl rfl)
theorem dJ18_removeNode_168 : decode cJ18_removeNode 168 = .ok (.ifnonnull (-53), 3) := dk_199 255 203 (dk_at dksJ18_removeNode_7 8 rfl rfl)
theorem dJ18_removeNode_171 : decode cJ18_removeNode 171 = .ok (.aload 10, 2) := dk_25 10 (dk_at dksJ18_removeNode_7 11 rfl rfl)
theorem dJ18_removeNode_173 : decode cJ18_removeNode 173 = .ok (.ifnull 116, 3) := dk_198 0 116 (dk_at dksJ18_removeNode_7 13 rfl rfl)
theorem dJ18_removeNode_176 : decode cJ18_removeNode 176 = .ok (.iload 4, 2) := dk_21 4 (dk_at dksJ18_removeNode_7 16 rfl rfl)
theorem dJ18_removeNode_178 : decode cJ18_removeNode 178 = .ok (.ifCond .eq 28, 3) := dk_153 0 28 (dk_at dksJ18_removeNode_7 18 rfl rfl)
theorem dJ18_removeNode_181 : decode cJ18_removeNode 181 = .ok (.aload 10, 2) := dk_25 10 (dk_at dksJ18_removeNode_7 21 rfl rfl)
theorem dJ18_removeNode_183 : decode cJ18_removeNode 183 = .ok (.getfield 162, 3) := dk_180 0 162 (dk_at dksJ18_removeNode_8 0 rfl rfl)
theorem dJ18_removeNode_186 : decode cJ18_removeNode 186 = .ok (.dup, 1) := dk_89 (dk_at dksJ18_removeNode_8 3 rfl rfl)
theorem dJ18_removeNode_187 : decode cJ18_removeNode 187 = .ok (.astore 13, 2) := dk_58 13 (dk_at dksJ18_removeNode_8 4 rfl rfl)
theorem dJ18_removeNode_189 : decode cJ18_removeNode 189 = .ok (.aload_n 3, 1) := dk_45 (dk_at dksJ18_removeNode_8 6 rfl rfl)
theorem dJ18_removeNode_190 : decode cJ18_removeNode 190 = .ok (.if_acmp .eq 16, 3) := dk_165 0 16 (dk_at dksJ18_removeNode_8 7 rfl rfl)
theorem dJ18_removeNode_193 : decode cJ18_removeNode 193 = .ok (.aload_n 3, 1) := dk_45 (dk_at dksJ18_removeNode_8 10 rfl rfl)
theorem dJ18_removeNode_194 : decode cJ18_removeNode 194 = .ok (.ifnull 95, 3) := dk_198 0 95 (dk_at dksJ18_removeNode_8 11 rfl rfl)
theorem dJ18_removeNode_197 : decode cJ18_removeNode 197 = .ok (.aload_n 3, 1) := dk_45 (dk_at dksJ18_removeNode_8 14 rfl rfl)
theorem dJ18_removeNode_198 : decode cJ18_removeNode 198 = .ok (.aload 13, 2) := dk_25 13 (dk_at dksJ18_removeNode_8 15 rfl rfl)
theorem dJ18_removeNode_200 : decode cJ18_removeNode 200 = .ok (.invokevirtual 173, 3) := dk_182 0 173 (dk_at dksJ18_removeNode_8 17 rfl rfl)
theorem dJ18_removeNode_203 : decode cJ18_removeNode 203 = .ok (.ifCond .eq 86, 3) := dk_153 0 86 (dk_at dksJ18_removeNode_8 20 rfl rfl)
theorem dJ18_removeNode_206 : decode cJ18_removeNode 206 = .ok (.aload 10, 2) := dk_25 10 (dk_at dksJ18_removeNode_9 0 rfl rfl)
theorem dJ18_removeNode_208 : decode cJ18_removeNode 208 = .ok (.instanceof 180, 3) := dk_193 0 180 (dk_at dksJ18_removeNode_9 2 rfl rfl)
theorem dJ18_removeNode_211 : decode cJ18_removeNode 211 = .ok (.ifCond .eq 19, 3) := dk_153 0 19 (dk_at dksJ18_removeNode_9 5 rfl rfl)
theorem dJ18_removeNode_214 : decode cJ18_removeNode 214 = .ok (.aload 10, 2) := dk_25 10 (dk_at dksJ18_removeNode_9 8 rfl rfl)
theorem dJ18_removeNode_216 : decode cJ18_removeNode 216 = .ok (.checkcast 180, 3) := dk_192 0 180 (dk_at dksJ18_removeNode_9 10 rfl rfl)
theorem dJ18_removeNode_219 : decode cJ18_removeNode 219 = .ok (.aload_n 0, 1) := dk_42 (dk_at dksJ18_removeNode_9 13 rfl rfl)
theorem dJ18_removeNode_220 : decode cJ18_removeNode 220 = .ok (.aload 6, 2) := dk_25 6 (dk_at dksJ18_removeNode_9 14 rfl rfl)
theorem dJ18_removeNode_222 : decode cJ18_removeNode 222 = .ok (.iload 5, 2) := dk_21 5 (dk_at dksJ18_removeNode_9 16 rfl rfl)
theorem dJ18_removeNode_224 : decode cJ18_removeNode 224 = .ok (.invokevirtual 232, 3) := dk_182 0 232 (dk_at dksJ18_removeNode_9 18 rfl rfl)
theorem dJ18_removeNode_227 : decode cJ18_removeNode 227 = .ok (.goto 33, 3) := dk_167 0 33 (dk_at dksJ18_removeNode_9 21 rfl rfl)
theorem dJ18_removeNode_230 : decode cJ18_removeNode 230 = .ok (.aload 10, 2) := dk_25 10 (dk_at dksJ18_removeNode_10 0 rfl rfl)
theorem dJ18_removeNode_232 : decode cJ18_removeNode 232 = .ok (.aload 7, 2) := dk_25 7 (dk_at dksJ18_removeNode_10 2 rfl rfl)
theorem dJ18_removeNode_234 : decode cJ18_removeNode 234 = .ok (.if_acmp .ne 16, 3) := dk_166 0 16 (dk_at dksJ18_removeNode_10 4 rfl rfl)
theorem dJ18_removeNode_237 : decode cJ18_removeNode 237 = .ok (.aload 6, 2) := dk_25 6 (dk_at dksJ18_removeNode_10 7 rfl rfl)
theorem dJ18_removeNode_239 : decode cJ18_removeNode 239 = .ok (.iload 9, 2) := dk_21 9 (dk_at dksJ18_removeNode_10 9 rfl rfl)
theorem dJ18_removeNode_241 : decode cJ18_removeNode 241 = .ok (.aload 10, 2) := dk_25 10 (dk_at dksJ18_removeNode_10 11 rfl rfl)
theorem dJ18_removeNode_243 : decode cJ18_removeNode 243 = .ok (.getfield 177, 3) := dk_180 0 177 (dk_at dksJ18_removeNode_10 13 rfl rfl)
theorem dJ18_removeNode_246 : decode cJ18_removeNode 246 = .ok (.aastore, 1) := dk_83 (dk_at dksJ18_removeNode_10 16 rfl rfl)
theorem dJ18_removeNode_247 : decode cJ18_removeNode 247 = .ok (.goto 13, 3) := dk_167 0 13 (dk_at dksJ18_removeNode_10 17 rfl rfl)
theorem dJ18_removeNode_250 : decode cJ18_removeNode 250 = .ok (.aload 7, 2) := dk_25 7 (dk_at dksJ18_removeNode_10 20 rfl rfl)
theorem dJ18_removeNode_252 : decode cJ18_removeNode 252 = .ok (.aload 10, 2) := dk_25 10 (dk_at dksJ18_removeNode_10 22 rfl rfl)
theorem dJ18_removeNode_254 : decode cJ18_removeNode 254 = .ok (.getfield 177, 3) := dk_180 0 177 (dk_at dksJ18_removeNode_11 0 rfl rfl)
theorem dJ18_removeNode_257 : decode cJ18_removeNode 257 = .ok (.putfield 177, 3) := dk_181 0 177 (dk_at dksJ18_removeNode_11 3 rfl rfl)
theorem dJ18_removeNode_260 : decode cJ18_removeNode 260 = .ok (.aload_n 0, 1) := dk_42 (dk_at dksJ18_removeNode_11 6 rfl rfl)
theorem dJ18_removeNode_261 : decode cJ18_removeNode 261 = .ok (.dup, 1) := dk_89 (dk_at dksJ18_removeNode_11 7 rfl rfl)
theorem dJ18_removeNode_262 : decode cJ18_removeNode 262 = .ok (.getfield 202, 3) := dk_180 0 202 (dk_at dksJ18_removeNode_11 8 rfl rfl)
theorem dJ18_removeNode_265 : decode cJ18_removeNode 265 = .ok (.iconst 1, 1) := dk_4 (dk_at dksJ18_removeNode_11 11 rfl rfl)
theorem dJ18_removeNode_266 : decode cJ18_removeNode 266 = .ok (.iadd, 1) := dk_96 (dk_at dksJ18_removeNode_11 12 rfl rfl)
theorem dJ18_removeNode_267 : decode cJ18_removeNode 267 = .ok (.putfield 202, 3) := dk_181 0 202 (dk_at dksJ18_removeNode_11 13 rfl rfl)
theorem dJ18_removeNode_270 : decode cJ18_removeNode 270 = .ok (.aload_n 0, 1) := dk_42 (dk_at dksJ18_removeNode_11 16 rfl rfl)
theorem dJ18_removeNode_271 : decode cJ18_removeNode 271 = .ok (.dup, 1) := dk_89 (dk_at dksJ18_removeNode_11 17 rfl rfl)
theorem dJ18_removeNode_272 : decode cJ18_removeNode 272 = .ok (.getfield 156, 3) := dk_180 0 156 (dk_at dksJ18_removeNode_11 18 rfl rfl)
theorem dJ18_removeNode_275 : decode cJ18_removeNode 275 = .ok (.iconst 1, 1) := dk_4 (dk_at dksJ18_removeNode_11 21 rfl rfl)
theorem dJ18_removeNode_276 : decode cJ18_removeNode 276 = .ok (.isub, 1) := dk_100 (dk_at dksJ18_removeNode_11 22 rfl rfl)
theorem dJ18_removeNode_277 : decode cJ18_removeNode 277 = .ok (.putfield 156, 3) := dk_181 0 156 (dk_at dksJ18_removeNode_12 0 rfl rfl)
theorem dJ18_removeNode_280 : decode cJ18_removeNode 280 = .ok (.aload_n 0, 1) := dk_42 (dk_at dksJ18_removeNode_12 3 rfl rfl)
theorem dJ18_removeNode_281 : decode cJ18_removeNode 281 = .ok (.aload 10, 2) := dk_25 10 (dk_at dksJ18_removeNode_12 4 rfl rfl)
theorem dJ18_removeNode_283 : decode cJ18_removeNode 283 = .ok (.invokevirtual 236, 3) := dk_182 0 236 (dk_at dksJ18_removeNode_12 6 rfl rfl)
theorem dJ18_removeNode_286 : decode cJ18_removeNode 286 = .ok (.aload 10, 2) := dk_25 10 (dk_at dksJ18_removeNode_12 9 rfl rfl)
theorem dJ18_removeNode_288 : decode cJ18_removeNode 288 = .ok (.areturn, 1) := dk_176 (dk_at dksJ18_removeNode_12 11 rfl rfl)
theorem dJ18_removeNode_289 : decode cJ18_removeNode 289 = .ok (.aconst_null, 1) := dk_1 (dk_at dksJ18_removeNode_12 12 rfl rfl)
theorem dJ18_removeNode_290 : decode cJ18_removeNode 290 = .ok (.areturn, 1) := dk_176 (dk_at dksJ18_removeNode_12 13 rfl rfl)
theorem q124 : (Jvm.Cond.initialized "java/util/HashMap") ∈ lw_all := lw_g (lw_at lw_m1 23 rfl) rfl
theorem q545 : (Jvm.Cond.instanceMethod ({ cls := "java/util/HashMap", name := "<init>", desc := "()V" } : Jvm.MethodName)) ∈ lw_all := lw_g (lw_at lw_m2 204 rfl) rfl
theorem q546 : (Jvm.Cond.code ({ cls := "java/util/HashMap", name := "<init>", desc := "()V" } : Jvm.MethodName) prog_66_method_7_code (1 : Nat) (Option.none : Option Jvm.ClassFile.FieldType)) ∈ lw_all := lw_g (lw_at lw_m2 205 rfl) rfl
theorem q547 : (Jvm.Cond.methodLink "java/util/HashMap" (43 : Nat) ({ cls := "java/util/AbstractMap", name := "<init>", desc := "()V" } : Jvm.MethodName)) ∈ lw_all := lw_g (lw_at lw_m2 206 rfl) rfl
theorem q551 : (Jvm.Cond.constantFloat "java/util/HashMap" (92 : Nat) (1061158912 : UInt32)) ∈ lw_all := lw_g (lw_at lw_m2 210 rfl) rfl
theorem q559 : (Jvm.Cond.fieldLink "java/util/HashMap" (105 : Nat) "java/util/HashMap" "table" "[Ljava/util/HashMap$Node;") ∈ lw_all := lw_g (lw_at lw_m2 218 rfl) rfl
theorem q567 : (Jvm.Cond.fieldLink "java/util/HashMap" (156 : Nat) "java/util/HashMap" "size" "I") ∈ lw_all := lw_g (lw_at lw_m2 226 rfl) rfl
theorem q572 : (Jvm.Cond.fieldLink "java/util/HashMap" (202 : Nat) "java/util/HashMap" "modCount" "I") ∈ lw_all := lw_g (lw_at lw_m2 231 rfl) rfl
theorem q573 : (Jvm.Cond.fieldLink "java/util/HashMap" (88 : Nat) "java/util/HashMap" "threshold" "I") ∈ lw_all := lw_g (lw_at lw_m2 232 rfl) rfl
theorem q574 : (Jvm.Cond.fieldLink "java/util/HashMap" (81 : Nat) "java/util/HashMap" "loadFactor" "F") ∈ lw_all := lw_g (lw_at lw_m2 233 rfl) rfl
theorem q575 : (Jvm.Cond.fieldLink "java/util/HashMap" (239 : Nat) "java/util/HashMap" "keySet" "Ljava/util/Set;") ∈ lw_all := lw_g (lw_at lw_m2 234 rfl) rfl
theorem q576 : (Jvm.Cond.sameField "java/util/HashMap" "java/util/AbstractMap" "keySet" "Ljava/util/Set;") ∈ lw_all := lw_g (lw_at lw_m2 235 rfl) rfl
theorem q590 : (Jvm.Cond.soleField "java/util/HashMap" "table") ∈ lw_all := lw_g (lw_at lw_m3 9 rfl) rfl
theorem q592 : (Jvm.Cond.soleField "java/util/HashMap" "entrySet") ∈ lw_all := lw_g (lw_at lw_m3 11 rfl) rfl
theorem q594 : (Jvm.Cond.soleField "java/util/HashMap" "size") ∈ lw_all := lw_g (lw_at lw_m3 13 rfl) rfl
theorem q596 : (Jvm.Cond.soleField "java/util/HashMap" "modCount") ∈ lw_all := lw_g (lw_at lw_m3 15 rfl) rfl
theorem q598 : (Jvm.Cond.soleField "java/util/HashMap" "threshold") ∈ lw_all := lw_g (lw_at lw_m3 17 rfl) rfl
theorem q600 : (Jvm.Cond.soleField "java/util/HashMap" "loadFactor") ∈ lw_all := lw_g (lw_at lw_m3 19 rfl) rfl
theorem q730 : (Jvm.Cond.instanceMethod ({ cls := "java/util/HashMap", name := "size", desc := "()I" } : Jvm.MethodName)) ∈ lw_all := lw_g (lw_at lw_m3 149 rfl) rfl
theorem q731 : (Jvm.Cond.publicMethod ({ cls := "java/util/HashMap", name := "size", desc := "()I" } : Jvm.MethodName)) ∈ lw_tbl := lw_at lw_m3 150 rfl
theorem q732 : (Jvm.Cond.code ({ cls := "java/util/HashMap", name := "size", desc := "()I" } : Jvm.MethodName) prog_66_method_10_code (1 : Nat) (Option.some Jvm.ClassFile.FieldType.int)) ∈ lw_all := lw_g (lw_at lw_m3 151 rfl) rfl
theorem q1060 : (Jvm.Cond.instanceMethod ({ cls := "java/util/HashMap", name := "keySet", desc := "()Ljava/util/Set;" } : Jvm.MethodName)) ∈ lw_all := lw_g (lw_at lw_m4 239 rfl) rfl
theorem q1061 : (Jvm.Cond.sameMethod "java/util/HashMap" "java/util/HashMap" "keySet" "()Ljava/util/Set;") ∈ lw_all := lw_g (lw_at lw_m5 0 rfl) rfl
theorem q1086 : (Jvm.Cond.declares ({ cls := "java/util/HashMap", name := "keySet", desc := "()Ljava/util/Set;" } : Jvm.MethodName)) ∈ lw_tbl := lw_at lw_m5 25 rfl
theorem q1319 : (Jvm.Cond.instanceMethod ({ cls := "java/util/HashMap", name := "<init>", desc := "(IF)V" } : Jvm.MethodName)) ∈ lw_all := lw_g (lw_at lw_m6 18 rfl) rfl
theorem q1320 : (Jvm.Cond.code ({ cls := "java/util/HashMap", name := "<init>", desc := "(IF)V" } : Jvm.MethodName) prog_66_method_5_code (3 : Nat) (Option.none : Option Jvm.ClassFile.FieldType)) ∈ lw_all := lw_g (lw_at lw_m6 19 rfl) rfl
theorem q1321 : (Jvm.Cond.classLink "java/util/HashMap" (49 : Nat) "java/lang/IllegalArgumentException") ∈ lw_all := lw_g (lw_at lw_m6 20 rfl) rfl
theorem q1322 : (Jvm.Cond.classLink "java/util/HashMap" (51 : Nat) "java/lang/StringBuilder") ∈ lw_all := lw_g (lw_at lw_m6 21 rfl) rfl
theorem q1323 : (Jvm.Cond.methodLink "java/util/HashMap" (53 : Nat) ({ cls := "java/lang/StringBuilder", name := "<init>", desc := "()V" } : Jvm.MethodName)) ∈ lw_all := lw_g (lw_at lw_m6 22 rfl) rfl
theorem q1324 : (Jvm.Cond.stringRef "java/util/HashMap" (54 : Nat) "Illegal initial capacity: ") ∈ lw_tbl := lw_at lw_m6 23 rfl
theorem q1325 : (Jvm.Cond.methodLink "java/util/HashMap" (56 : Nat) ({ cls := "java/lang/StringBuilder", name := "append", desc := "(Ljava/lang/String;)Ljava/lang/StringBuilder;" } : Jvm.MethodName)) ∈ lw_all := lw_g (lw_at lw_m6 24 rfl) rfl
theorem q1326 : (Jvm.Cond.methodLink "java/util/HashMap" (60 : Nat) ({ cls := "java/lang/StringBuilder", name := "append", desc := "(I)Ljava/lang/StringBuilder;" } : Jvm.MethodName)) ∈ lw_all := lw_g (lw_at lw_m6 25 rfl) rfl
theorem q1327 : (Jvm.Cond.methodLink "java/util/HashMap" (63 : Nat) ({ cls := "java/lang/StringBuilder", name := "toString", desc := "()Ljava/lang/String;" } : Jvm.MethodName)) ∈ lw_all := lw_g (lw_at lw_m6 26 rfl) rfl
theorem q1328 : (Jvm.Cond.methodLink "java/util/HashMap" (67 : Nat) ({ cls := "java/lang/IllegalArgumentException", name := "<init>", desc := "(Ljava/lang/String;)V" } : Jvm.MethodName)) ∈ lw_all := lw_g (lw_at lw_m6 27 rfl) rfl
theorem q1329 : (Jvm.Cond.constant "java/util/HashMap" (42 : Nat) (1073741824 : Int32)) ∈ lw_all := lw_g (lw_at lw_m6 28 rfl) rfl
theorem q1330 : (Jvm.Cond.methodLink "java/util/HashMap" (70 : Nat) ({ cls := "java/lang/Float", name := "isNaN", desc := "(F)Z" } : Jvm.MethodName)) ∈ lw_all := lw_g (lw_at lw_m6 29 rfl) rfl
theorem q1333 : (Jvm.Cond.stringRef "java/util/HashMap" (76 : Nat) "Illegal load factor: ") ∈ lw_tbl := lw_at lw_m6 32 rfl
theorem q1334 : (Jvm.Cond.methodLink "java/util/HashMap" (78 : Nat) ({ cls := "java/lang/StringBuilder", name := "append", desc := "(F)Ljava/lang/StringBuilder;" } : Jvm.MethodName)) ∈ lw_all := lw_g (lw_at lw_m6 33 rfl) rfl
theorem q1815 : (Jvm.Cond.methodLink "java/util/HashMap" (85 : Nat) ({ cls := "java/util/HashMap", name := "tableSizeFor", desc := "(I)I" } : Jvm.MethodName)) ∈ lw_all := lw_g (lw_at lw_m8 34 rfl) rfl
theorem q1816 : (Jvm.Cond.static ({ cls := "java/util/HashMap", name := "tableSizeFor", desc := "(I)I" } : Jvm.MethodName)) ∈ lw_all := lw_g (lw_at lw_m8 35 rfl) rfl
theorem q1817 : (Jvm.Cond.code ({ cls := "java/util/HashMap", name := "tableSizeFor", desc := "(I)I" } : Jvm.MethodName) prog_66_method_4_code (2 : Nat) (Option.some Jvm.ClassFile.FieldType.int)) ∈ lw_all := lw_g (lw_at lw_m8 36 rfl) rfl
theorem q1818 : (Jvm.Cond.methodLink "java/util/HashMap" (34 : Nat) ({ cls := "java/lang/Integer", name := "numberOfLeadingZeros", desc := "(I)I" } : Jvm.MethodName)) ∈ lw_all := lw_g (lw_at lw_m8 37 rfl) rfl
theorem q1865 : (Jvm.Cond.instanceMethod ({ cls := "java/util/HashMap", name := "put", desc := "(Ljava/lang/Object;Ljava/lang/Object;)Ljava/lang/Object;" } : Jvm.MethodName)) ∈ lw_all := lw_g (lw_at lw_m8 84 rfl) rfl
theorem q1866 : (Jvm.Cond.sameMethod "java/util/HashMap" "java/util/HashMap" "put" "(Ljava/lang/Object;Ljava/lang/Object;)Ljava/lang/Object;") ∈ lw_all := lw_g (lw_at lw_m8 85 rfl) rfl
theorem q1868 : (Jvm.Cond.code ({ cls := "java/util/HashMap", name := "put", desc := "(Ljava/lang/Object;Ljava/lang/Object;)Ljava/lang/Object;" } : Jvm.MethodName) prog_66_method_15_code (3 : Nat) (Option.some (Jvm.ClassFile.FieldType.object "java/lang/Object"))) ∈ lw_all := lw_g (lw_at lw_m8 87 rfl) rfl
theorem q1869 : (Jvm.Cond.methodLink "java/util/HashMap" (149 : Nat) ({ cls := "java/util/HashMap", name := "hash", desc := "(Ljava/lang/Object;)I" } : Jvm.MethodName)) ∈ lw_all := lw_g (lw_at lw_m8 88 rfl) rfl
theorem q1870 : (Jvm.Cond.static ({ cls := "java/util/HashMap", name := "hash", desc := "(Ljava/lang/Object;)I" } : Jvm.MethodName)) ∈ lw_all := lw_g (lw_at lw_m8 89 rfl) rfl
theorem q1871 : (Jvm.Cond.code ({ cls := "java/util/HashMap", name := "hash", desc := "(Ljava/lang/Object;)I" } : Jvm.MethodName) prog_66_method_1_code (2 : Nat) (Option.some Jvm.ClassFile.FieldType.int)) ∈ lw_all := lw_g (lw_at lw_m8 90 rfl) rfl
theorem q1873 : (Jvm.Cond.methodLink "java/util/HashMap" (1 : Nat) ({ cls := "java/lang/Object", name := "hashCode", desc := "()I" } : Jvm.MethodName)) ∈ lw_all := lw_g (lw_at lw_m8 92 rfl) rfl
theorem q1972 : (Jvm.Cond.methodLink "java/util/HashMap" (152 : Nat) ({ cls := "java/util/HashMap", name := "putVal", desc := "(ILjava/lang/Object;Ljava/lang/Object;ZZ)Ljava/lang/Object;" } : Jvm.MethodName)) ∈ lw_all := lw_g (lw_at lw_m8 191 rfl) rfl
theorem q1973 : (Jvm.Cond.instanceMethod ({ cls := "java/util/HashMap", name := "putVal", desc := "(ILjava/lang/Object;Ljava/lang/Object;ZZ)Ljava/lang/Object;" } : Jvm.MethodName)) ∈ lw_all := lw_g (lw_at lw_m8 192 rfl) rfl
theorem q1974 : (Jvm.Cond.sameMethod "java/util/HashMap" "java/util/HashMap" "putVal" "(ILjava/lang/Object;Ljava/lang/Object;ZZ)Ljava/lang/Object;") ∈ lw_all := lw_g (lw_at lw_m8 193 rfl) rfl
theorem q1976 : (Jvm.Cond.code ({ cls := "java/util/HashMap", name := "putVal", desc := "(ILjava/lang/Object;Ljava/lang/Object;ZZ)Ljava/lang/Object;" } : Jvm.MethodName) prog_66_method_16_code (13 : Nat) (Option.some (Jvm.ClassFile.FieldType.object "java/lang/Object"))) ∈ lw_all := lw_g (lw_at lw_m8 195 rfl) rfl
theorem q1977 : (Jvm.Cond.methodLink "java/util/HashMap" (117 : Nat) ({ cls := "java/util/HashMap", name := "resize", desc := "()[Ljava/util/HashMap$Node;" } : Jvm.MethodName)) ∈ lw_all := lw_g (lw_at lw_m8 196 rfl) rfl
theorem q1978 : (Jvm.Cond.instanceMethod ({ cls := "java/util/HashMap", name := "resize", desc := "()[Ljava/util/HashMap$Node;" } : Jvm.MethodName)) ∈ lw_all := lw_g (lw_at lw_m8 197 rfl) rfl
theorem q1979 : (Jvm.Cond.sameMethod "java/util/HashMap" "java/util/HashMap" "resize" "()[Ljava/util/HashMap$Node;") ∈ lw_all := lw_g (lw_at lw_m8 198 rfl) rfl
theorem q1981 : (Jvm.Cond.code ({ cls := "java/util/HashMap", name := "resize", desc := "()[Ljava/util/HashMap$Node;" } : Jvm.MethodName) prog_66_method_17_code (14 : Nat) (Option.some (Jvm.ClassFile.FieldType.array (Jvm.ClassFile.FieldType.object "java/util/HashMap$Node")))) ∈ lw_all := lw_g (lw_at lw_m8 200 rfl) rfl
theorem q1982 : (Jvm.Cond.constant "java/util/HashMap" (209 : Nat) (2147483647 : Int32)) ∈ lw_all := lw_g (lw_at lw_m8 201 rfl) rfl
theorem q1983 : (Jvm.Cond.constantFloat "java/util/HashMap" (210 : Nat) (1317011456 : UInt32)) ∈ lw_all := lw_g (lw_at lw_m8 202 rfl) rfl
theorem q1984 : (Jvm.Cond.classLink "java/util/HashMap" (163 : Nat) "java/util/HashMap$Node") ∈ lw_all := lw_g (lw_at lw_m8 203 rfl) rfl
theorem q1986 : (Jvm.Cond.classLink "java/util/HashMap" (180 : Nat) "java/util/HashMap$TreeNode") ∈ lw_all := lw_g (lw_at lw_m8 205 rfl) rfl
theorem q1987 : (Jvm.Cond.methodLink "java/util/HashMap" (211 : Nat) ({ cls := "java/util/HashMap$TreeNode", name := "split", desc := "(Ljava/util/HashMap;[Ljava/util/HashMap$Node;II)V" } : Jvm.MethodName)) ∈ lw_all := lw_g (lw_at lw_m8 206 rfl) rfl
theorem q1997 : (Jvm.Cond.instanceMethod ({ cls := "java/util/HashMap", name := "replacementNode", desc := "(Ljava/util/HashMap$Node;Ljava/util/HashMap$Node;)Ljava/util/HashMap$Node;" } : Jvm.MethodName)) ∈ lw_all := lw_g (lw_at lw_m8 216 rfl) rfl
theorem q1998 : (Jvm.Cond.sameMethod "java/util/HashMap" "java/util/HashMap" "replacementNode" "(Ljava/util/HashMap$Node;Ljava/util/HashMap$Node;)Ljava/util/HashMap$Node;") ∈ lw_all := lw_g (lw_at lw_m8 217 rfl) rfl
theorem q2020 : (Jvm.Cond.fieldLink "java/util/HashMap" (168 : Nat) "java/util/HashMap$Node" "hash" "I") ∈ lw_all := lw_g (lw_at lw_m8 239 rfl) rfl
theorem q2027 : (Jvm.Cond.fieldLink "java/util/HashMap" (170 : Nat) "java/util/HashMap$Node" "key" "Ljava/lang/Object;") ∈ lw_all := lw_g (lw_at lw_m9 6 rfl) rfl
theorem q2032 : (Jvm.Cond.fieldLink "java/util/HashMap" (162 : Nat) "java/util/HashMap$Node" "value" "Ljava/lang/Object;") ∈ lw_all := lw_g (lw_at lw_m9 11 rfl) rfl
theorem q2038 : (Jvm.Cond.fieldLink "java/util/HashMap" (177 : Nat) "java/util/HashMap$Node" "next" "Ljava/util/HashMap$Node;") ∈ lw_all := lw_g (lw_at lw_m9 17 rfl) rfl
theorem q2039 : (Jvm.Cond.fieldLink "java/util/HashMap" (223 : Nat) "java/util/HashMap$TreeNode" "next" "Ljava/util/HashMap$Node;") ∈ lw_all := lw_g (lw_at lw_m9 18 rfl) rfl
theorem q2057 : (Jvm.Cond.declares ({ cls := "java/util/HashMap", name := "replacementNode", desc := "(Ljava/util/HashMap$Node;Ljava/util/HashMap$Node;)Ljava/util/HashMap$Node;" } : Jvm.MethodName)) ∈ lw_tbl := lw_at lw_m9 36 rfl
theorem q2063 : (Jvm.Cond.static ({ cls := "java/util/HashMap", name := "comparableClassFor", desc := "(Ljava/lang/Object;)Ljava/lang/Class;" } : Jvm.MethodName)) ∈ lw_all := lw_g (lw_at lw_m9 42 rfl) rfl
theorem q2064 : (Jvm.Cond.code ({ cls := "java/util/HashMap", name := "comparableClassFor", desc := "(Ljava/lang/Object;)Ljava/lang/Class;" } : Jvm.MethodName) prog_66_method_2_code (9 : Nat) (Option.some (Jvm.ClassFile.FieldType.object "java/lang/Class"))) ∈ lw_all := lw_g (lw_at lw_m9 43 rfl) rfl
theorem q2065 : (Jvm.Cond.classLink "java/util/HashMap" (7 : Nat) "java/lang/Comparable") ∈ lw_all := lw_g (lw_at lw_m9 44 rfl) rfl
theorem q2066 : (Jvm.Cond.methodLink "java/util/HashMap" (9 : Nat) ({ cls := "java/lang/Object", name := "getClass", desc := "()Ljava/lang/Class;" } : Jvm.MethodName)) ∈ lw_all := lw_g (lw_at lw_m9 45 rfl) rfl
theorem q2067 : (Jvm.Cond.classLink "java/util/HashMap" (13 : Nat) "java/lang/String") ∈ lw_all := lw_g (lw_at lw_m9 46 rfl) rfl
theorem q2069 : (Jvm.Cond.static ({ cls := "java/util/HashMap", name := "compareComparables", desc := "(Ljava/lang/Class;Ljava/lang/Object;Ljava/lang/Object;)I" } : Jvm.MethodName)) ∈ lw_all := lw_g (lw_at lw_m9 48 rfl) rfl
theorem q2070 : (Jvm.Cond.code ({ cls := "java/util/HashMap", name := "compareComparables", desc := "(Ljava/lang/Class;Ljava/lang/Object;Ljava/lang/Object;)I" } : Jvm.MethodName) prog_66_method_3_code (3 : Nat) (Option.some Jvm.ClassFile.FieldType.int)) ∈ lw_all := lw_g (lw_at lw_m9 49 rfl) rfl
theorem q2071 : (Jvm.Cond.interfaceEntry "java/util/HashMap" (30 : Nat)) ∈ lw_tbl := lw_at lw_m9 50 rfl
theorem q2072 : (Jvm.Cond.methodLink "java/util/HashMap" (30 : Nat) ({ cls := "java/lang/Comparable", name := "compareTo", desc := "(Ljava/lang/Object;)I" } : Jvm.MethodName)) ∈ lw_all := lw_g (lw_at lw_m9 51 rfl) rfl
theorem q2298 : (Jvm.Cond.methodLink "java/util/HashMap" (186 : Nat) ({ cls := "java/util/HashMap", name := "newNode", desc := "(ILjava/lang/Object;Ljava/lang/Object;Ljava/util/HashMap$Node;)Ljava/util/HashMap$Node;" } : Jvm.MethodName)) ∈ lw_all := lw_g (lw_at lw_m10 37 rfl) rfl
theorem q2299 : (Jvm.Cond.instanceMethod ({ cls := "java/util/HashMap", name := "newNode", desc := "(ILjava/lang/Object;Ljava/lang/Object;Ljava/util/HashMap$Node;)Ljava/util/HashMap$Node;" } : Jvm.MethodName)) ∈ lw_all := lw_g (lw_at lw_m10 38 rfl) rfl
theorem q2300 : (Jvm.Cond.sameMethod "java/util/HashMap" "java/util/HashMap" "newNode" "(ILjava/lang/Object;Ljava/lang/Object;Ljava/util/HashMap$Node;)Ljava/util/HashMap$Node;") ∈ lw_all := lw_g (lw_at lw_m10 39 rfl) rfl
theorem q2308 : (Jvm.Cond.declares ({ cls := "java/util/HashMap", name := "newNode", desc := "(ILjava/lang/Object;Ljava/lang/Object;Ljava/util/HashMap$Node;)Ljava/util/HashMap$Node;" } : Jvm.MethodName)) ∈ lw_tbl := lw_at lw_m10 47 rfl
theorem q2310 : (Jvm.Cond.methodLink "java/util/HashMap" (173 : Nat) ({ cls := "java/lang/Object", name := "equals", desc := "(Ljava/lang/Object;)Z" } : Jvm.MethodName)) ∈ lw_all := lw_g (lw_at lw_m10 49 rfl) rfl
theorem q2356 : (Jvm.Cond.methodLink "java/util/HashMap" (190 : Nat) ({ cls := "java/util/HashMap$TreeNode", name := "putTreeVal", desc := "(Ljava/util/HashMap;[Ljava/util/HashMap$Node;ILjava/lang/Object;Ljava/lang/Object;)Ljava/util/HashMap$TreeNode;" } : Jvm.MethodName)) ∈ lw_all := lw_g (lw_at lw_m10 95 rfl) rfl
theorem q2370 : (Jvm.Cond.instanceMethod ({ cls := "java/util/HashMap", name := "newTreeNode", desc := "(ILjava/lang/Object;Ljava/lang/Object;Ljava/util/HashMap$Node;)Ljava/util/HashMap$TreeNode;" } : Jvm.MethodName)) ∈ lw_all := lw_g (lw_at lw_m10 109 rfl) rfl
theorem q2371 : (Jvm.Cond.sameMethod "java/util/HashMap" "java/util/HashMap" "newTreeNode" "(ILjava/lang/Object;Ljava/lang/Object;Ljava/util/HashMap$Node;)Ljava/util/HashMap$TreeNode;") ∈ lw_all := lw_g (lw_at lw_m10 110 rfl) rfl
theorem q2385 : (Jvm.Cond.fieldLink "java/util/HashMap" (219 : Nat) "java/util/HashMap$TreeNode" "prev" "Ljava/util/HashMap$TreeNode;") ∈ lw_all := lw_g (lw_at lw_m10 124 rfl) rfl
theorem q2404 : (Jvm.Cond.declares ({ cls := "java/util/HashMap", name := "newTreeNode", desc := "(ILjava/lang/Object;Ljava/lang/Object;Ljava/util/HashMap$Node;)Ljava/util/HashMap$TreeNode;" } : Jvm.MethodName)) ∈ lw_tbl := lw_at lw_m10 143 rfl
theorem q2405 : (Jvm.Cond.methodLink "java/util/HashMap" (194 : Nat) ({ cls := "java/util/HashMap", name := "treeifyBin", desc := "([Ljava/util/HashMap$Node;I)V" } : Jvm.MethodName)) ∈ lw_all := lw_g (lw_at lw_m10 144 rfl) rfl
theorem q2406 : (Jvm.Cond.instanceMethod ({ cls := "java/util/HashMap", name := "treeifyBin", desc := "([Ljava/util/HashMap$Node;I)V" } : Jvm.MethodName)) ∈ lw_all := lw_g (lw_at lw_m10 145 rfl) rfl
theorem q2407 : (Jvm.Cond.sameMethod "java/util/HashMap" "java/util/HashMap" "treeifyBin" "([Ljava/util/HashMap$Node;I)V") ∈ lw_all := lw_g (lw_at lw_m10 146 rfl) rfl
theorem q2409 : (Jvm.Cond.code ({ cls := "java/util/HashMap", name := "treeifyBin", desc := "([Ljava/util/HashMap$Node;I)V" } : Jvm.MethodName) prog_66_method_18_code (9 : Nat) (Option.none : Option Jvm.ClassFile.FieldType)) ∈ lw_all := lw_g (lw_at lw_m10 148 rfl) rfl
theorem q2410 : (Jvm.Cond.methodLink "java/util/HashMap" (215 : Nat) ({ cls := "java/util/HashMap", name := "replacementTreeNode", desc := "(Ljava/util/HashMap$Node;Ljava/util/HashMap$Node;)Ljava/util/HashMap$TreeNode;" } : Jvm.MethodName)) ∈ lw_all := lw_g (lw_at lw_m10 149 rfl) rfl
theorem q2411 : (Jvm.Cond.instanceMethod ({ cls := "java/util/HashMap", name := "replacementTreeNode", desc := "(Ljava/util/HashMap$Node;Ljava/util/HashMap$Node;)Ljava/util/HashMap$TreeNode;" } : Jvm.MethodName)) ∈ lw_all := lw_g (lw_at lw_m10 150 rfl) rfl
theorem q2412 : (Jvm.Cond.sameMethod "java/util/HashMap" "java/util/HashMap" "replacementTreeNode" "(Ljava/util/HashMap$Node;Ljava/util/HashMap$Node;)Ljava/util/HashMap$TreeNode;") ∈ lw_all := lw_g (lw_at lw_m10 151 rfl) rfl
theorem q2416 : (Jvm.Cond.declares ({ cls := "java/util/HashMap", name := "replacementTreeNode", desc := "(Ljava/util/HashMap$Node;Ljava/util/HashMap$Node;)Ljava/util/HashMap$TreeNode;" } : Jvm.MethodName)) ∈ lw_tbl := lw_at lw_m10 155 rfl
theorem q2417 : (Jvm.Cond.methodLink "java/util/HashMap" (224 : Nat) ({ cls := "java/util/HashMap$TreeNode", name := "treeify", desc := "([Ljava/util/HashMap$Node;)V" } : Jvm.MethodName)) ∈ lw_all := lw_g (lw_at lw_m10 156 rfl) rfl
theorem q2418 : (Jvm.Cond.methodLink "java/util/HashMap" (198 : Nat) ({ cls := "java/util/HashMap", name := "afterNodeAccess", desc := "(Ljava/util/HashMap$Node;)V" } : Jvm.MethodName)) ∈ lw_all := lw_g (lw_at lw_m10 157 rfl) rfl
theorem q2419 : (Jvm.Cond.instanceMethod ({ cls := "java/util/HashMap", name := "afterNodeAccess", desc := "(Ljava/util/HashMap$Node;)V" } : Jvm.MethodName)) ∈ lw_all := lw_g (lw_at lw_m10 158 rfl) rfl
theorem q2420 : (Jvm.Cond.sameMethod "java/util/HashMap" "java/util/HashMap" "afterNodeAccess" "(Ljava/util/HashMap$Node;)V") ∈ lw_all := lw_g (lw_at lw_m10 159 rfl) rfl
theorem q2424 : (Jvm.Cond.declares ({ cls := "java/util/HashMap", name := "afterNodeAccess", desc := "(Ljava/util/HashMap$Node;)V" } : Jvm.MethodName)) ∈ lw_tbl := lw_at lw_m10 163 rfl
theorem q2425 : (Jvm.Cond.methodLink "java/util/HashMap" (205 : Nat) ({ cls := "java/util/HashMap", name := "afterNodeInsertion", desc := "(Z)V" } : Jvm.MethodName)) ∈ lw_all := lw_g (lw_at lw_m10 164 rfl) rfl
theorem q2426 : (Jvm.Cond.instanceMethod ({ cls := "java/util/HashMap", name := "afterNodeInsertion", desc := "(Z)V" } : Jvm.MethodName)) ∈ lw_all := lw_g (lw_at lw_m10 165 rfl) rfl
theorem q2427 : (Jvm.Cond.sameMethod "java/util/HashMap" "java/util/HashMap" "afterNodeInsertion" "(Z)V") ∈ lw_all := lw_g (lw_at lw_m10 166 rfl) rfl
theorem q2435 : (Jvm.Cond.declares ({ cls := "java/util/HashMap", name := "afterNodeInsertion", desc := "(Z)V" } : Jvm.MethodName)) ∈ lw_tbl := lw_at lw_m10 174 rfl
theorem q2481 : (Jvm.Cond.instanceMethod ({ cls := "java/util/HashMap", name := "putAll", desc := "(Ljava/util/Map;)V" } : Jvm.MethodName)) ∈ lw_all := lw_g (lw_at lw_m10 220 rfl) rfl
theorem q2482 : (Jvm.Cond.publicMethod ({ cls := "java/util/HashMap", name := "putAll", desc := "(Ljava/util/Map;)V" } : Jvm.MethodName)) ∈ lw_tbl := lw_at lw_m10 221 rfl
theorem q2483 : (Jvm.Cond.code ({ cls := "java/util/HashMap", name := "putAll", desc := "(Ljava/util/Map;)V" } : Jvm.MethodName) prog_66_method_19_code (2 : Nat) (Option.none : Option Jvm.ClassFile.FieldType)) ∈ lw_all := lw_g (lw_at lw_m10 222 rfl) rfl
theorem q2484 : (Jvm.Cond.methodLink "java/util/HashMap" (96 : Nat) ({ cls := "java/util/HashMap", name := "putMapEntries", desc := "(Ljava/util/Map;Z)V" } : Jvm.MethodName)) ∈ lw_all := lw_g (lw_at lw_m10 223 rfl) rfl
theorem q2485 : (Jvm.Cond.instanceMethod ({ cls := "java/util/HashMap", name := "putMapEntries", desc := "(Ljava/util/Map;Z)V" } : Jvm.MethodName)) ∈ lw_all := lw_g (lw_at lw_m10 224 rfl) rfl
theorem q2486 : (Jvm.Cond.sameMethod "java/util/HashMap" "java/util/HashMap" "putMapEntries" "(Ljava/util/Map;Z)V") ∈ lw_all := lw_g (lw_at lw_m10 225 rfl) rfl
theorem q2488 : (Jvm.Cond.code ({ cls := "java/util/HashMap", name := "putMapEntries", desc := "(Ljava/util/Map;Z)V" } : Jvm.MethodName) prog_66_method_9_code (8 : Nat) (Option.none : Option Jvm.ClassFile.FieldType)) ∈ lw_all := lw_g (lw_at lw_m10 227 rfl) rfl
theorem q2489 : (Jvm.Cond.interfaceEntry "java/util/HashMap" (100 : Nat)) ∈ lw_tbl := lw_at lw_m10 228 rfl
theorem q2490 : (Jvm.Cond.methodLink "java/util/HashMap" (100 : Nat) ({ cls := "java/util/Map", name := "size", desc := "()I" } : Jvm.MethodName)) ∈ lw_all := lw_g (lw_at lw_m10 229 rfl) rfl
theorem q2491 : (Jvm.Cond.methodLink "java/util/HashMap" (109 : Nat) ({ cls := "java/lang/Math", name := "ceil", desc := "(D)D" } : Jvm.MethodName)) ∈ lw_all := lw_g (lw_at lw_m10 230 rfl) rfl
theorem q2517 : (Jvm.Cond.constantDouble "java/util/HashMap" (115 : Nat) (4742290407621132288 : UInt64)) ∈ lw_all := lw_g (lw_at lw_m11 16 rfl) rfl
theorem q2518 : (Jvm.Cond.interfaceEntry "java/util/HashMap" (121 : Nat)) ∈ lw_tbl := lw_at lw_m11 17 rfl
theorem q2519 : (Jvm.Cond.methodLink "java/util/HashMap" (121 : Nat) ({ cls := "java/util/Map", name := "entrySet", desc := "()Ljava/util/Set;" } : Jvm.MethodName)) ∈ lw_all := lw_g (lw_at lw_m11 18 rfl) rfl
theorem q2544 : (Jvm.Cond.interfaceEntry "java/util/HashMap" (125 : Nat)) ∈ lw_tbl := lw_at lw_m11 43 rfl
theorem q2545 : (Jvm.Cond.methodLink "java/util/HashMap" (125 : Nat) ({ cls := "java/util/Set", name := "iterator", desc := "()Ljava/util/Iterator;" } : Jvm.MethodName)) ∈ lw_all := lw_g (lw_at lw_m11 44 rfl) rfl
theorem q2546 : (Jvm.Cond.interfaceEntry "java/util/HashMap" (131 : Nat)) ∈ lw_tbl := lw_at lw_m11 45 rfl
theorem q2547 : (Jvm.Cond.methodLink "java/util/HashMap" (131 : Nat) ({ cls := "java/util/Iterator", name := "hasNext", desc := "()Z" } : Jvm.MethodName)) ∈ lw_all := lw_g (lw_at lw_m11 46 rfl) rfl
theorem q2548 : (Jvm.Cond.interfaceEntry "java/util/HashMap" (137 : Nat)) ∈ lw_tbl := lw_at lw_m11 47 rfl
theorem q2549 : (Jvm.Cond.methodLink "java/util/HashMap" (137 : Nat) ({ cls := "java/util/Iterator", name := "next", desc := "()Ljava/lang/Object;" } : Jvm.MethodName)) ∈ lw_all := lw_g (lw_at lw_m11 48 rfl) rfl
theorem q2550 : (Jvm.Cond.classLink "java/util/HashMap" (141 : Nat) "java/util/Map$Entry") ∈ lw_all := lw_g (lw_at lw_m11 49 rfl) rfl
theorem q2551 : (Jvm.Cond.interfaceEntry "java/util/HashMap" (143 : Nat)) ∈ lw_tbl := lw_at lw_m11 50 rfl
theorem q2552 : (Jvm.Cond.methodLink "java/util/HashMap" (143 : Nat) ({ cls := "java/util/Map$Entry", name := "getKey", desc := "()Ljava/lang/Object;" } : Jvm.MethodName)) ∈ lw_all := lw_g (lw_at lw_m11 51 rfl) rfl
theorem q2565 : (Jvm.Cond.interfaceEntry "java/util/HashMap" (146 : Nat)) ∈ lw_tbl := lw_at lw_m11 64 rfl
theorem q2566 : (Jvm.Cond.methodLink "java/util/HashMap" (146 : Nat) ({ cls := "java/util/Map$Entry", name := "getValue", desc := "()Ljava/lang/Object;" } : Jvm.MethodName)) ∈ lw_all := lw_g (lw_at lw_m11 65 rfl) rfl
theorem q2917 : (Jvm.Cond.instanceMethod ({ cls := "java/util/HashMap", name := "containsKey", desc := "(Ljava/lang/Object;)Z" } : Jvm.MethodName)) ∈ lw_all := lw_g (lw_at lw_m12 176 rfl) rfl
theorem q2918 : (Jvm.Cond.publicMethod ({ cls := "java/util/HashMap", name := "containsKey", desc := "(Ljava/lang/Object;)Z" } : Jvm.MethodName)) ∈ lw_tbl := lw_at lw_m12 177 rfl
theorem q2919 : (Jvm.Cond.code ({ cls := "java/util/HashMap", name := "containsKey", desc := "(Ljava/lang/Object;)Z" } : Jvm.MethodName) prog_66_method_14_code (2 : Nat) (Option.some Jvm.ClassFile.FieldType.boolean)) ∈ lw_all := lw_g (lw_at lw_m12 178 rfl) rfl
theorem q2920 : (Jvm.Cond.methodLink "java/util/HashMap" (158 : Nat) ({ cls := "java/util/HashMap", name := "getNode", desc := "(Ljava/lang/Object;)Ljava/util/HashMap$Node;" } : Jvm.MethodName)) ∈ lw_all := lw_g (lw_at lw_m12 179 rfl) rfl
theorem q2921 : (Jvm.Cond.instanceMethod ({ cls := "java/util/HashMap", name := "getNode", desc := "(Ljava/lang/Object;)Ljava/util/HashMap$Node;" } : Jvm.MethodName)) ∈ lw_all := lw_g (lw_at lw_m12 180 rfl) rfl
theorem q2922 : (Jvm.Cond.sameMethod "java/util/HashMap" "java/util/HashMap" "getNode" "(Ljava/lang/Object;)Ljava/util/HashMap$Node;") ∈ lw_all := lw_g (lw_at lw_m12 181 rfl) rfl
theorem q2924 : (Jvm.Cond.code ({ cls := "java/util/HashMap", name := "getNode", desc := "(Ljava/lang/Object;)Ljava/util/HashMap$Node;" } : Jvm.MethodName) prog_66_method_13_code (8 : Nat) (Option.some (Jvm.ClassFile.FieldType.object "java/util/HashMap$Node"))) ∈ lw_all := lw_g (lw_at lw_m12 183 rfl) rfl
theorem q2925 : (Jvm.Cond.methodLink "java/util/HashMap" (182 : Nat) ({ cls := "java/util/HashMap$TreeNode", name := "getTreeNode", desc := "(ILjava/lang/Object;)Ljava/util/HashMap$TreeNode;" } : Jvm.MethodName)) ∈ lw_all := lw_g (lw_at lw_m12 184 rfl) rfl
theorem q2985 : (Jvm.Cond.publicMethod ({ cls := "java/util/HashMap", name := "put", desc := "(Ljava/lang/Object;Ljava/lang/Object;)Ljava/lang/Object;" } : Jvm.MethodName)) ∈ lw_tbl := lw_at lw_m13 4 rfl
theorem q3264 : (Jvm.Cond.instanceMethod ({ cls := "java/util/HashMap", name := "remove", desc := "(Ljava/lang/Object;)Ljava/lang/Object;" } : Jvm.MethodName)) ∈ lw_all := lw_g (lw_at lw_m14 43 rfl) rfl
theorem q3265 : (Jvm.Cond.publicMethod ({ cls := "java/util/HashMap", name := "remove", desc := "(Ljava/lang/Object;)Ljava/lang/Object;" } : Jvm.MethodName)) ∈ lw_tbl := lw_at lw_m14 44 rfl
theorem q3266 : (Jvm.Cond.code ({ cls := "java/util/HashMap", name := "remove", desc := "(Ljava/lang/Object;)Ljava/lang/Object;" } : Jvm.MethodName) prog_66_method_20_code (3 : Nat) (Option.some (Jvm.ClassFile.FieldType.object "java/lang/Object"))) ∈ lw_all := lw_g (lw_at lw_m14 45 rfl) rfl
theorem q3267 : (Jvm.Cond.methodLink "java/util/HashMap" (228 : Nat) ({ cls := "java/util/HashMap", name := "removeNode", desc := "(ILjava/lang/Object;Ljava/lang/Object;ZZ)Ljava/util/HashMap$Node;" } : Jvm.MethodName)) ∈ lw_all := lw_g (lw_at lw_m14 46 rfl) rfl
theorem q3268 : (Jvm.Cond.instanceMethod ({ cls := "java/util/HashMap", name := "removeNode", desc := "(ILjava/lang/Object;Ljava/lang/Object;ZZ)Ljava/util/HashMap$Node;" } : Jvm.MethodName)) ∈ lw_all := lw_g (lw_at lw_m14 47 rfl) rfl
theorem q3269 : (Jvm.Cond.sameMethod "java/util/HashMap" "java/util/HashMap" "removeNode" "(ILjava/lang/Object;Ljava/lang/Object;ZZ)Ljava/util/HashMap$Node;") ∈ lw_all := lw_g (lw_at lw_m14 48 rfl) rfl
theorem q3271 : (Jvm.Cond.code ({ cls := "java/util/HashMap", name := "removeNode", desc := "(ILjava/lang/Object;Ljava/lang/Object;ZZ)Ljava/util/HashMap$Node;" } : Jvm.MethodName) prog_66_method_21_code (14 : Nat) (Option.some (Jvm.ClassFile.FieldType.object "java/util/HashMap$Node"))) ∈ lw_all := lw_g (lw_at lw_m14 50 rfl) rfl
theorem q3272 : (Jvm.Cond.methodLink "java/util/HashMap" (232 : Nat) ({ cls := "java/util/HashMap$TreeNode", name := "removeTreeNode", desc := "(Ljava/util/HashMap;[Ljava/util/HashMap$Node;Z)V" } : Jvm.MethodName)) ∈ lw_all := lw_g (lw_at lw_m14 51 rfl) rfl
theorem q3279 : (Jvm.Cond.methodLink "java/util/HashMap" (236 : Nat) ({ cls := "java/util/HashMap", name := "afterNodeRemoval", desc := "(Ljava/util/HashMap$Node;)V" } : Jvm.MethodName)) ∈ lw_all := lw_g (lw_at lw_m14 58 rfl) rfl
theorem q3280 : (Jvm.Cond.instanceMethod ({ cls := "java/util/HashMap", name := "afterNodeRemoval", desc := "(Ljava/util/HashMap$Node;)V" } : Jvm.MethodName)) ∈ lw_all := lw_g (lw_at lw_m14 59 rfl) rfl
theorem q3281 : (Jvm.Cond.sameMethod "java/util/HashMap" "java/util/HashMap" "afterNodeRemoval" "(Ljava/util/HashMap$Node;)V") ∈ lw_all := lw_g (lw_at lw_m14 60 rfl) rfl
theorem q3285 : (Jvm.Cond.declares ({ cls := "java/util/HashMap", name := "afterNodeRemoval", desc := "(Ljava/util/HashMap$Node;)V" } : Jvm.MethodName)) ∈ lw_tbl := lw_at lw_m14 64 rfl
theorem q3818 : (Jvm.Cond.sameMethod "java/util/HashMap" "java/util/HashMap" "size" "()I") ∈ lw_all := lw_g (lw_at lw_m16 117 rfl) rfl

-- J19.java_util_LinkedHashMap.lean.txt
/-! java/util/LinkedHashMap -/
set_option maxRecDepth 100000
def RJ19 : String := "java/util/LinkedHashMap"
def TJ19 : u_T := fun k => match k with
  | 0 => ("java/util/HashMap", "table", "[Ljava/util/HashMap$Node;", false)
  | 1 => ("java/util/HashMap", "entrySet", "Ljava/util/Set;", false)
  | 2 => ("java/util/HashMap", "size", "I", false)
  | 3 => ("java/util/HashMap", "modCount", "I", false)
  | 4 => ("java/util/HashMap", "threshold", "I", false)
  | 5 => ("java/util/HashMap", "loadFactor", "F", true)
  | 6 => ("java/util/AbstractMap", "keySet", "Ljava/util/Set;", false)
  | 7 => ("java/util/AbstractMap", "values", "Ljava/util/Collection;", false)
  | 8 => ("java/util/LinkedHashMap", "head", "Ljava/util/LinkedHashMap$Entry;", false)
  | 9 => ("java/util/LinkedHashMap", "tail", "Ljava/util/LinkedHashMap$Entry;", false)
  | 10 => ("java/util/LinkedHashMap", "accessOrder", "Z", true)
  | _ => ("java/util/LinkedHashMap", "putMode", "I", false)
def tyJ19 : Nat → FieldType := fun k => match k with
  | 0 => .array (.object "java/util/HashMap$Node")
  | 1 => .object "java/util/Set"
  | 2 => .int
  | 3 => .int
  | 4 => .int
  | 5 => .float
  | 6 => .object "java/util/Set"
  | 7 => .object "java/util/Collection"
  | 8 => .object "java/util/LinkedHashMap$Entry"
  | 9 => .object "java/util/LinkedHashMap$Entry"
  | 10 => .boolean
  | _ => .int
abbrev wsJ190 : List Cond := u_ws RJ19 TJ19 12
theorem nmJ19 : ∀ a, a < 12 → ∀ b, b < 12 → a ≠ b → (TJ19 a).2.1 ≠ (TJ19 b).2.1 := by decide +kernel
theorem tyJ19_ok : ∀ k, k < 12 → parseFieldDescriptor (TJ19 k).2.2.1 = some (tyJ19 k) := by decide +kernel
abbrev cJ19_init : ByteArray := prog_74_method_16_code
def yJ19_init : MethodName := ⟨RJ19, "<init>", "()V"⟩
def dkwJ19_init_0 : List UInt8 := [42, 183, 0, 87, 42, 3, 181, 0, 1, 42, 3, 181, 0, 64, 177]
abbrev dktJ19_init_0 : List UInt8 := dkwJ19_init_0 ++ []
theorem dksJ19_init_0 : cJ19_init.data.toList.drop 0 = dktJ19_init_0 := by decide +kernel
theorem dJ19_init_0 : decode cJ19_init 0 = .ok (.aload_n 0, 1) := dk_42 (dk_at dksJ19_init_0 0 rfl rfl)
theorem dJ19_init_1 : decode cJ19_init 1 = .ok (.invokespecial 87, 3) := dk_183 0 87 (dk_at dksJ19_init_0 1 rfl rfl)
theorem dJ19_init_4 : decode cJ19_init 4 = .ok (.aload_n 0, 1) := dk_42 (dk_at dksJ19_init_0 4 rfl rfl)
theorem dJ19_init_5 : decode cJ19_init 5 = .ok (.iconst 0, 1) := dk_3 (dk_at dksJ19_init_0 5 rfl rfl)
theorem dJ19_init_6 : decode cJ19_init 6 = .ok (.putfield 1, 3) := dk_181 0 1 (dk_at dksJ19_init_0 6 rfl rfl)
theorem dJ19_init_9 : decode cJ19_init 9 = .ok (.aload_n 0, 1) := dk_42 (dk_at dksJ19_init_0 9 rfl rfl)
theorem dJ19_init_10 : decode cJ19_init 10 = .ok (.iconst 0, 1) := dk_3 (dk_at dksJ19_init_0 10 rfl rfl)
theorem dJ19_init_11 : decode cJ19_init 11 = .ok (.putfield 64, 3) := dk_181 0 64 (dk_at dksJ19_init_0 11 rfl rfl)
theorem dJ19_init_14 : decode cJ19_init 14 = .ok (.return_, 1) := dk_177 (dk_at dksJ19_init_0 14 rfl rfl)
abbrev cJ19_values : ByteArray := prog_74_method_30_code
def yJ19_values : MethodName := ⟨RJ19, "values", "()Ljava/util/Collection;"⟩
theorem dJ19_values_0 : decode cJ19_values 0 = .ok (.aload_n 0, 1) := by decide +kernel
theorem dJ19_values_1 : decode cJ19_values 1 = .ok (.invokevirtual 135, 3) := by decide +kernel
theorem dJ19_values_4 : decode cJ19_values 4 = .ok (.areturn, 1) := by decide +kernel
abbrev cJ19_sequencedValues : ByteArray := prog_74_method_31_code
def yJ19_sequencedValues : MethodName := ⟨RJ19, "sequencedValues", "()Ljava/util/SequencedCollection;"⟩
def dkwJ19_sequencedValues_1 : List UInt8 := [44, 176, 43, 192, 0, 146, 176]
abbrev dktJ19_sequencedValues_1 : List UInt8 := dkwJ19_sequencedValues_1 ++ []
def dkwJ19_sequencedValues_0 : List UInt8 := [42, 180, 0, 139, 76, 43, 199, 0, 20, 187, 0, 143, 89, 42, 3, 183, 0, 145, 77, 42, 44, 181, 0, 139]
abbrev dktJ19_sequencedValues_0 : List UInt8 := dkwJ19_sequencedValues_0 ++ dktJ19_sequencedValues_1
theorem dksJ19_sequencedValues_0 : cJ19_sequencedValues.data.toList.drop 0 = dktJ19_sequencedValues_0 := by decide +kernel
theorem dksJ19_sequencedValues_1 : cJ19_sequencedValues.data.toList.drop 24 = dktJ19_sequencedValues_1 := dk_seg dksJ19_sequencedValues_0 24 rfl rfl
theorem dJ19_sequencedValues_0 : decode cJ19_sequencedValues 0 = .ok (.aload_n 0, 1) := dk_42 (dk_at dksJ19_sequencedValues_0 0 rfl rfl)
theorem dJ19_sequencedValues_1 : decode cJ19_sequencedValues 1 = .ok (.getfield 139, 3) := dk_180 0 139 (dk_at dksJ19_sequencedValues_0 1 rfl rfl)
theorem dJ19_sequencedValues_4 : decode cJ19_sequencedValues 4 = .ok (.astore_n 1, 1) := dk_76 (dk_at dksJ19_sequencedValues_0 4 rfl rfl)
theorem dJ19_sequencedValues_5 : decode cJ19_sequencedValues 5 = .ok (.aload_n 1, 1) := dk_43 (dk_at dksJ19_sequencedValues_0 5 rfl rfl)
theorem dJ19_sequencedValues_6 : decode cJ19_sequencedValues 6 = .ok (.ifnonnull 20, 3) := dk_199 0 20 (dk_at dksJ19_sequencedValues_0 6 rfl rfl)
theorem dJ19_sequencedValues_9 : decode cJ19_sequencedValues 9 = .ok (.new 143, 3) := dk_187 0 143 (dk_at dksJ19_sequencedValues_0 9 rfl rfl)
theorem dJ19_sequencedValues_12 : decode cJ19_sequencedValues 12 = .ok (.dup, 1) := dk_89 (dk_at dksJ19_sequencedValues_0 12 rfl rfl)
theorem dJ19_sequencedValues_13 : decode cJ19_sequencedValues 13 = .ok (.aload_n 0, 1) := dk_42 (dk_at dksJ19_sequencedValues_0 13 rfl rfl)
theorem dJ19_sequencedValues_14 : decode cJ19_sequencedValues 14 = .ok (.iconst 0, 1) := dk_3 (dk_at dksJ19_sequencedValues_0 14 rfl rfl)
theorem dJ19_sequencedValues_15 : decode cJ19_sequencedValues 15 = .ok (.invokespecial 145, 3) := dk_183 0 145 (dk_at dksJ19_sequencedValues_0 15 rfl rfl)
theorem dJ19_sequencedValues_18 : decode cJ19_sequencedValues 18 = .ok (.astore_n 2, 1) := dk_77 (dk_at dksJ19_sequencedValues_0 18 rfl rfl)
theorem dJ19_sequencedValues_19 : decode cJ19_sequencedValues 19 = .ok (.aload_n 0, 1) := dk_42 (dk_at dksJ19_sequencedValues_0 19 rfl rfl)
theorem dJ19_sequencedValues_20 : decode cJ19_sequencedValues 20 = .ok (.aload_n 2, 1) := dk_44 (dk_at dksJ19_sequencedValues_0 20 rfl rfl)
theorem dJ19_sequencedValues_21 : decode cJ19_sequencedValues 21 = .ok (.putfield 139, 3) := dk_181 0 139 (dk_at dksJ19_sequencedValues_0 21 rfl rfl)
theorem dJ19_sequencedValues_24 : decode cJ19_sequencedValues 24 = .ok (.aload_n 2, 1) := dk_44 (dk_at dksJ19_sequencedValues_1 0 rfl rfl)
theorem dJ19_sequencedValues_25 : decode cJ19_sequencedValues 25 = .ok (.areturn, 1) := dk_176 (dk_at dksJ19_sequencedValues_1 1 rfl rfl)
theorem dJ19_sequencedValues_26 : decode cJ19_sequencedValues 26 = .ok (.aload_n 1, 1) := dk_43 (dk_at dksJ19_sequencedValues_1 2 rfl rfl)
theorem dJ19_sequencedValues_27 : decode cJ19_sequencedValues 27 = .ok (.checkcast 146, 3) := dk_192 0 146 (dk_at dksJ19_sequencedValues_1 3 rfl rfl)
theorem dJ19_sequencedValues_30 : decode cJ19_sequencedValues 30 = .ok (.areturn, 1) := dk_176 (dk_at dksJ19_sequencedValues_1 6 rfl rfl)
abbrev cJ19_keySet : ByteArray := prog_74_method_24_code
def yJ19_keySet : MethodName := ⟨RJ19, "keySet", "()Ljava/util/Set;"⟩
theorem dJ19_keySet_0 : decode cJ19_keySet 0 = .ok (.aload_n 0, 1) := by decide +kernel
theorem dJ19_keySet_1 : decode cJ19_keySet 1 = .ok (.invokevirtual 113, 3) := by decide +kernel
theorem dJ19_keySet_4 : decode cJ19_keySet 4 = .ok (.areturn, 1) := by decide +kernel
abbrev cJ19_sequencedKeySet : ByteArray := prog_74_method_25_code
def yJ19_sequencedKeySet : MethodName := ⟨RJ19, "sequencedKeySet", "()Ljava/util/SequencedSet;"⟩
def dkwJ19_sequencedKeySet_1 : List UInt8 := [44, 176, 43, 192, 0, 126, 176]
abbrev dktJ19_sequencedKeySet_1 : List UInt8 := dkwJ19_sequencedKeySet_1 ++ []
def dkwJ19_sequencedKeySet_0 : List UInt8 := [42, 180, 0, 117, 76, 43, 199, 0, 20, 187, 0, 121, 89, 42, 3, 183, 0, 123, 77, 42, 44, 181, 0, 117]
abbrev dktJ19_sequencedKeySet_0 : List UInt8 := dkwJ19_sequencedKeySet_0 ++ dktJ19_sequencedKeySet_1
theorem dksJ19_sequencedKeySet_0 : cJ19_sequencedKeySet.data.toList.drop 0 = dktJ19_sequencedKeySet_0 := by decide +kernel
theorem dksJ19_sequencedKeySet_1 : cJ19_sequencedKeySet.data.toList.drop 24 = dktJ19_sequencedKeySet_1 := dk_seg dksJ19_sequencedKeySet_0 24 rfl rfl
theorem dJ19_sequencedKeySet_0 : decode cJ19_sequencedKeySet 0 = .ok (.aload_n 0, 1) := dk_42 (dk_at dksJ19_sequencedKeySet_0 0 rfl rfl)
theorem dJ19_sequencedKeySet_1 : decode cJ19_sequencedKeySet 1 = .ok (.getfield 117, 3) := dk_180 0 117 (dk_at dksJ19_sequencedKeySet_0 1 rfl rfl)
theorem dJ19_sequencedKeySet_4 : decode cJ19_sequencedKeySet 4 = .ok (.astore_n 1, 1) := dk_76 (dk_at dksJ19_sequencedKeySet_0 4 rfl rfl)
theorem dJ19_sequencedKeySet_5 : decode cJ19_sequencedKeySet 5 = .ok (.aload_n 1, 1) := dk_43 (dk_at dksJ19_sequencedKeySet_0 5 rfl rfl)
theorem dJ19_sequencedKeySet_6 : decode cJ19_sequencedKeySet 6 = .ok (.ifnonnull 20, 3) := dk_199 0 20 (dk_at dksJ19_sequencedKeySet_0 6 rfl rfl)
theorem dJ19_sequencedKeySet_9 : decode cJ19_sequencedKeySet 9 = .ok (.new 121, 3) := dk_187 0 121 (dk_at dksJ19_sequencedKeySet_0 9 rfl rfl)
theorem dJ19_sequencedKeySet_12 : decode cJ19_sequencedKeySet 12 = .ok (.dup, 1) := dk_89 (dk_at dksJ19_sequencedKeySet_0 12 rfl rfl)
theorem dJ19_sequencedKeySet_13 : decode cJ19_sequencedKeySet 13 = .ok (.aload_n 0, 1) := dk_42 (dk_at dksJ19_sequencedKeySet_0 13 rfl rfl)
theorem dJ19_sequencedKeySet_14 : decode cJ19_sequencedKeySet 14 = .ok (.iconst 0, 1) := dk_3 (dk_at dksJ19_sequencedKeySet_0 14 rfl rfl)
theorem dJ19_sequencedKeySet_15 : decode cJ19_sequencedKeySet 15 = .ok (.invokespecial 123, 3) := dk_183 0 123 (dk_at dksJ19_sequencedKeySet_0 15 rfl rfl)
theorem dJ19_sequencedKeySet_18 : decode cJ19_sequencedKeySet 18 = .ok (.astore_n 2, 1) := dk_77 (dk_at dksJ19_sequencedKeySet_0 18 rfl rfl)
theorem dJ19_sequencedKeySet_19 : decode cJ19_sequencedKeySet 19 = .ok (.aload_n 0, 1) := dk_42 (dk_at dksJ19_sequencedKeySet_0 19 rfl rfl)
theorem dJ19_sequencedKeySet_20 : decode cJ19_sequencedKeySet 20 = .ok (.aload_n 2, 1) := dk_44 (dk_at dksJ19_sequencedKeySet_0 20 rfl rfl)
theorem dJ19_sequencedKeySet_21 : decode cJ19_sequencedKeySet 21 = .ok (.putfield 117, 3) := dk_181 0 117 (dk_at dksJ19_sequencedKeySet_0 21 rfl rfl)
theorem dJ19_sequencedKeySet_24 : decode cJ19_sequencedKeySet 24 = .ok (.aload_n 2, 1) := dk_44 (dk_at dksJ19_sequencedKeySet_1 0 rfl rfl)
theorem dJ19_sequencedKeySet_25 : decode cJ19_sequencedKeySet 25 = .ok (.areturn, 1) := dk_176 (dk_at dksJ19_sequencedKeySet_1 1 rfl rfl)
theorem dJ19_sequencedKeySet_26 : decode cJ19_sequencedKeySet 26 = .ok (.aload_n 1, 1) := dk_43 (dk_at dksJ19_sequencedKeySet_1 2 rfl rfl)
theorem dJ19_sequencedKeySet_27 : decode cJ19_sequencedKeySet 27 = .ok (.checkcast 126, 3) := dk_192 0 126 (dk_at dksJ19_sequencedKeySet_1 3 rfl rfl)
theorem dJ19_sequencedKeySet_30 : decode cJ19_sequencedKeySet 30 = .ok (.areturn, 1) := dk_176 (dk_at dksJ19_sequencedKeySet_1 6 rfl rfl)
abbrev cJ19_init_2 : ByteArray := prog_74_method_14_code
def yJ19_init_2 : MethodName := ⟨RJ19, "<init>", "(IF)V"⟩
def dkwJ19_init_2_0 : List UInt8 := [42, 27, 36, 183, 0, 81, 42, 3, 181, 0, 1, 42, 3, 181, 0, 64, 177]
abbrev dktJ19_init_2_0 : List UInt8 := dkwJ19_init_2_0 ++ []
theorem dksJ19_init_2_0 : cJ19_init_2.data.toList.drop 0 = dktJ19_init_2_0 := by decide +kernel
theorem dJ19_init_2_0 : decode cJ19_init_2 0 = .ok (.aload_n 0, 1) := dk_42 (dk_at dksJ19_init_2_0 0 rfl rfl)
theorem dJ19_init_2_1 : decode cJ19_init_2 1 = .ok (.iload_n 1, 1) := dk_27 (dk_at dksJ19_init_2_0 1 rfl rfl)
theorem dJ19_init_2_2 : decode cJ19_init_2 2 = .ok (.fload_n 2, 1) := dk_36 (dk_at dksJ19_init_2_0 2 rfl rfl)
theorem dJ19_init_2_3 : decode cJ19_init_2 3 = .ok (.invokespecial 81, 3) := dk_183 0 81 (dk_at dksJ19_init_2_0 3 rfl rfl)
theorem dJ19_init_2_6 : decode cJ19_init_2 6 = .ok (.aload_n 0, 1) := dk_42 (dk_at dksJ19_init_2_0 6 rfl rfl)
theorem dJ19_init_2_7 : decode cJ19_init_2 7 = .ok (.iconst 0, 1) := dk_3 (dk_at dksJ19_init_2_0 7 rfl rfl)
theorem dJ19_init_2_8 : decode cJ19_init_2 8 = .ok (.putfield 1, 3) := dk_181 0 1 (dk_at dksJ19_init_2_0 8 rfl rfl)
theorem dJ19_init_2_11 : decode cJ19_init_2 11 = .ok (.aload_n 0, 1) := dk_42 (dk_at dksJ19_init_2_0 11 rfl rfl)
theorem dJ19_init_2_12 : decode cJ19_init_2 12 = .ok (.iconst 0, 1) := dk_3 (dk_at dksJ19_init_2_0 12 rfl rfl)
theorem dJ19_init_2_13 : decode cJ19_init_2 13 = .ok (.putfield 64, 3) := dk_181 0 64 (dk_at dksJ19_init_2_0 13 rfl rfl)
theorem dJ19_init_2_16 : decode cJ19_init_2 16 = .ok (.return_, 1) := dk_177 (dk_at dksJ19_init_2_0 16 rfl rfl)
abbrev cJ19_replacementNode : ByteArray := prog_74_method_5_code
def yJ19_replacementNode : MethodName := ⟨RJ19, "replacementNode", "(Ljava/util/HashMap$Node;Ljava/util/HashMap$Node;)Ljava/util/HashMap$Node;"⟩
def dkwJ19_replacementNode_1 : List UInt8 := [183, 0, 28, 58, 4, 42, 45, 25, 4, 182, 0, 46, 25, 4, 176]
abbrev dktJ19_replacementNode_1 : List UInt8 := dkwJ19_replacementNode_1 ++ []
def dkwJ19_replacementNode_0 : List UInt8 := [43, 192, 0, 15, 78, 187, 0, 15, 89, 45, 180, 0, 36, 45, 180, 0, 39, 45, 180, 0, 43, 44]
abbrev dktJ19_replacementNode_0 : List UInt8 := dkwJ19_replacementNode_0 ++ dktJ19_replacementNode_1
theorem dksJ19_replacementNode_0 : cJ19_replacementNode.data.toList.drop 0 = dktJ19_replacementNode_0 := by decide +kernel
theorem dksJ19_replacementNode_1 : cJ19_replacementNode.data.toList.drop 22 = dktJ19_replacementNode_1 := dk_seg dksJ19_replacementNode_0 22 rfl rfl
theorem dJ19_replacementNode_0 : decode cJ19_replacementNode 0 = .ok (.aload_n 1, 1) := dk_43 (dk_at dksJ19_replacementNode_0 0 rfl rfl)
theorem dJ19_replacementNode_1 : decode cJ19_replacementNode 1 = .ok (.checkcast 15, 3) := dk_192 0 15 (dk_at dksJ19_replacementNode_0 1 rfl rfl)
theorem dJ19_replacementNode_4 : decode cJ19_replacementNode 4 = .ok (.astore_n 3, 1) := dk_78 (dk_at dksJ19_replacementNode_0 4 rfl rfl)
theorem dJ19_replacementNode_5 : decode cJ19_replacementNode 5 = .ok (.new 15, 3) := dk_187 0 15 (dk_at dksJ19_replacementNode_0 5 rfl rfl)
theorem dJ19_replacementNode_8 : decode cJ19_replacementNode 8 = .ok (.dup, 1) := dk_89 (dk_at dksJ19_replacementNode_0 8 rfl rfl)
theorem dJ19_replacementNode_9 : decode cJ19_replacementNode 9 = .ok (.aload_n 3, 1) := dk_45 (dk_at dksJ19_replacementNode_0 9 rfl rfl)
theorem dJ19_replacementNode_10 : decode cJ19_replacementNode 10 = .ok (.getfield 36, 3) := dk_180 0 36 (dk_at dksJ19_replacementNode_0 10 rfl rfl)
theorem dJ19_replacementNode_13 : decode cJ19_replacementNode 13 = .ok (.aload_n 3, 1) := dk_45 (dk_at dksJ19_replacementNode_0 13 rfl rfl)
theorem dJ19_replacementNode_14 : decode cJ19_replacementNode 14 = .ok (.getfield 39, 3) := dk_180 0 39 (dk_at dksJ19_replacementNode_0 14 rfl rfl)
theorem dJ19_replacementNode_17 : decode cJ19_replacementNode 17 = .ok (.aload_n 3, 1) := dk_45 (dk_at dksJ19_replacementNode_0 17 rfl rfl)
theorem dJ19_replacementNode_18 : decode cJ19_replacementNode 18 = .ok (.getfield 43, 3) := dk_180 0 43 (dk_at dksJ19_replacementNode_0 18 rfl rfl)
theorem dJ19_replacementNode_21 : decode cJ19_replacementNode 21 = .ok (.aload_n 2, 1) := dk_44 (dk_at dksJ19_replacementNode_0 21 rfl rfl)
theorem dJ19_replacementNode_22 : decode cJ19_replacementNode 22 = .ok (.invokespecial 28, 3) := dk_183 0 28 (dk_at dksJ19_replacementNode_1 0 rfl rfl)
theorem dJ19_replacementNode_25 : decode cJ19_replacementNode 25 = .ok (.astore 4, 2) := dk_58 4 (dk_at dksJ19_replacementNode_1 3 rfl rfl)
theorem dJ19_replacementNode_27 : decode cJ19_replacementNode 27 = .ok (.aload_n 0, 1) := dk_42 (dk_at dksJ19_replacementNode_1 5 rfl rfl)
theorem dJ19_replacementNode_28 : decode cJ19_replacementNode 28 = .ok (.aload_n 3, 1) := dk_45 (dk_at dksJ19_replacementNode_1 6 rfl rfl)
theorem dJ19_replacementNode_29 : decode cJ19_replacementNode 29 = .ok (.aload 4, 2) := dk_25 4 (dk_at dksJ19_replacementNode_1 7 rfl rfl)
theorem dJ19_replacementNode_31 : decode cJ19_replacementNode 31 = .ok (.invokevirtual 46, 3) := dk_182 0 46 (dk_at dksJ19_replacementNode_1 9 rfl rfl)
theorem dJ19_replacementNode_34 : decode cJ19_replacementNode 34 = .ok (.aload 4, 2) := dk_25 4 (dk_at dksJ19_replacementNode_1 12 rfl rfl)
theorem dJ19_replacementNode_36 : decode cJ19_replacementNode 36 = .ok (.areturn, 1) := dk_176 (dk_at dksJ19_replacementNode_1 14 rfl rfl)
abbrev cJ19_transferLinks : ByteArray := prog_74_method_2_code
def yJ19_transferLinks : MethodName := ⟨RJ19, "transferLinks", "(Ljava/util/LinkedHashMap$Entry;Ljava/util/LinkedHashMap$Entry;)V"⟩
def dkwJ19_transferLinks_2 : List UInt8 := [181, 0, 11, 167, 0, 9, 25, 4, 44, 181, 0, 19, 177]
abbrev dktJ19_transferLinks_2 : List UInt8 := dkwJ19_transferLinks_2 ++ []
def dkwJ19_transferLinks_1 : List UInt8 := [199, 0, 11, 42, 44, 181, 0, 7, 167, 0, 8, 45, 44, 181, 0, 14, 25, 4, 199, 0, 11, 42, 44]
abbrev dktJ19_transferLinks_1 : List UInt8 := dkwJ19_transferLinks_1 ++ dktJ19_transferLinks_2
def dkwJ19_transferLinks_0 : List UInt8 := [44, 43, 180, 0, 19, 90, 181, 0, 19, 78, 44, 43, 180, 0, 14, 90, 181, 0, 14, 58, 4, 45]
abbrev dktJ19_transferLinks_0 : List UInt8 := dkwJ19_transferLinks_0 ++ dktJ19_transferLinks_1
theorem dksJ19_transferLinks_0 : cJ19_transferLinks.data.toList.drop 0 = dktJ19_transferLinks_0 := by decide +kernel
theorem dksJ19_transferLinks_1 : cJ19_transferLinks.data.toList.drop 22 = dktJ19_transferLinks_1 := dk_seg dksJ19_transferLinks_0 22 rfl rfl
theorem dksJ19_transferLinks_2 : cJ19_transferLinks.data.toList.drop 45 = dktJ19_transferLinks_2 := dk_seg dksJ19_transferLinks_1 23 rfl rfl
theorem dJ19_transferLinks_0 : decode cJ19_transferLinks 0 = .ok (.aload_n 2, 1) := dk_44 (dk_at dksJ19_transferLinks_0 0 rfl rfl)
theorem dJ19_transferLinks_1 : decode cJ19_transferLinks 1 = .ok (.aload_n 1, 1) := dk_43 (dk_at dksJ19_transferLinks_0 1 rfl rfl)
theorem dJ19_transferLinks_2 : decode cJ19_transferLinks 2 = .ok (.getfield 19, 3) := dk_180 0 19 (dk_at dksJ19_transferLinks_0 2 rfl rfl)
theorem dJ19_transferLinks_5 : decode cJ19_transferLinks 5 = .ok (.dup_x1, 1) := dk_90 (dk_at dksJ19_transferLinks_0 5 rfl rfl)
theorem dJ19_transferLinks_6 : decode cJ19_transferLinks 6 = .ok (.putfield 19, 3) := dk_181 0 19 (dk_at dksJ19_transferLinks_0 6 rfl rfl)
theorem dJ19_transferLinks_9 : decode cJ19_transferLinks 9 = .ok (.astore_n 3, 1) := dk_78 (dk_at dksJ19_transferLinks_0 9 rfl rfl)
theorem dJ19_transferLinks_10 : decode cJ19_transferLinks 10 = .ok (.aload_n 2, 1) := dk_44 (dk_at dksJ19_transferLinks_0 10 rfl rfl)
theorem dJ19_transferLinks_11 : decode cJ19_transferLinks 11 = .ok (.aload_n 1, 1) := dk_43 (dk_at dksJ19_transferLinks_0 11 rfl rfl)
theorem dJ19_transferLinks_12 : decode cJ19_transferLinks 12 = .ok (.getfield 14, 3) := dk_180 0 14 (dk_at dksJ19_transferLinks_0 12 rfl rfl)
theorem dJ19_transferLinks_15 : decode cJ19_transferLinks 15 = .ok (.dup_x1, 1) := dk_90 (dk_at dksJ19_transferLinks_0 15 rfl rfl)
theorem dJ19_transferLinks_16 : decode cJ19_transferLinks 16 = .ok (.putfield 14, 3) := dk_181 0 14 (dk_at dksJ19_transferLinks_0 16 rfl rfl)
theorem dJ19_transferLinks_19 : decode cJ19_transferLinks 19 = .ok (.astore 4, 2) := dk_58 4 (dk_at dksJ19_transferLinks_0 19 rfl rfl)
theorem dJ19_transferLinks_21 : decode cJ19_transferLinks 21 = .ok (.aload_n 3, 1) := dk_45 (dk_at dksJ19_transferLinks_0 21 rfl rfl)
theorem dJ19_transferLinks_22 : decode cJ19_transferLinks 22 = .ok (.ifnonnull 11, 3) := dk_199 0 11 (dk_at dksJ19_transferLinks_1 0 rfl rfl)
theorem dJ19_transferLinks_25 : decode cJ19_transferLinks 25 = .ok (.aload_n 0, 1) := dk_42 (dk_at dksJ19_transferLinks_1 3 rfl rfl)
theorem dJ19_transferLinks_26 : decode cJ19_transferLinks 26 = .ok (.aload_n 2, 1) := dk_44 (dk_at dksJ19_transferLinks_1 4 rfl rfl)
theorem dJ19_transferLinks_27 : decode cJ19_transferLinks 27 = .ok (.putfield 7, 3) := dk_181 0 7 (dk_at dksJ19_transferLinks_1 5 rfl rfl)
theorem dJ19_transferLinks_30 : decode cJ19_transferLinks 30 = .ok (.goto 8, 3) := dk_167 0 8 (dk_at dksJ19_transferLinks_1 8 rfl rfl)
theorem dJ19_transferLinks_33 : decode cJ19_transferLinks 33 = .ok (.aload_n 3, 1) := dk_45 (dk_at dksJ19_transferLinks_1 11 rfl rfl)
theorem dJ19_transferLinks_34 : decode cJ19_transferLinks 34 = .ok (.aload_n 2, 1) := dk_44 (dk_at dksJ19_transferLinks_1 12 rfl rfl)
theorem dJ19_transferLinks_35 : decode cJ19_transferLinks 35 = .ok (.putfield 14, 3) := dk_181 0 14 (dk_at dksJ19_transferLinks_1 13 rfl rfl)
theorem dJ19_transferLinks_38 : decode cJ19_transferLinks 38 = .ok (.aload 4, 2) := dk_25 4 (dk_at dksJ19_transferLinks_1 16 rfl rfl)
theorem dJ19_transferLinks_40 : decode cJ19_transferLinks 40 = .ok (.ifnonnull 11, 3) := dk_199 0 11 (dk_at dksJ19_transferLinks_1 18 rfl rfl)
theorem dJ19_transferLinks_43 : decode cJ19_transferLinks 43 = .ok (.aload_n 0, 1) := dk_42 (dk_at dksJ19_transferLinks_1 21 rfl rfl)
theorem dJ19_transferLinks_44 : decode cJ19_transferLinks 44 = .ok (.aload_n 2, 1) := dk_44 (dk_at dksJ19_transferLinks_1 22 rfl rfl)
theorem dJ19_transferLinks_45 : decode cJ19_transferLinks 45 = .ok (.putfield 11, 3) := dk_181 0 11 (dk_at dksJ19_transferLinks_2 0 rfl rfl)
theorem dJ19_transferLinks_48 : decode cJ19_transferLinks 48 = .ok (.goto 9, 3) := dk_167 0 9 (dk_at dksJ19_transferLinks_2 3 rfl rfl)
theorem dJ19_transferLinks_51 : decode cJ19_transferLinks 51 = .ok (.aload 4, 2) := dk_25 4 (dk_at dksJ19_transferLinks_2 6 rfl rfl)
theorem dJ19_transferLinks_53 : decode cJ19_transferLinks 53 = .ok (.aload_n 2, 1) := dk_44 (dk_at dksJ19_transferLinks_2 8 rfl rfl)
theorem dJ19_transferLinks_54 : decode cJ19_transferLinks 54 = .ok (.putfield 19, 3) := dk_181 0 19 (dk_at dksJ19_transferLinks_2 9 rfl rfl)
theorem dJ19_transferLinks_57 : decode cJ19_transferLinks 57 = .ok (.return_, 1) := dk_177 (dk_at dksJ19_transferLinks_2 12 rfl rfl)
abbrev cJ19_newNode : ByteArray := prog_74_method_4_code
def yJ19_newNode : MethodName := ⟨RJ19, "newNode", "(ILjava/lang/Object;Ljava/lang/Object;Ljava/util/HashMap$Node;)Ljava/util/HashMap$Node;"⟩
def dkwJ19_newNode_0 : List UInt8 := [187, 0, 15, 89, 27, 44, 45, 25, 4, 183, 0, 28, 58, 5, 42, 25, 5, 182, 0, 32, 25, 5, 176]
abbrev dktJ19_newNode_0 : List UInt8 := dkwJ19_newNode_0 ++ []
theorem dksJ19_newNode_0 : cJ19_newNode.data.toList.drop 0 = dktJ19_newNode_0 := by decide +kernel
theorem dJ19_newNode_0 : decode cJ19_newNode 0 = .ok (.new 15, 3) := dk_187 0 15 (dk_at dksJ19_newNode_0 0 rfl rfl)
theorem dJ19_newNode_3 : decode cJ19_newNode 3 = .ok (.dup, 1) := dk_89 (dk_at dksJ19_newNode_0 3 rfl rfl)
theorem dJ19_newNode_4 : decode cJ19_newNode 4 = .ok (.iload_n 1, 1) := dk_27 (dk_at dksJ19_newNode_0 4 rfl rfl)
theorem dJ19_newNode_5 : decode cJ19_newNode 5 = .ok (.aload_n 2, 1) := dk_44 (dk_at dksJ19_newNode_0 5 rfl rfl)
theorem dJ19_newNode_6 : decode cJ19_newNode 6 = .ok (.aload_n 3, 1) := dk_45 (dk_at dksJ19_newNode_0 6 rfl rfl)
theorem dJ19_newNode_7 : decode cJ19_newNode 7 = .ok (.aload 4, 2) := dk_25 4 (dk_at dksJ19_newNode_0 7 rfl rfl)
theorem dJ19_newNode_9 : decode cJ19_newNode 9 = .ok (.invokespecial 28, 3) := dk_183 0 28 (dk_at dksJ19_newNode_0 9 rfl rfl)
theorem dJ19_newNode_12 : decode cJ19_newNode 12 = .ok (.astore 5, 2) := dk_58 5 (dk_at dksJ19_newNode_0 12 rfl rfl)
theorem dJ19_newNode_14 : decode cJ19_newNode 14 = .ok (.aload_n 0, 1) := dk_42 (dk_at dksJ19_newNode_0 14 rfl rfl)
theorem dJ19_newNode_15 : decode cJ19_newNode 15 = .ok (.aload 5, 2) := dk_25 5 (dk_at dksJ19_newNode_0 15 rfl rfl)
theorem dJ19_newNode_17 : decode cJ19_newNode 17 = .ok (.invokevirtual 32, 3) := dk_182 0 32 (dk_at dksJ19_newNode_0 17 rfl rfl)
theorem dJ19_newNode_20 : decode cJ19_newNode 20 = .ok (.aload 5, 2) := dk_25 5 (dk_at dksJ19_newNode_0 20 rfl rfl)
theorem dJ19_newNode_22 : decode cJ19_newNode 22 = .ok (.areturn, 1) := dk_176 (dk_at dksJ19_newNode_0 22 rfl rfl)
abbrev cJ19_linkNodeAtEnd : ByteArray := prog_74_method_1_code
def yJ19_linkNodeAtEnd : MethodName := ⟨RJ19, "linkNodeAtEnd", "(Ljava/util/LinkedHashMap$Entry;)V"⟩
def dkwJ19_linkNodeAtEnd_3 : List UInt8 := [181, 0, 14, 177]
abbrev dktJ19_linkNodeAtEnd_3 : List UInt8 := dkwJ19_linkNodeAtEnd_3 ++ []
def dkwJ19_linkNodeAtEnd_2 : List UInt8 := [42, 43, 181, 0, 11, 44, 199, 0, 11, 42, 43, 181, 0, 7, 167, 0, 13, 43, 44, 181, 0, 19, 44, 43]
abbrev dktJ19_linkNodeAtEnd_2 : List UInt8 := dkwJ19_linkNodeAtEnd_2 ++ dktJ19_linkNodeAtEnd_3
def dkwJ19_linkNodeAtEnd_1 : List UInt8 := [181, 0, 11, 167, 0, 13, 43, 44, 181, 0, 14, 44, 43, 181, 0, 19, 167, 0, 35, 42, 180, 0, 11, 77]
abbrev dktJ19_linkNodeAtEnd_1 : List UInt8 := dkwJ19_linkNodeAtEnd_1 ++ dktJ19_linkNodeAtEnd_2
def dkwJ19_linkNodeAtEnd_0 : List UInt8 := [42, 180, 0, 1, 4, 160, 0, 38, 42, 180, 0, 7, 77, 42, 43, 181, 0, 7, 44, 199, 0, 11, 42, 43]
abbrev dktJ19_linkNodeAtEnd_0 : List UInt8 := dkwJ19_linkNodeAtEnd_0 ++ dktJ19_linkNodeAtEnd_1
theorem dksJ19_linkNodeAtEnd_0 : cJ19_linkNodeAtEnd.data.toList.drop 0 = dktJ19_linkNodeAtEnd_0 := by decide +kernel
theorem dksJ19_linkNodeAtEnd_1 : cJ19_linkNodeAtEnd.data.toList.drop 24 = dktJ19_linkNodeAtEnd_1 := dk_seg dksJ19_linkNodeAtEnd_0 24 rfl rfl
theorem dksJ19_linkNodeAtEnd_2 : cJ19_linkNodeAtEnd.data.toList.drop 48 = dktJ19_linkNodeAtEnd_2 := dk_seg dksJ19_linkNodeAtEnd_1 24 rfl rfl
theorem dksJ19_linkNodeAtEnd_3 : cJ19_linkNodeAtEnd.data.toList.drop 72 = dktJ19_linkNodeAtEnd_3 := dk_seg dksJ19_linkNodeAtEnd_2 24 rfl rfl
theorem dJ19_linkNodeAtEnd_0 : decode cJ19_linkNodeAtEnd 0 = .ok (.aload_n 0, 1) := dk_42 (dk_at dksJ19_linkNodeAtEnd_0 0 rfl rfl)
theorem dJ19_linkNodeAtEnd_1 : decode cJ19_linkNodeAtEnd 1 = .ok (.getfield 1, 3) := dk_180 0 1 (dk_at dksJ19_linkNodeAtEnd_0 1 rfl rfl)
theorem dJ19_linkNodeAtEnd_4 : decode cJ19_linkNodeAtEnd 4 = .ok (.iconst 1, 1) := dk_4 (dk_at dksJ19_linkNodeAtEnd_0 4 rfl rfl)
theorem dJ19_linkNodeAtEnd_5 : decode cJ19_linkNodeAtEnd 5 = .ok (.if_icmp .ne 38, 3) := dk_160 0 38 (dk_at dksJ19_linkNodeAtEnd_0 5 rfl rfl)
theorem dJ19_linkNodeAtEnd_8 : decode cJ19_linkNodeAtEnd 8 = .ok (.aload_n 0, 1) := dk_42 (dk_at dksJ19_linkNodeAtEnd_0 8 rfl rfl)
theorem dJ19_linkNodeAtEnd_9 : decode cJ19_linkNodeAtEnd 9 = .ok (.getfield 7, 3) := dk_180 0 7 (dk_at dksJ19_linkNodeAtEnd_0 9 rfl rfl)
theorem dJ19_linkNodeAtEnd_12 : decode cJ19_linkNodeAtEnd 12 = .ok (.astore_n 2, 1) := dk_77 (dk_at dksJ19_linkNodeAtEnd_0 12 rfl rfl)
theorem dJ19_linkNodeAtEnd_13 : decode cJ19_linkNodeAtEnd 13 = .ok (.aload_n 0, 1) := dk_42 (dk_at dksJ19_linkNodeAtEnd_0 13 rfl rfl)
theorem dJ19_linkNodeAtEnd_14 : decode cJ19_linkNodeAtEnd 14 = .ok (.aload_n 1, 1) := dk_43 (dk_at dksJ19_linkNodeAtEnd_0 14 rfl rfl)
theorem dJ19_linkNodeAtEnd_15 : decode cJ19_linkNodeAtEnd 15 = .ok (.putfield 7, 3) := dk_181 0 7 (dk_at dksJ19_linkNodeAtEnd_0 15 rfl rfl)
theorem dJ19_linkNodeAtEnd_18 : decode cJ19_linkNodeAtEnd 18 = .ok (.aload_n 2, 1) := dk_44 (dk_at dksJ19_linkNodeAtEnd_0 18 rfl rfl)
theorem dJ19_linkNodeAtEnd_19 : decode cJ19_linkNodeAtEnd 19 = .ok (.ifnonnull 11, 3) := dk_199 0 11 (dk_at dksJ19_linkNodeAtEnd_0 19 rfl rfl)
theorem dJ19_linkNodeAtEnd_22 : decode cJ19_linkNodeAtEnd 22 = .ok (.aload_n 0, 1) := dk_42 (dk_at dksJ19_linkNodeAtEnd_0 22 rfl rfl)
theorem dJ19_linkNodeAtEnd_23 : decode cJ19_linkNodeAtEnd 23 = .ok (.aload_n 1, 1) := dk_43 (dk_at dksJ19_linkNodeAtEnd_0 23 rfl rfl)
theorem dJ19_linkNodeAtEnd_24 : decode cJ19_linkNodeAtEnd 24 = .ok (.putfield 11, 3) := dk_181 0 11 (dk_at dksJ19_linkNodeAtEnd_1 0 rfl rfl)
theorem dJ19_linkNodeAtEnd_27 : decode cJ19_linkNodeAtEnd 27 = .ok (.goto 13, 3) := dk_167 0 13 (dk_at dksJ19_linkNodeAtEnd_1 3 rfl rfl)
theorem dJ19_linkNodeAtEnd_30 : decode cJ19_linkNodeAtEnd 30 = .ok (.aload_n 1, 1) := dk_43 (dk_at dksJ19_linkNodeAtEnd_1 6 rfl rfl)
theorem dJ19_linkNodeAtEnd_31 : decode cJ19_linkNodeAtEnd 31 = .ok (.aload_n 2, 1) := dk_44 (dk_at dksJ19_linkNodeAtEnd_1 7 rfl rfl)
theorem dJ19_linkNodeAtEnd_32 : decode cJ19_linkNodeAtEnd 32 = .ok (.putfield 14, 3) := dk_181 0 14 (dk_at dksJ19_linkNodeAtEnd_1 8 rfl rfl)
theorem dJ19_linkNodeAtEnd_35 : decode cJ19_linkNodeAtEnd 35 = .ok (.aload_n 2, 1) := dk_44 (dk_at dksJ19_linkNodeAtEnd_1 11 rfl rfl)
theorem dJ19_linkNodeAtEnd_36 : decode cJ19_linkNodeAtEnd 36 = .ok (.aload_n 1, 1) := dk_43 (dk_at dksJ19_linkNodeAtEnd_1 12 rfl rfl)
theorem dJ19_linkNodeAtEnd_37 : decode cJ19_linkNodeAtEnd 37 = .ok (.putfield 19, 3) := dk_181 0 19 (dk_at dksJ19_linkNodeAtEnd_1 13 rfl rfl)
theorem dJ19_linkNodeAtEnd_40 : decode cJ19_linkNodeAtEnd 40 = .ok (.goto 35, 3) := dk_167 0 35 (dk_at dksJ19_linkNodeAtEnd_1 16 rfl rfl)
theorem dJ19_linkNodeAtEnd_43 : decode cJ19_linkNodeAtEnd 43 = .ok (.aload_n 0, 1) := dk_42 (dk_at dksJ19_linkNodeAtEnd_1 19 rfl rfl)
theorem dJ19_linkNodeAtEnd_44 : decode cJ19_linkNodeAtEnd 44 = .ok (.getfield 11, 3) := dk_180 0 11 (dk_at dksJ19_linkNodeAtEnd_1 20 rfl rfl)
theorem dJ19_linkNodeAtEnd_47 : decode cJ19_linkNodeAtEnd 47 = .ok (.astore_n 2, 1) := dk_77 (dk_at dksJ19_linkNodeAtEnd_1 23 rfl rfl)
theorem dJ19_linkNodeAtEnd_48 : decode cJ19_linkNodeAtEnd 48 = .ok (.aload_n 0, 1) := dk_42 (dk_at dksJ19_linkNodeAtEnd_2 0 rfl rfl)
theorem dJ19_linkNodeAtEnd_49 : decode cJ19_linkNodeAtEnd 49 = .ok (.aload_n 1, 1) := dk_43 (dk_at dksJ19_linkNodeAtEnd_2 1 rfl rfl)
theorem dJ19_linkNodeAtEnd_50 : decode cJ19_linkNodeAtEnd 50 = .ok (.putfield 11, 3) := dk_181 0 11 (dk_at dksJ19_linkNodeAtEnd_2 2 rfl rfl)
theorem dJ19_linkNodeAtEnd_53 : decode cJ19_linkNodeAtEnd 53 = .ok (.aload_n 2, 1) := dk_44 (dk_at dksJ19_linkNodeAtEnd_2 5 rfl rfl)
theorem dJ19_linkNodeAtEnd_54 : decode cJ19_linkNodeAtEnd 54 = .ok (.ifnonnull 11, 3) := dk_199 0 11 (dk_at dksJ19_linkNodeAtEnd_2 6 rfl rfl)
theorem dJ19_linkNodeAtEnd_57 : decode cJ19_linkNodeAtEnd 57 = .ok (.aload_n 0, 1) := dk_42 (dk_at dksJ19_linkNodeAtEnd_2 9 rfl rfl)
theorem dJ19_linkNodeAtEnd_58 : decode cJ19_linkNodeAtEnd 58 = .ok (.aload_n 1, 1) := dk_43 (dk_at dksJ19_linkNodeAtEnd_2 10 rfl rfl)
theorem dJ19_linkNodeAtEnd_59 : decode cJ19_linkNodeAtEnd 59 = .ok (.putfield 7, 3) := dk_181 0 7 (dk_at dksJ19_linkNodeAtEnd_2 11 rfl rfl)
theorem dJ19_linkNodeAtEnd_62 : decode cJ19_linkNodeAtEnd 62 = .ok (.goto 13, 3) := dk_167 0 13 (dk_at dksJ19_linkNodeAtEnd_2 14 rfl rfl)
theorem dJ19_linkNodeAtEnd_65 : decode cJ19_linkNodeAtEnd 65 = .ok (.aload_n 1, 1) := dk_43 (dk_at dksJ19_linkNodeAtEnd_2 17 rfl rfl)
theorem dJ19_linkNodeAtEnd_66 : decode cJ19_linkNodeAtEnd 66 = .ok (.aload_n 2, 1) := dk_44 (dk_at dksJ19_linkNodeAtEnd_2 18 rfl rfl)
theorem dJ19_linkNodeAtEnd_67 : decode cJ19_linkNodeAtEnd 67 = .ok (.putfield 19, 3) := dk_181 0 19 (dk_at dksJ19_linkNodeAtEnd_2 19 rfl rfl)
theorem dJ19_linkNodeAtEnd_70 : decode cJ19_linkNodeAtEnd 70 = .ok (.aload_n 2, 1) := dk_44 (dk_at dksJ19_linkNodeAtEnd_2 22 rfl rfl)
theorem dJ19_linkNodeAtEnd_71 : decode cJ19_linkNodeAtEnd 71 = .ok (.aload_n 1, 1) := dk_43 (dk_at dksJ19_linkNodeAtEnd_2 23 rfl rfl)
theorem dJ19_linkNodeAtEnd_72 : decode cJ19_linkNodeAtEnd 72 = .ok (.putfield 14, 3) := dk_181 0 14 (dk_at dksJ19_linkNodeAtEnd_3 0 rfl rfl)
theorem dJ19_linkNodeAtEnd_75 : decode cJ19_linkNodeAtEnd 75 = .ok (.return_, 1) := dk_177 (dk_at dksJ19_linkNodeAtEnd_3 3 rfl rfl)
abbrev cJ19_newTreeNode : ByteArray := prog_74_method_6_code
def yJ19_newTreeNode : MethodName := ⟨RJ19, "newTreeNode", "(ILjava/lang/Object;Ljava/lang/Object;Ljava/util/HashMap$Node;)Ljava/util/HashMap$TreeNode;"⟩
def dkwJ19_newTreeNode_0 : List UInt8 := [187, 0, 50, 89, 27, 44, 45, 25, 4, 183, 0, 52, 58, 5, 42, 25, 5, 182, 0, 32, 25, 5, 176]
abbrev dktJ19_newTreeNode_0 : List UInt8 := dkwJ19_newTreeNode_0 ++ []
theorem dksJ19_newTreeNode_0 : cJ19_newTreeNode.data.toList.drop 0 = dktJ19_newTreeNode_0 := by decide +kernel
theorem dJ19_newTreeNode_0 : decode cJ19_newTreeNode 0 = .ok (.new 50, 3) := dk_187 0 50 (dk_at dksJ19_newTreeNode_0 0 rfl rfl)
theorem dJ19_newTreeNode_3 : decode cJ19_newTreeNode 3 = .ok (.dup, 1) := dk_89 (dk_at dksJ19_newTreeNode_0 3 rfl rfl)
theorem dJ19_newTreeNode_4 : decode cJ19_newTreeNode 4 = .ok (.iload_n 1, 1) := dk_27 (dk_at dksJ19_newTreeNode_0 4 rfl rfl)
theorem dJ19_newTreeNode_5 : decode cJ19_newTreeNode 5 = .ok (.aload_n 2, 1) := dk_44 (dk_at dksJ19_newTreeNode_0 5 rfl rfl)
theorem dJ19_newTreeNode_6 : decode cJ19_newTreeNode 6 = .ok (.aload_n 3, 1) := dk_45 (dk_at dksJ19_newTreeNode_0 6 rfl rfl)
theorem dJ19_newTreeNode_7 : decode cJ19_newTreeNode 7 = .ok (.aload 4, 2) := dk_25 4 (dk_at dksJ19_newTreeNode_0 7 rfl rfl)
theorem dJ19_newTreeNode_9 : decode cJ19_newTreeNode 9 = .ok (.invokespecial 52, 3) := dk_183 0 52 (dk_at dksJ19_newTreeNode_0 9 rfl rfl)
theorem dJ19_newTreeNode_12 : decode cJ19_newTreeNode 12 = .ok (.astore 5, 2) := dk_58 5 (dk_at dksJ19_newTreeNode_0 12 rfl rfl)
theorem dJ19_newTreeNode_14 : decode cJ19_newTreeNode 14 = .ok (.aload_n 0, 1) := dk_42 (dk_at dksJ19_newTreeNode_0 14 rfl rfl)
theorem dJ19_newTreeNode_15 : decode cJ19_newTreeNode 15 = .ok (.aload 5, 2) := dk_25 5 (dk_at dksJ19_newTreeNode_0 15 rfl rfl)
theorem dJ19_newTreeNode_17 : decode cJ19_newTreeNode 17 = .ok (.invokevirtual 32, 3) := dk_182 0 32 (dk_at dksJ19_newTreeNode_0 17 rfl rfl)
theorem dJ19_newTreeNode_20 : decode cJ19_newTreeNode 20 = .ok (.aload 5, 2) := dk_25 5 (dk_at dksJ19_newTreeNode_0 20 rfl rfl)
theorem dJ19_newTreeNode_22 : decode cJ19_newTreeNode 22 = .ok (.areturn, 1) := dk_176 (dk_at dksJ19_newTreeNode_0 22 rfl rfl)
abbrev cJ19_replacementTreeNode : ByteArray := prog_74_method_7_code
def yJ19_replacementTreeNode : MethodName := ⟨RJ19, "replacementTreeNode", "(Ljava/util/HashMap$Node;Ljava/util/HashMap$Node;)Ljava/util/HashMap$TreeNode;"⟩
def dkwJ19_replacementTreeNode_1 : List UInt8 := [183, 0, 52, 58, 4, 42, 45, 25, 4, 182, 0, 46, 25, 4, 176]
abbrev dktJ19_replacementTreeNode_1 : List UInt8 := dkwJ19_replacementTreeNode_1 ++ []
def dkwJ19_replacementTreeNode_0 : List UInt8 := [43, 192, 0, 15, 78, 187, 0, 50, 89, 45, 180, 0, 36, 45, 180, 0, 39, 45, 180, 0, 43, 44]
abbrev dktJ19_replacementTreeNode_0 : List UInt8 := dkwJ19_replacementTreeNode_0 ++ dktJ19_replacementTreeNode_1
theorem dksJ19_replacementTreeNode_0 : cJ19_replacementTreeNode.data.toList.drop 0 = dktJ19_replacementTreeNode_0 := by decide +kernel
theorem dksJ19_replacementTreeNode_1 : cJ19_replacementTreeNode.data.toList.drop 22 = dktJ19_replacementTreeNode_1 := dk_seg dksJ19_replacementTreeNode_0 22 rfl rfl
theorem dJ19_replacementTreeNode_0 : decode cJ19_replacementTreeNode 0 = .ok (.aload_n 1, 1) := dk_43 (dk_at dksJ19_replacementTreeNode_0 0 rfl rfl)
theorem dJ19_replacementTreeNode_1 : decode cJ19_replacementTreeNode 1 = .ok (.checkcast 15, 3) := dk_192 0 15 (dk_at dksJ19_replacementTreeNode_0 1 rfl rfl)
theorem dJ19_replacementTreeNode_4 : decode cJ19_replacementTreeNode 4 = .ok (.astore_n 3, 1) := dk_78 (dk_at dksJ19_replacementTreeNode_0 4 rfl rfl)
theorem dJ19_replacementTreeNode_5 : decode cJ19_replacementTreeNode 5 = .ok (.new 50, 3) := dk_187 0 50 (dk_at dksJ19_replacementTreeNode_0 5 rfl rfl)
theorem dJ19_replacementTreeNode_8 : decode cJ19_replacementTreeNode 8 = .ok (.dup, 1) := dk_89 (dk_at dksJ19_replacementTreeNode_0 8 rfl rfl)
theorem dJ19_replacementTreeNode_9 : decode cJ19_replacementTreeNode 9 = .ok (.aload_n 3, 1) := dk_45 (dk_at dksJ19_replacementTreeNode_0 9 rfl rfl)
theorem dJ19_replacementTreeNode_10 : decode cJ19_replacementTreeNode 10 = .ok (.getfield 36, 3) := dk_180 0 36 (dk_at dksJ19_replacementTreeNode_0 10 rfl rfl)
theorem dJ19_replacementTreeNode_13 : decode cJ19_replacementTreeNode 13 = .ok (.aload_n 3, 1) := dk_45 (dk_at dksJ19_replacementTreeNode_0 13 rfl rfl)
theorem dJ19_replacementTreeNode_14 : decode cJ19_replacementTreeNode 14 = .ok (.getfield 39, 3) := dk_180 0 39 (dk_at dksJ19_replacementTreeNode_0 14 rfl rfl)
theorem dJ19_replacementTreeNode_17 : decode cJ19_replacementTreeNode 17 = .ok (.aload_n 3, 1) := dk_45 (dk_at dksJ19_replacementTreeNode_0 17 rfl rfl)
theorem dJ19_replacementTreeNode_18 : decode cJ19_replacementTreeNode 18 = .ok (.getfield 43, 3) := dk_180 0 43 (dk_at dksJ19_replacementTreeNode_0 18 rfl rfl)
theorem dJ19_replacementTreeNode_21 : decode cJ19_replacementTreeNode 21 = .ok (.aload_n 2, 1) := dk_44 (dk_at dksJ19_replacementTreeNode_0 21 rfl rfl)
theorem dJ19_replacementTreeNode_22 : decode cJ19_replacementTreeNode 22 = .ok (.invokespecial 52, 3) := dk_183 0 52 (dk_at dksJ19_replacementTreeNode_1 0 rfl rfl)
theorem dJ19_replacementTreeNode_25 : decode cJ19_replacementTreeNode 25 = .ok (.astore 4, 2) := dk_58 4 (dk_at dksJ19_replacementTreeNode_1 3 rfl rfl)
theorem dJ19_replacementTreeNode_27 : decode cJ19_replacementTreeNode 27 = .ok (.aload_n 0, 1) := dk_42 (dk_at dksJ19_replacementTreeNode_1 5 rfl rfl)
theorem dJ19_replacementTreeNode_28 : decode cJ19_replacementTreeNode 28 = .ok (.aload_n 3, 1) := dk_45 (dk_at dksJ19_replacementTreeNode_1 6 rfl rfl)
theorem dJ19_replacementTreeNode_29 : decode cJ19_replacementTreeNode 29 = .ok (.aload 4, 2) := dk_25 4 (dk_at dksJ19_replacementTreeNode_1 7 rfl rfl)
theorem dJ19_replacementTreeNode_31 : decode cJ19_replacementTreeNode 31 = .ok (.invokevirtual 46, 3) := dk_182 0 46 (dk_at dksJ19_replacementTreeNode_1 9 rfl rfl)
theorem dJ19_replacementTreeNode_34 : decode cJ19_replacementTreeNode 34 = .ok (.aload 4, 2) := dk_25 4 (dk_at dksJ19_replacementTreeNode_1 12 rfl rfl)
theorem dJ19_replacementTreeNode_36 : decode cJ19_replacementTreeNode 36 = .ok (.areturn, 1) := dk_176 (dk_at dksJ19_replacementTreeNode_1 14 rfl rfl)
abbrev cJ19_afterNodeAccess : ByteArray := prog_74_method_10_code
def yJ19_afterNodeAccess : MethodName := ⟨RJ19, "afterNodeAccess", "(Ljava/util/HashMap$Node;)V"⟩
def dkwJ19_afterNodeAccess_11 : List UInt8 := [181, 0, 7, 42, 89, 180, 0, 68, 4, 96, 181, 0, 68, 177]
abbrev dktJ19_afterNodeAccess_11 : List UInt8 := dkwJ19_afterNodeAccess_11 ++ []
def dkwJ19_afterNodeAccess_10 : List UInt8 := [25, 4, 181, 0, 11, 167, 0, 15, 25, 4, 45, 181, 0, 14, 45, 25, 4, 181, 0, 19, 42, 25, 4]
abbrev dktJ19_afterNodeAccess_10 : List UInt8 := dkwJ19_afterNodeAccess_10 ++ dktJ19_afterNodeAccess_11
def dkwJ19_afterNodeAccess_9 : List UInt8 := [25, 5, 198, 0, 13, 25, 5, 25, 6, 181, 0, 14, 167, 0, 6, 25, 6, 78, 45, 199, 0, 12, 42]
abbrev dktJ19_afterNodeAccess_9 : List UInt8 := dkwJ19_afterNodeAccess_9 ++ dktJ19_afterNodeAccess_10
def dkwJ19_afterNodeAccess_8 : List UInt8 := [181, 0, 19, 25, 6, 199, 0, 12, 42, 25, 5, 181, 0, 11, 167, 0, 10, 25, 6, 25, 5, 181, 0, 19]
abbrev dktJ19_afterNodeAccess_8 : List UInt8 := dkwJ19_afterNodeAccess_8 ++ dktJ19_afterNodeAccess_9
def dkwJ19_afterNodeAccess_7 : List UInt8 := [43, 192, 0, 15, 58, 4, 25, 4, 180, 0, 19, 58, 5, 25, 4, 180, 0, 14, 58, 6, 25, 4, 1]
abbrev dktJ19_afterNodeAccess_7 : List UInt8 := dkwJ19_afterNodeAccess_7 ++ dktJ19_afterNodeAccess_8
def dkwJ19_afterNodeAccess_6 : List UInt8 := [181, 0, 68, 167, 0, 127, 42, 180, 0, 1, 4, 160, 0, 119, 42, 180, 0, 7, 89, 78, 43, 165, 0, 109]
abbrev dktJ19_afterNodeAccess_6 : List UInt8 := dkwJ19_afterNodeAccess_6 ++ dktJ19_afterNodeAccess_7
def dkwJ19_afterNodeAccess_5 : List UInt8 := [181, 0, 19, 44, 25, 4, 181, 0, 14, 42, 25, 4, 181, 0, 11, 42, 89, 180, 0, 68, 4, 96]
abbrev dktJ19_afterNodeAccess_5 : List UInt8 := dkwJ19_afterNodeAccess_5 ++ dktJ19_afterNodeAccess_6
def dkwJ19_afterNodeAccess_4 : List UInt8 := [167, 0, 6, 25, 5, 77, 44, 199, 0, 12, 42, 25, 4, 181, 0, 7, 167, 0, 15, 25, 4, 44]
abbrev dktJ19_afterNodeAccess_4 : List UInt8 := dkwJ19_afterNodeAccess_4 ++ dktJ19_afterNodeAccess_5
def dkwJ19_afterNodeAccess_3 : List UInt8 := [167, 0, 10, 25, 5, 25, 6, 181, 0, 14, 25, 6, 198, 0, 13, 25, 6, 25, 5, 181, 0, 19]
abbrev dktJ19_afterNodeAccess_3 : List UInt8 := dkwJ19_afterNodeAccess_3 ++ dktJ19_afterNodeAccess_4
def dkwJ19_afterNodeAccess_2 : List UInt8 := [180, 0, 14, 58, 6, 25, 4, 1, 181, 0, 14, 25, 5, 199, 0, 12, 42, 25, 6, 181, 0, 7]
abbrev dktJ19_afterNodeAccess_2 : List UInt8 := dkwJ19_afterNodeAccess_2 ++ dktJ19_afterNodeAccess_3
def dkwJ19_afterNodeAccess_1 : List UInt8 := [180, 0, 11, 89, 77, 43, 165, 0, 112, 43, 192, 0, 15, 58, 4, 25, 4, 180, 0, 19, 58, 5, 25, 4]
abbrev dktJ19_afterNodeAccess_1 : List UInt8 := dkwJ19_afterNodeAccess_1 ++ dktJ19_afterNodeAccess_2
def dkwJ19_afterNodeAccess_0 : List UInt8 := [42, 180, 0, 1, 5, 159, 0, 17, 42, 180, 0, 1, 154, 0, 129, 42, 180, 0, 64, 153, 0, 122, 42]
abbrev dktJ19_afterNodeAccess_0 : List UInt8 := dkwJ19_afterNodeAccess_0 ++ dktJ19_afterNodeAccess_1
theorem dksJ19_afterNodeAccess_0 : cJ19_afterNodeAccess.data.toList.drop 0 = dktJ19_afterNodeAccess_0 := by decide +kernel
theorem dksJ19_afterNodeAccess_1 : cJ19_afterNodeAccess.data.toList.drop 23 = dktJ19_afterNodeAccess_1 := dk_seg dksJ19_afterNodeAccess_0 23 rfl rfl
theorem dksJ19_afterNodeAccess_2 : cJ19_afterNodeAccess.data.toList.drop 47 = dktJ19_afterNodeAccess_2 := dk_seg dksJ19_afterNodeAccess_1 24 rfl rfl
theorem dksJ19_afterNodeAccess_3 : cJ19_afterNodeAccess.data.toList.drop 69 = dktJ19_afterNodeAccess_3 := dk_seg dksJ19_afterNodeAccess_2 22 rfl rfl
theorem dksJ19_afterNodeAccess_4 : cJ19_afterNodeAccess.data.toList.drop 91 = dktJ19_afterNodeAccess_4 := dk_seg dksJ19_afterNodeAccess_3 22 rfl rfl
theorem dksJ19_afterNodeAccess_5 : cJ19_afterNodeAccess.data.toList.drop 113 = dktJ19_afterNodeAccess_5 := dk_seg dksJ19_afterNodeAccess_4 22 rfl rfl
theorem dksJ19_afterNodeAccess_6 : cJ19_afterNodeAccess.data.toList.drop 135 = dktJ19_afterNodeAccess_6 := dk_seg dksJ19_afterNodeAccess_5 22 rfl rfl
theorem dksJ19_afterNodeAccess_7 : cJ19_afterNodeAccess.data.toList.drop 159 = dktJ19_afterNodeAccess_7 := dk_seg dksJ19_afterNodeAccess_6 24 rfl rfl
theorem dksJ19_afterNodeAccess_8 : cJ19_afterNodeAccess.data.toList.drop 182 = dktJ19_afterNodeAccess_8 := dk_seg dksJ19_afterNodeAccess_7 23 rfl rfl
theorem dksJ19_afterNodeAccess_9 : cJ19_afterNodeAccess.data.toList.drop 206 = dktJ19_afterNodeAccess_9 := dk_seg dksJ19_afterNodeAccess_8 24 rfl rfl
theorem dksJ19_afterNodeAccess_10 : cJ19_afterNodeAccess.data.toList.drop 229 = dktJ19_afterNodeAccess_10 := dk_seg dksJ19_afterNodeAccess_9 23 rfl rfl
theorem dksJ19_afterNodeAccess_11 : cJ19_afterNodeAccess.data.toList.drop 252 = dktJ19_afterNodeAccess_11 := dk_seg dksJ19_afterNodeAccess_10 23 rfl rfl
theorem dJ19_afterNodeAccess_0 : decode cJ19_afterNodeAccess 0 = .ok (.aload_n 0, 1) := dk_42 (dk_at dksJ19_afterNodeAccess_0 0 rfl rfl)
theorem dJ19_afterNodeAccess_1 : decode cJ19_afterNodeAccess 1 = .ok (.getfield 1, 3) := dk_180 0 1 (dk_at dksJ19_afterNodeAccess_0 1 rfl rfl)
theorem dJ19_afterNodeAccess_4 : decode cJ19_afterNodeAccess 4 = .ok (.iconst 2, 1) := dk_5 (dk_at dksJ19_afterNodeAccess_0 4 rfl rfl)
theorem dJ19_afterNodeAccess_5 : decode cJ19_afterNodeAccess 5 = .ok (.if_icmp .eq 17, 3) := dk_159 0 17 (dk_at dksJ19_afterNodeAccess_0 5 rfl rfl)
theorem dJ19_afterNodeAccess_8 : decode cJ19_afterNodeAccess 8 = .ok (.aload_n 0, 1) := dk_42 (dk_at dksJ19_afterNodeAccess_0 8 rfl rfl)
theorem dJ19_afterNodeAccess_9 : decode cJ19_afterNodeAccess 9 = .ok (.getfield 1, 3) := dk_180 0 1 (dk_at dksJ19_afterNodeAccess_0 9 rfl rfl)
theorem dJ19_afterNodeAccess_12 : decode cJ19_afterNodeAccess 12 = .ok (.ifCond .ne 129, 3) := dk_154 0 129 (dk_at dksJ19_afterNodeAccess_0 12 rfl rfl)
theorem dJ19_afterNodeAccess_15 : decode cJ19_afterNodeAccess 15 = .ok (.aload_n 0, 1) := dk_42 (dk_at dksJ19_afterNodeAccess_0 15 rfl rfl)
theorem dJ19_afterNodeAccess_16 : decode cJ19_afterNodeAccess 16 = .ok (.getfield 64, 3) := dk_180 0 64 (dk_at dksJ19_afterNodeAccess_0 16 rfl rfl)
theorem dJ19_afterNodeAccess_19 : decode cJ19_afterNodeAccess 19 = .ok (.ifCond .eq 122, 3) := dk_153 0 122 (dk_at dksJ19_afterNodeAccess_0 19 rfl rfl)
theorem dJ19_afterNodeAccess_22 : decode cJ19_afterNodeAccess 22 = .ok (.aload_n 0, 1) := dk_42 (dk_at dksJ19_afterNodeAccess_0 22 rfl rfl)
theorem dJ19_afterNodeAccess_23 : decode cJ19_afterNodeAccess 23 = .ok (.getfield 11, 3) := dk_180 0 11 (dk_at dksJ19_afterNodeAccess_1 0 rfl rfl)
theorem dJ19_afterNodeAccess_26 : decode cJ19_afterNodeAccess 26 = .ok (.dup, 1) := dk_89 (dk_at dksJ19_afterNodeAccess_1 3 rfl rfl)
theorem dJ19_afterNodeAccess_27 : decode cJ19_afterNodeAccess 27 = .ok (.astore_n 2, 1) := dk_77 (dk_at dksJ19_afterNodeAccess_1 4 rfl rfl)
theorem dJ19_afterNodeAccess_28 : decode cJ19_afterNodeAccess 28 = .ok (.aload_n 1, 1) := dk_43 (dk_at dksJ19_afterNodeAccess_1 5 rfl rfl)
theorem dJ19_afterNodeAccess_29 : decode cJ19_afterNodeAccess 29 = .ok (.if_acmp .eq 112, 3) := dk_165 0 112 (dk_at dksJ19_afterNodeAccess_1 6 rfl rfl)
theorem dJ19_afterNodeAccess_32 : decode cJ19_afterNodeAccess 32 = .ok (.aload_n 1, 1) := dk_43 (dk_at dksJ19_afterNodeAccess_1 9 rfl rfl)
theorem dJ19_afterNodeAccess_33 : decode cJ19_afterNodeAccess 33 = .ok (.checkcast 15, 3) := dk_192 0 15 (dk_at dksJ19_afterNodeAccess_1 10 rfl rfl)
theorem dJ19_afterNodeAccess_36 : decode cJ19_afterNodeAccess 36 = .ok (.astore 4, 2) := dk_58 4 (dk_at dksJ19_afterNodeAccess_1 13 rfl rfl)
theorem dJ19_afterNodeAccess_38 : decode cJ19_afterNodeAccess 38 = .ok (.aload 4, 2) := dk_25 4 (dk_at dksJ19_afterNodeAccess_1 15 rfl rfl)
theorem dJ19_afterNodeAccess_40 : decode cJ19_afterNodeAccess 40 = .ok (.getfield 19, 3) := dk_180 0 19 (dk_at dksJ19_afterNodeAccess_1 17 rfl rfl)
theorem dJ19_afterNodeAccess_43 : decode cJ19_afterNodeAccess 43 = .ok (.astore 5, 2) := dk_58 5 (dk_at dksJ19_afterNodeAccess_1 20 rfl rfl)
theorem dJ19_afterNodeAccess_45 : decode cJ19_afterNodeAccess 45 = .ok (.aload 4, 2) := dk_25 4 (dk_at dksJ19_afterNodeAccess_1 22 rfl rfl)
theorem dJ19_afterNodeAccess_47 : decode cJ19_afterNodeAccess 47 = .ok (.getfield 14, 3) := dk_180 0 14 (dk_at dksJ19_afterNodeAccess_2 0 rfl rfl)
theorem dJ19_afterNodeAccess_50 : decode cJ19_afterNodeAccess 50 = .ok (.astore 6, 2) := dk_58 6 (dk_at dksJ19_afterNodeAccess_2 3 rfl rfl)
theorem dJ19_afterNodeAccess_52 : decode cJ19_afterNodeAccess 52 = .ok (.aload 4, 2) := dk_25 4 (dk_at dksJ19_afterNodeAccess_2 5 rfl rfl)
theorem dJ19_afterNodeAccess_54 : decode cJ19_afterNodeAccess 54 = .ok (.aconst_null, 1) := dk_1 (dk_at dksJ19_afterNodeAccess_2 7 rfl rfl)
theorem dJ19_afterNodeAccess_55 : decode cJ19_afterNodeAccess 55 = .ok (.putfield 14, 3) := dk_181 0 14 (dk_at dksJ19_afterNodeAccess_2 8 rfl rfl)
theorem dJ19_afterNodeAccess_58 : decode cJ19_afterNodeAccess 58 = .ok (.aload 5, 2) := dk_25 5 (dk_at dksJ19_afterNodeAccess_2 11 rfl rfl)
theorem dJ19_afterNodeAccess_60 : decode cJ19_afterNodeAccess 60 = .ok (.ifnonnull 12, 3) := dk_199 0 12 (dk_at dksJ19_afterNodeAccess_2 13 rfl rfl)
theorem dJ19_afterNodeAccess_63 : decode cJ19_afterNodeAccess 63 = .ok (.aload_n 0, 1) := dk_42 (dk_at dksJ19_afterNodeAccess_2 16 rfl rfl)
theorem dJ19_afterNodeAccess_64 : decode cJ19_afterNodeAccess 64 = .ok (.aload 6, 2) := dk_25 6 (dk_at dksJ19_afterNodeAccess_2 17 rfl rfl)
theorem dJ19_afterNodeAccess_66 : decode cJ19_afterNodeAccess 66 = .ok (.putfield 7, 3) := dk_181 0 7 (dk_at dksJ19_afterNodeAccess_2 19 rfl rfl)
theorem dJ19_afterNodeAccess_69 : decode cJ19_afterNodeAccess 69 = .ok (.goto 10, 3) := dk_167 0 10 (dk_at dksJ19_afterNodeAccess_3 0 rfl rfl)
theorem dJ19_afterNodeAccess_72 : decode cJ19_afterNodeAccess 72 = .ok (.aload 5, 2) := dk_25 5 (dk_at dksJ19_afterNodeAccess_3 3 rfl rfl)
theorem dJ19_afterNodeAccess_74 : decode cJ19_afterNodeAccess 74 = .ok (.aload 6, 2) := dk_25 6 (dk_at dksJ19_afterNodeAccess_3 5 rfl rfl)
theorem dJ19_afterNodeAccess_76 : decode cJ19_afterNodeAccess 76 = .ok (.putfield 14, 3) := dk_181 0 14 (dk_at dksJ19_afterNodeAccess_3 7 rfl rfl)
theorem dJ19_afterNodeAccess_79 : decode cJ19_afterNodeAccess 79 = .ok (.aload 6, 2) := dk_25 6 (dk_at dksJ19_afterNodeAccess_3 10 rfl rfl)
theorem dJ19_afterNodeAccess_81 : decode cJ19_afterNodeAccess 81 = .ok (.ifnull 13, 3) := dk_198 0 13 (dk_at dksJ19_afterNodeAccess_3 12 rfl rfl)
theorem dJ19_afterNodeAccess_84 : decode cJ19_afterNodeAccess 84 = .ok (.aload 6, 2) := dk_25 6 (dk_at dksJ19_afterNodeAccess_3 15 rfl rfl)
theorem dJ19_afterNodeAccess_86 : decode cJ19_afterNodeAccess 86 = .ok (.aload 5, 2) := dk_25 5 (dk_at dksJ19_afterNodeAccess_3 17 rfl rfl)
theorem dJ19_afterNodeAccess_88 : decode cJ19_afterNodeAccess 88 = .ok (.putfield 19, 3) := dk_181 0 19 (dk_at dksJ19_afterNodeAccess_3 19 rfl rfl)
theorem dJ19_afterNodeAccess_91 : decode cJ19_afterNodeAccess 91 = .ok (.goto 6, 3) := dk_167 0 6 (dk_at dksJ19_afterNodeAccess_4 0 rfl rfl)
theorem dJ19_afterNodeAccess_94 : decode cJ19_afterNodeAccess 94 = .ok (.aload 5, 2) := dk_25 5 (dk_at dksJ19_afterNodeAccess_4 3 rfl rfl)
theorem dJ19_afterNodeAccess_96 : decode cJ19_afterNodeAccess 96 = .ok (.astore_n 2, 1) := dk_77 (dk_at dksJ19_afterNodeAccess_4 5 rfl rfl)
theorem dJ19_afterNodeAccess_97 : decode cJ19_afterNodeAccess 97 = .ok (.aload_n 2, 1) := dk_44 (dk_at dksJ19_afterNodeAccess_4 6 rfl rfl)
theorem dJ19_afterNodeAccess_98 : decode cJ19_afterNodeAccess 98 = .ok (.ifnonnull 12, 3) := dk_199 0 12 (dk_at dksJ19_afterNodeAccess_4 7 rfl rfl)
theorem dJ19_afterNodeAccess_101 : decode cJ19_afterNodeAccess 101 = .ok (.aload_n 0, 1) := dk_42 (dk_at dksJ19_afterNodeAccess_4 10 rfl rfl)
theorem dJ19_afterNodeAccess_102 : decode cJ19_afterNodeAccess 102 = .ok (.aload 4, 2) := dk_25 4 (dk_at dksJ19_afterNodeAccess_4 11 rfl rfl)
theorem dJ19_afterNodeAccess_104 : decode cJ19_afterNodeAccess 104 = .ok (.putfield 7, 3) := dk_181 0 7 (dk_at dksJ19_afterNodeAccess_4 13 rfl rfl)
theorem dJ19_afterNodeAccess_107 : decode cJ19_afterNodeAccess 107 = .ok (.goto 15, 3) := dk_167 0 15 (dk_at dksJ19_afterNodeAccess_4 16 rfl rfl)
theorem dJ19_afterNodeAccess_110 : decode cJ19_afterNodeAccess 110 = .ok (.aload 4, 2) := dk_25 4 (dk_at dksJ19_afterNodeAccess_4 19 rfl rfl)
theorem dJ19_afterNodeAccess_112 : decode cJ19_afterNodeAccess 112 = .ok (.aload_n 2, 1) := dk_44 (dk_at dksJ19_afterNodeAccess_4 21 rfl rfl)
theorem dJ19_afterNodeAccess_113 : decode cJ19_afterNodeAccess 113 = .ok (.putfield 19, 3) := dk_181 0 19 (dk_at dksJ19_afterNodeAccess_5 0 rfl rfl)
theorem dJ19_afterNodeAccess_116 : decode cJ19_afterNodeAccess 116 = .ok (.aload_n 2, 1) := dk_44 (dk_at dksJ19_afterNodeAccess_5 3 rfl rfl)
theorem dJ19_afterNodeAccess_117 : decode cJ19_afterNodeAccess 117 = .ok (.aload 4, 2) := dk_25 4 (dk_at dksJ19_afterNodeAccess_5 4 rfl rfl)
theorem dJ19_afterNodeAccess_119 : decode cJ19_afterNodeAccess 119 = .ok (.putfield 14, 3) := dk_181 0 14 (dk_at dksJ19_afterNodeAccess_5 6 rfl rfl)
theorem dJ19_afterNodeAccess_122 : decode cJ19_afterNodeAccess 122 = .ok (.aload_n 0, 1) := dk_42 (dk_at dksJ19_afterNodeAccess_5 9 rfl rfl)
theorem dJ19_afterNodeAccess_123 : decode cJ19_afterNodeAccess 123 = .ok (.aload 4, 2) := dk_25 4 (dk_at dksJ19_afterNodeAccess_5 10 rfl rfl)
theorem dJ19_afterNodeAccess_125 : decode cJ19_afterNodeAccess 125 = .ok (.putfield 11, 3) := dk_181 0 11 (dk_at dksJ19_afterNodeAccess_5 12 rfl rfl)
theorem dJ19_afterNodeAccess_128 : decode cJ19_afterNodeAccess 128 = .ok (.aload_n 0, 1) := dk_42 (dk_at dksJ19_afterNodeAccess_5 15 rfl rfl)
theorem dJ19_afterNodeAccess_129 : decode cJ19_afterNodeAccess 129 = .ok (.dup, 1) := dk_89 (dk_at dksJ19_afterNodeAccess_5 16 rfl rfl)
theorem dJ19_afterNodeAccess_130 : decode cJ19_afterNodeAccess 130 = .ok (.getfield 68, 3) := dk_180 0 68 (dk_at dksJ19_afterNodeAccess_5 17 rfl rfl)
theorem dJ19_afterNodeAccess_133 : decode cJ19_afterNodeAccess 133 = .ok (.iconst 1, 1) := dk_4 (dk_at dksJ19_afterNodeAccess_5 20 rfl rfl)
theorem dJ19_afterNodeAccess_134 : decode cJ19_afterNodeAccess 134 = .ok (.iadd, 1) := dk_96 (dk_at dksJ19_afterNodeAccess_5 21 rfl rfl)
theorem dJ19_afterNodeAccess_135 : decode cJ19_afterNodeAccess 135 = .ok (.putfield 68, 3) := dk_181 0 68 (dk_at dksJ19_afterNodeAccess_6 0 rfl rfl)
theorem dJ19_afterNodeAccess_138 : decode cJ19_afterNodeAccess 138 = .ok (.goto 127, 3) := dk_167 0 127 (dk_at dksJ19_afterNodeAccess_6 3 rfl rfl)
theorem dJ19_afterNodeAccess_141 : decode cJ19_afterNodeAccess 141 = .ok (.aload_n 0, 1) := dk_42 (dk_at dksJ19_afterNodeAccess_6 6 rfl rfl)
theorem dJ19_afterNodeAccess_142 : decode cJ19_afterNodeAccess 142 = .ok (.getfield 1, 3) := dk_180 0 1 (dk_at dksJ19_afterNodeAccess_6 7 rfl rfl)
theorem dJ19_afterNodeAccess_145 : decode cJ19_afterNodeAccess 145 = .ok (.iconst 1, 1) := dk_4 (dk_at dksJ19_afterNodeAccess_6 10 rfl rfl)
theorem dJ19_afterNodeAccess_146 : decode cJ19_afterNodeAccess 146 = .ok (.if_icmp .ne 119, 3) := dk_160 0 119 (dk_at dksJ19_afterNodeAccess_6 11 rfl rfl)
theorem dJ19_afterNodeAccess_149 : decode cJ19_afterNodeAccess 149 = .ok (.aload_n 0, 1) := dk_42 (dk_at dksJ19_afterNodeAccess_6 14 rfl rfl)
theorem dJ19_afterNodeAccess_150 : decode cJ19_afterNodeAccess 150 = .ok (.getfield 7, 3) := dk_180 0 7 (dk_at dksJ19_afterNodeAccess_6 15 rfl rfl)
theorem dJ19_afterNodeAccess_153 : decode cJ19_afterNodeAccess 153 = .ok (.dup, 1) := dk_89 (dk_at dksJ19_afterNodeAccess_6 18 rfl rfl)
theorem dJ19_afterNodeAccess_154 : decode cJ19_afterNodeAccess 154 = .ok (.astore_n 3, 1) := dk_78 (dk_at dksJ19_afterNodeAccess_6 19 rfl rfl)
theorem dJ19_afterNodeAccess_155 : decode cJ19_afterNodeAccess 155 = .ok (.aload_n 1, 1) := dk_43 (dk_at dksJ19_afterNodeAccess_6 20 rfl rfl)
theorem dJ19_afterNodeAccess_156 : decode cJ19_afterNodeAccess 156 = .ok (.if_acmp .eq 109, 3) := dk_165 0 109 (dk_at dksJ19_afterNodeAccess_6 21 rfl rfl)
theorem dJ19_afterNodeAccess_159 : decode cJ19_afterNodeAccess 159 = .ok (.aload_n 1, 1) := dk_43 (dk_at dksJ19_afterNodeAccess_7 0 rfl rfl)
theorem dJ19_afterNodeAccess_160 : decode cJ19_afterNodeAccess 160 = .ok (.checkcast 15, 3) := dk_192 0 15 (dk_at dksJ19_afterNodeAccess_7 1 rfl rfl)
theorem dJ19_afterNodeAccess_163 : decode cJ19_afterNodeAccess 163 = .ok (.astore 4, 2) := dk_58 4 (dk_at dksJ19_afterNodeAccess_7 4 rfl rfl)
theorem dJ19_afterNodeAccess_165 : decode cJ19_afterNodeAccess 165 = .ok (.aload 4, 2) := dk_25 4 (dk_at dksJ19_afterNodeAccess_7 6 rfl rfl)
theorem dJ19_afterNodeAccess_167 : decode cJ19_afterNodeAccess 167 = .ok (.getfield 19, 3) := dk_180 0 19 (dk_at dksJ19_afterNodeAccess_7 8 rfl rfl)
theorem dJ19_afterNodeAccess_170 : decode cJ19_afterNodeAccess 170 = .ok (.astore 5, 2) := dk_58 5 (dk_at dksJ19_afterNodeAccess_7 11 rfl rfl)
theorem dJ19_afterNodeAccess_172 : decode cJ19_afterNodeAccess 172 = .ok (.aload 4, 2) := dk_25 4 (dk_at dksJ19_afterNodeAccess_7 13 rfl rfl)
theorem dJ19_afterNodeAccess_174 : decode cJ19_afterNodeAccess 174 = .ok (.getfield 14, 3) := dk_180 0 14 (dk_at dksJ19_afterNodeAccess_7 15 rfl rfl)
theorem dJ19_afterNodeAccess_177 : decode cJ19_afterNodeAccess 177 = .ok (.astore 6, 2) := dk_58 6 (dk_at dksJ19_afterNodeAccess_7 18 rfl rfl)
theorem dJ19_afterNodeAccess_179 : decode cJ19_afterNodeAccess 179 = .ok (.aload 4, 2) := dk_25 4 (dk_at dksJ19_afterNodeAccess_7 20 rfl rfl)
theorem dJ19_afterNodeAccess_181 : decode cJ19_afterNodeAccess 181 = .ok (.aconst_null, 1) := dk_1 (dk_at dksJ19_afterNodeAccess_7 22 rfl rfl)
theorem dJ19_afterNodeAccess_182 : decode cJ19_afterNodeAccess 182 = .ok (.putfield 19, 3) := dk_181 0 19 (dk_at dksJ19_afterNodeAccess_8 0 rfl rfl)
theorem dJ19_afterNodeAccess_185 : decode cJ19_afterNodeAccess 185 = .ok (.aload 6, 2) := dk_25 6 (dk_at dksJ19_afterNodeAccess_8 3 rfl rfl)
theorem dJ19_afterNodeAccess_187 : decode cJ19_afterNodeAccess 187 = .ok (.ifnonnull 12, 3) := dk_199 0 12 (dk_at dksJ19_afterNodeAccess_8 5 rfl rfl)
theorem dJ19_afterNodeAccess_190 : decode cJ19_afterNodeAccess 190 = .ok (.aload_n 0, 1) := dk_42 (dk_at dksJ19_afterNodeAccess_8 8 rfl rfl)
theorem dJ19_afterNodeAccess_191 : decode cJ19_afterNodeAccess 191 = .ok (.aload 5, 2) := dk_25 5 (dk_at dksJ19_afterNodeAccess_8 9 rfl rfl)
theorem dJ19_afterNodeAccess_193 : decode cJ19_afterNodeAccess 193 = .ok (.putfield 11, 3) := dk_181 0 11 (dk_at dksJ19_afterNodeAccess_8 11 rfl rfl)
theorem dJ19_afterNodeAccess_196 : decode cJ19_afterNodeAccess 196 = .ok (.goto 10, 3) := dk_167 0 10 (dk_at dksJ19_afterNodeAccess_8 14 rfl rfl)
theorem dJ19_afterNodeAccess_199 : decode cJ19_afterNodeAccess 199 = .ok (.aload 6, 2) := dk_25 6 (dk_at dksJ19_afterNodeAccess_8 17 rfl rfl)
theorem dJ19_afterNodeAccess_201 : decode cJ19_afterNodeAccess 201 = .ok (.aload 5, 2) := dk_25 5 (dk_at dksJ19_afterNodeAccess_8 19 rfl rfl)
theorem dJ19_afterNodeAccess_203 : decode cJ19_afterNodeAccess 203 = .ok (.putfield 19, 3) := dk_181 0 19 (dk_at dksJ19_afterNodeAccess_8 21 rfl rfl)
theorem dJ19_afterNodeAccess_206 : decode cJ19_afterNodeAccess 206 = .ok (.aload 5, 2) := dk_25 5 (dk_at dksJ19_afterNodeAccess_9 0 rfl rfl)
theorem dJ19_afterNodeAccess_208 : decode cJ19_afterNodeAccess 208 = .ok (.ifnull 13, 3) := dk_198 0 13 (dk_at dksJ19_afterNodeAccess_9 2 rfl rfl)
theorem dJ19_afterNodeAccess_211 : decode cJ19_afterNodeAccess 211 = .ok (.aload 5, 2) := dk_25 5 (dk_at dksJ19_afterNodeAccess_9 5 rfl rfl)
theorem dJ19_afterNodeAccess_213 : decode cJ19_afterNodeAccess 213 = .ok (.aload 6, 2) := dk_25 6 (dk_at dksJ19_afterNodeAccess_9 7 rfl rfl)
theorem dJ19_afterNodeAccess_215 : decode cJ19_afterNodeAccess 215 = .ok (.putfield 14, 3) := dk_181 0 14 (dk_at dksJ19_afterNodeAccess_9 9 rfl rfl)
theorem dJ19_afterNodeAccess_218 : decode cJ19_afterNodeAccess 218 = .ok (.goto 6, 3) := dk_167 0 6 (dk_at dksJ19_afterNodeAccess_9 12 rfl rfl)
theorem dJ19_afterNodeAccess_221 : decode cJ19_afterNodeAccess 221 = .ok (.aload 6, 2) := dk_25 6 (dk_at dksJ19_afterNodeAccess_9 15 rfl rfl)
theorem dJ19_afterNodeAccess_223 : decode cJ19_afterNodeAccess 223 = .ok (.astore_n 3, 1) := dk_78 (dk_at dksJ19_afterNodeAccess_9 17 rfl rfl)
theorem dJ19_afterNodeAccess_224 : decode cJ19_afterNodeAccess 224 = .ok (.aload_n 3, 1) := dk_45 (dk_at dksJ19_afterNodeAccess_9 18 rfl rfl)
theorem dJ19_afterNodeAccess_225 : decode cJ19_afterNodeAccess 225 = .ok (.ifnonnull 12, 3) := dk_199 0 12 (dk_at dksJ19_afterNodeAccess_9 19 rfl rfl)
theorem dJ19_afterNodeAccess_228 : decode cJ19_afterNodeAccess 228 = .ok (.aload_n 0, 1) := dk_42 (dk_at dksJ19_afterNodeAccess_9 22 rfl rfl)
theorem dJ19_afterNodeAccess_229 : decode cJ19_afterNodeAccess 229 = .ok (.aload 4, 2) := dk_25 4 (dk_at dksJ19_afterNodeAccess_10 0 rfl rfl)
theorem dJ19_afterNodeAccess_231 : decode cJ19_afterNodeAccess 231 = .ok (.putfield 11, 3) := dk_181 0 11 (dk_at dksJ19_afterNodeAccess_10 2 rfl rfl)
theorem dJ19_afterNodeAccess_234 : decode cJ19_afterNodeAccess 234 = .ok (.goto 15, 3) := dk_167 0 15 (dk_at dksJ19_afterNodeAccess_10 5 rfl rfl)
theorem dJ19_afterNodeAccess_237 : decode cJ19_afterNodeAccess 237 = .ok (.aload 4, 2) := dk_25 4 (dk_at dksJ19_afterNodeAccess_10 8 rfl rfl)
theorem dJ19_afterNodeAccess_239 : decode cJ19_afterNodeAccess 239 = .ok (.aload_n 3, 1) := dk_45 (dk_at dksJ19_afterNodeAccess_10 10 rfl rfl)
theorem dJ19_afterNodeAccess_240 : decode cJ19_afterNodeAccess 240 = .ok (.putfield 14, 3) := dk_181 0 14 (dk_at dksJ19_afterNodeAccess_10 11 rfl rfl)
theorem dJ19_afterNodeAccess_243 : decode cJ19_afterNodeAccess 243 = .ok (.aload_n 3, 1) := dk_45 (dk_at dksJ19_afterNodeAccess_10 14 rfl rfl)
theorem dJ19_afterNodeAccess_244 : decode cJ19_afterNodeAccess 244 = .ok (.aload 4, 2) := dk_25 4 (dk_at dksJ19_afterNodeAccess_10 15 rfl rfl)
theorem dJ19_afterNodeAccess_246 : decode cJ19_afterNodeAccess 246 = .ok (.putfield 19, 3) := dk_181 0 19 (dk_at dksJ19_afterNodeAccess_10 17 rfl rfl)
theorem dJ19_afterNodeAccess_249 : decode cJ19_afterNodeAccess 249 = .ok (.aload_n 0, 1) := dk_42 (dk_at dksJ19_afterNodeAccess_10 20 rfl rfl)
theorem dJ19_afterNodeAccess_250 : decode cJ19_afterNodeAccess 250 = .ok (.aload 4, 2) := dk_25 4 (dk_at dksJ19_afterNodeAccess_10 21 rfl rfl)
theorem dJ19_afterNodeAccess_252 : decode cJ19_afterNodeAccess 252 = .ok (.putfield 7, 3) := dk_181 0 7 (dk_at dksJ19_afterNodeAccess_11 0 rfl rfl)
theorem dJ19_afterNodeAccess_255 : decode cJ19_afterNodeAccess 255 = .ok (.aload_n 0, 1) := dk_42 (dk_at dksJ19_afterNodeAccess_11 3 rfl rfl)
theorem dJ19_afterNodeAccess_256 : decode cJ19_afterNodeAccess 256 = .ok (.dup, 1) := dk_89 (dk_at dksJ19_afterNodeAccess_11 4 rfl rfl)
theorem dJ19_afterNodeAccess_257 : decode cJ19_afterNodeAccess 257 = .ok (.getfield 68, 3) := dk_180 0 68 (dk_at dksJ19_afterNodeAccess_11 5 rfl rfl)
theorem dJ19_afterNodeAccess_260 : decode cJ19_afterNodeAccess 260 = .ok (.iconst 1, 1) := dk_4 (dk_at dksJ19_afterNodeAccess_11 8 rfl rfl)
theorem dJ19_afterNodeAccess_261 : decode cJ19_afterNodeAccess 261 = .ok (.iadd, 1) := dk_96 (dk_at dksJ19_afterNodeAccess_11 9 rfl rfl)
theorem dJ19_afterNodeAccess_262 : decode cJ19_afterNodeAccess 262 = .ok (.putfield 68, 3) := dk_181 0 68 (dk_at dksJ19_afterNodeAccess_11 10 rfl rfl)
theorem dJ19_afterNodeAccess_265 : decode cJ19_afterNodeAccess 265 = .ok (.return_, 1) := dk_177 (dk_at dksJ19_afterNodeAccess_11 13 rfl rfl)
abbrev cJ19_afterNodeInsertion : ByteArray := prog_74_method_9_code
def yJ19_afterNodeInsertion : MethodName := ⟨RJ19, "afterNodeInsertion", "(Z)V"⟩
def dkwJ19_afterNodeInsertion_1 : List UInt8 := [180, 0, 39, 78, 42, 45, 184, 0, 57, 45, 1, 3, 4, 182, 0, 60, 87, 177]
abbrev dktJ19_afterNodeInsertion_1 : List UInt8 := dkwJ19_afterNodeInsertion_1 ++ []
def dkwJ19_afterNodeInsertion_0 : List UInt8 := [27, 153, 0, 38, 42, 180, 0, 7, 89, 77, 198, 0, 29, 42, 44, 182, 0, 53, 153, 0, 21, 44]
abbrev dktJ19_afterNodeInsertion_0 : List UInt8 := dkwJ19_afterNodeInsertion_0 ++ dktJ19_afterNodeInsertion_1
theorem dksJ19_afterNodeInsertion_0 : cJ19_afterNodeInsertion.data.toList.drop 0 = dktJ19_afterNodeInsertion_0 := by decide +kernel
theorem dksJ19_afterNodeInsertion_1 : cJ19_afterNodeInsertion.data.toList.drop 22 = dktJ19_afterNodeInsertion_1 := dk_seg dksJ19_afterNodeInsertion_0 22 rfl rfl
theorem dJ19_afterNodeInsertion_0 : decode cJ19_afterNodeInsertion 0 = .ok (.iload_n 1, 1) := dk_27 (dk_at dksJ19_afterNodeInsertion_0 0 rfl rfl)
theorem dJ19_afterNodeInsertion_1 : decode cJ19_afterNodeInsertion 1 = .ok (.ifCond .eq 38, 3) := dk_153 0 38 (dk_at dksJ19_afterNodeInsertion_0 1 rfl rfl)
theorem dJ19_afterNodeInsertion_4 : decode cJ19_afterNodeInsertion 4 = .ok (.aload_n 0, 1) := dk_42 (dk_at dksJ19_afterNodeInsertion_0 4 rfl rfl)
theorem dJ19_afterNodeInsertion_5 : decode cJ19_afterNodeInsertion 5 = .ok (.getfield 7, 3) := dk_180 0 7 (dk_at dksJ19_afterNodeInsertion_0 5 rfl rfl)
theorem dJ19_afterNodeInsertion_8 : decode cJ19_afterNodeInsertion 8 = .ok (.dup, 1) := dk_89 (dk_at dksJ19_afterNodeInsertion_0 8 rfl rfl)
theorem dJ19_afterNodeInsertion_9 : decode cJ19_afterNodeInsertion 9 = .ok (.astore_n 2, 1) := dk_77 (dk_at dksJ19_afterNodeInsertion_0 9 rfl rfl)
theorem dJ19_afterNodeInsertion_10 : decode cJ19_afterNodeInsertion 10 = .ok (.ifnull 29, 3) := dk_198 0 29 (dk_at dksJ19_afterNodeInsertion_0 10 rfl rfl)
theorem dJ19_afterNodeInsertion_13 : decode cJ19_afterNodeInsertion 13 = .ok (.aload_n 0, 1) := dk_42 (dk_at dksJ19_afterNodeInsertion_0 13 rfl rfl)
theorem dJ19_afterNodeInsertion_14 : decode cJ19_afterNodeInsertion 14 = .ok (.aload_n 2, 1) := dk_44 (dk_at dksJ19_afterNodeInsertion_0 14 rfl rfl)
theorem dJ19_afterNodeInsertion_15 : decode cJ19_afterNodeInsertion 15 = .ok (.invokevirtual 53, 3) := dk_182 0 53 (dk_at dksJ19_afterNodeInsertion_0 15 rfl rfl)
theorem dJ19_afterNodeInsertion_18 : decode cJ19_afterNodeInsertion 18 = .ok (.ifCond .eq 21, 3) := dk_153 0 21 (dk_at dksJ19_afterNodeInsertion_0 18 rfl rfl)
theorem dJ19_afterNodeInsertion_21 : decode cJ19_afterNodeInsertion 21 = .ok (.aload_n 2, 1) := dk_44 (dk_at dksJ19_afterNodeInsertion_0 21 rfl rfl)
theorem dJ19_afterNodeInsertion_22 : decode cJ19_afterNodeInsertion 22 = .ok (.getfield 39, 3) := dk_180 0 39 (dk_at dksJ19_afterNodeInsertion_1 0 rfl rfl)
theorem dJ19_afterNodeInsertion_25 : decode cJ19_afterNodeInsertion 25 = .ok (.astore_n 3, 1) := dk_78 (dk_at dksJ19_afterNodeInsertion_1 3 rfl rfl)
theorem dJ19_afterNodeInsertion_26 : decode cJ19_afterNodeInsertion 26 = .ok (.aload_n 0, 1) := dk_42 (dk_at dksJ19_afterNodeInsertion_1 4 rfl rfl)
theorem dJ19_afterNodeInsertion_27 : decode cJ19_afterNodeInsertion 27 = .ok (.aload_n 3, 1) := dk_45 (dk_at dksJ19_afterNodeInsertion_1 5 rfl rfl)
theorem dJ19_afterNodeInsertion_28 : decode cJ19_afterNodeInsertion 28 = .ok (.invokestatic 57, 3) := dk_184 0 57 (dk_at dksJ19_afterNodeInsertion_1 6 rfl rfl)
theorem dJ19_afterNodeInsertion_31 : decode cJ19_afterNodeInsertion 31 = .ok (.aload_n 3, 1) := dk_45 (dk_at dksJ19_afterNodeInsertion_1 9 rfl rfl)
theorem dJ19_afterNodeInsertion_32 : decode cJ19_afterNodeInsertion 32 = .ok (.aconst_null, 1) := dk_1 (dk_at dksJ19_afterNodeInsertion_1 10 rfl rfl)
theorem dJ19_afterNodeInsertion_33 : decode cJ19_afterNodeInsertion 33 = .ok (.iconst 0, 1) := dk_3 (dk_at dksJ19_afterNodeInsertion_1 11 rfl rfl)
theorem dJ19_afterNodeInsertion_34 : decode cJ19_afterNodeInsertion 34 = .ok (.iconst 1, 1) := dk_4 (dk_at dksJ19_afterNodeInsertion_1 12 rfl rfl)
theorem dJ19_afterNodeInsertion_35 : decode cJ19_afterNodeInsertion 35 = .ok (.invokevirtual 60, 3) := dk_182 0 60 (dk_at dksJ19_afterNodeInsertion_1 13 rfl rfl)
theorem dJ19_afterNodeInsertion_38 : decode cJ19_afterNodeInsertion 38 = .ok (.pop, 1) := dk_87 (dk_at dksJ19_afterNodeInsertion_1 16 rfl rfl)
theorem dJ19_afterNodeInsertion_39 : decode cJ19_afterNodeInsertion 39 = .ok (.return_, 1) := dk_177 (dk_at dksJ19_afterNodeInsertion_1 17 rfl rfl)
abbrev cJ19_removeEldestEntry : ByteArray := prog_74_method_23_code
def yJ19_removeEldestEntry : MethodName := ⟨RJ19, "removeEldestEntry", "(Ljava/util/Map$Entry;)Z"⟩
theorem dJ19_removeEldestEntry_0 : decode cJ19_removeEldestEntry 0 = .ok (.iconst 0, 1) := by decide +kernel
theorem dJ19_removeEldestEntry_1 : decode cJ19_removeEldestEntry 1 = .ok (.ireturn, 1) := by decide +kernel
abbrev cJ19_entrySet : ByteArray := prog_74_method_32_code
def yJ19_entrySet : MethodName := ⟨RJ19, "entrySet", "()Ljava/util/Set;"⟩
theorem dJ19_entrySet_0 : decode cJ19_entrySet 0 = .ok (.aload_n 0, 1) := by decide +kernel
theorem dJ19_entrySet_1 : decode cJ19_entrySet 1 = .ok (.invokevirtual 148, 3) := by decide +kernel
theorem dJ19_entrySet_4 : decode cJ19_entrySet 4 = .ok (.areturn, 1) := by decide +kernel
abbrev cJ19_sequencedEntrySet : ByteArray := prog_74_method_33_code
def yJ19_sequencedEntrySet : MethodName := ⟨RJ19, "sequencedEntrySet", "()Ljava/util/SequencedSet;"⟩
def dkwJ19_sequencedEntrySet_1 : List UInt8 := [44, 176, 43, 192, 0, 126, 176]
abbrev dktJ19_sequencedEntrySet_1 : List UInt8 := dkwJ19_sequencedEntrySet_1 ++ []
def dkwJ19_sequencedEntrySet_0 : List UInt8 := [42, 180, 0, 151, 76, 43, 199, 0, 20, 187, 0, 154, 89, 42, 3, 183, 0, 156, 77, 42, 44, 181, 0, 151]
abbrev dktJ19_sequencedEntrySet_0 : List UInt8 := dkwJ19_sequencedEntrySet_0 ++ dktJ19_sequencedEntrySet_1
theorem dksJ19_sequencedEntrySet_0 : cJ19_sequencedEntrySet.data.toList.drop 0 = dktJ19_sequencedEntrySet_0 := by decide +kernel
theorem dksJ19_sequencedEntrySet_1 : cJ19_sequencedEntrySet.data.toList.drop 24 = dktJ19_sequencedEntrySet_1 := dk_seg dksJ19_sequencedEntrySet_0 24 rfl rfl
theorem dJ19_sequencedEntrySet_0 : decode cJ19_sequencedEntrySet 0 = .ok (.aload_n 0, 1) := dk_42 (dk_at dksJ19_sequencedEntrySet_0 0 rfl rfl)
theorem dJ19_sequencedEntrySet_1 : decode cJ19_sequencedEntrySet 1 = .ok (.getfield 151, 3) := dk_180 0 151 (dk_at dksJ19_sequencedEntrySet_0 1 rfl rfl)
theorem dJ19_sequencedEntrySet_4 : decode cJ19_sequencedEntrySet 4 = .ok (.astore_n 1, 1) := dk_76 (dk_at dksJ19_sequencedEntrySet_0 4 rfl rfl)
theorem dJ19_sequencedEntrySet_5 : decode cJ19_sequencedEntrySet 5 = .ok (.aload_n 1, 1) := dk_43 (dk_at dksJ19_sequencedEntrySet_0 5 rfl rfl)
theorem dJ19_sequencedEntrySet_6 : decode cJ19_sequencedEntrySet 6 = .ok (.ifnonnull 20, 3) := dk_199 0 20 (dk_at dksJ19_sequencedEntrySet_0 6 rfl rfl)
theorem dJ19_sequencedEntrySet_9 : decode cJ19_sequencedEntrySet 9 = .ok (.new 154, 3) := dk_187 0 154 (dk_at dksJ19_sequencedEntrySet_0 9 rfl rfl)
theorem dJ19_sequencedEntrySet_12 : decode cJ19_sequencedEntrySet 12 = .ok (.dup, 1) := dk_89 (dk_at dksJ19_sequencedEntrySet_0 12 rfl rfl)
theorem dJ19_sequencedEntrySet_13 : decode cJ19_sequencedEntrySet 13 = .ok (.aload_n 0, 1) := dk_42 (dk_at dksJ19_sequencedEntrySet_0 13 rfl rfl)
theorem dJ19_sequencedEntrySet_14 : decode cJ19_sequencedEntrySet 14 = .ok (.iconst 0, 1) := dk_3 (dk_at dksJ19_sequencedEntrySet_0 14 rfl rfl)
theorem dJ19_sequencedEntrySet_15 : decode cJ19_sequencedEntrySet 15 = .ok (.invokespecial 156, 3) := dk_183 0 156 (dk_at dksJ19_sequencedEntrySet_0 15 rfl rfl)
theorem dJ19_sequencedEntrySet_18 : decode cJ19_sequencedEntrySet 18 = .ok (.astore_n 2, 1) := dk_77 (dk_at dksJ19_sequencedEntrySet_0 18 rfl rfl)
theorem dJ19_sequencedEntrySet_19 : decode cJ19_sequencedEntrySet 19 = .ok (.aload_n 0, 1) := dk_42 (dk_at dksJ19_sequencedEntrySet_0 19 rfl rfl)
theorem dJ19_sequencedEntrySet_20 : decode cJ19_sequencedEntrySet 20 = .ok (.aload_n 2, 1) := dk_44 (dk_at dksJ19_sequencedEntrySet_0 20 rfl rfl)
theorem dJ19_sequencedEntrySet_21 : decode cJ19_sequencedEntrySet 21 = .ok (.putfield 151, 3) := dk_181 0 151 (dk_at dksJ19_sequencedEntrySet_0 21 rfl rfl)
theorem dJ19_sequencedEntrySet_24 : decode cJ19_sequencedEntrySet 24 = .ok (.aload_n 2, 1) := dk_44 (dk_at dksJ19_sequencedEntrySet_1 0 rfl rfl)
theorem dJ19_sequencedEntrySet_25 : decode cJ19_sequencedEntrySet 25 = .ok (.areturn, 1) := dk_176 (dk_at dksJ19_sequencedEntrySet_1 1 rfl rfl)
theorem dJ19_sequencedEntrySet_26 : decode cJ19_sequencedEntrySet 26 = .ok (.aload_n 1, 1) := dk_43 (dk_at dksJ19_sequencedEntrySet_1 2 rfl rfl)
theorem dJ19_sequencedEntrySet_27 : decode cJ19_sequencedEntrySet 27 = .ok (.checkcast 126, 3) := dk_192 0 126 (dk_at dksJ19_sequencedEntrySet_1 3 rfl rfl)
theorem dJ19_sequencedEntrySet_30 : decode cJ19_sequencedEntrySet 30 = .ok (.areturn, 1) := dk_176 (dk_at dksJ19_sequencedEntrySet_1 6 rfl rfl)
abbrev cJ19_afterNodeRemoval : ByteArray := prog_74_method_8_code
def yJ19_afterNodeRemoval : MethodName := ⟨RJ19, "afterNodeRemoval", "(Ljava/util/HashMap$Node;)V"⟩
def dkwJ19_afterNodeRemoval_2 : List UInt8 := [199, 0, 11, 42, 45, 181, 0, 11, 167, 0, 9, 25, 4, 45, 181, 0, 19, 177]
abbrev dktJ19_afterNodeRemoval_2 : List UInt8 := dkwJ19_afterNodeRemoval_2 ++ []
def dkwJ19_afterNodeRemoval_1 : List UInt8 := [181, 0, 19, 45, 199, 0, 12, 42, 25, 4, 181, 0, 7, 167, 0, 9, 45, 25, 4, 181, 0, 14, 25, 4]
abbrev dktJ19_afterNodeRemoval_1 : List UInt8 := dkwJ19_afterNodeRemoval_1 ++ dktJ19_afterNodeRemoval_2
def dkwJ19_afterNodeRemoval_0 : List UInt8 := [43, 192, 0, 15, 77, 44, 180, 0, 19, 78, 44, 180, 0, 14, 58, 4, 44, 44, 1, 90, 181, 0, 14]
abbrev dktJ19_afterNodeRemoval_0 : List UInt8 := dkwJ19_afterNodeRemoval_0 ++ dktJ19_afterNodeRemoval_1
theorem dksJ19_afterNodeRemoval_0 : cJ19_afterNodeRemoval.data.toList.drop 0 = dktJ19_afterNodeRemoval_0 := by decide +kernel
theorem dksJ19_afterNodeRemoval_1 : cJ19_afterNodeRemoval.data.toList.drop 23 = dktJ19_afterNodeRemoval_1 := dk_seg dksJ19_afterNodeRemoval_0 23 rfl rfl
theorem dksJ19_afterNodeRemoval_2 : cJ19_afterNodeRemoval.data.toList.drop 47 = dktJ19_afterNodeRemoval_2 := dk_seg dksJ19_afterNodeRemoval_1 24 rfl rfl
theorem dJ19_afterNodeRemoval_0 : decode cJ19_afterNodeRemoval 0 = .ok (.aload_n 1, 1) := dk_43 (dk_at dksJ19_afterNodeRemoval_0 0 rfl rfl)
theorem dJ19_afterNodeRemoval_1 : decode cJ19_afterNodeRemoval 1 = .ok (.checkcast 15, 3) := dk_192 0 15 (dk_at dksJ19_afterNodeRemoval_0 1 rfl rfl)
theorem dJ19_afterNodeRemoval_4 : decode cJ19_afterNodeRemoval 4 = .ok (.astore_n 2, 1) := dk_77 (dk_at dksJ19_afterNodeRemoval_0 4 rfl rfl)
theorem dJ19_afterNodeRemoval_5 : decode cJ19_afterNodeRemoval 5 = .ok (.aload_n 2, 1) := dk_44 (dk_at dksJ19_afterNodeRemoval_0 5 rfl rfl)
theorem dJ19_afterNodeRemoval_6 : decode cJ19_afterNodeRemoval 6 = .ok (.getfield 19, 3) := dk_180 0 19 (dk_at dksJ19_afterNodeRemoval_0 6 rfl rfl)
theorem dJ19_afterNodeRemoval_9 : decode cJ19_afterNodeRemoval 9 = .ok (.astore_n 3, 1) := dk_78 (dk_at dksJ19_afterNodeRemoval_0 9 rfl rfl)
theorem dJ19_afterNodeRemoval_10 : decode cJ19_afterNodeRemoval 10 = .ok (.aload_n 2, 1) := dk_44 (dk_at dksJ19_afterNodeRemoval_0 10 rfl rfl)
theorem dJ19_afterNodeRemoval_11 : decode cJ19_afterNodeRemoval 11 = .ok (.getfield 14, 3) := dk_180 0 14 (dk_at dksJ19_afterNodeRemoval_0 11 rfl rfl)
theorem dJ19_afterNodeRemoval_14 : decode cJ19_afterNodeRemoval 14 = .ok (.astore 4, 2) := dk_58 4 (dk_at dksJ19_afterNodeRemoval_0 14 rfl rfl)
theorem dJ19_afterNodeRemoval_16 : decode cJ19_afterNodeRemoval 16 = .ok (.aload_n 2, 1) := dk_44 (dk_at dksJ19_afterNodeRemoval_0 16 rfl rfl)
theorem dJ19_afterNodeRemoval_17 : decode cJ19_afterNodeRemoval 17 = .ok (.aload_n 2, 1) := dk_44 (dk_at dksJ19_afterNodeRemoval_0 17 rfl rfl)
theorem dJ19_afterNodeRemoval_18 : decode cJ19_afterNodeRemoval 18 = .ok (.aconst_null, 1) := dk_1 (dk_at dksJ19_afterNodeRemoval_0 18 rfl rfl)
theorem dJ19_afterNodeRemoval_19 : decode cJ19_afterNodeRemoval 19 = .ok (.dup_x1, 1) := dk_90 (dk_at dksJ19_afterNodeRemoval_0 19 rfl rfl)
theorem dJ19_afterNodeRemoval_20 : decode cJ19_afterNodeRemoval 20 = .ok (.putfield 14, 3) := dk_181 0 14 (dk_at dksJ19_afterNodeRemoval_0 20 rfl rfl)
theorem dJ19_afterNodeRemoval_23 : decode cJ19_afterNodeRemoval 23 = .ok (.putfield 19, 3) := dk_181 0 19 (dk_at dksJ19_afterNodeRemoval_1 0 rfl rfl)
theorem dJ19_afterNodeRemoval_26 : decode cJ19_afterNodeRemoval 26 = .ok (.aload_n 3, 1) := dk_45 (dk_at dksJ19_afterNodeRemoval_1 3 rfl rfl)
theorem dJ19_afterNodeRemoval_27 : decode cJ19_afterNodeRemoval 27 = .ok (.ifnonnull 12, 3) := dk_199 0 12 (dk_at dksJ19_afterNodeRemoval_1 4 rfl rfl)
theorem dJ19_afterNodeRemoval_30 : decode cJ19_afterNodeRemoval 30 = .ok (.aload_n 0, 1) := dk_42 (dk_at dksJ19_afterNodeRemoval_1 7 rfl rfl)
theorem dJ19_afterNodeRemoval_31 : decode cJ19_afterNodeRemoval 31 = .ok (.aload 4, 2) := dk_25 4 (dk_at dksJ19_afterNodeRemoval_1 8 rfl rfl)
theorem dJ19_afterNodeRemoval_33 : decode cJ19_afterNodeRemoval 33 = .ok (.putfield 7, 3) := dk_181 0 7 (dk_at dksJ19_afterNodeRemoval_1 10 rfl rfl)
theorem dJ19_afterNodeRemoval_36 : decode cJ19_afterNodeRemoval 36 = .ok (.goto 9, 3) := dk_167 0 9 (dk_at dksJ19_afterNodeRemoval_1 13 rfl rfl)
theorem dJ19_afterNodeRemoval_39 : decode cJ19_afterNodeRemoval 39 = .ok (.aload_n 3, 1) := dk_45 (dk_at dksJ19_afterNodeRemoval_1 16 rfl rfl)
theorem dJ19_afterNodeRemoval_40 : decode cJ19_afterNodeRemoval 40 = .ok (.aload 4, 2) := dk_25 4 (dk_at dksJ19_afterNodeRemoval_1 17 rfl rfl)
theorem dJ19_afterNodeRemoval_42 : decode cJ19_afterNodeRemoval 42 = .ok (.putfield 14, 3) := dk_181 0 14 (dk_at dksJ19_afterNodeRemoval_1 19 rfl rfl)
theorem dJ19_afterNodeRemoval_45 : decode cJ19_afterNodeRemoval 45 = .ok (.aload 4, 2) := dk_25 4 (dk_at dksJ19_afterNodeRemoval_1 22 rfl rfl)
theorem dJ19_afterNodeRemoval_47 : decode cJ19_afterNodeRemoval 47 = .ok (.ifnonnull 11, 3) := dk_199 0 11 (dk_at dksJ19_afterNodeRemoval_2 0 rfl rfl)
theorem dJ19_afterNodeRemoval_50 : decode cJ19_afterNodeRemoval 50 = .ok (.aload_n 0, 1) := dk_42 (dk_at dksJ19_afterNodeRemoval_2 3 rfl rfl)
theorem dJ19_afterNodeRemoval_51 : decode cJ19_afterNodeRemoval 51 = .ok (.aload_n 3, 1) := dk_45 (dk_at dksJ19_afterNodeRemoval_2 4 rfl rfl)
theorem dJ19_afterNodeRemoval_52 : decode cJ19_afterNodeRemoval 52 = .ok (.putfield 11, 3) := dk_181 0 11 (dk_at dksJ19_afterNodeRemoval_2 5 rfl rfl)
theorem dJ19_afterNodeRemoval_55 : decode cJ19_afterNodeRemoval 55 = .ok (.goto 9, 3) := dk_167 0 9 (dk_at dksJ19_afterNodeRemoval_2 8 rfl rfl)
theorem dJ19_afterNodeRemoval_58 : decode cJ19_afterNodeRemoval 58 = .ok (.aload 4, 2) := dk_25 4 (dk_at dksJ19_afterNodeRemoval_2 11 rfl rfl)
theorem dJ19_afterNodeRemoval_60 : decode cJ19_afterNodeRemoval 60 = .ok (.aload_n 3, 1) := dk_45 (dk_at dksJ19_afterNodeRemoval_2 13 rfl rfl)
theorem dJ19_afterNodeRemoval_61 : decode cJ19_afterNodeRemoval 61 = .ok (.putfield 19, 3) := dk_181 0 19 (dk_at dksJ19_afterNodeRemoval_2 14 rfl rfl)
theorem dJ19_afterNodeRemoval_64 : decode cJ19_afterNodeRemoval 64 = .ok (.return_, 1) := dk_177 (dk_at dksJ19_afterNodeRemoval_2 17 rfl rfl)
theorem q125 : (Jvm.Cond.initialized "java/util/LinkedHashMap") ∈ lw_all := lw_g (lw_at lw_m1 24 rfl) rfl
theorem q540 : (Jvm.Cond.instantiable "java/util/LinkedHashMap" (12 : Nat)) ∈ lw_all := lw_g (lw_at lw_m2 199 rfl) rfl
theorem q542 : (Jvm.Cond.instanceMethod ({ cls := "java/util/LinkedHashMap", name := "<init>", desc := "()V" } : Jvm.MethodName)) ∈ lw_all := lw_g (lw_at lw_m2 201 rfl) rfl
theorem q543 : (Jvm.Cond.code ({ cls := "java/util/LinkedHashMap", name := "<init>", desc := "()V" } : Jvm.MethodName) prog_74_method_16_code (1 : Nat) (Option.none : Option Jvm.ClassFile.FieldType)) ∈ lw_all := lw_g (lw_at lw_m2 202 rfl) rfl
theorem q544 : (Jvm.Cond.methodLink "java/util/LinkedHashMap" (87 : Nat) ({ cls := "java/util/HashMap", name := "<init>", desc := "()V" } : Jvm.MethodName)) ∈ lw_all := lw_g (lw_at lw_m2 203 rfl) rfl
theorem q552 : (Jvm.Cond.fieldLink "java/util/LinkedHashMap" (7 : Nat) "java/util/LinkedHashMap" "head" "Ljava/util/LinkedHashMap$Entry;") ∈ lw_all := lw_g (lw_at lw_m2 211 rfl) rfl
theorem q555 : (Jvm.Cond.fieldLink "java/util/LinkedHashMap" (11 : Nat) "java/util/LinkedHashMap" "tail" "Ljava/util/LinkedHashMap$Entry;") ∈ lw_all := lw_g (lw_at lw_m2 214 rfl) rfl
theorem q556 : (Jvm.Cond.fieldLink "java/util/LinkedHashMap" (64 : Nat) "java/util/LinkedHashMap" "accessOrder" "Z") ∈ lw_all := lw_g (lw_at lw_m2 215 rfl) rfl
theorem q557 : (Jvm.Cond.fieldLink "java/util/LinkedHashMap" (1 : Nat) "java/util/LinkedHashMap" "putMode" "I") ∈ lw_all := lw_g (lw_at lw_m2 216 rfl) rfl
theorem q560 : (Jvm.Cond.fieldLink "java/util/LinkedHashMap" (151 : Nat) "java/util/LinkedHashMap" "entrySet" "Ljava/util/Set;") ∈ lw_all := lw_g (lw_at lw_m2 219 rfl) rfl
theorem q561 : (Jvm.Cond.sameField "java/util/LinkedHashMap" "java/util/HashMap" "entrySet" "Ljava/util/Set;") ∈ lw_all := lw_g (lw_at lw_m2 220 rfl) rfl
theorem q565 : (Jvm.Cond.sameField "java/util/LinkedHashMap" "java/util/HashMap" "size" "I") ∈ lw_all := lw_g (lw_at lw_m2 224 rfl) rfl
theorem q570 : (Jvm.Cond.sameField "java/util/LinkedHashMap" "java/util/HashMap" "modCount" "I") ∈ lw_all := lw_g (lw_at lw_m2 229 rfl) rfl
theorem q571 : (Jvm.Cond.fieldLink "java/util/LinkedHashMap" (68 : Nat) "java/util/LinkedHashMap" "modCount" "I") ∈ lw_all := lw_g (lw_at lw_m2 230 rfl) rfl
theorem q577 : (Jvm.Cond.fieldLink "java/util/LinkedHashMap" (117 : Nat) "java/util/LinkedHashMap" "keySet" "Ljava/util/Set;") ∈ lw_all := lw_g (lw_at lw_m2 236 rfl) rfl
theorem q578 : (Jvm.Cond.sameField "java/util/LinkedHashMap" "java/util/AbstractMap" "keySet" "Ljava/util/Set;") ∈ lw_all := lw_g (lw_at lw_m2 237 rfl) rfl
theorem q579 : (Jvm.Cond.fieldLink "java/util/LinkedHashMap" (139 : Nat) "java/util/LinkedHashMap" "values" "Ljava/util/Collection;") ∈ lw_all := lw_g (lw_at lw_m2 238 rfl) rfl
theorem q580 : (Jvm.Cond.sameField "java/util/LinkedHashMap" "java/util/AbstractMap" "values" "Ljava/util/Collection;") ∈ lw_all := lw_g (lw_at lw_m2 239 rfl) rfl
theorem q581 : (Jvm.Cond.lays "java/util/LinkedHashMap" "java/util/LinkedHashMap" "head" "Ljava/util/LinkedHashMap$Entry;") ∈ lw_all := lw_g (lw_at lw_m3 0 rfl) rfl
theorem q582 : (Jvm.Cond.soleField "java/util/LinkedHashMap" "head") ∈ lw_all := lw_g (lw_at lw_m3 1 rfl) rfl
theorem q583 : (Jvm.Cond.lays "java/util/LinkedHashMap" "java/util/LinkedHashMap" "tail" "Ljava/util/LinkedHashMap$Entry;") ∈ lw_all := lw_g (lw_at lw_m3 2 rfl) rfl
theorem q584 : (Jvm.Cond.soleField "java/util/LinkedHashMap" "tail") ∈ lw_all := lw_g (lw_at lw_m3 3 rfl) rfl
theorem q585 : (Jvm.Cond.laysFinal "java/util/LinkedHashMap" "java/util/LinkedHashMap" "accessOrder" "Z") ∈ lw_all := lw_g (lw_at lw_m3 4 rfl) rfl
theorem q586 : (Jvm.Cond.soleField "java/util/LinkedHashMap" "accessOrder") ∈ lw_all := lw_g (lw_at lw_m3 5 rfl) rfl
theorem q587 : (Jvm.Cond.lays "java/util/LinkedHashMap" "java/util/LinkedHashMap" "putMode" "I") ∈ lw_all := lw_g (lw_at lw_m3 6 rfl) rfl
theorem q588 : (Jvm.Cond.soleField "java/util/LinkedHashMap" "putMode") ∈ lw_all := lw_g (lw_at lw_m3 7 rfl) rfl
theorem q589 : (Jvm.Cond.lays "java/util/LinkedHashMap" "java/util/HashMap" "table" "[Ljava/util/HashMap$Node;") ∈ lw_all := lw_g (lw_at lw_m3 8 rfl) rfl
theorem q591 : (Jvm.Cond.lays "java/util/LinkedHashMap" "java/util/HashMap" "entrySet" "Ljava/util/Set;") ∈ lw_all := lw_g (lw_at lw_m3 10 rfl) rfl
theorem q593 : (Jvm.Cond.lays "java/util/LinkedHashMap" "java/util/HashMap" "size" "I") ∈ lw_all := lw_g (lw_at lw_m3 12 rfl) rfl
theorem q595 : (Jvm.Cond.lays "java/util/LinkedHashMap" "java/util/HashMap" "modCount" "I") ∈ lw_all := lw_g (lw_at lw_m3 14 rfl) rfl
theorem q597 : (Jvm.Cond.lays "java/util/LinkedHashMap" "java/util/HashMap" "threshold" "I") ∈ lw_all := lw_g (lw_at lw_m3 16 rfl) rfl
theorem q599 : (Jvm.Cond.laysFinal "java/util/LinkedHashMap" "java/util/HashMap" "loadFactor" "F") ∈ lw_all := lw_g (lw_at lw_m3 18 rfl) rfl
theorem q601 : (Jvm.Cond.lays "java/util/LinkedHashMap" "java/util/AbstractMap" "keySet" "Ljava/util/Set;") ∈ lw_all := lw_g (lw_at lw_m3 20 rfl) rfl
theorem q603 : (Jvm.Cond.lays "java/util/LinkedHashMap" "java/util/AbstractMap" "values" "Ljava/util/Collection;") ∈ lw_all := lw_g (lw_at lw_m3 22 rfl) rfl
theorem q605 : (Jvm.Cond.superclass "java/util/LinkedHashMap" "java/util/HashMap") ∈ lw_all := lw_g (lw_at lw_m3 24 rfl) rfl
theorem q727 : (Jvm.Cond.castable "java/util/LinkedHashMap" "java/util/Map") ∈ lw_tbl := lw_at lw_m3 146 rfl
theorem q728 : (Jvm.Cond.selects "java/util/LinkedHashMap" ({ cls := "java/util/Map", name := "size", desc := "()I" } : Jvm.MethodName) ({ cls := "java/util/HashMap", name := "size", desc := "()I" } : Jvm.MethodName)) ∈ lw_all := lw_g (lw_at lw_m3 147 rfl) rfl
theorem q729 : (Jvm.Cond.unhidden "java/util/LinkedHashMap" "size" "()I") ∈ lw_tbl := lw_at lw_m3 148 rfl
theorem q894 : (Jvm.Cond.selects "java/util/LinkedHashMap" ({ cls := "java/util/Map", name := "values", desc := "()Ljava/util/Collection;" } : Jvm.MethodName) ({ cls := "java/util/LinkedHashMap", name := "values", desc := "()Ljava/util/Collection;" } : Jvm.MethodName)) ∈ lw_all := lw_g (lw_at lw_m4 73 rfl) rfl
theorem q895 : (Jvm.Cond.unhidden "java/util/LinkedHashMap" "values" "()Ljava/util/Collection;") ∈ lw_tbl := lw_at lw_m4 74 rfl
theorem q896 : (Jvm.Cond.instanceMethod ({ cls := "java/util/LinkedHashMap", name := "values", desc := "()Ljava/util/Collection;" } : Jvm.MethodName)) ∈ lw_all := lw_g (lw_at lw_m4 75 rfl) rfl
theorem q897 : (Jvm.Cond.publicMethod ({ cls := "java/util/LinkedHashMap", name := "values", desc := "()Ljava/util/Collection;" } : Jvm.MethodName)) ∈ lw_tbl := lw_at lw_m4 76 rfl
theorem q898 : (Jvm.Cond.code ({ cls := "java/util/LinkedHashMap", name := "values", desc := "()Ljava/util/Collection;" } : Jvm.MethodName) prog_74_method_30_code (1 : Nat) (Option.some (Jvm.ClassFile.FieldType.object "java/util/Collection"))) ∈ lw_all := lw_g (lw_at lw_m4 77 rfl) rfl
theorem q899 : (Jvm.Cond.methodLink "java/util/LinkedHashMap" (135 : Nat) ({ cls := "java/util/LinkedHashMap", name := "sequencedValues", desc := "()Ljava/util/SequencedCollection;" } : Jvm.MethodName)) ∈ lw_all := lw_g (lw_at lw_m4 78 rfl) rfl
theorem q900 : (Jvm.Cond.instanceMethod ({ cls := "java/util/LinkedHashMap", name := "sequencedValues", desc := "()Ljava/util/SequencedCollection;" } : Jvm.MethodName)) ∈ lw_all := lw_g (lw_at lw_m4 79 rfl) rfl
theorem q901 : (Jvm.Cond.selects "java/util/LinkedHashMap" ({ cls := "java/util/LinkedHashMap", name := "sequencedValues", desc := "()Ljava/util/SequencedCollection;" } : Jvm.MethodName) ({ cls := "java/util/LinkedHashMap", name := "sequencedValues", desc := "()Ljava/util/SequencedCollection;" } : Jvm.MethodName)) ∈ lw_all := lw_g (lw_at lw_m4 80 rfl) rfl
theorem q902 : (Jvm.Cond.code ({ cls := "java/util/LinkedHashMap", name := "sequencedValues", desc := "()Ljava/util/SequencedCollection;" } : Jvm.MethodName) prog_74_method_31_code (3 : Nat) (Option.some (Jvm.ClassFile.FieldType.object "java/util/SequencedCollection"))) ∈ lw_all := lw_g (lw_at lw_m4 81 rfl) rfl
theorem q903 : (Jvm.Cond.classLink "java/util/LinkedHashMap" (143 : Nat) "java/util/LinkedHashMap$LinkedValues") ∈ lw_all := lw_g (lw_at lw_m4 82 rfl) rfl
theorem q905 : (Jvm.Cond.methodLink "java/util/LinkedHashMap" (145 : Nat) ({ cls := "java/util/LinkedHashMap$LinkedValues", name := "<init>", desc := "(Ljava/util/LinkedHashMap;Z)V" } : Jvm.MethodName)) ∈ lw_all := lw_g (lw_at lw_m4 84 rfl) rfl
theorem q916 : (Jvm.Cond.classLink "java/util/LinkedHashMap" (146 : Nat) "java/util/SequencedCollection") ∈ lw_all := lw_g (lw_at lw_m4 95 rfl) rfl
theorem q1062 : (Jvm.Cond.selects "java/util/LinkedHashMap" ({ cls := "java/util/HashMap", name := "keySet", desc := "()Ljava/util/Set;" } : Jvm.MethodName) ({ cls := "java/util/LinkedHashMap", name := "keySet", desc := "()Ljava/util/Set;" } : Jvm.MethodName)) ∈ lw_all := lw_g (lw_at lw_m5 1 rfl) rfl
theorem q1063 : (Jvm.Cond.instanceMethod ({ cls := "java/util/LinkedHashMap", name := "keySet", desc := "()Ljava/util/Set;" } : Jvm.MethodName)) ∈ lw_all := lw_g (lw_at lw_m5 2 rfl) rfl
theorem q1064 : (Jvm.Cond.code ({ cls := "java/util/LinkedHashMap", name := "keySet", desc := "()Ljava/util/Set;" } : Jvm.MethodName) prog_74_method_24_code (1 : Nat) (Option.some (Jvm.ClassFile.FieldType.object "java/util/Set"))) ∈ lw_all := lw_g (lw_at lw_m5 3 rfl) rfl
theorem q1065 : (Jvm.Cond.methodLink "java/util/LinkedHashMap" (113 : Nat) ({ cls := "java/util/LinkedHashMap", name := "sequencedKeySet", desc := "()Ljava/util/SequencedSet;" } : Jvm.MethodName)) ∈ lw_all := lw_g (lw_at lw_m5 4 rfl) rfl
theorem q1066 : (Jvm.Cond.instanceMethod ({ cls := "java/util/LinkedHashMap", name := "sequencedKeySet", desc := "()Ljava/util/SequencedSet;" } : Jvm.MethodName)) ∈ lw_all := lw_g (lw_at lw_m5 5 rfl) rfl
theorem q1067 : (Jvm.Cond.selects "java/util/LinkedHashMap" ({ cls := "java/util/LinkedHashMap", name := "sequencedKeySet", desc := "()Ljava/util/SequencedSet;" } : Jvm.MethodName) ({ cls := "java/util/LinkedHashMap", name := "sequencedKeySet", desc := "()Ljava/util/SequencedSet;" } : Jvm.MethodName)) ∈ lw_all := lw_g (lw_at lw_m5 6 rfl) rfl
theorem q1068 : (Jvm.Cond.code ({ cls := "java/util/LinkedHashMap", name := "sequencedKeySet", desc := "()Ljava/util/SequencedSet;" } : Jvm.MethodName) prog_74_method_25_code (3 : Nat) (Option.some (Jvm.ClassFile.FieldType.object "java/util/SequencedSet"))) ∈ lw_all := lw_g (lw_at lw_m5 7 rfl) rfl
theorem q1069 : (Jvm.Cond.classLink "java/util/LinkedHashMap" (121 : Nat) "java/util/LinkedHashMap$LinkedKeySet") ∈ lw_all := lw_g (lw_at lw_m5 8 rfl) rfl
theorem q1071 : (Jvm.Cond.methodLink "java/util/LinkedHashMap" (123 : Nat) ({ cls := "java/util/LinkedHashMap$LinkedKeySet", name := "<init>", desc := "(Ljava/util/LinkedHashMap;Z)V" } : Jvm.MethodName)) ∈ lw_all := lw_g (lw_at lw_m5 10 rfl) rfl
theorem q1085 : (Jvm.Cond.classLink "java/util/LinkedHashMap" (126 : Nat) "java/util/SequencedSet") ∈ lw_all := lw_g (lw_at lw_m5 24 rfl) rfl
theorem q1316 : (Jvm.Cond.instanceMethod ({ cls := "java/util/LinkedHashMap", name := "<init>", desc := "(IF)V" } : Jvm.MethodName)) ∈ lw_all := lw_g (lw_at lw_m6 15 rfl) rfl
theorem q1317 : (Jvm.Cond.code ({ cls := "java/util/LinkedHashMap", name := "<init>", desc := "(IF)V" } : Jvm.MethodName) prog_74_method_14_code (3 : Nat) (Option.none : Option Jvm.ClassFile.FieldType)) ∈ lw_all := lw_g (lw_at lw_m6 16 rfl) rfl
theorem q1318 : (Jvm.Cond.methodLink "java/util/LinkedHashMap" (81 : Nat) ({ cls := "java/util/HashMap", name := "<init>", desc := "(IF)V" } : Jvm.MethodName)) ∈ lw_all := lw_g (lw_at lw_m6 17 rfl) rfl
theorem q1711 : (Jvm.Cond.selects "java/util/LinkedHashMap" ({ cls := "java/lang/Object", name := "getClass", desc := "()Ljava/lang/Class;" } : Jvm.MethodName) ({ cls := "java/lang/Object", name := "getClass", desc := "()Ljava/lang/Class;" } : Jvm.MethodName)) ∈ lw_all := lw_g (lw_at lw_m7 170 rfl) rfl
theorem q1867 : (Jvm.Cond.selects "java/util/LinkedHashMap" ({ cls := "java/util/HashMap", name := "put", desc := "(Ljava/lang/Object;Ljava/lang/Object;)Ljava/lang/Object;" } : Jvm.MethodName) ({ cls := "java/util/HashMap", name := "put", desc := "(Ljava/lang/Object;Ljava/lang/Object;)Ljava/lang/Object;" } : Jvm.MethodName)) ∈ lw_all := lw_g (lw_at lw_m8 86 rfl) rfl
theorem q1975 : (Jvm.Cond.selects "java/util/LinkedHashMap" ({ cls := "java/util/HashMap", name := "putVal", desc := "(ILjava/lang/Object;Ljava/lang/Object;ZZ)Ljava/lang/Object;" } : Jvm.MethodName) ({ cls := "java/util/HashMap", name := "putVal", desc := "(ILjava/lang/Object;Ljava/lang/Object;ZZ)Ljava/lang/Object;" } : Jvm.MethodName)) ∈ lw_all := lw_g (lw_at lw_m8 194 rfl) rfl
theorem q1980 : (Jvm.Cond.selects "java/util/LinkedHashMap" ({ cls := "java/util/HashMap", name := "resize", desc := "()[Ljava/util/HashMap$Node;" } : Jvm.MethodName) ({ cls := "java/util/HashMap", name := "resize", desc := "()[Ljava/util/HashMap$Node;" } : Jvm.MethodName)) ∈ lw_all := lw_g (lw_at lw_m8 199 rfl) rfl
theorem q1999 : (Jvm.Cond.selects "java/util/LinkedHashMap" ({ cls := "java/util/HashMap", name := "replacementNode", desc := "(Ljava/util/HashMap$Node;Ljava/util/HashMap$Node;)Ljava/util/HashMap$Node;" } : Jvm.MethodName) ({ cls := "java/util/LinkedHashMap", name := "replacementNode", desc := "(Ljava/util/HashMap$Node;Ljava/util/HashMap$Node;)Ljava/util/HashMap$Node;" } : Jvm.MethodName)) ∈ lw_all := lw_g (lw_at lw_m8 218 rfl) rfl
theorem q2000 : (Jvm.Cond.instanceMethod ({ cls := "java/util/LinkedHashMap", name := "replacementNode", desc := "(Ljava/util/HashMap$Node;Ljava/util/HashMap$Node;)Ljava/util/HashMap$Node;" } : Jvm.MethodName)) ∈ lw_all := lw_g (lw_at lw_m8 219 rfl) rfl
theorem q2001 : (Jvm.Cond.code ({ cls := "java/util/LinkedHashMap", name := "replacementNode", desc := "(Ljava/util/HashMap$Node;Ljava/util/HashMap$Node;)Ljava/util/HashMap$Node;" } : Jvm.MethodName) prog_74_method_5_code (5 : Nat) (Option.some (Jvm.ClassFile.FieldType.object "java/util/HashMap$Node"))) ∈ lw_all := lw_g (lw_at lw_m8 220 rfl) rfl
theorem q2002 : (Jvm.Cond.classLink "java/util/LinkedHashMap" (15 : Nat) "java/util/LinkedHashMap$Entry") ∈ lw_all := lw_g (lw_at lw_m8 221 rfl) rfl
theorem q2004 : (Jvm.Cond.methodLink "java/util/LinkedHashMap" (28 : Nat) ({ cls := "java/util/LinkedHashMap$Entry", name := "<init>", desc := "(ILjava/lang/Object;Ljava/lang/Object;Ljava/util/HashMap$Node;)V" } : Jvm.MethodName)) ∈ lw_all := lw_g (lw_at lw_m8 223 rfl) rfl
theorem q2011 : (Jvm.Cond.fieldLink "java/util/LinkedHashMap" (19 : Nat) "java/util/LinkedHashMap$Entry" "before" "Ljava/util/LinkedHashMap$Entry;") ∈ lw_all := lw_g (lw_at lw_m8 230 rfl) rfl
theorem q2013 : (Jvm.Cond.fieldLink "java/util/LinkedHashMap" (14 : Nat) "java/util/LinkedHashMap$Entry" "after" "Ljava/util/LinkedHashMap$Entry;") ∈ lw_all := lw_g (lw_at lw_m8 232 rfl) rfl
theorem q2018 : (Jvm.Cond.fieldLink "java/util/LinkedHashMap" (36 : Nat) "java/util/LinkedHashMap$Entry" "hash" "I") ∈ lw_all := lw_g (lw_at lw_m8 237 rfl) rfl
theorem q2025 : (Jvm.Cond.fieldLink "java/util/LinkedHashMap" (39 : Nat) "java/util/LinkedHashMap$Entry" "key" "Ljava/lang/Object;") ∈ lw_all := lw_g (lw_at lw_m9 4 rfl) rfl
theorem q2031 : (Jvm.Cond.fieldLink "java/util/LinkedHashMap" (43 : Nat) "java/util/LinkedHashMap$Entry" "value" "Ljava/lang/Object;") ∈ lw_all := lw_g (lw_at lw_m9 10 rfl) rfl
theorem q2053 : (Jvm.Cond.methodLink "java/util/LinkedHashMap" (46 : Nat) ({ cls := "java/util/LinkedHashMap", name := "transferLinks", desc := "(Ljava/util/LinkedHashMap$Entry;Ljava/util/LinkedHashMap$Entry;)V" } : Jvm.MethodName)) ∈ lw_all := lw_g (lw_at lw_m9 32 rfl) rfl
theorem q2054 : (Jvm.Cond.privateMethod ({ cls := "java/util/LinkedHashMap", name := "transferLinks", desc := "(Ljava/util/LinkedHashMap$Entry;Ljava/util/LinkedHashMap$Entry;)V" } : Jvm.MethodName)) ∈ lw_tbl := lw_at lw_m9 33 rfl
theorem q2055 : (Jvm.Cond.instanceMethod ({ cls := "java/util/LinkedHashMap", name := "transferLinks", desc := "(Ljava/util/LinkedHashMap$Entry;Ljava/util/LinkedHashMap$Entry;)V" } : Jvm.MethodName)) ∈ lw_all := lw_g (lw_at lw_m9 34 rfl) rfl
theorem q2056 : (Jvm.Cond.code ({ cls := "java/util/LinkedHashMap", name := "transferLinks", desc := "(Ljava/util/LinkedHashMap$Entry;Ljava/util/LinkedHashMap$Entry;)V" } : Jvm.MethodName) prog_74_method_2_code (5 : Nat) (Option.none : Option Jvm.ClassFile.FieldType)) ∈ lw_all := lw_g (lw_at lw_m9 35 rfl) rfl
theorem q2301 : (Jvm.Cond.selects "java/util/LinkedHashMap" ({ cls := "java/util/HashMap", name := "newNode", desc := "(ILjava/lang/Object;Ljava/lang/Object;Ljava/util/HashMap$Node;)Ljava/util/HashMap$Node;" } : Jvm.MethodName) ({ cls := "java/util/LinkedHashMap", name := "newNode", desc := "(ILjava/lang/Object;Ljava/lang/Object;Ljava/util/HashMap$Node;)Ljava/util/HashMap$Node;" } : Jvm.MethodName)) ∈ lw_all := lw_g (lw_at lw_m10 40 rfl) rfl
theorem q2302 : (Jvm.Cond.instanceMethod ({ cls := "java/util/LinkedHashMap", name := "newNode", desc := "(ILjava/lang/Object;Ljava/lang/Object;Ljava/util/HashMap$Node;)Ljava/util/HashMap$Node;" } : Jvm.MethodName)) ∈ lw_all := lw_g (lw_at lw_m10 41 rfl) rfl
theorem q2303 : (Jvm.Cond.code ({ cls := "java/util/LinkedHashMap", name := "newNode", desc := "(ILjava/lang/Object;Ljava/lang/Object;Ljava/util/HashMap$Node;)Ljava/util/HashMap$Node;" } : Jvm.MethodName) prog_74_method_4_code (6 : Nat) (Option.some (Jvm.ClassFile.FieldType.object "java/util/HashMap$Node"))) ∈ lw_all := lw_g (lw_at lw_m10 42 rfl) rfl
theorem q2304 : (Jvm.Cond.methodLink "java/util/LinkedHashMap" (32 : Nat) ({ cls := "java/util/LinkedHashMap", name := "linkNodeAtEnd", desc := "(Ljava/util/LinkedHashMap$Entry;)V" } : Jvm.MethodName)) ∈ lw_all := lw_g (lw_at lw_m10 43 rfl) rfl
theorem q2305 : (Jvm.Cond.privateMethod ({ cls := "java/util/LinkedHashMap", name := "linkNodeAtEnd", desc := "(Ljava/util/LinkedHashMap$Entry;)V" } : Jvm.MethodName)) ∈ lw_tbl := lw_at lw_m10 44 rfl
theorem q2306 : (Jvm.Cond.instanceMethod ({ cls := "java/util/LinkedHashMap", name := "linkNodeAtEnd", desc := "(Ljava/util/LinkedHashMap$Entry;)V" } : Jvm.MethodName)) ∈ lw_all := lw_g (lw_at lw_m10 45 rfl) rfl
theorem q2307 : (Jvm.Cond.code ({ cls := "java/util/LinkedHashMap", name := "linkNodeAtEnd", desc := "(Ljava/util/LinkedHashMap$Entry;)V" } : Jvm.MethodName) prog_74_method_1_code (3 : Nat) (Option.none : Option Jvm.ClassFile.FieldType)) ∈ lw_all := lw_g (lw_at lw_m10 46 rfl) rfl
theorem q2372 : (Jvm.Cond.selects "java/util/LinkedHashMap" ({ cls := "java/util/HashMap", name := "newTreeNode", desc := "(ILjava/lang/Object;Ljava/lang/Object;Ljava/util/HashMap$Node;)Ljava/util/HashMap$TreeNode;" } : Jvm.MethodName) ({ cls := "java/util/LinkedHashMap", name := "newTreeNode", desc := "(ILjava/lang/Object;Ljava/lang/Object;Ljava/util/HashMap$Node;)Ljava/util/HashMap$TreeNode;" } : Jvm.MethodName)) ∈ lw_all := lw_g (lw_at lw_m10 111 rfl) rfl
theorem q2373 : (Jvm.Cond.instanceMethod ({ cls := "java/util/LinkedHashMap", name := "newTreeNode", desc := "(ILjava/lang/Object;Ljava/lang/Object;Ljava/util/HashMap$Node;)Ljava/util/HashMap$TreeNode;" } : Jvm.MethodName)) ∈ lw_all := lw_g (lw_at lw_m10 112 rfl) rfl
theorem q2374 : (Jvm.Cond.code ({ cls := "java/util/LinkedHashMap", name := "newTreeNode", desc := "(ILjava/lang/Object;Ljava/lang/Object;Ljava/util/HashMap$Node;)Ljava/util/HashMap$TreeNode;" } : Jvm.MethodName) prog_74_method_6_code (6 : Nat) (Option.some (Jvm.ClassFile.FieldType.object "java/util/HashMap$TreeNode"))) ∈ lw_all := lw_g (lw_at lw_m10 113 rfl) rfl
theorem q2375 : (Jvm.Cond.classLink "java/util/LinkedHashMap" (50 : Nat) "java/util/HashMap$TreeNode") ∈ lw_all := lw_g (lw_at lw_m10 114 rfl) rfl
theorem q2377 : (Jvm.Cond.methodLink "java/util/LinkedHashMap" (52 : Nat) ({ cls := "java/util/HashMap$TreeNode", name := "<init>", desc := "(ILjava/lang/Object;Ljava/lang/Object;Ljava/util/HashMap$Node;)V" } : Jvm.MethodName)) ∈ lw_all := lw_g (lw_at lw_m10 116 rfl) rfl
theorem q2408 : (Jvm.Cond.selects "java/util/LinkedHashMap" ({ cls := "java/util/HashMap", name := "treeifyBin", desc := "([Ljava/util/HashMap$Node;I)V" } : Jvm.MethodName) ({ cls := "java/util/HashMap", name := "treeifyBin", desc := "([Ljava/util/HashMap$Node;I)V" } : Jvm.MethodName)) ∈ lw_all := lw_g (lw_at lw_m10 147 rfl) rfl
theorem q2413 : (Jvm.Cond.selects "java/util/LinkedHashMap" ({ cls := "java/util/HashMap", name := "replacementTreeNode", desc := "(Ljava/util/HashMap$Node;Ljava/util/HashMap$Node;)Ljava/util/HashMap$TreeNode;" } : Jvm.MethodName) ({ cls := "java/util/LinkedHashMap", name := "replacementTreeNode", desc := "(Ljava/util/HashMap$Node;Ljava/util/HashMap$Node;)Ljava/util/HashMap$TreeNode;" } : Jvm.MethodName)) ∈ lw_all := lw_g (lw_at lw_m10 152 rfl) rfl
theorem q2414 : (Jvm.Cond.instanceMethod ({ cls := "java/util/LinkedHashMap", name := "replacementTreeNode", desc := "(Ljava/util/HashMap$Node;Ljava/util/HashMap$Node;)Ljava/util/HashMap$TreeNode;" } : Jvm.MethodName)) ∈ lw_all := lw_g (lw_at lw_m10 153 rfl) rfl
theorem q2415 : (Jvm.Cond.code ({ cls := "java/util/LinkedHashMap", name := "replacementTreeNode", desc := "(Ljava/util/HashMap$Node;Ljava/util/HashMap$Node;)Ljava/util/HashMap$TreeNode;" } : Jvm.MethodName) prog_74_method_7_code (5 : Nat) (Option.some (Jvm.ClassFile.FieldType.object "java/util/HashMap$TreeNode"))) ∈ lw_all := lw_g (lw_at lw_m10 154 rfl) rfl
theorem q2421 : (Jvm.Cond.selects "java/util/LinkedHashMap" ({ cls := "java/util/HashMap", name := "afterNodeAccess", desc := "(Ljava/util/HashMap$Node;)V" } : Jvm.MethodName) ({ cls := "java/util/LinkedHashMap", name := "afterNodeAccess", desc := "(Ljava/util/HashMap$Node;)V" } : Jvm.MethodName)) ∈ lw_all := lw_g (lw_at lw_m10 160 rfl) rfl
theorem q2422 : (Jvm.Cond.instanceMethod ({ cls := "java/util/LinkedHashMap", name := "afterNodeAccess", desc := "(Ljava/util/HashMap$Node;)V" } : Jvm.MethodName)) ∈ lw_all := lw_g (lw_at lw_m10 161 rfl) rfl
theorem q2423 : (Jvm.Cond.code ({ cls := "java/util/LinkedHashMap", name := "afterNodeAccess", desc := "(Ljava/util/HashMap$Node;)V" } : Jvm.MethodName) prog_74_method_10_code (7 : Nat) (Option.none : Option Jvm.ClassFile.FieldType)) ∈ lw_all := lw_g (lw_at lw_m10 162 rfl) rfl
theorem q2428 : (Jvm.Cond.selects "java/util/LinkedHashMap" ({ cls := "java/util/HashMap", name := "afterNodeInsertion", desc := "(Z)V" } : Jvm.MethodName) ({ cls := "java/util/LinkedHashMap", name := "afterNodeInsertion", desc := "(Z)V" } : Jvm.MethodName)) ∈ lw_all := lw_g (lw_at lw_m10 167 rfl) rfl
theorem q2429 : (Jvm.Cond.instanceMethod ({ cls := "java/util/LinkedHashMap", name := "afterNodeInsertion", desc := "(Z)V" } : Jvm.MethodName)) ∈ lw_all := lw_g (lw_at lw_m10 168 rfl) rfl
theorem q2430 : (Jvm.Cond.code ({ cls := "java/util/LinkedHashMap", name := "afterNodeInsertion", desc := "(Z)V" } : Jvm.MethodName) prog_74_method_9_code (4 : Nat) (Option.none : Option Jvm.ClassFile.FieldType)) ∈ lw_all := lw_g (lw_at lw_m10 169 rfl) rfl
theorem q2431 : (Jvm.Cond.methodLink "java/util/LinkedHashMap" (53 : Nat) ({ cls := "java/util/LinkedHashMap", name := "removeEldestEntry", desc := "(Ljava/util/Map$Entry;)Z" } : Jvm.MethodName)) ∈ lw_all := lw_g (lw_at lw_m10 170 rfl) rfl
theorem q2432 : (Jvm.Cond.instanceMethod ({ cls := "java/util/LinkedHashMap", name := "removeEldestEntry", desc := "(Ljava/util/Map$Entry;)Z" } : Jvm.MethodName)) ∈ lw_all := lw_g (lw_at lw_m10 171 rfl) rfl
theorem q2433 : (Jvm.Cond.selects "java/util/LinkedHashMap" ({ cls := "java/util/LinkedHashMap", name := "removeEldestEntry", desc := "(Ljava/util/Map$Entry;)Z" } : Jvm.MethodName) ({ cls := "java/util/LinkedHashMap", name := "removeEldestEntry", desc := "(Ljava/util/Map$Entry;)Z" } : Jvm.MethodName)) ∈ lw_all := lw_g (lw_at lw_m10 172 rfl) rfl
theorem q2434 : (Jvm.Cond.code ({ cls := "java/util/LinkedHashMap", name := "removeEldestEntry", desc := "(Ljava/util/Map$Entry;)Z" } : Jvm.MethodName) prog_74_method_23_code (2 : Nat) (Option.some Jvm.ClassFile.FieldType.boolean)) ∈ lw_all := lw_g (lw_at lw_m10 173 rfl) rfl
theorem q2479 : (Jvm.Cond.selects "java/util/LinkedHashMap" ({ cls := "java/util/Map", name := "putAll", desc := "(Ljava/util/Map;)V" } : Jvm.MethodName) ({ cls := "java/util/HashMap", name := "putAll", desc := "(Ljava/util/Map;)V" } : Jvm.MethodName)) ∈ lw_all := lw_g (lw_at lw_m10 218 rfl) rfl
theorem q2480 : (Jvm.Cond.unhidden "java/util/LinkedHashMap" "putAll" "(Ljava/util/Map;)V") ∈ lw_tbl := lw_at lw_m10 219 rfl
theorem q2487 : (Jvm.Cond.selects "java/util/LinkedHashMap" ({ cls := "java/util/HashMap", name := "putMapEntries", desc := "(Ljava/util/Map;Z)V" } : Jvm.MethodName) ({ cls := "java/util/HashMap", name := "putMapEntries", desc := "(Ljava/util/Map;Z)V" } : Jvm.MethodName)) ∈ lw_all := lw_g (lw_at lw_m10 226 rfl) rfl
theorem q2522 : (Jvm.Cond.selects "java/util/LinkedHashMap" ({ cls := "java/util/Map", name := "entrySet", desc := "()Ljava/util/Set;" } : Jvm.MethodName) ({ cls := "java/util/LinkedHashMap", name := "entrySet", desc := "()Ljava/util/Set;" } : Jvm.MethodName)) ∈ lw_all := lw_g (lw_at lw_m11 21 rfl) rfl
theorem q2523 : (Jvm.Cond.unhidden "java/util/LinkedHashMap" "entrySet" "()Ljava/util/Set;") ∈ lw_tbl := lw_at lw_m11 22 rfl
theorem q2524 : (Jvm.Cond.instanceMethod ({ cls := "java/util/LinkedHashMap", name := "entrySet", desc := "()Ljava/util/Set;" } : Jvm.MethodName)) ∈ lw_all := lw_g (lw_at lw_m11 23 rfl) rfl
theorem q2525 : (Jvm.Cond.publicMethod ({ cls := "java/util/LinkedHashMap", name := "entrySet", desc := "()Ljava/util/Set;" } : Jvm.MethodName)) ∈ lw_tbl := lw_at lw_m11 24 rfl
theorem q2526 : (Jvm.Cond.code ({ cls := "java/util/LinkedHashMap", name := "entrySet", desc := "()Ljava/util/Set;" } : Jvm.MethodName) prog_74_method_32_code (1 : Nat) (Option.some (Jvm.ClassFile.FieldType.object "java/util/Set"))) ∈ lw_all := lw_g (lw_at lw_m11 25 rfl) rfl
theorem q2527 : (Jvm.Cond.methodLink "java/util/LinkedHashMap" (148 : Nat) ({ cls := "java/util/LinkedHashMap", name := "sequencedEntrySet", desc := "()Ljava/util/SequencedSet;" } : Jvm.MethodName)) ∈ lw_all := lw_g (lw_at lw_m11 26 rfl) rfl
theorem q2528 : (Jvm.Cond.instanceMethod ({ cls := "java/util/LinkedHashMap", name := "sequencedEntrySet", desc := "()Ljava/util/SequencedSet;" } : Jvm.MethodName)) ∈ lw_all := lw_g (lw_at lw_m11 27 rfl) rfl
theorem q2529 : (Jvm.Cond.selects "java/util/LinkedHashMap" ({ cls := "java/util/LinkedHashMap", name := "sequencedEntrySet", desc := "()Ljava/util/SequencedSet;" } : Jvm.MethodName) ({ cls := "java/util/LinkedHashMap", name := "sequencedEntrySet", desc := "()Ljava/util/SequencedSet;" } : Jvm.MethodName)) ∈ lw_all := lw_g (lw_at lw_m11 28 rfl) rfl
theorem q2530 : (Jvm.Cond.code ({ cls := "java/util/LinkedHashMap", name := "sequencedEntrySet", desc := "()Ljava/util/SequencedSet;" } : Jvm.MethodName) prog_74_method_33_code (3 : Nat) (Option.some (Jvm.ClassFile.FieldType.object "java/util/SequencedSet"))) ∈ lw_all := lw_g (lw_at lw_m11 29 rfl) rfl
theorem q2531 : (Jvm.Cond.classLink "java/util/LinkedHashMap" (154 : Nat) "java/util/LinkedHashMap$LinkedEntrySet") ∈ lw_all := lw_g (lw_at lw_m11 30 rfl) rfl
theorem q2533 : (Jvm.Cond.methodLink "java/util/LinkedHashMap" (156 : Nat) ({ cls := "java/util/LinkedHashMap$LinkedEntrySet", name := "<init>", desc := "(Ljava/util/LinkedHashMap;Z)V" } : Jvm.MethodName)) ∈ lw_all := lw_g (lw_at lw_m11 32 rfl) rfl
theorem q2915 : (Jvm.Cond.selects "java/util/LinkedHashMap" ({ cls := "java/util/Map", name := "containsKey", desc := "(Ljava/lang/Object;)Z" } : Jvm.MethodName) ({ cls := "java/util/HashMap", name := "containsKey", desc := "(Ljava/lang/Object;)Z" } : Jvm.MethodName)) ∈ lw_all := lw_g (lw_at lw_m12 174 rfl) rfl
theorem q2916 : (Jvm.Cond.unhidden "java/util/LinkedHashMap" "containsKey" "(Ljava/lang/Object;)Z") ∈ lw_tbl := lw_at lw_m12 175 rfl
theorem q2923 : (Jvm.Cond.selects "java/util/LinkedHashMap" ({ cls := "java/util/HashMap", name := "getNode", desc := "(Ljava/lang/Object;)Ljava/util/HashMap$Node;" } : Jvm.MethodName) ({ cls := "java/util/HashMap", name := "getNode", desc := "(Ljava/lang/Object;)Ljava/util/HashMap$Node;" } : Jvm.MethodName)) ∈ lw_all := lw_g (lw_at lw_m12 182 rfl) rfl
theorem q2983 : (Jvm.Cond.selects "java/util/LinkedHashMap" ({ cls := "java/util/Map", name := "put", desc := "(Ljava/lang/Object;Ljava/lang/Object;)Ljava/lang/Object;" } : Jvm.MethodName) ({ cls := "java/util/HashMap", name := "put", desc := "(Ljava/lang/Object;Ljava/lang/Object;)Ljava/lang/Object;" } : Jvm.MethodName)) ∈ lw_all := lw_g (lw_at lw_m13 2 rfl) rfl
theorem q2984 : (Jvm.Cond.unhidden "java/util/LinkedHashMap" "put" "(Ljava/lang/Object;Ljava/lang/Object;)Ljava/lang/Object;") ∈ lw_tbl := lw_at lw_m13 3 rfl
theorem q3173 : (Jvm.Cond.selects "java/util/LinkedHashMap" ({ cls := "java/util/Map", name := "keySet", desc := "()Ljava/util/Set;" } : Jvm.MethodName) ({ cls := "java/util/LinkedHashMap", name := "keySet", desc := "()Ljava/util/Set;" } : Jvm.MethodName)) ∈ lw_all := lw_g (lw_at lw_m13 192 rfl) rfl
theorem q3174 : (Jvm.Cond.unhidden "java/util/LinkedHashMap" "keySet" "()Ljava/util/Set;") ∈ lw_tbl := lw_at lw_m13 193 rfl
theorem q3175 : (Jvm.Cond.publicMethod ({ cls := "java/util/LinkedHashMap", name := "keySet", desc := "()Ljava/util/Set;" } : Jvm.MethodName)) ∈ lw_tbl := lw_at lw_m13 194 rfl
theorem q3262 : (Jvm.Cond.selects "java/util/LinkedHashMap" ({ cls := "java/util/Map", name := "remove", desc := "(Ljava/lang/Object;)Ljava/lang/Object;" } : Jvm.MethodName) ({ cls := "java/util/HashMap", name := "remove", desc := "(Ljava/lang/Object;)Ljava/lang/Object;" } : Jvm.MethodName)) ∈ lw_all := lw_g (lw_at lw_m14 41 rfl) rfl
theorem q3263 : (Jvm.Cond.unhidden "java/util/LinkedHashMap" "remove" "(Ljava/lang/Object;)Ljava/lang/Object;") ∈ lw_tbl := lw_at lw_m14 42 rfl
theorem q3270 : (Jvm.Cond.selects "java/util/LinkedHashMap" ({ cls := "java/util/HashMap", name := "removeNode", desc := "(ILjava/lang/Object;Ljava/lang/Object;ZZ)Ljava/util/HashMap$Node;" } : Jvm.MethodName) ({ cls := "java/util/HashMap", name := "removeNode", desc := "(ILjava/lang/Object;Ljava/lang/Object;ZZ)Ljava/util/HashMap$Node;" } : Jvm.MethodName)) ∈ lw_all := lw_g (lw_at lw_m14 49 rfl) rfl
theorem q3282 : (Jvm.Cond.selects "java/util/LinkedHashMap" ({ cls := "java/util/HashMap", name := "afterNodeRemoval", desc := "(Ljava/util/HashMap$Node;)V" } : Jvm.MethodName) ({ cls := "java/util/LinkedHashMap", name := "afterNodeRemoval", desc := "(Ljava/util/HashMap$Node;)V" } : Jvm.MethodName)) ∈ lw_all := lw_g (lw_at lw_m14 61 rfl) rfl
theorem q3283 : (Jvm.Cond.instanceMethod ({ cls := "java/util/LinkedHashMap", name := "afterNodeRemoval", desc := "(Ljava/util/HashMap$Node;)V" } : Jvm.MethodName)) ∈ lw_all := lw_g (lw_at lw_m14 62 rfl) rfl
theorem q3284 : (Jvm.Cond.code ({ cls := "java/util/LinkedHashMap", name := "afterNodeRemoval", desc := "(Ljava/util/HashMap$Node;)V" } : Jvm.MethodName) prog_74_method_8_code (5 : Nat) (Option.none : Option Jvm.ClassFile.FieldType)) ∈ lw_all := lw_g (lw_at lw_m14 63 rfl) rfl
theorem q3819 : (Jvm.Cond.selects "java/util/LinkedHashMap" ({ cls := "java/util/HashMap", name := "size", desc := "()I" } : Jvm.MethodName) ({ cls := "java/util/HashMap", name := "size", desc := "()I" } : Jvm.MethodName)) ∈ lw_all := lw_g (lw_at lw_m16 118 rfl) rfl
theorem q3853 : (Jvm.Cond.castable "java/util/LinkedHashMap" "java/lang/Object") ∈ lw_tbl := lw_at lw_m16 152 rfl
theorem in_J19 : ∀ w ∈ wsJ190, w ∈ lw_all := lw_in wsJ190 [589, 591, 593, 595, 597, 599, 601, 603, 581, 583, 585, 587] (by decide +kernel) (by decide +kernel)

-- J20.java_util_ArrayDeque.lean.txt
/-! java/util/ArrayDeque -/
set_option maxRecDepth 100000
def RJ20 : String := "java/util/ArrayDeque"
def TJ20 : u_T := fun k => match k with
  | 0 => ("java/util/ArrayDeque", "elements", "[Ljava/lang/Object;", false)
  | 1 => ("java/util/ArrayDeque", "head", "I", false)
  | _ => ("java/util/ArrayDeque", "tail", "I", false)
def tyJ20 : Nat → FieldType := fun k => match k with
  | 0 => .array (.object "java/lang/Object")
  | 1 => .int
  | _ => .int
abbrev wsJ200 : List Cond := u_ws RJ20 TJ20 3
theorem nmJ20 : ∀ a, a < 3 → ∀ b, b < 3 → a ≠ b → (TJ20 a).2.1 ≠ (TJ20 b).2.1 := by decide +kernel
theorem tyJ20_ok : ∀ k, k < 3 → parseFieldDescriptor (TJ20 k).2.2.1 = some (tyJ20 k) := by decide +kernel
abbrev cJ20_init : ByteArray := prog_59_method_4_code
def yJ20_init : MethodName := ⟨RJ20, "<init>", "(I)V"⟩
def dkwJ20_init_1 : List UInt8 := [167, 0, 6, 27, 4, 96, 189, 0, 47, 181, 0, 3, 177]
abbrev dktJ20_init_1 : List UInt8 := dkwJ20_init_1 ++ []
def dkwJ20_init_0 : List UInt8 := [42, 183, 0, 42, 42, 27, 4, 162, 0, 7, 4, 167, 0, 17, 27, 18, 41, 160, 0, 8, 18, 41]
abbrev dktJ20_init_0 : List UInt8 := dkwJ20_init_0 ++ dktJ20_init_1
theorem dksJ20_init_0 : cJ20_init.data.toList.drop 0 = dktJ20_init_0 := by decide +kernel
theorem dksJ20_init_1 : cJ20_init.data.toList.drop 22 = dktJ20_init_1 := dk_seg dksJ20_init_0 22 rfl rfl
theorem dJ20_init_0 : decode cJ20_init 0 = .ok (.aload_n 0, 1) := dk_42 (dk_at dksJ20_init_0 0 rfl rfl)
theorem dJ20_init_1 : decode cJ20_init 1 = .ok (.invokespecial 42, 3) := dk_183 0 42 (dk_at dksJ20_init_0 1 rfl rfl)
theorem dJ20_init_4 : decode cJ20_init 4 = .ok (.aload_n 0, 1) := dk_42 (dk_at dksJ20_init_0 4 rfl rfl)
theorem dJ20_init_5 : decode cJ20_init 5 = .ok (.iload_n 1, 1) := dk_27 (dk_at dksJ20_init_0 5 rfl rfl)
theorem dJ20_init_6 : decode cJ20_init 6 = .ok (.iconst 1, 1) := dk_4 (dk_at dksJ20_init_0 6 rfl rfl)
theorem dJ20_init_7 : decode cJ20_init 7 = .ok (.if_icmp .ge 7, 3) := dk_162 0 7 (dk_at dksJ20_init_0 7 rfl rfl)
theorem dJ20_init_10 : decode cJ20_init 10 = .ok (.iconst 1, 1) := dk_4 (dk_at dksJ20_init_0 10 rfl rfl)
theorem dJ20_init_11 : decode cJ20_init 11 = .ok (.goto 17, 3) := dk_167 0 17 (dk_at dksJ20_init_0 11 rfl rfl)
theorem dJ20_init_14 : decode cJ20_init 14 = .ok (.iload_n 1, 1) := dk_27 (dk_at dksJ20_init_0 14 rfl rfl)
theorem dJ20_init_15 : decode cJ20_init 15 = .ok (.ldc 41, 2) := dk_18 41 (dk_at dksJ20_init_0 15 rfl rfl)
theorem dJ20_init_17 : decode cJ20_init 17 = .ok (.if_icmp .ne 8, 3) := dk_160 0 8 (dk_at dksJ20_init_0 17 rfl rfl)
theorem dJ20_init_20 : decode cJ20_init 20 = .ok (.ldc 41, 2) := dk_18 41 (dk_at dksJ20_init_0 20 rfl rfl)
theorem dJ20_init_22 : decode cJ20_init 22 = .ok (.goto 6, 3) := dk_167 0 6 (dk_at dksJ20_init_1 0 rfl rfl)
theorem dJ20_init_25 : decode cJ20_init 25 = .ok (.iload_n 1, 1) := dk_27 (dk_at dksJ20_init_1 3 rfl rfl)
theorem dJ20_init_26 : decode cJ20_init 26 = .ok (.iconst 1, 1) := dk_4 (dk_at dksJ20_init_1 4 rfl rfl)
theorem dJ20_init_27 : decode cJ20_init 27 = .ok (.iadd, 1) := dk_96 (dk_at dksJ20_init_1 5 rfl rfl)
theorem dJ20_init_28 : decode cJ20_init 28 = .ok (.anewarray 47, 3) := dk_189 0 47 (dk_at dksJ20_init_1 6 rfl rfl)
theorem dJ20_init_31 : decode cJ20_init 31 = .ok (.putfield 3, 3) := dk_181 0 3 (dk_at dksJ20_init_1 9 rfl rfl)
theorem dJ20_init_34 : decode cJ20_init 34 = .ok (.return_, 1) := dk_177 (dk_at dksJ20_init_1 12 rfl rfl)
abbrev cJ20_nonNullElementAt : ByteArray := prog_59_method_11_code
def yJ20_nonNullElementAt : MethodName := ⟨RJ20, "nonNullElementAt", "([Ljava/lang/Object;I)Ljava/lang/Object;"⟩
def dkwJ20_nonNullElementAt_0 : List UInt8 := [42, 27, 50, 77, 44, 199, 0, 11, 187, 0, 62, 89, 183, 0, 64, 191, 44, 176]
abbrev dktJ20_nonNullElementAt_0 : List UInt8 := dkwJ20_nonNullElementAt_0 ++ []
theorem dksJ20_nonNullElementAt_0 : cJ20_nonNullElementAt.data.toList.drop 0 = dktJ20_nonNullElementAt_0 := by decide +kernel
theorem dJ20_nonNullElementAt_0 : decode cJ20_nonNullElementAt 0 = .ok (.aload_n 0, 1) := dk_42 (dk_at dksJ20_nonNullElementAt_0 0 rfl rfl)
theorem dJ20_nonNullElementAt_1 : decode cJ20_nonNullElementAt 1 = .ok (.iload_n 1, 1) := dk_27 (dk_at dksJ20_nonNullElementAt_0 1 rfl rfl)
theorem dJ20_nonNullElementAt_2 : decode cJ20_nonNullElementAt 2 = .ok (.aaload, 1) := dk_50 (dk_at dksJ20_nonNullElementAt_0 2 rfl rfl)
theorem dJ20_nonNullElementAt_3 : decode cJ20_nonNullElementAt 3 = .ok (.astore_n 2, 1) := dk_77 (dk_at dksJ20_nonNullElementAt_0 3 rfl rfl)
theorem dJ20_nonNullElementAt_4 : decode cJ20_nonNullElementAt 4 = .ok (.aload_n 2, 1) := dk_44 (dk_at dksJ20_nonNullElementAt_0 4 rfl rfl)
theorem dJ20_nonNullElementAt_5 : decode cJ20_nonNullElementAt 5 = .ok (.ifnonnull 11, 3) := dk_199 0 11 (dk_at dksJ20_nonNullElementAt_0 5 rfl rfl)
theorem dJ20_nonNullElementAt_8 : decode cJ20_nonNullElementAt 8 = .ok (.new 62, 3) := dk_187 0 62 (dk_at dksJ20_nonNullElementAt_0 8 rfl rfl)
theorem dJ20_nonNullElementAt_11 : decode cJ20_nonNullElementAt 11 = .ok (.dup, 1) := dk_89 (dk_at dksJ20_nonNullElementAt_0 11 rfl rfl)
theorem dJ20_nonNullElementAt_12 : decode cJ20_nonNullElementAt 12 = .ok (.invokespecial 64, 3) := dk_183 0 64 (dk_at dksJ20_nonNullElementAt_0 12 rfl rfl)
theorem dJ20_nonNullElementAt_15 : decode cJ20_nonNullElementAt 15 = .ok (.athrow, 1) := dk_191 (dk_at dksJ20_nonNullElementAt_0 15 rfl rfl)
theorem dJ20_nonNullElementAt_16 : decode cJ20_nonNullElementAt 16 = .ok (.aload_n 2, 1) := dk_44 (dk_at dksJ20_nonNullElementAt_0 16 rfl rfl)
theorem dJ20_nonNullElementAt_17 : decode cJ20_nonNullElementAt 17 = .ok (.areturn, 1) := dk_176 (dk_at dksJ20_nonNullElementAt_0 17 rfl rfl)
abbrev cJ20_inc : ByteArray := prog_59_method_6_code
def yJ20_inc : MethodName := ⟨RJ20, "inc", "(II)I"⟩
def dkwJ20_inc_0 : List UInt8 := [132, 0, 1, 26, 27, 161, 0, 5, 3, 59, 26, 172]
abbrev dktJ20_inc_0 : List UInt8 := dkwJ20_inc_0 ++ []
theorem dksJ20_inc_0 : cJ20_inc.data.toList.drop 0 = dktJ20_inc_0 := by decide +kernel
theorem dJ20_inc_0 : decode cJ20_inc 0 = .ok (.iinc 0 1, 3) := dk_132 0 1 (dk_at dksJ20_inc_0 0 rfl rfl)
theorem dJ20_inc_3 : decode cJ20_inc 3 = .ok (.iload_n 0, 1) := dk_26 (dk_at dksJ20_inc_0 3 rfl rfl)
theorem dJ20_inc_4 : decode cJ20_inc 4 = .ok (.iload_n 1, 1) := dk_27 (dk_at dksJ20_inc_0 4 rfl rfl)
theorem dJ20_inc_5 : decode cJ20_inc 5 = .ok (.if_icmp .lt 5, 3) := dk_161 0 5 (dk_at dksJ20_inc_0 5 rfl rfl)
theorem dJ20_inc_8 : decode cJ20_inc 8 = .ok (.iconst 0, 1) := dk_3 (dk_at dksJ20_inc_0 8 rfl rfl)
theorem dJ20_inc_9 : decode cJ20_inc 9 = .ok (.istore_n 0, 1) := dk_59 (dk_at dksJ20_inc_0 9 rfl rfl)
theorem dJ20_inc_10 : decode cJ20_inc 10 = .ok (.iload_n 0, 1) := dk_26 (dk_at dksJ20_inc_0 10 rfl rfl)
theorem dJ20_inc_11 : decode cJ20_inc 11 = .ok (.ireturn, 1) := dk_172 (dk_at dksJ20_inc_0 11 rfl rfl)
abbrev cJ20_iterator : ByteArray := prog_59_method_39_code
def yJ20_iterator : MethodName := ⟨RJ20, "iterator", "()Ljava/util/Iterator;"⟩
def dkwJ20_iterator_0 : List UInt8 := [187, 0, 131, 89, 42, 183, 0, 133, 176]
abbrev dktJ20_iterator_0 : List UInt8 := dkwJ20_iterator_0 ++ []
theorem dksJ20_iterator_0 : cJ20_iterator.data.toList.drop 0 = dktJ20_iterator_0 := by decide +kernel
theorem dJ20_iterator_0 : decode cJ20_iterator 0 = .ok (.new 131, 3) := dk_187 0 131 (dk_at dksJ20_iterator_0 0 rfl rfl)
theorem dJ20_iterator_3 : decode cJ20_iterator 3 = .ok (.dup, 1) := dk_89 (dk_at dksJ20_iterator_0 3 rfl rfl)
theorem dJ20_iterator_4 : decode cJ20_iterator 4 = .ok (.aload_n 0, 1) := dk_42 (dk_at dksJ20_iterator_0 4 rfl rfl)
theorem dJ20_iterator_5 : decode cJ20_iterator 5 = .ok (.invokespecial 133, 3) := dk_183 0 133 (dk_at dksJ20_iterator_0 5 rfl rfl)
theorem dJ20_iterator_8 : decode cJ20_iterator 8 = .ok (.areturn, 1) := dk_176 (dk_at dksJ20_iterator_0 8 rfl rfl)
abbrev cJ20_size : ByteArray := prog_59_method_37_code
def yJ20_size : MethodName := ⟨RJ20, "size", "()I"⟩
def dkwJ20_size_0 : List UInt8 := [42, 180, 0, 20, 42, 180, 0, 24, 42, 180, 0, 3, 190, 184, 0, 127, 172]
abbrev dktJ20_size_0 : List UInt8 := dkwJ20_size_0 ++ []
theorem dksJ20_size_0 : cJ20_size.data.toList.drop 0 = dktJ20_size_0 := by decide +kernel
theorem dJ20_size_0 : decode cJ20_size 0 = .ok (.aload_n 0, 1) := dk_42 (dk_at dksJ20_size_0 0 rfl rfl)
theorem dJ20_size_1 : decode cJ20_size 1 = .ok (.getfield 20, 3) := dk_180 0 20 (dk_at dksJ20_size_0 1 rfl rfl)
theorem dJ20_size_4 : decode cJ20_size 4 = .ok (.aload_n 0, 1) := dk_42 (dk_at dksJ20_size_0 4 rfl rfl)
theorem dJ20_size_5 : decode cJ20_size 5 = .ok (.getfield 24, 3) := dk_180 0 24 (dk_at dksJ20_size_0 5 rfl rfl)
theorem dJ20_size_8 : decode cJ20_size 8 = .ok (.aload_n 0, 1) := dk_42 (dk_at dksJ20_size_0 8 rfl rfl)
theorem dJ20_size_9 : decode cJ20_size 9 = .ok (.getfield 3, 3) := dk_180 0 3 (dk_at dksJ20_size_0 9 rfl rfl)
theorem dJ20_size_12 : decode cJ20_size 12 = .ok (.arraylength, 1) := dk_190 (dk_at dksJ20_size_0 12 rfl rfl)
theorem dJ20_size_13 : decode cJ20_size 13 = .ok (.invokestatic 127, 3) := dk_184 0 127 (dk_at dksJ20_size_0 13 rfl rfl)
theorem dJ20_size_16 : decode cJ20_size 16 = .ok (.ireturn, 1) := dk_172 (dk_at dksJ20_size_0 16 rfl rfl)
abbrev cJ20_sub : ByteArray := prog_59_method_9_code
def yJ20_sub : MethodName := ⟨RJ20, "sub", "(III)I"⟩
def dkwJ20_sub_0 : List UInt8 := [26, 27, 100, 89, 59, 156, 0, 7, 26, 28, 96, 59, 26, 172]
abbrev dktJ20_sub_0 : List UInt8 := dkwJ20_sub_0 ++ []
theorem dksJ20_sub_0 : cJ20_sub.data.toList.drop 0 = dktJ20_sub_0 := by decide +kernel
theorem dJ20_sub_0 : decode cJ20_sub 0 = .ok (.iload_n 0, 1) := dk_26 (dk_at dksJ20_sub_0 0 rfl rfl)
theorem dJ20_sub_1 : decode cJ20_sub 1 = .ok (.iload_n 1, 1) := dk_27 (dk_at dksJ20_sub_0 1 rfl rfl)
theorem dJ20_sub_2 : decode cJ20_sub 2 = .ok (.isub, 1) := dk_100 (dk_at dksJ20_sub_0 2 rfl rfl)
theorem dJ20_sub_3 : decode cJ20_sub 3 = .ok (.dup, 1) := dk_89 (dk_at dksJ20_sub_0 3 rfl rfl)
theorem dJ20_sub_4 : decode cJ20_sub 4 = .ok (.istore_n 0, 1) := dk_59 (dk_at dksJ20_sub_0 4 rfl rfl)
theorem dJ20_sub_5 : decode cJ20_sub 5 = .ok (.ifCond .ge 7, 3) := dk_156 0 7 (dk_at dksJ20_sub_0 5 rfl rfl)
theorem dJ20_sub_8 : decode cJ20_sub 8 = .ok (.iload_n 0, 1) := dk_26 (dk_at dksJ20_sub_0 8 rfl rfl)
theorem dJ20_sub_9 : decode cJ20_sub 9 = .ok (.iload_n 2, 1) := dk_28 (dk_at dksJ20_sub_0 9 rfl rfl)
theorem dJ20_sub_10 : decode cJ20_sub 10 = .ok (.iadd, 1) := dk_96 (dk_at dksJ20_sub_0 10 rfl rfl)
theorem dJ20_sub_11 : decode cJ20_sub 11 = .ok (.istore_n 0, 1) := dk_59 (dk_at dksJ20_sub_0 11 rfl rfl)
theorem dJ20_sub_12 : decode cJ20_sub 12 = .ok (.iload_n 0, 1) := dk_26 (dk_at dksJ20_sub_0 12 rfl rfl)
theorem dJ20_sub_13 : decode cJ20_sub 13 = .ok (.ireturn, 1) := dk_172 (dk_at dksJ20_sub_0 13 rfl rfl)
abbrev cJ20_addLast : ByteArray := prog_59_method_13_code
def yJ20_addLast : MethodName := ⟨RJ20, "addLast", "(Ljava/lang/Object;)V"⟩
def dkwJ20_addLast_2 : List UInt8 := [182, 0, 71, 177]
abbrev dktJ20_addLast_2 : List UInt8 := dkwJ20_addLast_2 ++ []
def dkwJ20_addLast_1 : List UInt8 := [42, 180, 0, 24, 42, 42, 180, 0, 20, 44, 190, 184, 0, 74, 90, 181, 0, 20, 160, 0, 8, 42, 4]
abbrev dktJ20_addLast_1 : List UInt8 := dkwJ20_addLast_1 ++ dktJ20_addLast_2
def dkwJ20_addLast_0 : List UInt8 := [43, 199, 0, 11, 187, 0, 65, 89, 183, 0, 67, 191, 42, 180, 0, 3, 77, 44, 42, 180, 0, 20, 43, 83]
abbrev dktJ20_addLast_0 : List UInt8 := dkwJ20_addLast_0 ++ dktJ20_addLast_1
theorem dksJ20_addLast_0 : cJ20_addLast.data.toList.drop 0 = dktJ20_addLast_0 := by decide +kernel
theorem dksJ20_addLast_1 : cJ20_addLast.data.toList.drop 24 = dktJ20_addLast_1 := dk_seg dksJ20_addLast_0 24 rfl rfl
theorem dksJ20_addLast_2 : cJ20_addLast.data.toList.drop 47 = dktJ20_addLast_2 := dk_seg dksJ20_addLast_1 23 rfl rfl
theorem dJ20_addLast_0 : decode cJ20_addLast 0 = .ok (.aload_n 1, 1) := dk_43 (dk_at dksJ20_addLast_0 0 rfl rfl)
theorem dJ20_addLast_1 : decode cJ20_addLast 1 = .ok (.ifnonnull 11, 3) := dk_199 0 11 (dk_at dksJ20_addLast_0 1 rfl rfl)
theorem dJ20_addLast_4 : decode cJ20_addLast 4 = .ok (.new 65, 3) := dk_187 0 65 (dk_at dksJ20_addLast_0 4 rfl rfl)
theorem dJ20_addLast_7 : decode cJ20_addLast 7 = .ok (.dup, 1) := dk_89 (dk_at dksJ20_addLast_0 7 rfl rfl)
theorem dJ20_addLast_8 : decode cJ20_addLast 8 = .ok (.invokespecial 67, 3) := dk_183 0 67 (dk_at dksJ20_addLast_0 8 rfl rfl)
theorem dJ20_addLast_11 : decode cJ20_addLast 11 = .ok (.athrow, 1) := dk_191 (dk_at dksJ20_addLast_0 11 rfl rfl)
theorem dJ20_addLast_12 : decode cJ20_addLast 12 = .ok (.aload_n 0, 1) := dk_42 (dk_at dksJ20_addLast_0 12 rfl rfl)
theorem dJ20_addLast_13 : decode cJ20_addLast 13 = .ok (.getfield 3, 3) := dk_180 0 3 (dk_at dksJ20_addLast_0 13 rfl rfl)
theorem dJ20_addLast_16 : decode cJ20_addLast 16 = .ok (.astore_n 2, 1) := dk_77 (dk_at dksJ20_addLast_0 16 rfl rfl)
theorem dJ20_addLast_17 : decode cJ20_addLast 17 = .ok (.aload_n 2, 1) := dk_44 (dk_at dksJ20_addLast_0 17 rfl rfl)
theorem dJ20_addLast_18 : decode cJ20_addLast 18 = .ok (.aload_n 0, 1) := dk_42 (dk_at dksJ20_addLast_0 18 rfl rfl)
theorem dJ20_addLast_19 : decode cJ20_addLast 19 = .ok (.getfield 20, 3) := dk_180 0 20 (dk_at dksJ20_addLast_0 19 rfl rfl)
theorem dJ20_addLast_22 : decode cJ20_addLast 22 = .ok (.aload_n 1, 1) := dk_43 (dk_at dksJ20_addLast_0 22 rfl rfl)
theorem dJ20_addLast_23 : decode cJ20_addLast 23 = .ok (.aastore, 1) := dk_83 (dk_at dksJ20_addLast_0 23 rfl rfl)
theorem dJ20_addLast_24 : decode cJ20_addLast 24 = .ok (.aload_n 0, 1) := dk_42 (dk_at dksJ20_addLast_1 0 rfl rfl)
theorem dJ20_addLast_25 : decode cJ20_addLast 25 = .ok (.getfield 24, 3) := dk_180 0 24 (dk_at dksJ20_addLast_1 1 rfl rfl)
theorem dJ20_addLast_28 : decode cJ20_addLast 28 = .ok (.aload_n 0, 1) := dk_42 (dk_at dksJ20_addLast_1 4 rfl rfl)
theorem dJ20_addLast_29 : decode cJ20_addLast 29 = .ok (.aload_n 0, 1) := dk_42 (dk_at dksJ20_addLast_1 5 rfl rfl)
theorem dJ20_addLast_30 : decode cJ20_addLast 30 = .ok (.getfield 20, 3) := dk_180 0 20 (dk_at dksJ20_addLast_1 6 rfl rfl)
theorem dJ20_addLast_33 : decode cJ20_addLast 33 = .ok (.aload_n 2, 1) := dk_44 (dk_at dksJ20_addLast_1 9 rfl rfl)
theorem dJ20_addLast_34 : decode cJ20_addLast 34 = .ok (.arraylength, 1) := dk_190 (dk_at dksJ20_addLast_1 10 rfl rfl)
theorem dJ20_addLast_35 : decode cJ20_addLast 35 = .ok (.invokestatic 74, 3) := dk_184 0 74 (dk_at dksJ20_addLast_1 11 rfl rfl)
theorem dJ20_addLast_38 : decode cJ20_addLast 38 = .ok (.dup_x1, 1) := dk_90 (dk_at dksJ20_addLast_1 14 rfl rfl)
theorem dJ20_addLast_39 : decode cJ20_addLast 39 = .ok (.putfield 20, 3) := dk_181 0 20 (dk_at dksJ20_addLast_1 15 rfl rfl)
theorem dJ20_addLast_42 : decode cJ20_addLast 42 = .ok (.if_icmp .ne 8, 3) := dk_160 0 8 (dk_at dksJ20_addLast_1 18 rfl rfl)
theorem dJ20_addLast_45 : decode cJ20_addLast 45 = .ok (.aload_n 0, 1) := dk_42 (dk_at dksJ20_addLast_1 21 rfl rfl)
theorem dJ20_addLast_46 : decode cJ20_addLast 46 = .ok (.iconst 1, 1) := dk_4 (dk_at dksJ20_addLast_1 22 rfl rfl)
theorem dJ20_addLast_47 : decode cJ20_addLast 47 = .ok (.invokevirtual 71, 3) := dk_182 0 71 (dk_at dksJ20_addLast_2 0 rfl rfl)
theorem dJ20_addLast_50 : decode cJ20_addLast 50 = .ok (.return_, 1) := dk_177 (dk_at dksJ20_addLast_2 3 rfl rfl)
abbrev cJ20_grow : ByteArray := prog_59_method_1_code
def yJ20_grow : MethodName := ⟨RJ20, "grow", "(I)V"⟩
def dkwJ20_grow_7 : List UInt8 := [177]
abbrev dktJ20_grow_7 : List UInt8 := dkwJ20_grow_7 ++ []
def dkwJ20_grow_6 : List UInt8 := [181, 0, 24, 54, 8, 21, 7, 21, 8, 162, 0, 15, 25, 5, 21, 7, 1, 83, 132, 7, 1, 167, 255, 240]
abbrev dktJ20_grow_6 : List UInt8 := dkwJ20_grow_6 ++ dktJ20_grow_7
def dkwJ20_grow_5 : List UInt8 := [42, 180, 0, 24, 100, 184, 0, 27, 42, 180, 0, 24, 54, 7, 42, 89, 180, 0, 24, 21, 6, 96, 90]
abbrev dktJ20_grow_5 : List UInt8 := dkwJ20_grow_5 ++ dktJ20_grow_6
def dkwJ20_grow_4 : List UInt8 := [198, 0, 71, 29, 28, 100, 54, 6, 25, 5, 42, 180, 0, 24, 25, 5, 42, 180, 0, 24, 21, 6, 96, 28]
abbrev dktJ20_grow_4 : List UInt8 := dkwJ20_grow_4 ++ dktJ20_grow_5
def dkwJ20_grow_3 : List UInt8 := [180, 0, 24, 161, 0, 24, 42, 180, 0, 20, 42, 180, 0, 24, 160, 0, 81, 25, 5, 42, 180, 0, 24, 50]
abbrev dktJ20_grow_3 : List UInt8 := dkwJ20_grow_3 ++ dktJ20_grow_4
def dkwJ20_grow_2 : List UInt8 := [182, 0, 10, 62, 42, 42, 180, 0, 3, 29, 184, 0, 14, 90, 181, 0, 3, 58, 5, 42, 180, 0, 20, 42]
abbrev dktJ20_grow_2 : List UInt8 := dkwJ20_grow_2 ++ dktJ20_grow_3
def dkwJ20_grow_1 : List UInt8 := [21, 4, 27, 161, 0, 15, 28, 21, 4, 96, 89, 62, 18, 9, 100, 158, 0, 11, 42, 27, 21, 4]
abbrev dktJ20_grow_1 : List UInt8 := dkwJ20_grow_1 ++ dktJ20_grow_2
def dkwJ20_grow_0 : List UInt8 := [42, 180, 0, 3, 190, 61, 28, 16, 64, 162, 0, 9, 28, 5, 96, 167, 0, 6, 28, 4, 122, 54, 4]
abbrev dktJ20_grow_0 : List UInt8 := dkwJ20_grow_0 ++ dktJ20_grow_1
theorem dksJ20_grow_0 : cJ20_grow.data.toList.drop 0 = dktJ20_grow_0 := by decide +kernel
theorem dksJ20_grow_1 : cJ20_grow.data.toList.drop 23 = dktJ20_grow_1 := dk_seg dksJ20_grow_0 23 rfl rfl
theorem dksJ20_grow_2 : cJ20_grow.data.toList.drop 45 = dktJ20_grow_2 := dk_seg dksJ20_grow_1 22 rfl rfl
theorem dksJ20_grow_3 : cJ20_grow.data.toList.drop 69 = dktJ20_grow_3 := dk_seg dksJ20_grow_2 24 rfl rfl
theorem dksJ20_grow_4 : cJ20_grow.data.toList.drop 93 = dktJ20_grow_4 := dk_seg dksJ20_grow_3 24 rfl rfl
theorem dksJ20_grow_5 : cJ20_grow.data.toList.drop 117 = dktJ20_grow_5 := dk_seg dksJ20_grow_4 24 rfl rfl
theorem dksJ20_grow_6 : cJ20_grow.data.toList.drop 140 = dktJ20_grow_6 := dk_seg dksJ20_grow_5 23 rfl rfl
theorem dksJ20_grow_7 : cJ20_grow.data.toList.drop 164 = dktJ20_grow_7 := dk_seg dksJ20_grow_6 24 rfl rfl
theorem dJ20_grow_0 : decode cJ20_grow 0 = .ok (.aload_n 0, 1) := dk_42 (dk_at dksJ20_grow_0 0 rfl rfl)
theorem dJ20_grow_1 : decode cJ20_grow 1 = .ok (.getfield 3, 3) := dk_180 0 3 (dk_at dksJ20_grow_0 1 rfl rfl)
theorem dJ20_grow_4 : decode cJ20_grow 4 = .ok (.arraylength, 1) := dk_190 (dk_at dksJ20_grow_0 4 rfl rfl)
theorem dJ20_grow_5 : decode cJ20_grow 5 = .ok (.istore_n 2, 1) := dk_61 (dk_at dksJ20_grow_0 5 rfl rfl)
theorem dJ20_grow_6 : decode cJ20_grow 6 = .ok (.iload_n 2, 1) := dk_28 (dk_at dksJ20_grow_0 6 rfl rfl)
theorem dJ20_grow_7 : decode cJ20_grow 7 = .ok (.bipush 64, 2) := dk_16 64 (dk_at dksJ20_grow_0 7 rfl rfl)
theorem dJ20_grow_9 : decode cJ20_grow 9 = .ok (.if_icmp .ge 9, 3) := dk_162 0 9 (dk_at dksJ20_grow_0 9 rfl rfl)
theorem dJ20_grow_12 : decode cJ20_grow 12 = .ok (.iload_n 2, 1) := dk_28 (dk_at dksJ20_grow_0 12 rfl rfl)
theorem dJ20_grow_13 : decode cJ20_grow 13 = .ok (.iconst 2, 1) := dk_5 (dk_at dksJ20_grow_0 13 rfl rfl)
theorem dJ20_grow_14 : decode cJ20_grow 14 = .ok (.iadd, 1) := dk_96 (dk_at dksJ20_grow_0 14 rfl rfl)
theorem dJ20_grow_15 : decode cJ20_grow 15 = .ok (.goto 6, 3) := dk_167 0 6 (dk_at dksJ20_grow_0 15 rfl rfl)
theorem dJ20_grow_18 : decode cJ20_grow 18 = .ok (.iload_n 2, 1) := dk_28 (dk_at dksJ20_grow_0 18 rfl rfl)
theorem dJ20_grow_19 : decode cJ20_grow 19 = .ok (.iconst 1, 1) := dk_4 (dk_at dksJ20_grow_0 19 rfl rfl)
theorem dJ20_grow_20 : decode cJ20_grow 20 = .ok (.ishr, 1) := dk_122 (dk_at dksJ20_grow_0 20 rfl rfl)
theorem dJ20_grow_21 : decode cJ20_grow 21 = .ok (.istore 4, 2) := dk_54 4 (dk_at dksJ20_grow_0 21 rfl rfl)
theorem dJ20_grow_23 : decode cJ20_grow 23 = .ok (.iload 4, 2) := dk_21 4 (dk_at dksJ20_grow_1 0 rfl rfl)
theorem dJ20_grow_25 : decode cJ20_grow 25 = .ok (.iload_n 1, 1) := dk_27 (dk_at dksJ20_grow_1 2 rfl rfl)
theorem dJ20_grow_26 : decode cJ20_grow 26 = .ok (.if_icmp .lt 15, 3) := dk_161 0 15 (dk_at dksJ20_grow_1 3 rfl rfl)
theorem dJ20_grow_29 : decode cJ20_grow 29 = .ok (.iload_n 2, 1) := dk_28 (dk_at dksJ20_grow_1 6 rfl rfl)
theorem dJ20_grow_30 : decode cJ20_grow 30 = .ok (.iload 4, 2) := dk_21 4 (dk_at dksJ20_grow_1 7 rfl rfl)
theorem dJ20_grow_32 : decode cJ20_grow 32 = .ok (.iadd, 1) := dk_96 (dk_at dksJ20_grow_1 9 rfl rfl)
theorem dJ20_grow_33 : decode cJ20_grow 33 = .ok (.dup, 1) := dk_89 (dk_at dksJ20_grow_1 10 rfl rfl)
theorem dJ20_grow_34 : decode cJ20_grow 34 = .ok (.istore_n 3, 1) := dk_62 (dk_at dksJ20_grow_1 11 rfl rfl)
theorem dJ20_grow_35 : decode cJ20_grow 35 = .ok (.ldc 9, 2) := dk_18 9 (dk_at dksJ20_grow_1 12 rfl rfl)
theorem dJ20_grow_37 : decode cJ20_grow 37 = .ok (.isub, 1) := dk_100 (dk_at dksJ20_grow_1 14 rfl rfl)
theorem dJ20_grow_38 : decode cJ20_grow 38 = .ok (.ifCond .le 11, 3) := dk_158 0 11 (dk_at dksJ20_grow_1 15 rfl rfl)
theorem dJ20_grow_41 : decode cJ20_grow 41 = .ok (.aload_n 0, 1) := dk_42 (dk_at dksJ20_grow_1 18 rfl rfl)
theorem dJ20_grow_42 : decode cJ20_grow 42 = .ok (.iload_n 1, 1) := dk_27 (dk_at dksJ20_grow_1 19 rfl rfl)
theorem dJ20_grow_43 : decode cJ20_grow 43 = .ok (.iload 4, 2) := dk_21 4 (dk_at dksJ20_grow_1 20 rfl rfl)
theorem dJ20_grow_45 : decode cJ20_grow 45 = .ok (.invokevirtual 10, 3) := dk_182 0 10 (dk_at dksJ20_grow_2 0 rfl rfl)
theorem dJ20_grow_48 : decode cJ20_grow 48 = .ok (.istore_n 3, 1) := dk_62 (dk_at dksJ20_grow_2 3 rfl rfl)
theorem dJ20_grow_49 : decode cJ20_grow 49 = .ok (.aload_n 0, 1) := dk_42 (dk_at dksJ20_grow_2 4 rfl rfl)
theorem dJ20_grow_50 : decode cJ20_grow 50 = .ok (.aload_n 0, 1) := dk_42 (dk_at dksJ20_grow_2 5 rfl rfl)
theorem dJ20_grow_51 : decode cJ20_grow 51 = .ok (.getfield 3, 3) := dk_180 0 3 (dk_at dksJ20_grow_2 6 rfl rfl)
theorem dJ20_grow_54 : decode cJ20_grow 54 = .ok (.iload_n 3, 1) := dk_29 (dk_at dksJ20_grow_2 9 rfl rfl)
theorem dJ20_grow_55 : decode cJ20_grow 55 = .ok (.invokestatic 14, 3) := dk_184 0 14 (dk_at dksJ20_grow_2 10 rfl rfl)
theorem dJ20_grow_58 : decode cJ20_grow 58 = .ok (.dup_x1, 1) := dk_90 (dk_at dksJ20_grow_2 13 rfl rfl)
theorem dJ20_grow_59 : decode cJ20_grow 59 = .ok (.putfield 3, 3) := dk_181 0 3 (dk_at dksJ20_grow_2 14 rfl rfl)
theorem dJ20_grow_62 : decode cJ20_grow 62 = .ok (.astore 5, 2) := dk_58 5 (dk_at dksJ20_grow_2 17 rfl rfl)
theorem dJ20_grow_64 : decode cJ20_grow 64 = .ok (.aload_n 0, 1) := dk_42 (dk_at dksJ20_grow_2 19 rfl rfl)
theorem dJ20_grow_65 : decode cJ20_grow 65 = .ok (.getfield 20, 3) := dk_180 0 20 (dk_at dksJ20_grow_2 20 rfl rfl)
theorem dJ20_grow_68 : decode cJ20_grow 68 = .ok (.aload_n 0, 1) := dk_42 (dk_at dksJ20_grow_2 23 rfl rfl)
theorem dJ20_grow_69 : decode cJ20_grow 69 = .ok (.getfield 24, 3) := dk_180 0 24 (dk_at dksJ20_grow_3 0 rfl rfl)
theorem dJ20_grow_72 : decode cJ20_grow 72 = .ok (.if_icmp .lt 24, 3) := dk_161 0 24 (dk_at dksJ20_grow_3 3 rfl rfl)
theorem dJ20_grow_75 : decode cJ20_grow 75 = .ok (.aload_n 0, 1) := dk_42 (dk_at dksJ20_grow_3 6 rfl rfl)
theorem dJ20_grow_76 : decode cJ20_grow 76 = .ok (.getfield 20, 3) := dk_180 0 20 (dk_at dksJ20_grow_3 7 rfl rfl)
theorem dJ20_grow_79 : decode cJ20_grow 79 = .ok (.aload_n 0, 1) := dk_42 (dk_at dksJ20_grow_3 10 rfl rfl)
theorem dJ20_grow_80 : decode cJ20_grow 80 = .ok (.getfield 24, 3) := dk_180 0 24 (dk_at dksJ20_grow_3 11 rfl rfl)
theorem dJ20_grow_83 : decode cJ20_grow 83 = .ok (.if_icmp .ne 81, 3) := dk_160 0 81 (dk_at dksJ20_grow_3 14 rfl rfl)
theorem dJ20_grow_86 : decode cJ20_grow 86 = .ok (.aload 5, 2) := dk_25 5 (dk_at dksJ20_grow_3 17 rfl rfl)
theorem dJ20_grow_88 : decode cJ20_grow 88 = .ok (.aload_n 0, 1) := dk_42 (dk_at dksJ20_grow_3 19 rfl rfl)
theorem dJ20_grow_89 : decode cJ20_grow 89 = .ok (.getfield 24, 3) := dk_180 0 24 (dk_at dksJ20_grow_3 20 rfl rfl)
theorem dJ20_grow_92 : decode cJ20_grow 92 = .ok (.aaload, 1) := dk_50 (dk_at dksJ20_grow_3 23 rfl rfl)
theorem dJ20_grow_93 : decode cJ20_grow 93 = .ok (.ifnull 71, 3) := dk_198 0 71 (dk_at dksJ20_grow_4 0 rfl rfl)
theorem dJ20_grow_96 : decode cJ20_grow 96 = .ok (.iload_n 3, 1) := dk_29 (dk_at dksJ20_grow_4 3 rfl rfl)
theorem dJ20_grow_97 : decode cJ20_grow 97 = .ok (.iload_n 2, 1) := dk_28 (dk_at dksJ20_grow_4 4 rfl rfl)
theorem dJ20_grow_98 : decode cJ20_grow 98 = .ok (.isub, 1) := dk_100 (dk_at dksJ20_grow_4 5 rfl rfl)
theorem dJ20_grow_99 : decode cJ20_grow 99 = .ok (.istore 6, 2) := dk_54 6 (dk_at dksJ20_grow_4 6 rfl rfl)
theorem dJ20_grow_101 : decode cJ20_grow 101 = .ok (.aload 5, 2) := dk_25 5 (dk_at dksJ20_grow_4 8 rfl rfl)
theorem dJ20_grow_103 : decode cJ20_grow 103 = .ok (.aload_n 0, 1) := dk_42 (dk_at dksJ20_grow_4 10 rfl rfl)
theorem dJ20_grow_104 : decode cJ20_grow 104 = .ok (.getfield 24, 3) := dk_180 0 24 (dk_at dksJ20_grow_4 11 rfl rfl)
theorem dJ20_grow_107 : decode cJ20_grow 107 = .ok (.aload 5, 2) := dk_25 5 (dk_at dksJ20_grow_4 14 rfl rfl)
theorem dJ20_grow_109 : decode cJ20_grow 109 = .ok (.aload_n 0, 1) := dk_42 (dk_at dksJ20_grow_4 16 rfl rfl)
theorem dJ20_grow_110 : decode cJ20_grow 110 = .ok (.getfield 24, 3) := dk_180 0 24 (dk_at dksJ20_grow_4 17 rfl rfl)
theorem dJ20_grow_113 : decode cJ20_grow 113 = .ok (.iload 6, 2) := dk_21 6 (dk_at dksJ20_grow_4 20 rfl rfl)
theorem dJ20_grow_115 : decode cJ20_grow 115 = .ok (.iadd, 1) := dk_96 (dk_at dksJ20_grow_4 22 rfl rfl)
theorem dJ20_grow_116 : decode cJ20_grow 116 = .ok (.iload_n 2, 1) := dk_28 (dk_at dksJ20_grow_4 23 rfl rfl)
theorem dJ20_grow_117 : decode cJ20_grow 117 = .ok (.aload_n 0, 1) := dk_42 (dk_at dksJ20_grow_5 0 rfl rfl)
theorem dJ20_grow_118 : decode cJ20_grow 118 = .ok (.getfield 24, 3) := dk_180 0 24 (dk_at dksJ20_grow_5 1 rfl rfl)
theorem dJ20_grow_121 : decode cJ20_grow 121 = .ok (.isub, 1) := dk_100 (dk_at dksJ20_grow_5 4 rfl rfl)
theorem dJ20_grow_122 : decode cJ20_grow 122 = .ok (.invokestatic 27, 3) := dk_184 0 27 (dk_at dksJ20_grow_5 5 rfl rfl)
theorem dJ20_grow_125 : decode cJ20_grow 125 = .ok (.aload_n 0, 1) := dk_42 (dk_at dksJ20_grow_5 8 rfl rfl)
theorem dJ20_grow_126 : decode cJ20_grow 126 = .ok (.getfield 24, 3) := dk_180 0 24 (dk_at dksJ20_grow_5 9 rfl rfl)
theorem dJ20_grow_129 : decode cJ20_grow 129 = .ok (.istore 7, 2) := dk_54 7 (dk_at dksJ20_grow_5 12 rfl rfl)
theorem dJ20_grow_131 : decode cJ20_grow 131 = .ok (.aload_n 0, 1) := dk_42 (dk_at dksJ20_grow_5 14 rfl rfl)
theorem dJ20_grow_132 : decode cJ20_grow 132 = .ok (.dup, 1) := dk_89 (dk_at dksJ20_grow_5 15 rfl rfl)
theorem dJ20_grow_133 : decode cJ20_grow 133 = .ok (.getfield 24, 3) := dk_180 0 24 (dk_at dksJ20_grow_5 16 rfl rfl)
theorem dJ20_grow_136 : decode cJ20_grow 136 = .ok (.iload 6, 2) := dk_21 6 (dk_at dksJ20_grow_5 19 rfl rfl)
theorem dJ20_grow_138 : decode cJ20_grow 138 = .ok (.iadd, 1) := dk_96 (dk_at dksJ20_grow_5 21 rfl rfl)
theorem dJ20_grow_139 : decode cJ20_grow 139 = .ok (.dup_x1, 1) := dk_90 (dk_at dksJ20_grow_5 22 rfl rfl)
theorem dJ20_grow_140 : decode cJ20_grow 140 = .ok (.putfield 24, 3) := dk_181 0 24 (dk_at dksJ20_grow_6 0 rfl rfl)
theorem dJ20_grow_143 : decode cJ20_grow 143 = .ok (.istore 8, 2) := dk_54 8 (dk_at dksJ20_grow_6 3 rfl rfl)
theorem dJ20_grow_145 : decode cJ20_grow 145 = .ok (.iload 7, 2) := dk_21 7 (dk_at dksJ20_grow_6 5 rfl rfl)
theorem dJ20_grow_147 : decode cJ20_grow 147 = .ok (.iload 8, 2) := dk_21 8 (dk_at dksJ20_grow_6 7 rfl rfl)
theorem dJ20_grow_149 : decode cJ20_grow 149 = .ok (.if_icmp .ge 15, 3) := dk_162 0 15 (dk_at dksJ20_grow_6 9 rfl rfl)
theorem dJ20_grow_152 : decode cJ20_grow 152 = .ok (.aload 5, 2) := dk_25 5 (dk_at dksJ20_grow_6 12 rfl rfl)
theorem dJ20_grow_154 : decode cJ20_grow 154 = .ok (.iload 7, 2) := dk_21 7 (dk_at dksJ20_grow_6 14 rfl rfl)
theorem dJ20_grow_156 : decode cJ20_grow 156 = .ok (.aconst_null, 1) := dk_1 (dk_at dksJ20_grow_6 16 rfl rfl)
theorem dJ20_grow_157 : decode cJ20_grow 157 = .ok (.aastore, 1) := dk_83 (dk_at dksJ20_grow_6 17 rfl rfl)
theorem dJ20_grow_158 : decode cJ20_grow 158 = .ok (.iinc 7 1, 3) := dk_132 7 1 (dk_at dksJ20_grow_6 18 rfl rfl)
theorem dJ20_grow_161 : decode cJ20_grow 161 = .ok (.goto (-16), 3) := dk_167 255 240 (dk_at dksJ20_grow_6 21 rfl rfl)
theorem dJ20_grow_164 : decode cJ20_grow 164 = .ok (.return_, 1) := dk_177 (dk_at dksJ20_grow_7 0 rfl rfl)
abbrev cJ20_newCapacity : ByteArray := prog_59_method_2_code
def yJ20_newCapacity : MethodName := ⟨RJ20, "newCapacity", "(II)I"⟩
def dkwJ20_newCapacity_2 : List UInt8 := [18, 9, 100, 156, 0, 9, 29, 28, 96, 167, 0, 5, 18, 9, 172]
abbrev dktJ20_newCapacity_2 : List UInt8 := dkwJ20_newCapacity_2 ++ []
def dkwJ20_newCapacity_1 : List UInt8 := [187, 0, 33, 89, 18, 35, 183, 0, 37, 191, 18, 41, 172, 27, 28, 164, 0, 6, 21, 4, 172, 29, 28, 96]
abbrev dktJ20_newCapacity_1 : List UInt8 := dkwJ20_newCapacity_1 ++ dktJ20_newCapacity_2
def dkwJ20_newCapacity_0 : List UInt8 := [42, 180, 0, 3, 190, 62, 29, 27, 96, 89, 54, 4, 18, 9, 100, 158, 0, 21, 21, 4, 156, 0, 13]
abbrev dktJ20_newCapacity_0 : List UInt8 := dkwJ20_newCapacity_0 ++ dktJ20_newCapacity_1
theorem dksJ20_newCapacity_0 : cJ20_newCapacity.data.toList.drop 0 = dktJ20_newCapacity_0 := by decide +kernel
theorem dksJ20_newCapacity_1 : cJ20_newCapacity.data.toList.drop 23 = dktJ20_newCapacity_1 := dk_seg dksJ20_newCapacity_0 23 rfl rfl
theorem dksJ20_newCapacity_2 : cJ20_newCapacity.data.toList.drop 47 = dktJ20_newCapacity_2 := dk_seg dksJ20_newCapacity_1 24 rfl rfl
theorem dJ20_newCapacity_0 : decode cJ20_newCapacity 0 = .ok (.aload_n 0, 1) := dk_42 (dk_at dksJ20_newCapacity_0 0 rfl rfl)
theorem dJ20_newCapacity_1 : decode cJ20_newCapacity 1 = .ok (.getfield 3, 3) := dk_180 0 3 (dk_at dksJ20_newCapacity_0 1 rfl rfl)
theorem dJ20_newCapacity_4 : decode cJ20_newCapacity 4 = .ok (.arraylength, 1) := dk_190 (dk_at dksJ20_newCapacity_0 4 rfl rfl)
theorem dJ20_newCapacity_5 : decode cJ20_newCapacity 5 = .ok (.istore_n 3, 1) := dk_62 (dk_at dksJ20_newCapacity_0 5 rfl rfl)
theorem dJ20_newCapacity_6 : decode cJ20_newCapacity 6 = .ok (.iload_n 3, 1) := dk_29 (dk_at dksJ20_newCapacity_0 6 rfl rfl)
theorem dJ20_newCapacity_7 : decode cJ20_newCapacity 7 = .ok (.iload_n 1, 1) := dk_27 (dk_at dksJ20_newCapacity_0 7 rfl rfl)
theorem dJ20_newCapacity_8 : decode cJ20_newCapacity 8 = .ok (.iadd, 1) := dk_96 (dk_at dksJ20_newCapacity_0 8 rfl rfl)
theorem dJ20_newCapacity_9 : decode cJ20_newCapacity 9 = .ok (.dup, 1) := dk_89 (dk_at dksJ20_newCapacity_0 9 rfl rfl)
theorem dJ20_newCapacity_10 : decode cJ20_newCapacity 10 = .ok (.istore 4, 2) := dk_54 4 (dk_at dksJ20_newCapacity_0 10 rfl rfl)
theorem dJ20_newCapacity_12 : decode cJ20_newCapacity 12 = .ok (.ldc 9, 2) := dk_18 9 (dk_at dksJ20_newCapacity_0 12 rfl rfl)
theorem dJ20_newCapacity_14 : decode cJ20_newCapacity 14 = .ok (.isub, 1) := dk_100 (dk_at dksJ20_newCapacity_0 14 rfl rfl)
theorem dJ20_newCapacity_15 : decode cJ20_newCapacity 15 = .ok (.ifCond .le 21, 3) := dk_158 0 21 (dk_at dksJ20_newCapacity_0 15 rfl rfl)
theorem dJ20_newCapacity_18 : decode cJ20_newCapacity 18 = .ok (.iload 4, 2) := dk_21 4 (dk_at dksJ20_newCapacity_0 18 rfl rfl)
theorem dJ20_newCapacity_20 : decode cJ20_newCapacity 20 = .ok (.ifCond .ge 13, 3) := dk_156 0 13 (dk_at dksJ20_newCapacity_0 20 rfl rfl)
theorem dJ20_newCapacity_23 : decode cJ20_newCapacity 23 = .ok (.new 33, 3) := dk_187 0 33 (dk_at dksJ20_newCapacity_1 0 rfl rfl)
theorem dJ20_newCapacity_26 : decode cJ20_newCapacity 26 = .ok (.dup, 1) := dk_89 (dk_at dksJ20_newCapacity_1 3 rfl rfl)
theorem dJ20_newCapacity_27 : decode cJ20_newCapacity 27 = .ok (.ldc 35, 2) := dk_18 35 (dk_at dksJ20_newCapacity_1 4 rfl rfl)
theorem dJ20_newCapacity_29 : decode cJ20_newCapacity 29 = .ok (.invokespecial 37, 3) := dk_183 0 37 (dk_at dksJ20_newCapacity_1 6 rfl rfl)
theorem dJ20_newCapacity_32 : decode cJ20_newCapacity 32 = .ok (.athrow, 1) := dk_191 (dk_at dksJ20_newCapacity_1 9 rfl rfl)
theorem dJ20_newCapacity_33 : decode cJ20_newCapacity 33 = .ok (.ldc 41, 2) := dk_18 41 (dk_at dksJ20_newCapacity_1 10 rfl rfl)
theorem dJ20_newCapacity_35 : decode cJ20_newCapacity 35 = .ok (.ireturn, 1) := dk_172 (dk_at dksJ20_newCapacity_1 12 rfl rfl)
theorem dJ20_newCapacity_36 : decode cJ20_newCapacity 36 = .ok (.iload_n 1, 1) := dk_27 (dk_at dksJ20_newCapacity_1 13 rfl rfl)
theorem dJ20_newCapacity_37 : decode cJ20_newCapacity 37 = .ok (.iload_n 2, 1) := dk_28 (dk_at dksJ20_newCapacity_1 14 rfl rfl)
theorem dJ20_newCapacity_38 : decode cJ20_newCapacity 38 = .ok (.if_icmp .le 6, 3) := dk_164 0 6 (dk_at dksJ20_newCapacity_1 15 rfl rfl)
theorem dJ20_newCapacity_41 : decode cJ20_newCapacity 41 = .ok (.iload 4, 2) := dk_21 4 (dk_at dksJ20_newCapacity_1 18 rfl rfl)
theorem dJ20_newCapacity_43 : decode cJ20_newCapacity 43 = .ok (.ireturn, 1) := dk_172 (dk_at dksJ20_newCapacity_1 20 rfl rfl)
theorem dJ20_newCapacity_44 : decode cJ20_newCapacity 44 = .ok (.iload_n 3, 1) := dk_29 (dk_at dksJ20_newCapacity_1 21 rfl rfl)
theorem dJ20_newCapacity_45 : decode cJ20_newCapacity 45 = .ok (.iload_n 2, 1) := dk_28 (dk_at dksJ20_newCapacity_1 22 rfl rfl)
theorem dJ20_newCapacity_46 : decode cJ20_newCapacity 46 = .ok (.iadd, 1) := dk_96 (dk_at dksJ20_newCapacity_1 23 rfl rfl)
theorem dJ20_newCapacity_47 : decode cJ20_newCapacity 47 = .ok (.ldc 9, 2) := dk_18 9 (dk_at dksJ20_newCapacity_2 0 rfl rfl)
theorem dJ20_newCapacity_49 : decode cJ20_newCapacity 49 = .ok (.isub, 1) := dk_100 (dk_at dksJ20_newCapacity_2 2 rfl rfl)
theorem dJ20_newCapacity_50 : decode cJ20_newCapacity 50 = .ok (.ifCond .ge 9, 3) := dk_156 0 9 (dk_at dksJ20_newCapacity_2 3 rfl rfl)
theorem dJ20_newCapacity_53 : decode cJ20_newCapacity 53 = .ok (.iload_n 3, 1) := dk_29 (dk_at dksJ20_newCapacity_2 6 rfl rfl)
theorem dJ20_newCapacity_54 : decode cJ20_newCapacity 54 = .ok (.iload_n 2, 1) := dk_28 (dk_at dksJ20_newCapacity_2 7 rfl rfl)
theorem dJ20_newCapacity_55 : decode cJ20_newCapacity 55 = .ok (.iadd, 1) := dk_96 (dk_at dksJ20_newCapacity_2 8 rfl rfl)
theorem dJ20_newCapacity_56 : decode cJ20_newCapacity 56 = .ok (.goto 5, 3) := dk_167 0 5 (dk_at dksJ20_newCapacity_2 9 rfl rfl)
theorem dJ20_newCapacity_59 : decode cJ20_newCapacity 59 = .ok (.ldc 9, 2) := dk_18 9 (dk_at dksJ20_newCapacity_2 12 rfl rfl)
theorem dJ20_newCapacity_61 : decode cJ20_newCapacity 61 = .ok (.ireturn, 1) := dk_172 (dk_at dksJ20_newCapacity_2 14 rfl rfl)
abbrev cJ20_removeFirst : ByteArray := prog_59_method_18_code
def yJ20_removeFirst : MethodName := ⟨RJ20, "removeFirst", "()Ljava/lang/Object;"⟩
def dkwJ20_removeFirst_0 : List UInt8 := [42, 182, 0, 93, 76, 43, 199, 0, 11, 187, 0, 97, 89, 183, 0, 99, 191, 43, 176]
abbrev dktJ20_removeFirst_0 : List UInt8 := dkwJ20_removeFirst_0 ++ []
theorem dksJ20_removeFirst_0 : cJ20_removeFirst.data.toList.drop 0 = dktJ20_removeFirst_0 := by decide +kernel
theorem dJ20_removeFirst_0 : decode cJ20_removeFirst 0 = .ok (.aload_n 0, 1) := dk_42 (dk_at dksJ20_removeFirst_0 0 rfl rfl)
theorem dJ20_removeFirst_1 : decode cJ20_removeFirst 1 = .ok (.invokevirtual 93, 3) := dk_182 0 93 (dk_at dksJ20_removeFirst_0 1 rfl rfl)
theorem dJ20_removeFirst_4 : decode cJ20_removeFirst 4 = .ok (.astore_n 1, 1) := dk_76 (dk_at dksJ20_removeFirst_0 4 rfl rfl)
theorem dJ20_removeFirst_5 : decode cJ20_removeFirst 5 = .ok (.aload_n 1, 1) := dk_43 (dk_at dksJ20_removeFirst_0 5 rfl rfl)
theorem dJ20_removeFirst_6 : decode cJ20_removeFirst 6 = .ok (.ifnonnull 11, 3) := dk_199 0 11 (dk_at dksJ20_removeFirst_0 6 rfl rfl)
theorem dJ20_removeFirst_9 : decode cJ20_removeFirst 9 = .ok (.new 97, 3) := dk_187 0 97 (dk_at dksJ20_removeFirst_0 9 rfl rfl)
theorem dJ20_removeFirst_12 : decode cJ20_removeFirst 12 = .ok (.dup, 1) := dk_89 (dk_at dksJ20_removeFirst_0 12 rfl rfl)
theorem dJ20_removeFirst_13 : decode cJ20_removeFirst 13 = .ok (.invokespecial 99, 3) := dk_183 0 99 (dk_at dksJ20_removeFirst_0 13 rfl rfl)
theorem dJ20_removeFirst_16 : decode cJ20_removeFirst 16 = .ok (.athrow, 1) := dk_191 (dk_at dksJ20_removeFirst_0 16 rfl rfl)
theorem dJ20_removeFirst_17 : decode cJ20_removeFirst 17 = .ok (.aload_n 1, 1) := dk_43 (dk_at dksJ20_removeFirst_0 17 rfl rfl)
theorem dJ20_removeFirst_18 : decode cJ20_removeFirst 18 = .ok (.areturn, 1) := dk_176 (dk_at dksJ20_removeFirst_0 18 rfl rfl)
abbrev cJ20_pollFirst : ByteArray := prog_59_method_20_code
def yJ20_pollFirst : MethodName := ⟨RJ20, "pollFirst", "()Ljava/lang/Object;"⟩
def dkwJ20_pollFirst_1 : List UInt8 := [42, 28, 43, 190, 184, 0, 74, 181, 0, 24, 45, 176]
abbrev dktJ20_pollFirst_1 : List UInt8 := dkwJ20_pollFirst_1 ++ []
def dkwJ20_pollFirst_0 : List UInt8 := [42, 180, 0, 3, 89, 76, 42, 180, 0, 24, 89, 61, 184, 0, 103, 78, 45, 198, 0, 17, 43, 28, 1, 83]
abbrev dktJ20_pollFirst_0 : List UInt8 := dkwJ20_pollFirst_0 ++ dktJ20_pollFirst_1
theorem dksJ20_pollFirst_0 : cJ20_pollFirst.data.toList.drop 0 = dktJ20_pollFirst_0 := by decide +kernel
theorem dksJ20_pollFirst_1 : cJ20_pollFirst.data.toList.drop 24 = dktJ20_pollFirst_1 := dk_seg dksJ20_pollFirst_0 24 rfl rfl
theorem dJ20_pollFirst_0 : decode cJ20_pollFirst 0 = .ok (.aload_n 0, 1) := dk_42 (dk_at dksJ20_pollFirst_0 0 rfl rfl)
theorem dJ20_pollFirst_1 : decode cJ20_pollFirst 1 = .ok (.getfield 3, 3) := dk_180 0 3 (dk_at dksJ20_pollFirst_0 1 rfl rfl)
theorem dJ20_pollFirst_4 : decode cJ20_pollFirst 4 = .ok (.dup, 1) := dk_89 (dk_at dksJ20_pollFirst_0 4 rfl rfl)
theorem dJ20_pollFirst_5 : decode cJ20_pollFirst 5 = .ok (.astore_n 1, 1) := dk_76 (dk_at dksJ20_pollFirst_0 5 rfl rfl)
theorem dJ20_pollFirst_6 : decode cJ20_pollFirst 6 = .ok (.aload_n 0, 1) := dk_42 (dk_at dksJ20_pollFirst_0 6 rfl rfl)
theorem dJ20_pollFirst_7 : decode cJ20_pollFirst 7 = .ok (.getfield 24, 3) := dk_180 0 24 (dk_at dksJ20_pollFirst_0 7 rfl rfl)
theorem dJ20_pollFirst_10 : decode cJ20_pollFirst 10 = .ok (.dup, 1) := dk_89 (dk_at dksJ20_pollFirst_0 10 rfl rfl)
theorem dJ20_pollFirst_11 : decode cJ20_pollFirst 11 = .ok (.istore_n 2, 1) := dk_61 (dk_at dksJ20_pollFirst_0 11 rfl rfl)
theorem dJ20_pollFirst_12 : decode cJ20_pollFirst 12 = .ok (.invokestatic 103, 3) := dk_184 0 103 (dk_at dksJ20_pollFirst_0 12 rfl rfl)
theorem dJ20_pollFirst_15 : decode cJ20_pollFirst 15 = .ok (.astore_n 3, 1) := dk_78 (dk_at dksJ20_pollFirst_0 15 rfl rfl)
theorem dJ20_pollFirst_16 : decode cJ20_pollFirst 16 = .ok (.aload_n 3, 1) := dk_45 (dk_at dksJ20_pollFirst_0 16 rfl rfl)
theorem dJ20_pollFirst_17 : decode cJ20_pollFirst 17 = .ok (.ifnull 17, 3) := dk_198 0 17 (dk_at dksJ20_pollFirst_0 17 rfl rfl)
theorem dJ20_pollFirst_20 : decode cJ20_pollFirst 20 = .ok (.aload_n 1, 1) := dk_43 (dk_at dksJ20_pollFirst_0 20 rfl rfl)
theorem dJ20_pollFirst_21 : decode cJ20_pollFirst 21 = .ok (.iload_n 2, 1) := dk_28 (dk_at dksJ20_pollFirst_0 21 rfl rfl)
theorem dJ20_pollFirst_22 : decode cJ20_pollFirst 22 = .ok (.aconst_null, 1) := dk_1 (dk_at dksJ20_pollFirst_0 22 rfl rfl)
theorem dJ20_pollFirst_23 : decode cJ20_pollFirst 23 = .ok (.aastore, 1) := dk_83 (dk_at dksJ20_pollFirst_0 23 rfl rfl)
theorem dJ20_pollFirst_24 : decode cJ20_pollFirst 24 = .ok (.aload_n 0, 1) := dk_42 (dk_at dksJ20_pollFirst_1 0 rfl rfl)
theorem dJ20_pollFirst_25 : decode cJ20_pollFirst 25 = .ok (.iload_n 2, 1) := dk_28 (dk_at dksJ20_pollFirst_1 1 rfl rfl)
theorem dJ20_pollFirst_26 : decode cJ20_pollFirst 26 = .ok (.aload_n 1, 1) := dk_43 (dk_at dksJ20_pollFirst_1 2 rfl rfl)
theorem dJ20_pollFirst_27 : decode cJ20_pollFirst 27 = .ok (.arraylength, 1) := dk_190 (dk_at dksJ20_pollFirst_1 3 rfl rfl)
theorem dJ20_pollFirst_28 : decode cJ20_pollFirst 28 = .ok (.invokestatic 74, 3) := dk_184 0 74 (dk_at dksJ20_pollFirst_1 4 rfl rfl)
theorem dJ20_pollFirst_31 : decode cJ20_pollFirst 31 = .ok (.putfield 24, 3) := dk_181 0 24 (dk_at dksJ20_pollFirst_1 7 rfl rfl)
theorem dJ20_pollFirst_34 : decode cJ20_pollFirst 34 = .ok (.aload_n 3, 1) := dk_45 (dk_at dksJ20_pollFirst_1 10 rfl rfl)
theorem dJ20_pollFirst_35 : decode cJ20_pollFirst 35 = .ok (.areturn, 1) := dk_176 (dk_at dksJ20_pollFirst_1 11 rfl rfl)
abbrev cJ20_elementAt : ByteArray := prog_59_method_10_code
def yJ20_elementAt : MethodName := ⟨RJ20, "elementAt", "([Ljava/lang/Object;I)Ljava/lang/Object;"⟩
def dkwJ20_elementAt_0 : List UInt8 := [42, 27, 50, 176]
abbrev dktJ20_elementAt_0 : List UInt8 := dkwJ20_elementAt_0 ++ []
theorem dksJ20_elementAt_0 : cJ20_elementAt.data.toList.drop 0 = dktJ20_elementAt_0 := by decide +kernel
theorem dJ20_elementAt_0 : decode cJ20_elementAt 0 = .ok (.aload_n 0, 1) := dk_42 (dk_at dksJ20_elementAt_0 0 rfl rfl)
theorem dJ20_elementAt_1 : decode cJ20_elementAt 1 = .ok (.iload_n 1, 1) := dk_27 (dk_at dksJ20_elementAt_0 1 rfl rfl)
theorem dJ20_elementAt_2 : decode cJ20_elementAt 2 = .ok (.aaload, 1) := dk_50 (dk_at dksJ20_elementAt_0 2 rfl rfl)
theorem dJ20_elementAt_3 : decode cJ20_elementAt 3 = .ok (.areturn, 1) := dk_176 (dk_at dksJ20_elementAt_0 3 rfl rfl)
abbrev cJ20_isEmpty : ByteArray := prog_59_method_38_code
def yJ20_isEmpty : MethodName := ⟨RJ20, "isEmpty", "()Z"⟩
def dkwJ20_isEmpty_0 : List UInt8 := [42, 180, 0, 24, 42, 180, 0, 20, 160, 0, 7, 4, 167, 0, 4, 3, 172]
abbrev dktJ20_isEmpty_0 : List UInt8 := dkwJ20_isEmpty_0 ++ []
theorem dksJ20_isEmpty_0 : cJ20_isEmpty.data.toList.drop 0 = dktJ20_isEmpty_0 := by decide +kernel
theorem dJ20_isEmpty_0 : decode cJ20_isEmpty 0 = .ok (.aload_n 0, 1) := dk_42 (dk_at dksJ20_isEmpty_0 0 rfl rfl)
theorem dJ20_isEmpty_1 : decode cJ20_isEmpty 1 = .ok (.getfield 24, 3) := dk_180 0 24 (dk_at dksJ20_isEmpty_0 1 rfl rfl)
theorem dJ20_isEmpty_4 : decode cJ20_isEmpty 4 = .ok (.aload_n 0, 1) := dk_42 (dk_at dksJ20_isEmpty_0 4 rfl rfl)
theorem dJ20_isEmpty_5 : decode cJ20_isEmpty 5 = .ok (.getfield 20, 3) := dk_180 0 20 (dk_at dksJ20_isEmpty_0 5 rfl rfl)
theorem dJ20_isEmpty_8 : decode cJ20_isEmpty 8 = .ok (.if_icmp .ne 7, 3) := dk_160 0 7 (dk_at dksJ20_isEmpty_0 8 rfl rfl)
theorem dJ20_isEmpty_11 : decode cJ20_isEmpty 11 = .ok (.iconst 1, 1) := dk_4 (dk_at dksJ20_isEmpty_0 11 rfl rfl)
theorem dJ20_isEmpty_12 : decode cJ20_isEmpty 12 = .ok (.goto 4, 3) := dk_167 0 4 (dk_at dksJ20_isEmpty_0 12 rfl rfl)
theorem dJ20_isEmpty_15 : decode cJ20_isEmpty 15 = .ok (.iconst 0, 1) := dk_3 (dk_at dksJ20_isEmpty_0 15 rfl rfl)
theorem dJ20_isEmpty_16 : decode cJ20_isEmpty 16 = .ok (.ireturn, 1) := dk_172 (dk_at dksJ20_isEmpty_0 16 rfl rfl)
abbrev cJ20_removeLast : ByteArray := prog_59_method_19_code
def yJ20_removeLast : MethodName := ⟨RJ20, "removeLast", "()Ljava/lang/Object;"⟩
def dkwJ20_removeLast_0 : List UInt8 := [42, 182, 0, 100, 76, 43, 199, 0, 11, 187, 0, 97, 89, 183, 0, 99, 191, 43, 176]
abbrev dktJ20_removeLast_0 : List UInt8 := dkwJ20_removeLast_0 ++ []
theorem dksJ20_removeLast_0 : cJ20_removeLast.data.toList.drop 0 = dktJ20_removeLast_0 := by decide +kernel
theorem dJ20_removeLast_0 : decode cJ20_removeLast 0 = .ok (.aload_n 0, 1) := dk_42 (dk_at dksJ20_removeLast_0 0 rfl rfl)
theorem dJ20_removeLast_1 : decode cJ20_removeLast 1 = .ok (.invokevirtual 100, 3) := dk_182 0 100 (dk_at dksJ20_removeLast_0 1 rfl rfl)
theorem dJ20_removeLast_4 : decode cJ20_removeLast 4 = .ok (.astore_n 1, 1) := dk_76 (dk_at dksJ20_removeLast_0 4 rfl rfl)
theorem dJ20_removeLast_5 : decode cJ20_removeLast 5 = .ok (.aload_n 1, 1) := dk_43 (dk_at dksJ20_removeLast_0 5 rfl rfl)
theorem dJ20_removeLast_6 : decode cJ20_removeLast 6 = .ok (.ifnonnull 11, 3) := dk_199 0 11 (dk_at dksJ20_removeLast_0 6 rfl rfl)
theorem dJ20_removeLast_9 : decode cJ20_removeLast 9 = .ok (.new 97, 3) := dk_187 0 97 (dk_at dksJ20_removeLast_0 9 rfl rfl)
theorem dJ20_removeLast_12 : decode cJ20_removeLast 12 = .ok (.dup, 1) := dk_89 (dk_at dksJ20_removeLast_0 12 rfl rfl)
theorem dJ20_removeLast_13 : decode cJ20_removeLast 13 = .ok (.invokespecial 99, 3) := dk_183 0 99 (dk_at dksJ20_removeLast_0 13 rfl rfl)
theorem dJ20_removeLast_16 : decode cJ20_removeLast 16 = .ok (.athrow, 1) := dk_191 (dk_at dksJ20_removeLast_0 16 rfl rfl)
theorem dJ20_removeLast_17 : decode cJ20_removeLast 17 = .ok (.aload_n 1, 1) := dk_43 (dk_at dksJ20_removeLast_0 17 rfl rfl)
theorem dJ20_removeLast_18 : decode cJ20_removeLast 18 = .ok (.areturn, 1) := dk_176 (dk_at dksJ20_removeLast_0 18 rfl rfl)
abbrev cJ20_pollLast : ByteArray := prog_59_method_21_code
def yJ20_pollLast : MethodName := ⟨RJ20, "pollLast", "()Ljava/lang/Object;"⟩
def dkwJ20_pollLast_1 : List UInt8 := [198, 0, 12, 43, 42, 28, 90, 181, 0, 20, 1, 83, 45, 176]
abbrev dktJ20_pollLast_1 : List UInt8 := dkwJ20_pollLast_1 ++ []
def dkwJ20_pollLast_0 : List UInt8 := [42, 180, 0, 3, 89, 76, 42, 180, 0, 20, 43, 190, 184, 0, 68, 89, 61, 184, 0, 103, 78, 45]
abbrev dktJ20_pollLast_0 : List UInt8 := dkwJ20_pollLast_0 ++ dktJ20_pollLast_1
theorem dksJ20_pollLast_0 : cJ20_pollLast.data.toList.drop 0 = dktJ20_pollLast_0 := by decide +kernel
theorem dksJ20_pollLast_1 : cJ20_pollLast.data.toList.drop 22 = dktJ20_pollLast_1 := dk_seg dksJ20_pollLast_0 22 rfl rfl
theorem dJ20_pollLast_0 : decode cJ20_pollLast 0 = .ok (.aload_n 0, 1) := dk_42 (dk_at dksJ20_pollLast_0 0 rfl rfl)
theorem dJ20_pollLast_1 : decode cJ20_pollLast 1 = .ok (.getfield 3, 3) := dk_180 0 3 (dk_at dksJ20_pollLast_0 1 rfl rfl)
theorem dJ20_pollLast_4 : decode cJ20_pollLast 4 = .ok (.dup, 1) := dk_89 (dk_at dksJ20_pollLast_0 4 rfl rfl)
theorem dJ20_pollLast_5 : decode cJ20_pollLast 5 = .ok (.astore_n 1, 1) := dk_76 (dk_at dksJ20_pollLast_0 5 rfl rfl)
theorem dJ20_pollLast_6 : decode cJ20_pollLast 6 = .ok (.aload_n 0, 1) := dk_42 (dk_at dksJ20_pollLast_0 6 rfl rfl)
theorem dJ20_pollLast_7 : decode cJ20_pollLast 7 = .ok (.getfield 20, 3) := dk_180 0 20 (dk_at dksJ20_pollLast_0 7 rfl rfl)
theorem dJ20_pollLast_10 : decode cJ20_pollLast 10 = .ok (.aload_n 1, 1) := dk_43 (dk_at dksJ20_pollLast_0 10 rfl rfl)
theorem dJ20_pollLast_11 : decode cJ20_pollLast 11 = .ok (.arraylength, 1) := dk_190 (dk_at dksJ20_pollLast_0 11 rfl rfl)
theorem dJ20_pollLast_12 : decode cJ20_pollLast 12 = .ok (.invokestatic 68, 3) := dk_184 0 68 (dk_at dksJ20_pollLast_0 12 rfl rfl)
theorem dJ20_pollLast_15 : decode cJ20_pollLast 15 = .ok (.dup, 1) := dk_89 (dk_at dksJ20_pollLast_0 15 rfl rfl)
theorem dJ20_pollLast_16 : decode cJ20_pollLast 16 = .ok (.istore_n 2, 1) := dk_61 (dk_at dksJ20_pollLast_0 16 rfl rfl)
theorem dJ20_pollLast_17 : decode cJ20_pollLast 17 = .ok (.invokestatic 103, 3) := dk_184 0 103 (dk_at dksJ20_pollLast_0 17 rfl rfl)
theorem dJ20_pollLast_20 : decode cJ20_pollLast 20 = .ok (.astore_n 3, 1) := dk_78 (dk_at dksJ20_pollLast_0 20 rfl rfl)
theorem dJ20_pollLast_21 : decode cJ20_pollLast 21 = .ok (.aload_n 3, 1) := dk_45 (dk_at dksJ20_pollLast_0 21 rfl rfl)
theorem dJ20_pollLast_22 : decode cJ20_pollLast 22 = .ok (.ifnull 12, 3) := dk_198 0 12 (dk_at dksJ20_pollLast_1 0 rfl rfl)
theorem dJ20_pollLast_25 : decode cJ20_pollLast 25 = .ok (.aload_n 1, 1) := dk_43 (dk_at dksJ20_pollLast_1 3 rfl rfl)
theorem dJ20_pollLast_26 : decode cJ20_pollLast 26 = .ok (.aload_n 0, 1) := dk_42 (dk_at dksJ20_pollLast_1 4 rfl rfl)
theorem dJ20_pollLast_27 : decode cJ20_pollLast 27 = .ok (.iload_n 2, 1) := dk_28 (dk_at dksJ20_pollLast_1 5 rfl rfl)
theorem dJ20_pollLast_28 : decode cJ20_pollLast 28 = .ok (.dup_x1, 1) := dk_90 (dk_at dksJ20_pollLast_1 6 rfl rfl)
theorem dJ20_pollLast_29 : decode cJ20_pollLast 29 = .ok (.putfield 20, 3) := dk_181 0 20 (dk_at dksJ20_pollLast_1 7 rfl rfl)
theorem dJ20_pollLast_32 : decode cJ20_pollLast 32 = .ok (.aconst_null, 1) := dk_1 (dk_at dksJ20_pollLast_1 10 rfl rfl)
theorem dJ20_pollLast_33 : decode cJ20_pollLast 33 = .ok (.aastore, 1) := dk_83 (dk_at dksJ20_pollLast_1 11 rfl rfl)
theorem dJ20_pollLast_34 : decode cJ20_pollLast 34 = .ok (.aload_n 3, 1) := dk_45 (dk_at dksJ20_pollLast_1 12 rfl rfl)
theorem dJ20_pollLast_35 : decode cJ20_pollLast 35 = .ok (.areturn, 1) := dk_176 (dk_at dksJ20_pollLast_1 13 rfl rfl)
abbrev cJ20_dec : ByteArray := prog_59_method_7_code
def yJ20_dec : MethodName := ⟨RJ20, "dec", "(II)I"⟩
def dkwJ20_dec_0 : List UInt8 := [132, 0, 255, 26, 156, 0, 7, 27, 4, 100, 59, 26, 172]
abbrev dktJ20_dec_0 : List UInt8 := dkwJ20_dec_0 ++ []
theorem dksJ20_dec_0 : cJ20_dec.data.toList.drop 0 = dktJ20_dec_0 := by decide +kernel
theorem dJ20_dec_0 : decode cJ20_dec 0 = .ok (.iinc 0 (-1), 3) := dk_132 0 255 (dk_at dksJ20_dec_0 0 rfl rfl)
theorem dJ20_dec_3 : decode cJ20_dec 3 = .ok (.iload_n 0, 1) := dk_26 (dk_at dksJ20_dec_0 3 rfl rfl)
theorem dJ20_dec_4 : decode cJ20_dec 4 = .ok (.ifCond .ge 7, 3) := dk_156 0 7 (dk_at dksJ20_dec_0 4 rfl rfl)
theorem dJ20_dec_7 : decode cJ20_dec 7 = .ok (.iload_n 1, 1) := dk_27 (dk_at dksJ20_dec_0 7 rfl rfl)
theorem dJ20_dec_8 : decode cJ20_dec 8 = .ok (.iconst 1, 1) := dk_4 (dk_at dksJ20_dec_0 8 rfl rfl)
theorem dJ20_dec_9 : decode cJ20_dec 9 = .ok (.isub, 1) := dk_100 (dk_at dksJ20_dec_0 9 rfl rfl)
theorem dJ20_dec_10 : decode cJ20_dec 10 = .ok (.istore_n 0, 1) := dk_59 (dk_at dksJ20_dec_0 10 rfl rfl)
theorem dJ20_dec_11 : decode cJ20_dec 11 = .ok (.iload_n 0, 1) := dk_26 (dk_at dksJ20_dec_0 11 rfl rfl)
theorem dJ20_dec_12 : decode cJ20_dec 12 = .ok (.ireturn, 1) := dk_172 (dk_at dksJ20_dec_0 12 rfl rfl)
theorem q126 : (Jvm.Cond.initialized "java/util/ArrayDeque") ∈ lw_all := lw_g (lw_at lw_m1 25 rfl) rfl
theorem q653 : (Jvm.Cond.instantiable "java/util/ArrayDeque" (3 : Nat)) ∈ lw_all := lw_g (lw_at lw_m3 72 rfl) rfl
theorem q655 : (Jvm.Cond.instanceMethod ({ cls := "java/util/ArrayDeque", name := "<init>", desc := "(I)V" } : Jvm.MethodName)) ∈ lw_all := lw_g (lw_at lw_m3 74 rfl) rfl
theorem q656 : (Jvm.Cond.code ({ cls := "java/util/ArrayDeque", name := "<init>", desc := "(I)V" } : Jvm.MethodName) prog_59_method_4_code (2 : Nat) (Option.none : Option Jvm.ClassFile.FieldType)) ∈ lw_all := lw_g (lw_at lw_m3 75 rfl) rfl
theorem q657 : (Jvm.Cond.methodLink "java/util/ArrayDeque" (42 : Nat) ({ cls := "java/util/AbstractCollection", name := "<init>", desc := "()V" } : Jvm.MethodName)) ∈ lw_all := lw_g (lw_at lw_m3 76 rfl) rfl
theorem q658 : (Jvm.Cond.constant "java/util/ArrayDeque" (41 : Nat) (2147483647 : Int32)) ∈ lw_all := lw_g (lw_at lw_m3 77 rfl) rfl
theorem q659 : (Jvm.Cond.classLink "java/util/ArrayDeque" (47 : Nat) "java/lang/Object") ∈ lw_all := lw_g (lw_at lw_m3 78 rfl) rfl
theorem q660 : (Jvm.Cond.fieldLink "java/util/ArrayDeque" (3 : Nat) "java/util/ArrayDeque" "elements" "[Ljava/lang/Object;") ∈ lw_all := lw_g (lw_at lw_m3 79 rfl) rfl
theorem q663 : (Jvm.Cond.fieldLink "java/util/ArrayDeque" (24 : Nat) "java/util/ArrayDeque" "head" "I") ∈ lw_all := lw_g (lw_at lw_m3 82 rfl) rfl
theorem q664 : (Jvm.Cond.fieldLink "java/util/ArrayDeque" (20 : Nat) "java/util/ArrayDeque" "tail" "I") ∈ lw_all := lw_g (lw_at lw_m3 83 rfl) rfl
theorem q665 : (Jvm.Cond.lays "java/util/ArrayDeque" "java/util/ArrayDeque" "elements" "[Ljava/lang/Object;") ∈ lw_all := lw_g (lw_at lw_m3 84 rfl) rfl
theorem q666 : (Jvm.Cond.soleField "java/util/ArrayDeque" "elements") ∈ lw_all := lw_g (lw_at lw_m3 85 rfl) rfl
theorem q667 : (Jvm.Cond.lays "java/util/ArrayDeque" "java/util/ArrayDeque" "head" "I") ∈ lw_all := lw_g (lw_at lw_m3 86 rfl) rfl
theorem q668 : (Jvm.Cond.soleField "java/util/ArrayDeque" "head") ∈ lw_all := lw_g (lw_at lw_m3 87 rfl) rfl
theorem q669 : (Jvm.Cond.lays "java/util/ArrayDeque" "java/util/ArrayDeque" "tail" "I") ∈ lw_all := lw_g (lw_at lw_m3 88 rfl) rfl
theorem q670 : (Jvm.Cond.soleField "java/util/ArrayDeque" "tail") ∈ lw_all := lw_g (lw_at lw_m3 89 rfl) rfl
theorem q671 : (Jvm.Cond.superclass "java/util/ArrayDeque" "java/util/AbstractCollection") ∈ lw_all := lw_g (lw_at lw_m3 90 rfl) rfl
theorem q813 : (Jvm.Cond.static ({ cls := "java/util/ArrayDeque", name := "nonNullElementAt", desc := "([Ljava/lang/Object;I)Ljava/lang/Object;" } : Jvm.MethodName)) ∈ lw_all := lw_g (lw_at lw_m3 232 rfl) rfl
theorem q814 : (Jvm.Cond.code ({ cls := "java/util/ArrayDeque", name := "nonNullElementAt", desc := "([Ljava/lang/Object;I)Ljava/lang/Object;" } : Jvm.MethodName) prog_59_method_11_code (3 : Nat) (Option.some (Jvm.ClassFile.FieldType.object "java/lang/Object"))) ∈ lw_all := lw_g (lw_at lw_m3 233 rfl) rfl
theorem q816 : (Jvm.Cond.static ({ cls := "java/util/ArrayDeque", name := "inc", desc := "(II)I" } : Jvm.MethodName)) ∈ lw_all := lw_g (lw_at lw_m3 235 rfl) rfl
theorem q817 : (Jvm.Cond.code ({ cls := "java/util/ArrayDeque", name := "inc", desc := "(II)I" } : Jvm.MethodName) prog_59_method_6_code (2 : Nat) (Option.some Jvm.ClassFile.FieldType.int)) ∈ lw_all := lw_g (lw_at lw_m3 236 rfl) rfl
theorem q921 : (Jvm.Cond.castable "java/util/ArrayDeque" "java/util/Collection") ∈ lw_tbl := lw_at lw_m4 100 rfl
theorem q922 : (Jvm.Cond.selects "java/util/ArrayDeque" ({ cls := "java/util/Collection", name := "iterator", desc := "()Ljava/util/Iterator;" } : Jvm.MethodName) ({ cls := "java/util/ArrayDeque", name := "iterator", desc := "()Ljava/util/Iterator;" } : Jvm.MethodName)) ∈ lw_all := lw_g (lw_at lw_m4 101 rfl) rfl
theorem q923 : (Jvm.Cond.unhidden "java/util/ArrayDeque" "iterator" "()Ljava/util/Iterator;") ∈ lw_tbl := lw_at lw_m4 102 rfl
theorem q924 : (Jvm.Cond.instanceMethod ({ cls := "java/util/ArrayDeque", name := "iterator", desc := "()Ljava/util/Iterator;" } : Jvm.MethodName)) ∈ lw_all := lw_g (lw_at lw_m4 103 rfl) rfl
theorem q925 : (Jvm.Cond.publicMethod ({ cls := "java/util/ArrayDeque", name := "iterator", desc := "()Ljava/util/Iterator;" } : Jvm.MethodName)) ∈ lw_tbl := lw_at lw_m4 104 rfl
theorem q926 : (Jvm.Cond.code ({ cls := "java/util/ArrayDeque", name := "iterator", desc := "()Ljava/util/Iterator;" } : Jvm.MethodName) prog_59_method_39_code (1 : Nat) (Option.some (Jvm.ClassFile.FieldType.object "java/util/Iterator"))) ∈ lw_all := lw_g (lw_at lw_m4 105 rfl) rfl
theorem q927 : (Jvm.Cond.classLink "java/util/ArrayDeque" (131 : Nat) "java/util/ArrayDeque$DeqIterator") ∈ lw_all := lw_g (lw_at lw_m4 106 rfl) rfl
theorem q929 : (Jvm.Cond.methodLink "java/util/ArrayDeque" (133 : Nat) ({ cls := "java/util/ArrayDeque$DeqIterator", name := "<init>", desc := "(Ljava/util/ArrayDeque;)V" } : Jvm.MethodName)) ∈ lw_all := lw_g (lw_at lw_m4 108 rfl) rfl
theorem q934 : (Jvm.Cond.instanceMethod ({ cls := "java/util/ArrayDeque", name := "size", desc := "()I" } : Jvm.MethodName)) ∈ lw_all := lw_g (lw_at lw_m4 113 rfl) rfl
theorem q935 : (Jvm.Cond.selects "java/util/ArrayDeque" ({ cls := "java/util/ArrayDeque", name := "size", desc := "()I" } : Jvm.MethodName) ({ cls := "java/util/ArrayDeque", name := "size", desc := "()I" } : Jvm.MethodName)) ∈ lw_all := lw_g (lw_at lw_m4 114 rfl) rfl
theorem q936 : (Jvm.Cond.code ({ cls := "java/util/ArrayDeque", name := "size", desc := "()I" } : Jvm.MethodName) prog_59_method_37_code (1 : Nat) (Option.some Jvm.ClassFile.FieldType.int)) ∈ lw_all := lw_g (lw_at lw_m4 115 rfl) rfl
theorem q937 : (Jvm.Cond.methodLink "java/util/ArrayDeque" (127 : Nat) ({ cls := "java/util/ArrayDeque", name := "sub", desc := "(III)I" } : Jvm.MethodName)) ∈ lw_all := lw_g (lw_at lw_m4 116 rfl) rfl
theorem q938 : (Jvm.Cond.static ({ cls := "java/util/ArrayDeque", name := "sub", desc := "(III)I" } : Jvm.MethodName)) ∈ lw_all := lw_g (lw_at lw_m4 117 rfl) rfl
theorem q939 : (Jvm.Cond.code ({ cls := "java/util/ArrayDeque", name := "sub", desc := "(III)I" } : Jvm.MethodName) prog_59_method_9_code (3 : Nat) (Option.some Jvm.ClassFile.FieldType.int)) ∈ lw_all := lw_g (lw_at lw_m4 118 rfl) rfl
theorem q1703 : (Jvm.Cond.selects "java/util/ArrayDeque" ({ cls := "java/lang/Object", name := "getClass", desc := "()Ljava/lang/Class;" } : Jvm.MethodName) ({ cls := "java/lang/Object", name := "getClass", desc := "()Ljava/lang/Class;" } : Jvm.MethodName)) ∈ lw_all := lw_g (lw_at lw_m7 162 rfl) rfl
theorem q2583 : (Jvm.Cond.instanceMethod ({ cls := "java/util/ArrayDeque", name := "addLast", desc := "(Ljava/lang/Object;)V" } : Jvm.MethodName)) ∈ lw_all := lw_g (lw_at lw_m11 82 rfl) rfl
theorem q2584 : (Jvm.Cond.selects "java/util/ArrayDeque" ({ cls := "java/util/ArrayDeque", name := "addLast", desc := "(Ljava/lang/Object;)V" } : Jvm.MethodName) ({ cls := "java/util/ArrayDeque", name := "addLast", desc := "(Ljava/lang/Object;)V" } : Jvm.MethodName)) ∈ lw_all := lw_g (lw_at lw_m11 83 rfl) rfl
theorem q2585 : (Jvm.Cond.code ({ cls := "java/util/ArrayDeque", name := "addLast", desc := "(Ljava/lang/Object;)V" } : Jvm.MethodName) prog_59_method_13_code (3 : Nat) (Option.none : Option Jvm.ClassFile.FieldType)) ∈ lw_all := lw_g (lw_at lw_m11 84 rfl) rfl
theorem q2586 : (Jvm.Cond.methodLink "java/util/ArrayDeque" (74 : Nat) ({ cls := "java/util/ArrayDeque", name := "inc", desc := "(II)I" } : Jvm.MethodName)) ∈ lw_all := lw_g (lw_at lw_m11 85 rfl) rfl
theorem q2587 : (Jvm.Cond.methodLink "java/util/ArrayDeque" (71 : Nat) ({ cls := "java/util/ArrayDeque", name := "grow", desc := "(I)V" } : Jvm.MethodName)) ∈ lw_all := lw_g (lw_at lw_m11 86 rfl) rfl
theorem q2588 : (Jvm.Cond.privateMethod ({ cls := "java/util/ArrayDeque", name := "grow", desc := "(I)V" } : Jvm.MethodName)) ∈ lw_tbl := lw_at lw_m11 87 rfl
theorem q2589 : (Jvm.Cond.instanceMethod ({ cls := "java/util/ArrayDeque", name := "grow", desc := "(I)V" } : Jvm.MethodName)) ∈ lw_all := lw_g (lw_at lw_m11 88 rfl) rfl
theorem q2590 : (Jvm.Cond.code ({ cls := "java/util/ArrayDeque", name := "grow", desc := "(I)V" } : Jvm.MethodName) prog_59_method_1_code (9 : Nat) (Option.none : Option Jvm.ClassFile.FieldType)) ∈ lw_all := lw_g (lw_at lw_m11 89 rfl) rfl
theorem q2591 : (Jvm.Cond.constant "java/util/ArrayDeque" (9 : Nat) (2147483639 : Int32)) ∈ lw_all := lw_g (lw_at lw_m11 90 rfl) rfl
theorem q2592 : (Jvm.Cond.methodLink "java/util/ArrayDeque" (10 : Nat) ({ cls := "java/util/ArrayDeque", name := "newCapacity", desc := "(II)I" } : Jvm.MethodName)) ∈ lw_all := lw_g (lw_at lw_m11 91 rfl) rfl
theorem q2593 : (Jvm.Cond.privateMethod ({ cls := "java/util/ArrayDeque", name := "newCapacity", desc := "(II)I" } : Jvm.MethodName)) ∈ lw_tbl := lw_at lw_m11 92 rfl
theorem q2594 : (Jvm.Cond.instanceMethod ({ cls := "java/util/ArrayDeque", name := "newCapacity", desc := "(II)I" } : Jvm.MethodName)) ∈ lw_all := lw_g (lw_at lw_m11 93 rfl) rfl
theorem q2595 : (Jvm.Cond.code ({ cls := "java/util/ArrayDeque", name := "newCapacity", desc := "(II)I" } : Jvm.MethodName) prog_59_method_2_code (5 : Nat) (Option.some Jvm.ClassFile.FieldType.int)) ∈ lw_all := lw_g (lw_at lw_m11 94 rfl) rfl
theorem q2596 : (Jvm.Cond.classLink "java/util/ArrayDeque" (33 : Nat) "java/lang/IllegalStateException") ∈ lw_all := lw_g (lw_at lw_m11 95 rfl) rfl
theorem q2597 : (Jvm.Cond.stringRef "java/util/ArrayDeque" (35 : Nat) "Sorry, deque too big") ∈ lw_tbl := lw_at lw_m11 96 rfl
theorem q2598 : (Jvm.Cond.methodLink "java/util/ArrayDeque" (37 : Nat) ({ cls := "java/lang/IllegalStateException", name := "<init>", desc := "(Ljava/lang/String;)V" } : Jvm.MethodName)) ∈ lw_all := lw_g (lw_at lw_m11 97 rfl) rfl
theorem q2602 : (Jvm.Cond.methodLink "java/util/ArrayDeque" (14 : Nat) ({ cls := "java/util/Arrays", name := "copyOf", desc := "([Ljava/lang/Object;I)[Ljava/lang/Object;" } : Jvm.MethodName)) ∈ lw_all := lw_g (lw_at lw_m11 101 rfl) rfl
theorem q2611 : (Jvm.Cond.methodLink "java/util/ArrayDeque" (27 : Nat) ({ cls := "java/lang/System", name := "arraycopy", desc := "(Ljava/lang/Object;ILjava/lang/Object;II)V" } : Jvm.MethodName)) ∈ lw_all := lw_g (lw_at lw_m11 110 rfl) rfl
theorem q2614 : (Jvm.Cond.instanceMethod ({ cls := "java/util/ArrayDeque", name := "removeFirst", desc := "()Ljava/lang/Object;" } : Jvm.MethodName)) ∈ lw_all := lw_g (lw_at lw_m11 113 rfl) rfl
theorem q2615 : (Jvm.Cond.selects "java/util/ArrayDeque" ({ cls := "java/util/ArrayDeque", name := "removeFirst", desc := "()Ljava/lang/Object;" } : Jvm.MethodName) ({ cls := "java/util/ArrayDeque", name := "removeFirst", desc := "()Ljava/lang/Object;" } : Jvm.MethodName)) ∈ lw_all := lw_g (lw_at lw_m11 114 rfl) rfl
theorem q2616 : (Jvm.Cond.code ({ cls := "java/util/ArrayDeque", name := "removeFirst", desc := "()Ljava/lang/Object;" } : Jvm.MethodName) prog_59_method_18_code (2 : Nat) (Option.some (Jvm.ClassFile.FieldType.object "java/lang/Object"))) ∈ lw_all := lw_g (lw_at lw_m11 115 rfl) rfl
theorem q2617 : (Jvm.Cond.methodLink "java/util/ArrayDeque" (93 : Nat) ({ cls := "java/util/ArrayDeque", name := "pollFirst", desc := "()Ljava/lang/Object;" } : Jvm.MethodName)) ∈ lw_all := lw_g (lw_at lw_m11 116 rfl) rfl
theorem q2618 : (Jvm.Cond.instanceMethod ({ cls := "java/util/ArrayDeque", name := "pollFirst", desc := "()Ljava/lang/Object;" } : Jvm.MethodName)) ∈ lw_all := lw_g (lw_at lw_m11 117 rfl) rfl
theorem q2619 : (Jvm.Cond.selects "java/util/ArrayDeque" ({ cls := "java/util/ArrayDeque", name := "pollFirst", desc := "()Ljava/lang/Object;" } : Jvm.MethodName) ({ cls := "java/util/ArrayDeque", name := "pollFirst", desc := "()Ljava/lang/Object;" } : Jvm.MethodName)) ∈ lw_all := lw_g (lw_at lw_m11 118 rfl) rfl
theorem q2620 : (Jvm.Cond.code ({ cls := "java/util/ArrayDeque", name := "pollFirst", desc := "()Ljava/lang/Object;" } : Jvm.MethodName) prog_59_method_20_code (4 : Nat) (Option.some (Jvm.ClassFile.FieldType.object "java/lang/Object"))) ∈ lw_all := lw_g (lw_at lw_m11 119 rfl) rfl
theorem q2621 : (Jvm.Cond.methodLink "java/util/ArrayDeque" (103 : Nat) ({ cls := "java/util/ArrayDeque", name := "elementAt", desc := "([Ljava/lang/Object;I)Ljava/lang/Object;" } : Jvm.MethodName)) ∈ lw_all := lw_g (lw_at lw_m11 120 rfl) rfl
theorem q2622 : (Jvm.Cond.static ({ cls := "java/util/ArrayDeque", name := "elementAt", desc := "([Ljava/lang/Object;I)Ljava/lang/Object;" } : Jvm.MethodName)) ∈ lw_all := lw_g (lw_at lw_m11 121 rfl) rfl
theorem q2623 : (Jvm.Cond.code ({ cls := "java/util/ArrayDeque", name := "elementAt", desc := "([Ljava/lang/Object;I)Ljava/lang/Object;" } : Jvm.MethodName) prog_59_method_10_code (2 : Nat) (Option.some (Jvm.ClassFile.FieldType.object "java/lang/Object"))) ∈ lw_all := lw_g (lw_at lw_m11 122 rfl) rfl
theorem q2643 : (Jvm.Cond.instanceMethod ({ cls := "java/util/ArrayDeque", name := "isEmpty", desc := "()Z" } : Jvm.MethodName)) ∈ lw_all := lw_g (lw_at lw_m11 142 rfl) rfl
theorem q2644 : (Jvm.Cond.selects "java/util/ArrayDeque" ({ cls := "java/util/ArrayDeque", name := "isEmpty", desc := "()Z" } : Jvm.MethodName) ({ cls := "java/util/ArrayDeque", name := "isEmpty", desc := "()Z" } : Jvm.MethodName)) ∈ lw_all := lw_g (lw_at lw_m11 143 rfl) rfl
theorem q2645 : (Jvm.Cond.code ({ cls := "java/util/ArrayDeque", name := "isEmpty", desc := "()Z" } : Jvm.MethodName) prog_59_method_38_code (1 : Nat) (Option.some Jvm.ClassFile.FieldType.boolean)) ∈ lw_all := lw_g (lw_at lw_m11 144 rfl) rfl
theorem q2647 : (Jvm.Cond.instanceMethod ({ cls := "java/util/ArrayDeque", name := "removeLast", desc := "()Ljava/lang/Object;" } : Jvm.MethodName)) ∈ lw_all := lw_g (lw_at lw_m11 146 rfl) rfl
theorem q2648 : (Jvm.Cond.selects "java/util/ArrayDeque" ({ cls := "java/util/ArrayDeque", name := "removeLast", desc := "()Ljava/lang/Object;" } : Jvm.MethodName) ({ cls := "java/util/ArrayDeque", name := "removeLast", desc := "()Ljava/lang/Object;" } : Jvm.MethodName)) ∈ lw_all := lw_g (lw_at lw_m11 147 rfl) rfl
theorem q2649 : (Jvm.Cond.code ({ cls := "java/util/ArrayDeque", name := "removeLast", desc := "()Ljava/lang/Object;" } : Jvm.MethodName) prog_59_method_19_code (2 : Nat) (Option.some (Jvm.ClassFile.FieldType.object "java/lang/Object"))) ∈ lw_all := lw_g (lw_at lw_m11 148 rfl) rfl
theorem q2650 : (Jvm.Cond.methodLink "java/util/ArrayDeque" (100 : Nat) ({ cls := "java/util/ArrayDeque", name := "pollLast", desc := "()Ljava/lang/Object;" } : Jvm.MethodName)) ∈ lw_all := lw_g (lw_at lw_m11 149 rfl) rfl
theorem q2651 : (Jvm.Cond.instanceMethod ({ cls := "java/util/ArrayDeque", name := "pollLast", desc := "()Ljava/lang/Object;" } : Jvm.MethodName)) ∈ lw_all := lw_g (lw_at lw_m11 150 rfl) rfl
theorem q2652 : (Jvm.Cond.selects "java/util/ArrayDeque" ({ cls := "java/util/ArrayDeque", name := "pollLast", desc := "()Ljava/lang/Object;" } : Jvm.MethodName) ({ cls := "java/util/ArrayDeque", name := "pollLast", desc := "()Ljava/lang/Object;" } : Jvm.MethodName)) ∈ lw_all := lw_g (lw_at lw_m11 151 rfl) rfl
theorem q2653 : (Jvm.Cond.code ({ cls := "java/util/ArrayDeque", name := "pollLast", desc := "()Ljava/lang/Object;" } : Jvm.MethodName) prog_59_method_21_code (4 : Nat) (Option.some (Jvm.ClassFile.FieldType.object "java/lang/Object"))) ∈ lw_all := lw_g (lw_at lw_m11 152 rfl) rfl
theorem q2654 : (Jvm.Cond.methodLink "java/util/ArrayDeque" (68 : Nat) ({ cls := "java/util/ArrayDeque", name := "dec", desc := "(II)I" } : Jvm.MethodName)) ∈ lw_all := lw_g (lw_at lw_m11 153 rfl) rfl
theorem q2655 : (Jvm.Cond.static ({ cls := "java/util/ArrayDeque", name := "dec", desc := "(II)I" } : Jvm.MethodName)) ∈ lw_all := lw_g (lw_at lw_m11 154 rfl) rfl
theorem q2656 : (Jvm.Cond.code ({ cls := "java/util/ArrayDeque", name := "dec", desc := "(II)I" } : Jvm.MethodName) prog_59_method_7_code (2 : Nat) (Option.some Jvm.ClassFile.FieldType.int)) ∈ lw_all := lw_g (lw_at lw_m11 155 rfl) rfl
theorem q3830 : (Jvm.Cond.castable "java/util/ArrayDeque" "java/util/SequencedCollection") ∈ lw_tbl := lw_at lw_m16 129 rfl
theorem q3854 : (Jvm.Cond.castable "java/util/ArrayDeque" "java/lang/Object") ∈ lw_tbl := lw_at lw_m16 153 rfl
theorem in_J20 : ∀ w ∈ wsJ200, w ∈ lw_all := lw_in wsJ200 [665, 667, 669] (by decide +kernel) (by decide +kernel)

-- J21.java_util_ArrayList_Itr.lean.txt
/-! java/util/ArrayList$Itr -/
set_option maxRecDepth 100000
def RJ21 : String := "java/util/ArrayList$Itr"
def TJ21 : u_T := fun k => match k with
  | 0 => ("java/util/ArrayList$Itr", "cursor", "I", false)
  | 1 => ("java/util/ArrayList$Itr", "lastRet", "I", false)
  | 2 => ("java/util/ArrayList$Itr", "expectedModCount", "I", false)
  | _ => ("java/util/ArrayList$Itr", "this$0", "Ljava/util/ArrayList;", true)
def tyJ21 : Nat → FieldType := fun k => match k with
  | 0 => .int
  | 1 => .int
  | 2 => .int
  | _ => .object "java/util/ArrayList"
abbrev wsJ210 : List Cond := u_ws RJ21 TJ21 4
theorem nmJ21 : ∀ a, a < 4 → ∀ b, b < 4 → a ≠ b → (TJ21 a).2.1 ≠ (TJ21 b).2.1 := by decide +kernel
theorem tyJ21_ok : ∀ k, k < 4 → parseFieldDescriptor (TJ21 k).2.2.1 = some (tyJ21 k) := by decide +kernel
abbrev cJ21_init : ByteArray := prog_62_method_1_code
def yJ21_init : MethodName := ⟨RJ21, "<init>", "(Ljava/util/ArrayList;)V"⟩
def dkwJ21_init_1 : List UInt8 := [181, 0, 22, 177]
abbrev dktJ21_init_1 : List UInt8 := dkwJ21_init_1 ++ []
def dkwJ21_init_0 : List UInt8 := [42, 43, 181, 0, 1, 42, 183, 0, 7, 42, 2, 181, 0, 13, 42, 42, 180, 0, 1, 180, 0, 17]
abbrev dktJ21_init_0 : List UInt8 := dkwJ21_init_0 ++ dktJ21_init_1
theorem dksJ21_init_0 : cJ21_init.data.toList.drop 0 = dktJ21_init_0 := by decide +kernel
theorem dksJ21_init_1 : cJ21_init.data.toList.drop 22 = dktJ21_init_1 := dk_seg dksJ21_init_0 22 rfl rfl
theorem dJ21_init_0 : decode cJ21_init 0 = .ok (.aload_n 0, 1) := dk_42 (dk_at dksJ21_init_0 0 rfl rfl)
theorem dJ21_init_1 : decode cJ21_init 1 = .ok (.aload_n 1, 1) := dk_43 (dk_at dksJ21_init_0 1 rfl rfl)
theorem dJ21_init_2 : decode cJ21_init 2 = .ok (.putfield 1, 3) := dk_181 0 1 (dk_at dksJ21_init_0 2 rfl rfl)
theorem dJ21_init_5 : decode cJ21_init 5 = .ok (.aload_n 0, 1) := dk_42 (dk_at dksJ21_init_0 5 rfl rfl)
theorem dJ21_init_6 : decode cJ21_init 6 = .ok (.invokespecial 7, 3) := dk_183 0 7 (dk_at dksJ21_init_0 6 rfl rfl)
theorem dJ21_init_9 : decode cJ21_init 9 = .ok (.aload_n 0, 1) := dk_42 (dk_at dksJ21_init_0 9 rfl rfl)
theorem dJ21_init_10 : decode cJ21_init 10 = .ok (.iconst (-1), 1) := dk_2 (dk_at dksJ21_init_0 10 rfl rfl)
theorem dJ21_init_11 : decode cJ21_init 11 = .ok (.putfield 13, 3) := dk_181 0 13 (dk_at dksJ21_init_0 11 rfl rfl)
theorem dJ21_init_14 : decode cJ21_init 14 = .ok (.aload_n 0, 1) := dk_42 (dk_at dksJ21_init_0 14 rfl rfl)
theorem dJ21_init_15 : decode cJ21_init 15 = .ok (.aload_n 0, 1) := dk_42 (dk_at dksJ21_init_0 15 rfl rfl)
theorem dJ21_init_16 : decode cJ21_init 16 = .ok (.getfield 1, 3) := dk_180 0 1 (dk_at dksJ21_init_0 16 rfl rfl)
theorem dJ21_init_19 : decode cJ21_init 19 = .ok (.getfield 17, 3) := dk_180 0 17 (dk_at dksJ21_init_0 19 rfl rfl)
theorem dJ21_init_22 : decode cJ21_init 22 = .ok (.putfield 22, 3) := dk_181 0 22 (dk_at dksJ21_init_1 0 rfl rfl)
theorem dJ21_init_25 : decode cJ21_init 25 = .ok (.return_, 1) := dk_177 (dk_at dksJ21_init_1 3 rfl rfl)
abbrev cJ21_hasNext : ByteArray := prog_62_method_2_code
def yJ21_hasNext : MethodName := ⟨RJ21, "hasNext", "()Z"⟩
def dkwJ21_hasNext_0 : List UInt8 := [42, 180, 0, 25, 42, 180, 0, 1, 180, 0, 28, 159, 0, 7, 4, 167, 0, 4, 3, 172]
abbrev dktJ21_hasNext_0 : List UInt8 := dkwJ21_hasNext_0 ++ []
theorem dksJ21_hasNext_0 : cJ21_hasNext.data.toList.drop 0 = dktJ21_hasNext_0 := by decide +kernel
theorem dJ21_hasNext_0 : decode cJ21_hasNext 0 = .ok (.aload_n 0, 1) := dk_42 (dk_at dksJ21_hasNext_0 0 rfl rfl)
theorem dJ21_hasNext_1 : decode cJ21_hasNext 1 = .ok (.getfield 25, 3) := dk_180 0 25 (dk_at dksJ21_hasNext_0 1 rfl rfl)
theorem dJ21_hasNext_4 : decode cJ21_hasNext 4 = .ok (.aload_n 0, 1) := dk_42 (dk_at dksJ21_hasNext_0 4 rfl rfl)
theorem dJ21_hasNext_5 : decode cJ21_hasNext 5 = .ok (.getfield 1, 3) := dk_180 0 1 (dk_at dksJ21_hasNext_0 5 rfl rfl)
theorem dJ21_hasNext_8 : decode cJ21_hasNext 8 = .ok (.getfield 28, 3) := dk_180 0 28 (dk_at dksJ21_hasNext_0 8 rfl rfl)
theorem dJ21_hasNext_11 : decode cJ21_hasNext 11 = .ok (.if_icmp .eq 7, 3) := dk_159 0 7 (dk_at dksJ21_hasNext_0 11 rfl rfl)
theorem dJ21_hasNext_14 : decode cJ21_hasNext 14 = .ok (.iconst 1, 1) := dk_4 (dk_at dksJ21_hasNext_0 14 rfl rfl)
theorem dJ21_hasNext_15 : decode cJ21_hasNext 15 = .ok (.goto 4, 3) := dk_167 0 4 (dk_at dksJ21_hasNext_0 15 rfl rfl)
theorem dJ21_hasNext_18 : decode cJ21_hasNext 18 = .ok (.iconst 0, 1) := dk_3 (dk_at dksJ21_hasNext_0 18 rfl rfl)
theorem dJ21_hasNext_19 : decode cJ21_hasNext 19 = .ok (.ireturn, 1) := dk_172 (dk_at dksJ21_hasNext_0 19 rfl rfl)
abbrev cJ21_next : ByteArray := prog_62_method_3_code
def yJ21_next : MethodName := ⟨RJ21, "next", "()Ljava/lang/Object;"⟩
def dkwJ21_next_2 : List UInt8 := [183, 0, 43, 191, 42, 27, 4, 96, 181, 0, 25, 44, 42, 27, 90, 181, 0, 13, 50, 176]
abbrev dktJ21_next_2 : List UInt8 := dkwJ21_next_2 ++ []
def dkwJ21_next_1 : List UInt8 := [183, 0, 36, 191, 42, 180, 0, 1, 180, 0, 37, 77, 27, 44, 190, 161, 0, 11, 187, 0, 41, 89]
abbrev dktJ21_next_1 : List UInt8 := dkwJ21_next_1 ++ dktJ21_next_2
def dkwJ21_next_0 : List UInt8 := [42, 182, 0, 31, 42, 180, 0, 25, 60, 27, 42, 180, 0, 1, 180, 0, 28, 161, 0, 11, 187, 0, 34, 89]
abbrev dktJ21_next_0 : List UInt8 := dkwJ21_next_0 ++ dktJ21_next_1
theorem dksJ21_next_0 : cJ21_next.data.toList.drop 0 = dktJ21_next_0 := by decide +kernel
theorem dksJ21_next_1 : cJ21_next.data.toList.drop 24 = dktJ21_next_1 := dk_seg dksJ21_next_0 24 rfl rfl
theorem dksJ21_next_2 : cJ21_next.data.toList.drop 46 = dktJ21_next_2 := dk_seg dksJ21_next_1 22 rfl rfl
theorem dJ21_next_0 : decode cJ21_next 0 = .ok (.aload_n 0, 1) := dk_42 (dk_at dksJ21_next_0 0 rfl rfl)
theorem dJ21_next_1 : decode cJ21_next 1 = .ok (.invokevirtual 31, 3) := dk_182 0 31 (dk_at dksJ21_next_0 1 rfl rfl)
theorem dJ21_next_4 : decode cJ21_next 4 = .ok (.aload_n 0, 1) := dk_42 (dk_at dksJ21_next_0 4 rfl rfl)
theorem dJ21_next_5 : decode cJ21_next 5 = .ok (.getfield 25, 3) := dk_180 0 25 (dk_at dksJ21_next_0 5 rfl rfl)
theorem dJ21_next_8 : decode cJ21_next 8 = .ok (.istore_n 1, 1) := dk_60 (dk_at dksJ21_next_0 8 rfl rfl)
theorem dJ21_next_9 : decode cJ21_next 9 = .ok (.iload_n 1, 1) := dk_27 (dk_at dksJ21_next_0 9 rfl rfl)
theorem dJ21_next_10 : decode cJ21_next 10 = .ok (.aload_n 0, 1) := dk_42 (dk_at dksJ21_next_0 10 rfl rfl)
theorem dJ21_next_11 : decode cJ21_next 11 = .ok (.getfield 1, 3) := dk_180 0 1 (dk_at dksJ21_next_0 11 rfl rfl)
theorem dJ21_next_14 : decode cJ21_next 14 = .ok (.getfield 28, 3) := dk_180 0 28 (dk_at dksJ21_next_0 14 rfl rfl)
theorem dJ21_next_17 : decode cJ21_next 17 = .ok (.if_icmp .lt 11, 3) := dk_161 0 11 (dk_at dksJ21_next_0 17 rfl rfl)
theorem dJ21_next_20 : decode cJ21_next 20 = .ok (.new 34, 3) := dk_187 0 34 (dk_at dksJ21_next_0 20 rfl rfl)
theorem dJ21_next_23 : decode cJ21_next 23 = .ok (.dup, 1) := dk_89 (dk_at dksJ21_next_0 23 rfl rfl)
theorem dJ21_next_24 : decode cJ21_next 24 = .ok (.invokespecial 36, 3) := dk_183 0 36 (dk_at dksJ21_next_1 0 rfl rfl)
theorem dJ21_next_27 : decode cJ21_next 27 = .ok (.athrow, 1) := dk_191 (dk_at dksJ21_next_1 3 rfl rfl)
theorem dJ21_next_28 : decode cJ21_next 28 = .ok (.aload_n 0, 1) := dk_42 (dk_at dksJ21_next_1 4 rfl rfl)
theorem dJ21_next_29 : decode cJ21_next 29 = .ok (.getfield 1, 3) := dk_180 0 1 (dk_at dksJ21_next_1 5 rfl rfl)
theorem dJ21_next_32 : decode cJ21_next 32 = .ok (.getfield 37, 3) := dk_180 0 37 (dk_at dksJ21_next_1 8 rfl rfl)
theorem dJ21_next_35 : decode cJ21_next 35 = .ok (.astore_n 2, 1) := dk_77 (dk_at dksJ21_next_1 11 rfl rfl)
theorem dJ21_next_36 : decode cJ21_next 36 = .ok (.iload_n 1, 1) := dk_27 (dk_at dksJ21_next_1 12 rfl rfl)
theorem dJ21_next_37 : decode cJ21_next 37 = .ok (.aload_n 2, 1) := dk_44 (dk_at dksJ21_next_1 13 rfl rfl)
theorem dJ21_next_38 : decode cJ21_next 38 = .ok (.arraylength, 1) := dk_190 (dk_at dksJ21_next_1 14 rfl rfl)
theorem dJ21_next_39 : decode cJ21_next 39 = .ok (.if_icmp .lt 11, 3) := dk_161 0 11 (dk_at dksJ21_next_1 15 rfl rfl)
theorem dJ21_next_42 : decode cJ21_next 42 = .ok (.new 41, 3) := dk_187 0 41 (dk_at dksJ21_next_1 18 rfl rfl)
theorem dJ21_next_45 : decode cJ21_next 45 = .ok (.dup, 1) := dk_89 (dk_at dksJ21_next_1 21 rfl rfl)
theorem dJ21_next_46 : decode cJ21_next 46 = .ok (.invokespecial 43, 3) := dk_183 0 43 (dk_at dksJ21_next_2 0 rfl rfl)
theorem dJ21_next_49 : decode cJ21_next 49 = .ok (.athrow, 1) := dk_191 (dk_at dksJ21_next_2 3 rfl rfl)
theorem dJ21_next_50 : decode cJ21_next 50 = .ok (.aload_n 0, 1) := dk_42 (dk_at dksJ21_next_2 4 rfl rfl)
theorem dJ21_next_51 : decode cJ21_next 51 = .ok (.iload_n 1, 1) := dk_27 (dk_at dksJ21_next_2 5 rfl rfl)
theorem dJ21_next_52 : decode cJ21_next 52 = .ok (.iconst 1, 1) := dk_4 (dk_at dksJ21_next_2 6 rfl rfl)
theorem dJ21_next_53 : decode cJ21_next 53 = .ok (.iadd, 1) := dk_96 (dk_at dksJ21_next_2 7 rfl rfl)
theorem dJ21_next_54 : decode cJ21_next 54 = .ok (.putfield 25, 3) := dk_181 0 25 (dk_at dksJ21_next_2 8 rfl rfl)
theorem dJ21_next_57 : decode cJ21_next 57 = .ok (.aload_n 2, 1) := dk_44 (dk_at dksJ21_next_2 11 rfl rfl)
theorem dJ21_next_58 : decode cJ21_next 58 = .ok (.aload_n 0, 1) := dk_42 (dk_at dksJ21_next_2 12 rfl rfl)
theorem dJ21_next_59 : decode cJ21_next 59 = .ok (.iload_n 1, 1) := dk_27 (dk_at dksJ21_next_2 13 rfl rfl)
theorem dJ21_next_60 : decode cJ21_next 60 = .ok (.dup_x1, 1) := dk_90 (dk_at dksJ21_next_2 14 rfl rfl)
theorem dJ21_next_61 : decode cJ21_next 61 = .ok (.putfield 13, 3) := dk_181 0 13 (dk_at dksJ21_next_2 15 rfl rfl)
theorem dJ21_next_64 : decode cJ21_next 64 = .ok (.aaload, 1) := dk_50 (dk_at dksJ21_next_2 18 rfl rfl)
theorem dJ21_next_65 : decode cJ21_next 65 = .ok (.areturn, 1) := dk_176 (dk_at dksJ21_next_2 19 rfl rfl)
abbrev cJ21_checkForComodification : ByteArray := prog_62_method_6_code
def yJ21_checkForComodification : MethodName := ⟨RJ21, "checkForComodification", "()V"⟩
def dkwJ21_checkForComodification_0 : List UInt8 := [42, 180, 0, 1, 180, 0, 17, 42, 180, 0, 22, 159, 0, 11, 187, 0, 41, 89, 183, 0, 43, 191, 177]
abbrev dktJ21_checkForComodification_0 : List UInt8 := dkwJ21_checkForComodification_0 ++ []
theorem dksJ21_checkForComodification_0 : cJ21_checkForComodification.data.toList.drop 0 = dktJ21_checkForComodification_0 := by decide +kernel
theorem dJ21_checkForComodification_0 : decode cJ21_checkForComodification 0 = .ok (.aload_n 0, 1) := dk_42 (dk_at dksJ21_checkForComodification_0 0 rfl rfl)
theorem dJ21_checkForComodification_1 : decode cJ21_checkForComodification 1 = .ok (.getfield 1, 3) := dk_180 0 1 (dk_at dksJ21_checkForComodification_0 1 rfl rfl)
theorem dJ21_checkForComodification_4 : decode cJ21_checkForComodification 4 = .ok (.getfield 17, 3) := dk_180 0 17 (dk_at dksJ21_checkForComodification_0 4 rfl rfl)
theorem dJ21_checkForComodification_7 : decode cJ21_checkForComodification 7 = .ok (.aload_n 0, 1) := dk_42 (dk_at dksJ21_checkForComodification_0 7 rfl rfl)
theorem dJ21_checkForComodification_8 : decode cJ21_checkForComodification 8 = .ok (.getfield 22, 3) := dk_180 0 22 (dk_at dksJ21_checkForComodification_0 8 rfl rfl)
theorem dJ21_checkForComodification_11 : decode cJ21_checkForComodification 11 = .ok (.if_icmp .eq 11, 3) := dk_159 0 11 (dk_at dksJ21_checkForComodification_0 11 rfl rfl)
theorem dJ21_checkForComodification_14 : decode cJ21_checkForComodification 14 = .ok (.new 41, 3) := dk_187 0 41 (dk_at dksJ21_checkForComodification_0 14 rfl rfl)
theorem dJ21_checkForComodification_17 : decode cJ21_checkForComodification 17 = .ok (.dup, 1) := dk_89 (dk_at dksJ21_checkForComodification_0 17 rfl rfl)
theorem dJ21_checkForComodification_18 : decode cJ21_checkForComodification 18 = .ok (.invokespecial 43, 3) := dk_183 0 43 (dk_at dksJ21_checkForComodification_0 18 rfl rfl)
theorem dJ21_checkForComodification_21 : decode cJ21_checkForComodification 21 = .ok (.athrow, 1) := dk_191 (dk_at dksJ21_checkForComodification_0 21 rfl rfl)
theorem dJ21_checkForComodification_22 : decode cJ21_checkForComodification 22 = .ok (.return_, 1) := dk_177 (dk_at dksJ21_checkForComodification_0 22 rfl rfl)
theorem q130 : (Jvm.Cond.initialized "java/util/ArrayList$Itr") ∈ lw_all := lw_g (lw_at lw_m1 29 rfl) rfl
theorem q525 : (Jvm.Cond.fieldLink "java/util/ArrayList$Itr" (37 : Nat) "java/util/ArrayList" "elementData" "[Ljava/lang/Object;") ∈ lw_all := lw_g (lw_at lw_m2 184 rfl) rfl
theorem q526 : (Jvm.Cond.fieldLinkNest "java/util/ArrayList$Itr" (28 : Nat) "java/util/ArrayList" "size" "I" "java/util/ArrayList") ∈ lw_tbl := lw_at lw_m2 185 rfl
theorem q529 : (Jvm.Cond.fieldLink "java/util/ArrayList$Itr" (17 : Nat) "java/util/ArrayList" "modCount" "I") ∈ lw_all := lw_g (lw_at lw_m2 188 rfl) rfl
theorem q751 : (Jvm.Cond.instantiable "java/util/ArrayList$Itr" (4 : Nat)) ∈ lw_all := lw_g (lw_at lw_m3 170 rfl) rfl
theorem q753 : (Jvm.Cond.instanceMethod ({ cls := "java/util/ArrayList$Itr", name := "<init>", desc := "(Ljava/util/ArrayList;)V" } : Jvm.MethodName)) ∈ lw_all := lw_g (lw_at lw_m3 172 rfl) rfl
theorem q754 : (Jvm.Cond.code ({ cls := "java/util/ArrayList$Itr", name := "<init>", desc := "(Ljava/util/ArrayList;)V" } : Jvm.MethodName) prog_62_method_1_code (2 : Nat) (Option.none : Option Jvm.ClassFile.FieldType)) ∈ lw_all := lw_g (lw_at lw_m3 173 rfl) rfl
theorem q755 : (Jvm.Cond.methodLink "java/util/ArrayList$Itr" (7 : Nat) ({ cls := "java/lang/Object", name := "<init>", desc := "()V" } : Jvm.MethodName)) ∈ lw_all := lw_g (lw_at lw_m3 174 rfl) rfl
theorem q756 : (Jvm.Cond.fieldLink "java/util/ArrayList$Itr" (25 : Nat) "java/util/ArrayList$Itr" "cursor" "I") ∈ lw_all := lw_g (lw_at lw_m3 175 rfl) rfl
theorem q757 : (Jvm.Cond.fieldLink "java/util/ArrayList$Itr" (13 : Nat) "java/util/ArrayList$Itr" "lastRet" "I") ∈ lw_all := lw_g (lw_at lw_m3 176 rfl) rfl
theorem q758 : (Jvm.Cond.fieldLink "java/util/ArrayList$Itr" (22 : Nat) "java/util/ArrayList$Itr" "expectedModCount" "I") ∈ lw_all := lw_g (lw_at lw_m3 177 rfl) rfl
theorem q759 : (Jvm.Cond.fieldLink "java/util/ArrayList$Itr" (1 : Nat) "java/util/ArrayList$Itr" "this$0" "Ljava/util/ArrayList;") ∈ lw_all := lw_g (lw_at lw_m3 178 rfl) rfl
theorem q760 : (Jvm.Cond.lays "java/util/ArrayList$Itr" "java/util/ArrayList$Itr" "cursor" "I") ∈ lw_all := lw_g (lw_at lw_m3 179 rfl) rfl
theorem q761 : (Jvm.Cond.soleField "java/util/ArrayList$Itr" "cursor") ∈ lw_all := lw_g (lw_at lw_m3 180 rfl) rfl
theorem q762 : (Jvm.Cond.lays "java/util/ArrayList$Itr" "java/util/ArrayList$Itr" "lastRet" "I") ∈ lw_all := lw_g (lw_at lw_m3 181 rfl) rfl
theorem q763 : (Jvm.Cond.soleField "java/util/ArrayList$Itr" "lastRet") ∈ lw_all := lw_g (lw_at lw_m3 182 rfl) rfl
theorem q764 : (Jvm.Cond.lays "java/util/ArrayList$Itr" "java/util/ArrayList$Itr" "expectedModCount" "I") ∈ lw_all := lw_g (lw_at lw_m3 183 rfl) rfl
theorem q765 : (Jvm.Cond.soleField "java/util/ArrayList$Itr" "expectedModCount") ∈ lw_all := lw_g (lw_at lw_m3 184 rfl) rfl
theorem q766 : (Jvm.Cond.laysFinal "java/util/ArrayList$Itr" "java/util/ArrayList$Itr" "this$0" "Ljava/util/ArrayList;") ∈ lw_all := lw_g (lw_at lw_m3 185 rfl) rfl
theorem q767 : (Jvm.Cond.soleField "java/util/ArrayList$Itr" "this$0") ∈ lw_all := lw_g (lw_at lw_m3 186 rfl) rfl
theorem q768 : (Jvm.Cond.superclass "java/util/ArrayList$Itr" "java/lang/Object") ∈ lw_all := lw_g (lw_at lw_m3 187 rfl) rfl
theorem q779 : (Jvm.Cond.castable "java/util/ArrayList$Itr" "java/util/Iterator") ∈ lw_tbl := lw_at lw_m3 198 rfl
theorem q780 : (Jvm.Cond.selects "java/util/ArrayList$Itr" ({ cls := "java/util/Iterator", name := "hasNext", desc := "()Z" } : Jvm.MethodName) ({ cls := "java/util/ArrayList$Itr", name := "hasNext", desc := "()Z" } : Jvm.MethodName)) ∈ lw_all := lw_g (lw_at lw_m3 199 rfl) rfl
theorem q781 : (Jvm.Cond.unhidden "java/util/ArrayList$Itr" "hasNext" "()Z") ∈ lw_tbl := lw_at lw_m3 200 rfl
theorem q782 : (Jvm.Cond.instanceMethod ({ cls := "java/util/ArrayList$Itr", name := "hasNext", desc := "()Z" } : Jvm.MethodName)) ∈ lw_all := lw_g (lw_at lw_m3 201 rfl) rfl
theorem q783 : (Jvm.Cond.publicMethod ({ cls := "java/util/ArrayList$Itr", name := "hasNext", desc := "()Z" } : Jvm.MethodName)) ∈ lw_tbl := lw_at lw_m3 202 rfl
theorem q784 : (Jvm.Cond.code ({ cls := "java/util/ArrayList$Itr", name := "hasNext", desc := "()Z" } : Jvm.MethodName) prog_62_method_2_code (1 : Nat) (Option.some Jvm.ClassFile.FieldType.boolean)) ∈ lw_all := lw_g (lw_at lw_m3 203 rfl) rfl
theorem q818 : (Jvm.Cond.selects "java/util/ArrayList$Itr" ({ cls := "java/util/Iterator", name := "next", desc := "()Ljava/lang/Object;" } : Jvm.MethodName) ({ cls := "java/util/ArrayList$Itr", name := "next", desc := "()Ljava/lang/Object;" } : Jvm.MethodName)) ∈ lw_all := lw_g (lw_at lw_m3 237 rfl) rfl
theorem q819 : (Jvm.Cond.unhidden "java/util/ArrayList$Itr" "next" "()Ljava/lang/Object;") ∈ lw_tbl := lw_at lw_m3 238 rfl
theorem q820 : (Jvm.Cond.instanceMethod ({ cls := "java/util/ArrayList$Itr", name := "next", desc := "()Ljava/lang/Object;" } : Jvm.MethodName)) ∈ lw_all := lw_g (lw_at lw_m3 239 rfl) rfl
theorem q821 : (Jvm.Cond.publicMethod ({ cls := "java/util/ArrayList$Itr", name := "next", desc := "()Ljava/lang/Object;" } : Jvm.MethodName)) ∈ lw_tbl := lw_at lw_m4 0 rfl
theorem q822 : (Jvm.Cond.code ({ cls := "java/util/ArrayList$Itr", name := "next", desc := "()Ljava/lang/Object;" } : Jvm.MethodName) prog_62_method_3_code (3 : Nat) (Option.some (Jvm.ClassFile.FieldType.object "java/lang/Object"))) ∈ lw_all := lw_g (lw_at lw_m4 1 rfl) rfl
theorem q823 : (Jvm.Cond.methodLink "java/util/ArrayList$Itr" (31 : Nat) ({ cls := "java/util/ArrayList$Itr", name := "checkForComodification", desc := "()V" } : Jvm.MethodName)) ∈ lw_all := lw_g (lw_at lw_m4 2 rfl) rfl
theorem q824 : (Jvm.Cond.instanceMethod ({ cls := "java/util/ArrayList$Itr", name := "checkForComodification", desc := "()V" } : Jvm.MethodName)) ∈ lw_all := lw_g (lw_at lw_m4 3 rfl) rfl
theorem q825 : (Jvm.Cond.selects "java/util/ArrayList$Itr" ({ cls := "java/util/ArrayList$Itr", name := "checkForComodification", desc := "()V" } : Jvm.MethodName) ({ cls := "java/util/ArrayList$Itr", name := "checkForComodification", desc := "()V" } : Jvm.MethodName)) ∈ lw_all := lw_g (lw_at lw_m4 4 rfl) rfl
theorem q826 : (Jvm.Cond.code ({ cls := "java/util/ArrayList$Itr", name := "checkForComodification", desc := "()V" } : Jvm.MethodName) prog_62_method_6_code (1 : Nat) (Option.none : Option Jvm.ClassFile.FieldType)) ∈ lw_all := lw_g (lw_at lw_m4 5 rfl) rfl
theorem q1706 : (Jvm.Cond.selects "java/util/ArrayList$Itr" ({ cls := "java/lang/Object", name := "getClass", desc := "()Ljava/lang/Class;" } : Jvm.MethodName) ({ cls := "java/lang/Object", name := "getClass", desc := "()Ljava/lang/Class;" } : Jvm.MethodName)) ∈ lw_all := lw_g (lw_at lw_m7 165 rfl) rfl
theorem q3858 : (Jvm.Cond.castable "java/util/ArrayList$Itr" "java/lang/Object") ∈ lw_tbl := lw_at lw_m16 157 rfl
theorem in_J21 : ∀ w ∈ wsJ210, w ∈ lw_all := lw_in wsJ210 [760, 762, 764, 766] (by decide +kernel) (by decide +kernel)

-- J25.java_util_HashMap_Node.lean.txt
/-! java/util/HashMap$Node -/
set_option maxRecDepth 100000
def RJ25 : String := "java/util/HashMap$Node"
abbrev cJ25_getKey : ByteArray := prog_70_method_2_code
def yJ25_getKey : MethodName := ⟨RJ25, "getKey", "()Ljava/lang/Object;"⟩
theorem dJ25_getKey_0 : decode cJ25_getKey 0 = .ok (.aload_n 0, 1) := by decide +kernel
theorem dJ25_getKey_1 : decode cJ25_getKey 1 = .ok (.getfield 13, 3) := by decide +kernel
theorem dJ25_getKey_4 : decode cJ25_getKey 4 = .ok (.areturn, 1) := by decide +kernel
abbrev cJ25_init : ByteArray := prog_70_method_1_code
def yJ25_init : MethodName := ⟨RJ25, "<init>", "(ILjava/lang/Object;Ljava/lang/Object;Ljava/util/HashMap$Node;)V"⟩
def dkwJ25_init_1 : List UInt8 := [181, 0, 20, 177]
abbrev dktJ25_init_1 : List UInt8 := dkwJ25_init_1 ++ []
def dkwJ25_init_0 : List UInt8 := [42, 183, 0, 1, 42, 27, 181, 0, 7, 42, 44, 181, 0, 13, 42, 45, 181, 0, 17, 42, 25, 4]
abbrev dktJ25_init_0 : List UInt8 := dkwJ25_init_0 ++ dktJ25_init_1
theorem dksJ25_init_0 : cJ25_init.data.toList.drop 0 = dktJ25_init_0 := by decide +kernel
theorem dksJ25_init_1 : cJ25_init.data.toList.drop 22 = dktJ25_init_1 := dk_seg dksJ25_init_0 22 rfl rfl
theorem dJ25_init_0 : decode cJ25_init 0 = .ok (.aload_n 0, 1) := dk_42 (dk_at dksJ25_init_0 0 rfl rfl)
theorem dJ25_init_1 : decode cJ25_init 1 = .ok (.invokespecial 1, 3) := dk_183 0 1 (dk_at dksJ25_init_0 1 rfl rfl)
theorem dJ25_init_4 : decode cJ25_init 4 = .ok (.aload_n 0, 1) := dk_42 (dk_at dksJ25_init_0 4 rfl rfl)
theorem dJ25_init_5 : decode cJ25_init 5 = .ok (.iload_n 1, 1) := dk_27 (dk_at dksJ25_init_0 5 rfl rfl)
theorem dJ25_init_6 : decode cJ25_init 6 = .ok (.putfield 7, 3) := dk_181 0 7 (dk_at dksJ25_init_0 6 rfl rfl)
theorem dJ25_init_9 : decode cJ25_init 9 = .ok (.aload_n 0, 1) := dk_42 (dk_at dksJ25_init_0 9 rfl rfl)
theorem dJ25_init_10 : decode cJ25_init 10 = .ok (.aload_n 2, 1) := dk_44 (dk_at dksJ25_init_0 10 rfl rfl)
theorem dJ25_init_11 : decode cJ25_init 11 = .ok (.putfield 13, 3) := dk_181 0 13 (dk_at dksJ25_init_0 11 rfl rfl)
theorem dJ25_init_14 : decode cJ25_init 14 = .ok (.aload_n 0, 1) := dk_42 (dk_at dksJ25_init_0 14 rfl rfl)
theorem dJ25_init_15 : decode cJ25_init 15 = .ok (.aload_n 3, 1) := dk_45 (dk_at dksJ25_init_0 15 rfl rfl)
theorem dJ25_init_16 : decode cJ25_init 16 = .ok (.putfield 17, 3) := dk_181 0 17 (dk_at dksJ25_init_0 16 rfl rfl)
theorem dJ25_init_19 : decode cJ25_init 19 = .ok (.aload_n 0, 1) := dk_42 (dk_at dksJ25_init_0 19 rfl rfl)
theorem dJ25_init_20 : decode cJ25_init 20 = .ok (.aload 4, 2) := dk_25 4 (dk_at dksJ25_init_0 20 rfl rfl)
theorem dJ25_init_22 : decode cJ25_init 22 = .ok (.putfield 20, 3) := dk_181 0 20 (dk_at dksJ25_init_1 0 rfl rfl)
theorem dJ25_init_25 : decode cJ25_init 25 = .ok (.return_, 1) := dk_177 (dk_at dksJ25_init_1 3 rfl rfl)
abbrev cJ25_getValue : ByteArray := prog_70_method_3_code
def yJ25_getValue : MethodName := ⟨RJ25, "getValue", "()Ljava/lang/Object;"⟩
theorem dJ25_getValue_0 : decode cJ25_getValue 0 = .ok (.aload_n 0, 1) := by decide +kernel
theorem dJ25_getValue_1 : decode cJ25_getValue 1 = .ok (.getfield 17, 3) := by decide +kernel
theorem dJ25_getValue_4 : decode cJ25_getValue 4 = .ok (.areturn, 1) := by decide +kernel
theorem q138 : (Jvm.Cond.initialized "java/util/HashMap$Node") ∈ lw_all := lw_g (lw_at lw_m1 37 rfl) rfl
theorem q863 : (Jvm.Cond.declares ({ cls := "java/util/HashMap$Node", name := "getKey", desc := "()Ljava/lang/Object;" } : Jvm.MethodName)) ∈ lw_tbl := lw_at lw_m4 42 rfl
theorem q866 : (Jvm.Cond.instanceMethod ({ cls := "java/util/HashMap$Node", name := "getKey", desc := "()Ljava/lang/Object;" } : Jvm.MethodName)) ∈ lw_all := lw_g (lw_at lw_m4 45 rfl) rfl
theorem q867 : (Jvm.Cond.code ({ cls := "java/util/HashMap$Node", name := "getKey", desc := "()Ljava/lang/Object;" } : Jvm.MethodName) prog_70_method_2_code (1 : Nat) (Option.some (Jvm.ClassFile.FieldType.object "java/lang/Object"))) ∈ lw_all := lw_g (lw_at lw_m4 46 rfl) rfl
theorem q1709 : (Jvm.Cond.selects "java/util/HashMap$Node" ({ cls := "java/lang/Object", name := "getClass", desc := "()Ljava/lang/Class;" } : Jvm.MethodName) ({ cls := "java/lang/Object", name := "getClass", desc := "()Ljava/lang/Class;" } : Jvm.MethodName)) ∈ lw_all := lw_g (lw_at lw_m7 168 rfl) rfl
theorem q2008 : (Jvm.Cond.instanceMethod ({ cls := "java/util/HashMap$Node", name := "<init>", desc := "(ILjava/lang/Object;Ljava/lang/Object;Ljava/util/HashMap$Node;)V" } : Jvm.MethodName)) ∈ lw_all := lw_g (lw_at lw_m8 227 rfl) rfl
theorem q2009 : (Jvm.Cond.code ({ cls := "java/util/HashMap$Node", name := "<init>", desc := "(ILjava/lang/Object;Ljava/lang/Object;Ljava/util/HashMap$Node;)V" } : Jvm.MethodName) prog_70_method_1_code (5 : Nat) (Option.none : Option Jvm.ClassFile.FieldType)) ∈ lw_all := lw_g (lw_at lw_m8 228 rfl) rfl
theorem q2010 : (Jvm.Cond.methodLink "java/util/HashMap$Node" (1 : Nat) ({ cls := "java/lang/Object", name := "<init>", desc := "()V" } : Jvm.MethodName)) ∈ lw_all := lw_g (lw_at lw_m8 229 rfl) rfl
theorem q2015 : (Jvm.Cond.fieldLink "java/util/HashMap$Node" (7 : Nat) "java/util/HashMap$Node" "hash" "I") ∈ lw_all := lw_g (lw_at lw_m8 234 rfl) rfl
theorem q2021 : (Jvm.Cond.fieldLink "java/util/HashMap$Node" (13 : Nat) "java/util/HashMap$Node" "key" "Ljava/lang/Object;") ∈ lw_all := lw_g (lw_at lw_m9 0 rfl) rfl
theorem q2028 : (Jvm.Cond.fieldLink "java/util/HashMap$Node" (17 : Nat) "java/util/HashMap$Node" "value" "Ljava/lang/Object;") ∈ lw_all := lw_g (lw_at lw_m9 7 rfl) rfl
theorem q2033 : (Jvm.Cond.fieldLink "java/util/HashMap$Node" (20 : Nat) "java/util/HashMap$Node" "next" "Ljava/util/HashMap$Node;") ∈ lw_all := lw_g (lw_at lw_m9 12 rfl) rfl
theorem q2045 : (Jvm.Cond.soleField "java/util/HashMap$Node" "hash") ∈ lw_all := lw_g (lw_at lw_m9 24 rfl) rfl
theorem q2047 : (Jvm.Cond.soleField "java/util/HashMap$Node" "key") ∈ lw_all := lw_g (lw_at lw_m9 26 rfl) rfl
theorem q2049 : (Jvm.Cond.soleField "java/util/HashMap$Node" "value") ∈ lw_all := lw_g (lw_at lw_m9 28 rfl) rfl
theorem q2051 : (Jvm.Cond.soleField "java/util/HashMap$Node" "next") ∈ lw_all := lw_g (lw_at lw_m9 30 rfl) rfl
theorem q2555 : (Jvm.Cond.castable "java/util/HashMap$Node" "java/util/Map$Entry") ∈ lw_tbl := lw_at lw_m11 54 rfl
theorem q2556 : (Jvm.Cond.selects "java/util/HashMap$Node" ({ cls := "java/util/Map$Entry", name := "getKey", desc := "()Ljava/lang/Object;" } : Jvm.MethodName) ({ cls := "java/util/HashMap$Node", name := "getKey", desc := "()Ljava/lang/Object;" } : Jvm.MethodName)) ∈ lw_all := lw_g (lw_at lw_m11 55 rfl) rfl
theorem q2557 : (Jvm.Cond.unhidden "java/util/HashMap$Node" "getKey" "()Ljava/lang/Object;") ∈ lw_tbl := lw_at lw_m11 56 rfl
theorem q2558 : (Jvm.Cond.publicMethod ({ cls := "java/util/HashMap$Node", name := "getKey", desc := "()Ljava/lang/Object;" } : Jvm.MethodName)) ∈ lw_tbl := lw_at lw_m11 57 rfl
theorem q2569 : (Jvm.Cond.selects "java/util/HashMap$Node" ({ cls := "java/util/Map$Entry", name := "getValue", desc := "()Ljava/lang/Object;" } : Jvm.MethodName) ({ cls := "java/util/HashMap$Node", name := "getValue", desc := "()Ljava/lang/Object;" } : Jvm.MethodName)) ∈ lw_all := lw_g (lw_at lw_m11 68 rfl) rfl
theorem q2570 : (Jvm.Cond.unhidden "java/util/HashMap$Node" "getValue" "()Ljava/lang/Object;") ∈ lw_tbl := lw_at lw_m11 69 rfl
theorem q2571 : (Jvm.Cond.instanceMethod ({ cls := "java/util/HashMap$Node", name := "getValue", desc := "()Ljava/lang/Object;" } : Jvm.MethodName)) ∈ lw_all := lw_g (lw_at lw_m11 70 rfl) rfl
theorem q2572 : (Jvm.Cond.publicMethod ({ cls := "java/util/HashMap$Node", name := "getValue", desc := "()Ljava/lang/Object;" } : Jvm.MethodName)) ∈ lw_tbl := lw_at lw_m11 71 rfl
theorem q2573 : (Jvm.Cond.code ({ cls := "java/util/HashMap$Node", name := "getValue", desc := "()Ljava/lang/Object;" } : Jvm.MethodName) prog_70_method_3_code (1 : Nat) (Option.some (Jvm.ClassFile.FieldType.object "java/lang/Object"))) ∈ lw_all := lw_g (lw_at lw_m11 72 rfl) rfl
theorem q3845 : (Jvm.Cond.castable "java/util/HashMap$Node" "java/lang/Object") ∈ lw_tbl := lw_at lw_m16 144 rfl

-- J26.java_util_LinkedHashMap_Entry.lean.txt
/-! java/util/LinkedHashMap$Entry -/
set_option maxRecDepth 100000
def RJ26 : String := "java/util/LinkedHashMap$Entry"
def TJ26 : u_T := fun k => match k with
  | 0 => ("java/util/HashMap$Node", "hash", "I", true)
  | 1 => ("java/util/HashMap$Node", "key", "Ljava/lang/Object;", true)
  | 2 => ("java/util/HashMap$Node", "value", "Ljava/lang/Object;", false)
  | 3 => ("java/util/HashMap$Node", "next", "Ljava/util/HashMap$Node;", false)
  | 4 => ("java/util/LinkedHashMap$Entry", "before", "Ljava/util/LinkedHashMap$Entry;", false)
  | _ => ("java/util/LinkedHashMap$Entry", "after", "Ljava/util/LinkedHashMap$Entry;", false)
def tyJ26 : Nat → FieldType := fun k => match k with
  | 0 => .int
  | 1 => .object "java/lang/Object"
  | 2 => .object "java/lang/Object"
  | 3 => .object "java/util/HashMap$Node"
  | 4 => .object "java/util/LinkedHashMap$Entry"
  | _ => .object "java/util/LinkedHashMap$Entry"
abbrev wsJ260 : List Cond := u_ws RJ26 TJ26 6
theorem nmJ26 : ∀ a, a < 6 → ∀ b, b < 6 → a ≠ b → (TJ26 a).2.1 ≠ (TJ26 b).2.1 := by decide +kernel
theorem tyJ26_ok : ∀ k, k < 6 → parseFieldDescriptor (TJ26 k).2.2.1 = some (tyJ26 k) := by decide +kernel
abbrev cJ26_init : ByteArray := prog_75_method_1_code
def yJ26_init : MethodName := ⟨RJ26, "<init>", "(ILjava/lang/Object;Ljava/lang/Object;Ljava/util/HashMap$Node;)V"⟩
def dkwJ26_init_0 : List UInt8 := [42, 27, 44, 45, 25, 4, 183, 0, 1, 177]
abbrev dktJ26_init_0 : List UInt8 := dkwJ26_init_0 ++ []
theorem dksJ26_init_0 : cJ26_init.data.toList.drop 0 = dktJ26_init_0 := by decide +kernel
theorem dJ26_init_0 : decode cJ26_init 0 = .ok (.aload_n 0, 1) := dk_42 (dk_at dksJ26_init_0 0 rfl rfl)
theorem dJ26_init_1 : decode cJ26_init 1 = .ok (.iload_n 1, 1) := dk_27 (dk_at dksJ26_init_0 1 rfl rfl)
theorem dJ26_init_2 : decode cJ26_init 2 = .ok (.aload_n 2, 1) := dk_44 (dk_at dksJ26_init_0 2 rfl rfl)
theorem dJ26_init_3 : decode cJ26_init 3 = .ok (.aload_n 3, 1) := dk_45 (dk_at dksJ26_init_0 3 rfl rfl)
theorem dJ26_init_4 : decode cJ26_init 4 = .ok (.aload 4, 2) := dk_25 4 (dk_at dksJ26_init_0 4 rfl rfl)
theorem dJ26_init_6 : decode cJ26_init 6 = .ok (.invokespecial 1, 3) := dk_183 0 1 (dk_at dksJ26_init_0 6 rfl rfl)
theorem dJ26_init_9 : decode cJ26_init 9 = .ok (.return_, 1) := dk_177 (dk_at dksJ26_init_0 9 rfl rfl)
theorem q139 : (Jvm.Cond.initialized "java/util/LinkedHashMap$Entry") ∈ lw_all := lw_g (lw_at lw_m1 38 rfl) rfl
theorem q862 : (Jvm.Cond.sameMethod "java/util/LinkedHashMap$Entry" "java/util/HashMap$Node" "getKey" "()Ljava/lang/Object;") ∈ lw_all := lw_g (lw_at lw_m4 41 rfl) rfl
theorem q865 : (Jvm.Cond.selects "java/util/LinkedHashMap$Entry" ({ cls := "java/util/LinkedHashMap$Entry", name := "getKey", desc := "()Ljava/lang/Object;" } : Jvm.MethodName) ({ cls := "java/util/HashMap$Node", name := "getKey", desc := "()Ljava/lang/Object;" } : Jvm.MethodName)) ∈ lw_all := lw_g (lw_at lw_m4 44 rfl) rfl
theorem q1712 : (Jvm.Cond.selects "java/util/LinkedHashMap$Entry" ({ cls := "java/lang/Object", name := "getClass", desc := "()Ljava/lang/Class;" } : Jvm.MethodName) ({ cls := "java/lang/Object", name := "getClass", desc := "()Ljava/lang/Class;" } : Jvm.MethodName)) ∈ lw_all := lw_g (lw_at lw_m7 171 rfl) rfl
theorem q2003 : (Jvm.Cond.instantiable "java/util/LinkedHashMap$Entry" (6 : Nat)) ∈ lw_all := lw_g (lw_at lw_m8 222 rfl) rfl
theorem q2005 : (Jvm.Cond.instanceMethod ({ cls := "java/util/LinkedHashMap$Entry", name := "<init>", desc := "(ILjava/lang/Object;Ljava/lang/Object;Ljava/util/HashMap$Node;)V" } : Jvm.MethodName)) ∈ lw_all := lw_g (lw_at lw_m8 224 rfl) rfl
theorem q2006 : (Jvm.Cond.code ({ cls := "java/util/LinkedHashMap$Entry", name := "<init>", desc := "(ILjava/lang/Object;Ljava/lang/Object;Ljava/util/HashMap$Node;)V" } : Jvm.MethodName) prog_75_method_1_code (5 : Nat) (Option.none : Option Jvm.ClassFile.FieldType)) ∈ lw_all := lw_g (lw_at lw_m8 225 rfl) rfl
theorem q2007 : (Jvm.Cond.methodLink "java/util/LinkedHashMap$Entry" (1 : Nat) ({ cls := "java/util/HashMap$Node", name := "<init>", desc := "(ILjava/lang/Object;Ljava/lang/Object;Ljava/util/HashMap$Node;)V" } : Jvm.MethodName)) ∈ lw_all := lw_g (lw_at lw_m8 226 rfl) rfl
theorem q2019 : (Jvm.Cond.sameField "java/util/LinkedHashMap$Entry" "java/util/HashMap$Node" "hash" "I") ∈ lw_all := lw_g (lw_at lw_m8 238 rfl) rfl
theorem q2026 : (Jvm.Cond.sameField "java/util/LinkedHashMap$Entry" "java/util/HashMap$Node" "key" "Ljava/lang/Object;") ∈ lw_all := lw_g (lw_at lw_m9 5 rfl) rfl
theorem q2030 : (Jvm.Cond.sameField "java/util/LinkedHashMap$Entry" "java/util/HashMap$Node" "value" "Ljava/lang/Object;") ∈ lw_all := lw_g (lw_at lw_m9 9 rfl) rfl
theorem q2040 : (Jvm.Cond.lays "java/util/LinkedHashMap$Entry" "java/util/LinkedHashMap$Entry" "before" "Ljava/util/LinkedHashMap$Entry;") ∈ lw_all := lw_g (lw_at lw_m9 19 rfl) rfl
theorem q2041 : (Jvm.Cond.soleField "java/util/LinkedHashMap$Entry" "before") ∈ lw_all := lw_g (lw_at lw_m9 20 rfl) rfl
theorem q2042 : (Jvm.Cond.lays "java/util/LinkedHashMap$Entry" "java/util/LinkedHashMap$Entry" "after" "Ljava/util/LinkedHashMap$Entry;") ∈ lw_all := lw_g (lw_at lw_m9 21 rfl) rfl
theorem q2043 : (Jvm.Cond.soleField "java/util/LinkedHashMap$Entry" "after") ∈ lw_all := lw_g (lw_at lw_m9 22 rfl) rfl
theorem q2044 : (Jvm.Cond.laysFinal "java/util/LinkedHashMap$Entry" "java/util/HashMap$Node" "hash" "I") ∈ lw_all := lw_g (lw_at lw_m9 23 rfl) rfl
theorem q2046 : (Jvm.Cond.laysFinal "java/util/LinkedHashMap$Entry" "java/util/HashMap$Node" "key" "Ljava/lang/Object;") ∈ lw_all := lw_g (lw_at lw_m9 25 rfl) rfl
theorem q2048 : (Jvm.Cond.lays "java/util/LinkedHashMap$Entry" "java/util/HashMap$Node" "value" "Ljava/lang/Object;") ∈ lw_all := lw_g (lw_at lw_m9 27 rfl) rfl
theorem q2050 : (Jvm.Cond.lays "java/util/LinkedHashMap$Entry" "java/util/HashMap$Node" "next" "Ljava/util/HashMap$Node;") ∈ lw_all := lw_g (lw_at lw_m9 29 rfl) rfl
theorem q2052 : (Jvm.Cond.superclass "java/util/LinkedHashMap$Entry" "java/util/HashMap$Node") ∈ lw_all := lw_g (lw_at lw_m9 31 rfl) rfl
theorem q2562 : (Jvm.Cond.castable "java/util/LinkedHashMap$Entry" "java/util/Map$Entry") ∈ lw_tbl := lw_at lw_m11 61 rfl
theorem q2563 : (Jvm.Cond.selects "java/util/LinkedHashMap$Entry" ({ cls := "java/util/Map$Entry", name := "getKey", desc := "()Ljava/lang/Object;" } : Jvm.MethodName) ({ cls := "java/util/HashMap$Node", name := "getKey", desc := "()Ljava/lang/Object;" } : Jvm.MethodName)) ∈ lw_all := lw_g (lw_at lw_m11 62 rfl) rfl
theorem q2564 : (Jvm.Cond.unhidden "java/util/LinkedHashMap$Entry" "getKey" "()Ljava/lang/Object;") ∈ lw_tbl := lw_at lw_m11 63 rfl
theorem q2576 : (Jvm.Cond.selects "java/util/LinkedHashMap$Entry" ({ cls := "java/util/Map$Entry", name := "getValue", desc := "()Ljava/lang/Object;" } : Jvm.MethodName) ({ cls := "java/util/HashMap$Node", name := "getValue", desc := "()Ljava/lang/Object;" } : Jvm.MethodName)) ∈ lw_all := lw_g (lw_at lw_m11 75 rfl) rfl
theorem q2577 : (Jvm.Cond.unhidden "java/util/LinkedHashMap$Entry" "getValue" "()Ljava/lang/Object;") ∈ lw_tbl := lw_at lw_m11 76 rfl
theorem q3863 : (Jvm.Cond.castable "java/util/LinkedHashMap$Entry" "java/lang/Object") ∈ lw_tbl := lw_at lw_m16 162 rfl
theorem q3890 : (Jvm.Cond.castable "java/util/LinkedHashMap$Entry" "java/util/HashMap$Node") ∈ lw_tbl := lw_at lw_m16 189 rfl
theorem in_J26 : ∀ w ∈ wsJ260, w ∈ lw_all := lw_in wsJ260 [2044, 2046, 2048, 2050, 2040, 2042] (by decide +kernel) (by decide +kernel)

-- J28.java_lang_Record.lean.txt
/-! java/lang/Record -/
set_option maxRecDepth 100000
def RJ28 : String := "java/lang/Record"
abbrev cJ28_init : ByteArray := prog_42_method_1_code
def yJ28_init : MethodName := ⟨RJ28, "<init>", "()V"⟩
theorem dJ28_init_0 : decode cJ28_init 0 = .ok (.aload_n 0, 1) := by decide +kernel
theorem dJ28_init_1 : decode cJ28_init 1 = .ok (.invokespecial 1, 3) := by decide +kernel
theorem dJ28_init_4 : decode cJ28_init 4 = .ok (.return_, 1) := by decide +kernel
theorem q141 : (Jvm.Cond.initialized "java/lang/Record") ∈ lw_all := lw_g (lw_at lw_m1 40 rfl) rfl
theorem q3001 : (Jvm.Cond.instanceMethod ({ cls := "java/lang/Record", name := "<init>", desc := "()V" } : Jvm.MethodName)) ∈ lw_all := lw_g (lw_at lw_m13 20 rfl) rfl
theorem q3002 : (Jvm.Cond.code ({ cls := "java/lang/Record", name := "<init>", desc := "()V" } : Jvm.MethodName) prog_42_method_1_code (1 : Nat) (Option.none : Option Jvm.ClassFile.FieldType)) ∈ lw_all := lw_g (lw_at lw_m13 21 rfl) rfl
theorem q3003 : (Jvm.Cond.methodLink "java/lang/Record" (1 : Nat) ({ cls := "java/lang/Object", name := "<init>", desc := "()V" } : Jvm.MethodName)) ∈ lw_all := lw_g (lw_at lw_m13 22 rfl) rfl

-- J30.java_lang_IllegalStateException.lean.txt
/-! java/lang/IllegalStateException -/
set_option maxRecDepth 100000
def RJ30 : String := "java/lang/IllegalStateException"
def TJ30 : u_T := fun k => match k with
  | 0 => ("java/lang/Throwable", "cause", "Ljava/lang/Throwable;", false)
  | 1 => ("java/lang/Throwable", "stackTrace", "[Ljava/lang/StackTraceElement;", false)
  | 2 => ("java/lang/Throwable", "suppressedExceptions", "Ljava/util/List;", false)
  | 3 => ("java/lang/Throwable", "detailMessage", "Ljava/lang/String;", false)
  | 4 => ("java/lang/Throwable", "backtrace", "Ljava/lang/Object;", false)
  | _ => ("java/lang/Throwable", "depth", "I", false)
def tyJ30 : Nat → FieldType := fun k => match k with
  | 0 => .object "java/lang/Throwable"
  | 1 => .array (.object "java/lang/StackTraceElement")
  | 2 => .object "java/util/List"
  | 3 => .object "java/lang/String"
  | 4 => .object "java/lang/Object"
  | _ => .int
abbrev wsJ300 : List Cond := u_ws RJ30 TJ30 6
theorem nmJ30 : ∀ a, a < 6 → ∀ b, b < 6 → a ≠ b → (TJ30 a).2.1 ≠ (TJ30 b).2.1 := by decide +kernel
theorem tyJ30_ok : ∀ k, k < 6 → parseFieldDescriptor (TJ30 k).2.2.1 = some (tyJ30 k) := by decide +kernel
abbrev cJ30_init : ByteArray := prog_35_method_3_code
def yJ30_init : MethodName := ⟨RJ30, "<init>", "(Ljava/lang/String;Ljava/lang/Throwable;)V"⟩
def dkwJ30_init_0 : List UInt8 := [42, 43, 44, 183, 0, 10, 177]
abbrev dktJ30_init_0 : List UInt8 := dkwJ30_init_0 ++ []
theorem dksJ30_init_0 : cJ30_init.data.toList.drop 0 = dktJ30_init_0 := by decide +kernel
theorem dJ30_init_0 : decode cJ30_init 0 = .ok (.aload_n 0, 1) := dk_42 (dk_at dksJ30_init_0 0 rfl rfl)
theorem dJ30_init_1 : decode cJ30_init 1 = .ok (.aload_n 1, 1) := dk_43 (dk_at dksJ30_init_0 1 rfl rfl)
theorem dJ30_init_2 : decode cJ30_init 2 = .ok (.aload_n 2, 1) := dk_44 (dk_at dksJ30_init_0 2 rfl rfl)
theorem dJ30_init_3 : decode cJ30_init 3 = .ok (.invokespecial 10, 3) := dk_183 0 10 (dk_at dksJ30_init_0 3 rfl rfl)
theorem dJ30_init_6 : decode cJ30_init 6 = .ok (.return_, 1) := dk_177 (dk_at dksJ30_init_0 6 rfl rfl)
abbrev cJ30_init_2 : ByteArray := prog_35_method_2_code
def yJ30_init_2 : MethodName := ⟨RJ30, "<init>", "(Ljava/lang/String;)V"⟩
def dkwJ30_init_2_0 : List UInt8 := [42, 43, 183, 0, 7, 177]
abbrev dktJ30_init_2_0 : List UInt8 := dkwJ30_init_2_0 ++ []
theorem dksJ30_init_2_0 : cJ30_init_2.data.toList.drop 0 = dktJ30_init_2_0 := by decide +kernel
theorem dJ30_init_2_0 : decode cJ30_init_2 0 = .ok (.aload_n 0, 1) := dk_42 (dk_at dksJ30_init_2_0 0 rfl rfl)
theorem dJ30_init_2_1 : decode cJ30_init_2 1 = .ok (.aload_n 1, 1) := dk_43 (dk_at dksJ30_init_2_0 1 rfl rfl)
theorem dJ30_init_2_2 : decode cJ30_init_2 2 = .ok (.invokespecial 7, 3) := dk_183 0 7 (dk_at dksJ30_init_2_0 2 rfl rfl)
theorem dJ30_init_2_5 : decode cJ30_init_2 5 = .ok (.return_, 1) := dk_177 (dk_at dksJ30_init_2_0 5 rfl rfl)
abbrev cJ30_init_3 : ByteArray := prog_35_method_1_code
def yJ30_init_3 : MethodName := ⟨RJ30, "<init>", "()V"⟩
theorem dJ30_init_3_0 : decode cJ30_init_3 0 = .ok (.aload_n 0, 1) := by decide +kernel
theorem dJ30_init_3_1 : decode cJ30_init_3 1 = .ok (.invokespecial 1, 3) := by decide +kernel
theorem dJ30_init_3_4 : decode cJ30_init_3 4 = .ok (.return_, 1) := by decide +kernel
theorem q147 : (Jvm.Cond.initialized "java/lang/IllegalStateException") ∈ lw_all := lw_g (lw_at lw_m1 46 rfl) rfl
theorem q242 : (Jvm.Cond.selects "java/lang/IllegalStateException" ({ cls := "java/lang/Throwable", name := "fillInStackTrace", desc := "()Ljava/lang/Throwable;" } : Jvm.MethodName) ({ cls := "java/lang/Throwable", name := "fillInStackTrace", desc := "()Ljava/lang/Throwable;" } : Jvm.MethodName)) ∈ lw_all := lw_g (lw_at lw_m1 141 rfl) rfl
theorem q1698 : (Jvm.Cond.selects "java/lang/IllegalStateException" ({ cls := "java/lang/Object", name := "getClass", desc := "()Ljava/lang/Class;" } : Jvm.MethodName) ({ cls := "java/lang/Object", name := "getClass", desc := "()Ljava/lang/Class;" } : Jvm.MethodName)) ∈ lw_all := lw_g (lw_at lw_m7 157 rfl) rfl
theorem q1730 : (Jvm.Cond.selects "java/lang/IllegalStateException" ({ cls := "java/lang/Throwable", name := "getLocalizedMessage", desc := "()Ljava/lang/String;" } : Jvm.MethodName) ({ cls := "java/lang/Throwable", name := "getLocalizedMessage", desc := "()Ljava/lang/String;" } : Jvm.MethodName)) ∈ lw_all := lw_g (lw_at lw_m7 189 rfl) rfl
theorem q1740 : (Jvm.Cond.selects "java/lang/IllegalStateException" ({ cls := "java/lang/Throwable", name := "getMessage", desc := "()Ljava/lang/String;" } : Jvm.MethodName) ({ cls := "java/lang/Throwable", name := "getMessage", desc := "()Ljava/lang/String;" } : Jvm.MethodName)) ∈ lw_all := lw_g (lw_at lw_m7 199 rfl) rfl
theorem q1754 : (Jvm.Cond.selects "java/lang/IllegalStateException" ({ cls := "java/lang/Object", name := "toString", desc := "()Ljava/lang/String;" } : Jvm.MethodName) ({ cls := "java/lang/Throwable", name := "toString", desc := "()Ljava/lang/String;" } : Jvm.MethodName)) ∈ lw_all := lw_g (lw_at lw_m7 213 rfl) rfl
theorem q1781 : (Jvm.Cond.instantiable "java/lang/IllegalStateException" (6 : Nat)) ∈ lw_all := lw_g (lw_at lw_m8 0 rfl) rfl
theorem q1782 : (Jvm.Cond.castable "java/lang/IllegalStateException" "java/lang/IllegalStateException") ∈ lw_tbl := lw_at lw_m8 1 rfl
theorem q1783 : (Jvm.Cond.selects "java/lang/IllegalStateException" ({ cls := "java/lang/Throwable", name := "fillInStackTrace", desc := "(I)Ljava/lang/Throwable;" } : Jvm.MethodName) ({ cls := "java/lang/Throwable", name := "fillInStackTrace", desc := "(I)Ljava/lang/Throwable;" } : Jvm.MethodName)) ∈ lw_all := lw_g (lw_at lw_m8 2 rfl) rfl
theorem q1784 : (Jvm.Cond.lays "java/lang/IllegalStateException" "java/lang/Throwable" "cause" "Ljava/lang/Throwable;") ∈ lw_all := lw_g (lw_at lw_m8 3 rfl) rfl
theorem q1785 : (Jvm.Cond.lays "java/lang/IllegalStateException" "java/lang/Throwable" "stackTrace" "[Ljava/lang/StackTraceElement;") ∈ lw_all := lw_g (lw_at lw_m8 4 rfl) rfl
theorem q1786 : (Jvm.Cond.lays "java/lang/IllegalStateException" "java/lang/Throwable" "suppressedExceptions" "Ljava/util/List;") ∈ lw_all := lw_g (lw_at lw_m8 5 rfl) rfl
theorem q1787 : (Jvm.Cond.lays "java/lang/IllegalStateException" "java/lang/Throwable" "detailMessage" "Ljava/lang/String;") ∈ lw_all := lw_g (lw_at lw_m8 6 rfl) rfl
theorem q1788 : (Jvm.Cond.lays "java/lang/IllegalStateException" "java/lang/Throwable" "backtrace" "Ljava/lang/Object;") ∈ lw_all := lw_g (lw_at lw_m8 7 rfl) rfl
theorem q1796 : (Jvm.Cond.instanceMethod ({ cls := "java/lang/IllegalStateException", name := "<init>", desc := "(Ljava/lang/String;Ljava/lang/Throwable;)V" } : Jvm.MethodName)) ∈ lw_all := lw_g (lw_at lw_m8 15 rfl) rfl
theorem q1797 : (Jvm.Cond.code ({ cls := "java/lang/IllegalStateException", name := "<init>", desc := "(Ljava/lang/String;Ljava/lang/Throwable;)V" } : Jvm.MethodName) prog_35_method_3_code (3 : Nat) (Option.none : Option Jvm.ClassFile.FieldType)) ∈ lw_all := lw_g (lw_at lw_m8 16 rfl) rfl
theorem q1798 : (Jvm.Cond.methodLink "java/lang/IllegalStateException" (10 : Nat) ({ cls := "java/lang/RuntimeException", name := "<init>", desc := "(Ljava/lang/String;Ljava/lang/Throwable;)V" } : Jvm.MethodName)) ∈ lw_all := lw_g (lw_at lw_m8 17 rfl) rfl
theorem q1807 : (Jvm.Cond.lays "java/lang/IllegalStateException" "java/lang/Throwable" "depth" "I") ∈ lw_all := lw_g (lw_at lw_m8 26 rfl) rfl
theorem q1808 : (Jvm.Cond.superclass "java/lang/IllegalStateException" "java/lang/RuntimeException") ∈ lw_all := lw_g (lw_at lw_m8 27 rfl) rfl
theorem q1909 : (Jvm.Cond.selects "java/lang/IllegalStateException" ({ cls := "java/lang/Object", name := "hashCode", desc := "()I" } : Jvm.MethodName) ({ cls := "java/lang/Object", name := "hashCode", desc := "()I" } : Jvm.MethodName)) ∈ lw_all := lw_g (lw_at lw_m8 128 rfl) rfl
theorem q2343 : (Jvm.Cond.selects "java/lang/IllegalStateException" ({ cls := "java/lang/Object", name := "equals", desc := "(Ljava/lang/Object;)Z" } : Jvm.MethodName) ({ cls := "java/lang/Object", name := "equals", desc := "(Ljava/lang/Object;)Z" } : Jvm.MethodName)) ∈ lw_all := lw_g (lw_at lw_m10 82 rfl) rfl
theorem q2599 : (Jvm.Cond.instanceMethod ({ cls := "java/lang/IllegalStateException", name := "<init>", desc := "(Ljava/lang/String;)V" } : Jvm.MethodName)) ∈ lw_all := lw_g (lw_at lw_m11 98 rfl) rfl
theorem q2600 : (Jvm.Cond.code ({ cls := "java/lang/IllegalStateException", name := "<init>", desc := "(Ljava/lang/String;)V" } : Jvm.MethodName) prog_35_method_2_code (2 : Nat) (Option.none : Option Jvm.ClassFile.FieldType)) ∈ lw_all := lw_g (lw_at lw_m11 99 rfl) rfl
theorem q2601 : (Jvm.Cond.methodLink "java/lang/IllegalStateException" (7 : Nat) ({ cls := "java/lang/RuntimeException", name := "<init>", desc := "(Ljava/lang/String;)V" } : Jvm.MethodName)) ∈ lw_all := lw_g (lw_at lw_m11 100 rfl) rfl
theorem q3319 : (Jvm.Cond.instanceMethod ({ cls := "java/lang/IllegalStateException", name := "<init>", desc := "()V" } : Jvm.MethodName)) ∈ lw_all := lw_g (lw_at lw_m14 98 rfl) rfl
theorem q3320 : (Jvm.Cond.code ({ cls := "java/lang/IllegalStateException", name := "<init>", desc := "()V" } : Jvm.MethodName) prog_35_method_1_code (1 : Nat) (Option.none : Option Jvm.ClassFile.FieldType)) ∈ lw_all := lw_g (lw_at lw_m14 99 rfl) rfl
theorem q3321 : (Jvm.Cond.methodLink "java/lang/IllegalStateException" (1 : Nat) ({ cls := "java/lang/RuntimeException", name := "<init>", desc := "()V" } : Jvm.MethodName)) ∈ lw_all := lw_g (lw_at lw_m14 100 rfl) rfl
theorem q3841 : (Jvm.Cond.castable "java/lang/IllegalStateException" "java/lang/Throwable") ∈ lw_tbl := lw_at lw_m16 140 rfl
theorem q3872 : (Jvm.Cond.castable "java/lang/IllegalStateException" "java/lang/Object") ∈ lw_tbl := lw_at lw_m16 171 rfl
theorem in_J30 : ∀ w ∈ wsJ300, w ∈ lw_all := lw_in wsJ300 [1784, 1785, 1786, 1787, 1788, 1807] (by decide +kernel) (by decide +kernel)

-- J31.java_util_LinkedHashMap_LinkedValues.lean.txt
/-! java/util/LinkedHashMap$LinkedValues -/
set_option maxRecDepth 100000
def RJ31 : String := "java/util/LinkedHashMap$LinkedValues"
def TJ31 : u_T := fun k => match k with
  | 0 => ("java/util/LinkedHashMap$LinkedValues", "reversed", "Z", true)
  | _ => ("java/util/LinkedHashMap$LinkedValues", "this$0", "Ljava/util/LinkedHashMap;", true)
def tyJ31 : Nat → FieldType := fun k => match k with
  | 0 => .boolean
  | _ => .object "java/util/LinkedHashMap"
abbrev wsJ310 : List Cond := u_ws RJ31 TJ31 2
theorem nmJ31 : ∀ a, a < 2 → ∀ b, b < 2 → a ≠ b → (TJ31 a).2.1 ≠ (TJ31 b).2.1 := by decide +kernel
theorem tyJ31_ok : ∀ k, k < 2 → parseFieldDescriptor (TJ31 k).2.2.1 = some (tyJ31 k) := by decide +kernel
abbrev cJ31_init : ByteArray := prog_82_method_1_code
def yJ31_init : MethodName := ⟨RJ31, "<init>", "(Ljava/util/LinkedHashMap;Z)V"⟩
def dkwJ31_init_0 : List UInt8 := [42, 43, 181, 0, 1, 42, 183, 0, 7, 42, 28, 181, 0, 13, 177]
abbrev dktJ31_init_0 : List UInt8 := dkwJ31_init_0 ++ []
theorem dksJ31_init_0 : cJ31_init.data.toList.drop 0 = dktJ31_init_0 := by decide +kernel
theorem dJ31_init_0 : decode cJ31_init 0 = .ok (.aload_n 0, 1) := dk_42 (dk_at dksJ31_init_0 0 rfl rfl)
theorem dJ31_init_1 : decode cJ31_init 1 = .ok (.aload_n 1, 1) := dk_43 (dk_at dksJ31_init_0 1 rfl rfl)
theorem dJ31_init_2 : decode cJ31_init 2 = .ok (.putfield 1, 3) := dk_181 0 1 (dk_at dksJ31_init_0 2 rfl rfl)
theorem dJ31_init_5 : decode cJ31_init 5 = .ok (.aload_n 0, 1) := dk_42 (dk_at dksJ31_init_0 5 rfl rfl)
theorem dJ31_init_6 : decode cJ31_init 6 = .ok (.invokespecial 7, 3) := dk_183 0 7 (dk_at dksJ31_init_0 6 rfl rfl)
theorem dJ31_init_9 : decode cJ31_init 9 = .ok (.aload_n 0, 1) := dk_42 (dk_at dksJ31_init_0 9 rfl rfl)
theorem dJ31_init_10 : decode cJ31_init 10 = .ok (.iload_n 2, 1) := dk_28 (dk_at dksJ31_init_0 10 rfl rfl)
theorem dJ31_init_11 : decode cJ31_init 11 = .ok (.putfield 13, 3) := dk_181 0 13 (dk_at dksJ31_init_0 11 rfl rfl)
theorem dJ31_init_14 : decode cJ31_init 14 = .ok (.return_, 1) := dk_177 (dk_at dksJ31_init_0 14 rfl rfl)
abbrev cJ31_iterator : ByteArray := prog_82_method_4_code
def yJ31_iterator : MethodName := ⟨RJ31, "iterator", "()Ljava/util/Iterator;"⟩
def dkwJ31_iterator_0 : List UInt8 := [187, 0, 26, 89, 42, 180, 0, 1, 42, 180, 0, 13, 183, 0, 28, 176]
abbrev dktJ31_iterator_0 : List UInt8 := dkwJ31_iterator_0 ++ []
theorem dksJ31_iterator_0 : cJ31_iterator.data.toList.drop 0 = dktJ31_iterator_0 := by decide +kernel
theorem dJ31_iterator_0 : decode cJ31_iterator 0 = .ok (.new 26, 3) := dk_187 0 26 (dk_at dksJ31_iterator_0 0 rfl rfl)
theorem dJ31_iterator_3 : decode cJ31_iterator 3 = .ok (.dup, 1) := dk_89 (dk_at dksJ31_iterator_0 3 rfl rfl)
theorem dJ31_iterator_4 : decode cJ31_iterator 4 = .ok (.aload_n 0, 1) := dk_42 (dk_at dksJ31_iterator_0 4 rfl rfl)
theorem dJ31_iterator_5 : decode cJ31_iterator 5 = .ok (.getfield 1, 3) := dk_180 0 1 (dk_at dksJ31_iterator_0 5 rfl rfl)
theorem dJ31_iterator_8 : decode cJ31_iterator 8 = .ok (.aload_n 0, 1) := dk_42 (dk_at dksJ31_iterator_0 8 rfl rfl)
theorem dJ31_iterator_9 : decode cJ31_iterator 9 = .ok (.getfield 13, 3) := dk_180 0 13 (dk_at dksJ31_iterator_0 9 rfl rfl)
theorem dJ31_iterator_12 : decode cJ31_iterator 12 = .ok (.invokespecial 28, 3) := dk_183 0 28 (dk_at dksJ31_iterator_0 12 rfl rfl)
theorem dJ31_iterator_15 : decode cJ31_iterator 15 = .ok (.areturn, 1) := dk_176 (dk_at dksJ31_iterator_0 15 rfl rfl)
theorem q148 : (Jvm.Cond.initialized "java/util/LinkedHashMap$LinkedValues") ∈ lw_all := lw_g (lw_at lw_m1 47 rfl) rfl
theorem q904 : (Jvm.Cond.instantiable "java/util/LinkedHashMap$LinkedValues" (2 : Nat)) ∈ lw_all := lw_g (lw_at lw_m4 83 rfl) rfl
theorem q906 : (Jvm.Cond.instanceMethod ({ cls := "java/util/LinkedHashMap$LinkedValues", name := "<init>", desc := "(Ljava/util/LinkedHashMap;Z)V" } : Jvm.MethodName)) ∈ lw_all := lw_g (lw_at lw_m4 85 rfl) rfl
theorem q907 : (Jvm.Cond.code ({ cls := "java/util/LinkedHashMap$LinkedValues", name := "<init>", desc := "(Ljava/util/LinkedHashMap;Z)V" } : Jvm.MethodName) prog_82_method_1_code (3 : Nat) (Option.none : Option Jvm.ClassFile.FieldType)) ∈ lw_all := lw_g (lw_at lw_m4 86 rfl) rfl
theorem q908 : (Jvm.Cond.methodLink "java/util/LinkedHashMap$LinkedValues" (7 : Nat) ({ cls := "java/util/AbstractCollection", name := "<init>", desc := "()V" } : Jvm.MethodName)) ∈ lw_all := lw_g (lw_at lw_m4 87 rfl) rfl
theorem q909 : (Jvm.Cond.fieldLink "java/util/LinkedHashMap$LinkedValues" (13 : Nat) "java/util/LinkedHashMap$LinkedValues" "reversed" "Z") ∈ lw_all := lw_g (lw_at lw_m4 88 rfl) rfl
theorem q910 : (Jvm.Cond.fieldLink "java/util/LinkedHashMap$LinkedValues" (1 : Nat) "java/util/LinkedHashMap$LinkedValues" "this$0" "Ljava/util/LinkedHashMap;") ∈ lw_all := lw_g (lw_at lw_m4 89 rfl) rfl
theorem q911 : (Jvm.Cond.laysFinal "java/util/LinkedHashMap$LinkedValues" "java/util/LinkedHashMap$LinkedValues" "reversed" "Z") ∈ lw_all := lw_g (lw_at lw_m4 90 rfl) rfl
theorem q912 : (Jvm.Cond.soleField "java/util/LinkedHashMap$LinkedValues" "reversed") ∈ lw_all := lw_g (lw_at lw_m4 91 rfl) rfl
theorem q913 : (Jvm.Cond.laysFinal "java/util/LinkedHashMap$LinkedValues" "java/util/LinkedHashMap$LinkedValues" "this$0" "Ljava/util/LinkedHashMap;") ∈ lw_all := lw_g (lw_at lw_m4 92 rfl) rfl
theorem q914 : (Jvm.Cond.soleField "java/util/LinkedHashMap$LinkedValues" "this$0") ∈ lw_all := lw_g (lw_at lw_m4 93 rfl) rfl
theorem q915 : (Jvm.Cond.superclass "java/util/LinkedHashMap$LinkedValues" "java/util/AbstractCollection") ∈ lw_all := lw_g (lw_at lw_m4 94 rfl) rfl
theorem q1035 : (Jvm.Cond.castable "java/util/LinkedHashMap$LinkedValues" "java/util/Collection") ∈ lw_tbl := lw_at lw_m4 214 rfl
theorem q1036 : (Jvm.Cond.selects "java/util/LinkedHashMap$LinkedValues" ({ cls := "java/util/Collection", name := "iterator", desc := "()Ljava/util/Iterator;" } : Jvm.MethodName) ({ cls := "java/util/LinkedHashMap$LinkedValues", name := "iterator", desc := "()Ljava/util/Iterator;" } : Jvm.MethodName)) ∈ lw_all := lw_g (lw_at lw_m4 215 rfl) rfl
theorem q1037 : (Jvm.Cond.unhidden "java/util/LinkedHashMap$LinkedValues" "iterator" "()Ljava/util/Iterator;") ∈ lw_tbl := lw_at lw_m4 216 rfl
theorem q1038 : (Jvm.Cond.instanceMethod ({ cls := "java/util/LinkedHashMap$LinkedValues", name := "iterator", desc := "()Ljava/util/Iterator;" } : Jvm.MethodName)) ∈ lw_all := lw_g (lw_at lw_m4 217 rfl) rfl
theorem q1039 : (Jvm.Cond.publicMethod ({ cls := "java/util/LinkedHashMap$LinkedValues", name := "iterator", desc := "()Ljava/util/Iterator;" } : Jvm.MethodName)) ∈ lw_tbl := lw_at lw_m4 218 rfl
theorem q1040 : (Jvm.Cond.code ({ cls := "java/util/LinkedHashMap$LinkedValues", name := "iterator", desc := "()Ljava/util/Iterator;" } : Jvm.MethodName) prog_82_method_4_code (1 : Nat) (Option.some (Jvm.ClassFile.FieldType.object "java/util/Iterator"))) ∈ lw_all := lw_g (lw_at lw_m4 219 rfl) rfl
theorem q1041 : (Jvm.Cond.classLink "java/util/LinkedHashMap$LinkedValues" (26 : Nat) "java/util/LinkedHashMap$LinkedValueIterator") ∈ lw_all := lw_g (lw_at lw_m4 220 rfl) rfl
theorem q1043 : (Jvm.Cond.methodLink "java/util/LinkedHashMap$LinkedValues" (28 : Nat) ({ cls := "java/util/LinkedHashMap$LinkedValueIterator", name := "<init>", desc := "(Ljava/util/LinkedHashMap;Z)V" } : Jvm.MethodName)) ∈ lw_all := lw_g (lw_at lw_m4 222 rfl) rfl
theorem q1718 : (Jvm.Cond.selects "java/util/LinkedHashMap$LinkedValues" ({ cls := "java/lang/Object", name := "getClass", desc := "()Ljava/lang/Class;" } : Jvm.MethodName) ({ cls := "java/lang/Object", name := "getClass", desc := "()Ljava/lang/Class;" } : Jvm.MethodName)) ∈ lw_all := lw_g (lw_at lw_m7 177 rfl) rfl
theorem q3834 : (Jvm.Cond.castable "java/util/LinkedHashMap$LinkedValues" "java/util/SequencedCollection") ∈ lw_tbl := lw_at lw_m16 133 rfl
theorem q3873 : (Jvm.Cond.castable "java/util/LinkedHashMap$LinkedValues" "java/lang/Object") ∈ lw_tbl := lw_at lw_m16 172 rfl
theorem in_J31 : ∀ w ∈ wsJ310, w ∈ lw_all := lw_in wsJ310 [911, 913] (by decide +kernel) (by decide +kernel)

-- J35.java_util_LinkedHashMap_LinkedHashIterator.lean.txt
/-! java/util/LinkedHashMap$LinkedHashIterator -/
set_option maxRecDepth 100000
def RJ35 : String := "java/util/LinkedHashMap$LinkedHashIterator"
abbrev cJ35_hasNext : ByteArray := prog_78_method_2_code
def yJ35_hasNext : MethodName := ⟨RJ35, "hasNext", "()Z"⟩
def dkwJ35_hasNext_0 : List UInt8 := [42, 180, 0, 26, 198, 0, 7, 4, 167, 0, 4, 3, 172]
abbrev dktJ35_hasNext_0 : List UInt8 := dkwJ35_hasNext_0 ++ []
theorem dksJ35_hasNext_0 : cJ35_hasNext.data.toList.drop 0 = dktJ35_hasNext_0 := by decide +kernel
theorem dJ35_hasNext_0 : decode cJ35_hasNext 0 = .ok (.aload_n 0, 1) := dk_42 (dk_at dksJ35_hasNext_0 0 rfl rfl)
theorem dJ35_hasNext_1 : decode cJ35_hasNext 1 = .ok (.getfield 26, 3) := dk_180 0 26 (dk_at dksJ35_hasNext_0 1 rfl rfl)
theorem dJ35_hasNext_4 : decode cJ35_hasNext 4 = .ok (.ifnull 7, 3) := dk_198 0 7 (dk_at dksJ35_hasNext_0 4 rfl rfl)
theorem dJ35_hasNext_7 : decode cJ35_hasNext 7 = .ok (.iconst 1, 1) := dk_4 (dk_at dksJ35_hasNext_0 7 rfl rfl)
theorem dJ35_hasNext_8 : decode cJ35_hasNext 8 = .ok (.goto 4, 3) := dk_167 0 4 (dk_at dksJ35_hasNext_0 8 rfl rfl)
theorem dJ35_hasNext_11 : decode cJ35_hasNext 11 = .ok (.iconst 0, 1) := dk_3 (dk_at dksJ35_hasNext_0 11 rfl rfl)
theorem dJ35_hasNext_12 : decode cJ35_hasNext 12 = .ok (.ireturn, 1) := dk_172 (dk_at dksJ35_hasNext_0 12 rfl rfl)
abbrev cJ35_nextNode : ByteArray := prog_78_method_3_code
def yJ35_nextNode : MethodName := ⟨RJ35, "nextNode", "()Ljava/util/LinkedHashMap$Entry;"⟩
def dkwJ35_nextNode_2 : List UInt8 := [180, 0, 13, 153, 0, 10, 43, 180, 0, 45, 167, 0, 7, 43, 180, 0, 50, 181, 0, 26, 43, 176]
abbrev dktJ35_nextNode_2 : List UInt8 := dkwJ35_nextNode_2 ++ []
def dkwJ35_nextNode_1 : List UInt8 := [183, 0, 41, 191, 43, 199, 0, 11, 187, 0, 42, 89, 183, 0, 44, 191, 42, 43, 181, 0, 36, 42, 42]
abbrev dktJ35_nextNode_1 : List UInt8 := dkwJ35_nextNode_1 ++ dktJ35_nextNode_2
def dkwJ35_nextNode_0 : List UInt8 := [42, 180, 0, 26, 76, 42, 180, 0, 1, 180, 0, 29, 42, 180, 0, 33, 159, 0, 11, 187, 0, 39, 89]
abbrev dktJ35_nextNode_0 : List UInt8 := dkwJ35_nextNode_0 ++ dktJ35_nextNode_1
theorem dksJ35_nextNode_0 : cJ35_nextNode.data.toList.drop 0 = dktJ35_nextNode_0 := by decide +kernel
theorem dksJ35_nextNode_1 : cJ35_nextNode.data.toList.drop 23 = dktJ35_nextNode_1 := dk_seg dksJ35_nextNode_0 23 rfl rfl
theorem dksJ35_nextNode_2 : cJ35_nextNode.data.toList.drop 46 = dktJ35_nextNode_2 := dk_seg dksJ35_nextNode_1 23 rfl rfl
theorem dJ35_nextNode_0 : decode cJ35_nextNode 0 = .ok (.aload_n 0, 1) := dk_42 (dk_at dksJ35_nextNode_0 0 rfl rfl)
theorem dJ35_nextNode_1 : decode cJ35_nextNode 1 = .ok (.getfield 26, 3) := dk_180 0 26 (dk_at dksJ35_nextNode_0 1 rfl rfl)
theorem dJ35_nextNode_4 : decode cJ35_nextNode 4 = .ok (.astore_n 1, 1) := dk_76 (dk_at dksJ35_nextNode_0 4 rfl rfl)
theorem dJ35_nextNode_5 : decode cJ35_nextNode 5 = .ok (.aload_n 0, 1) := dk_42 (dk_at dksJ35_nextNode_0 5 rfl rfl)
theorem dJ35_nextNode_6 : decode cJ35_nextNode 6 = .ok (.getfield 1, 3) := dk_180 0 1 (dk_at dksJ35_nextNode_0 6 rfl rfl)
theorem dJ35_nextNode_9 : decode cJ35_nextNode 9 = .ok (.getfield 29, 3) := dk_180 0 29 (dk_at dksJ35_nextNode_0 9 rfl rfl)
theorem dJ35_nextNode_12 : decode cJ35_nextNode 12 = .ok (.aload_n 0, 1) := dk_42 (dk_at dksJ35_nextNode_0 12 rfl rfl)
theorem dJ35_nextNode_13 : decode cJ35_nextNode 13 = .ok (.getfield 33, 3) := dk_180 0 33 (dk_at dksJ35_nextNode_0 13 rfl rfl)
theorem dJ35_nextNode_16 : decode cJ35_nextNode 16 = .ok (.if_icmp .eq 11, 3) := dk_159 0 11 (dk_at dksJ35_nextNode_0 16 rfl rfl)
theorem dJ35_nextNode_19 : decode cJ35_nextNode 19 = .ok (.new 39, 3) := dk_187 0 39 (dk_at dksJ35_nextNode_0 19 rfl rfl)
theorem dJ35_nextNode_22 : decode cJ35_nextNode 22 = .ok (.dup, 1) := dk_89 (dk_at dksJ35_nextNode_0 22 rfl rfl)
theorem dJ35_nextNode_23 : decode cJ35_nextNode 23 = .ok (.invokespecial 41, 3) := dk_183 0 41 (dk_at dksJ35_nextNode_1 0 rfl rfl)
theorem dJ35_nextNode_26 : decode cJ35_nextNode 26 = .ok (.athrow, 1) := dk_191 (dk_at dksJ35_nextNode_1 3 rfl rfl)
theorem dJ35_nextNode_27 : decode cJ35_nextNode 27 = .ok (.aload_n 1, 1) := dk_43 (dk_at dksJ35_nextNode_1 4 rfl rfl)
theorem dJ35_nextNode_28 : decode cJ35_nextNode 28 = .ok (.ifnonnull 11, 3) := dk_199 0 11 (dk_at dksJ35_nextNode_1 5 rfl rfl)
theorem dJ35_nextNode_31 : decode cJ35_nextNode 31 = .ok (.new 42, 3) := dk_187 0 42 (dk_at dksJ35_nextNode_1 8 rfl rfl)
theorem dJ35_nextNode_34 : decode cJ35_nextNode 34 = .ok (.dup, 1) := dk_89 (dk_at dksJ35_nextNode_1 11 rfl rfl)
theorem dJ35_nextNode_35 : decode cJ35_nextNode 35 = .ok (.invokespecial 44, 3) := dk_183 0 44 (dk_at dksJ35_nextNode_1 12 rfl rfl)
theorem dJ35_nextNode_38 : decode cJ35_nextNode 38 = .ok (.athrow, 1) := dk_191 (dk_at dksJ35_nextNode_1 15 rfl rfl)
theorem dJ35_nextNode_39 : decode cJ35_nextNode 39 = .ok (.aload_n 0, 1) := dk_42 (dk_at dksJ35_nextNode_1 16 rfl rfl)
theorem dJ35_nextNode_40 : decode cJ35_nextNode 40 = .ok (.aload_n 1, 1) := dk_43 (dk_at dksJ35_nextNode_1 17 rfl rfl)
theorem dJ35_nextNode_41 : decode cJ35_nextNode 41 = .ok (.putfield 36, 3) := dk_181 0 36 (dk_at dksJ35_nextNode_1 18 rfl rfl)
theorem dJ35_nextNode_44 : decode cJ35_nextNode 44 = .ok (.aload_n 0, 1) := dk_42 (dk_at dksJ35_nextNode_1 21 rfl rfl)
theorem dJ35_nextNode_45 : decode cJ35_nextNode 45 = .ok (.aload_n 0, 1) := dk_42 (dk_at dksJ35_nextNode_1 22 rfl rfl)
theorem dJ35_nextNode_46 : decode cJ35_nextNode 46 = .ok (.getfield 13, 3) := dk_180 0 13 (dk_at dksJ35_nextNode_2 0 rfl rfl)
theorem dJ35_nextNode_49 : decode cJ35_nextNode 49 = .ok (.ifCond .eq 10, 3) := dk_153 0 10 (dk_at dksJ35_nextNode_2 3 rfl rfl)
theorem dJ35_nextNode_52 : decode cJ35_nextNode 52 = .ok (.aload_n 1, 1) := dk_43 (dk_at dksJ35_nextNode_2 6 rfl rfl)
theorem dJ35_nextNode_53 : decode cJ35_nextNode 53 = .ok (.getfield 45, 3) := dk_180 0 45 (dk_at dksJ35_nextNode_2 7 rfl rfl)
theorem dJ35_nextNode_56 : decode cJ35_nextNode 56 = .ok (.goto 7, 3) := dk_167 0 7 (dk_at dksJ35_nextNode_2 10 rfl rfl)
theorem dJ35_nextNode_59 : decode cJ35_nextNode 59 = .ok (.aload_n 1, 1) := dk_43 (dk_at dksJ35_nextNode_2 13 rfl rfl)
theorem dJ35_nextNode_60 : decode cJ35_nextNode 60 = .ok (.getfield 50, 3) := dk_180 0 50 (dk_at dksJ35_nextNode_2 14 rfl rfl)
theorem dJ35_nextNode_63 : decode cJ35_nextNode 63 = .ok (.putfield 26, 3) := dk_181 0 26 (dk_at dksJ35_nextNode_2 17 rfl rfl)
theorem dJ35_nextNode_66 : decode cJ35_nextNode 66 = .ok (.aload_n 1, 1) := dk_43 (dk_at dksJ35_nextNode_2 20 rfl rfl)
theorem dJ35_nextNode_67 : decode cJ35_nextNode 67 = .ok (.areturn, 1) := dk_176 (dk_at dksJ35_nextNode_2 21 rfl rfl)
abbrev cJ35_init : ByteArray := prog_78_method_1_code
def yJ35_init : MethodName := ⟨RJ35, "<init>", "(Ljava/util/LinkedHashMap;Z)V"⟩
def dkwJ35_init_1 : List UInt8 := [167, 0, 7, 43, 180, 0, 23, 181, 0, 26, 42, 43, 180, 0, 29, 181, 0, 33, 42, 1, 181, 0, 36, 177]
abbrev dktJ35_init_1 : List UInt8 := dkwJ35_init_1 ++ []
def dkwJ35_init_0 : List UInt8 := [42, 43, 181, 0, 1, 42, 183, 0, 7, 42, 28, 181, 0, 13, 42, 28, 153, 0, 10, 43, 180, 0, 17]
abbrev dktJ35_init_0 : List UInt8 := dkwJ35_init_0 ++ dktJ35_init_1
theorem dksJ35_init_0 : cJ35_init.data.toList.drop 0 = dktJ35_init_0 := by decide +kernel
theorem dksJ35_init_1 : cJ35_init.data.toList.drop 23 = dktJ35_init_1 := dk_seg dksJ35_init_0 23 rfl rfl
theorem dJ35_init_0 : decode cJ35_init 0 = .ok (.aload_n 0, 1) := dk_42 (dk_at dksJ35_init_0 0 rfl rfl)
theorem dJ35_init_1 : decode cJ35_init 1 = .ok (.aload_n 1, 1) := dk_43 (dk_at dksJ35_init_0 1 rfl rfl)
theorem dJ35_init_2 : decode cJ35_init 2 = .ok (.putfield 1, 3) := dk_181 0 1 (dk_at dksJ35_init_0 2 rfl rfl)
theorem dJ35_init_5 : decode cJ35_init 5 = .ok (.aload_n 0, 1) := dk_42 (dk_at dksJ35_init_0 5 rfl rfl)
theorem dJ35_init_6 : decode cJ35_init 6 = .ok (.invokespecial 7, 3) := dk_183 0 7 (dk_at dksJ35_init_0 6 rfl rfl)
theorem dJ35_init_9 : decode cJ35_init 9 = .ok (.aload_n 0, 1) := dk_42 (dk_at dksJ35_init_0 9 rfl rfl)
theorem dJ35_init_10 : decode cJ35_init 10 = .ok (.iload_n 2, 1) := dk_28 (dk_at dksJ35_init_0 10 rfl rfl)
theorem dJ35_init_11 : decode cJ35_init 11 = .ok (.putfield 13, 3) := dk_181 0 13 (dk_at dksJ35_init_0 11 rfl rfl)
theorem dJ35_init_14 : decode cJ35_init 14 = .ok (.aload_n 0, 1) := dk_42 (dk_at dksJ35_init_0 14 rfl rfl)
theorem dJ35_init_15 : decode cJ35_init 15 = .ok (.iload_n 2, 1) := dk_28 (dk_at dksJ35_init_0 15 rfl rfl)
theorem dJ35_init_16 : decode cJ35_init 16 = .ok (.ifCond .eq 10, 3) := dk_153 0 10 (dk_at dksJ35_init_0 16 rfl rfl)
theorem dJ35_init_19 : decode cJ35_init 19 = .ok (.aload_n 1, 1) := dk_43 (dk_at dksJ35_init_0 19 rfl rfl)
theorem dJ35_init_20 : decode cJ35_init 20 = .ok (.getfield 17, 3) := dk_180 0 17 (dk_at dksJ35_init_0 20 rfl rfl)
theorem dJ35_init_23 : decode cJ35_init 23 = .ok (.goto 7, 3) := dk_167 0 7 (dk_at dksJ35_init_1 0 rfl rfl)
theorem dJ35_init_26 : decode cJ35_init 26 = .ok (.aload_n 1, 1) := dk_43 (dk_at dksJ35_init_1 3 rfl rfl)
theorem dJ35_init_27 : decode cJ35_init 27 = .ok (.getfield 23, 3) := dk_180 0 23 (dk_at dksJ35_init_1 4 rfl rfl)
theorem dJ35_init_30 : decode cJ35_init 30 = .ok (.putfield 26, 3) := dk_181 0 26 (dk_at dksJ35_init_1 7 rfl rfl)
theorem dJ35_init_33 : decode cJ35_init 33 = .ok (.aload_n 0, 1) := dk_42 (dk_at dksJ35_init_1 10 rfl rfl)
theorem dJ35_init_34 : decode cJ35_init 34 = .ok (.aload_n 1, 1) := dk_43 (dk_at dksJ35_init_1 11 rfl rfl)
theorem dJ35_init_35 : decode cJ35_init 35 = .ok (.getfield 29, 3) := dk_180 0 29 (dk_at dksJ35_init_1 12 rfl rfl)
theorem dJ35_init_38 : decode cJ35_init 38 = .ok (.putfield 33, 3) := dk_181 0 33 (dk_at dksJ35_init_1 15 rfl rfl)
theorem dJ35_init_41 : decode cJ35_init 41 = .ok (.aload_n 0, 1) := dk_42 (dk_at dksJ35_init_1 18 rfl rfl)
theorem dJ35_init_42 : decode cJ35_init 42 = .ok (.aconst_null, 1) := dk_1 (dk_at dksJ35_init_1 19 rfl rfl)
theorem dJ35_init_43 : decode cJ35_init 43 = .ok (.putfield 36, 3) := dk_181 0 36 (dk_at dksJ35_init_1 20 rfl rfl)
theorem dJ35_init_46 : decode cJ35_init 46 = .ok (.return_, 1) := dk_177 (dk_at dksJ35_init_1 23 rfl rfl)
theorem q152 : (Jvm.Cond.initialized "java/util/LinkedHashMap$LinkedHashIterator") ∈ lw_all := lw_g (lw_at lw_m1 51 rfl) rfl
theorem q553 : (Jvm.Cond.fieldLink "java/util/LinkedHashMap$LinkedHashIterator" (23 : Nat) "java/util/LinkedHashMap" "head" "Ljava/util/LinkedHashMap$Entry;") ∈ lw_all := lw_g (lw_at lw_m2 212 rfl) rfl
theorem q554 : (Jvm.Cond.fieldLink "java/util/LinkedHashMap$LinkedHashIterator" (17 : Nat) "java/util/LinkedHashMap" "tail" "Ljava/util/LinkedHashMap$Entry;") ∈ lw_all := lw_g (lw_at lw_m2 213 rfl) rfl
theorem q569 : (Jvm.Cond.fieldLink "java/util/LinkedHashMap$LinkedHashIterator" (29 : Nat) "java/util/LinkedHashMap" "modCount" "I") ∈ lw_all := lw_g (lw_at lw_m2 228 rfl) rfl
theorem q794 : (Jvm.Cond.instanceMethod ({ cls := "java/util/LinkedHashMap$LinkedHashIterator", name := "hasNext", desc := "()Z" } : Jvm.MethodName)) ∈ lw_all := lw_g (lw_at lw_m3 213 rfl) rfl
theorem q795 : (Jvm.Cond.publicMethod ({ cls := "java/util/LinkedHashMap$LinkedHashIterator", name := "hasNext", desc := "()Z" } : Jvm.MethodName)) ∈ lw_tbl := lw_at lw_m3 214 rfl
theorem q796 : (Jvm.Cond.code ({ cls := "java/util/LinkedHashMap$LinkedHashIterator", name := "hasNext", desc := "()Z" } : Jvm.MethodName) prog_78_method_2_code (1 : Nat) (Option.some Jvm.ClassFile.FieldType.boolean)) ∈ lw_all := lw_g (lw_at lw_m3 215 rfl) rfl
theorem q849 : (Jvm.Cond.declares ({ cls := "java/util/LinkedHashMap$LinkedHashIterator", name := "nextNode", desc := "()Ljava/util/LinkedHashMap$Entry;" } : Jvm.MethodName)) ∈ lw_tbl := lw_at lw_m4 28 rfl
theorem q851 : (Jvm.Cond.instanceMethod ({ cls := "java/util/LinkedHashMap$LinkedHashIterator", name := "nextNode", desc := "()Ljava/util/LinkedHashMap$Entry;" } : Jvm.MethodName)) ∈ lw_all := lw_g (lw_at lw_m4 30 rfl) rfl
theorem q852 : (Jvm.Cond.code ({ cls := "java/util/LinkedHashMap$LinkedHashIterator", name := "nextNode", desc := "()Ljava/util/LinkedHashMap$Entry;" } : Jvm.MethodName) prog_78_method_3_code (2 : Nat) (Option.some (Jvm.ClassFile.FieldType.object "java/util/LinkedHashMap$Entry"))) ∈ lw_all := lw_g (lw_at lw_m4 31 rfl) rfl
theorem q998 : (Jvm.Cond.instanceMethod ({ cls := "java/util/LinkedHashMap$LinkedHashIterator", name := "<init>", desc := "(Ljava/util/LinkedHashMap;Z)V" } : Jvm.MethodName)) ∈ lw_all := lw_g (lw_at lw_m4 177 rfl) rfl
theorem q999 : (Jvm.Cond.code ({ cls := "java/util/LinkedHashMap$LinkedHashIterator", name := "<init>", desc := "(Ljava/util/LinkedHashMap;Z)V" } : Jvm.MethodName) prog_78_method_1_code (3 : Nat) (Option.none : Option Jvm.ClassFile.FieldType)) ∈ lw_all := lw_g (lw_at lw_m4 178 rfl) rfl
theorem q1000 : (Jvm.Cond.methodLink "java/util/LinkedHashMap$LinkedHashIterator" (7 : Nat) ({ cls := "java/lang/Object", name := "<init>", desc := "()V" } : Jvm.MethodName)) ∈ lw_all := lw_g (lw_at lw_m4 179 rfl) rfl
theorem q1001 : (Jvm.Cond.fieldLink "java/util/LinkedHashMap$LinkedHashIterator" (26 : Nat) "java/util/LinkedHashMap$LinkedHashIterator" "next" "Ljava/util/LinkedHashMap$Entry;") ∈ lw_all := lw_g (lw_at lw_m4 180 rfl) rfl
theorem q1002 : (Jvm.Cond.fieldLink "java/util/LinkedHashMap$LinkedHashIterator" (36 : Nat) "java/util/LinkedHashMap$LinkedHashIterator" "current" "Ljava/util/LinkedHashMap$Entry;") ∈ lw_all := lw_g (lw_at lw_m4 181 rfl) rfl
theorem q1003 : (Jvm.Cond.fieldLink "java/util/LinkedHashMap$LinkedHashIterator" (33 : Nat) "java/util/LinkedHashMap$LinkedHashIterator" "expectedModCount" "I") ∈ lw_all := lw_g (lw_at lw_m4 182 rfl) rfl
theorem q1004 : (Jvm.Cond.fieldLink "java/util/LinkedHashMap$LinkedHashIterator" (13 : Nat) "java/util/LinkedHashMap$LinkedHashIterator" "reversed" "Z") ∈ lw_all := lw_g (lw_at lw_m4 183 rfl) rfl
theorem q1005 : (Jvm.Cond.fieldLink "java/util/LinkedHashMap$LinkedHashIterator" (1 : Nat) "java/util/LinkedHashMap$LinkedHashIterator" "this$0" "Ljava/util/LinkedHashMap;") ∈ lw_all := lw_g (lw_at lw_m4 184 rfl) rfl
theorem q1007 : (Jvm.Cond.soleField "java/util/LinkedHashMap$LinkedHashIterator" "next") ∈ lw_all := lw_g (lw_at lw_m4 186 rfl) rfl
theorem q1009 : (Jvm.Cond.soleField "java/util/LinkedHashMap$LinkedHashIterator" "current") ∈ lw_all := lw_g (lw_at lw_m4 188 rfl) rfl
theorem q1011 : (Jvm.Cond.soleField "java/util/LinkedHashMap$LinkedHashIterator" "expectedModCount") ∈ lw_all := lw_g (lw_at lw_m4 190 rfl) rfl
theorem q1013 : (Jvm.Cond.soleField "java/util/LinkedHashMap$LinkedHashIterator" "reversed") ∈ lw_all := lw_g (lw_at lw_m4 192 rfl) rfl
theorem q1015 : (Jvm.Cond.soleField "java/util/LinkedHashMap$LinkedHashIterator" "this$0") ∈ lw_all := lw_g (lw_at lw_m4 194 rfl) rfl
theorem q2012 : (Jvm.Cond.fieldLink "java/util/LinkedHashMap$LinkedHashIterator" (45 : Nat) "java/util/LinkedHashMap$Entry" "before" "Ljava/util/LinkedHashMap$Entry;") ∈ lw_all := lw_g (lw_at lw_m8 231 rfl) rfl
theorem q2014 : (Jvm.Cond.fieldLink "java/util/LinkedHashMap$LinkedHashIterator" (50 : Nat) "java/util/LinkedHashMap$Entry" "after" "Ljava/util/LinkedHashMap$Entry;") ∈ lw_all := lw_g (lw_at lw_m8 233 rfl) rfl

-- J36.java_util_LinkedHashMap_LinkedEntryIterator.lean.txt
/-! java/util/LinkedHashMap$LinkedEntryIterator -/
set_option maxRecDepth 100000
def RJ36 : String := "java/util/LinkedHashMap$LinkedEntryIterator"
def TJ36 : u_T := fun k => match k with
  | 0 => ("java/util/LinkedHashMap$LinkedHashIterator", "next", "Ljava/util/LinkedHashMap$Entry;", false)
  | 1 => ("java/util/LinkedHashMap$LinkedHashIterator", "current", "Ljava/util/LinkedHashMap$Entry;", false)
  | 2 => ("java/util/LinkedHashMap$LinkedHashIterator", "expectedModCount", "I", false)
  | 3 => ("java/util/LinkedHashMap$LinkedHashIterator", "reversed", "Z", false)
  | _ => ("java/util/LinkedHashMap$LinkedHashIterator", "this$0", "Ljava/util/LinkedHashMap;", true)
def tyJ36 : Nat → FieldType := fun k => match k with
  | 0 => .object "java/util/LinkedHashMap$Entry"
  | 1 => .object "java/util/LinkedHashMap$Entry"
  | 2 => .int
  | 3 => .boolean
  | _ => .object "java/util/LinkedHashMap"
abbrev wsJ360 : List Cond := u_ws RJ36 TJ36 5
theorem nmJ36 : ∀ a, a < 5 → ∀ b, b < 5 → a ≠ b → (TJ36 a).2.1 ≠ (TJ36 b).2.1 := by decide +kernel
theorem tyJ36_ok : ∀ k, k < 5 → parseFieldDescriptor (TJ36 k).2.2.1 = some (tyJ36 k) := by decide +kernel
abbrev cJ36_next : ByteArray := prog_76_method_3_code
def yJ36_next : MethodName := ⟨RJ36, "next", "()Ljava/lang/Object;"⟩
theorem dJ36_next_0 : decode cJ36_next 0 = .ok (.aload_n 0, 1) := by decide +kernel
theorem dJ36_next_1 : decode cJ36_next 1 = .ok (.invokevirtual 13, 3) := by decide +kernel
theorem dJ36_next_4 : decode cJ36_next 4 = .ok (.areturn, 1) := by decide +kernel
abbrev cJ36_next_2 : ByteArray := prog_76_method_2_code
def yJ36_next_2 : MethodName := ⟨RJ36, "next", "()Ljava/util/Map$Entry;"⟩
theorem dJ36_next_2_0 : decode cJ36_next_2 0 = .ok (.aload_n 0, 1) := by decide +kernel
theorem dJ36_next_2_1 : decode cJ36_next_2 1 = .ok (.invokevirtual 7, 3) := by decide +kernel
theorem dJ36_next_2_4 : decode cJ36_next_2 4 = .ok (.areturn, 1) := by decide +kernel
abbrev cJ36_init : ByteArray := prog_76_method_1_code
def yJ36_init : MethodName := ⟨RJ36, "<init>", "(Ljava/util/LinkedHashMap;Z)V"⟩
def dkwJ36_init_0 : List UInt8 := [42, 43, 28, 183, 0, 1, 177]
abbrev dktJ36_init_0 : List UInt8 := dkwJ36_init_0 ++ []
theorem dksJ36_init_0 : cJ36_init.data.toList.drop 0 = dktJ36_init_0 := by decide +kernel
theorem dJ36_init_0 : decode cJ36_init 0 = .ok (.aload_n 0, 1) := dk_42 (dk_at dksJ36_init_0 0 rfl rfl)
theorem dJ36_init_1 : decode cJ36_init 1 = .ok (.aload_n 1, 1) := dk_43 (dk_at dksJ36_init_0 1 rfl rfl)
theorem dJ36_init_2 : decode cJ36_init 2 = .ok (.iload_n 2, 1) := dk_28 (dk_at dksJ36_init_0 2 rfl rfl)
theorem dJ36_init_3 : decode cJ36_init 3 = .ok (.invokespecial 1, 3) := dk_183 0 1 (dk_at dksJ36_init_0 3 rfl rfl)
theorem dJ36_init_6 : decode cJ36_init 6 = .ok (.return_, 1) := dk_177 (dk_at dksJ36_init_0 6 rfl rfl)
theorem q153 : (Jvm.Cond.initialized "java/util/LinkedHashMap$LinkedEntryIterator") ∈ lw_all := lw_g (lw_at lw_m1 52 rfl) rfl
theorem q791 : (Jvm.Cond.castable "java/util/LinkedHashMap$LinkedEntryIterator" "java/util/Iterator") ∈ lw_tbl := lw_at lw_m3 210 rfl
theorem q792 : (Jvm.Cond.selects "java/util/LinkedHashMap$LinkedEntryIterator" ({ cls := "java/util/Iterator", name := "hasNext", desc := "()Z" } : Jvm.MethodName) ({ cls := "java/util/LinkedHashMap$LinkedHashIterator", name := "hasNext", desc := "()Z" } : Jvm.MethodName)) ∈ lw_all := lw_g (lw_at lw_m3 211 rfl) rfl
theorem q793 : (Jvm.Cond.unhidden "java/util/LinkedHashMap$LinkedEntryIterator" "hasNext" "()Z") ∈ lw_tbl := lw_at lw_m3 212 rfl
theorem q838 : (Jvm.Cond.selects "java/util/LinkedHashMap$LinkedEntryIterator" ({ cls := "java/util/Iterator", name := "next", desc := "()Ljava/lang/Object;" } : Jvm.MethodName) ({ cls := "java/util/LinkedHashMap$LinkedEntryIterator", name := "next", desc := "()Ljava/lang/Object;" } : Jvm.MethodName)) ∈ lw_all := lw_g (lw_at lw_m4 17 rfl) rfl
theorem q839 : (Jvm.Cond.unhidden "java/util/LinkedHashMap$LinkedEntryIterator" "next" "()Ljava/lang/Object;") ∈ lw_tbl := lw_at lw_m4 18 rfl
theorem q840 : (Jvm.Cond.instanceMethod ({ cls := "java/util/LinkedHashMap$LinkedEntryIterator", name := "next", desc := "()Ljava/lang/Object;" } : Jvm.MethodName)) ∈ lw_all := lw_g (lw_at lw_m4 19 rfl) rfl
theorem q841 : (Jvm.Cond.publicMethod ({ cls := "java/util/LinkedHashMap$LinkedEntryIterator", name := "next", desc := "()Ljava/lang/Object;" } : Jvm.MethodName)) ∈ lw_tbl := lw_at lw_m4 20 rfl
theorem q842 : (Jvm.Cond.code ({ cls := "java/util/LinkedHashMap$LinkedEntryIterator", name := "next", desc := "()Ljava/lang/Object;" } : Jvm.MethodName) prog_76_method_3_code (1 : Nat) (Option.some (Jvm.ClassFile.FieldType.object "java/lang/Object"))) ∈ lw_all := lw_g (lw_at lw_m4 21 rfl) rfl
theorem q843 : (Jvm.Cond.methodLink "java/util/LinkedHashMap$LinkedEntryIterator" (13 : Nat) ({ cls := "java/util/LinkedHashMap$LinkedEntryIterator", name := "next", desc := "()Ljava/util/Map$Entry;" } : Jvm.MethodName)) ∈ lw_all := lw_g (lw_at lw_m4 22 rfl) rfl
theorem q844 : (Jvm.Cond.instanceMethod ({ cls := "java/util/LinkedHashMap$LinkedEntryIterator", name := "next", desc := "()Ljava/util/Map$Entry;" } : Jvm.MethodName)) ∈ lw_all := lw_g (lw_at lw_m4 23 rfl) rfl
theorem q845 : (Jvm.Cond.selects "java/util/LinkedHashMap$LinkedEntryIterator" ({ cls := "java/util/LinkedHashMap$LinkedEntryIterator", name := "next", desc := "()Ljava/util/Map$Entry;" } : Jvm.MethodName) ({ cls := "java/util/LinkedHashMap$LinkedEntryIterator", name := "next", desc := "()Ljava/util/Map$Entry;" } : Jvm.MethodName)) ∈ lw_all := lw_g (lw_at lw_m4 24 rfl) rfl
theorem q846 : (Jvm.Cond.code ({ cls := "java/util/LinkedHashMap$LinkedEntryIterator", name := "next", desc := "()Ljava/util/Map$Entry;" } : Jvm.MethodName) prog_76_method_2_code (1 : Nat) (Option.some (Jvm.ClassFile.FieldType.object "java/util/Map$Entry"))) ∈ lw_all := lw_g (lw_at lw_m4 25 rfl) rfl
theorem q847 : (Jvm.Cond.methodLink "java/util/LinkedHashMap$LinkedEntryIterator" (7 : Nat) ({ cls := "java/util/LinkedHashMap$LinkedEntryIterator", name := "nextNode", desc := "()Ljava/util/LinkedHashMap$Entry;" } : Jvm.MethodName)) ∈ lw_all := lw_g (lw_at lw_m4 26 rfl) rfl
theorem q848 : (Jvm.Cond.sameMethod "java/util/LinkedHashMap$LinkedEntryIterator" "java/util/LinkedHashMap$LinkedHashIterator" "nextNode" "()Ljava/util/LinkedHashMap$Entry;") ∈ lw_all := lw_g (lw_at lw_m4 27 rfl) rfl
theorem q850 : (Jvm.Cond.selects "java/util/LinkedHashMap$LinkedEntryIterator" ({ cls := "java/util/LinkedHashMap$LinkedEntryIterator", name := "nextNode", desc := "()Ljava/util/LinkedHashMap$Entry;" } : Jvm.MethodName) ({ cls := "java/util/LinkedHashMap$LinkedHashIterator", name := "nextNode", desc := "()Ljava/util/LinkedHashMap$Entry;" } : Jvm.MethodName)) ∈ lw_all := lw_g (lw_at lw_m4 29 rfl) rfl
theorem q993 : (Jvm.Cond.instantiable "java/util/LinkedHashMap$LinkedEntryIterator" (5 : Nat)) ∈ lw_all := lw_g (lw_at lw_m4 172 rfl) rfl
theorem q995 : (Jvm.Cond.instanceMethod ({ cls := "java/util/LinkedHashMap$LinkedEntryIterator", name := "<init>", desc := "(Ljava/util/LinkedHashMap;Z)V" } : Jvm.MethodName)) ∈ lw_all := lw_g (lw_at lw_m4 174 rfl) rfl
theorem q996 : (Jvm.Cond.code ({ cls := "java/util/LinkedHashMap$LinkedEntryIterator", name := "<init>", desc := "(Ljava/util/LinkedHashMap;Z)V" } : Jvm.MethodName) prog_76_method_1_code (3 : Nat) (Option.none : Option Jvm.ClassFile.FieldType)) ∈ lw_all := lw_g (lw_at lw_m4 175 rfl) rfl
theorem q997 : (Jvm.Cond.methodLink "java/util/LinkedHashMap$LinkedEntryIterator" (1 : Nat) ({ cls := "java/util/LinkedHashMap$LinkedHashIterator", name := "<init>", desc := "(Ljava/util/LinkedHashMap;Z)V" } : Jvm.MethodName)) ∈ lw_all := lw_g (lw_at lw_m4 176 rfl) rfl
theorem q1006 : (Jvm.Cond.lays "java/util/LinkedHashMap$LinkedEntryIterator" "java/util/LinkedHashMap$LinkedHashIterator" "next" "Ljava/util/LinkedHashMap$Entry;") ∈ lw_all := lw_g (lw_at lw_m4 185 rfl) rfl
theorem q1008 : (Jvm.Cond.lays "java/util/LinkedHashMap$LinkedEntryIterator" "java/util/LinkedHashMap$LinkedHashIterator" "current" "Ljava/util/LinkedHashMap$Entry;") ∈ lw_all := lw_g (lw_at lw_m4 187 rfl) rfl
theorem q1010 : (Jvm.Cond.lays "java/util/LinkedHashMap$LinkedEntryIterator" "java/util/LinkedHashMap$LinkedHashIterator" "expectedModCount" "I") ∈ lw_all := lw_g (lw_at lw_m4 189 rfl) rfl
theorem q1012 : (Jvm.Cond.lays "java/util/LinkedHashMap$LinkedEntryIterator" "java/util/LinkedHashMap$LinkedHashIterator" "reversed" "Z") ∈ lw_all := lw_g (lw_at lw_m4 191 rfl) rfl
theorem q1014 : (Jvm.Cond.laysFinal "java/util/LinkedHashMap$LinkedEntryIterator" "java/util/LinkedHashMap$LinkedHashIterator" "this$0" "Ljava/util/LinkedHashMap;") ∈ lw_all := lw_g (lw_at lw_m4 193 rfl) rfl
theorem q1016 : (Jvm.Cond.superclass "java/util/LinkedHashMap$LinkedEntryIterator" "java/util/LinkedHashMap$LinkedHashIterator") ∈ lw_all := lw_g (lw_at lw_m4 195 rfl) rfl
theorem q1713 : (Jvm.Cond.selects "java/util/LinkedHashMap$LinkedEntryIterator" ({ cls := "java/lang/Object", name := "getClass", desc := "()Ljava/lang/Class;" } : Jvm.MethodName) ({ cls := "java/lang/Object", name := "getClass", desc := "()Ljava/lang/Class;" } : Jvm.MethodName)) ∈ lw_all := lw_g (lw_at lw_m7 172 rfl) rfl
theorem q3888 : (Jvm.Cond.castable "java/util/LinkedHashMap$LinkedEntryIterator" "java/lang/Object") ∈ lw_tbl := lw_at lw_m16 187 rfl
theorem in_J36 : ∀ w ∈ wsJ360, w ∈ lw_all := lw_in wsJ360 [1006, 1008, 1010, 1012, 1014] (by decide +kernel) (by decide +kernel)

-- J37.java_util_LinkedHashMap_LinkedKeyIterator.lean.txt
/-! java/util/LinkedHashMap$LinkedKeyIterator -/
set_option maxRecDepth 100000
def RJ37 : String := "java/util/LinkedHashMap$LinkedKeyIterator"
def TJ37 : u_T := fun k => match k with
  | 0 => ("java/util/LinkedHashMap$LinkedHashIterator", "next", "Ljava/util/LinkedHashMap$Entry;", false)
  | 1 => ("java/util/LinkedHashMap$LinkedHashIterator", "current", "Ljava/util/LinkedHashMap$Entry;", false)
  | 2 => ("java/util/LinkedHashMap$LinkedHashIterator", "expectedModCount", "I", false)
  | 3 => ("java/util/LinkedHashMap$LinkedHashIterator", "reversed", "Z", false)
  | _ => ("java/util/LinkedHashMap$LinkedHashIterator", "this$0", "Ljava/util/LinkedHashMap;", true)
def tyJ37 : Nat → FieldType := fun k => match k with
  | 0 => .object "java/util/LinkedHashMap$Entry"
  | 1 => .object "java/util/LinkedHashMap$Entry"
  | 2 => .int
  | 3 => .boolean
  | _ => .object "java/util/LinkedHashMap"
abbrev wsJ370 : List Cond := u_ws RJ37 TJ37 5
theorem nmJ37 : ∀ a, a < 5 → ∀ b, b < 5 → a ≠ b → (TJ37 a).2.1 ≠ (TJ37 b).2.1 := by decide +kernel
theorem tyJ37_ok : ∀ k, k < 5 → parseFieldDescriptor (TJ37 k).2.2.1 = some (tyJ37 k) := by decide +kernel
abbrev cJ37_next : ByteArray := prog_79_method_2_code
def yJ37_next : MethodName := ⟨RJ37, "next", "()Ljava/lang/Object;"⟩
def dkwJ37_next_0 : List UInt8 := [42, 182, 0, 7, 182, 0, 13, 176]
abbrev dktJ37_next_0 : List UInt8 := dkwJ37_next_0 ++ []
theorem dksJ37_next_0 : cJ37_next.data.toList.drop 0 = dktJ37_next_0 := by decide +kernel
theorem dJ37_next_0 : decode cJ37_next 0 = .ok (.aload_n 0, 1) := dk_42 (dk_at dksJ37_next_0 0 rfl rfl)
theorem dJ37_next_1 : decode cJ37_next 1 = .ok (.invokevirtual 7, 3) := dk_182 0 7 (dk_at dksJ37_next_0 1 rfl rfl)
theorem dJ37_next_4 : decode cJ37_next 4 = .ok (.invokevirtual 13, 3) := dk_182 0 13 (dk_at dksJ37_next_0 4 rfl rfl)
theorem dJ37_next_7 : decode cJ37_next 7 = .ok (.areturn, 1) := dk_176 (dk_at dksJ37_next_0 7 rfl rfl)
abbrev cJ37_init : ByteArray := prog_79_method_1_code
def yJ37_init : MethodName := ⟨RJ37, "<init>", "(Ljava/util/LinkedHashMap;Z)V"⟩
def dkwJ37_init_0 : List UInt8 := [42, 43, 28, 183, 0, 1, 177]
abbrev dktJ37_init_0 : List UInt8 := dkwJ37_init_0 ++ []
theorem dksJ37_init_0 : cJ37_init.data.toList.drop 0 = dktJ37_init_0 := by decide +kernel
theorem dJ37_init_0 : decode cJ37_init 0 = .ok (.aload_n 0, 1) := dk_42 (dk_at dksJ37_init_0 0 rfl rfl)
theorem dJ37_init_1 : decode cJ37_init 1 = .ok (.aload_n 1, 1) := dk_43 (dk_at dksJ37_init_0 1 rfl rfl)
theorem dJ37_init_2 : decode cJ37_init 2 = .ok (.iload_n 2, 1) := dk_28 (dk_at dksJ37_init_0 2 rfl rfl)
theorem dJ37_init_3 : decode cJ37_init 3 = .ok (.invokespecial 1, 3) := dk_183 0 1 (dk_at dksJ37_init_0 3 rfl rfl)
theorem dJ37_init_6 : decode cJ37_init 6 = .ok (.return_, 1) := dk_177 (dk_at dksJ37_init_0 6 rfl rfl)
theorem q154 : (Jvm.Cond.initialized "java/util/LinkedHashMap$LinkedKeyIterator") ∈ lw_all := lw_g (lw_at lw_m1 53 rfl) rfl
theorem q797 : (Jvm.Cond.castable "java/util/LinkedHashMap$LinkedKeyIterator" "java/util/Iterator") ∈ lw_tbl := lw_at lw_m3 216 rfl
theorem q798 : (Jvm.Cond.selects "java/util/LinkedHashMap$LinkedKeyIterator" ({ cls := "java/util/Iterator", name := "hasNext", desc := "()Z" } : Jvm.MethodName) ({ cls := "java/util/LinkedHashMap$LinkedHashIterator", name := "hasNext", desc := "()Z" } : Jvm.MethodName)) ∈ lw_all := lw_g (lw_at lw_m3 217 rfl) rfl
theorem q799 : (Jvm.Cond.unhidden "java/util/LinkedHashMap$LinkedKeyIterator" "hasNext" "()Z") ∈ lw_tbl := lw_at lw_m3 218 rfl
theorem q853 : (Jvm.Cond.selects "java/util/LinkedHashMap$LinkedKeyIterator" ({ cls := "java/util/Iterator", name := "next", desc := "()Ljava/lang/Object;" } : Jvm.MethodName) ({ cls := "java/util/LinkedHashMap$LinkedKeyIterator", name := "next", desc := "()Ljava/lang/Object;" } : Jvm.MethodName)) ∈ lw_all := lw_g (lw_at lw_m4 32 rfl) rfl
theorem q854 : (Jvm.Cond.unhidden "java/util/LinkedHashMap$LinkedKeyIterator" "next" "()Ljava/lang/Object;") ∈ lw_tbl := lw_at lw_m4 33 rfl
theorem q855 : (Jvm.Cond.instanceMethod ({ cls := "java/util/LinkedHashMap$LinkedKeyIterator", name := "next", desc := "()Ljava/lang/Object;" } : Jvm.MethodName)) ∈ lw_all := lw_g (lw_at lw_m4 34 rfl) rfl
theorem q856 : (Jvm.Cond.publicMethod ({ cls := "java/util/LinkedHashMap$LinkedKeyIterator", name := "next", desc := "()Ljava/lang/Object;" } : Jvm.MethodName)) ∈ lw_tbl := lw_at lw_m4 35 rfl
theorem q857 : (Jvm.Cond.code ({ cls := "java/util/LinkedHashMap$LinkedKeyIterator", name := "next", desc := "()Ljava/lang/Object;" } : Jvm.MethodName) prog_79_method_2_code (1 : Nat) (Option.some (Jvm.ClassFile.FieldType.object "java/lang/Object"))) ∈ lw_all := lw_g (lw_at lw_m4 36 rfl) rfl
theorem q858 : (Jvm.Cond.methodLink "java/util/LinkedHashMap$LinkedKeyIterator" (7 : Nat) ({ cls := "java/util/LinkedHashMap$LinkedKeyIterator", name := "nextNode", desc := "()Ljava/util/LinkedHashMap$Entry;" } : Jvm.MethodName)) ∈ lw_all := lw_g (lw_at lw_m4 37 rfl) rfl
theorem q859 : (Jvm.Cond.sameMethod "java/util/LinkedHashMap$LinkedKeyIterator" "java/util/LinkedHashMap$LinkedHashIterator" "nextNode" "()Ljava/util/LinkedHashMap$Entry;") ∈ lw_all := lw_g (lw_at lw_m4 38 rfl) rfl
theorem q860 : (Jvm.Cond.selects "java/util/LinkedHashMap$LinkedKeyIterator" ({ cls := "java/util/LinkedHashMap$LinkedKeyIterator", name := "nextNode", desc := "()Ljava/util/LinkedHashMap$Entry;" } : Jvm.MethodName) ({ cls := "java/util/LinkedHashMap$LinkedHashIterator", name := "nextNode", desc := "()Ljava/util/LinkedHashMap$Entry;" } : Jvm.MethodName)) ∈ lw_all := lw_g (lw_at lw_m4 39 rfl) rfl
theorem q861 : (Jvm.Cond.methodLink "java/util/LinkedHashMap$LinkedKeyIterator" (13 : Nat) ({ cls := "java/util/LinkedHashMap$Entry", name := "getKey", desc := "()Ljava/lang/Object;" } : Jvm.MethodName)) ∈ lw_all := lw_g (lw_at lw_m4 40 rfl) rfl
theorem q1024 : (Jvm.Cond.instantiable "java/util/LinkedHashMap$LinkedKeyIterator" (5 : Nat)) ∈ lw_all := lw_g (lw_at lw_m4 203 rfl) rfl
theorem q1026 : (Jvm.Cond.instanceMethod ({ cls := "java/util/LinkedHashMap$LinkedKeyIterator", name := "<init>", desc := "(Ljava/util/LinkedHashMap;Z)V" } : Jvm.MethodName)) ∈ lw_all := lw_g (lw_at lw_m4 205 rfl) rfl
theorem q1027 : (Jvm.Cond.code ({ cls := "java/util/LinkedHashMap$LinkedKeyIterator", name := "<init>", desc := "(Ljava/util/LinkedHashMap;Z)V" } : Jvm.MethodName) prog_79_method_1_code (3 : Nat) (Option.none : Option Jvm.ClassFile.FieldType)) ∈ lw_all := lw_g (lw_at lw_m4 206 rfl) rfl
theorem q1028 : (Jvm.Cond.methodLink "java/util/LinkedHashMap$LinkedKeyIterator" (1 : Nat) ({ cls := "java/util/LinkedHashMap$LinkedHashIterator", name := "<init>", desc := "(Ljava/util/LinkedHashMap;Z)V" } : Jvm.MethodName)) ∈ lw_all := lw_g (lw_at lw_m4 207 rfl) rfl
theorem q1029 : (Jvm.Cond.lays "java/util/LinkedHashMap$LinkedKeyIterator" "java/util/LinkedHashMap$LinkedHashIterator" "next" "Ljava/util/LinkedHashMap$Entry;") ∈ lw_all := lw_g (lw_at lw_m4 208 rfl) rfl
theorem q1030 : (Jvm.Cond.lays "java/util/LinkedHashMap$LinkedKeyIterator" "java/util/LinkedHashMap$LinkedHashIterator" "current" "Ljava/util/LinkedHashMap$Entry;") ∈ lw_all := lw_g (lw_at lw_m4 209 rfl) rfl
theorem q1031 : (Jvm.Cond.lays "java/util/LinkedHashMap$LinkedKeyIterator" "java/util/LinkedHashMap$LinkedHashIterator" "expectedModCount" "I") ∈ lw_all := lw_g (lw_at lw_m4 210 rfl) rfl
theorem q1032 : (Jvm.Cond.lays "java/util/LinkedHashMap$LinkedKeyIterator" "java/util/LinkedHashMap$LinkedHashIterator" "reversed" "Z") ∈ lw_all := lw_g (lw_at lw_m4 211 rfl) rfl
theorem q1033 : (Jvm.Cond.laysFinal "java/util/LinkedHashMap$LinkedKeyIterator" "java/util/LinkedHashMap$LinkedHashIterator" "this$0" "Ljava/util/LinkedHashMap;") ∈ lw_all := lw_g (lw_at lw_m4 212 rfl) rfl
theorem q1034 : (Jvm.Cond.superclass "java/util/LinkedHashMap$LinkedKeyIterator" "java/util/LinkedHashMap$LinkedHashIterator") ∈ lw_all := lw_g (lw_at lw_m4 213 rfl) rfl
theorem q1715 : (Jvm.Cond.selects "java/util/LinkedHashMap$LinkedKeyIterator" ({ cls := "java/lang/Object", name := "getClass", desc := "()Ljava/lang/Class;" } : Jvm.MethodName) ({ cls := "java/lang/Object", name := "getClass", desc := "()Ljava/lang/Class;" } : Jvm.MethodName)) ∈ lw_all := lw_g (lw_at lw_m7 174 rfl) rfl
theorem q3879 : (Jvm.Cond.castable "java/util/LinkedHashMap$LinkedKeyIterator" "java/lang/Object") ∈ lw_tbl := lw_at lw_m16 178 rfl
theorem in_J37 : ∀ w ∈ wsJ370, w ∈ lw_all := lw_in wsJ370 [1029, 1030, 1031, 1032, 1033] (by decide +kernel) (by decide +kernel)

-- J38.java_util_LinkedHashMap_LinkedValueIterator.lean.txt
/-! java/util/LinkedHashMap$LinkedValueIterator -/
set_option maxRecDepth 100000
def RJ38 : String := "java/util/LinkedHashMap$LinkedValueIterator"
def TJ38 : u_T := fun k => match k with
  | 0 => ("java/util/LinkedHashMap$LinkedHashIterator", "next", "Ljava/util/LinkedHashMap$Entry;", false)
  | 1 => ("java/util/LinkedHashMap$LinkedHashIterator", "current", "Ljava/util/LinkedHashMap$Entry;", false)
  | 2 => ("java/util/LinkedHashMap$LinkedHashIterator", "expectedModCount", "I", false)
  | 3 => ("java/util/LinkedHashMap$LinkedHashIterator", "reversed", "Z", false)
  | _ => ("java/util/LinkedHashMap$LinkedHashIterator", "this$0", "Ljava/util/LinkedHashMap;", true)
def tyJ38 : Nat → FieldType := fun k => match k with
  | 0 => .object "java/util/LinkedHashMap$Entry"
  | 1 => .object "java/util/LinkedHashMap$Entry"
  | 2 => .int
  | 3 => .boolean
  | _ => .object "java/util/LinkedHashMap"
abbrev wsJ380 : List Cond := u_ws RJ38 TJ38 5
theorem nmJ38 : ∀ a, a < 5 → ∀ b, b < 5 → a ≠ b → (TJ38 a).2.1 ≠ (TJ38 b).2.1 := by decide +kernel
theorem tyJ38_ok : ∀ k, k < 5 → parseFieldDescriptor (TJ38 k).2.2.1 = some (tyJ38 k) := by decide +kernel
abbrev cJ38_next : ByteArray := prog_81_method_2_code
def yJ38_next : MethodName := ⟨RJ38, "next", "()Ljava/lang/Object;"⟩
def dkwJ38_next_0 : List UInt8 := [42, 182, 0, 7, 180, 0, 13, 176]
abbrev dktJ38_next_0 : List UInt8 := dkwJ38_next_0 ++ []
theorem dksJ38_next_0 : cJ38_next.data.toList.drop 0 = dktJ38_next_0 := by decide +kernel
theorem dJ38_next_0 : decode cJ38_next 0 = .ok (.aload_n 0, 1) := dk_42 (dk_at dksJ38_next_0 0 rfl rfl)
theorem dJ38_next_1 : decode cJ38_next 1 = .ok (.invokevirtual 7, 3) := dk_182 0 7 (dk_at dksJ38_next_0 1 rfl rfl)
theorem dJ38_next_4 : decode cJ38_next 4 = .ok (.getfield 13, 3) := dk_180 0 13 (dk_at dksJ38_next_0 4 rfl rfl)
theorem dJ38_next_7 : decode cJ38_next 7 = .ok (.areturn, 1) := dk_176 (dk_at dksJ38_next_0 7 rfl rfl)
abbrev cJ38_init : ByteArray := prog_81_method_1_code
def yJ38_init : MethodName := ⟨RJ38, "<init>", "(Ljava/util/LinkedHashMap;Z)V"⟩
def dkwJ38_init_0 : List UInt8 := [42, 43, 28, 183, 0, 1, 177]
abbrev dktJ38_init_0 : List UInt8 := dkwJ38_init_0 ++ []
theorem dksJ38_init_0 : cJ38_init.data.toList.drop 0 = dktJ38_init_0 := by decide +kernel
theorem dJ38_init_0 : decode cJ38_init 0 = .ok (.aload_n 0, 1) := dk_42 (dk_at dksJ38_init_0 0 rfl rfl)
theorem dJ38_init_1 : decode cJ38_init 1 = .ok (.aload_n 1, 1) := dk_43 (dk_at dksJ38_init_0 1 rfl rfl)
theorem dJ38_init_2 : decode cJ38_init 2 = .ok (.iload_n 2, 1) := dk_28 (dk_at dksJ38_init_0 2 rfl rfl)
theorem dJ38_init_3 : decode cJ38_init 3 = .ok (.invokespecial 1, 3) := dk_183 0 1 (dk_at dksJ38_init_0 3 rfl rfl)
theorem dJ38_init_6 : decode cJ38_init 6 = .ok (.return_, 1) := dk_177 (dk_at dksJ38_init_0 6 rfl rfl)
theorem q155 : (Jvm.Cond.initialized "java/util/LinkedHashMap$LinkedValueIterator") ∈ lw_all := lw_g (lw_at lw_m1 54 rfl) rfl
theorem q800 : (Jvm.Cond.castable "java/util/LinkedHashMap$LinkedValueIterator" "java/util/Iterator") ∈ lw_tbl := lw_at lw_m3 219 rfl
theorem q801 : (Jvm.Cond.selects "java/util/LinkedHashMap$LinkedValueIterator" ({ cls := "java/util/Iterator", name := "hasNext", desc := "()Z" } : Jvm.MethodName) ({ cls := "java/util/LinkedHashMap$LinkedHashIterator", name := "hasNext", desc := "()Z" } : Jvm.MethodName)) ∈ lw_all := lw_g (lw_at lw_m3 220 rfl) rfl
theorem q802 : (Jvm.Cond.unhidden "java/util/LinkedHashMap$LinkedValueIterator" "hasNext" "()Z") ∈ lw_tbl := lw_at lw_m3 221 rfl
theorem q868 : (Jvm.Cond.selects "java/util/LinkedHashMap$LinkedValueIterator" ({ cls := "java/util/Iterator", name := "next", desc := "()Ljava/lang/Object;" } : Jvm.MethodName) ({ cls := "java/util/LinkedHashMap$LinkedValueIterator", name := "next", desc := "()Ljava/lang/Object;" } : Jvm.MethodName)) ∈ lw_all := lw_g (lw_at lw_m4 47 rfl) rfl
theorem q869 : (Jvm.Cond.unhidden "java/util/LinkedHashMap$LinkedValueIterator" "next" "()Ljava/lang/Object;") ∈ lw_tbl := lw_at lw_m4 48 rfl
theorem q870 : (Jvm.Cond.instanceMethod ({ cls := "java/util/LinkedHashMap$LinkedValueIterator", name := "next", desc := "()Ljava/lang/Object;" } : Jvm.MethodName)) ∈ lw_all := lw_g (lw_at lw_m4 49 rfl) rfl
theorem q871 : (Jvm.Cond.publicMethod ({ cls := "java/util/LinkedHashMap$LinkedValueIterator", name := "next", desc := "()Ljava/lang/Object;" } : Jvm.MethodName)) ∈ lw_tbl := lw_at lw_m4 50 rfl
theorem q872 : (Jvm.Cond.code ({ cls := "java/util/LinkedHashMap$LinkedValueIterator", name := "next", desc := "()Ljava/lang/Object;" } : Jvm.MethodName) prog_81_method_2_code (1 : Nat) (Option.some (Jvm.ClassFile.FieldType.object "java/lang/Object"))) ∈ lw_all := lw_g (lw_at lw_m4 51 rfl) rfl
theorem q873 : (Jvm.Cond.methodLink "java/util/LinkedHashMap$LinkedValueIterator" (7 : Nat) ({ cls := "java/util/LinkedHashMap$LinkedValueIterator", name := "nextNode", desc := "()Ljava/util/LinkedHashMap$Entry;" } : Jvm.MethodName)) ∈ lw_all := lw_g (lw_at lw_m4 52 rfl) rfl
theorem q874 : (Jvm.Cond.sameMethod "java/util/LinkedHashMap$LinkedValueIterator" "java/util/LinkedHashMap$LinkedHashIterator" "nextNode" "()Ljava/util/LinkedHashMap$Entry;") ∈ lw_all := lw_g (lw_at lw_m4 53 rfl) rfl
theorem q875 : (Jvm.Cond.selects "java/util/LinkedHashMap$LinkedValueIterator" ({ cls := "java/util/LinkedHashMap$LinkedValueIterator", name := "nextNode", desc := "()Ljava/util/LinkedHashMap$Entry;" } : Jvm.MethodName) ({ cls := "java/util/LinkedHashMap$LinkedHashIterator", name := "nextNode", desc := "()Ljava/util/LinkedHashMap$Entry;" } : Jvm.MethodName)) ∈ lw_all := lw_g (lw_at lw_m4 54 rfl) rfl
theorem q1042 : (Jvm.Cond.instantiable "java/util/LinkedHashMap$LinkedValueIterator" (5 : Nat)) ∈ lw_all := lw_g (lw_at lw_m4 221 rfl) rfl
theorem q1044 : (Jvm.Cond.instanceMethod ({ cls := "java/util/LinkedHashMap$LinkedValueIterator", name := "<init>", desc := "(Ljava/util/LinkedHashMap;Z)V" } : Jvm.MethodName)) ∈ lw_all := lw_g (lw_at lw_m4 223 rfl) rfl
theorem q1045 : (Jvm.Cond.code ({ cls := "java/util/LinkedHashMap$LinkedValueIterator", name := "<init>", desc := "(Ljava/util/LinkedHashMap;Z)V" } : Jvm.MethodName) prog_81_method_1_code (3 : Nat) (Option.none : Option Jvm.ClassFile.FieldType)) ∈ lw_all := lw_g (lw_at lw_m4 224 rfl) rfl
theorem q1046 : (Jvm.Cond.methodLink "java/util/LinkedHashMap$LinkedValueIterator" (1 : Nat) ({ cls := "java/util/LinkedHashMap$LinkedHashIterator", name := "<init>", desc := "(Ljava/util/LinkedHashMap;Z)V" } : Jvm.MethodName)) ∈ lw_all := lw_g (lw_at lw_m4 225 rfl) rfl
theorem q1047 : (Jvm.Cond.lays "java/util/LinkedHashMap$LinkedValueIterator" "java/util/LinkedHashMap$LinkedHashIterator" "next" "Ljava/util/LinkedHashMap$Entry;") ∈ lw_all := lw_g (lw_at lw_m4 226 rfl) rfl
theorem q1048 : (Jvm.Cond.lays "java/util/LinkedHashMap$LinkedValueIterator" "java/util/LinkedHashMap$LinkedHashIterator" "current" "Ljava/util/LinkedHashMap$Entry;") ∈ lw_all := lw_g (lw_at lw_m4 227 rfl) rfl
theorem q1049 : (Jvm.Cond.lays "java/util/LinkedHashMap$LinkedValueIterator" "java/util/LinkedHashMap$LinkedHashIterator" "expectedModCount" "I") ∈ lw_all := lw_g (lw_at lw_m4 228 rfl) rfl
theorem q1050 : (Jvm.Cond.lays "java/util/LinkedHashMap$LinkedValueIterator" "java/util/LinkedHashMap$LinkedHashIterator" "reversed" "Z") ∈ lw_all := lw_g (lw_at lw_m4 229 rfl) rfl
theorem q1051 : (Jvm.Cond.laysFinal "java/util/LinkedHashMap$LinkedValueIterator" "java/util/LinkedHashMap$LinkedHashIterator" "this$0" "Ljava/util/LinkedHashMap;") ∈ lw_all := lw_g (lw_at lw_m4 230 rfl) rfl
theorem q1052 : (Jvm.Cond.superclass "java/util/LinkedHashMap$LinkedValueIterator" "java/util/LinkedHashMap$LinkedHashIterator") ∈ lw_all := lw_g (lw_at lw_m4 231 rfl) rfl
theorem q1717 : (Jvm.Cond.selects "java/util/LinkedHashMap$LinkedValueIterator" ({ cls := "java/lang/Object", name := "getClass", desc := "()Ljava/lang/Class;" } : Jvm.MethodName) ({ cls := "java/lang/Object", name := "getClass", desc := "()Ljava/lang/Class;" } : Jvm.MethodName)) ∈ lw_all := lw_g (lw_at lw_m7 176 rfl) rfl
theorem q2029 : (Jvm.Cond.fieldLink "java/util/LinkedHashMap$LinkedValueIterator" (13 : Nat) "java/util/LinkedHashMap$Entry" "value" "Ljava/lang/Object;") ∈ lw_all := lw_g (lw_at lw_m9 8 rfl) rfl
theorem q3875 : (Jvm.Cond.castable "java/util/LinkedHashMap$LinkedValueIterator" "java/lang/Object") ∈ lw_tbl := lw_at lw_m16 174 rfl
theorem in_J38 : ∀ w ∈ wsJ380, w ∈ lw_all := lw_in wsJ380 [1047, 1048, 1049, 1050, 1051] (by decide +kernel) (by decide +kernel)

-- J39.java_util_AbstractSet.lean.txt
/-! java/util/AbstractSet -/
set_option maxRecDepth 100000
def RJ39 : String := "java/util/AbstractSet"
abbrev cJ39_init : ByteArray := prog_58_method_1_code
def yJ39_init : MethodName := ⟨RJ39, "<init>", "()V"⟩
theorem dJ39_init_0 : decode cJ39_init 0 = .ok (.aload_n 0, 1) := by decide +kernel
theorem dJ39_init_1 : decode cJ39_init 1 = .ok (.invokespecial 1, 3) := by decide +kernel
theorem dJ39_init_4 : decode cJ39_init 4 = .ok (.return_, 1) := by decide +kernel
theorem q156 : (Jvm.Cond.initialized "java/util/AbstractSet") ∈ lw_all := lw_g (lw_at lw_m1 55 rfl) rfl
theorem q1075 : (Jvm.Cond.instanceMethod ({ cls := "java/util/AbstractSet", name := "<init>", desc := "()V" } : Jvm.MethodName)) ∈ lw_all := lw_g (lw_at lw_m5 14 rfl) rfl
theorem q1076 : (Jvm.Cond.code ({ cls := "java/util/AbstractSet", name := "<init>", desc := "()V" } : Jvm.MethodName) prog_58_method_1_code (1 : Nat) (Option.none : Option Jvm.ClassFile.FieldType)) ∈ lw_all := lw_g (lw_at lw_m5 15 rfl) rfl
theorem q1077 : (Jvm.Cond.methodLink "java/util/AbstractSet" (1 : Nat) ({ cls := "java/util/AbstractCollection", name := "<init>", desc := "()V" } : Jvm.MethodName)) ∈ lw_all := lw_g (lw_at lw_m5 16 rfl) rfl

-- J41.java_util_LinkedHashMap_LinkedKeySet.lean.txt
/-! java/util/LinkedHashMap$LinkedKeySet -/
set_option maxRecDepth 100000
def RJ41 : String := "java/util/LinkedHashMap$LinkedKeySet"
def TJ41 : u_T := fun k => match k with
  | 0 => ("java/util/LinkedHashMap$LinkedKeySet", "reversed", "Z", true)
  | _ => ("java/util/LinkedHashMap$LinkedKeySet", "this$0", "Ljava/util/LinkedHashMap;", true)
def tyJ41 : Nat → FieldType := fun k => match k with
  | 0 => .boolean
  | _ => .object "java/util/LinkedHashMap"
abbrev wsJ410 : List Cond := u_ws RJ41 TJ41 2
theorem nmJ41 : ∀ a, a < 2 → ∀ b, b < 2 → a ≠ b → (TJ41 a).2.1 ≠ (TJ41 b).2.1 := by decide +kernel
theorem tyJ41_ok : ∀ k, k < 2 → parseFieldDescriptor (TJ41 k).2.2.1 = some (tyJ41 k) := by decide +kernel
abbrev cJ41_iterator : ByteArray := prog_80_method_4_code
def yJ41_iterator : MethodName := ⟨RJ41, "iterator", "()Ljava/util/Iterator;"⟩
def dkwJ41_iterator_0 : List UInt8 := [187, 0, 26, 89, 42, 180, 0, 1, 42, 180, 0, 13, 183, 0, 28, 176]
abbrev dktJ41_iterator_0 : List UInt8 := dkwJ41_iterator_0 ++ []
theorem dksJ41_iterator_0 : cJ41_iterator.data.toList.drop 0 = dktJ41_iterator_0 := by decide +kernel
theorem dJ41_iterator_0 : decode cJ41_iterator 0 = .ok (.new 26, 3) := dk_187 0 26 (dk_at dksJ41_iterator_0 0 rfl rfl)
theorem dJ41_iterator_3 : decode cJ41_iterator 3 = .ok (.dup, 1) := dk_89 (dk_at dksJ41_iterator_0 3 rfl rfl)
theorem dJ41_iterator_4 : decode cJ41_iterator 4 = .ok (.aload_n 0, 1) := dk_42 (dk_at dksJ41_iterator_0 4 rfl rfl)
theorem dJ41_iterator_5 : decode cJ41_iterator 5 = .ok (.getfield 1, 3) := dk_180 0 1 (dk_at dksJ41_iterator_0 5 rfl rfl)
theorem dJ41_iterator_8 : decode cJ41_iterator 8 = .ok (.aload_n 0, 1) := dk_42 (dk_at dksJ41_iterator_0 8 rfl rfl)
theorem dJ41_iterator_9 : decode cJ41_iterator 9 = .ok (.getfield 13, 3) := dk_180 0 13 (dk_at dksJ41_iterator_0 9 rfl rfl)
theorem dJ41_iterator_12 : decode cJ41_iterator 12 = .ok (.invokespecial 28, 3) := dk_183 0 28 (dk_at dksJ41_iterator_0 12 rfl rfl)
theorem dJ41_iterator_15 : decode cJ41_iterator 15 = .ok (.areturn, 1) := dk_176 (dk_at dksJ41_iterator_0 15 rfl rfl)
abbrev cJ41_init : ByteArray := prog_80_method_1_code
def yJ41_init : MethodName := ⟨RJ41, "<init>", "(Ljava/util/LinkedHashMap;Z)V"⟩
def dkwJ41_init_0 : List UInt8 := [42, 43, 181, 0, 1, 42, 183, 0, 7, 42, 28, 181, 0, 13, 177]
abbrev dktJ41_init_0 : List UInt8 := dkwJ41_init_0 ++ []
theorem dksJ41_init_0 : cJ41_init.data.toList.drop 0 = dktJ41_init_0 := by decide +kernel
theorem dJ41_init_0 : decode cJ41_init 0 = .ok (.aload_n 0, 1) := dk_42 (dk_at dksJ41_init_0 0 rfl rfl)
theorem dJ41_init_1 : decode cJ41_init 1 = .ok (.aload_n 1, 1) := dk_43 (dk_at dksJ41_init_0 1 rfl rfl)
theorem dJ41_init_2 : decode cJ41_init 2 = .ok (.putfield 1, 3) := dk_181 0 1 (dk_at dksJ41_init_0 2 rfl rfl)
theorem dJ41_init_5 : decode cJ41_init 5 = .ok (.aload_n 0, 1) := dk_42 (dk_at dksJ41_init_0 5 rfl rfl)
theorem dJ41_init_6 : decode cJ41_init 6 = .ok (.invokespecial 7, 3) := dk_183 0 7 (dk_at dksJ41_init_0 6 rfl rfl)
theorem dJ41_init_9 : decode cJ41_init 9 = .ok (.aload_n 0, 1) := dk_42 (dk_at dksJ41_init_0 9 rfl rfl)
theorem dJ41_init_10 : decode cJ41_init 10 = .ok (.iload_n 2, 1) := dk_28 (dk_at dksJ41_init_0 10 rfl rfl)
theorem dJ41_init_11 : decode cJ41_init 11 = .ok (.putfield 13, 3) := dk_181 0 13 (dk_at dksJ41_init_0 11 rfl rfl)
theorem dJ41_init_14 : decode cJ41_init 14 = .ok (.return_, 1) := dk_177 (dk_at dksJ41_init_0 14 rfl rfl)
abbrev cJ41_size : ByteArray := prog_80_method_2_code
def yJ41_size : MethodName := ⟨RJ41, "size", "()I"⟩
def dkwJ41_size_0 : List UInt8 := [42, 180, 0, 1, 180, 0, 17, 172]
abbrev dktJ41_size_0 : List UInt8 := dkwJ41_size_0 ++ []
theorem dksJ41_size_0 : cJ41_size.data.toList.drop 0 = dktJ41_size_0 := by decide +kernel
theorem dJ41_size_0 : decode cJ41_size 0 = .ok (.aload_n 0, 1) := dk_42 (dk_at dksJ41_size_0 0 rfl rfl)
theorem dJ41_size_1 : decode cJ41_size 1 = .ok (.getfield 1, 3) := dk_180 0 1 (dk_at dksJ41_size_0 1 rfl rfl)
theorem dJ41_size_4 : decode cJ41_size 4 = .ok (.getfield 17, 3) := dk_180 0 17 (dk_at dksJ41_size_0 4 rfl rfl)
theorem dJ41_size_7 : decode cJ41_size 7 = .ok (.ireturn, 1) := dk_172 (dk_at dksJ41_size_0 7 rfl rfl)
theorem q158 : (Jvm.Cond.initialized "java/util/LinkedHashMap$LinkedKeySet") ∈ lw_all := lw_g (lw_at lw_m1 57 rfl) rfl
theorem q566 : (Jvm.Cond.fieldLink "java/util/LinkedHashMap$LinkedKeySet" (17 : Nat) "java/util/LinkedHashMap" "size" "I") ∈ lw_all := lw_g (lw_at lw_m2 225 rfl) rfl
theorem q1017 : (Jvm.Cond.castable "java/util/LinkedHashMap$LinkedKeySet" "java/util/Collection") ∈ lw_tbl := lw_at lw_m4 196 rfl
theorem q1018 : (Jvm.Cond.selects "java/util/LinkedHashMap$LinkedKeySet" ({ cls := "java/util/Collection", name := "iterator", desc := "()Ljava/util/Iterator;" } : Jvm.MethodName) ({ cls := "java/util/LinkedHashMap$LinkedKeySet", name := "iterator", desc := "()Ljava/util/Iterator;" } : Jvm.MethodName)) ∈ lw_all := lw_g (lw_at lw_m4 197 rfl) rfl
theorem q1019 : (Jvm.Cond.unhidden "java/util/LinkedHashMap$LinkedKeySet" "iterator" "()Ljava/util/Iterator;") ∈ lw_tbl := lw_at lw_m4 198 rfl
theorem q1020 : (Jvm.Cond.instanceMethod ({ cls := "java/util/LinkedHashMap$LinkedKeySet", name := "iterator", desc := "()Ljava/util/Iterator;" } : Jvm.MethodName)) ∈ lw_all := lw_g (lw_at lw_m4 199 rfl) rfl
theorem q1021 : (Jvm.Cond.publicMethod ({ cls := "java/util/LinkedHashMap$LinkedKeySet", name := "iterator", desc := "()Ljava/util/Iterator;" } : Jvm.MethodName)) ∈ lw_tbl := lw_at lw_m4 200 rfl
theorem q1022 : (Jvm.Cond.code ({ cls := "java/util/LinkedHashMap$LinkedKeySet", name := "iterator", desc := "()Ljava/util/Iterator;" } : Jvm.MethodName) prog_80_method_4_code (1 : Nat) (Option.some (Jvm.ClassFile.FieldType.object "java/util/Iterator"))) ∈ lw_all := lw_g (lw_at lw_m4 201 rfl) rfl
theorem q1023 : (Jvm.Cond.classLink "java/util/LinkedHashMap$LinkedKeySet" (26 : Nat) "java/util/LinkedHashMap$LinkedKeyIterator") ∈ lw_all := lw_g (lw_at lw_m4 202 rfl) rfl
theorem q1025 : (Jvm.Cond.methodLink "java/util/LinkedHashMap$LinkedKeySet" (28 : Nat) ({ cls := "java/util/LinkedHashMap$LinkedKeyIterator", name := "<init>", desc := "(Ljava/util/LinkedHashMap;Z)V" } : Jvm.MethodName)) ∈ lw_all := lw_g (lw_at lw_m4 204 rfl) rfl
theorem q1070 : (Jvm.Cond.instantiable "java/util/LinkedHashMap$LinkedKeySet" (2 : Nat)) ∈ lw_all := lw_g (lw_at lw_m5 9 rfl) rfl
theorem q1072 : (Jvm.Cond.instanceMethod ({ cls := "java/util/LinkedHashMap$LinkedKeySet", name := "<init>", desc := "(Ljava/util/LinkedHashMap;Z)V" } : Jvm.MethodName)) ∈ lw_all := lw_g (lw_at lw_m5 11 rfl) rfl
theorem q1073 : (Jvm.Cond.code ({ cls := "java/util/LinkedHashMap$LinkedKeySet", name := "<init>", desc := "(Ljava/util/LinkedHashMap;Z)V" } : Jvm.MethodName) prog_80_method_1_code (3 : Nat) (Option.none : Option Jvm.ClassFile.FieldType)) ∈ lw_all := lw_g (lw_at lw_m5 12 rfl) rfl
theorem q1074 : (Jvm.Cond.methodLink "java/util/LinkedHashMap$LinkedKeySet" (7 : Nat) ({ cls := "java/util/AbstractSet", name := "<init>", desc := "()V" } : Jvm.MethodName)) ∈ lw_all := lw_g (lw_at lw_m5 13 rfl) rfl
theorem q1078 : (Jvm.Cond.fieldLink "java/util/LinkedHashMap$LinkedKeySet" (13 : Nat) "java/util/LinkedHashMap$LinkedKeySet" "reversed" "Z") ∈ lw_all := lw_g (lw_at lw_m5 17 rfl) rfl
theorem q1079 : (Jvm.Cond.fieldLink "java/util/LinkedHashMap$LinkedKeySet" (1 : Nat) "java/util/LinkedHashMap$LinkedKeySet" "this$0" "Ljava/util/LinkedHashMap;") ∈ lw_all := lw_g (lw_at lw_m5 18 rfl) rfl
theorem q1080 : (Jvm.Cond.laysFinal "java/util/LinkedHashMap$LinkedKeySet" "java/util/LinkedHashMap$LinkedKeySet" "reversed" "Z") ∈ lw_all := lw_g (lw_at lw_m5 19 rfl) rfl
theorem q1081 : (Jvm.Cond.soleField "java/util/LinkedHashMap$LinkedKeySet" "reversed") ∈ lw_all := lw_g (lw_at lw_m5 20 rfl) rfl
theorem q1082 : (Jvm.Cond.laysFinal "java/util/LinkedHashMap$LinkedKeySet" "java/util/LinkedHashMap$LinkedKeySet" "this$0" "Ljava/util/LinkedHashMap;") ∈ lw_all := lw_g (lw_at lw_m5 21 rfl) rfl
theorem q1083 : (Jvm.Cond.soleField "java/util/LinkedHashMap$LinkedKeySet" "this$0") ∈ lw_all := lw_g (lw_at lw_m5 22 rfl) rfl
theorem q1084 : (Jvm.Cond.superclass "java/util/LinkedHashMap$LinkedKeySet" "java/util/AbstractSet") ∈ lw_all := lw_g (lw_at lw_m5 23 rfl) rfl
theorem q1095 : (Jvm.Cond.castable "java/util/LinkedHashMap$LinkedKeySet" "java/util/Set") ∈ lw_tbl := lw_at lw_m5 34 rfl
theorem q1096 : (Jvm.Cond.selects "java/util/LinkedHashMap$LinkedKeySet" ({ cls := "java/util/Set", name := "iterator", desc := "()Ljava/util/Iterator;" } : Jvm.MethodName) ({ cls := "java/util/LinkedHashMap$LinkedKeySet", name := "iterator", desc := "()Ljava/util/Iterator;" } : Jvm.MethodName)) ∈ lw_all := lw_g (lw_at lw_m5 35 rfl) rfl
theorem q1716 : (Jvm.Cond.selects "java/util/LinkedHashMap$LinkedKeySet" ({ cls := "java/lang/Object", name := "getClass", desc := "()Ljava/lang/Class;" } : Jvm.MethodName) ({ cls := "java/lang/Object", name := "getClass", desc := "()Ljava/lang/Class;" } : Jvm.MethodName)) ∈ lw_all := lw_g (lw_at lw_m7 175 rfl) rfl
theorem q1855 : (Jvm.Cond.selects "java/util/LinkedHashMap$LinkedKeySet" ({ cls := "java/util/Set", name := "add", desc := "(Ljava/lang/Object;)Z" } : Jvm.MethodName) ({ cls := "java/util/AbstractCollection", name := "add", desc := "(Ljava/lang/Object;)Z" } : Jvm.MethodName)) ∈ lw_all := lw_g (lw_at lw_m8 74 rfl) rfl
theorem q1856 : (Jvm.Cond.unhidden "java/util/LinkedHashMap$LinkedKeySet" "add" "(Ljava/lang/Object;)Z") ∈ lw_tbl := lw_at lw_m8 75 rfl
theorem q2450 : (Jvm.Cond.selects "java/util/LinkedHashMap$LinkedKeySet" ({ cls := "java/util/Set", name := "size", desc := "()I" } : Jvm.MethodName) ({ cls := "java/util/LinkedHashMap$LinkedKeySet", name := "size", desc := "()I" } : Jvm.MethodName)) ∈ lw_all := lw_g (lw_at lw_m10 189 rfl) rfl
theorem q2451 : (Jvm.Cond.unhidden "java/util/LinkedHashMap$LinkedKeySet" "size" "()I") ∈ lw_tbl := lw_at lw_m10 190 rfl
theorem q2452 : (Jvm.Cond.instanceMethod ({ cls := "java/util/LinkedHashMap$LinkedKeySet", name := "size", desc := "()I" } : Jvm.MethodName)) ∈ lw_all := lw_g (lw_at lw_m10 191 rfl) rfl
theorem q2453 : (Jvm.Cond.publicMethod ({ cls := "java/util/LinkedHashMap$LinkedKeySet", name := "size", desc := "()I" } : Jvm.MethodName)) ∈ lw_tbl := lw_at lw_m10 192 rfl
theorem q2454 : (Jvm.Cond.code ({ cls := "java/util/LinkedHashMap$LinkedKeySet", name := "size", desc := "()I" } : Jvm.MethodName) prog_80_method_2_code (1 : Nat) (Option.some Jvm.ClassFile.FieldType.int)) ∈ lw_all := lw_g (lw_at lw_m10 193 rfl) rfl
theorem q3824 : (Jvm.Cond.castable "java/util/LinkedHashMap$LinkedKeySet" "java/util/SequencedSet") ∈ lw_tbl := lw_at lw_m16 123 rfl
theorem q3833 : (Jvm.Cond.castable "java/util/LinkedHashMap$LinkedKeySet" "java/util/SequencedCollection") ∈ lw_tbl := lw_at lw_m16 132 rfl
theorem q3878 : (Jvm.Cond.castable "java/util/LinkedHashMap$LinkedKeySet" "java/lang/Object") ∈ lw_tbl := lw_at lw_m16 177 rfl
theorem in_J41 : ∀ w ∈ wsJ410, w ∈ lw_all := lw_in wsJ410 [1080, 1082] (by decide +kernel) (by decide +kernel)

-- J42.java_lang_IndexOutOfBoundsException.lean.txt
/-! java/lang/IndexOutOfBoundsException -/
set_option maxRecDepth 100000
def RJ42 : String := "java/lang/IndexOutOfBoundsException"
def TJ42 : u_T := fun k => match k with
  | 0 => ("java/lang/Throwable", "cause", "Ljava/lang/Throwable;", false)
  | 1 => ("java/lang/Throwable", "stackTrace", "[Ljava/lang/StackTraceElement;", false)
  | 2 => ("java/lang/Throwable", "suppressedExceptions", "Ljava/util/List;", false)
  | 3 => ("java/lang/Throwable", "detailMessage", "Ljava/lang/String;", false)
  | 4 => ("java/lang/Throwable", "backtrace", "Ljava/lang/Object;", false)
  | _ => ("java/lang/Throwable", "depth", "I", false)
def tyJ42 : Nat → FieldType := fun k => match k with
  | 0 => .object "java/lang/Throwable"
  | 1 => .array (.object "java/lang/StackTraceElement")
  | 2 => .object "java/util/List"
  | 3 => .object "java/lang/String"
  | 4 => .object "java/lang/Object"
  | _ => .int
abbrev wsJ420 : List Cond := u_ws RJ42 TJ42 6
theorem nmJ42 : ∀ a, a < 6 → ∀ b, b < 6 → a ≠ b → (TJ42 a).2.1 ≠ (TJ42 b).2.1 := by decide +kernel
theorem tyJ42_ok : ∀ k, k < 6 → parseFieldDescriptor (TJ42 k).2.2.1 = some (tyJ42 k) := by decide +kernel
abbrev cJ42_init : ByteArray := prog_36_method_2_code
def yJ42_init : MethodName := ⟨RJ42, "<init>", "(Ljava/lang/String;)V"⟩
def dkwJ42_init_0 : List UInt8 := [42, 43, 183, 0, 7, 177]
abbrev dktJ42_init_0 : List UInt8 := dkwJ42_init_0 ++ []
theorem dksJ42_init_0 : cJ42_init.data.toList.drop 0 = dktJ42_init_0 := by decide +kernel
theorem dJ42_init_0 : decode cJ42_init 0 = .ok (.aload_n 0, 1) := dk_42 (dk_at dksJ42_init_0 0 rfl rfl)
theorem dJ42_init_1 : decode cJ42_init 1 = .ok (.aload_n 1, 1) := dk_43 (dk_at dksJ42_init_0 1 rfl rfl)
theorem dJ42_init_2 : decode cJ42_init 2 = .ok (.invokespecial 7, 3) := dk_183 0 7 (dk_at dksJ42_init_0 2 rfl rfl)
theorem dJ42_init_5 : decode cJ42_init 5 = .ok (.return_, 1) := dk_177 (dk_at dksJ42_init_0 5 rfl rfl)
abbrev cJ42_init_2 : ByteArray := prog_36_method_1_code
def yJ42_init_2 : MethodName := ⟨RJ42, "<init>", "()V"⟩
theorem dJ42_init_2_0 : decode cJ42_init_2 0 = .ok (.aload_n 0, 1) := by decide +kernel
theorem dJ42_init_2_1 : decode cJ42_init_2 1 = .ok (.invokespecial 1, 3) := by decide +kernel
theorem dJ42_init_2_4 : decode cJ42_init_2 4 = .ok (.return_, 1) := by decide +kernel
theorem q159 : (Jvm.Cond.initialized "java/lang/IndexOutOfBoundsException") ∈ lw_all := lw_g (lw_at lw_m1 58 rfl) rfl
theorem q243 : (Jvm.Cond.selects "java/lang/IndexOutOfBoundsException" ({ cls := "java/lang/Throwable", name := "fillInStackTrace", desc := "()Ljava/lang/Throwable;" } : Jvm.MethodName) ({ cls := "java/lang/Throwable", name := "fillInStackTrace", desc := "()Ljava/lang/Throwable;" } : Jvm.MethodName)) ∈ lw_all := lw_g (lw_at lw_m1 142 rfl) rfl
theorem q1699 : (Jvm.Cond.selects "java/lang/IndexOutOfBoundsException" ({ cls := "java/lang/Object", name := "getClass", desc := "()Ljava/lang/Class;" } : Jvm.MethodName) ({ cls := "java/lang/Object", name := "getClass", desc := "()Ljava/lang/Class;" } : Jvm.MethodName)) ∈ lw_all := lw_g (lw_at lw_m7 158 rfl) rfl
theorem q1731 : (Jvm.Cond.selects "java/lang/IndexOutOfBoundsException" ({ cls := "java/lang/Throwable", name := "getLocalizedMessage", desc := "()Ljava/lang/String;" } : Jvm.MethodName) ({ cls := "java/lang/Throwable", name := "getLocalizedMessage", desc := "()Ljava/lang/String;" } : Jvm.MethodName)) ∈ lw_all := lw_g (lw_at lw_m7 190 rfl) rfl
theorem q1741 : (Jvm.Cond.selects "java/lang/IndexOutOfBoundsException" ({ cls := "java/lang/Throwable", name := "getMessage", desc := "()Ljava/lang/String;" } : Jvm.MethodName) ({ cls := "java/lang/Throwable", name := "getMessage", desc := "()Ljava/lang/String;" } : Jvm.MethodName)) ∈ lw_all := lw_g (lw_at lw_m7 200 rfl) rfl
theorem q1755 : (Jvm.Cond.selects "java/lang/IndexOutOfBoundsException" ({ cls := "java/lang/Object", name := "toString", desc := "()Ljava/lang/String;" } : Jvm.MethodName) ({ cls := "java/lang/Throwable", name := "toString", desc := "()Ljava/lang/String;" } : Jvm.MethodName)) ∈ lw_all := lw_g (lw_at lw_m7 214 rfl) rfl
theorem q1910 : (Jvm.Cond.selects "java/lang/IndexOutOfBoundsException" ({ cls := "java/lang/Object", name := "hashCode", desc := "()I" } : Jvm.MethodName) ({ cls := "java/lang/Object", name := "hashCode", desc := "()I" } : Jvm.MethodName)) ∈ lw_all := lw_g (lw_at lw_m8 129 rfl) rfl
theorem q2344 : (Jvm.Cond.selects "java/lang/IndexOutOfBoundsException" ({ cls := "java/lang/Object", name := "equals", desc := "(Ljava/lang/Object;)Z" } : Jvm.MethodName) ({ cls := "java/lang/Object", name := "equals", desc := "(Ljava/lang/Object;)Z" } : Jvm.MethodName)) ∈ lw_all := lw_g (lw_at lw_m10 83 rfl) rfl
theorem q3101 : (Jvm.Cond.instanceMethod ({ cls := "java/lang/IndexOutOfBoundsException", name := "<init>", desc := "(Ljava/lang/String;)V" } : Jvm.MethodName)) ∈ lw_all := lw_g (lw_at lw_m13 120 rfl) rfl
theorem q3102 : (Jvm.Cond.code ({ cls := "java/lang/IndexOutOfBoundsException", name := "<init>", desc := "(Ljava/lang/String;)V" } : Jvm.MethodName) prog_36_method_2_code (2 : Nat) (Option.none : Option Jvm.ClassFile.FieldType)) ∈ lw_all := lw_g (lw_at lw_m13 121 rfl) rfl
theorem q3103 : (Jvm.Cond.methodLink "java/lang/IndexOutOfBoundsException" (7 : Nat) ({ cls := "java/lang/RuntimeException", name := "<init>", desc := "(Ljava/lang/String;)V" } : Jvm.MethodName)) ∈ lw_all := lw_g (lw_at lw_m13 122 rfl) rfl
theorem q3112 : (Jvm.Cond.declares ({ cls := "java/lang/IndexOutOfBoundsException", name := "<init>", desc := "()V" } : Jvm.MethodName)) ∈ lw_tbl := lw_at lw_m13 131 rfl
theorem q3113 : (Jvm.Cond.declares ({ cls := "java/lang/IndexOutOfBoundsException", name := "<init>", desc := "(Ljava/lang/String;)V" } : Jvm.MethodName)) ∈ lw_tbl := lw_at lw_m13 132 rfl
theorem q3127 : (Jvm.Cond.instantiable "java/lang/IndexOutOfBoundsException" (6 : Nat)) ∈ lw_all := lw_g (lw_at lw_m13 146 rfl) rfl
theorem q3128 : (Jvm.Cond.castable "java/lang/IndexOutOfBoundsException" "java/lang/IndexOutOfBoundsException") ∈ lw_tbl := lw_at lw_m13 147 rfl
theorem q3129 : (Jvm.Cond.selects "java/lang/IndexOutOfBoundsException" ({ cls := "java/lang/Throwable", name := "fillInStackTrace", desc := "(I)Ljava/lang/Throwable;" } : Jvm.MethodName) ({ cls := "java/lang/Throwable", name := "fillInStackTrace", desc := "(I)Ljava/lang/Throwable;" } : Jvm.MethodName)) ∈ lw_all := lw_g (lw_at lw_m13 148 rfl) rfl
theorem q3130 : (Jvm.Cond.lays "java/lang/IndexOutOfBoundsException" "java/lang/Throwable" "cause" "Ljava/lang/Throwable;") ∈ lw_all := lw_g (lw_at lw_m13 149 rfl) rfl
theorem q3131 : (Jvm.Cond.lays "java/lang/IndexOutOfBoundsException" "java/lang/Throwable" "stackTrace" "[Ljava/lang/StackTraceElement;") ∈ lw_all := lw_g (lw_at lw_m13 150 rfl) rfl
theorem q3132 : (Jvm.Cond.lays "java/lang/IndexOutOfBoundsException" "java/lang/Throwable" "suppressedExceptions" "Ljava/util/List;") ∈ lw_all := lw_g (lw_at lw_m13 151 rfl) rfl
theorem q3133 : (Jvm.Cond.lays "java/lang/IndexOutOfBoundsException" "java/lang/Throwable" "detailMessage" "Ljava/lang/String;") ∈ lw_all := lw_g (lw_at lw_m13 152 rfl) rfl
theorem q3134 : (Jvm.Cond.lays "java/lang/IndexOutOfBoundsException" "java/lang/Throwable" "backtrace" "Ljava/lang/Object;") ∈ lw_all := lw_g (lw_at lw_m13 153 rfl) rfl
theorem q3136 : (Jvm.Cond.instanceMethod ({ cls := "java/lang/IndexOutOfBoundsException", name := "<init>", desc := "()V" } : Jvm.MethodName)) ∈ lw_all := lw_g (lw_at lw_m13 155 rfl) rfl
theorem q3137 : (Jvm.Cond.code ({ cls := "java/lang/IndexOutOfBoundsException", name := "<init>", desc := "()V" } : Jvm.MethodName) prog_36_method_1_code (1 : Nat) (Option.none : Option Jvm.ClassFile.FieldType)) ∈ lw_all := lw_g (lw_at lw_m13 156 rfl) rfl
theorem q3138 : (Jvm.Cond.methodLink "java/lang/IndexOutOfBoundsException" (1 : Nat) ({ cls := "java/lang/RuntimeException", name := "<init>", desc := "()V" } : Jvm.MethodName)) ∈ lw_all := lw_g (lw_at lw_m13 157 rfl) rfl
theorem q3139 : (Jvm.Cond.lays "java/lang/IndexOutOfBoundsException" "java/lang/Throwable" "depth" "I") ∈ lw_all := lw_g (lw_at lw_m13 158 rfl) rfl
theorem q3140 : (Jvm.Cond.superclass "java/lang/IndexOutOfBoundsException" "java/lang/RuntimeException") ∈ lw_all := lw_g (lw_at lw_m13 159 rfl) rfl
theorem q3842 : (Jvm.Cond.castable "java/lang/IndexOutOfBoundsException" "java/lang/Throwable") ∈ lw_tbl := lw_at lw_m16 141 rfl
theorem q3877 : (Jvm.Cond.castable "java/lang/IndexOutOfBoundsException" "java/lang/Object") ∈ lw_tbl := lw_at lw_m16 176 rfl
theorem in_J42 : ∀ w ∈ wsJ420, w ∈ lw_all := lw_in wsJ420 [3130, 3131, 3132, 3133, 3134, 3139] (by decide +kernel) (by decide +kernel)

-- J44.java_util_HashSet.lean.txt
/-! java/util/HashSet -/
set_option maxRecDepth 100000
def RJ44 : String := "java/util/HashSet"
abbrev cJ44_iterator : ByteArray := prog_72_method_6_code
def yJ44_iterator : MethodName := ⟨RJ44, "iterator", "()Ljava/util/Iterator;"⟩
def dkwJ44_iterator_0 : List UInt8 := [42, 180, 0, 10, 182, 0, 45, 185, 0, 49, 1, 0, 176]
abbrev dktJ44_iterator_0 : List UInt8 := dkwJ44_iterator_0 ++ []
theorem dksJ44_iterator_0 : cJ44_iterator.data.toList.drop 0 = dktJ44_iterator_0 := by decide +kernel
theorem dJ44_iterator_0 : decode cJ44_iterator 0 = .ok (.aload_n 0, 1) := dk_42 (dk_at dksJ44_iterator_0 0 rfl rfl)
theorem dJ44_iterator_1 : decode cJ44_iterator 1 = .ok (.getfield 10, 3) := dk_180 0 10 (dk_at dksJ44_iterator_0 1 rfl rfl)
theorem dJ44_iterator_4 : decode cJ44_iterator 4 = .ok (.invokevirtual 45, 3) := dk_182 0 45 (dk_at dksJ44_iterator_0 4 rfl rfl)
theorem dJ44_iterator_7 : decode cJ44_iterator 7 = .ok (.invokeinterface 49 1, 5) := by decide +kernel
theorem dJ44_iterator_12 : decode cJ44_iterator 12 = .ok (.areturn, 1) := dk_176 (dk_at dksJ44_iterator_0 12 rfl rfl)
abbrev cJ44_init : ByteArray := prog_72_method_5_code
def yJ44_init : MethodName := ⟨RJ44, "<init>", "(IFZ)V"⟩
def dkwJ44_init_0 : List UInt8 := [42, 183, 0, 1, 42, 187, 0, 42, 89, 27, 36, 183, 0, 44, 181, 0, 10, 177]
abbrev dktJ44_init_0 : List UInt8 := dkwJ44_init_0 ++ []
theorem dksJ44_init_0 : cJ44_init.data.toList.drop 0 = dktJ44_init_0 := by decide +kernel
theorem dJ44_init_0 : decode cJ44_init 0 = .ok (.aload_n 0, 1) := dk_42 (dk_at dksJ44_init_0 0 rfl rfl)
theorem dJ44_init_1 : decode cJ44_init 1 = .ok (.invokespecial 1, 3) := dk_183 0 1 (dk_at dksJ44_init_0 1 rfl rfl)
theorem dJ44_init_4 : decode cJ44_init 4 = .ok (.aload_n 0, 1) := dk_42 (dk_at dksJ44_init_0 4 rfl rfl)
theorem dJ44_init_5 : decode cJ44_init 5 = .ok (.new 42, 3) := dk_187 0 42 (dk_at dksJ44_init_0 5 rfl rfl)
theorem dJ44_init_8 : decode cJ44_init 8 = .ok (.dup, 1) := dk_89 (dk_at dksJ44_init_0 8 rfl rfl)
theorem dJ44_init_9 : decode cJ44_init 9 = .ok (.iload_n 1, 1) := dk_27 (dk_at dksJ44_init_0 9 rfl rfl)
theorem dJ44_init_10 : decode cJ44_init 10 = .ok (.fload_n 2, 1) := dk_36 (dk_at dksJ44_init_0 10 rfl rfl)
theorem dJ44_init_11 : decode cJ44_init 11 = .ok (.invokespecial 44, 3) := dk_183 0 44 (dk_at dksJ44_init_0 11 rfl rfl)
theorem dJ44_init_14 : decode cJ44_init 14 = .ok (.putfield 10, 3) := dk_181 0 10 (dk_at dksJ44_init_0 14 rfl rfl)
theorem dJ44_init_17 : decode cJ44_init 17 = .ok (.return_, 1) := dk_177 (dk_at dksJ44_init_0 17 rfl rfl)
abbrev cJ44_add : ByteArray := prog_72_method_10_code
def yJ44_add : MethodName := ⟨RJ44, "add", "(Ljava/lang/Object;)Z"⟩
def dkwJ44_add_0 : List UInt8 := [42, 180, 0, 10, 43, 178, 0, 64, 182, 0, 68, 199, 0, 7, 4, 167, 0, 4, 3, 172]
abbrev dktJ44_add_0 : List UInt8 := dkwJ44_add_0 ++ []
theorem dksJ44_add_0 : cJ44_add.data.toList.drop 0 = dktJ44_add_0 := by decide +kernel
theorem dJ44_add_0 : decode cJ44_add 0 = .ok (.aload_n 0, 1) := dk_42 (dk_at dksJ44_add_0 0 rfl rfl)
theorem dJ44_add_1 : decode cJ44_add 1 = .ok (.getfield 10, 3) := dk_180 0 10 (dk_at dksJ44_add_0 1 rfl rfl)
theorem dJ44_add_4 : decode cJ44_add 4 = .ok (.aload_n 1, 1) := dk_43 (dk_at dksJ44_add_0 4 rfl rfl)
theorem dJ44_add_5 : decode cJ44_add 5 = .ok (.getstatic 64, 3) := dk_178 0 64 (dk_at dksJ44_add_0 5 rfl rfl)
theorem dJ44_add_8 : decode cJ44_add 8 = .ok (.invokevirtual 68, 3) := dk_182 0 68 (dk_at dksJ44_add_0 8 rfl rfl)
theorem dJ44_add_11 : decode cJ44_add 11 = .ok (.ifnonnull 7, 3) := dk_199 0 7 (dk_at dksJ44_add_0 11 rfl rfl)
theorem dJ44_add_14 : decode cJ44_add 14 = .ok (.iconst 1, 1) := dk_4 (dk_at dksJ44_add_0 14 rfl rfl)
theorem dJ44_add_15 : decode cJ44_add 15 = .ok (.goto 4, 3) := dk_167 0 4 (dk_at dksJ44_add_0 15 rfl rfl)
theorem dJ44_add_18 : decode cJ44_add 18 = .ok (.iconst 0, 1) := dk_3 (dk_at dksJ44_add_0 18 rfl rfl)
theorem dJ44_add_19 : decode cJ44_add 19 = .ok (.ireturn, 1) := dk_172 (dk_at dksJ44_add_0 19 rfl rfl)
abbrev cJ44_size : ByteArray := prog_72_method_7_code
def yJ44_size : MethodName := ⟨RJ44, "size", "()I"⟩
def dkwJ44_size_0 : List UInt8 := [42, 180, 0, 10, 182, 0, 55, 172]
abbrev dktJ44_size_0 : List UInt8 := dkwJ44_size_0 ++ []
theorem dksJ44_size_0 : cJ44_size.data.toList.drop 0 = dktJ44_size_0 := by decide +kernel
theorem dJ44_size_0 : decode cJ44_size 0 = .ok (.aload_n 0, 1) := dk_42 (dk_at dksJ44_size_0 0 rfl rfl)
theorem dJ44_size_1 : decode cJ44_size 1 = .ok (.getfield 10, 3) := dk_180 0 10 (dk_at dksJ44_size_0 1 rfl rfl)
theorem dJ44_size_4 : decode cJ44_size 4 = .ok (.invokevirtual 55, 3) := dk_182 0 55 (dk_at dksJ44_size_0 4 rfl rfl)
theorem dJ44_size_7 : decode cJ44_size 7 = .ok (.ireturn, 1) := dk_172 (dk_at dksJ44_size_0 7 rfl rfl)
theorem q162 : (Jvm.Cond.initialized "java/util/HashSet") ∈ lw_all := lw_g (lw_at lw_m1 61 rfl) rfl
theorem q1056 : (Jvm.Cond.instanceMethod ({ cls := "java/util/HashSet", name := "iterator", desc := "()Ljava/util/Iterator;" } : Jvm.MethodName)) ∈ lw_all := lw_g (lw_at lw_m4 235 rfl) rfl
theorem q1057 : (Jvm.Cond.publicMethod ({ cls := "java/util/HashSet", name := "iterator", desc := "()Ljava/util/Iterator;" } : Jvm.MethodName)) ∈ lw_tbl := lw_at lw_m4 236 rfl
theorem q1058 : (Jvm.Cond.code ({ cls := "java/util/HashSet", name := "iterator", desc := "()Ljava/util/Iterator;" } : Jvm.MethodName) prog_72_method_6_code (1 : Nat) (Option.some (Jvm.ClassFile.FieldType.object "java/util/Iterator"))) ∈ lw_all := lw_g (lw_at lw_m4 237 rfl) rfl
theorem q1059 : (Jvm.Cond.methodLink "java/util/HashSet" (45 : Nat) ({ cls := "java/util/HashMap", name := "keySet", desc := "()Ljava/util/Set;" } : Jvm.MethodName)) ∈ lw_all := lw_g (lw_at lw_m4 238 rfl) rfl
theorem q1087 : (Jvm.Cond.interfaceEntry "java/util/HashSet" (49 : Nat)) ∈ lw_tbl := lw_at lw_m5 26 rfl
theorem q1088 : (Jvm.Cond.methodLink "java/util/HashSet" (49 : Nat) ({ cls := "java/util/Set", name := "iterator", desc := "()Ljava/util/Iterator;" } : Jvm.MethodName)) ∈ lw_all := lw_g (lw_at lw_m5 27 rfl) rfl
theorem q1311 : (Jvm.Cond.instanceMethod ({ cls := "java/util/HashSet", name := "<init>", desc := "(IFZ)V" } : Jvm.MethodName)) ∈ lw_all := lw_g (lw_at lw_m6 10 rfl) rfl
theorem q1312 : (Jvm.Cond.code ({ cls := "java/util/HashSet", name := "<init>", desc := "(IFZ)V" } : Jvm.MethodName) prog_72_method_5_code (4 : Nat) (Option.none : Option Jvm.ClassFile.FieldType)) ∈ lw_all := lw_g (lw_at lw_m6 11 rfl) rfl
theorem q1313 : (Jvm.Cond.methodLink "java/util/HashSet" (1 : Nat) ({ cls := "java/util/AbstractSet", name := "<init>", desc := "()V" } : Jvm.MethodName)) ∈ lw_all := lw_g (lw_at lw_m6 12 rfl) rfl
theorem q1314 : (Jvm.Cond.classLink "java/util/HashSet" (42 : Nat) "java/util/LinkedHashMap") ∈ lw_all := lw_g (lw_at lw_m6 13 rfl) rfl
theorem q1315 : (Jvm.Cond.methodLink "java/util/HashSet" (44 : Nat) ({ cls := "java/util/LinkedHashMap", name := "<init>", desc := "(IF)V" } : Jvm.MethodName)) ∈ lw_all := lw_g (lw_at lw_m6 14 rfl) rfl
theorem q1819 : (Jvm.Cond.fieldLink "java/util/HashSet" (10 : Nat) "java/util/HashSet" "map" "Ljava/util/HashMap;") ∈ lw_all := lw_g (lw_at lw_m8 38 rfl) rfl
theorem q1821 : (Jvm.Cond.soleField "java/util/HashSet" "map") ∈ lw_all := lw_g (lw_at lw_m8 40 rfl) rfl
theorem q1859 : (Jvm.Cond.instanceMethod ({ cls := "java/util/HashSet", name := "add", desc := "(Ljava/lang/Object;)Z" } : Jvm.MethodName)) ∈ lw_all := lw_g (lw_at lw_m8 78 rfl) rfl
theorem q1860 : (Jvm.Cond.publicMethod ({ cls := "java/util/HashSet", name := "add", desc := "(Ljava/lang/Object;)Z" } : Jvm.MethodName)) ∈ lw_tbl := lw_at lw_m8 79 rfl
theorem q1861 : (Jvm.Cond.code ({ cls := "java/util/HashSet", name := "add", desc := "(Ljava/lang/Object;)Z" } : Jvm.MethodName) prog_72_method_10_code (2 : Nat) (Option.some Jvm.ClassFile.FieldType.boolean)) ∈ lw_all := lw_g (lw_at lw_m8 80 rfl) rfl
theorem q1862 : (Jvm.Cond.fieldLink "java/util/HashSet" (64 : Nat) "java/util/HashSet" "PRESENT" "Ljava/lang/Object;") ∈ lw_all := lw_g (lw_at lw_m8 81 rfl) rfl
theorem q1863 : (Jvm.Cond.laysStatic "java/util/HashSet" "PRESENT" "Ljava/lang/Object;") ∈ lw_tbl := lw_at lw_m8 82 rfl
theorem q1864 : (Jvm.Cond.methodLink "java/util/HashSet" (68 : Nat) ({ cls := "java/util/HashMap", name := "put", desc := "(Ljava/lang/Object;Ljava/lang/Object;)Ljava/lang/Object;" } : Jvm.MethodName)) ∈ lw_all := lw_g (lw_at lw_m8 83 rfl) rfl
theorem q2457 : (Jvm.Cond.instanceMethod ({ cls := "java/util/HashSet", name := "size", desc := "()I" } : Jvm.MethodName)) ∈ lw_all := lw_g (lw_at lw_m10 196 rfl) rfl
theorem q2458 : (Jvm.Cond.publicMethod ({ cls := "java/util/HashSet", name := "size", desc := "()I" } : Jvm.MethodName)) ∈ lw_tbl := lw_at lw_m10 197 rfl
theorem q2459 : (Jvm.Cond.code ({ cls := "java/util/HashSet", name := "size", desc := "()I" } : Jvm.MethodName) prog_72_method_7_code (1 : Nat) (Option.some Jvm.ClassFile.FieldType.int)) ∈ lw_all := lw_g (lw_at lw_m10 198 rfl) rfl
theorem q2460 : (Jvm.Cond.methodLink "java/util/HashSet" (55 : Nat) ({ cls := "java/util/HashMap", name := "size", desc := "()I" } : Jvm.MethodName)) ∈ lw_all := lw_g (lw_at lw_m10 199 rfl) rfl

-- J45.java_util_LinkedHashSet.lean.txt
/-! java/util/LinkedHashSet -/
set_option maxRecDepth 100000
def RJ45 : String := "java/util/LinkedHashSet"
def TJ45 : u_T := fun k => match k with
  | _ => ("java/util/HashSet", "map", "Ljava/util/HashMap;", false)
def tyJ45 : Nat → FieldType := fun k => match k with
  | _ => .object "java/util/HashMap"
abbrev wsJ450 : List Cond := u_ws RJ45 TJ45 1
theorem nmJ45 : ∀ a, a < 1 → ∀ b, b < 1 → a ≠ b → (TJ45 a).2.1 ≠ (TJ45 b).2.1 := by decide +kernel
theorem tyJ45_ok : ∀ k, k < 1 → parseFieldDescriptor (TJ45 k).2.2.1 = some (tyJ45 k) := by decide +kernel
abbrev cJ45_init : ByteArray := prog_83_method_3_code
def yJ45_init : MethodName := ⟨RJ45, "<init>", "()V"⟩
def dkwJ45_init_0 : List UInt8 := [42, 16, 16, 18, 7, 4, 183, 0, 1, 177]
abbrev dktJ45_init_0 : List UInt8 := dkwJ45_init_0 ++ []
theorem dksJ45_init_0 : cJ45_init.data.toList.drop 0 = dktJ45_init_0 := by decide +kernel
theorem dJ45_init_0 : decode cJ45_init 0 = .ok (.aload_n 0, 1) := dk_42 (dk_at dksJ45_init_0 0 rfl rfl)
theorem dJ45_init_1 : decode cJ45_init 1 = .ok (.bipush 16, 2) := dk_16 16 (dk_at dksJ45_init_0 1 rfl rfl)
theorem dJ45_init_3 : decode cJ45_init 3 = .ok (.ldc 7, 2) := dk_18 7 (dk_at dksJ45_init_0 3 rfl rfl)
theorem dJ45_init_5 : decode cJ45_init 5 = .ok (.iconst 1, 1) := dk_4 (dk_at dksJ45_init_0 5 rfl rfl)
theorem dJ45_init_6 : decode cJ45_init 6 = .ok (.invokespecial 1, 3) := dk_183 0 1 (dk_at dksJ45_init_0 6 rfl rfl)
theorem dJ45_init_9 : decode cJ45_init 9 = .ok (.return_, 1) := dk_177 (dk_at dksJ45_init_0 9 rfl rfl)
theorem q163 : (Jvm.Cond.initialized "java/util/LinkedHashSet") ∈ lw_all := lw_g (lw_at lw_m1 62 rfl) rfl
theorem q1053 : (Jvm.Cond.castable "java/util/LinkedHashSet" "java/util/Collection") ∈ lw_tbl := lw_at lw_m4 232 rfl
theorem q1054 : (Jvm.Cond.selects "java/util/LinkedHashSet" ({ cls := "java/util/Collection", name := "iterator", desc := "()Ljava/util/Iterator;" } : Jvm.MethodName) ({ cls := "java/util/HashSet", name := "iterator", desc := "()Ljava/util/Iterator;" } : Jvm.MethodName)) ∈ lw_all := lw_g (lw_at lw_m4 233 rfl) rfl
theorem q1055 : (Jvm.Cond.unhidden "java/util/LinkedHashSet" "iterator" "()Ljava/util/Iterator;") ∈ lw_tbl := lw_at lw_m4 234 rfl
theorem q1097 : (Jvm.Cond.castable "java/util/LinkedHashSet" "java/util/Set") ∈ lw_tbl := lw_at lw_m5 36 rfl
theorem q1098 : (Jvm.Cond.selects "java/util/LinkedHashSet" ({ cls := "java/util/Set", name := "iterator", desc := "()Ljava/util/Iterator;" } : Jvm.MethodName) ({ cls := "java/util/HashSet", name := "iterator", desc := "()Ljava/util/Iterator;" } : Jvm.MethodName)) ∈ lw_all := lw_g (lw_at lw_m5 37 rfl) rfl
theorem q1305 : (Jvm.Cond.instantiable "java/util/LinkedHashSet" (1 : Nat)) ∈ lw_all := lw_g (lw_at lw_m6 4 rfl) rfl
theorem q1307 : (Jvm.Cond.instanceMethod ({ cls := "java/util/LinkedHashSet", name := "<init>", desc := "()V" } : Jvm.MethodName)) ∈ lw_all := lw_g (lw_at lw_m6 6 rfl) rfl
theorem q1308 : (Jvm.Cond.code ({ cls := "java/util/LinkedHashSet", name := "<init>", desc := "()V" } : Jvm.MethodName) prog_83_method_3_code (1 : Nat) (Option.none : Option Jvm.ClassFile.FieldType)) ∈ lw_all := lw_g (lw_at lw_m6 7 rfl) rfl
theorem q1309 : (Jvm.Cond.constantFloat "java/util/LinkedHashSet" (7 : Nat) (1061158912 : UInt32)) ∈ lw_all := lw_g (lw_at lw_m6 8 rfl) rfl
theorem q1310 : (Jvm.Cond.methodLink "java/util/LinkedHashSet" (1 : Nat) ({ cls := "java/util/HashSet", name := "<init>", desc := "(IFZ)V" } : Jvm.MethodName)) ∈ lw_all := lw_g (lw_at lw_m6 9 rfl) rfl
theorem q1719 : (Jvm.Cond.selects "java/util/LinkedHashSet" ({ cls := "java/lang/Object", name := "getClass", desc := "()Ljava/lang/Class;" } : Jvm.MethodName) ({ cls := "java/lang/Object", name := "getClass", desc := "()Ljava/lang/Class;" } : Jvm.MethodName)) ∈ lw_all := lw_g (lw_at lw_m7 178 rfl) rfl
theorem q1820 : (Jvm.Cond.lays "java/util/LinkedHashSet" "java/util/HashSet" "map" "Ljava/util/HashMap;") ∈ lw_all := lw_g (lw_at lw_m8 39 rfl) rfl
theorem q1822 : (Jvm.Cond.superclass "java/util/LinkedHashSet" "java/util/HashSet") ∈ lw_all := lw_g (lw_at lw_m8 41 rfl) rfl
theorem q1857 : (Jvm.Cond.selects "java/util/LinkedHashSet" ({ cls := "java/util/Set", name := "add", desc := "(Ljava/lang/Object;)Z" } : Jvm.MethodName) ({ cls := "java/util/HashSet", name := "add", desc := "(Ljava/lang/Object;)Z" } : Jvm.MethodName)) ∈ lw_all := lw_g (lw_at lw_m8 76 rfl) rfl
theorem q1858 : (Jvm.Cond.unhidden "java/util/LinkedHashSet" "add" "(Ljava/lang/Object;)Z") ∈ lw_tbl := lw_at lw_m8 77 rfl
theorem q2455 : (Jvm.Cond.selects "java/util/LinkedHashSet" ({ cls := "java/util/Set", name := "size", desc := "()I" } : Jvm.MethodName) ({ cls := "java/util/HashSet", name := "size", desc := "()I" } : Jvm.MethodName)) ∈ lw_all := lw_g (lw_at lw_m10 194 rfl) rfl
theorem q2456 : (Jvm.Cond.unhidden "java/util/LinkedHashSet" "size" "()I") ∈ lw_tbl := lw_at lw_m10 195 rfl
theorem q3825 : (Jvm.Cond.castable "java/util/LinkedHashSet" "java/util/SequencedSet") ∈ lw_tbl := lw_at lw_m16 124 rfl
theorem q3835 : (Jvm.Cond.castable "java/util/LinkedHashSet" "java/util/SequencedCollection") ∈ lw_tbl := lw_at lw_m16 134 rfl
theorem q3881 : (Jvm.Cond.castable "java/util/LinkedHashSet" "java/lang/Object") ∈ lw_tbl := lw_at lw_m16 180 rfl
theorem in_J45 : ∀ w ∈ wsJ450, w ∈ lw_all := lw_in wsJ450 [1820] (by decide +kernel) (by decide +kernel)

-- J52.java_util_LinkedHashMap_LinkedEntrySet.lean.txt
/-! java/util/LinkedHashMap$LinkedEntrySet -/
set_option maxRecDepth 100000
def RJ52 : String := "java/util/LinkedHashMap$LinkedEntrySet"
def TJ52 : u_T := fun k => match k with
  | 0 => ("java/util/LinkedHashMap$LinkedEntrySet", "reversed", "Z", true)
  | _ => ("java/util/LinkedHashMap$LinkedEntrySet", "this$0", "Ljava/util/LinkedHashMap;", true)
def tyJ52 : Nat → FieldType := fun k => match k with
  | 0 => .boolean
  | _ => .object "java/util/LinkedHashMap"
abbrev wsJ520 : List Cond := u_ws RJ52 TJ52 2
theorem nmJ52 : ∀ a, a < 2 → ∀ b, b < 2 → a ≠ b → (TJ52 a).2.1 ≠ (TJ52 b).2.1 := by decide +kernel
theorem tyJ52_ok : ∀ k, k < 2 → parseFieldDescriptor (TJ52 k).2.2.1 = some (tyJ52 k) := by decide +kernel
abbrev cJ52_iterator : ByteArray := prog_77_method_4_code
def yJ52_iterator : MethodName := ⟨RJ52, "iterator", "()Ljava/util/Iterator;"⟩
def dkwJ52_iterator_0 : List UInt8 := [187, 0, 26, 89, 42, 180, 0, 1, 42, 180, 0, 13, 183, 0, 28, 176]
abbrev dktJ52_iterator_0 : List UInt8 := dkwJ52_iterator_0 ++ []
theorem dksJ52_iterator_0 : cJ52_iterator.data.toList.drop 0 = dktJ52_iterator_0 := by decide +kernel
theorem dJ52_iterator_0 : decode cJ52_iterator 0 = .ok (.new 26, 3) := dk_187 0 26 (dk_at dksJ52_iterator_0 0 rfl rfl)
theorem dJ52_iterator_3 : decode cJ52_iterator 3 = .ok (.dup, 1) := dk_89 (dk_at dksJ52_iterator_0 3 rfl rfl)
theorem dJ52_iterator_4 : decode cJ52_iterator 4 = .ok (.aload_n 0, 1) := dk_42 (dk_at dksJ52_iterator_0 4 rfl rfl)
theorem dJ52_iterator_5 : decode cJ52_iterator 5 = .ok (.getfield 1, 3) := dk_180 0 1 (dk_at dksJ52_iterator_0 5 rfl rfl)
theorem dJ52_iterator_8 : decode cJ52_iterator 8 = .ok (.aload_n 0, 1) := dk_42 (dk_at dksJ52_iterator_0 8 rfl rfl)
theorem dJ52_iterator_9 : decode cJ52_iterator 9 = .ok (.getfield 13, 3) := dk_180 0 13 (dk_at dksJ52_iterator_0 9 rfl rfl)
theorem dJ52_iterator_12 : decode cJ52_iterator 12 = .ok (.invokespecial 28, 3) := dk_183 0 28 (dk_at dksJ52_iterator_0 12 rfl rfl)
theorem dJ52_iterator_15 : decode cJ52_iterator 15 = .ok (.areturn, 1) := dk_176 (dk_at dksJ52_iterator_0 15 rfl rfl)
abbrev cJ52_size : ByteArray := prog_77_method_2_code
def yJ52_size : MethodName := ⟨RJ52, "size", "()I"⟩
def dkwJ52_size_0 : List UInt8 := [42, 180, 0, 1, 180, 0, 17, 172]
abbrev dktJ52_size_0 : List UInt8 := dkwJ52_size_0 ++ []
theorem dksJ52_size_0 : cJ52_size.data.toList.drop 0 = dktJ52_size_0 := by decide +kernel
theorem dJ52_size_0 : decode cJ52_size 0 = .ok (.aload_n 0, 1) := dk_42 (dk_at dksJ52_size_0 0 rfl rfl)
theorem dJ52_size_1 : decode cJ52_size 1 = .ok (.getfield 1, 3) := dk_180 0 1 (dk_at dksJ52_size_0 1 rfl rfl)
theorem dJ52_size_4 : decode cJ52_size 4 = .ok (.getfield 17, 3) := dk_180 0 17 (dk_at dksJ52_size_0 4 rfl rfl)
theorem dJ52_size_7 : decode cJ52_size 7 = .ok (.ireturn, 1) := dk_172 (dk_at dksJ52_size_0 7 rfl rfl)
abbrev cJ52_init : ByteArray := prog_77_method_1_code
def yJ52_init : MethodName := ⟨RJ52, "<init>", "(Ljava/util/LinkedHashMap;Z)V"⟩
def dkwJ52_init_0 : List UInt8 := [42, 43, 181, 0, 1, 42, 183, 0, 7, 42, 28, 181, 0, 13, 177]
abbrev dktJ52_init_0 : List UInt8 := dkwJ52_init_0 ++ []
theorem dksJ52_init_0 : cJ52_init.data.toList.drop 0 = dktJ52_init_0 := by decide +kernel
theorem dJ52_init_0 : decode cJ52_init 0 = .ok (.aload_n 0, 1) := dk_42 (dk_at dksJ52_init_0 0 rfl rfl)
theorem dJ52_init_1 : decode cJ52_init 1 = .ok (.aload_n 1, 1) := dk_43 (dk_at dksJ52_init_0 1 rfl rfl)
theorem dJ52_init_2 : decode cJ52_init 2 = .ok (.putfield 1, 3) := dk_181 0 1 (dk_at dksJ52_init_0 2 rfl rfl)
theorem dJ52_init_5 : decode cJ52_init 5 = .ok (.aload_n 0, 1) := dk_42 (dk_at dksJ52_init_0 5 rfl rfl)
theorem dJ52_init_6 : decode cJ52_init 6 = .ok (.invokespecial 7, 3) := dk_183 0 7 (dk_at dksJ52_init_0 6 rfl rfl)
theorem dJ52_init_9 : decode cJ52_init 9 = .ok (.aload_n 0, 1) := dk_42 (dk_at dksJ52_init_0 9 rfl rfl)
theorem dJ52_init_10 : decode cJ52_init 10 = .ok (.iload_n 2, 1) := dk_28 (dk_at dksJ52_init_0 10 rfl rfl)
theorem dJ52_init_11 : decode cJ52_init 11 = .ok (.putfield 13, 3) := dk_181 0 13 (dk_at dksJ52_init_0 11 rfl rfl)
theorem dJ52_init_14 : decode cJ52_init 14 = .ok (.return_, 1) := dk_177 (dk_at dksJ52_init_0 14 rfl rfl)
theorem q172 : (Jvm.Cond.initialized "java/util/LinkedHashMap$LinkedEntrySet") ∈ lw_all := lw_g (lw_at lw_m1 71 rfl) rfl
theorem q564 : (Jvm.Cond.fieldLink "java/util/LinkedHashMap$LinkedEntrySet" (17 : Nat) "java/util/LinkedHashMap" "size" "I") ∈ lw_all := lw_g (lw_at lw_m2 223 rfl) rfl
theorem q986 : (Jvm.Cond.castable "java/util/LinkedHashMap$LinkedEntrySet" "java/util/Collection") ∈ lw_tbl := lw_at lw_m4 165 rfl
theorem q987 : (Jvm.Cond.selects "java/util/LinkedHashMap$LinkedEntrySet" ({ cls := "java/util/Collection", name := "iterator", desc := "()Ljava/util/Iterator;" } : Jvm.MethodName) ({ cls := "java/util/LinkedHashMap$LinkedEntrySet", name := "iterator", desc := "()Ljava/util/Iterator;" } : Jvm.MethodName)) ∈ lw_all := lw_g (lw_at lw_m4 166 rfl) rfl
theorem q988 : (Jvm.Cond.unhidden "java/util/LinkedHashMap$LinkedEntrySet" "iterator" "()Ljava/util/Iterator;") ∈ lw_tbl := lw_at lw_m4 167 rfl
theorem q989 : (Jvm.Cond.instanceMethod ({ cls := "java/util/LinkedHashMap$LinkedEntrySet", name := "iterator", desc := "()Ljava/util/Iterator;" } : Jvm.MethodName)) ∈ lw_all := lw_g (lw_at lw_m4 168 rfl) rfl
theorem q990 : (Jvm.Cond.publicMethod ({ cls := "java/util/LinkedHashMap$LinkedEntrySet", name := "iterator", desc := "()Ljava/util/Iterator;" } : Jvm.MethodName)) ∈ lw_tbl := lw_at lw_m4 169 rfl
theorem q991 : (Jvm.Cond.code ({ cls := "java/util/LinkedHashMap$LinkedEntrySet", name := "iterator", desc := "()Ljava/util/Iterator;" } : Jvm.MethodName) prog_77_method_4_code (1 : Nat) (Option.some (Jvm.ClassFile.FieldType.object "java/util/Iterator"))) ∈ lw_all := lw_g (lw_at lw_m4 170 rfl) rfl
theorem q992 : (Jvm.Cond.classLink "java/util/LinkedHashMap$LinkedEntrySet" (26 : Nat) "java/util/LinkedHashMap$LinkedEntryIterator") ∈ lw_all := lw_g (lw_at lw_m4 171 rfl) rfl
theorem q994 : (Jvm.Cond.methodLink "java/util/LinkedHashMap$LinkedEntrySet" (28 : Nat) ({ cls := "java/util/LinkedHashMap$LinkedEntryIterator", name := "<init>", desc := "(Ljava/util/LinkedHashMap;Z)V" } : Jvm.MethodName)) ∈ lw_all := lw_g (lw_at lw_m4 173 rfl) rfl
theorem q1093 : (Jvm.Cond.castable "java/util/LinkedHashMap$LinkedEntrySet" "java/util/Set") ∈ lw_tbl := lw_at lw_m5 32 rfl
theorem q1094 : (Jvm.Cond.selects "java/util/LinkedHashMap$LinkedEntrySet" ({ cls := "java/util/Set", name := "iterator", desc := "()Ljava/util/Iterator;" } : Jvm.MethodName) ({ cls := "java/util/LinkedHashMap$LinkedEntrySet", name := "iterator", desc := "()Ljava/util/Iterator;" } : Jvm.MethodName)) ∈ lw_all := lw_g (lw_at lw_m5 33 rfl) rfl
theorem q1714 : (Jvm.Cond.selects "java/util/LinkedHashMap$LinkedEntrySet" ({ cls := "java/lang/Object", name := "getClass", desc := "()Ljava/lang/Class;" } : Jvm.MethodName) ({ cls := "java/lang/Object", name := "getClass", desc := "()Ljava/lang/Class;" } : Jvm.MethodName)) ∈ lw_all := lw_g (lw_at lw_m7 173 rfl) rfl
theorem q1853 : (Jvm.Cond.selects "java/util/LinkedHashMap$LinkedEntrySet" ({ cls := "java/util/Set", name := "add", desc := "(Ljava/lang/Object;)Z" } : Jvm.MethodName) ({ cls := "java/util/AbstractCollection", name := "add", desc := "(Ljava/lang/Object;)Z" } : Jvm.MethodName)) ∈ lw_all := lw_g (lw_at lw_m8 72 rfl) rfl
theorem q1854 : (Jvm.Cond.unhidden "java/util/LinkedHashMap$LinkedEntrySet" "add" "(Ljava/lang/Object;)Z") ∈ lw_tbl := lw_at lw_m8 73 rfl
theorem q2445 : (Jvm.Cond.selects "java/util/LinkedHashMap$LinkedEntrySet" ({ cls := "java/util/Set", name := "size", desc := "()I" } : Jvm.MethodName) ({ cls := "java/util/LinkedHashMap$LinkedEntrySet", name := "size", desc := "()I" } : Jvm.MethodName)) ∈ lw_all := lw_g (lw_at lw_m10 184 rfl) rfl
theorem q2446 : (Jvm.Cond.unhidden "java/util/LinkedHashMap$LinkedEntrySet" "size" "()I") ∈ lw_tbl := lw_at lw_m10 185 rfl
theorem q2447 : (Jvm.Cond.instanceMethod ({ cls := "java/util/LinkedHashMap$LinkedEntrySet", name := "size", desc := "()I" } : Jvm.MethodName)) ∈ lw_all := lw_g (lw_at lw_m10 186 rfl) rfl
theorem q2448 : (Jvm.Cond.publicMethod ({ cls := "java/util/LinkedHashMap$LinkedEntrySet", name := "size", desc := "()I" } : Jvm.MethodName)) ∈ lw_tbl := lw_at lw_m10 187 rfl
theorem q2449 : (Jvm.Cond.code ({ cls := "java/util/LinkedHashMap$LinkedEntrySet", name := "size", desc := "()I" } : Jvm.MethodName) prog_77_method_2_code (1 : Nat) (Option.some Jvm.ClassFile.FieldType.int)) ∈ lw_all := lw_g (lw_at lw_m10 188 rfl) rfl
theorem q2532 : (Jvm.Cond.instantiable "java/util/LinkedHashMap$LinkedEntrySet" (2 : Nat)) ∈ lw_all := lw_g (lw_at lw_m11 31 rfl) rfl
theorem q2534 : (Jvm.Cond.instanceMethod ({ cls := "java/util/LinkedHashMap$LinkedEntrySet", name := "<init>", desc := "(Ljava/util/LinkedHashMap;Z)V" } : Jvm.MethodName)) ∈ lw_all := lw_g (lw_at lw_m11 33 rfl) rfl
theorem q2535 : (Jvm.Cond.code ({ cls := "java/util/LinkedHashMap$LinkedEntrySet", name := "<init>", desc := "(Ljava/util/LinkedHashMap;Z)V" } : Jvm.MethodName) prog_77_method_1_code (3 : Nat) (Option.none : Option Jvm.ClassFile.FieldType)) ∈ lw_all := lw_g (lw_at lw_m11 34 rfl) rfl
theorem q2536 : (Jvm.Cond.methodLink "java/util/LinkedHashMap$LinkedEntrySet" (7 : Nat) ({ cls := "java/util/AbstractSet", name := "<init>", desc := "()V" } : Jvm.MethodName)) ∈ lw_all := lw_g (lw_at lw_m11 35 rfl) rfl
theorem q2537 : (Jvm.Cond.fieldLink "java/util/LinkedHashMap$LinkedEntrySet" (13 : Nat) "java/util/LinkedHashMap$LinkedEntrySet" "reversed" "Z") ∈ lw_all := lw_g (lw_at lw_m11 36 rfl) rfl
theorem q2538 : (Jvm.Cond.fieldLink "java/util/LinkedHashMap$LinkedEntrySet" (1 : Nat) "java/util/LinkedHashMap$LinkedEntrySet" "this$0" "Ljava/util/LinkedHashMap;") ∈ lw_all := lw_g (lw_at lw_m11 37 rfl) rfl
theorem q2539 : (Jvm.Cond.laysFinal "java/util/LinkedHashMap$LinkedEntrySet" "java/util/LinkedHashMap$LinkedEntrySet" "reversed" "Z") ∈ lw_all := lw_g (lw_at lw_m11 38 rfl) rfl
theorem q2540 : (Jvm.Cond.soleField "java/util/LinkedHashMap$LinkedEntrySet" "reversed") ∈ lw_all := lw_g (lw_at lw_m11 39 rfl) rfl
theorem q2541 : (Jvm.Cond.laysFinal "java/util/LinkedHashMap$LinkedEntrySet" "java/util/LinkedHashMap$LinkedEntrySet" "this$0" "Ljava/util/LinkedHashMap;") ∈ lw_all := lw_g (lw_at lw_m11 40 rfl) rfl
theorem q2542 : (Jvm.Cond.soleField "java/util/LinkedHashMap$LinkedEntrySet" "this$0") ∈ lw_all := lw_g (lw_at lw_m11 41 rfl) rfl
theorem q2543 : (Jvm.Cond.superclass "java/util/LinkedHashMap$LinkedEntrySet" "java/util/AbstractSet") ∈ lw_all := lw_g (lw_at lw_m11 42 rfl) rfl
theorem q3823 : (Jvm.Cond.castable "java/util/LinkedHashMap$LinkedEntrySet" "java/util/SequencedSet") ∈ lw_tbl := lw_at lw_m16 122 rfl
theorem q3832 : (Jvm.Cond.castable "java/util/LinkedHashMap$LinkedEntrySet" "java/util/SequencedCollection") ∈ lw_tbl := lw_at lw_m16 131 rfl
theorem q3887 : (Jvm.Cond.castable "java/util/LinkedHashMap$LinkedEntrySet" "java/lang/Object") ∈ lw_tbl := lw_at lw_m16 186 rfl
theorem in_J52 : ∀ w ∈ wsJ520, w ∈ lw_all := lw_in wsJ520 [2539, 2541] (by decide +kernel) (by decide +kernel)

-- J24.java_util_Objects.lean.txt
/-! java/util/Objects -/
set_option maxRecDepth 100000
def RJ24 : String := "java/util/Objects"
abbrev cJ24_checkIndex : ByteArray := prog_87_method_17_code
def yJ24_checkIndex : MethodName := ⟨RJ24, "checkIndex", "(II)I"⟩
def dkwJ24_checkIndex_0 : List UInt8 := [26, 27, 1, 184, 0, 105, 172]
abbrev dktJ24_checkIndex_0 : List UInt8 := dkwJ24_checkIndex_0 ++ []
theorem dksJ24_checkIndex_0 : cJ24_checkIndex.data.toList.drop 0 = dktJ24_checkIndex_0 := by decide +kernel
theorem dJ24_checkIndex_0 : decode cJ24_checkIndex 0 = .ok (.iload_n 0, 1) := dk_26 (dk_at dksJ24_checkIndex_0 0 rfl rfl)
theorem dJ24_checkIndex_1 : decode cJ24_checkIndex 1 = .ok (.iload_n 1, 1) := dk_27 (dk_at dksJ24_checkIndex_0 1 rfl rfl)
theorem dJ24_checkIndex_2 : decode cJ24_checkIndex 2 = .ok (.aconst_null, 1) := dk_1 (dk_at dksJ24_checkIndex_0 2 rfl rfl)
theorem dJ24_checkIndex_3 : decode cJ24_checkIndex 3 = .ok (.invokestatic 105, 3) := dk_184 0 105 (dk_at dksJ24_checkIndex_0 3 rfl rfl)
theorem dJ24_checkIndex_6 : decode cJ24_checkIndex 6 = .ok (.ireturn, 1) := dk_172 (dk_at dksJ24_checkIndex_0 6 rfl rfl)
abbrev cJ24_toString : ByteArray := prog_87_method_7_code
def yJ24_toString : MethodName := ⟨RJ24, "toString", "(Ljava/lang/Object;Ljava/lang/String;)Ljava/lang/String;"⟩
def dkwJ24_toString_0 : List UInt8 := [42, 198, 0, 10, 42, 182, 0, 37, 167, 0, 4, 43, 176]
abbrev dktJ24_toString_0 : List UInt8 := dkwJ24_toString_0 ++ []
theorem dksJ24_toString_0 : cJ24_toString.data.toList.drop 0 = dktJ24_toString_0 := by decide +kernel
theorem dJ24_toString_0 : decode cJ24_toString 0 = .ok (.aload_n 0, 1) := dk_42 (dk_at dksJ24_toString_0 0 rfl rfl)
theorem dJ24_toString_1 : decode cJ24_toString 1 = .ok (.ifnull 10, 3) := dk_198 0 10 (dk_at dksJ24_toString_0 1 rfl rfl)
theorem dJ24_toString_4 : decode cJ24_toString 4 = .ok (.aload_n 0, 1) := dk_42 (dk_at dksJ24_toString_0 4 rfl rfl)
theorem dJ24_toString_5 : decode cJ24_toString 5 = .ok (.invokevirtual 37, 3) := dk_182 0 37 (dk_at dksJ24_toString_0 5 rfl rfl)
theorem dJ24_toString_8 : decode cJ24_toString 8 = .ok (.goto 4, 3) := dk_167 0 4 (dk_at dksJ24_toString_0 8 rfl rfl)
theorem dJ24_toString_11 : decode cJ24_toString 11 = .ok (.aload_n 1, 1) := dk_43 (dk_at dksJ24_toString_0 11 rfl rfl)
theorem dJ24_toString_12 : decode cJ24_toString 12 = .ok (.areturn, 1) := dk_176 (dk_at dksJ24_toString_0 12 rfl rfl)
theorem q136 : (Jvm.Cond.initialized "java/util/Objects") ∈ lw_all := lw_g (lw_at lw_m1 35 rfl) rfl
theorem q1196 : (Jvm.Cond.static ({ cls := "java/util/Objects", name := "checkIndex", desc := "(II)I" } : Jvm.MethodName)) ∈ lw_all := lw_g (lw_at lw_m5 135 rfl) rfl
theorem q1197 : (Jvm.Cond.code ({ cls := "java/util/Objects", name := "checkIndex", desc := "(II)I" } : Jvm.MethodName) prog_87_method_17_code (2 : Nat) (Option.some Jvm.ClassFile.FieldType.int)) ∈ lw_all := lw_g (lw_at lw_m5 136 rfl) rfl
theorem q1198 : (Jvm.Cond.methodLink "java/util/Objects" (105 : Nat) ({ cls := "jdk/internal/util/Preconditions", name := "checkIndex", desc := "(IILjava/util/function/BiFunction;)I" } : Jvm.MethodName)) ∈ lw_all := lw_g (lw_at lw_m5 137 rfl) rfl
theorem q1792 : (Jvm.Cond.static ({ cls := "java/util/Objects", name := "toString", desc := "(Ljava/lang/Object;Ljava/lang/String;)Ljava/lang/String;" } : Jvm.MethodName)) ∈ lw_all := lw_g (lw_at lw_m8 11 rfl) rfl
theorem q1793 : (Jvm.Cond.code ({ cls := "java/util/Objects", name := "toString", desc := "(Ljava/lang/Object;Ljava/lang/String;)Ljava/lang/String;" } : Jvm.MethodName) prog_87_method_7_code (2 : Nat) (Option.some (Jvm.ClassFile.FieldType.object "java/lang/String"))) ∈ lw_all := lw_g (lw_at lw_m8 12 rfl) rfl
theorem q1794 : (Jvm.Cond.methodLink "java/util/Objects" (37 : Nat) ({ cls := "java/lang/Object", name := "toString", desc := "()Ljava/lang/String;" } : Jvm.MethodName)) ∈ lw_all := lw_g (lw_at lw_m8 13 rfl) rfl

-- J53.java_lang_Object.lean.txt
/-! java/lang/Object -/
set_option maxRecDepth 100000
def RJ53 : String := "java/lang/Object"
abbrev cJ53_init : ByteArray := object_method_1_code
def yJ53_init : MethodName := ⟨RJ53, "<init>", "()V"⟩
theorem dJ53_init_0 : decode cJ53_init 0 = .ok (.return_, 1) := by decide +kernel
abbrev cJ53_equals : ByteArray := object_method_4_code
def yJ53_equals : MethodName := ⟨RJ53, "equals", "(Ljava/lang/Object;)Z"⟩
def dkwJ53_equals_0 : List UInt8 := [42, 43, 166, 0, 7, 4, 167, 0, 4, 3, 172]
abbrev dktJ53_equals_0 : List UInt8 := dkwJ53_equals_0 ++ []
theorem dksJ53_equals_0 : cJ53_equals.data.toList.drop 0 = dktJ53_equals_0 := by decide +kernel
theorem dJ53_equals_0 : decode cJ53_equals 0 = .ok (.aload_n 0, 1) := dk_42 (dk_at dksJ53_equals_0 0 rfl rfl)
theorem dJ53_equals_1 : decode cJ53_equals 1 = .ok (.aload_n 1, 1) := dk_43 (dk_at dksJ53_equals_0 1 rfl rfl)
theorem dJ53_equals_2 : decode cJ53_equals 2 = .ok (.if_acmp .ne 7, 3) := dk_166 0 7 (dk_at dksJ53_equals_0 2 rfl rfl)
theorem dJ53_equals_5 : decode cJ53_equals 5 = .ok (.iconst 1, 1) := dk_4 (dk_at dksJ53_equals_0 5 rfl rfl)
theorem dJ53_equals_6 : decode cJ53_equals 6 = .ok (.goto 4, 3) := dk_167 0 4 (dk_at dksJ53_equals_0 6 rfl rfl)
theorem dJ53_equals_9 : decode cJ53_equals 9 = .ok (.iconst 0, 1) := dk_3 (dk_at dksJ53_equals_0 9 rfl rfl)
theorem dJ53_equals_10 : decode cJ53_equals 10 = .ok (.ireturn, 1) := dk_172 (dk_at dksJ53_equals_0 10 rfl rfl)
theorem q179 : (Jvm.Cond.instanceMethod ({ cls := "java/lang/Object", name := "<init>", desc := "()V" } : Jvm.MethodName)) ∈ lw_all := lw_g (lw_at lw_m1 78 rfl) rfl
theorem q180 : (Jvm.Cond.code ({ cls := "java/lang/Object", name := "<init>", desc := "()V" } : Jvm.MethodName) object_method_1_code (1 : Nat) (Option.none : Option Jvm.ClassFile.FieldType)) ∈ lw_all := lw_g (lw_at lw_m1 79 rfl) rfl
theorem q319 : (Jvm.Cond.native ({ cls := "java/lang/Object", name := "clone", desc := "()Ljava/lang/Object;" } : Jvm.MethodName)) ∈ lw_all := lw_g (lw_at lw_m1 218 rfl) rfl
theorem q320 : (Jvm.Cond.instanceMethod ({ cls := "java/lang/Object", name := "clone", desc := "()Ljava/lang/Object;" } : Jvm.MethodName)) ∈ lw_all := lw_g (lw_at lw_m1 219 rfl) rfl
theorem q1654 : (Jvm.Cond.declares ({ cls := "java/lang/Object", name := "toString", desc := "()Ljava/lang/String;" } : Jvm.MethodName)) ∈ lw_tbl := lw_at lw_m7 113 rfl
theorem q1656 : (Jvm.Cond.instanceMethod ({ cls := "java/lang/Object", name := "toString", desc := "()Ljava/lang/String;" } : Jvm.MethodName)) ∈ lw_all := lw_g (lw_at lw_m7 115 rfl) rfl
theorem q1657 : (Jvm.Cond.sameMethod "java/lang/Object" "java/lang/Object" "toString" "()Ljava/lang/String;") ∈ lw_all := lw_g (lw_at lw_m7 116 rfl) rfl
theorem q1676 : (Jvm.Cond.instanceMethod ({ cls := "java/lang/Object", name := "getClass", desc := "()Ljava/lang/Class;" } : Jvm.MethodName)) ∈ lw_all := lw_g (lw_at lw_m7 135 rfl) rfl
theorem q1677 : (Jvm.Cond.sameMethod "java/lang/Object" "java/lang/Object" "getClass" "()Ljava/lang/Class;") ∈ lw_all := lw_g (lw_at lw_m7 136 rfl) rfl
theorem q1722 : (Jvm.Cond.native ({ cls := "java/lang/Object", name := "getClass", desc := "()Ljava/lang/Class;" } : Jvm.MethodName)) ∈ lw_all := lw_g (lw_at lw_m7 181 rfl) rfl
theorem q1872 : (Jvm.Cond.declares ({ cls := "java/lang/Object", name := "hashCode", desc := "()I" } : Jvm.MethodName)) ∈ lw_tbl := lw_at lw_m8 91 rfl
theorem q1874 : (Jvm.Cond.instanceMethod ({ cls := "java/lang/Object", name := "hashCode", desc := "()I" } : Jvm.MethodName)) ∈ lw_all := lw_g (lw_at lw_m8 93 rfl) rfl
theorem q1875 : (Jvm.Cond.sameMethod "java/lang/Object" "java/lang/Object" "hashCode" "()I") ∈ lw_all := lw_g (lw_at lw_m8 94 rfl) rfl
theorem q1971 : (Jvm.Cond.native ({ cls := "java/lang/Object", name := "hashCode", desc := "()I" } : Jvm.MethodName)) ∈ lw_all := lw_g (lw_at lw_m8 190 rfl) rfl
theorem q2309 : (Jvm.Cond.declares ({ cls := "java/lang/Object", name := "equals", desc := "(Ljava/lang/Object;)Z" } : Jvm.MethodName)) ∈ lw_tbl := lw_at lw_m10 48 rfl
theorem q2311 : (Jvm.Cond.instanceMethod ({ cls := "java/lang/Object", name := "equals", desc := "(Ljava/lang/Object;)Z" } : Jvm.MethodName)) ∈ lw_all := lw_g (lw_at lw_m10 50 rfl) rfl
theorem q2312 : (Jvm.Cond.sameMethod "java/lang/Object" "java/lang/Object" "equals" "(Ljava/lang/Object;)Z") ∈ lw_all := lw_g (lw_at lw_m10 51 rfl) rfl
theorem q2355 : (Jvm.Cond.code ({ cls := "java/lang/Object", name := "equals", desc := "(Ljava/lang/Object;)Z" } : Jvm.MethodName) object_method_4_code (2 : Nat) (Option.some Jvm.ClassFile.FieldType.boolean)) ∈ lw_all := lw_g (lw_at lw_m10 94 rfl) rfl
theorem q3821 : (Jvm.Cond.initialized "java/lang/Object") ∈ lw_all := lw_g (lw_at lw_m16 120 rfl) rfl
theorem q3898 : (Jvm.Cond.declares ({ cls := "java/lang/Object", name := "getClass", desc := "()Ljava/lang/Class;" } : Jvm.MethodName)) ∈ lw_tbl := lw_at lw_m16 197 rfl
theorem q3920 : (Jvm.Cond.instantiable "java/lang/Object" (0 : Nat)) ∈ lw_all := lw_g (lw_at lw_m16 219 rfl) rfl
