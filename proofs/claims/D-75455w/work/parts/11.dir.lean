/-! THE CLASSES OF THE OBJECTS BY NUMBER; the words beside lw_all; what holds all through a run -/
set_option maxRecDepth 100000
/-- 0 ElasticTruss, 1 Truss, 2 Model, 3 SetupReader, 4 SetupException, 5 Node, 6 PairKey, 7 Member, 8 Load, 9 Chain, 10 Link, 11 Relaxation, 12 Failure, 13 ArrayList, 14 its Itr, 15 LinkedHashMap, 16 its Entry, 17 ArrayDeque, 18 LinkedValues, 19 LinkedKeySet, 20 LinkedEntrySet, 21 LinkedKeyIterator, 22 LinkedValueIterator, 23 LinkedEntryIterator, 24 LinkedHashSet -/
def vwCl : List vw_C := [(RX1, TX1, 5), (RX2, TX2, 9), (RX3, TX3, 23), (RX4, TX4, 7), (RX5, TX5, 8), (RX6, TX6, 4), (RX7, TX7, 2), (RX8, TX8, 6), (RX9, TX9, 4), (RX10, TX10, 3), (RX11, TX11, 3), (RX12, TX12, 8), (RX13, TX13, 2), (RJ2, TJ2, 3), (RJ21, TJ21, 4), (RJ19, TJ19, 12), (RJ26, TJ26, 6), (RJ20, TJ20, 3), (RJ31, TJ31, 2), (RJ41, TJ41, 2), (RJ52, TJ52, 2), (RJ37, TJ37, 5), (RJ38, TJ38, 5), (RJ36, TJ36, 5), (RJ45, TJ45, 1)]
/-- the field types by the class's number -/
def vwTy : List (Nat → FieldType) := [tyX1, tyX2, tyX3, tyX4, tyX5, tyX6, tyX7, tyX8, tyX9, tyX10, tyX11, tyX12, tyX13, tyJ2, tyJ21, tyJ19, tyJ26, tyJ20, tyJ31, tyJ41, tyJ52, tyJ37, tyJ38, tyJ36, tyJ45]
/-- what each class of the list has: its field words ride, its types are parsed, its names differ -/
def vwOk (r : vw_C) (ty : Nat → FieldType) : Prop := (∀ w ∈ u_ws r.1 r.2.1 r.2.2, w ∈ lw_all) ∧ (∀ k, k < r.2.2 → parseFieldDescriptor (r.2.1 k).2.2.1 = some (ty k)) ∧ (∀ a, a < r.2.2 → ∀ b, b < r.2.2 → a ≠ b → (r.2.1 a).2.1 ≠ (r.2.1 b).2.1)
theorem vw_all : ∀ (c : Nat) (r : vw_C) (ty : Nat → FieldType), vwCl[c]? = some r → vwTy[c]? = some ty → vwOk r ty := by
  intro c r ty hr ht
  match c, hr, ht with
  | 0, hr, ht => cases hr; cases ht; exact ⟨in_X1, tyX1_ok, nmX1⟩
  | 1, hr, ht => cases hr; cases ht; exact ⟨in_X2, tyX2_ok, nmX2⟩
  | 2, hr, ht => cases hr; cases ht; exact ⟨in_X3, tyX3_ok, nmX3⟩
  | 3, hr, ht => cases hr; cases ht; exact ⟨in_X4, tyX4_ok, nmX4⟩
  | 4, hr, ht => cases hr; cases ht; exact ⟨in_X5, tyX5_ok, nmX5⟩
  | 5, hr, ht => cases hr; cases ht; exact ⟨in_X6, tyX6_ok, nmX6⟩
  | 6, hr, ht => cases hr; cases ht; exact ⟨in_X7, tyX7_ok, nmX7⟩
  | 7, hr, ht => cases hr; cases ht; exact ⟨in_X8, tyX8_ok, nmX8⟩
  | 8, hr, ht => cases hr; cases ht; exact ⟨in_X9, tyX9_ok, nmX9⟩
  | 9, hr, ht => cases hr; cases ht; exact ⟨in_X10, tyX10_ok, nmX10⟩
  | 10, hr, ht => cases hr; cases ht; exact ⟨in_X11, tyX11_ok, nmX11⟩
  | 11, hr, ht => cases hr; cases ht; exact ⟨in_X12, tyX12_ok, nmX12⟩
  | 12, hr, ht => cases hr; cases ht; exact ⟨in_X13, tyX13_ok, nmX13⟩
  | 13, hr, ht => cases hr; cases ht; exact ⟨in_J2, tyJ2_ok, nmJ2⟩
  | 14, hr, ht => cases hr; cases ht; exact ⟨in_J21, tyJ21_ok, nmJ21⟩
  | 15, hr, ht => cases hr; cases ht; exact ⟨in_J19, tyJ19_ok, nmJ19⟩
  | 16, hr, ht => cases hr; cases ht; exact ⟨in_J26, tyJ26_ok, nmJ26⟩
  | 17, hr, ht => cases hr; cases ht; exact ⟨in_J20, tyJ20_ok, nmJ20⟩
  | 18, hr, ht => cases hr; cases ht; exact ⟨in_J31, tyJ31_ok, nmJ31⟩
  | 19, hr, ht => cases hr; cases ht; exact ⟨in_J41, tyJ41_ok, nmJ41⟩
  | 20, hr, ht => cases hr; cases ht; exact ⟨in_J52, tyJ52_ok, nmJ52⟩
  | 21, hr, ht => cases hr; cases ht; exact ⟨in_J37, tyJ37_ok, nmJ37⟩
  | 22, hr, ht => cases hr; cases ht; exact ⟨in_J38, tyJ38_ok, nmJ38⟩
  | 23, hr, ht => cases hr; cases ht; exact ⟨in_J36, tyJ36_ok, nmJ36⟩
  | 24, hr, ht => cases hr; cases ht; exact ⟨in_J45, tyJ45_ok, nmJ45⟩
  | c + 25, hr, ht => simp [vwCl] at hr
theorem vw_ty {c : Nat} {r : vw_C} (hr : vwCl[c]? = some r) : ∃ ty, vwTy[c]? = some ty := by
  have h : c < vwCl.length := (List.getElem?_eq_some_iff.mp hr).1
  have h2 : c < vwTy.length := h
  exact ⟨vwTy[c], List.getElem?_eq_getElem h2⟩
/-- objects that nobody writes: their class and the fields that are told -/
def wk_sc (k : Nat) : String × List (String × String × String) := match k with
  | 200 => ("ElasticTruss$Operator$1", [("ElasticTruss$Operator", "sign", "C")])
  | 201 => ("ElasticTruss$Operator$2", [("ElasticTruss$Operator", "sign", "C")])
  | 202 => ("ElasticTruss$Operator$3", [("ElasticTruss$Operator", "sign", "C")])
  | 203 => ("ElasticTruss$Operator$4", [("ElasticTruss$Operator", "sign", "C")])
  | 210 => ("java/lang/String", [("java/lang/String", "value", "[B"), ("java/lang/String", "coder", "B")])
  | 220 => ("java/lang/IndexOutOfBoundsException", [])
  | 221 => ("java/lang/IllegalArgumentException", [])
  | 222 => ("java/lang/IllegalStateException", [])
  | _ => ("", [])
def ho_ty (k : Nat) : FieldType := match k with
  | 0 => .int
  | 1 => .long
  | 2 => .byte
  | 3 => .object "java/lang/Object"
  | 4 => .object "ElasticTruss$Member"
  | 5 => .array (.object "ElasticTruss$Member")
  | 6 => .array .int
  | 7 => .object "ElasticTruss$Operator"
  | 8 => .object "java/util/HashMap$Node"
  | 91 => .byte
  | _ => .int
/-- words that do not ride in lw_all, but hold on -/
def nw_ok (w : Cond) : Bool := match w with
  | .fieldLinkNest _ _ _ _ _ _ => true
  | .methodLinkNest _ _ _ _ => true
  | .castable _ _ => true
  | .declares _ => true
  | _ => false
def lw_nw : List Cond := lw_tbl.filter nw_ok
theorem lw_n {w : Cond} (h : w ∈ lw_tbl) (g : nw_ok w = true) : w ∈ lw_nw := List.mem_filter.mpr ⟨h, g⟩
theorem nw_warm {w : Cond} {s U : State} (g : nw_ok w = true) (hW : s.WarmedH U.vm) (h : va_Nw w s) : va_Nw w U := by
  cases w <;> first | (simp [nw_ok] at g; done) | exact va_Nw.warmF hW h | exact va_Nw.warmM hW h | exact va_Nw.warmC hW h | exact va_Nw.warmD hW h
theorem nw_use {w : Cond} {A : Array Value} {s : State} (g : nw_ok w = true) (h : va_Nw w s) : w.before A s = true := by
  cases w <;> first | (simp [nw_ok] at g; done) | exact va_Nw.use rfl h
theorem nw_of {w : Cond} {A : Array Value} {s : State} (g : nw_ok w = true) (h : w.before A s = true) : va_Nw w s := by
  cases w <;> first | (simp [nw_ok] at g; done) | exact va_Nw.of rfl h
/-- statics that nobody writes: class, name, descriptor; the number, or a reference by its place in ev -/
def wk_st : List (String × String × String × Option Int32) := [("ElasticTruss", "SQUARES", "[I", none), ("ElasticTruss$Operator", "ADD", "LElasticTruss$Operator;", none), ("ElasticTruss$Operator", "SUBTRACT", "LElasticTruss$Operator;", none), ("ElasticTruss$Operator", "MULTIPLY", "LElasticTruss$Operator;", none), ("ElasticTruss$Operator", "DIVIDE", "LElasticTruss$Operator;", none), ("java/util/ArrayList", "EMPTY_ELEMENTDATA", "[Ljava/lang/Object;", none), ("java/util/ArrayList", "DEFAULTCAPACITY_EMPTY_ELEMENTDATA", "[Ljava/lang/Object;", none), ("java/util/HashSet", "PRESENT", "Ljava/lang/Object;", none), ("java/lang/Throwable", "UNASSIGNED_STACK", "[Ljava/lang/StackTraceElement;", none), ("java/lang/Throwable", "SUPPRESSED_SENTINEL", "Ljava/util/List;", none), ("java/lang/String", "COMPACT_STRINGS", "Z", some 1), ("jdk/internal/util/Preconditions", "SIOOBE_FORMATTER", "Ljava/util/function/BiFunction;", none), ("jdk/internal/util/Preconditions", "IOOBE_FORMATTER", "Ljava/util/function/BiFunction;", none), ("java/lang/StrictMath", "$assertionsDisabled", "Z", some 1)]
/-- String constants: the class, the entry, the text, the number of the text (0 area, 1 length, 2 modulus, 3 truss, 4 node, 5 fixed, 6 roller, 7 group, 8 member, 9 load, 10 buckling); their addresses in ev from 100 on -/
def wk_ld : List (String × Nat × String × Nat) := [("ElasticTruss$SetupReader", 94, "area", 0), ("ElasticTruss$SetupReader", 104, "length", 1), ("ElasticTruss$SetupReader", 106, "modulus", 2), ("ElasticTruss$SetupReader", 195, "fixed", 5), ("ElasticTruss$SetupReader", 197, "roller", 6), ("ElasticTruss$SetupReader", 238, "node", 4), ("ElasticTruss$SetupReader", 243, "group", 7), ("ElasticTruss$SetupReader", 249, "member", 8), ("ElasticTruss$SetupReader", 254, "load", 9), ("ElasticTruss$SetupReader", 259, "buckling", 10), ("ElasticTruss$SetupReader", 268, "truss", 3), ("ElasticTrussModel", 150, "area", 0), ("ElasticTrussModel", 155, "length", 1), ("ElasticTrussModel", 156, "modulus", 2), ("ElasticTrussModel", 164, "fixed", 5), ("ElasticTrussModel", 166, "roller", 6), ("ElasticTrussModel", 178, "node", 4), ("ElasticTrussModel", 183, "group", 7), ("ElasticTrussModel", 187, "member", 8), ("ElasticTrussModel", 192, "load", 9), ("ElasticTrussModel", 197, "buckling", 10), ("ElasticTrussModel", 203, "truss", 3)]
/-- interface calls: the receiver's class, the interface's method, the method that is meant -/
def wk_fw : List (String × MethodName × MethodName) := [
  ("java/util/ArrayList", ⟨"java/util/List", "size", "()I"⟩, ⟨"java/util/ArrayList", "size", "()I"⟩),
  ("java/util/LinkedHashMap", ⟨"java/util/Map", "size", "()I"⟩, ⟨"java/util/HashMap", "size", "()I"⟩),
  ("java/util/ArrayList", ⟨"java/util/List", "iterator", "()Ljava/util/Iterator;"⟩, ⟨"java/util/ArrayList", "iterator", "()Ljava/util/Iterator;"⟩),
  ("java/util/ArrayList$Itr", ⟨"java/util/Iterator", "hasNext", "()Z"⟩, ⟨"java/util/ArrayList$Itr", "hasNext", "()Z"⟩),
  ("java/util/LinkedHashMap$LinkedEntryIterator", ⟨"java/util/Iterator", "hasNext", "()Z"⟩, ⟨"java/util/LinkedHashMap$LinkedHashIterator", "hasNext", "()Z"⟩),
  ("java/util/LinkedHashMap$LinkedKeyIterator", ⟨"java/util/Iterator", "hasNext", "()Z"⟩, ⟨"java/util/LinkedHashMap$LinkedHashIterator", "hasNext", "()Z"⟩),
  ("java/util/LinkedHashMap$LinkedValueIterator", ⟨"java/util/Iterator", "hasNext", "()Z"⟩, ⟨"java/util/LinkedHashMap$LinkedHashIterator", "hasNext", "()Z"⟩),
  ("java/util/ArrayList$Itr", ⟨"java/util/Iterator", "next", "()Ljava/lang/Object;"⟩, ⟨"java/util/ArrayList$Itr", "next", "()Ljava/lang/Object;"⟩),
  ("java/util/LinkedHashMap$LinkedEntryIterator", ⟨"java/util/Iterator", "next", "()Ljava/lang/Object;"⟩, ⟨"java/util/LinkedHashMap$LinkedEntryIterator", "next", "()Ljava/lang/Object;"⟩),
  ("java/util/LinkedHashMap$LinkedKeyIterator", ⟨"java/util/Iterator", "next", "()Ljava/lang/Object;"⟩, ⟨"java/util/LinkedHashMap$LinkedKeyIterator", "next", "()Ljava/lang/Object;"⟩),
  ("java/util/LinkedHashMap$LinkedValueIterator", ⟨"java/util/Iterator", "next", "()Ljava/lang/Object;"⟩, ⟨"java/util/LinkedHashMap$LinkedValueIterator", "next", "()Ljava/lang/Object;"⟩),
  ("java/util/LinkedHashMap", ⟨"java/util/Map", "values", "()Ljava/util/Collection;"⟩, ⟨"java/util/LinkedHashMap", "values", "()Ljava/util/Collection;"⟩),
  ("java/util/ArrayDeque", ⟨"java/util/Collection", "iterator", "()Ljava/util/Iterator;"⟩, ⟨"java/util/ArrayDeque", "iterator", "()Ljava/util/Iterator;"⟩),
  ("java/util/ArrayList", ⟨"java/util/Collection", "iterator", "()Ljava/util/Iterator;"⟩, ⟨"java/util/ArrayList", "iterator", "()Ljava/util/Iterator;"⟩),
  ("java/util/LinkedHashMap$LinkedEntrySet", ⟨"java/util/Collection", "iterator", "()Ljava/util/Iterator;"⟩, ⟨"java/util/LinkedHashMap$LinkedEntrySet", "iterator", "()Ljava/util/Iterator;"⟩),
  ("java/util/LinkedHashMap$LinkedKeySet", ⟨"java/util/Collection", "iterator", "()Ljava/util/Iterator;"⟩, ⟨"java/util/LinkedHashMap$LinkedKeySet", "iterator", "()Ljava/util/Iterator;"⟩),
  ("java/util/LinkedHashMap$LinkedValues", ⟨"java/util/Collection", "iterator", "()Ljava/util/Iterator;"⟩, ⟨"java/util/LinkedHashMap$LinkedValues", "iterator", "()Ljava/util/Iterator;"⟩),
  ("java/util/LinkedHashSet", ⟨"java/util/Collection", "iterator", "()Ljava/util/Iterator;"⟩, ⟨"java/util/HashSet", "iterator", "()Ljava/util/Iterator;"⟩),
  ("java/util/LinkedHashMap$LinkedEntrySet", ⟨"java/util/Set", "iterator", "()Ljava/util/Iterator;"⟩, ⟨"java/util/LinkedHashMap$LinkedEntrySet", "iterator", "()Ljava/util/Iterator;"⟩),
  ("java/util/LinkedHashMap$LinkedKeySet", ⟨"java/util/Set", "iterator", "()Ljava/util/Iterator;"⟩, ⟨"java/util/LinkedHashMap$LinkedKeySet", "iterator", "()Ljava/util/Iterator;"⟩),
  ("java/util/LinkedHashSet", ⟨"java/util/Set", "iterator", "()Ljava/util/Iterator;"⟩, ⟨"java/util/HashSet", "iterator", "()Ljava/util/Iterator;"⟩),
  ("java/util/ArrayList", ⟨"java/util/List", "get", "(I)Ljava/lang/Object;"⟩, ⟨"java/util/ArrayList", "get", "(I)Ljava/lang/Object;"⟩),
  ("ElasticTruss$Chain", ⟨"ElasticTruss$Quantity", "of", "(LElasticTruss$Member;II)J"⟩, ⟨"ElasticTruss$Chain", "of", "(LElasticTruss$Member;II)J"⟩),
  ("java/util/LinkedHashSet", ⟨"java/util/Set", "add", "(Ljava/lang/Object;)Z"⟩, ⟨"java/util/HashSet", "add", "(Ljava/lang/Object;)Z"⟩),
  ("java/util/LinkedHashMap$LinkedEntrySet", ⟨"java/util/Set", "size", "()I"⟩, ⟨"java/util/LinkedHashMap$LinkedEntrySet", "size", "()I"⟩),
  ("java/util/LinkedHashMap$LinkedKeySet", ⟨"java/util/Set", "size", "()I"⟩, ⟨"java/util/LinkedHashMap$LinkedKeySet", "size", "()I"⟩),
  ("java/util/LinkedHashSet", ⟨"java/util/Set", "size", "()I"⟩, ⟨"java/util/HashSet", "size", "()I"⟩),
  ("java/util/LinkedHashMap", ⟨"java/util/Map", "putAll", "(Ljava/util/Map;)V"⟩, ⟨"java/util/HashMap", "putAll", "(Ljava/util/Map;)V"⟩),
  ("java/util/LinkedHashMap", ⟨"java/util/Map", "entrySet", "()Ljava/util/Set;"⟩, ⟨"java/util/LinkedHashMap", "entrySet", "()Ljava/util/Set;"⟩),
  ("java/util/LinkedHashMap$Entry", ⟨"java/util/Map$Entry", "getKey", "()Ljava/lang/Object;"⟩, ⟨"java/util/HashMap$Node", "getKey", "()Ljava/lang/Object;"⟩),
  ("java/util/LinkedHashMap$Entry", ⟨"java/util/Map$Entry", "getValue", "()Ljava/lang/Object;"⟩, ⟨"java/util/HashMap$Node", "getValue", "()Ljava/lang/Object;"⟩),
  ("java/util/ArrayList", ⟨"java/util/List", "add", "(Ljava/lang/Object;)Z"⟩, ⟨"java/util/ArrayList", "add", "(Ljava/lang/Object;)Z"⟩),
  ("java/util/LinkedHashMap", ⟨"java/util/Map", "containsKey", "(Ljava/lang/Object;)Z"⟩, ⟨"java/util/HashMap", "containsKey", "(Ljava/lang/Object;)Z"⟩),
  ("java/util/LinkedHashMap", ⟨"java/util/Map", "put", "(Ljava/lang/Object;Ljava/lang/Object;)Ljava/lang/Object;"⟩, ⟨"java/util/HashMap", "put", "(Ljava/lang/Object;Ljava/lang/Object;)Ljava/lang/Object;"⟩),
  ("java/util/LinkedHashMap", ⟨"java/util/Map", "keySet", "()Ljava/util/Set;"⟩, ⟨"java/util/LinkedHashMap", "keySet", "()Ljava/util/Set;"⟩),
  ("java/util/LinkedHashMap", ⟨"java/util/Map", "remove", "(Ljava/lang/Object;)Ljava/lang/Object;"⟩, ⟨"java/util/HashMap", "remove", "(Ljava/lang/Object;)Ljava/lang/Object;"⟩)]
theorem wk_fw_ok : ∀ q ∈ wk_fw, q.2.1.cls ≠ "java/lang/invoke/MethodHandle" ∧ q.2.1.cls ≠ "java/lang/invoke/VarHandle" := by decide +kernel
/-- classes whose arrays are made -/
def wk_ao : List String := ["java/lang/Object", "ElasticTruss$Member", "java/util/HashMap$Node", "ElasticTruss$Operator"]
/-- classes of arrays whose arrays are made -/
def wk_aa : List FieldType := [.object "ElasticTruss$Member", .int]
/-- pairs of classes of which the first is no second -/
def wk_nc : List (String × String) := [("java/util/LinkedHashMap$Entry", "java/util/HashMap$TreeNode"), ("java/lang/IllegalArgumentException", "java/lang/IndexOutOfBoundsException"), ("java/lang/IllegalStateException", "java/lang/IndexOutOfBoundsException"), ("java/lang/IllegalStateException", "java/lang/IllegalArgumentException")]
/-- what the lambdas of Quantity look like -/
def wk_qd : ClassFile.MethodDescriptor := { parameters := [.object "ElasticTruss$Member", .int, .int], returnType := some .long }
def wk_sh (cap : List FieldType) (cls nm : String) : Lambda.Shape := { iface := "ElasticTruss$Quantity", name := "of", sam := wk_qd, captured := cap, kind := 6, implClass := cls, implName := nm, implDesc := { parameters := cap ++ [.object "ElasticTruss$Member", .int, .int], returnType := some .long }, implItf := false, inst := wk_qd }
/-- the lambdas' sites: the method, pc, entry, shape; their kinds, 100 .. 104 -/
def wk_ls : List (MethodName × Nat × Nat × Lambda.Shape × Nat) := [
  (⟨"ElasticTruss$Truss", "<init>", "(III)V"⟩, 48, 37, wk_sh [] "ElasticTruss$Truss" "lambda$new$0", 100),
  (⟨"ElasticTruss$SetupReader", "factor", "()LElasticTruss$Quantity;"⟩, 9, 100, wk_sh [] "ElasticTruss$SetupReader" "lambda$factor$0", 101),
  (⟨"ElasticTruss$SetupReader", "factor", "()LElasticTruss$Quantity;"⟩, 24, 105, wk_sh [] "ElasticTruss$SetupReader" "lambda$factor$1", 102),
  (⟨"ElasticTruss$SetupReader", "factor", "()LElasticTruss$Quantity;"⟩, 39, 108, wk_sh [] "ElasticTruss$SetupReader" "lambda$factor$2", 103),
  (⟨"ElasticTruss$SetupReader", "factor", "()LElasticTruss$Quantity;"⟩, 129, 119, wk_sh [.int] "ElasticTruss$SetupReader" "lambda$factor$3", 104)]
abbrev Ev : Type := va_G × Nat × (Nat → Option Nat) × (Nat → ClassId)
def wk_A (E : Ev) : Nat → Prop := fun q => E.2.1 ≤ q
def wk_sv (E : Ev) (j : Nat) (q : String × String × String × Option Int32) : Value := match q.2.2.2 with
  | some i => .int i
  | none => va_rf (E.2.2.1 j)
