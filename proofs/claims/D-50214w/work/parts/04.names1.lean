set_option maxRecDepth 100000
/-! J48.java_util_LinkedHashMap_Entry.lean.txt -/
def RJ48 : String := "java/util/LinkedHashMap$Entry"
def TJ48 : u_T := fun k => match k with
  | 0 => ("java/util/HashMap$Node", "hash", "I", true)
  | 1 => ("java/util/HashMap$Node", "key", "Ljava/lang/Object;", true)
  | 2 => ("java/util/HashMap$Node", "value", "Ljava/lang/Object;", false)
  | 3 => ("java/util/HashMap$Node", "next", "Ljava/util/HashMap$Node;", false)
  | 4 => ("java/util/LinkedHashMap$Entry", "before", "Ljava/util/LinkedHashMap$Entry;", false)
  | _ => ("java/util/LinkedHashMap$Entry", "after", "Ljava/util/LinkedHashMap$Entry;", false)
def tyJ48 : Nat → FieldType := fun k => match k with
  | 0 => .int
  | 1 => .object "java/lang/Object"
  | 2 => .object "java/lang/Object"
  | 3 => .object "java/util/HashMap$Node"
  | 4 => .object "java/util/LinkedHashMap$Entry"
  | _ => .object "java/util/LinkedHashMap$Entry"
abbrev wsJ480 : List Cond := u_ws RJ48 TJ48 6
theorem nmJ48 : ∀ a, a < 6 → ∀ b, b < 6 → a ≠ b → (TJ48 a).2.1 ≠ (TJ48 b).2.1 := by decide +kernel
theorem tyJ48_ok : ∀ k, k < 6 → parseFieldDescriptor (TJ48 k).2.2.1 = some (tyJ48 k) := by decide +kernel
abbrev cJ48_init : ByteArray := prog_73_method_1_code
def yJ48_init : MethodName := ⟨RJ48, "<init>", "(ILjava/lang/Object;Ljava/lang/Object;Ljava/util/HashMap$Node;)V"⟩
def dkwJ48_init_0 : List UInt8 := [42, 27, 44, 45, 25, 4, 183, 0, 1, 177]
abbrev dktJ48_init_0 : List UInt8 := dkwJ48_init_0 ++ []
theorem dksJ48_init_0 : cJ48_init.data.toList.drop 0 = dktJ48_init_0 := by decide +kernel
theorem dJ48_init_0 : decode cJ48_init 0 = .ok (.aload_n 0, 1) := dk_42 (dk_at dksJ48_init_0 0 rfl rfl)
theorem dJ48_init_1 : decode cJ48_init 1 = .ok (.iload_n 1, 1) := dk_27 (dk_at dksJ48_init_0 1 rfl rfl)
theorem dJ48_init_2 : decode cJ48_init 2 = .ok (.aload_n 2, 1) := dk_44 (dk_at dksJ48_init_0 2 rfl rfl)
theorem dJ48_init_3 : decode cJ48_init 3 = .ok (.aload_n 3, 1) := dk_45 (dk_at dksJ48_init_0 3 rfl rfl)
theorem dJ48_init_4 : decode cJ48_init 4 = .ok (.aload 4, 2) := dk_25 4 (dk_at dksJ48_init_0 4 rfl rfl)
theorem dJ48_init_6 : decode cJ48_init 6 = .ok (.invokespecial 1, 3) := dk_183 0 1 (dk_at dksJ48_init_0 6 rfl rfl)
theorem dJ48_init_9 : decode cJ48_init 9 = .ok (.return_, 1) := dk_177 (dk_at dksJ48_init_0 9 rfl rfl)
theorem q194 : (Jvm.Cond.initialized "java/util/LinkedHashMap$Entry") ∈ lw_all := lw_g (lw_at lw_m1 67 rfl) rfl
theorem q1595 : (Jvm.Cond.sameMethod "java/util/LinkedHashMap$Entry" "java/util/HashMap$Node" "getKey" "()Ljava/lang/Object;") ∈ lw_all := lw_g (lw_at lw_m7 28 rfl) rfl
theorem q1598 : (Jvm.Cond.selects "java/util/LinkedHashMap$Entry" ({ cls := "java/util/LinkedHashMap$Entry", name := "getKey", desc := "()Ljava/lang/Object;" } : Jvm.MethodName) ({ cls := "java/util/HashMap$Node", name := "getKey", desc := "()Ljava/lang/Object;" } : Jvm.MethodName)) ∈ lw_all := lw_g (lw_at lw_m7 31 rfl) rfl
theorem q2858 : (Jvm.Cond.instantiable "java/util/LinkedHashMap$Entry" (6 : Nat)) ∈ lw_all := lw_g (lw_at lw_m12 91 rfl) rfl
theorem q2860 : (Jvm.Cond.instanceMethod ({ cls := "java/util/LinkedHashMap$Entry", name := "<init>", desc := "(ILjava/lang/Object;Ljava/lang/Object;Ljava/util/HashMap$Node;)V" } : Jvm.MethodName)) ∈ lw_all := lw_g (lw_at lw_m12 93 rfl) rfl
theorem q2861 : (Jvm.Cond.code ({ cls := "java/util/LinkedHashMap$Entry", name := "<init>", desc := "(ILjava/lang/Object;Ljava/lang/Object;Ljava/util/HashMap$Node;)V" } : Jvm.MethodName) prog_73_method_1_code (5 : Nat) (Option.none : Option Jvm.ClassFile.FieldType)) ∈ lw_all := lw_g (lw_at lw_m12 94 rfl) rfl
theorem q2862 : (Jvm.Cond.methodLink "java/util/LinkedHashMap$Entry" (1 : Nat) ({ cls := "java/util/HashMap$Node", name := "<init>", desc := "(ILjava/lang/Object;Ljava/lang/Object;Ljava/util/HashMap$Node;)V" } : Jvm.MethodName)) ∈ lw_all := lw_g (lw_at lw_m12 95 rfl) rfl
theorem q2885 : (Jvm.Cond.sameField "java/util/LinkedHashMap$Entry" "java/util/HashMap$Node" "value" "Ljava/lang/Object;") ∈ lw_all := lw_g (lw_at lw_m12 118 rfl) rfl
theorem q3309 : (Jvm.Cond.castable "java/util/LinkedHashMap$Entry" "java/util/Map$Entry") ∈ lw_tbl := lw_at lw_m14 62 rfl
theorem q3310 : (Jvm.Cond.selects "java/util/LinkedHashMap$Entry" ({ cls := "java/util/Map$Entry", name := "getValue", desc := "()Ljava/lang/Object;" } : Jvm.MethodName) ({ cls := "java/util/HashMap$Node", name := "getValue", desc := "()Ljava/lang/Object;" } : Jvm.MethodName)) ∈ lw_all := lw_g (lw_at lw_m14 63 rfl) rfl
theorem q3311 : (Jvm.Cond.unhidden "java/util/LinkedHashMap$Entry" "getValue" "()Ljava/lang/Object;") ∈ lw_tbl := lw_at lw_m14 64 rfl
theorem q3321 : (Jvm.Cond.selects "java/util/LinkedHashMap$Entry" ({ cls := "java/util/Map$Entry", name := "getKey", desc := "()Ljava/lang/Object;" } : Jvm.MethodName) ({ cls := "java/util/HashMap$Node", name := "getKey", desc := "()Ljava/lang/Object;" } : Jvm.MethodName)) ∈ lw_all := lw_g (lw_at lw_m14 74 rfl) rfl
theorem q3322 : (Jvm.Cond.unhidden "java/util/LinkedHashMap$Entry" "getKey" "()Ljava/lang/Object;") ∈ lw_tbl := lw_at lw_m14 75 rfl
theorem q4704 : (Jvm.Cond.castable "java/util/LinkedHashMap$Entry" "java/lang/Object") ∈ lw_tbl := lw_at lw_m20 17 rfl
theorem q4713 : (Jvm.Cond.castable "java/util/LinkedHashMap$Entry" "java/util/HashMap$Node") ∈ lw_tbl := lw_at lw_m20 26 rfl
theorem in_J48 : ∀ w ∈ wsJ480, w ∈ lw_all := lw_in wsJ480 [2900, 2902, 2904, 2906, 2896, 2898] (by decide +kernel) (by decide +kernel)
/-! J49.java_util_HashMap_TreeNode.lean.txt -/
def RJ49 : String := "java/util/HashMap$TreeNode"
def TJ49 : u_T := fun k => match k with
  | 0 => ("java/util/HashMap$Node", "hash", "I", true)
  | 1 => ("java/util/HashMap$Node", "key", "Ljava/lang/Object;", true)
  | 2 => ("java/util/HashMap$Node", "value", "Ljava/lang/Object;", false)
  | 3 => ("java/util/HashMap$Node", "next", "Ljava/util/HashMap$Node;", false)
  | 4 => ("java/util/LinkedHashMap$Entry", "before", "Ljava/util/LinkedHashMap$Entry;", false)
  | 5 => ("java/util/LinkedHashMap$Entry", "after", "Ljava/util/LinkedHashMap$Entry;", false)
  | 6 => ("java/util/HashMap$TreeNode", "parent", "Ljava/util/HashMap$TreeNode;", false)
  | 7 => ("java/util/HashMap$TreeNode", "left", "Ljava/util/HashMap$TreeNode;", false)
  | 8 => ("java/util/HashMap$TreeNode", "right", "Ljava/util/HashMap$TreeNode;", false)
  | 9 => ("java/util/HashMap$TreeNode", "prev", "Ljava/util/HashMap$TreeNode;", false)
  | _ => ("java/util/HashMap$TreeNode", "red", "Z", false)
def tyJ49 : Nat → FieldType := fun k => match k with
  | 0 => .int
  | 1 => .object "java/lang/Object"
  | 2 => .object "java/lang/Object"
  | 3 => .object "java/util/HashMap$Node"
  | 4 => .object "java/util/LinkedHashMap$Entry"
  | 5 => .object "java/util/LinkedHashMap$Entry"
  | 6 => .object "java/util/HashMap$TreeNode"
  | 7 => .object "java/util/HashMap$TreeNode"
  | 8 => .object "java/util/HashMap$TreeNode"
  | 9 => .object "java/util/HashMap$TreeNode"
  | _ => .boolean
abbrev wsJ490 : List Cond := u_ws RJ49 TJ49 11
theorem nmJ49 : ∀ a, a < 11 → ∀ b, b < 11 → a ≠ b → (TJ49 a).2.1 ≠ (TJ49 b).2.1 := by decide +kernel
theorem tyJ49_ok : ∀ k, k < 11 → parseFieldDescriptor (TJ49 k).2.2.1 = some (tyJ49 k) := by decide +kernel
theorem in_J49 : ∀ w ∈ wsJ490, w ∈ lw_all := lw_in wsJ490 [2977, 2978, 2979, 2980, 2975, 2976, 2965, 2967, 2969, 2971, 2973] (by decide +kernel) (by decide +kernel)
/-! J5.java_lang_StringUTF16.lean.txt -/
def RJ5 : String := "java/lang/StringUTF16"
/-! J50.java_util_LinkedHashMap_LinkedEntrySet.lean.txt -/
def RJ50 : String := "java/util/LinkedHashMap$LinkedEntrySet"
def TJ50 : u_T := fun k => match k with
  | 0 => ("java/util/LinkedHashMap$LinkedEntrySet", "reversed", "Z", true)
  | _ => ("java/util/LinkedHashMap$LinkedEntrySet", "this$0", "Ljava/util/LinkedHashMap;", true)
def tyJ50 : Nat → FieldType := fun k => match k with
  | 0 => .boolean
  | _ => .object "java/util/LinkedHashMap"
abbrev wsJ500 : List Cond := u_ws RJ50 TJ50 2
theorem nmJ50 : ∀ a, a < 2 → ∀ b, b < 2 → a ≠ b → (TJ50 a).2.1 ≠ (TJ50 b).2.1 := by decide +kernel
theorem tyJ50_ok : ∀ k, k < 2 → parseFieldDescriptor (TJ50 k).2.2.1 = some (tyJ50 k) := by decide +kernel
abbrev cJ50_iterator : ByteArray := prog_75_method_4_code
def yJ50_iterator : MethodName := ⟨RJ50, "iterator", "()Ljava/util/Iterator;"⟩
def dkwJ50_iterator_0 : List UInt8 := [187, 0, 26, 89, 42, 180, 0, 1, 42, 180, 0, 13, 183, 0, 28, 176]
abbrev dktJ50_iterator_0 : List UInt8 := dkwJ50_iterator_0 ++ []
theorem dksJ50_iterator_0 : cJ50_iterator.data.toList.drop 0 = dktJ50_iterator_0 := by decide +kernel
theorem dJ50_iterator_0 : decode cJ50_iterator 0 = .ok (.new 26, 3) := dk_187 0 26 (dk_at dksJ50_iterator_0 0 rfl rfl)
theorem dJ50_iterator_3 : decode cJ50_iterator 3 = .ok (.dup, 1) := dk_89 (dk_at dksJ50_iterator_0 3 rfl rfl)
theorem dJ50_iterator_4 : decode cJ50_iterator 4 = .ok (.aload_n 0, 1) := dk_42 (dk_at dksJ50_iterator_0 4 rfl rfl)
theorem dJ50_iterator_5 : decode cJ50_iterator 5 = .ok (.getfield 1, 3) := dk_180 0 1 (dk_at dksJ50_iterator_0 5 rfl rfl)
theorem dJ50_iterator_8 : decode cJ50_iterator 8 = .ok (.aload_n 0, 1) := dk_42 (dk_at dksJ50_iterator_0 8 rfl rfl)
theorem dJ50_iterator_9 : decode cJ50_iterator 9 = .ok (.getfield 13, 3) := dk_180 0 13 (dk_at dksJ50_iterator_0 9 rfl rfl)
theorem dJ50_iterator_12 : decode cJ50_iterator 12 = .ok (.invokespecial 28, 3) := dk_183 0 28 (dk_at dksJ50_iterator_0 12 rfl rfl)
theorem dJ50_iterator_15 : decode cJ50_iterator 15 = .ok (.areturn, 1) := dk_176 (dk_at dksJ50_iterator_0 15 rfl rfl)
abbrev cJ50_init : ByteArray := prog_75_method_1_code
def yJ50_init : MethodName := ⟨RJ50, "<init>", "(Ljava/util/LinkedHashMap;Z)V"⟩
def dkwJ50_init_0 : List UInt8 := [42, 43, 181, 0, 1, 42, 183, 0, 7, 42, 28, 181, 0, 13, 177]
abbrev dktJ50_init_0 : List UInt8 := dkwJ50_init_0 ++ []
theorem dksJ50_init_0 : cJ50_init.data.toList.drop 0 = dktJ50_init_0 := by decide +kernel
theorem dJ50_init_0 : decode cJ50_init 0 = .ok (.aload_n 0, 1) := dk_42 (dk_at dksJ50_init_0 0 rfl rfl)
theorem dJ50_init_1 : decode cJ50_init 1 = .ok (.aload_n 1, 1) := dk_43 (dk_at dksJ50_init_0 1 rfl rfl)
theorem dJ50_init_2 : decode cJ50_init 2 = .ok (.putfield 1, 3) := dk_181 0 1 (dk_at dksJ50_init_0 2 rfl rfl)
theorem dJ50_init_5 : decode cJ50_init 5 = .ok (.aload_n 0, 1) := dk_42 (dk_at dksJ50_init_0 5 rfl rfl)
theorem dJ50_init_6 : decode cJ50_init 6 = .ok (.invokespecial 7, 3) := dk_183 0 7 (dk_at dksJ50_init_0 6 rfl rfl)
theorem dJ50_init_9 : decode cJ50_init 9 = .ok (.aload_n 0, 1) := dk_42 (dk_at dksJ50_init_0 9 rfl rfl)
theorem dJ50_init_10 : decode cJ50_init 10 = .ok (.iload_n 2, 1) := dk_28 (dk_at dksJ50_init_0 10 rfl rfl)
theorem dJ50_init_11 : decode cJ50_init 11 = .ok (.putfield 13, 3) := dk_181 0 13 (dk_at dksJ50_init_0 11 rfl rfl)
theorem dJ50_init_14 : decode cJ50_init 14 = .ok (.return_, 1) := dk_177 (dk_at dksJ50_init_0 14 rfl rfl)
theorem q196 : (Jvm.Cond.initialized "java/util/LinkedHashMap$LinkedEntrySet") ∈ lw_all := lw_g (lw_at lw_m1 69 rfl) rfl
theorem q1835 : (Jvm.Cond.unhidden "java/util/LinkedHashMap$LinkedEntrySet" "iterator" "()Ljava/util/Iterator;") ∈ lw_tbl := lw_at lw_m8 28 rfl
theorem q1836 : (Jvm.Cond.instanceMethod ({ cls := "java/util/LinkedHashMap$LinkedEntrySet", name := "iterator", desc := "()Ljava/util/Iterator;" } : Jvm.MethodName)) ∈ lw_all := lw_g (lw_at lw_m8 29 rfl) rfl
theorem q1837 : (Jvm.Cond.publicMethod ({ cls := "java/util/LinkedHashMap$LinkedEntrySet", name := "iterator", desc := "()Ljava/util/Iterator;" } : Jvm.MethodName)) ∈ lw_tbl := lw_at lw_m8 30 rfl
theorem q1838 : (Jvm.Cond.code ({ cls := "java/util/LinkedHashMap$LinkedEntrySet", name := "iterator", desc := "()Ljava/util/Iterator;" } : Jvm.MethodName) prog_75_method_4_code (1 : Nat) (Option.some (Jvm.ClassFile.FieldType.object "java/util/Iterator"))) ∈ lw_all := lw_g (lw_at lw_m8 31 rfl) rfl
theorem q1839 : (Jvm.Cond.classLink "java/util/LinkedHashMap$LinkedEntrySet" (26 : Nat) "java/util/LinkedHashMap$LinkedEntryIterator") ∈ lw_all := lw_g (lw_at lw_m8 32 rfl) rfl
theorem q1841 : (Jvm.Cond.methodLink "java/util/LinkedHashMap$LinkedEntrySet" (28 : Nat) ({ cls := "java/util/LinkedHashMap$LinkedEntryIterator", name := "<init>", desc := "(Ljava/util/LinkedHashMap;Z)V" } : Jvm.MethodName)) ∈ lw_all := lw_g (lw_at lw_m8 34 rfl) rfl
theorem q1940 : (Jvm.Cond.castable "java/util/LinkedHashMap$LinkedEntrySet" "java/util/Set") ∈ lw_tbl := lw_at lw_m8 133 rfl
theorem q1941 : (Jvm.Cond.selects "java/util/LinkedHashMap$LinkedEntrySet" ({ cls := "java/util/Set", name := "iterator", desc := "()Ljava/util/Iterator;" } : Jvm.MethodName) ({ cls := "java/util/LinkedHashMap$LinkedEntrySet", name := "iterator", desc := "()Ljava/util/Iterator;" } : Jvm.MethodName)) ∈ lw_all := lw_g (lw_at lw_m8 134 rfl) rfl
theorem q3283 : (Jvm.Cond.instantiable "java/util/LinkedHashMap$LinkedEntrySet" (2 : Nat)) ∈ lw_all := lw_g (lw_at lw_m14 36 rfl) rfl
theorem q3285 : (Jvm.Cond.instanceMethod ({ cls := "java/util/LinkedHashMap$LinkedEntrySet", name := "<init>", desc := "(Ljava/util/LinkedHashMap;Z)V" } : Jvm.MethodName)) ∈ lw_all := lw_g (lw_at lw_m14 38 rfl) rfl
theorem q3286 : (Jvm.Cond.code ({ cls := "java/util/LinkedHashMap$LinkedEntrySet", name := "<init>", desc := "(Ljava/util/LinkedHashMap;Z)V" } : Jvm.MethodName) prog_75_method_1_code (3 : Nat) (Option.none : Option Jvm.ClassFile.FieldType)) ∈ lw_all := lw_g (lw_at lw_m14 39 rfl) rfl
theorem q3287 : (Jvm.Cond.methodLink "java/util/LinkedHashMap$LinkedEntrySet" (7 : Nat) ({ cls := "java/util/AbstractSet", name := "<init>", desc := "()V" } : Jvm.MethodName)) ∈ lw_all := lw_g (lw_at lw_m14 40 rfl) rfl
theorem q3288 : (Jvm.Cond.fieldLink "java/util/LinkedHashMap$LinkedEntrySet" (13 : Nat) "java/util/LinkedHashMap$LinkedEntrySet" "reversed" "Z") ∈ lw_all := lw_g (lw_at lw_m14 41 rfl) rfl
theorem q3289 : (Jvm.Cond.fieldLink "java/util/LinkedHashMap$LinkedEntrySet" (1 : Nat) "java/util/LinkedHashMap$LinkedEntrySet" "this$0" "Ljava/util/LinkedHashMap;") ∈ lw_all := lw_g (lw_at lw_m14 42 rfl) rfl
theorem q4649 : (Jvm.Cond.castable "java/util/LinkedHashMap$LinkedEntrySet" "java/util/SequencedSet") ∈ lw_tbl := lw_at lw_m19 202 rfl
theorem q4706 : (Jvm.Cond.castable "java/util/LinkedHashMap$LinkedEntrySet" "java/lang/Object") ∈ lw_tbl := lw_at lw_m20 19 rfl
theorem in_J50 : ∀ w ∈ wsJ500, w ∈ lw_all := lw_in wsJ500 [3290, 3292] (by decide +kernel) (by decide +kernel)
/-! J51.java_lang_StringIndexOutOfBoundsException.lean.txt -/
def RJ51 : String := "java/lang/StringIndexOutOfBoundsException"
def TJ51 : u_T := fun k => match k with
  | 0 => ("java/lang/Throwable", "backtrace", "Ljava/lang/Object;", false)
  | 1 => ("java/lang/Throwable", "detailMessage", "Ljava/lang/String;", false)
  | 2 => ("java/lang/Throwable", "cause", "Ljava/lang/Throwable;", false)
  | 3 => ("java/lang/Throwable", "stackTrace", "[Ljava/lang/StackTraceElement;", false)
  | 4 => ("java/lang/Throwable", "depth", "I", false)
  | _ => ("java/lang/Throwable", "suppressedExceptions", "Ljava/util/List;", false)
def tyJ51 : Nat → FieldType := fun k => match k with
  | 0 => .object "java/lang/Object"
  | 1 => .object "java/lang/String"
  | 2 => .object "java/lang/Throwable"
  | 3 => .array (.object "java/lang/StackTraceElement")
  | 4 => .int
  | _ => .object "java/util/List"
abbrev wsJ510 : List Cond := u_ws RJ51 TJ51 6
theorem nmJ51 : ∀ a, a < 6 → ∀ b, b < 6 → a ≠ b → (TJ51 a).2.1 ≠ (TJ51 b).2.1 := by decide +kernel
theorem tyJ51_ok : ∀ k, k < 6 → parseFieldDescriptor (TJ51 k).2.2.1 = some (tyJ51 k) := by decide +kernel
theorem in_J51 : ∀ w ∈ wsJ510, w ∈ lw_all := lw_in wsJ510 [3684, 3685, 3686, 3687, 3688, 3689] (by decide +kernel) (by decide +kernel)
/-! J52.java_lang_Object.lean.txt -/
def RJ52 : String := "java/lang/Object"
theorem q207 : (Jvm.Cond.instanceMethod ({ cls := "java/lang/Object", name := "<init>", desc := "()V" } : Jvm.MethodName)) ∈ lw_all := lw_g (lw_at lw_m1 80 rfl) rfl
theorem q208 : (Jvm.Cond.code ({ cls := "java/lang/Object", name := "<init>", desc := "()V" } : Jvm.MethodName) object_method_1_code (1 : Nat) (Option.none : Option Jvm.ClassFile.FieldType)) ∈ lw_all := lw_g (lw_at lw_m1 81 rfl) rfl
theorem q2016 : (Jvm.Cond.declares ({ cls := "java/lang/Object", name := "hashCode", desc := "()I" } : Jvm.MethodName)) ∈ lw_tbl := lw_at lw_m8 209 rfl
theorem q2019 : (Jvm.Cond.sameMethod "java/lang/Object" "java/lang/Object" "hashCode" "()I") ∈ lw_all := lw_g (lw_at lw_m8 212 rfl) rfl
theorem q2058 : (Jvm.Cond.instanceMethod ({ cls := "java/lang/Object", name := "equals", desc := "(Ljava/lang/Object;)Z" } : Jvm.MethodName)) ∈ lw_all := lw_g (lw_at lw_m9 11 rfl) rfl
theorem q2059 : (Jvm.Cond.sameMethod "java/lang/Object" "java/lang/Object" "equals" "(Ljava/lang/Object;)Z") ∈ lw_all := lw_g (lw_at lw_m9 12 rfl) rfl
theorem q2098 : (Jvm.Cond.code ({ cls := "java/lang/Object", name := "equals", desc := "(Ljava/lang/Object;)Z" } : Jvm.MethodName) object_method_4_code (2 : Nat) (Option.some Jvm.ClassFile.FieldType.boolean)) ∈ lw_all := lw_g (lw_at lw_m9 51 rfl) rfl
/-! J53.java_lang_System_2.lean.txt -/
def RJ53 : String := "java/lang/System$2"
/-! J6.java_lang_Throwable.lean.txt -/
def RJ6 : String := "java/lang/Throwable"
def TJ6 : u_T := fun k => match k with
  | 0 => ("java/lang/Throwable", "cause", "Ljava/lang/Throwable;", false)
  | 1 => ("java/lang/Throwable", "stackTrace", "[Ljava/lang/StackTraceElement;", false)
  | 2 => ("java/lang/Throwable", "suppressedExceptions", "Ljava/util/List;", false)
  | 3 => ("java/lang/Throwable", "detailMessage", "Ljava/lang/String;", false)
  | _ => ("java/lang/Throwable", "backtrace", "Ljava/lang/Object;", false)
def tyJ6 : Nat → FieldType := fun k => match k with
  | 0 => .object "java/lang/Throwable"
  | 1 => .array (.object "java/lang/StackTraceElement")
  | 2 => .object "java/util/List"
  | 3 => .object "java/lang/String"
  | _ => .object "java/lang/Object"
abbrev wsJ60 : List Cond := u_ws RJ6 TJ6 5
theorem nmJ6 : ∀ a, a < 5 → ∀ b, b < 5 → a ≠ b → (TJ6 a).2.1 ≠ (TJ6 b).2.1 := by decide +kernel
theorem tyJ6_ok : ∀ k, k < 5 → parseFieldDescriptor (TJ6 k).2.2.1 = some (tyJ6 k) := by decide +kernel
abbrev cJ6_init_3 : ByteArray := prog_50_method_5_code
def yJ6_init_3 : MethodName := ⟨RJ6, "<init>", "(Ljava/lang/String;Ljava/lang/Throwable;ZZ)V"⟩
def dkwJ6_init_3_2 : List UInt8 := [44, 181, 0, 7, 29, 154, 0, 8, 42, 1, 181, 0, 24, 177]
abbrev dktJ6_init_3_2 : List UInt8 := dkwJ6_init_3_2 ++ []
def dkwJ6_init_3_1 : List UInt8 := [21, 4, 153, 0, 11, 42, 182, 0, 27, 87, 167, 0, 8, 42, 1, 181, 0, 17, 42, 43, 181, 0, 31, 42]
abbrev dktJ6_init_3_1 : List UInt8 := dkwJ6_init_3_1 ++ dktJ6_init_3_2
def dkwJ6_init_3_0 : List UInt8 := [42, 183, 0, 1, 42, 42, 181, 0, 7, 42, 178, 0, 13, 181, 0, 17, 42, 178, 0, 20, 181, 0, 24]
abbrev dktJ6_init_3_0 : List UInt8 := dkwJ6_init_3_0 ++ dktJ6_init_3_1
theorem dksJ6_init_3_0 : cJ6_init_3.data.toList.drop 0 = dktJ6_init_3_0 := by decide +kernel
theorem dksJ6_init_3_1 : cJ6_init_3.data.toList.drop 23 = dktJ6_init_3_1 := dk_seg dksJ6_init_3_0 23 rfl rfl
theorem dksJ6_init_3_2 : cJ6_init_3.data.toList.drop 47 = dktJ6_init_3_2 := dk_seg dksJ6_init_3_1 24 rfl rfl
theorem dJ6_init_3_0 : decode cJ6_init_3 0 = .ok (.aload_n 0, 1) := dk_42 (dk_at dksJ6_init_3_0 0 rfl rfl)
theorem dJ6_init_3_1 : decode cJ6_init_3 1 = .ok (.invokespecial 1, 3) := dk_183 0 1 (dk_at dksJ6_init_3_0 1 rfl rfl)
theorem dJ6_init_3_4 : decode cJ6_init_3 4 = .ok (.aload_n 0, 1) := dk_42 (dk_at dksJ6_init_3_0 4 rfl rfl)
theorem dJ6_init_3_5 : decode cJ6_init_3 5 = .ok (.aload_n 0, 1) := dk_42 (dk_at dksJ6_init_3_0 5 rfl rfl)
theorem dJ6_init_3_6 : decode cJ6_init_3 6 = .ok (.putfield 7, 3) := dk_181 0 7 (dk_at dksJ6_init_3_0 6 rfl rfl)
theorem dJ6_init_3_9 : decode cJ6_init_3 9 = .ok (.aload_n 0, 1) := dk_42 (dk_at dksJ6_init_3_0 9 rfl rfl)
theorem dJ6_init_3_10 : decode cJ6_init_3 10 = .ok (.getstatic 13, 3) := dk_178 0 13 (dk_at dksJ6_init_3_0 10 rfl rfl)
theorem dJ6_init_3_13 : decode cJ6_init_3 13 = .ok (.putfield 17, 3) := dk_181 0 17 (dk_at dksJ6_init_3_0 13 rfl rfl)
theorem dJ6_init_3_16 : decode cJ6_init_3 16 = .ok (.aload_n 0, 1) := dk_42 (dk_at dksJ6_init_3_0 16 rfl rfl)
theorem dJ6_init_3_17 : decode cJ6_init_3 17 = .ok (.getstatic 20, 3) := dk_178 0 20 (dk_at dksJ6_init_3_0 17 rfl rfl)
theorem dJ6_init_3_20 : decode cJ6_init_3 20 = .ok (.putfield 24, 3) := dk_181 0 24 (dk_at dksJ6_init_3_0 20 rfl rfl)
theorem dJ6_init_3_23 : decode cJ6_init_3 23 = .ok (.iload 4, 2) := dk_21 4 (dk_at dksJ6_init_3_1 0 rfl rfl)
theorem dJ6_init_3_25 : decode cJ6_init_3 25 = .ok (.ifCond .eq 11, 3) := dk_153 0 11 (dk_at dksJ6_init_3_1 2 rfl rfl)
theorem dJ6_init_3_28 : decode cJ6_init_3 28 = .ok (.aload_n 0, 1) := dk_42 (dk_at dksJ6_init_3_1 5 rfl rfl)
theorem dJ6_init_3_36 : decode cJ6_init_3 36 = .ok (.aload_n 0, 1) := dk_42 (dk_at dksJ6_init_3_1 13 rfl rfl)
theorem dJ6_init_3_37 : decode cJ6_init_3 37 = .ok (.aconst_null, 1) := dk_1 (dk_at dksJ6_init_3_1 14 rfl rfl)
theorem dJ6_init_3_38 : decode cJ6_init_3 38 = .ok (.putfield 17, 3) := dk_181 0 17 (dk_at dksJ6_init_3_1 15 rfl rfl)
theorem dJ6_init_3_41 : decode cJ6_init_3 41 = .ok (.aload_n 0, 1) := dk_42 (dk_at dksJ6_init_3_1 18 rfl rfl)
theorem dJ6_init_3_42 : decode cJ6_init_3 42 = .ok (.aload_n 1, 1) := dk_43 (dk_at dksJ6_init_3_1 19 rfl rfl)
theorem dJ6_init_3_43 : decode cJ6_init_3 43 = .ok (.putfield 31, 3) := dk_181 0 31 (dk_at dksJ6_init_3_1 20 rfl rfl)
theorem dJ6_init_3_46 : decode cJ6_init_3 46 = .ok (.aload_n 0, 1) := dk_42 (dk_at dksJ6_init_3_1 23 rfl rfl)
theorem dJ6_init_3_47 : decode cJ6_init_3 47 = .ok (.aload_n 2, 1) := dk_44 (dk_at dksJ6_init_3_2 0 rfl rfl)
theorem dJ6_init_3_48 : decode cJ6_init_3 48 = .ok (.putfield 7, 3) := dk_181 0 7 (dk_at dksJ6_init_3_2 1 rfl rfl)
theorem dJ6_init_3_51 : decode cJ6_init_3 51 = .ok (.iload_n 3, 1) := dk_29 (dk_at dksJ6_init_3_2 4 rfl rfl)
theorem dJ6_init_3_52 : decode cJ6_init_3 52 = .ok (.ifCond .ne 8, 3) := dk_154 0 8 (dk_at dksJ6_init_3_2 5 rfl rfl)
theorem dJ6_init_3_55 : decode cJ6_init_3 55 = .ok (.aload_n 0, 1) := dk_42 (dk_at dksJ6_init_3_2 8 rfl rfl)
theorem dJ6_init_3_56 : decode cJ6_init_3 56 = .ok (.aconst_null, 1) := dk_1 (dk_at dksJ6_init_3_2 9 rfl rfl)
theorem dJ6_init_3_57 : decode cJ6_init_3 57 = .ok (.putfield 24, 3) := dk_181 0 24 (dk_at dksJ6_init_3_2 10 rfl rfl)
theorem dJ6_init_3_60 : decode cJ6_init_3 60 = .ok (.return_, 1) := dk_177 (dk_at dksJ6_init_3_2 13 rfl rfl)
theorem q136 : (Jvm.Cond.initialized "java/lang/Throwable") ∈ lw_all := lw_g (lw_at lw_m1 9 rfl) rfl
theorem q341 : (Jvm.Cond.methodLink "java/lang/Throwable" (1 : Nat) ({ cls := "java/lang/Object", name := "<init>", desc := "()V" } : Jvm.MethodName)) ∈ lw_all := lw_g (lw_at lw_m1 214 rfl) rfl
theorem q342 : (Jvm.Cond.fieldLink "java/lang/Throwable" (13 : Nat) "java/lang/Throwable" "UNASSIGNED_STACK" "[Ljava/lang/StackTraceElement;") ∈ lw_all := lw_g (lw_at lw_m1 215 rfl) rfl
theorem q344 : (Jvm.Cond.fieldLink "java/lang/Throwable" (20 : Nat) "java/lang/Throwable" "SUPPRESSED_SENTINEL" "Ljava/util/List;") ∈ lw_all := lw_g (lw_at lw_m1 217 rfl) rfl
theorem q363 : (Jvm.Cond.fieldLink "java/lang/Throwable" (31 : Nat) "java/lang/Throwable" "detailMessage" "Ljava/lang/String;") ∈ lw_all := lw_g (lw_at lw_m1 236 rfl) rfl
theorem q364 : (Jvm.Cond.fieldLink "java/lang/Throwable" (7 : Nat) "java/lang/Throwable" "cause" "Ljava/lang/Throwable;") ∈ lw_all := lw_g (lw_at lw_m1 237 rfl) rfl
theorem q365 : (Jvm.Cond.fieldLink "java/lang/Throwable" (17 : Nat) "java/lang/Throwable" "stackTrace" "[Ljava/lang/StackTraceElement;") ∈ lw_all := lw_g (lw_at lw_m1 238 rfl) rfl
theorem q366 : (Jvm.Cond.fieldLink "java/lang/Throwable" (24 : Nat) "java/lang/Throwable" "suppressedExceptions" "Ljava/util/List;") ∈ lw_all := lw_g (lw_at lw_m1 239 rfl) rfl
theorem q605 : (Jvm.Cond.instanceMethod ({ cls := "java/lang/Throwable", name := "<init>", desc := "(Ljava/lang/String;Ljava/lang/Throwable;ZZ)V" } : Jvm.MethodName)) ∈ lw_all := lw_g (lw_at lw_m2 238 rfl) rfl
theorem q606 : (Jvm.Cond.code ({ cls := "java/lang/Throwable", name := "<init>", desc := "(Ljava/lang/String;Ljava/lang/Throwable;ZZ)V" } : Jvm.MethodName) prog_50_method_5_code (5 : Nat) (Option.none : Option Jvm.ClassFile.FieldType)) ∈ lw_all := lw_g (lw_at lw_m2 239 rfl) rfl
theorem in_J6 : ∀ w ∈ wsJ60, w ∈ lw_all := lw_in wsJ60 [390, 391, 392, 393, 394] (by decide +kernel) (by decide +kernel)
/-! J7.java_lang_Exception.lean.txt -/
def RJ7 : String := "java/lang/Exception"
abbrev cJ7_init_3 : ByteArray := prog_30_method_5_code
def yJ7_init_3 : MethodName := ⟨RJ7, "<init>", "(Ljava/lang/String;Ljava/lang/Throwable;ZZ)V"⟩
def dkwJ7_init_3_0 : List UInt8 := [42, 43, 44, 29, 21, 4, 183, 0, 16, 177]
abbrev dktJ7_init_3_0 : List UInt8 := dkwJ7_init_3_0 ++ []
theorem dksJ7_init_3_0 : cJ7_init_3.data.toList.drop 0 = dktJ7_init_3_0 := by decide +kernel
theorem dJ7_init_3_0 : decode cJ7_init_3 0 = .ok (.aload_n 0, 1) := dk_42 (dk_at dksJ7_init_3_0 0 rfl rfl)
theorem dJ7_init_3_1 : decode cJ7_init_3 1 = .ok (.aload_n 1, 1) := dk_43 (dk_at dksJ7_init_3_0 1 rfl rfl)
theorem dJ7_init_3_2 : decode cJ7_init_3 2 = .ok (.aload_n 2, 1) := dk_44 (dk_at dksJ7_init_3_0 2 rfl rfl)
theorem dJ7_init_3_3 : decode cJ7_init_3 3 = .ok (.iload_n 3, 1) := dk_29 (dk_at dksJ7_init_3_0 3 rfl rfl)
theorem dJ7_init_3_4 : decode cJ7_init_3 4 = .ok (.iload 4, 2) := dk_21 4 (dk_at dksJ7_init_3_0 4 rfl rfl)
theorem dJ7_init_3_6 : decode cJ7_init_3 6 = .ok (.invokespecial 16, 3) := dk_183 0 16 (dk_at dksJ7_init_3_0 6 rfl rfl)
theorem dJ7_init_3_9 : decode cJ7_init_3 9 = .ok (.return_, 1) := dk_177 (dk_at dksJ7_init_3_0 9 rfl rfl)
theorem q137 : (Jvm.Cond.initialized "java/lang/Exception") ∈ lw_all := lw_g (lw_at lw_m1 10 rfl) rfl
theorem q602 : (Jvm.Cond.instanceMethod ({ cls := "java/lang/Exception", name := "<init>", desc := "(Ljava/lang/String;Ljava/lang/Throwable;ZZ)V" } : Jvm.MethodName)) ∈ lw_all := lw_g (lw_at lw_m2 235 rfl) rfl
theorem q603 : (Jvm.Cond.code ({ cls := "java/lang/Exception", name := "<init>", desc := "(Ljava/lang/String;Ljava/lang/Throwable;ZZ)V" } : Jvm.MethodName) prog_30_method_5_code (5 : Nat) (Option.none : Option Jvm.ClassFile.FieldType)) ∈ lw_all := lw_g (lw_at lw_m2 236 rfl) rfl
theorem q604 : (Jvm.Cond.methodLink "java/lang/Exception" (16 : Nat) ({ cls := "java/lang/Throwable", name := "<init>", desc := "(Ljava/lang/String;Ljava/lang/Throwable;ZZ)V" } : Jvm.MethodName)) ∈ lw_all := lw_g (lw_at lw_m2 237 rfl) rfl
/-! J8.java_lang_RuntimeException.lean.txt -/
def RJ8 : String := "java/lang/RuntimeException"
/-! J9.java_lang_IndexOutOfBoundsException.lean.txt -/
def RJ9 : String := "java/lang/IndexOutOfBoundsException"
def TJ9 : u_T := fun k => match k with
  | 0 => ("java/lang/Throwable", "cause", "Ljava/lang/Throwable;", false)
  | 1 => ("java/lang/Throwable", "stackTrace", "[Ljava/lang/StackTraceElement;", false)
  | 2 => ("java/lang/Throwable", "suppressedExceptions", "Ljava/util/List;", false)
  | 3 => ("java/lang/Throwable", "detailMessage", "Ljava/lang/String;", false)
  | 4 => ("java/lang/Throwable", "backtrace", "Ljava/lang/Object;", false)
  | _ => ("java/lang/Throwable", "depth", "I", false)
def tyJ9 : Nat → FieldType := fun k => match k with
  | 0 => .object "java/lang/Throwable"
  | 1 => .array (.object "java/lang/StackTraceElement")
  | 2 => .object "java/util/List"
  | 3 => .object "java/lang/String"
  | 4 => .object "java/lang/Object"
  | _ => .int
abbrev wsJ90 : List Cond := u_ws RJ9 TJ9 6
theorem nmJ9 : ∀ a, a < 6 → ∀ b, b < 6 → a ≠ b → (TJ9 a).2.1 ≠ (TJ9 b).2.1 := by decide +kernel
theorem tyJ9_ok : ∀ k, k < 6 → parseFieldDescriptor (TJ9 k).2.2.1 = some (tyJ9 k) := by decide +kernel
theorem q139 : (Jvm.Cond.initialized "java/lang/IndexOutOfBoundsException") ∈ lw_all := lw_g (lw_at lw_m1 12 rfl) rfl
theorem q418 : (Jvm.Cond.castable "java/lang/IndexOutOfBoundsException" "java/lang/IndexOutOfBoundsException") ∈ lw_tbl := lw_at lw_m2 51 rfl
theorem q4675 : (Jvm.Cond.castable "java/lang/IndexOutOfBoundsException" "java/lang/Object") ∈ lw_tbl := lw_at lw_m19 228 rfl
theorem in_J9 : ∀ w ∈ wsJ90, w ∈ lw_all := lw_in wsJ90 [420, 421, 422, 423, 424, 435] (by decide +kernel) (by decide +kernel)
/-! L.law.lean.txt -/
abbrev cL_law : ByteArray := code
def dkwL_law_173 : List UInt8 := [4, 172]
abbrev dktL_law_173 : List UInt8 := dkwL_law_173 ++ []
def dkwL_law_172 : List UInt8 := [154, 0, 15, 45, 3, 47, 21, 7, 133, 148, 153, 0, 5, 3, 172, 167, 0, 3, 132, 5, 6, 167, 239, 118]
abbrev dktL_law_172 : List UInt8 := dkwL_law_172 ++ dktL_law_173
def dkwL_law_171 : List UInt8 := [21, 5, 4, 96, 46, 182, 1, 162, 54, 7, 44, 182, 0, 218, 21, 6, 159, 0, 5, 3, 172, 21, 6]
abbrev dktL_law_171 : List UInt8 := dkwL_law_171 ++ dktL_law_172
def dkwL_law_170 : List UInt8 := [153, 0, 5, 3, 172, 167, 0, 59, 43, 42, 21, 5, 4, 96, 46, 45, 184, 1, 160, 54, 6, 44, 42]
abbrev dktL_law_170 : List UInt8 := dkwL_law_170 ++ dktL_law_171
def dkwL_law_169 : List UInt8 := [182, 0, 218, 21, 6, 159, 0, 5, 3, 172, 21, 6, 154, 0, 15, 45, 3, 47, 21, 7, 133, 148]
abbrev dktL_law_169 : List UInt8 := dkwL_law_169 ++ dktL_law_170
def dkwL_law_168 : List UInt8 := [21, 5, 4, 96, 46, 45, 184, 1, 157, 54, 6, 44, 42, 21, 5, 4, 96, 46, 182, 1, 159, 54, 7, 44]
abbrev dktL_law_168 : List UInt8 := dkwL_law_168 ++ dktL_law_169
def dkwL_law_167 : List UInt8 := [153, 0, 5, 3, 172, 167, 0, 128, 43, 182, 1, 153, 44, 182, 1, 156, 159, 0, 117, 3, 172, 43, 42]
abbrev dktL_law_167 : List UInt8 := dkwL_law_167 ++ dktL_law_168
def dkwL_law_166 : List UInt8 := [182, 0, 218, 21, 6, 159, 0, 5, 3, 172, 21, 6, 154, 0, 15, 45, 3, 47, 21, 7, 133, 148]
abbrev dktL_law_166 : List UInt8 := dkwL_law_166 ++ dktL_law_167
def dkwL_law_165 : List UInt8 := [148, 153, 0, 5, 3, 172, 167, 0, 172, 43, 45, 184, 1, 150, 54, 6, 44, 182, 1, 152, 54, 7, 44]
abbrev dktL_law_165 : List UInt8 := dkwL_law_165 ++ dktL_law_166
def dkwL_law_164 : List UInt8 := [54, 7, 44, 182, 0, 218, 21, 6, 159, 0, 5, 3, 172, 21, 6, 154, 0, 15, 45, 3, 47, 21, 7, 133]
abbrev dktL_law_164 : List UInt8 := dkwL_law_164 ++ dktL_law_165
def dkwL_law_163 : List UInt8 := [46, 45, 184, 1, 147, 54, 6, 44, 42, 21, 5, 4, 96, 46, 42, 21, 5, 5, 96, 46, 182, 1, 149]
abbrev dktL_law_163 : List UInt8 := dkwL_law_163 ++ dktL_law_164
def dkwL_law_162 : List UInt8 := [21, 7, 133, 148, 153, 0, 5, 3, 172, 167, 0, 240, 43, 42, 21, 5, 4, 96, 46, 42, 21, 5, 5, 96]
abbrev dktL_law_162 : List UInt8 := dkwL_law_162 ++ dktL_law_163
def dkwL_law_161 : List UInt8 := [182, 1, 146, 54, 7, 44, 182, 0, 218, 21, 6, 159, 0, 5, 3, 172, 21, 6, 154, 0, 15, 45, 3, 47]
abbrev dktL_law_161 : List UInt8 := dkwL_law_161 ++ dktL_law_162
def dkwL_law_160 : List UInt8 := [167, 1, 40, 43, 42, 21, 5, 4, 96, 46, 45, 184, 1, 144, 54, 6, 44, 42, 21, 5, 4, 96, 46]
abbrev dktL_law_160 : List UInt8 := dkwL_law_160 ++ dktL_law_161
def dkwL_law_159 : List UInt8 := [159, 0, 5, 3, 172, 21, 6, 154, 0, 15, 45, 3, 47, 21, 7, 133, 148, 153, 0, 5, 3, 172]
abbrev dktL_law_159 : List UInt8 := dkwL_law_159 ++ dktL_law_160
def dkwL_law_158 : List UInt8 := [21, 5, 4, 96, 46, 42, 21, 5, 5, 96, 46, 182, 1, 143, 54, 7, 44, 182, 0, 218, 21, 6]
abbrev dktL_law_158 : List UInt8 := dkwL_law_158 ++ dktL_law_159
def dkwL_law_157 : List UInt8 := [167, 1, 108, 43, 42, 21, 5, 4, 96, 46, 42, 21, 5, 5, 96, 46, 45, 184, 1, 141, 54, 6, 44, 42]
abbrev dktL_law_157 : List UInt8 := dkwL_law_157 ++ dktL_law_158
def dkwL_law_156 : List UInt8 := [159, 0, 5, 3, 172, 21, 6, 154, 0, 15, 45, 3, 47, 21, 7, 133, 148, 153, 0, 5, 3, 172]
abbrev dktL_law_156 : List UInt8 := dkwL_law_156 ++ dktL_law_157
def dkwL_law_155 : List UInt8 := [21, 5, 5, 96, 46, 42, 21, 5, 6, 96, 46, 182, 1, 140, 54, 7, 44, 182, 0, 218, 21, 6]
abbrev dktL_law_155 : List UInt8 := dkwL_law_155 ++ dktL_law_156
def dkwL_law_154 : List UInt8 := [5, 96, 46, 42, 21, 5, 6, 96, 46, 45, 184, 1, 138, 54, 6, 44, 42, 21, 5, 4, 96, 46, 42]
abbrev dktL_law_154 : List UInt8 := dkwL_law_154 ++ dktL_law_155
def dkwL_law_153 : List UInt8 := [3, 47, 21, 7, 133, 148, 153, 0, 5, 3, 172, 167, 1, 188, 43, 42, 21, 5, 4, 96, 46, 42, 21, 5]
abbrev dktL_law_153 : List UInt8 := dkwL_law_153 ++ dktL_law_154
def dkwL_law_152 : List UInt8 := [96, 46, 182, 1, 137, 54, 7, 44, 182, 0, 218, 21, 6, 159, 0, 5, 3, 172, 21, 6, 154, 0, 15, 45]
abbrev dktL_law_152 : List UInt8 := dkwL_law_152 ++ dktL_law_153
def dkwL_law_151 : List UInt8 := [46, 42, 21, 5, 5, 96, 46, 45, 184, 1, 135, 54, 6, 44, 42, 21, 5, 4, 96, 46, 42, 21, 5, 5]
abbrev dktL_law_151 : List UInt8 := dkwL_law_151 ++ dktL_law_152
def dkwL_law_150 : List UInt8 := [154, 0, 15, 45, 3, 47, 21, 7, 133, 148, 153, 0, 5, 3, 172, 167, 2, 0, 43, 42, 21, 5, 4, 96]
abbrev dktL_law_150 : List UInt8 := dkwL_law_150 ++ dktL_law_151
def dkwL_law_149 : List UInt8 := [21, 5, 4, 96, 46, 182, 1, 134, 54, 7, 44, 182, 0, 218, 21, 6, 159, 0, 5, 3, 172, 21, 6]
abbrev dktL_law_149 : List UInt8 := dkwL_law_149 ++ dktL_law_150
def dkwL_law_148 : List UInt8 := [153, 0, 5, 3, 172, 167, 2, 56, 43, 42, 21, 5, 4, 96, 46, 45, 184, 1, 132, 54, 6, 44, 42]
abbrev dktL_law_148 : List UInt8 := dkwL_law_148 ++ dktL_law_149
def dkwL_law_147 : List UInt8 := [159, 0, 5, 3, 172, 21, 6, 154, 0, 22, 45, 3, 47, 21, 7, 153, 0, 7, 10, 167, 0, 4, 9, 148]
abbrev dktL_law_147 : List UInt8 := dkwL_law_147 ++ dktL_law_148
def dkwL_law_146 : List UInt8 := [5, 96, 46, 153, 0, 7, 4, 167, 0, 4, 3, 182, 1, 131, 54, 7, 44, 182, 0, 218, 21, 6]
abbrev dktL_law_146 : List UInt8 := dkwL_law_146 ++ dktL_law_147
def dkwL_law_145 : List UInt8 := [153, 0, 7, 4, 167, 0, 4, 3, 45, 184, 1, 129, 54, 6, 44, 42, 21, 5, 4, 96, 46, 42, 21, 5]
abbrev dktL_law_145 : List UInt8 := dkwL_law_145 ++ dktL_law_146
def dkwL_law_144 : List UInt8 := [148, 153, 0, 5, 3, 172, 167, 2, 147, 43, 42, 21, 5, 4, 96, 46, 42, 21, 5, 5, 96, 46]
abbrev dktL_law_144 : List UInt8 := dkwL_law_144 ++ dktL_law_145
def dkwL_law_143 : List UInt8 := [54, 7, 44, 182, 0, 218, 21, 6, 159, 0, 5, 3, 172, 21, 6, 154, 0, 15, 45, 3, 47, 21, 7, 133]
abbrev dktL_law_143 : List UInt8 := dkwL_law_143 ++ dktL_law_144
def dkwL_law_142 : List UInt8 := [96, 46, 45, 184, 1, 126, 54, 6, 44, 42, 21, 5, 4, 96, 46, 42, 21, 5, 5, 96, 46, 182, 1, 128]
abbrev dktL_law_142 : List UInt8 := dkwL_law_142 ++ dktL_law_143
def dkwL_law_141 : List UInt8 := [47, 21, 7, 133, 148, 153, 0, 5, 3, 172, 167, 2, 215, 43, 42, 21, 5, 4, 96, 46, 42, 21, 5, 5]
abbrev dktL_law_141 : List UInt8 := dkwL_law_141 ++ dktL_law_142
def dkwL_law_140 : List UInt8 := [3, 182, 1, 125, 54, 7, 44, 182, 0, 218, 21, 6, 159, 0, 5, 3, 172, 21, 6, 154, 0, 15, 45, 3]
abbrev dktL_law_140 : List UInt8 := dkwL_law_140 ++ dktL_law_141
def dkwL_law_139 : List UInt8 := [21, 5, 4, 96, 46, 42, 21, 5, 5, 96, 46, 42, 21, 5, 6, 96, 46, 153, 0, 7, 4, 167, 0, 4]
abbrev dktL_law_139 : List UInt8 := dkwL_law_139 ++ dktL_law_140
def dkwL_law_138 : List UInt8 := [46, 42, 21, 5, 6, 96, 46, 153, 0, 7, 4, 167, 0, 4, 3, 45, 184, 1, 123, 54, 6, 44, 42]
abbrev dktL_law_138 : List UInt8 := dkwL_law_138 ++ dktL_law_139
def dkwL_law_137 : List UInt8 := [21, 7, 133, 148, 153, 0, 5, 3, 172, 167, 3, 55, 43, 42, 21, 5, 4, 96, 46, 42, 21, 5, 5, 96]
abbrev dktL_law_137 : List UInt8 := dkwL_law_137 ++ dktL_law_138
def dkwL_law_136 : List UInt8 := [182, 1, 122, 54, 7, 44, 182, 0, 218, 21, 6, 159, 0, 5, 3, 172, 21, 6, 154, 0, 15, 45, 3, 47]
abbrev dktL_law_136 : List UInt8 := dkwL_law_136 ++ dktL_law_137
def dkwL_law_135 : List UInt8 := [167, 3, 111, 43, 42, 21, 5, 4, 96, 46, 45, 184, 1, 120, 54, 6, 44, 42, 21, 5, 4, 96, 46]
abbrev dktL_law_135 : List UInt8 := dkwL_law_135 ++ dktL_law_136
def dkwL_law_134 : List UInt8 := [159, 0, 5, 3, 172, 21, 6, 154, 0, 15, 45, 3, 47, 21, 7, 133, 148, 153, 0, 5, 3, 172]
abbrev dktL_law_134 : List UInt8 := dkwL_law_134 ++ dktL_law_135
def dkwL_law_133 : List UInt8 := [184, 1, 117, 54, 6, 44, 42, 21, 5, 4, 96, 46, 182, 1, 119, 54, 7, 44, 182, 0, 218, 21, 6]
abbrev dktL_law_133 : List UInt8 := dkwL_law_133 ++ dktL_law_134
def dkwL_law_132 : List UInt8 := [45, 3, 47, 21, 7, 133, 148, 153, 0, 5, 3, 172, 167, 3, 167, 43, 42, 21, 5, 4, 96, 46, 45]
abbrev dktL_law_132 : List UInt8 := dkwL_law_132 ++ dktL_law_133
def dkwL_law_131 : List UInt8 := [54, 6, 44, 182, 1, 116, 54, 7, 44, 182, 0, 218, 21, 6, 159, 0, 5, 3, 172, 21, 6, 154, 0, 15]
abbrev dktL_law_131 : List UInt8 := dkwL_law_131 ++ dktL_law_132
def dkwL_law_130 : List UInt8 := [154, 0, 15, 45, 3, 47, 21, 7, 133, 148, 153, 0, 5, 3, 172, 167, 3, 211, 43, 45, 184, 1, 114]
abbrev dktL_law_130 : List UInt8 := dkwL_law_130 ++ dktL_law_131
def dkwL_law_129 : List UInt8 := [42, 21, 5, 5, 96, 46, 182, 1, 113, 54, 7, 44, 182, 0, 218, 21, 6, 159, 0, 5, 3, 172, 21, 6]
abbrev dktL_law_129 : List UInt8 := dkwL_law_129 ++ dktL_law_130
def dkwL_law_128 : List UInt8 := [21, 5, 4, 96, 46, 42, 21, 5, 5, 96, 46, 45, 184, 1, 111, 54, 6, 44, 42, 21, 5, 4, 96, 46]
abbrev dktL_law_128 : List UInt8 := dkwL_law_128 ++ dktL_law_129
def dkwL_law_127 : List UInt8 := [172, 21, 6, 154, 0, 15, 45, 3, 47, 21, 7, 133, 148, 153, 0, 5, 3, 172, 167, 4, 23, 43, 42]
abbrev dktL_law_127 : List UInt8 := dkwL_law_127 ++ dktL_law_128
def dkwL_law_126 : List UInt8 := [54, 6, 44, 42, 21, 5, 4, 96, 46, 182, 1, 110, 54, 7, 44, 182, 0, 218, 21, 6, 159, 0, 5, 3]
abbrev dktL_law_126 : List UInt8 := dkwL_law_126 ++ dktL_law_127
def dkwL_law_125 : List UInt8 := [21, 7, 133, 148, 153, 0, 5, 3, 172, 167, 4, 79, 43, 42, 21, 5, 4, 96, 46, 45, 184, 1, 108]
abbrev dktL_law_125 : List UInt8 := dkwL_law_125 ++ dktL_law_126
def dkwL_law_124 : List UInt8 := [182, 1, 107, 54, 7, 44, 182, 0, 218, 21, 6, 159, 0, 5, 3, 172, 21, 6, 154, 0, 15, 45, 3, 47]
abbrev dktL_law_124 : List UInt8 := dkwL_law_124 ++ dktL_law_125
def dkwL_law_123 : List UInt8 := [5, 96, 46, 45, 184, 1, 105, 54, 6, 44, 42, 21, 5, 4, 96, 46, 42, 21, 5, 5, 96, 46]
abbrev dktL_law_123 : List UInt8 := dkwL_law_123 ++ dktL_law_124
def dkwL_law_122 : List UInt8 := [3, 47, 21, 7, 133, 148, 153, 0, 5, 3, 172, 167, 4, 147, 43, 42, 21, 5, 4, 96, 46, 42, 21, 5]
abbrev dktL_law_122 : List UInt8 := dkwL_law_122 ++ dktL_law_123
def dkwL_law_121 : List UInt8 := [96, 46, 182, 1, 104, 54, 7, 44, 182, 0, 218, 21, 6, 159, 0, 5, 3, 172, 21, 6, 154, 0, 15, 45]
abbrev dktL_law_121 : List UInt8 := dkwL_law_121 ++ dktL_law_122
def dkwL_law_120 : List UInt8 := [46, 42, 21, 5, 5, 96, 46, 45, 184, 1, 102, 54, 6, 44, 42, 21, 5, 4, 96, 46, 42, 21, 5, 5]
abbrev dktL_law_120 : List UInt8 := dkwL_law_120 ++ dktL_law_121
def dkwL_law_119 : List UInt8 := [154, 0, 15, 45, 3, 47, 21, 7, 133, 148, 153, 0, 5, 3, 172, 167, 4, 215, 43, 42, 21, 5, 4, 96]
abbrev dktL_law_119 : List UInt8 := dkwL_law_119 ++ dktL_law_120
def dkwL_law_118 : List UInt8 := [42, 21, 5, 6, 96, 46, 182, 1, 101, 54, 7, 44, 182, 0, 218, 21, 6, 159, 0, 5, 3, 172, 21, 6]
abbrev dktL_law_118 : List UInt8 := dkwL_law_118 ++ dktL_law_119
def dkwL_law_117 : List UInt8 := [21, 5, 6, 96, 46, 45, 184, 1, 98, 54, 6, 44, 42, 21, 5, 4, 96, 46, 42, 21, 5, 5, 96, 46]
abbrev dktL_law_117 : List UInt8 := dkwL_law_117 ++ dktL_law_118
def dkwL_law_116 : List UInt8 := [148, 153, 0, 5, 3, 172, 167, 5, 39, 43, 42, 21, 5, 4, 96, 46, 42, 21, 5, 5, 96, 46, 42]
abbrev dktL_law_116 : List UInt8 := dkwL_law_116 ++ dktL_law_117
def dkwL_law_115 : List UInt8 := [54, 7, 44, 182, 0, 218, 21, 6, 159, 0, 5, 3, 172, 21, 6, 154, 0, 15, 45, 3, 47, 21, 7, 133]
abbrev dktL_law_115 : List UInt8 := dkwL_law_115 ++ dktL_law_116
def dkwL_law_114 : List UInt8 := [46, 45, 184, 1, 95, 54, 6, 44, 42, 21, 5, 4, 96, 46, 42, 21, 5, 5, 96, 46, 182, 1, 97]
abbrev dktL_law_114 : List UInt8 := dkwL_law_114 ++ dktL_law_115
def dkwL_law_113 : List UInt8 := [21, 7, 133, 148, 153, 0, 5, 3, 172, 167, 5, 107, 43, 42, 21, 5, 4, 96, 46, 42, 21, 5, 5, 96]
abbrev dktL_law_113 : List UInt8 := dkwL_law_113 ++ dktL_law_114
def dkwL_law_112 : List UInt8 := [182, 1, 94, 54, 7, 44, 182, 0, 218, 21, 6, 159, 0, 5, 3, 172, 21, 6, 154, 0, 15, 45, 3, 47]
abbrev dktL_law_112 : List UInt8 := dkwL_law_112 ++ dktL_law_113
def dkwL_law_111 : List UInt8 := [167, 5, 163, 43, 42, 21, 5, 4, 96, 46, 45, 184, 1, 92, 54, 6, 44, 42, 21, 5, 4, 96, 46]
abbrev dktL_law_111 : List UInt8 := dkwL_law_111 ++ dktL_law_112
def dkwL_law_110 : List UInt8 := [159, 0, 5, 3, 172, 21, 6, 154, 0, 15, 45, 3, 47, 21, 7, 133, 148, 153, 0, 5, 3, 172]
abbrev dktL_law_110 : List UInt8 := dkwL_law_110 ++ dktL_law_111
def dkwL_law_109 : List UInt8 := [21, 5, 4, 96, 46, 42, 21, 5, 5, 96, 46, 182, 1, 91, 54, 7, 44, 182, 0, 218, 21, 6]
abbrev dktL_law_109 : List UInt8 := dkwL_law_109 ++ dktL_law_110
def dkwL_law_108 : List UInt8 := [167, 5, 231, 43, 42, 21, 5, 4, 96, 46, 42, 21, 5, 5, 96, 46, 45, 184, 1, 89, 54, 6, 44, 42]
abbrev dktL_law_108 : List UInt8 := dkwL_law_108 ++ dktL_law_109
def dkwL_law_107 : List UInt8 := [159, 0, 5, 3, 172, 21, 6, 154, 0, 15, 45, 3, 47, 21, 7, 133, 148, 153, 0, 5, 3, 172]
abbrev dktL_law_107 : List UInt8 := dkwL_law_107 ++ dktL_law_108
def dkwL_law_106 : List UInt8 := [21, 5, 4, 96, 46, 42, 21, 5, 5, 96, 46, 182, 1, 88, 54, 7, 44, 182, 0, 218, 21, 6]
abbrev dktL_law_106 : List UInt8 := dkwL_law_106 ++ dktL_law_107
def dkwL_law_105 : List UInt8 := [167, 6, 43, 43, 42, 21, 5, 4, 96, 46, 42, 21, 5, 5, 96, 46, 45, 184, 1, 86, 54, 6, 44, 42]
abbrev dktL_law_105 : List UInt8 := dkwL_law_105 ++ dktL_law_106
def dkwL_law_104 : List UInt8 := [159, 0, 5, 3, 172, 21, 6, 154, 0, 15, 45, 3, 47, 21, 7, 133, 148, 153, 0, 5, 3, 172]
abbrev dktL_law_104 : List UInt8 := dkwL_law_104 ++ dktL_law_105
def dkwL_law_103 : List UInt8 := [21, 5, 4, 96, 46, 42, 21, 5, 5, 96, 46, 182, 1, 85, 54, 7, 44, 182, 0, 218, 21, 6]
abbrev dktL_law_103 : List UInt8 := dkwL_law_103 ++ dktL_law_104
def dkwL_law_102 : List UInt8 := [167, 6, 111, 43, 42, 21, 5, 4, 96, 46, 42, 21, 5, 5, 96, 46, 45, 184, 1, 83, 54, 6, 44, 42]
abbrev dktL_law_102 : List UInt8 := dkwL_law_102 ++ dktL_law_103
def dkwL_law_101 : List UInt8 := [159, 0, 5, 3, 172, 21, 6, 154, 0, 15, 45, 3, 47, 21, 7, 133, 148, 153, 0, 5, 3, 172]
abbrev dktL_law_101 : List UInt8 := dkwL_law_101 ++ dktL_law_102
def dkwL_law_100 : List UInt8 := [42, 21, 5, 4, 96, 46, 42, 21, 5, 5, 96, 46, 182, 1, 82, 54, 7, 44, 182, 0, 218, 21, 6]
abbrev dktL_law_100 : List UInt8 := dkwL_law_100 ++ dktL_law_101
def dkwL_law_99 : List UInt8 := [172, 167, 6, 179, 43, 42, 21, 5, 4, 96, 46, 42, 21, 5, 5, 96, 46, 45, 184, 1, 80, 54, 6, 44]
abbrev dktL_law_99 : List UInt8 := dkwL_law_99 ++ dktL_law_100
def dkwL_law_98 : List UInt8 := [153, 0, 25, 25, 4, 3, 49, 25, 4, 3, 49, 151, 153, 0, 11, 23, 7, 23, 7, 149, 154, 0, 5, 3]
abbrev dktL_law_98 : List UInt8 := dkwL_law_98 ++ dktL_law_99
def dkwL_law_97 : List UInt8 := [44, 182, 0, 218, 21, 6, 159, 0, 5, 3, 172, 21, 6, 154, 0, 36, 25, 4, 3, 49, 23, 7, 141, 151]
abbrev dktL_law_97 : List UInt8 := dkwL_law_97 ++ dktL_law_98
def dkwL_law_96 : List UInt8 := [21, 5, 4, 96, 46, 25, 4, 184, 1, 76, 54, 6, 44, 42, 21, 5, 4, 96, 46, 182, 1, 79, 56, 7]
abbrev dktL_law_96 : List UInt8 := dkwL_law_96 ++ dktL_law_97
def dkwL_law_95 : List UInt8 := [25, 4, 3, 49, 151, 153, 0, 11, 24, 7, 24, 7, 151, 154, 0, 5, 3, 172, 167, 7, 1, 43, 42]
abbrev dktL_law_95 : List UInt8 := dkwL_law_95 ++ dktL_law_96
def dkwL_law_94 : List UInt8 := [159, 0, 5, 3, 172, 21, 6, 154, 0, 35, 25, 4, 3, 49, 24, 7, 151, 153, 0, 25, 25, 4, 3, 49]
abbrev dktL_law_94 : List UInt8 := dkwL_law_94 ++ dktL_law_95
def dkwL_law_93 : List UInt8 := [167, 7, 66, 43, 25, 4, 184, 1, 72, 54, 6, 44, 182, 1, 75, 57, 7, 44, 182, 0, 218, 21, 6]
abbrev dktL_law_93 : List UInt8 := dkwL_law_93 ++ dktL_law_94
def dkwL_law_92 : List UInt8 := [159, 0, 5, 3, 172, 21, 6, 154, 0, 15, 45, 3, 47, 21, 7, 133, 148, 153, 0, 5, 3, 172]
abbrev dktL_law_92 : List UInt8 := dkwL_law_92 ++ dktL_law_93
def dkwL_law_91 : List UInt8 := [167, 7, 110, 43, 45, 184, 1, 69, 54, 6, 44, 182, 1, 71, 54, 7, 44, 182, 0, 218, 21, 6]
abbrev dktL_law_91 : List UInt8 := dkwL_law_91 ++ dktL_law_92
def dkwL_law_90 : List UInt8 := [159, 0, 5, 3, 172, 21, 6, 154, 0, 15, 45, 3, 47, 21, 7, 133, 148, 153, 0, 5, 3, 172]
abbrev dktL_law_90 : List UInt8 := dkwL_law_90 ++ dktL_law_91
def dkwL_law_89 : List UInt8 := [167, 7, 154, 43, 45, 184, 1, 66, 54, 6, 44, 182, 1, 68, 54, 7, 44, 182, 0, 218, 21, 6]
abbrev dktL_law_89 : List UInt8 := dkwL_law_89 ++ dktL_law_90
def dkwL_law_88 : List UInt8 := [159, 0, 5, 3, 172, 21, 6, 154, 0, 15, 45, 3, 47, 21, 7, 133, 148, 153, 0, 5, 3, 172]
abbrev dktL_law_88 : List UInt8 := dkwL_law_88 ++ dktL_law_89
def dkwL_law_87 : List UInt8 := [184, 1, 63, 54, 6, 44, 42, 21, 5, 4, 96, 46, 182, 1, 65, 54, 7, 44, 182, 0, 218, 21, 6]
abbrev dktL_law_87 : List UInt8 := dkwL_law_87 ++ dktL_law_88
def dkwL_law_86 : List UInt8 := [45, 3, 47, 21, 7, 133, 148, 153, 0, 5, 3, 172, 167, 7, 210, 43, 42, 21, 5, 4, 96, 46, 45]
abbrev dktL_law_86 : List UInt8 := dkwL_law_86 ++ dktL_law_87
def dkwL_law_85 : List UInt8 := [54, 6, 44, 182, 1, 62, 54, 7, 44, 182, 0, 218, 21, 6, 159, 0, 5, 3, 172, 21, 6, 154, 0, 15]
abbrev dktL_law_85 : List UInt8 := dkwL_law_85 ++ dktL_law_86
def dkwL_law_84 : List UInt8 := [154, 0, 15, 45, 3, 47, 21, 7, 133, 148, 153, 0, 5, 3, 172, 167, 7, 254, 43, 45, 184, 1, 60]
abbrev dktL_law_84 : List UInt8 := dkwL_law_84 ++ dktL_law_85
def dkwL_law_83 : List UInt8 := [21, 5, 4, 96, 46, 182, 1, 59, 54, 7, 44, 182, 0, 218, 21, 6, 159, 0, 5, 3, 172, 21, 6]
abbrev dktL_law_83 : List UInt8 := dkwL_law_83 ++ dktL_law_84
def dkwL_law_82 : List UInt8 := [153, 0, 5, 3, 172, 167, 8, 54, 43, 42, 21, 5, 4, 96, 46, 45, 184, 1, 57, 54, 6, 44, 42]
abbrev dktL_law_82 : List UInt8 := dkwL_law_82 ++ dktL_law_83
def dkwL_law_81 : List UInt8 := [182, 0, 218, 21, 6, 159, 0, 5, 3, 172, 21, 6, 154, 0, 15, 45, 3, 47, 21, 7, 133, 148]
abbrev dktL_law_81 : List UInt8 := dkwL_law_81 ++ dktL_law_82
def dkwL_law_80 : List UInt8 := [21, 5, 4, 96, 46, 45, 184, 1, 54, 54, 6, 44, 42, 21, 5, 4, 96, 46, 182, 1, 56, 54, 7, 44]
abbrev dktL_law_80 : List UInt8 := dkwL_law_80 ++ dktL_law_81
def dkwL_law_79 : List UInt8 := [172, 21, 6, 154, 0, 15, 45, 3, 47, 21, 7, 133, 148, 153, 0, 5, 3, 172, 167, 8, 110, 43, 42]
abbrev dktL_law_79 : List UInt8 := dkwL_law_79 ++ dktL_law_80
def dkwL_law_78 : List UInt8 := [54, 6, 44, 42, 21, 5, 4, 96, 46, 182, 1, 53, 54, 7, 44, 182, 0, 218, 21, 6, 159, 0, 5, 3]
abbrev dktL_law_78 : List UInt8 := dkwL_law_78 ++ dktL_law_79
def dkwL_law_77 : List UInt8 := [21, 7, 133, 148, 153, 0, 5, 3, 172, 167, 8, 166, 43, 42, 21, 5, 4, 96, 46, 45, 184, 1, 51]
abbrev dktL_law_77 : List UInt8 := dkwL_law_77 ++ dktL_law_78
def dkwL_law_76 : List UInt8 := [182, 1, 50, 54, 7, 44, 182, 0, 218, 21, 6, 159, 0, 5, 3, 172, 21, 6, 154, 0, 15, 45, 3, 47]
abbrev dktL_law_76 : List UInt8 := dkwL_law_76 ++ dktL_law_77
def dkwL_law_75 : List UInt8 := [167, 8, 222, 43, 42, 21, 5, 4, 96, 46, 45, 184, 1, 48, 54, 6, 44, 42, 21, 5, 4, 96, 46]
abbrev dktL_law_75 : List UInt8 := dkwL_law_75 ++ dktL_law_76
def dkwL_law_74 : List UInt8 := [159, 0, 5, 3, 172, 21, 6, 154, 0, 15, 45, 3, 47, 21, 7, 133, 148, 153, 0, 5, 3, 172]
abbrev dktL_law_74 : List UInt8 := dkwL_law_74 ++ dktL_law_75
def dkwL_law_73 : List UInt8 := [45, 184, 1, 45, 54, 6, 44, 42, 21, 5, 4, 96, 46, 182, 1, 47, 54, 7, 44, 182, 0, 218, 21, 6]
abbrev dktL_law_73 : List UInt8 := dkwL_law_73 ++ dktL_law_74
def dkwL_law_72 : List UInt8 := [153, 0, 7, 10, 167, 0, 4, 9, 148, 153, 0, 5, 3, 172, 167, 9, 22, 43, 42, 21, 5, 4, 96, 46]
abbrev dktL_law_72 : List UInt8 := dkwL_law_72 ++ dktL_law_73
def dkwL_law_71 : List UInt8 := [54, 7, 44, 182, 0, 218, 21, 6, 159, 0, 5, 3, 172, 21, 6, 154, 0, 22, 45, 3, 47, 21, 7]
abbrev dktL_law_71 : List UInt8 := dkwL_law_71 ++ dktL_law_72
def dkwL_law_70 : List UInt8 := [96, 46, 45, 184, 1, 42, 54, 6, 44, 42, 21, 5, 4, 96, 46, 42, 21, 5, 5, 96, 46, 182, 1, 44]
abbrev dktL_law_70 : List UInt8 := dkwL_law_70 ++ dktL_law_71
def dkwL_law_69 : List UInt8 := [167, 0, 4, 9, 148, 153, 0, 5, 3, 172, 167, 9, 97, 43, 42, 21, 5, 4, 96, 46, 42, 21, 5, 5]
abbrev dktL_law_69 : List UInt8 := dkwL_law_69 ++ dktL_law_70
def dkwL_law_68 : List UInt8 := [182, 0, 218, 21, 6, 159, 0, 5, 3, 172, 21, 6, 154, 0, 22, 45, 3, 47, 21, 7, 153, 0, 7, 10]
abbrev dktL_law_68 : List UInt8 := dkwL_law_68 ++ dktL_law_69
def dkwL_law_67 : List UInt8 := [184, 1, 39, 54, 6, 44, 42, 21, 5, 4, 96, 46, 42, 21, 5, 5, 96, 46, 182, 1, 41, 54, 7, 44]
abbrev dktL_law_67 : List UInt8 := dkwL_law_67 ++ dktL_law_68
def dkwL_law_66 : List UInt8 := [153, 0, 5, 3, 172, 167, 9, 172, 43, 42, 21, 5, 4, 96, 46, 42, 21, 5, 5, 96, 46, 45]
abbrev dktL_law_66 : List UInt8 := dkwL_law_66 ++ dktL_law_67
def dkwL_law_65 : List UInt8 := [182, 0, 218, 21, 6, 159, 0, 5, 3, 172, 21, 6, 154, 0, 15, 45, 3, 47, 21, 7, 133, 148]
abbrev dktL_law_65 : List UInt8 := dkwL_law_65 ++ dktL_law_66
def dkwL_law_64 : List UInt8 := [184, 1, 36, 54, 6, 44, 42, 21, 5, 4, 96, 46, 42, 21, 5, 5, 96, 46, 182, 1, 38, 54, 7, 44]
abbrev dktL_law_64 : List UInt8 := dkwL_law_64 ++ dktL_law_65
def dkwL_law_63 : List UInt8 := [153, 0, 5, 3, 172, 167, 9, 240, 43, 42, 21, 5, 4, 96, 46, 42, 21, 5, 5, 96, 46, 45]
abbrev dktL_law_63 : List UInt8 := dkwL_law_63 ++ dktL_law_64
def dkwL_law_62 : List UInt8 := [182, 0, 218, 21, 6, 159, 0, 5, 3, 172, 21, 6, 154, 0, 15, 45, 3, 47, 21, 7, 133, 148]
abbrev dktL_law_62 : List UInt8 := dkwL_law_62 ++ dktL_law_63
def dkwL_law_61 : List UInt8 := [184, 1, 33, 54, 6, 44, 42, 21, 5, 4, 96, 46, 42, 21, 5, 5, 96, 46, 182, 1, 35, 54, 7, 44]
abbrev dktL_law_61 : List UInt8 := dkwL_law_61 ++ dktL_law_62
def dkwL_law_60 : List UInt8 := [148, 153, 0, 5, 3, 172, 167, 10, 52, 43, 42, 21, 5, 4, 96, 46, 42, 21, 5, 5, 96, 46, 45]
abbrev dktL_law_60 : List UInt8 := dkwL_law_60 ++ dktL_law_61
def dkwL_law_59 : List UInt8 := [54, 7, 44, 182, 0, 218, 21, 6, 159, 0, 5, 3, 172, 21, 6, 154, 0, 15, 45, 3, 47, 21, 7, 133]
abbrev dktL_law_59 : List UInt8 := dkwL_law_59 ++ dktL_law_60
def dkwL_law_58 : List UInt8 := [42, 21, 5, 5, 96, 46, 42, 21, 5, 6, 96, 46, 153, 0, 7, 4, 167, 0, 4, 3, 182, 1, 32]
abbrev dktL_law_58 : List UInt8 := dkwL_law_58 ++ dktL_law_59
def dkwL_law_57 : List UInt8 := [6, 96, 46, 153, 0, 7, 4, 167, 0, 4, 3, 45, 184, 1, 29, 54, 6, 44, 42, 21, 5, 4, 96, 46]
abbrev dktL_law_57 : List UInt8 := dkwL_law_57 ++ dktL_law_58
def dkwL_law_56 : List UInt8 := [153, 0, 5, 3, 172, 167, 10, 148, 43, 42, 21, 5, 4, 96, 46, 42, 21, 5, 5, 96, 46, 42, 21, 5]
abbrev dktL_law_56 : List UInt8 := dkwL_law_56 ++ dktL_law_57
def dkwL_law_55 : List UInt8 := [182, 0, 218, 21, 6, 159, 0, 5, 3, 172, 21, 6, 154, 0, 15, 45, 3, 47, 21, 7, 133, 148]
abbrev dktL_law_55 : List UInt8 := dkwL_law_55 ++ dktL_law_56
def dkwL_law_54 : List UInt8 := [21, 5, 5, 96, 46, 42, 21, 5, 6, 96, 46, 42, 21, 5, 7, 96, 46, 182, 1, 28, 54, 7, 44]
abbrev dktL_law_54 : List UInt8 := dkwL_law_54 ++ dktL_law_55
def dkwL_law_53 : List UInt8 := [6, 96, 46, 42, 21, 5, 7, 96, 46, 45, 184, 1, 25, 54, 6, 44, 42, 21, 5, 4, 96, 46, 42]
abbrev dktL_law_53 : List UInt8 := dkwL_law_53 ++ dktL_law_54
def dkwL_law_52 : List UInt8 := [153, 0, 5, 3, 172, 167, 10, 240, 43, 42, 21, 5, 4, 96, 46, 42, 21, 5, 5, 96, 46, 42, 21, 5]
abbrev dktL_law_52 : List UInt8 := dkwL_law_52 ++ dktL_law_53
def dkwL_law_51 : List UInt8 := [182, 0, 218, 21, 6, 159, 0, 5, 3, 172, 21, 6, 154, 0, 15, 45, 3, 47, 21, 7, 133, 148]
abbrev dktL_law_51 : List UInt8 := dkwL_law_51 ++ dktL_law_52
def dkwL_law_50 : List UInt8 := [184, 1, 22, 54, 6, 44, 42, 21, 5, 4, 96, 46, 42, 21, 5, 5, 96, 46, 182, 1, 24, 54, 7, 44]
abbrev dktL_law_50 : List UInt8 := dkwL_law_50 ++ dktL_law_51
def dkwL_law_49 : List UInt8 := [148, 153, 0, 5, 3, 172, 167, 11, 52, 43, 42, 21, 5, 4, 96, 46, 42, 21, 5, 5, 96, 46, 45]
abbrev dktL_law_49 : List UInt8 := dkwL_law_49 ++ dktL_law_50
def dkwL_law_48 : List UInt8 := [54, 7, 44, 182, 0, 218, 21, 6, 159, 0, 5, 3, 172, 21, 6, 154, 0, 15, 45, 3, 47, 21, 7, 133]
abbrev dktL_law_48 : List UInt8 := dkwL_law_48 ++ dktL_law_49
def dkwL_law_47 : List UInt8 := [46, 45, 184, 1, 19, 54, 6, 44, 42, 21, 5, 4, 96, 46, 42, 21, 5, 5, 96, 46, 182, 1, 21]
abbrev dktL_law_47 : List UInt8 := dkwL_law_47 ++ dktL_law_48
def dkwL_law_46 : List UInt8 := [21, 7, 133, 148, 153, 0, 5, 3, 172, 167, 11, 120, 43, 42, 21, 5, 4, 96, 46, 42, 21, 5, 5, 96]
abbrev dktL_law_46 : List UInt8 := dkwL_law_46 ++ dktL_law_47
def dkwL_law_45 : List UInt8 := [182, 1, 18, 54, 7, 44, 182, 0, 218, 21, 6, 159, 0, 5, 3, 172, 21, 6, 154, 0, 15, 45, 3, 47]
abbrev dktL_law_45 : List UInt8 := dkwL_law_45 ++ dktL_law_46
def dkwL_law_44 : List UInt8 := [167, 11, 176, 43, 42, 21, 5, 4, 96, 46, 45, 184, 1, 16, 54, 6, 44, 42, 21, 5, 4, 96, 46]
abbrev dktL_law_44 : List UInt8 := dkwL_law_44 ++ dktL_law_45
def dkwL_law_43 : List UInt8 := [159, 0, 5, 3, 172, 21, 6, 154, 0, 15, 45, 3, 47, 21, 7, 133, 148, 153, 0, 5, 3, 172]
abbrev dktL_law_43 : List UInt8 := dkwL_law_43 ++ dktL_law_44
def dkwL_law_42 : List UInt8 := [21, 5, 4, 96, 46, 42, 21, 5, 5, 96, 46, 182, 1, 15, 54, 7, 44, 182, 0, 218, 21, 6]
abbrev dktL_law_42 : List UInt8 := dkwL_law_42 ++ dktL_law_43
def dkwL_law_41 : List UInt8 := [167, 11, 244, 43, 42, 21, 5, 4, 96, 46, 42, 21, 5, 5, 96, 46, 45, 184, 1, 13, 54, 6, 44, 42]
abbrev dktL_law_41 : List UInt8 := dkwL_law_41 ++ dktL_law_42
def dkwL_law_40 : List UInt8 := [159, 0, 5, 3, 172, 21, 6, 154, 0, 15, 45, 3, 47, 21, 7, 133, 148, 153, 0, 5, 3, 172]
abbrev dktL_law_40 : List UInt8 := dkwL_law_40 ++ dktL_law_41
def dkwL_law_39 : List UInt8 := [45, 184, 1, 10, 54, 6, 44, 42, 21, 5, 4, 96, 46, 182, 1, 12, 54, 7, 44, 182, 0, 218, 21, 6]
abbrev dktL_law_39 : List UInt8 := dkwL_law_39 ++ dktL_law_40
def dkwL_law_38 : List UInt8 := [153, 0, 7, 10, 167, 0, 4, 9, 148, 153, 0, 5, 3, 172, 167, 12, 44, 43, 42, 21, 5, 4, 96, 46]
abbrev dktL_law_38 : List UInt8 := dkwL_law_38 ++ dktL_law_39
def dkwL_law_37 : List UInt8 := [54, 7, 44, 182, 0, 218, 21, 6, 159, 0, 5, 3, 172, 21, 6, 154, 0, 22, 45, 3, 47, 21, 7]
abbrev dktL_law_37 : List UInt8 := dkwL_law_37 ++ dktL_law_38
def dkwL_law_36 : List UInt8 := [96, 46, 45, 184, 1, 7, 54, 6, 44, 42, 21, 5, 4, 96, 46, 42, 21, 5, 5, 96, 46, 182, 1, 9]
abbrev dktL_law_36 : List UInt8 := dkwL_law_36 ++ dktL_law_37
def dkwL_law_35 : List UInt8 := [167, 0, 4, 9, 148, 153, 0, 5, 3, 172, 167, 12, 119, 43, 42, 21, 5, 4, 96, 46, 42, 21, 5, 5]
abbrev dktL_law_35 : List UInt8 := dkwL_law_35 ++ dktL_law_36
def dkwL_law_34 : List UInt8 := [182, 0, 218, 21, 6, 159, 0, 5, 3, 172, 21, 6, 154, 0, 22, 45, 3, 47, 21, 7, 153, 0, 7, 10]
abbrev dktL_law_34 : List UInt8 := dkwL_law_34 ++ dktL_law_35
def dkwL_law_33 : List UInt8 := [184, 1, 4, 54, 6, 44, 42, 21, 5, 4, 96, 46, 42, 21, 5, 5, 96, 46, 182, 1, 6, 54, 7, 44]
abbrev dktL_law_33 : List UInt8 := dkwL_law_33 ++ dktL_law_34
def dkwL_law_32 : List UInt8 := [153, 0, 5, 3, 172, 167, 12, 194, 43, 42, 21, 5, 4, 96, 46, 42, 21, 5, 5, 96, 46, 45]
abbrev dktL_law_32 : List UInt8 := dkwL_law_32 ++ dktL_law_33
def dkwL_law_31 : List UInt8 := [182, 0, 218, 21, 6, 159, 0, 5, 3, 172, 21, 6, 154, 0, 15, 45, 3, 47, 21, 7, 133, 148]
abbrev dktL_law_31 : List UInt8 := dkwL_law_31 ++ dktL_law_32
def dkwL_law_30 : List UInt8 := [153, 0, 5, 3, 172, 167, 12, 238, 43, 45, 184, 1, 0, 54, 6, 44, 182, 1, 3, 54, 7, 44]
abbrev dktL_law_30 : List UInt8 := dkwL_law_30 ++ dktL_law_31
def dkwL_law_29 : List UInt8 := [182, 0, 218, 21, 6, 159, 0, 5, 3, 172, 21, 6, 154, 0, 15, 45, 3, 47, 21, 7, 133, 148]
abbrev dktL_law_29 : List UInt8 := dkwL_law_29 ++ dktL_law_30
def dkwL_law_28 : List UInt8 := [184, 0, 253, 54, 6, 44, 42, 21, 5, 4, 96, 46, 42, 21, 5, 5, 96, 46, 182, 0, 255, 54, 7, 44]
abbrev dktL_law_28 : List UInt8 := dkwL_law_28 ++ dktL_law_29
def dkwL_law_27 : List UInt8 := [153, 0, 5, 3, 172, 167, 13, 50, 43, 42, 21, 5, 4, 96, 46, 42, 21, 5, 5, 96, 46, 45]
abbrev dktL_law_27 : List UInt8 := dkwL_law_27 ++ dktL_law_28
def dkwL_law_26 : List UInt8 := [182, 0, 218, 21, 6, 159, 0, 5, 3, 172, 21, 6, 154, 0, 15, 45, 3, 47, 21, 7, 133, 148]
abbrev dktL_law_26 : List UInt8 := dkwL_law_26 ++ dktL_law_27
def dkwL_law_25 : List UInt8 := [184, 0, 250, 54, 6, 44, 42, 21, 5, 4, 96, 46, 42, 21, 5, 5, 96, 46, 182, 0, 252, 54, 7, 44]
abbrev dktL_law_25 : List UInt8 := dkwL_law_25 ++ dktL_law_26
def dkwL_law_24 : List UInt8 := [153, 0, 5, 3, 172, 167, 13, 118, 43, 42, 21, 5, 4, 96, 46, 42, 21, 5, 5, 96, 46, 45]
abbrev dktL_law_24 : List UInt8 := dkwL_law_24 ++ dktL_law_25
def dkwL_law_23 : List UInt8 := [182, 0, 218, 21, 6, 159, 0, 5, 3, 172, 21, 6, 154, 0, 15, 45, 3, 47, 21, 7, 133, 148]
abbrev dktL_law_23 : List UInt8 := dkwL_law_23 ++ dktL_law_24
def dkwL_law_22 : List UInt8 := [184, 0, 247, 54, 6, 44, 42, 21, 5, 4, 96, 46, 42, 21, 5, 5, 96, 46, 182, 0, 249, 54, 7, 44]
abbrev dktL_law_22 : List UInt8 := dkwL_law_22 ++ dktL_law_23
def dkwL_law_21 : List UInt8 := [148, 153, 0, 5, 3, 172, 167, 13, 186, 43, 42, 21, 5, 4, 96, 46, 42, 21, 5, 5, 96, 46, 45]
abbrev dktL_law_21 : List UInt8 := dkwL_law_21 ++ dktL_law_22
def dkwL_law_20 : List UInt8 := [54, 7, 44, 182, 0, 218, 21, 6, 159, 0, 5, 3, 172, 21, 6, 154, 0, 15, 45, 3, 47, 21, 7, 133]
abbrev dktL_law_20 : List UInt8 := dkwL_law_20 ++ dktL_law_21
def dkwL_law_19 : List UInt8 := [46, 45, 184, 0, 243, 54, 6, 44, 42, 21, 5, 4, 96, 46, 42, 21, 5, 5, 96, 46, 182, 0, 246]
abbrev dktL_law_19 : List UInt8 := dkwL_law_19 ++ dktL_law_20
def dkwL_law_18 : List UInt8 := [21, 7, 133, 148, 153, 0, 5, 3, 172, 167, 13, 254, 43, 42, 21, 5, 4, 96, 46, 42, 21, 5, 5, 96]
abbrev dktL_law_18 : List UInt8 := dkwL_law_18 ++ dktL_law_19
def dkwL_law_17 : List UInt8 := [182, 0, 242, 54, 7, 44, 182, 0, 218, 21, 6, 159, 0, 5, 3, 172, 21, 6, 154, 0, 15, 45, 3, 47]
abbrev dktL_law_17 : List UInt8 := dkwL_law_17 ++ dktL_law_18
def dkwL_law_16 : List UInt8 := [167, 14, 54, 43, 42, 21, 5, 4, 96, 46, 45, 184, 0, 240, 54, 6, 44, 42, 21, 5, 4, 96, 46]
abbrev dktL_law_16 : List UInt8 := dkwL_law_16 ++ dktL_law_17
def dkwL_law_15 : List UInt8 := [21, 6, 159, 0, 5, 3, 172, 21, 6, 154, 0, 15, 45, 3, 47, 21, 7, 133, 148, 153, 0, 5, 3, 172]
abbrev dktL_law_15 : List UInt8 := dkwL_law_15 ++ dktL_law_16
def dkwL_law_14 : List UInt8 := [46, 45, 184, 0, 237, 54, 6, 44, 42, 21, 5, 4, 96, 46, 182, 0, 239, 54, 7, 44, 182, 0, 218]
abbrev dktL_law_14 : List UInt8 := dkwL_law_14 ++ dktL_law_15
def dkwL_law_13 : List UInt8 := [154, 0, 15, 45, 3, 47, 21, 7, 133, 148, 153, 0, 5, 3, 172, 167, 14, 110, 43, 42, 21, 5, 4, 96]
abbrev dktL_law_13 : List UInt8 := dkwL_law_13 ++ dktL_law_14
def dkwL_law_12 : List UInt8 := [167, 0, 4, 3, 182, 0, 236, 54, 7, 44, 182, 0, 218, 21, 6, 159, 0, 5, 3, 172, 21, 6]
abbrev dktL_law_12 : List UInt8 := dkwL_law_12 ++ dktL_law_13
def dkwL_law_11 : List UInt8 := [184, 0, 233, 54, 6, 44, 42, 21, 5, 4, 96, 46, 42, 21, 5, 5, 96, 46, 153, 0, 7, 4]
abbrev dktL_law_11 : List UInt8 := dkwL_law_11 ++ dktL_law_12
def dkwL_law_10 : List UInt8 := [172, 43, 42, 21, 5, 4, 96, 46, 42, 21, 5, 5, 96, 46, 153, 0, 7, 4, 167, 0, 4, 3, 45]
abbrev dktL_law_10 : List UInt8 := dkwL_law_10 ++ dktL_law_11
def dkwL_law_9 : List UInt8 := [182, 0, 225, 44, 182, 0, 228, 159, 14, 209, 3, 172, 43, 182, 0, 229, 44, 182, 0, 232, 159, 14, 196, 3]
abbrev dktL_law_9 : List UInt8 := dkwL_law_9 ++ dktL_law_10
def dkwL_law_8 : List UInt8 := [148, 153, 0, 5, 3, 172, 167, 14, 233, 43, 182, 0, 221, 44, 182, 0, 224, 159, 14, 222, 3, 172, 43]
abbrev dktL_law_8 : List UInt8 := dkwL_law_8 ++ dktL_law_9
def dkwL_law_7 : List UInt8 := [54, 7, 44, 182, 0, 218, 21, 6, 159, 0, 5, 3, 172, 21, 6, 154, 0, 15, 45, 3, 47, 21, 7, 133]
abbrev dktL_law_7 : List UInt8 := dkwL_law_7 ++ dktL_law_8
def dkwL_law_6 : List UInt8 := [172, 43, 42, 21, 5, 4, 96, 46, 45, 184, 0, 212, 54, 6, 44, 42, 21, 5, 4, 96, 46, 182, 0, 217]
abbrev dktL_law_6 : List UInt8 := dkwL_law_6 ++ dktL_law_7
def dkwL_law_5 : List UInt8 := [21, 5, 6, 96, 46, 42, 21, 5, 7, 96, 46, 42, 21, 5, 8, 96, 46, 182, 0, 211, 159, 15, 35, 3]
abbrev dktL_law_5 : List UInt8 := dkwL_law_5 ++ dktL_law_6
def dkwL_law_4 : List UInt8 := [46, 42, 21, 5, 8, 96, 46, 182, 0, 207, 44, 42, 21, 5, 4, 96, 46, 42, 21, 5, 5, 96, 46, 42]
abbrev dktL_law_4 : List UInt8 := dkwL_law_4 ++ dktL_law_5
def dkwL_law_3 : List UInt8 := [43, 42, 21, 5, 4, 96, 46, 42, 21, 5, 5, 96, 46, 42, 21, 5, 6, 96, 46, 42, 21, 5, 7, 96]
abbrev dktL_law_3 : List UInt8 := dkwL_law_3 ++ dktL_law_4
def dkwL_law_2 : List UInt8 := [170, 0, 0, 0, 0, 16, 118, 0, 0, 0, 0, 0, 0, 0, 63, 0, 0, 1, 15, 0, 0, 1, 88, 0, 0, 1, 144, 0, 0, 1, 157, 0, 0, 1, 170, 0, 0, 1, 183, 0, 0, 2, 11, 0, 0, 2, 67, 0, 0, 2, 123, 0, 0, 2, 191, 0, 0, 3, 3, 0, 0, 3, 71, 0, 0, 3, 139, 0, 0, 3, 183, 0, 0, 4, 2, 0, 0, 4, 77, 0, 0, 4, 133, 0, 0, 4, 201, 0, 0, 5, 1, 0, 0, 5, 69, 0, 0, 5, 137, 0, 0, 5, 229, 0, 0, 6, 69, 0, 0, 6, 137, 0, 0, 6, 205, 0, 0, 7, 24, 0, 0, 7, 99, 0, 0, 7, 155, 0, 0, 7, 211, 0, 0, 8, 11, 0, 0, 8, 67, 0, 0, 8, 123, 0, 0, 8, 167, 0, 0, 8, 223, 0, 0, 9, 11, 0, 0, 9, 55, 0, 0, 9, 120, 0, 0, 9, 198, 0, 0, 10, 10, 0, 0, 10, 78, 0, 0, 10, 146, 0, 0, 10, 214, 0, 0, 11, 14, 0, 0, 11, 82, 0, 0, 11, 162, 0, 0, 11, 230, 0, 0, 12, 42, 0, 0, 12, 98, 0, 0, 12, 166, 0, 0, 12, 210, 0, 0, 13, 10, 0, 0, 13, 66, 0, 0, 13, 162, 0, 0, 13, 230, 0, 0, 14, 65, 0, 0, 14, 121, 0, 0, 14, 189, 0, 0, 15, 13, 0, 0, 15, 81, 0, 0, 15, 137, 0, 0, 15, 205, 0, 0, 15, 249, 0, 0, 16, 6, 0, 0, 16, 62]
abbrev dktL_law_2 : List UInt8 := dkwL_law_2 ++ dktL_law_3
def dkwL_law_1 : List UInt8 := [58, 4, 3, 54, 5, 21, 5, 42, 190, 16, 6, 100, 163, 16, 134, 42, 21, 5, 46, 16, 63, 126]
abbrev dktL_law_1 : List UInt8 := dkwL_law_1 ++ dktL_law_2
def dkwL_law_0 : List UInt8 := [187, 0, 8, 89, 183, 0, 203, 76, 187, 0, 204, 89, 183, 0, 206, 77, 4, 188, 11, 78, 4, 188, 7]
abbrev dktL_law_0 : List UInt8 := dkwL_law_0 ++ dktL_law_1
theorem dksL_law_0 : cL_law.data.toList.drop 0 = dktL_law_0 := by decide +kernel
theorem dksL_law_1 : cL_law.data.toList.drop 23 = dktL_law_1 := dk_seg dksL_law_0 23 rfl rfl
theorem dksL_law_2 : cL_law.data.toList.drop 45 = dktL_law_2 := dk_seg dksL_law_1 22 rfl rfl
theorem dksL_law_3 : cL_law.data.toList.drop 316 = dktL_law_3 := dk_seg dksL_law_2 271 rfl rfl
theorem dksL_law_4 : cL_law.data.toList.drop 340 = dktL_law_4 := dk_seg dksL_law_3 24 rfl rfl
theorem dksL_law_5 : cL_law.data.toList.drop 364 = dktL_law_5 := dk_seg dksL_law_4 24 rfl rfl
theorem dksL_law_6 : cL_law.data.toList.drop 388 = dktL_law_6 := dk_seg dksL_law_5 24 rfl rfl
theorem dksL_law_7 : cL_law.data.toList.drop 412 = dktL_law_7 := dk_seg dksL_law_6 24 rfl rfl
theorem dksL_law_8 : cL_law.data.toList.drop 436 = dktL_law_8 := dk_seg dksL_law_7 24 rfl rfl
theorem dksL_law_9 : cL_law.data.toList.drop 459 = dktL_law_9 := dk_seg dksL_law_8 23 rfl rfl
theorem dksL_law_10 : cL_law.data.toList.drop 483 = dktL_law_10 := dk_seg dksL_law_9 24 rfl rfl
theorem dksL_law_11 : cL_law.data.toList.drop 506 = dktL_law_11 := dk_seg dksL_law_10 23 rfl rfl
theorem dksL_law_12 : cL_law.data.toList.drop 528 = dktL_law_12 := dk_seg dksL_law_11 22 rfl rfl
theorem dksL_law_13 : cL_law.data.toList.drop 550 = dktL_law_13 := dk_seg dksL_law_12 22 rfl rfl
theorem dksL_law_14 : cL_law.data.toList.drop 574 = dktL_law_14 := dk_seg dksL_law_13 24 rfl rfl
theorem dksL_law_15 : cL_law.data.toList.drop 597 = dktL_law_15 := dk_seg dksL_law_14 23 rfl rfl
theorem dksL_law_16 : cL_law.data.toList.drop 621 = dktL_law_16 := dk_seg dksL_law_15 24 rfl rfl
theorem dksL_law_17 : cL_law.data.toList.drop 644 = dktL_law_17 := dk_seg dksL_law_16 23 rfl rfl
theorem dksL_law_18 : cL_law.data.toList.drop 668 = dktL_law_18 := dk_seg dksL_law_17 24 rfl rfl
theorem dksL_law_19 : cL_law.data.toList.drop 692 = dktL_law_19 := dk_seg dksL_law_18 24 rfl rfl
theorem dksL_law_20 : cL_law.data.toList.drop 715 = dktL_law_20 := dk_seg dksL_law_19 23 rfl rfl
theorem dksL_law_21 : cL_law.data.toList.drop 739 = dktL_law_21 := dk_seg dksL_law_20 24 rfl rfl
theorem dksL_law_22 : cL_law.data.toList.drop 762 = dktL_law_22 := dk_seg dksL_law_21 23 rfl rfl
theorem dksL_law_23 : cL_law.data.toList.drop 786 = dktL_law_23 := dk_seg dksL_law_22 24 rfl rfl
theorem dksL_law_24 : cL_law.data.toList.drop 808 = dktL_law_24 := dk_seg dksL_law_23 22 rfl rfl
theorem dksL_law_25 : cL_law.data.toList.drop 830 = dktL_law_25 := dk_seg dksL_law_24 22 rfl rfl
theorem dksL_law_26 : cL_law.data.toList.drop 854 = dktL_law_26 := dk_seg dksL_law_25 24 rfl rfl
theorem dksL_law_27 : cL_law.data.toList.drop 876 = dktL_law_27 := dk_seg dksL_law_26 22 rfl rfl
theorem dksL_law_28 : cL_law.data.toList.drop 898 = dktL_law_28 := dk_seg dksL_law_27 22 rfl rfl
theorem dksL_law_29 : cL_law.data.toList.drop 922 = dktL_law_29 := dk_seg dksL_law_28 24 rfl rfl
theorem dksL_law_30 : cL_law.data.toList.drop 944 = dktL_law_30 := dk_seg dksL_law_29 22 rfl rfl
theorem dksL_law_31 : cL_law.data.toList.drop 966 = dktL_law_31 := dk_seg dksL_law_30 22 rfl rfl
theorem dksL_law_32 : cL_law.data.toList.drop 988 = dktL_law_32 := dk_seg dksL_law_31 22 rfl rfl
theorem dksL_law_33 : cL_law.data.toList.drop 1010 = dktL_law_33 := dk_seg dksL_law_32 22 rfl rfl
theorem dksL_law_34 : cL_law.data.toList.drop 1034 = dktL_law_34 := dk_seg dksL_law_33 24 rfl rfl
theorem dksL_law_35 : cL_law.data.toList.drop 1058 = dktL_law_35 := dk_seg dksL_law_34 24 rfl rfl
theorem dksL_law_36 : cL_law.data.toList.drop 1082 = dktL_law_36 := dk_seg dksL_law_35 24 rfl rfl
theorem dksL_law_37 : cL_law.data.toList.drop 1106 = dktL_law_37 := dk_seg dksL_law_36 24 rfl rfl
theorem dksL_law_38 : cL_law.data.toList.drop 1129 = dktL_law_38 := dk_seg dksL_law_37 23 rfl rfl
theorem dksL_law_39 : cL_law.data.toList.drop 1153 = dktL_law_39 := dk_seg dksL_law_38 24 rfl rfl
theorem dksL_law_40 : cL_law.data.toList.drop 1177 = dktL_law_40 := dk_seg dksL_law_39 24 rfl rfl
theorem dksL_law_41 : cL_law.data.toList.drop 1199 = dktL_law_41 := dk_seg dksL_law_40 22 rfl rfl
theorem dksL_law_42 : cL_law.data.toList.drop 1223 = dktL_law_42 := dk_seg dksL_law_41 24 rfl rfl
theorem dksL_law_43 : cL_law.data.toList.drop 1245 = dktL_law_43 := dk_seg dksL_law_42 22 rfl rfl
theorem dksL_law_44 : cL_law.data.toList.drop 1267 = dktL_law_44 := dk_seg dksL_law_43 22 rfl rfl
theorem dksL_law_45 : cL_law.data.toList.drop 1290 = dktL_law_45 := dk_seg dksL_law_44 23 rfl rfl
theorem dksL_law_46 : cL_law.data.toList.drop 1314 = dktL_law_46 := dk_seg dksL_law_45 24 rfl rfl
theorem dksL_law_47 : cL_law.data.toList.drop 1338 = dktL_law_47 := dk_seg dksL_law_46 24 rfl rfl
theorem dksL_law_48 : cL_law.data.toList.drop 1361 = dktL_law_48 := dk_seg dksL_law_47 23 rfl rfl
theorem dksL_law_49 : cL_law.data.toList.drop 1385 = dktL_law_49 := dk_seg dksL_law_48 24 rfl rfl
theorem dksL_law_50 : cL_law.data.toList.drop 1408 = dktL_law_50 := dk_seg dksL_law_49 23 rfl rfl
theorem dksL_law_51 : cL_law.data.toList.drop 1432 = dktL_law_51 := dk_seg dksL_law_50 24 rfl rfl
theorem dksL_law_52 : cL_law.data.toList.drop 1454 = dktL_law_52 := dk_seg dksL_law_51 22 rfl rfl
theorem dksL_law_53 : cL_law.data.toList.drop 1478 = dktL_law_53 := dk_seg dksL_law_52 24 rfl rfl
theorem dksL_law_54 : cL_law.data.toList.drop 1501 = dktL_law_54 := dk_seg dksL_law_53 23 rfl rfl
theorem dksL_law_55 : cL_law.data.toList.drop 1524 = dktL_law_55 := dk_seg dksL_law_54 23 rfl rfl
theorem dksL_law_56 : cL_law.data.toList.drop 1546 = dktL_law_56 := dk_seg dksL_law_55 22 rfl rfl
theorem dksL_law_57 : cL_law.data.toList.drop 1570 = dktL_law_57 := dk_seg dksL_law_56 24 rfl rfl
theorem dksL_law_58 : cL_law.data.toList.drop 1594 = dktL_law_58 := dk_seg dksL_law_57 24 rfl rfl
theorem dksL_law_59 : cL_law.data.toList.drop 1617 = dktL_law_59 := dk_seg dksL_law_58 23 rfl rfl
theorem dksL_law_60 : cL_law.data.toList.drop 1641 = dktL_law_60 := dk_seg dksL_law_59 24 rfl rfl
theorem dksL_law_61 : cL_law.data.toList.drop 1664 = dktL_law_61 := dk_seg dksL_law_60 23 rfl rfl
theorem dksL_law_62 : cL_law.data.toList.drop 1688 = dktL_law_62 := dk_seg dksL_law_61 24 rfl rfl
theorem dksL_law_63 : cL_law.data.toList.drop 1710 = dktL_law_63 := dk_seg dksL_law_62 22 rfl rfl
theorem dksL_law_64 : cL_law.data.toList.drop 1732 = dktL_law_64 := dk_seg dksL_law_63 22 rfl rfl
theorem dksL_law_65 : cL_law.data.toList.drop 1756 = dktL_law_65 := dk_seg dksL_law_64 24 rfl rfl
theorem dksL_law_66 : cL_law.data.toList.drop 1778 = dktL_law_66 := dk_seg dksL_law_65 22 rfl rfl
theorem dksL_law_67 : cL_law.data.toList.drop 1800 = dktL_law_67 := dk_seg dksL_law_66 22 rfl rfl
theorem dksL_law_68 : cL_law.data.toList.drop 1824 = dktL_law_68 := dk_seg dksL_law_67 24 rfl rfl
theorem dksL_law_69 : cL_law.data.toList.drop 1848 = dktL_law_69 := dk_seg dksL_law_68 24 rfl rfl
theorem dksL_law_70 : cL_law.data.toList.drop 1872 = dktL_law_70 := dk_seg dksL_law_69 24 rfl rfl
theorem dksL_law_71 : cL_law.data.toList.drop 1896 = dktL_law_71 := dk_seg dksL_law_70 24 rfl rfl
theorem dksL_law_72 : cL_law.data.toList.drop 1919 = dktL_law_72 := dk_seg dksL_law_71 23 rfl rfl
theorem dksL_law_73 : cL_law.data.toList.drop 1943 = dktL_law_73 := dk_seg dksL_law_72 24 rfl rfl
theorem dksL_law_74 : cL_law.data.toList.drop 1967 = dktL_law_74 := dk_seg dksL_law_73 24 rfl rfl
theorem dksL_law_75 : cL_law.data.toList.drop 1989 = dktL_law_75 := dk_seg dksL_law_74 22 rfl rfl
theorem dksL_law_76 : cL_law.data.toList.drop 2012 = dktL_law_76 := dk_seg dksL_law_75 23 rfl rfl
theorem dksL_law_77 : cL_law.data.toList.drop 2036 = dktL_law_77 := dk_seg dksL_law_76 24 rfl rfl
theorem dksL_law_78 : cL_law.data.toList.drop 2059 = dktL_law_78 := dk_seg dksL_law_77 23 rfl rfl
theorem dksL_law_79 : cL_law.data.toList.drop 2083 = dktL_law_79 := dk_seg dksL_law_78 24 rfl rfl
theorem dksL_law_80 : cL_law.data.toList.drop 2106 = dktL_law_80 := dk_seg dksL_law_79 23 rfl rfl
theorem dksL_law_81 : cL_law.data.toList.drop 2130 = dktL_law_81 := dk_seg dksL_law_80 24 rfl rfl
theorem dksL_law_82 : cL_law.data.toList.drop 2152 = dktL_law_82 := dk_seg dksL_law_81 22 rfl rfl
theorem dksL_law_83 : cL_law.data.toList.drop 2175 = dktL_law_83 := dk_seg dksL_law_82 23 rfl rfl
theorem dksL_law_84 : cL_law.data.toList.drop 2198 = dktL_law_84 := dk_seg dksL_law_83 23 rfl rfl
theorem dksL_law_85 : cL_law.data.toList.drop 2221 = dktL_law_85 := dk_seg dksL_law_84 23 rfl rfl
theorem dksL_law_86 : cL_law.data.toList.drop 2245 = dktL_law_86 := dk_seg dksL_law_85 24 rfl rfl
theorem dksL_law_87 : cL_law.data.toList.drop 2268 = dktL_law_87 := dk_seg dksL_law_86 23 rfl rfl
theorem dksL_law_88 : cL_law.data.toList.drop 2291 = dktL_law_88 := dk_seg dksL_law_87 23 rfl rfl
theorem dksL_law_89 : cL_law.data.toList.drop 2313 = dktL_law_89 := dk_seg dksL_law_88 22 rfl rfl
theorem dksL_law_90 : cL_law.data.toList.drop 2335 = dktL_law_90 := dk_seg dksL_law_89 22 rfl rfl
theorem dksL_law_91 : cL_law.data.toList.drop 2357 = dktL_law_91 := dk_seg dksL_law_90 22 rfl rfl
theorem dksL_law_92 : cL_law.data.toList.drop 2379 = dktL_law_92 := dk_seg dksL_law_91 22 rfl rfl
theorem dksL_law_93 : cL_law.data.toList.drop 2401 = dktL_law_93 := dk_seg dksL_law_92 22 rfl rfl
theorem dksL_law_94 : cL_law.data.toList.drop 2424 = dktL_law_94 := dk_seg dksL_law_93 23 rfl rfl
theorem dksL_law_95 : cL_law.data.toList.drop 2448 = dktL_law_95 := dk_seg dksL_law_94 24 rfl rfl
theorem dksL_law_96 : cL_law.data.toList.drop 2471 = dktL_law_96 := dk_seg dksL_law_95 23 rfl rfl
theorem dksL_law_97 : cL_law.data.toList.drop 2495 = dktL_law_97 := dk_seg dksL_law_96 24 rfl rfl
theorem dksL_law_98 : cL_law.data.toList.drop 2519 = dktL_law_98 := dk_seg dksL_law_97 24 rfl rfl
theorem dksL_law_99 : cL_law.data.toList.drop 2543 = dktL_law_99 := dk_seg dksL_law_98 24 rfl rfl
theorem dksL_law_100 : cL_law.data.toList.drop 2567 = dktL_law_100 := dk_seg dksL_law_99 24 rfl rfl
theorem dksL_law_101 : cL_law.data.toList.drop 2590 = dktL_law_101 := dk_seg dksL_law_100 23 rfl rfl
theorem dksL_law_102 : cL_law.data.toList.drop 2612 = dktL_law_102 := dk_seg dksL_law_101 22 rfl rfl
theorem dksL_law_103 : cL_law.data.toList.drop 2636 = dktL_law_103 := dk_seg dksL_law_102 24 rfl rfl
theorem dksL_law_104 : cL_law.data.toList.drop 2658 = dktL_law_104 := dk_seg dksL_law_103 22 rfl rfl
theorem dksL_law_105 : cL_law.data.toList.drop 2680 = dktL_law_105 := dk_seg dksL_law_104 22 rfl rfl
theorem dksL_law_106 : cL_law.data.toList.drop 2704 = dktL_law_106 := dk_seg dksL_law_105 24 rfl rfl
theorem dksL_law_107 : cL_law.data.toList.drop 2726 = dktL_law_107 := dk_seg dksL_law_106 22 rfl rfl
theorem dksL_law_108 : cL_law.data.toList.drop 2748 = dktL_law_108 := dk_seg dksL_law_107 22 rfl rfl
theorem dksL_law_109 : cL_law.data.toList.drop 2772 = dktL_law_109 := dk_seg dksL_law_108 24 rfl rfl
theorem dksL_law_110 : cL_law.data.toList.drop 2794 = dktL_law_110 := dk_seg dksL_law_109 22 rfl rfl
theorem dksL_law_111 : cL_law.data.toList.drop 2816 = dktL_law_111 := dk_seg dksL_law_110 22 rfl rfl
theorem dksL_law_112 : cL_law.data.toList.drop 2839 = dktL_law_112 := dk_seg dksL_law_111 23 rfl rfl
theorem dksL_law_113 : cL_law.data.toList.drop 2863 = dktL_law_113 := dk_seg dksL_law_112 24 rfl rfl
theorem dksL_law_114 : cL_law.data.toList.drop 2887 = dktL_law_114 := dk_seg dksL_law_113 24 rfl rfl
theorem dksL_law_115 : cL_law.data.toList.drop 2910 = dktL_law_115 := dk_seg dksL_law_114 23 rfl rfl
theorem dksL_law_116 : cL_law.data.toList.drop 2934 = dktL_law_116 := dk_seg dksL_law_115 24 rfl rfl
theorem dksL_law_117 : cL_law.data.toList.drop 2957 = dktL_law_117 := dk_seg dksL_law_116 23 rfl rfl
theorem dksL_law_118 : cL_law.data.toList.drop 2981 = dktL_law_118 := dk_seg dksL_law_117 24 rfl rfl
theorem dksL_law_119 : cL_law.data.toList.drop 3005 = dktL_law_119 := dk_seg dksL_law_118 24 rfl rfl
theorem dksL_law_120 : cL_law.data.toList.drop 3029 = dktL_law_120 := dk_seg dksL_law_119 24 rfl rfl
theorem dksL_law_121 : cL_law.data.toList.drop 3053 = dktL_law_121 := dk_seg dksL_law_120 24 rfl rfl
theorem dksL_law_122 : cL_law.data.toList.drop 3077 = dktL_law_122 := dk_seg dksL_law_121 24 rfl rfl
theorem dksL_law_123 : cL_law.data.toList.drop 3101 = dktL_law_123 := dk_seg dksL_law_122 24 rfl rfl
theorem dksL_law_124 : cL_law.data.toList.drop 3123 = dktL_law_124 := dk_seg dksL_law_123 22 rfl rfl
theorem dksL_law_125 : cL_law.data.toList.drop 3147 = dktL_law_125 := dk_seg dksL_law_124 24 rfl rfl
theorem dksL_law_126 : cL_law.data.toList.drop 3170 = dktL_law_126 := dk_seg dksL_law_125 23 rfl rfl
theorem dksL_law_127 : cL_law.data.toList.drop 3194 = dktL_law_127 := dk_seg dksL_law_126 24 rfl rfl
theorem dksL_law_128 : cL_law.data.toList.drop 3217 = dktL_law_128 := dk_seg dksL_law_127 23 rfl rfl
theorem dksL_law_129 : cL_law.data.toList.drop 3241 = dktL_law_129 := dk_seg dksL_law_128 24 rfl rfl
theorem dksL_law_130 : cL_law.data.toList.drop 3265 = dktL_law_130 := dk_seg dksL_law_129 24 rfl rfl
theorem dksL_law_131 : cL_law.data.toList.drop 3288 = dktL_law_131 := dk_seg dksL_law_130 23 rfl rfl
theorem dksL_law_132 : cL_law.data.toList.drop 3312 = dktL_law_132 := dk_seg dksL_law_131 24 rfl rfl
theorem dksL_law_133 : cL_law.data.toList.drop 3335 = dktL_law_133 := dk_seg dksL_law_132 23 rfl rfl
theorem dksL_law_134 : cL_law.data.toList.drop 3358 = dktL_law_134 := dk_seg dksL_law_133 23 rfl rfl
theorem dksL_law_135 : cL_law.data.toList.drop 3380 = dktL_law_135 := dk_seg dksL_law_134 22 rfl rfl
theorem dksL_law_136 : cL_law.data.toList.drop 3403 = dktL_law_136 := dk_seg dksL_law_135 23 rfl rfl
theorem dksL_law_137 : cL_law.data.toList.drop 3427 = dktL_law_137 := dk_seg dksL_law_136 24 rfl rfl
theorem dksL_law_138 : cL_law.data.toList.drop 3451 = dktL_law_138 := dk_seg dksL_law_137 24 rfl rfl
theorem dksL_law_139 : cL_law.data.toList.drop 3474 = dktL_law_139 := dk_seg dksL_law_138 23 rfl rfl
theorem dksL_law_140 : cL_law.data.toList.drop 3498 = dktL_law_140 := dk_seg dksL_law_139 24 rfl rfl
theorem dksL_law_141 : cL_law.data.toList.drop 3522 = dktL_law_141 := dk_seg dksL_law_140 24 rfl rfl
theorem dksL_law_142 : cL_law.data.toList.drop 3546 = dktL_law_142 := dk_seg dksL_law_141 24 rfl rfl
theorem dksL_law_143 : cL_law.data.toList.drop 3570 = dktL_law_143 := dk_seg dksL_law_142 24 rfl rfl
theorem dksL_law_144 : cL_law.data.toList.drop 3594 = dktL_law_144 := dk_seg dksL_law_143 24 rfl rfl
theorem dksL_law_145 : cL_law.data.toList.drop 3616 = dktL_law_145 := dk_seg dksL_law_144 22 rfl rfl
theorem dksL_law_146 : cL_law.data.toList.drop 3640 = dktL_law_146 := dk_seg dksL_law_145 24 rfl rfl
theorem dksL_law_147 : cL_law.data.toList.drop 3662 = dktL_law_147 := dk_seg dksL_law_146 22 rfl rfl
theorem dksL_law_148 : cL_law.data.toList.drop 3686 = dktL_law_148 := dk_seg dksL_law_147 24 rfl rfl
theorem dksL_law_149 : cL_law.data.toList.drop 3709 = dktL_law_149 := dk_seg dksL_law_148 23 rfl rfl
theorem dksL_law_150 : cL_law.data.toList.drop 3732 = dktL_law_150 := dk_seg dksL_law_149 23 rfl rfl
theorem dksL_law_151 : cL_law.data.toList.drop 3756 = dktL_law_151 := dk_seg dksL_law_150 24 rfl rfl
theorem dksL_law_152 : cL_law.data.toList.drop 3780 = dktL_law_152 := dk_seg dksL_law_151 24 rfl rfl
theorem dksL_law_153 : cL_law.data.toList.drop 3804 = dktL_law_153 := dk_seg dksL_law_152 24 rfl rfl
theorem dksL_law_154 : cL_law.data.toList.drop 3828 = dktL_law_154 := dk_seg dksL_law_153 24 rfl rfl
theorem dksL_law_155 : cL_law.data.toList.drop 3851 = dktL_law_155 := dk_seg dksL_law_154 23 rfl rfl
theorem dksL_law_156 : cL_law.data.toList.drop 3873 = dktL_law_156 := dk_seg dksL_law_155 22 rfl rfl
theorem dksL_law_157 : cL_law.data.toList.drop 3895 = dktL_law_157 := dk_seg dksL_law_156 22 rfl rfl
theorem dksL_law_158 : cL_law.data.toList.drop 3919 = dktL_law_158 := dk_seg dksL_law_157 24 rfl rfl
theorem dksL_law_159 : cL_law.data.toList.drop 3941 = dktL_law_159 := dk_seg dksL_law_158 22 rfl rfl
theorem dksL_law_160 : cL_law.data.toList.drop 3963 = dktL_law_160 := dk_seg dksL_law_159 22 rfl rfl
theorem dksL_law_161 : cL_law.data.toList.drop 3986 = dktL_law_161 := dk_seg dksL_law_160 23 rfl rfl
theorem dksL_law_162 : cL_law.data.toList.drop 4010 = dktL_law_162 := dk_seg dksL_law_161 24 rfl rfl
theorem dksL_law_163 : cL_law.data.toList.drop 4034 = dktL_law_163 := dk_seg dksL_law_162 24 rfl rfl
theorem dksL_law_164 : cL_law.data.toList.drop 4057 = dktL_law_164 := dk_seg dksL_law_163 23 rfl rfl
theorem dksL_law_165 : cL_law.data.toList.drop 4081 = dktL_law_165 := dk_seg dksL_law_164 24 rfl rfl
theorem dksL_law_166 : cL_law.data.toList.drop 4104 = dktL_law_166 := dk_seg dksL_law_165 23 rfl rfl
theorem dksL_law_167 : cL_law.data.toList.drop 4126 = dktL_law_167 := dk_seg dksL_law_166 22 rfl rfl
theorem dksL_law_168 : cL_law.data.toList.drop 4149 = dktL_law_168 := dk_seg dksL_law_167 23 rfl rfl
theorem dksL_law_169 : cL_law.data.toList.drop 4173 = dktL_law_169 := dk_seg dksL_law_168 24 rfl rfl
theorem dksL_law_170 : cL_law.data.toList.drop 4195 = dktL_law_170 := dk_seg dksL_law_169 22 rfl rfl
theorem dksL_law_171 : cL_law.data.toList.drop 4218 = dktL_law_171 := dk_seg dksL_law_170 23 rfl rfl
theorem dksL_law_172 : cL_law.data.toList.drop 4241 = dktL_law_172 := dk_seg dksL_law_171 23 rfl rfl
theorem dksL_law_173 : cL_law.data.toList.drop 4265 = dktL_law_173 := dk_seg dksL_law_172 24 rfl rfl
theorem dL_law_0 : decode cL_law 0 = .ok (.new 8, 3) := dk_187 0 8 (dk_at dksL_law_0 0 rfl rfl)
theorem dL_law_3 : decode cL_law 3 = .ok (.dup, 1) := dk_89 (dk_at dksL_law_0 3 rfl rfl)
theorem dL_law_4 : decode cL_law 4 = .ok (.invokespecial 203, 3) := dk_183 0 203 (dk_at dksL_law_0 4 rfl rfl)
theorem dL_law_7 : decode cL_law 7 = .ok (.astore_n 1, 1) := dk_76 (dk_at dksL_law_0 7 rfl rfl)
theorem dL_law_8 : decode cL_law 8 = .ok (.new 204, 3) := dk_187 0 204 (dk_at dksL_law_0 8 rfl rfl)
theorem dL_law_11 : decode cL_law 11 = .ok (.dup, 1) := dk_89 (dk_at dksL_law_0 11 rfl rfl)
theorem dL_law_12 : decode cL_law 12 = .ok (.invokespecial 206, 3) := dk_183 0 206 (dk_at dksL_law_0 12 rfl rfl)
theorem dL_law_15 : decode cL_law 15 = .ok (.astore_n 2, 1) := dk_77 (dk_at dksL_law_0 15 rfl rfl)
theorem dL_law_16 : decode cL_law 16 = .ok (.iconst 1, 1) := dk_4 (dk_at dksL_law_0 16 rfl rfl)
theorem dL_law_17 : decode cL_law 17 = .ok (.newarray .long, 2) := dk_188_11 (dk_at dksL_law_0 17 rfl rfl)
theorem dL_law_19 : decode cL_law 19 = .ok (.astore_n 3, 1) := dk_78 (dk_at dksL_law_0 19 rfl rfl)
theorem dL_law_20 : decode cL_law 20 = .ok (.iconst 1, 1) := dk_4 (dk_at dksL_law_0 20 rfl rfl)
theorem dL_law_21 : decode cL_law 21 = .ok (.newarray .double, 2) := dk_188_7 (dk_at dksL_law_0 21 rfl rfl)
theorem dL_law_23 : decode cL_law 23 = .ok (.astore 4, 2) := dk_58 4 (dk_at dksL_law_1 0 rfl rfl)
theorem dL_law_25 : decode cL_law 25 = .ok (.iconst 0, 1) := dk_3 (dk_at dksL_law_1 2 rfl rfl)
theorem dL_law_26 : decode cL_law 26 = .ok (.istore 5, 2) := dk_54 5 (dk_at dksL_law_1 3 rfl rfl)
theorem dL_law_28 : decode cL_law 28 = .ok (.iload 5, 2) := dk_21 5 (dk_at dksL_law_1 5 rfl rfl)
theorem dL_law_30 : decode cL_law 30 = .ok (.aload_n 0, 1) := dk_42 (dk_at dksL_law_1 7 rfl rfl)
theorem dL_law_31 : decode cL_law 31 = .ok (.arraylength, 1) := dk_190 (dk_at dksL_law_1 8 rfl rfl)
theorem dL_law_32 : decode cL_law 32 = .ok (.bipush 6, 2) := dk_16 6 (dk_at dksL_law_1 9 rfl rfl)
theorem dL_law_34 : decode cL_law 34 = .ok (.isub, 1) := dk_100 (dk_at dksL_law_1 11 rfl rfl)
theorem dL_law_35 : decode cL_law 35 = .ok (.if_icmp .gt 4230, 3) := dk_163 16 134 (dk_at dksL_law_1 12 rfl rfl)
theorem dL_law_38 : decode cL_law 38 = .ok (.aload_n 0, 1) := dk_42 (dk_at dksL_law_1 15 rfl rfl)
theorem dL_law_39 : decode cL_law 39 = .ok (.iload 5, 2) := dk_21 5 (dk_at dksL_law_1 16 rfl rfl)
theorem dL_law_41 : decode cL_law 41 = .ok (.iaload, 1) := dk_46 (dk_at dksL_law_1 18 rfl rfl)
theorem dL_law_42 : decode cL_law 42 = .ok (.bipush 63, 2) := dk_16 63 (dk_at dksL_law_1 19 rfl rfl)
theorem dL_law_44 : decode cL_law 44 = .ok (.iand, 1) := dk_126 (dk_at dksL_law_1 21 rfl rfl)
theorem dL_law_45 : decode cL_law 45 = .ok (.tableswitch 4214 0 63 #[271, 344, 400, 413, 426, 439, 523, 579, 635, 703, 771, 839, 907, 951, 1026, 1101, 1157, 1225, 1281, 1349, 1417, 1509, 1605, 1673, 1741, 1816, 1891, 1947, 2003, 2059, 2115, 2171, 2215, 2271, 2315, 2359, 2424, 2502, 2570, 2638, 2706, 2774, 2830, 2898, 2978, 3046, 3114, 3170, 3238, 3282, 3338, 3394, 3490, 3558, 3649, 3705, 3773, 3853, 3921, 3977, 4045, 4089, 4102, 4158], 271) := by decide +kernel
theorem dL_law_316 : decode cL_law 316 = .ok (.aload_n 1, 1) := dk_43 (dk_at dksL_law_3 0 rfl rfl)
theorem dL_law_317 : decode cL_law 317 = .ok (.aload_n 0, 1) := dk_42 (dk_at dksL_law_3 1 rfl rfl)
theorem dL_law_318 : decode cL_law 318 = .ok (.iload 5, 2) := dk_21 5 (dk_at dksL_law_3 2 rfl rfl)
theorem dL_law_320 : decode cL_law 320 = .ok (.iconst 1, 1) := dk_4 (dk_at dksL_law_3 4 rfl rfl)
theorem dL_law_321 : decode cL_law 321 = .ok (.iadd, 1) := dk_96 (dk_at dksL_law_3 5 rfl rfl)
theorem dL_law_322 : decode cL_law 322 = .ok (.iaload, 1) := dk_46 (dk_at dksL_law_3 6 rfl rfl)
theorem dL_law_323 : decode cL_law 323 = .ok (.aload_n 0, 1) := dk_42 (dk_at dksL_law_3 7 rfl rfl)
theorem dL_law_324 : decode cL_law 324 = .ok (.iload 5, 2) := dk_21 5 (dk_at dksL_law_3 8 rfl rfl)
theorem dL_law_326 : decode cL_law 326 = .ok (.iconst 2, 1) := dk_5 (dk_at dksL_law_3 10 rfl rfl)
theorem dL_law_327 : decode cL_law 327 = .ok (.iadd, 1) := dk_96 (dk_at dksL_law_3 11 rfl rfl)
theorem dL_law_328 : decode cL_law 328 = .ok (.iaload, 1) := dk_46 (dk_at dksL_law_3 12 rfl rfl)
theorem dL_law_329 : decode cL_law 329 = .ok (.aload_n 0, 1) := dk_42 (dk_at dksL_law_3 13 rfl rfl)
theorem dL_law_330 : decode cL_law 330 = .ok (.iload 5, 2) := dk_21 5 (dk_at dksL_law_3 14 rfl rfl)
theorem dL_law_332 : decode cL_law 332 = .ok (.iconst 3, 1) := dk_6 (dk_at dksL_law_3 16 rfl rfl)
theorem dL_law_333 : decode cL_law 333 = .ok (.iadd, 1) := dk_96 (dk_at dksL_law_3 17 rfl rfl)
theorem dL_law_334 : decode cL_law 334 = .ok (.iaload, 1) := dk_46 (dk_at dksL_law_3 18 rfl rfl)
theorem dL_law_335 : decode cL_law 335 = .ok (.aload_n 0, 1) := dk_42 (dk_at dksL_law_3 19 rfl rfl)
theorem dL_law_336 : decode cL_law 336 = .ok (.iload 5, 2) := dk_21 5 (dk_at dksL_law_3 20 rfl rfl)
theorem dL_law_338 : decode cL_law 338 = .ok (.iconst 4, 1) := dk_7 (dk_at dksL_law_3 22 rfl rfl)
theorem dL_law_339 : decode cL_law 339 = .ok (.iadd, 1) := dk_96 (dk_at dksL_law_3 23 rfl rfl)
theorem dL_law_340 : decode cL_law 340 = .ok (.iaload, 1) := dk_46 (dk_at dksL_law_4 0 rfl rfl)
theorem dL_law_341 : decode cL_law 341 = .ok (.aload_n 0, 1) := dk_42 (dk_at dksL_law_4 1 rfl rfl)
theorem dL_law_342 : decode cL_law 342 = .ok (.iload 5, 2) := dk_21 5 (dk_at dksL_law_4 2 rfl rfl)
theorem dL_law_344 : decode cL_law 344 = .ok (.iconst 5, 1) := dk_8 (dk_at dksL_law_4 4 rfl rfl)
theorem dL_law_345 : decode cL_law 345 = .ok (.iadd, 1) := dk_96 (dk_at dksL_law_4 5 rfl rfl)
theorem dL_law_346 : decode cL_law 346 = .ok (.iaload, 1) := dk_46 (dk_at dksL_law_4 6 rfl rfl)
theorem dL_law_347 : decode cL_law 347 = .ok (.invokevirtual 207, 3) := dk_182 0 207 (dk_at dksL_law_4 7 rfl rfl)
theorem dL_law_350 : decode cL_law 350 = .ok (.aload_n 2, 1) := dk_44 (dk_at dksL_law_4 10 rfl rfl)
theorem dL_law_351 : decode cL_law 351 = .ok (.aload_n 0, 1) := dk_42 (dk_at dksL_law_4 11 rfl rfl)
theorem dL_law_352 : decode cL_law 352 = .ok (.iload 5, 2) := dk_21 5 (dk_at dksL_law_4 12 rfl rfl)
theorem dL_law_354 : decode cL_law 354 = .ok (.iconst 1, 1) := dk_4 (dk_at dksL_law_4 14 rfl rfl)
theorem dL_law_355 : decode cL_law 355 = .ok (.iadd, 1) := dk_96 (dk_at dksL_law_4 15 rfl rfl)
theorem dL_law_356 : decode cL_law 356 = .ok (.iaload, 1) := dk_46 (dk_at dksL_law_4 16 rfl rfl)
theorem dL_law_357 : decode cL_law 357 = .ok (.aload_n 0, 1) := dk_42 (dk_at dksL_law_4 17 rfl rfl)
theorem dL_law_358 : decode cL_law 358 = .ok (.iload 5, 2) := dk_21 5 (dk_at dksL_law_4 18 rfl rfl)
theorem dL_law_360 : decode cL_law 360 = .ok (.iconst 2, 1) := dk_5 (dk_at dksL_law_4 20 rfl rfl)
theorem dL_law_361 : decode cL_law 361 = .ok (.iadd, 1) := dk_96 (dk_at dksL_law_4 21 rfl rfl)
theorem dL_law_362 : decode cL_law 362 = .ok (.iaload, 1) := dk_46 (dk_at dksL_law_4 22 rfl rfl)
theorem dL_law_363 : decode cL_law 363 = .ok (.aload_n 0, 1) := dk_42 (dk_at dksL_law_4 23 rfl rfl)
theorem dL_law_364 : decode cL_law 364 = .ok (.iload 5, 2) := dk_21 5 (dk_at dksL_law_5 0 rfl rfl)
theorem dL_law_366 : decode cL_law 366 = .ok (.iconst 3, 1) := dk_6 (dk_at dksL_law_5 2 rfl rfl)
theorem dL_law_367 : decode cL_law 367 = .ok (.iadd, 1) := dk_96 (dk_at dksL_law_5 3 rfl rfl)
theorem dL_law_368 : decode cL_law 368 = .ok (.iaload, 1) := dk_46 (dk_at dksL_law_5 4 rfl rfl)
theorem dL_law_369 : decode cL_law 369 = .ok (.aload_n 0, 1) := dk_42 (dk_at dksL_law_5 5 rfl rfl)
theorem dL_law_370 : decode cL_law 370 = .ok (.iload 5, 2) := dk_21 5 (dk_at dksL_law_5 6 rfl rfl)
theorem dL_law_372 : decode cL_law 372 = .ok (.iconst 4, 1) := dk_7 (dk_at dksL_law_5 8 rfl rfl)
theorem dL_law_373 : decode cL_law 373 = .ok (.iadd, 1) := dk_96 (dk_at dksL_law_5 9 rfl rfl)
theorem dL_law_374 : decode cL_law 374 = .ok (.iaload, 1) := dk_46 (dk_at dksL_law_5 10 rfl rfl)
theorem dL_law_375 : decode cL_law 375 = .ok (.aload_n 0, 1) := dk_42 (dk_at dksL_law_5 11 rfl rfl)
theorem dL_law_376 : decode cL_law 376 = .ok (.iload 5, 2) := dk_21 5 (dk_at dksL_law_5 12 rfl rfl)
theorem dL_law_378 : decode cL_law 378 = .ok (.iconst 5, 1) := dk_8 (dk_at dksL_law_5 14 rfl rfl)
theorem dL_law_379 : decode cL_law 379 = .ok (.iadd, 1) := dk_96 (dk_at dksL_law_5 15 rfl rfl)
theorem dL_law_380 : decode cL_law 380 = .ok (.iaload, 1) := dk_46 (dk_at dksL_law_5 16 rfl rfl)
theorem dL_law_381 : decode cL_law 381 = .ok (.invokevirtual 211, 3) := dk_182 0 211 (dk_at dksL_law_5 17 rfl rfl)
theorem dL_law_384 : decode cL_law 384 = .ok (.if_icmp .eq 3875, 3) := dk_159 15 35 (dk_at dksL_law_5 20 rfl rfl)
theorem dL_law_387 : decode cL_law 387 = .ok (.iconst 0, 1) := dk_3 (dk_at dksL_law_5 23 rfl rfl)
theorem dL_law_388 : decode cL_law 388 = .ok (.ireturn, 1) := dk_172 (dk_at dksL_law_6 0 rfl rfl)
theorem dL_law_389 : decode cL_law 389 = .ok (.aload_n 1, 1) := dk_43 (dk_at dksL_law_6 1 rfl rfl)
theorem dL_law_390 : decode cL_law 390 = .ok (.aload_n 0, 1) := dk_42 (dk_at dksL_law_6 2 rfl rfl)
theorem dL_law_391 : decode cL_law 391 = .ok (.iload 5, 2) := dk_21 5 (dk_at dksL_law_6 3 rfl rfl)
theorem dL_law_393 : decode cL_law 393 = .ok (.iconst 1, 1) := dk_4 (dk_at dksL_law_6 5 rfl rfl)
theorem dL_law_394 : decode cL_law 394 = .ok (.iadd, 1) := dk_96 (dk_at dksL_law_6 6 rfl rfl)
theorem dL_law_395 : decode cL_law 395 = .ok (.iaload, 1) := dk_46 (dk_at dksL_law_6 7 rfl rfl)
theorem dL_law_396 : decode cL_law 396 = .ok (.aload_n 3, 1) := dk_45 (dk_at dksL_law_6 8 rfl rfl)
theorem dL_law_397 : decode cL_law 397 = .ok (.invokestatic 212, 3) := dk_184 0 212 (dk_at dksL_law_6 9 rfl rfl)
theorem dL_law_400 : decode cL_law 400 = .ok (.istore 6, 2) := dk_54 6 (dk_at dksL_law_6 12 rfl rfl)
theorem dL_law_402 : decode cL_law 402 = .ok (.aload_n 2, 1) := dk_44 (dk_at dksL_law_6 14 rfl rfl)
theorem dL_law_403 : decode cL_law 403 = .ok (.aload_n 0, 1) := dk_42 (dk_at dksL_law_6 15 rfl rfl)
theorem dL_law_404 : decode cL_law 404 = .ok (.iload 5, 2) := dk_21 5 (dk_at dksL_law_6 16 rfl rfl)
theorem dL_law_406 : decode cL_law 406 = .ok (.iconst 1, 1) := dk_4 (dk_at dksL_law_6 18 rfl rfl)
theorem dL_law_407 : decode cL_law 407 = .ok (.iadd, 1) := dk_96 (dk_at dksL_law_6 19 rfl rfl)
theorem dL_law_408 : decode cL_law 408 = .ok (.iaload, 1) := dk_46 (dk_at dksL_law_6 20 rfl rfl)
theorem dL_law_409 : decode cL_law 409 = .ok (.invokevirtual 217, 3) := dk_182 0 217 (dk_at dksL_law_6 21 rfl rfl)
theorem dL_law_412 : decode cL_law 412 = .ok (.istore 7, 2) := dk_54 7 (dk_at dksL_law_7 0 rfl rfl)
theorem dL_law_414 : decode cL_law 414 = .ok (.aload_n 2, 1) := dk_44 (dk_at dksL_law_7 2 rfl rfl)
theorem dL_law_415 : decode cL_law 415 = .ok (.invokevirtual 218, 3) := dk_182 0 218 (dk_at dksL_law_7 3 rfl rfl)
theorem dL_law_418 : decode cL_law 418 = .ok (.iload 6, 2) := dk_21 6 (dk_at dksL_law_7 6 rfl rfl)
theorem dL_law_420 : decode cL_law 420 = .ok (.if_icmp .eq 5, 3) := dk_159 0 5 (dk_at dksL_law_7 8 rfl rfl)
theorem dL_law_423 : decode cL_law 423 = .ok (.iconst 0, 1) := dk_3 (dk_at dksL_law_7 11 rfl rfl)
theorem dL_law_424 : decode cL_law 424 = .ok (.ireturn, 1) := dk_172 (dk_at dksL_law_7 12 rfl rfl)
theorem dL_law_425 : decode cL_law 425 = .ok (.iload 6, 2) := dk_21 6 (dk_at dksL_law_7 13 rfl rfl)
theorem dL_law_427 : decode cL_law 427 = .ok (.ifCond .ne 15, 3) := dk_154 0 15 (dk_at dksL_law_7 15 rfl rfl)
theorem dL_law_430 : decode cL_law 430 = .ok (.aload_n 3, 1) := dk_45 (dk_at dksL_law_7 18 rfl rfl)
theorem dL_law_431 : decode cL_law 431 = .ok (.iconst 0, 1) := dk_3 (dk_at dksL_law_7 19 rfl rfl)
theorem dL_law_432 : decode cL_law 432 = .ok (.laload, 1) := dk_47 (dk_at dksL_law_7 20 rfl rfl)
theorem dL_law_433 : decode cL_law 433 = .ok (.iload 7, 2) := dk_21 7 (dk_at dksL_law_7 21 rfl rfl)
theorem dL_law_435 : decode cL_law 435 = .ok (.i2l, 1) := dk_133 (dk_at dksL_law_7 23 rfl rfl)
theorem dL_law_436 : decode cL_law 436 = .ok (.lcmp, 1) := dk_148 (dk_at dksL_law_8 0 rfl rfl)
theorem dL_law_437 : decode cL_law 437 = .ok (.ifCond .eq 5, 3) := dk_153 0 5 (dk_at dksL_law_8 1 rfl rfl)
theorem dL_law_440 : decode cL_law 440 = .ok (.iconst 0, 1) := dk_3 (dk_at dksL_law_8 4 rfl rfl)
theorem dL_law_441 : decode cL_law 441 = .ok (.ireturn, 1) := dk_172 (dk_at dksL_law_8 5 rfl rfl)
theorem dL_law_442 : decode cL_law 442 = .ok (.goto 3817, 3) := dk_167 14 233 (dk_at dksL_law_8 6 rfl rfl)
theorem dL_law_445 : decode cL_law 445 = .ok (.aload_n 1, 1) := dk_43 (dk_at dksL_law_8 9 rfl rfl)
theorem dL_law_446 : decode cL_law 446 = .ok (.invokevirtual 221, 3) := dk_182 0 221 (dk_at dksL_law_8 10 rfl rfl)
theorem dL_law_449 : decode cL_law 449 = .ok (.aload_n 2, 1) := dk_44 (dk_at dksL_law_8 13 rfl rfl)
theorem dL_law_450 : decode cL_law 450 = .ok (.invokevirtual 224, 3) := dk_182 0 224 (dk_at dksL_law_8 14 rfl rfl)
theorem dL_law_453 : decode cL_law 453 = .ok (.if_icmp .eq 3806, 3) := dk_159 14 222 (dk_at dksL_law_8 17 rfl rfl)
theorem dL_law_456 : decode cL_law 456 = .ok (.iconst 0, 1) := dk_3 (dk_at dksL_law_8 20 rfl rfl)
theorem dL_law_457 : decode cL_law 457 = .ok (.ireturn, 1) := dk_172 (dk_at dksL_law_8 21 rfl rfl)
theorem dL_law_458 : decode cL_law 458 = .ok (.aload_n 1, 1) := dk_43 (dk_at dksL_law_8 22 rfl rfl)
theorem dL_law_459 : decode cL_law 459 = .ok (.invokevirtual 225, 3) := dk_182 0 225 (dk_at dksL_law_9 0 rfl rfl)
theorem dL_law_462 : decode cL_law 462 = .ok (.aload_n 2, 1) := dk_44 (dk_at dksL_law_9 3 rfl rfl)
theorem dL_law_463 : decode cL_law 463 = .ok (.invokevirtual 228, 3) := dk_182 0 228 (dk_at dksL_law_9 4 rfl rfl)
theorem dL_law_466 : decode cL_law 466 = .ok (.if_icmp .eq 3793, 3) := dk_159 14 209 (dk_at dksL_law_9 7 rfl rfl)
theorem dL_law_469 : decode cL_law 469 = .ok (.iconst 0, 1) := dk_3 (dk_at dksL_law_9 10 rfl rfl)
theorem dL_law_470 : decode cL_law 470 = .ok (.ireturn, 1) := dk_172 (dk_at dksL_law_9 11 rfl rfl)
theorem dL_law_471 : decode cL_law 471 = .ok (.aload_n 1, 1) := dk_43 (dk_at dksL_law_9 12 rfl rfl)
theorem dL_law_472 : decode cL_law 472 = .ok (.invokevirtual 229, 3) := dk_182 0 229 (dk_at dksL_law_9 13 rfl rfl)
theorem dL_law_475 : decode cL_law 475 = .ok (.aload_n 2, 1) := dk_44 (dk_at dksL_law_9 16 rfl rfl)
theorem dL_law_476 : decode cL_law 476 = .ok (.invokevirtual 232, 3) := dk_182 0 232 (dk_at dksL_law_9 17 rfl rfl)
theorem dL_law_479 : decode cL_law 479 = .ok (.if_icmp .eq 3780, 3) := dk_159 14 196 (dk_at dksL_law_9 20 rfl rfl)
theorem dL_law_482 : decode cL_law 482 = .ok (.iconst 0, 1) := dk_3 (dk_at dksL_law_9 23 rfl rfl)
theorem dL_law_483 : decode cL_law 483 = .ok (.ireturn, 1) := dk_172 (dk_at dksL_law_10 0 rfl rfl)
theorem dL_law_484 : decode cL_law 484 = .ok (.aload_n 1, 1) := dk_43 (dk_at dksL_law_10 1 rfl rfl)
theorem dL_law_485 : decode cL_law 485 = .ok (.aload_n 0, 1) := dk_42 (dk_at dksL_law_10 2 rfl rfl)
theorem dL_law_486 : decode cL_law 486 = .ok (.iload 5, 2) := dk_21 5 (dk_at dksL_law_10 3 rfl rfl)
theorem dL_law_488 : decode cL_law 488 = .ok (.iconst 1, 1) := dk_4 (dk_at dksL_law_10 5 rfl rfl)
theorem dL_law_489 : decode cL_law 489 = .ok (.iadd, 1) := dk_96 (dk_at dksL_law_10 6 rfl rfl)
theorem dL_law_490 : decode cL_law 490 = .ok (.iaload, 1) := dk_46 (dk_at dksL_law_10 7 rfl rfl)
theorem dL_law_491 : decode cL_law 491 = .ok (.aload_n 0, 1) := dk_42 (dk_at dksL_law_10 8 rfl rfl)
theorem dL_law_492 : decode cL_law 492 = .ok (.iload 5, 2) := dk_21 5 (dk_at dksL_law_10 9 rfl rfl)
theorem dL_law_494 : decode cL_law 494 = .ok (.iconst 2, 1) := dk_5 (dk_at dksL_law_10 11 rfl rfl)
theorem dL_law_495 : decode cL_law 495 = .ok (.iadd, 1) := dk_96 (dk_at dksL_law_10 12 rfl rfl)
theorem dL_law_496 : decode cL_law 496 = .ok (.iaload, 1) := dk_46 (dk_at dksL_law_10 13 rfl rfl)
theorem dL_law_497 : decode cL_law 497 = .ok (.ifCond .eq 7, 3) := dk_153 0 7 (dk_at dksL_law_10 14 rfl rfl)
theorem dL_law_500 : decode cL_law 500 = .ok (.iconst 1, 1) := dk_4 (dk_at dksL_law_10 17 rfl rfl)
theorem dL_law_501 : decode cL_law 501 = .ok (.goto 4, 3) := dk_167 0 4 (dk_at dksL_law_10 18 rfl rfl)
theorem dL_law_504 : decode cL_law 504 = .ok (.iconst 0, 1) := dk_3 (dk_at dksL_law_10 21 rfl rfl)
theorem dL_law_505 : decode cL_law 505 = .ok (.aload_n 3, 1) := dk_45 (dk_at dksL_law_10 22 rfl rfl)
theorem dL_law_506 : decode cL_law 506 = .ok (.invokestatic 233, 3) := dk_184 0 233 (dk_at dksL_law_11 0 rfl rfl)
theorem dL_law_509 : decode cL_law 509 = .ok (.istore 6, 2) := dk_54 6 (dk_at dksL_law_11 3 rfl rfl)
theorem dL_law_511 : decode cL_law 511 = .ok (.aload_n 2, 1) := dk_44 (dk_at dksL_law_11 5 rfl rfl)
theorem dL_law_512 : decode cL_law 512 = .ok (.aload_n 0, 1) := dk_42 (dk_at dksL_law_11 6 rfl rfl)
theorem dL_law_513 : decode cL_law 513 = .ok (.iload 5, 2) := dk_21 5 (dk_at dksL_law_11 7 rfl rfl)
theorem dL_law_515 : decode cL_law 515 = .ok (.iconst 1, 1) := dk_4 (dk_at dksL_law_11 9 rfl rfl)
theorem dL_law_516 : decode cL_law 516 = .ok (.iadd, 1) := dk_96 (dk_at dksL_law_11 10 rfl rfl)
theorem dL_law_517 : decode cL_law 517 = .ok (.iaload, 1) := dk_46 (dk_at dksL_law_11 11 rfl rfl)
theorem dL_law_518 : decode cL_law 518 = .ok (.aload_n 0, 1) := dk_42 (dk_at dksL_law_11 12 rfl rfl)
theorem dL_law_519 : decode cL_law 519 = .ok (.iload 5, 2) := dk_21 5 (dk_at dksL_law_11 13 rfl rfl)
theorem dL_law_521 : decode cL_law 521 = .ok (.iconst 2, 1) := dk_5 (dk_at dksL_law_11 15 rfl rfl)
theorem dL_law_522 : decode cL_law 522 = .ok (.iadd, 1) := dk_96 (dk_at dksL_law_11 16 rfl rfl)
theorem dL_law_523 : decode cL_law 523 = .ok (.iaload, 1) := dk_46 (dk_at dksL_law_11 17 rfl rfl)
theorem dL_law_524 : decode cL_law 524 = .ok (.ifCond .eq 7, 3) := dk_153 0 7 (dk_at dksL_law_11 18 rfl rfl)
theorem dL_law_527 : decode cL_law 527 = .ok (.iconst 1, 1) := dk_4 (dk_at dksL_law_11 21 rfl rfl)
theorem dL_law_528 : decode cL_law 528 = .ok (.goto 4, 3) := dk_167 0 4 (dk_at dksL_law_12 0 rfl rfl)
theorem dL_law_531 : decode cL_law 531 = .ok (.iconst 0, 1) := dk_3 (dk_at dksL_law_12 3 rfl rfl)
theorem dL_law_532 : decode cL_law 532 = .ok (.invokevirtual 236, 3) := dk_182 0 236 (dk_at dksL_law_12 4 rfl rfl)
theorem dL_law_535 : decode cL_law 535 = .ok (.istore 7, 2) := dk_54 7 (dk_at dksL_law_12 7 rfl rfl)
theorem dL_law_537 : decode cL_law 537 = .ok (.aload_n 2, 1) := dk_44 (dk_at dksL_law_12 9 rfl rfl)
theorem dL_law_538 : decode cL_law 538 = .ok (.invokevirtual 218, 3) := dk_182 0 218 (dk_at dksL_law_12 10 rfl rfl)
theorem dL_law_541 : decode cL_law 541 = .ok (.iload 6, 2) := dk_21 6 (dk_at dksL_law_12 13 rfl rfl)
theorem dL_law_543 : decode cL_law 543 = .ok (.if_icmp .eq 5, 3) := dk_159 0 5 (dk_at dksL_law_12 15 rfl rfl)
theorem dL_law_546 : decode cL_law 546 = .ok (.iconst 0, 1) := dk_3 (dk_at dksL_law_12 18 rfl rfl)
theorem dL_law_547 : decode cL_law 547 = .ok (.ireturn, 1) := dk_172 (dk_at dksL_law_12 19 rfl rfl)
theorem dL_law_548 : decode cL_law 548 = .ok (.iload 6, 2) := dk_21 6 (dk_at dksL_law_12 20 rfl rfl)
theorem dL_law_550 : decode cL_law 550 = .ok (.ifCond .ne 15, 3) := dk_154 0 15 (dk_at dksL_law_13 0 rfl rfl)
theorem dL_law_553 : decode cL_law 553 = .ok (.aload_n 3, 1) := dk_45 (dk_at dksL_law_13 3 rfl rfl)
theorem dL_law_554 : decode cL_law 554 = .ok (.iconst 0, 1) := dk_3 (dk_at dksL_law_13 4 rfl rfl)
theorem dL_law_555 : decode cL_law 555 = .ok (.laload, 1) := dk_47 (dk_at dksL_law_13 5 rfl rfl)
theorem dL_law_556 : decode cL_law 556 = .ok (.iload 7, 2) := dk_21 7 (dk_at dksL_law_13 6 rfl rfl)
theorem dL_law_558 : decode cL_law 558 = .ok (.i2l, 1) := dk_133 (dk_at dksL_law_13 8 rfl rfl)
theorem dL_law_559 : decode cL_law 559 = .ok (.lcmp, 1) := dk_148 (dk_at dksL_law_13 9 rfl rfl)
theorem dL_law_560 : decode cL_law 560 = .ok (.ifCond .eq 5, 3) := dk_153 0 5 (dk_at dksL_law_13 10 rfl rfl)
theorem dL_law_563 : decode cL_law 563 = .ok (.iconst 0, 1) := dk_3 (dk_at dksL_law_13 13 rfl rfl)
theorem dL_law_564 : decode cL_law 564 = .ok (.ireturn, 1) := dk_172 (dk_at dksL_law_13 14 rfl rfl)
theorem dL_law_565 : decode cL_law 565 = .ok (.goto 3694, 3) := dk_167 14 110 (dk_at dksL_law_13 15 rfl rfl)
theorem dL_law_568 : decode cL_law 568 = .ok (.aload_n 1, 1) := dk_43 (dk_at dksL_law_13 18 rfl rfl)
theorem dL_law_569 : decode cL_law 569 = .ok (.aload_n 0, 1) := dk_42 (dk_at dksL_law_13 19 rfl rfl)
theorem dL_law_570 : decode cL_law 570 = .ok (.iload 5, 2) := dk_21 5 (dk_at dksL_law_13 20 rfl rfl)
theorem dL_law_572 : decode cL_law 572 = .ok (.iconst 1, 1) := dk_4 (dk_at dksL_law_13 22 rfl rfl)
theorem dL_law_573 : decode cL_law 573 = .ok (.iadd, 1) := dk_96 (dk_at dksL_law_13 23 rfl rfl)
theorem dL_law_574 : decode cL_law 574 = .ok (.iaload, 1) := dk_46 (dk_at dksL_law_14 0 rfl rfl)
theorem dL_law_575 : decode cL_law 575 = .ok (.aload_n 3, 1) := dk_45 (dk_at dksL_law_14 1 rfl rfl)
theorem dL_law_576 : decode cL_law 576 = .ok (.invokestatic 237, 3) := dk_184 0 237 (dk_at dksL_law_14 2 rfl rfl)
theorem dL_law_579 : decode cL_law 579 = .ok (.istore 6, 2) := dk_54 6 (dk_at dksL_law_14 5 rfl rfl)
theorem dL_law_581 : decode cL_law 581 = .ok (.aload_n 2, 1) := dk_44 (dk_at dksL_law_14 7 rfl rfl)
theorem dL_law_582 : decode cL_law 582 = .ok (.aload_n 0, 1) := dk_42 (dk_at dksL_law_14 8 rfl rfl)
theorem dL_law_583 : decode cL_law 583 = .ok (.iload 5, 2) := dk_21 5 (dk_at dksL_law_14 9 rfl rfl)
theorem dL_law_585 : decode cL_law 585 = .ok (.iconst 1, 1) := dk_4 (dk_at dksL_law_14 11 rfl rfl)
theorem dL_law_586 : decode cL_law 586 = .ok (.iadd, 1) := dk_96 (dk_at dksL_law_14 12 rfl rfl)
theorem dL_law_587 : decode cL_law 587 = .ok (.iaload, 1) := dk_46 (dk_at dksL_law_14 13 rfl rfl)
theorem dL_law_588 : decode cL_law 588 = .ok (.invokevirtual 239, 3) := dk_182 0 239 (dk_at dksL_law_14 14 rfl rfl)
theorem dL_law_591 : decode cL_law 591 = .ok (.istore 7, 2) := dk_54 7 (dk_at dksL_law_14 17 rfl rfl)
theorem dL_law_593 : decode cL_law 593 = .ok (.aload_n 2, 1) := dk_44 (dk_at dksL_law_14 19 rfl rfl)
theorem dL_law_594 : decode cL_law 594 = .ok (.invokevirtual 218, 3) := dk_182 0 218 (dk_at dksL_law_14 20 rfl rfl)
theorem dL_law_597 : decode cL_law 597 = .ok (.iload 6, 2) := dk_21 6 (dk_at dksL_law_15 0 rfl rfl)
theorem dL_law_599 : decode cL_law 599 = .ok (.if_icmp .eq 5, 3) := dk_159 0 5 (dk_at dksL_law_15 2 rfl rfl)
theorem dL_law_602 : decode cL_law 602 = .ok (.iconst 0, 1) := dk_3 (dk_at dksL_law_15 5 rfl rfl)
theorem dL_law_603 : decode cL_law 603 = .ok (.ireturn, 1) := dk_172 (dk_at dksL_law_15 6 rfl rfl)
theorem dL_law_604 : decode cL_law 604 = .ok (.iload 6, 2) := dk_21 6 (dk_at dksL_law_15 7 rfl rfl)
theorem dL_law_606 : decode cL_law 606 = .ok (.ifCond .ne 15, 3) := dk_154 0 15 (dk_at dksL_law_15 9 rfl rfl)
theorem dL_law_609 : decode cL_law 609 = .ok (.aload_n 3, 1) := dk_45 (dk_at dksL_law_15 12 rfl rfl)
theorem dL_law_610 : decode cL_law 610 = .ok (.iconst 0, 1) := dk_3 (dk_at dksL_law_15 13 rfl rfl)
theorem dL_law_611 : decode cL_law 611 = .ok (.laload, 1) := dk_47 (dk_at dksL_law_15 14 rfl rfl)
theorem dL_law_612 : decode cL_law 612 = .ok (.iload 7, 2) := dk_21 7 (dk_at dksL_law_15 15 rfl rfl)
theorem dL_law_614 : decode cL_law 614 = .ok (.i2l, 1) := dk_133 (dk_at dksL_law_15 17 rfl rfl)
theorem dL_law_615 : decode cL_law 615 = .ok (.lcmp, 1) := dk_148 (dk_at dksL_law_15 18 rfl rfl)
theorem dL_law_616 : decode cL_law 616 = .ok (.ifCond .eq 5, 3) := dk_153 0 5 (dk_at dksL_law_15 19 rfl rfl)
theorem dL_law_619 : decode cL_law 619 = .ok (.iconst 0, 1) := dk_3 (dk_at dksL_law_15 22 rfl rfl)
theorem dL_law_620 : decode cL_law 620 = .ok (.ireturn, 1) := dk_172 (dk_at dksL_law_15 23 rfl rfl)
theorem dL_law_621 : decode cL_law 621 = .ok (.goto 3638, 3) := dk_167 14 54 (dk_at dksL_law_16 0 rfl rfl)
theorem dL_law_624 : decode cL_law 624 = .ok (.aload_n 1, 1) := dk_43 (dk_at dksL_law_16 3 rfl rfl)
theorem dL_law_625 : decode cL_law 625 = .ok (.aload_n 0, 1) := dk_42 (dk_at dksL_law_16 4 rfl rfl)
theorem dL_law_626 : decode cL_law 626 = .ok (.iload 5, 2) := dk_21 5 (dk_at dksL_law_16 5 rfl rfl)
theorem dL_law_628 : decode cL_law 628 = .ok (.iconst 1, 1) := dk_4 (dk_at dksL_law_16 7 rfl rfl)
theorem dL_law_629 : decode cL_law 629 = .ok (.iadd, 1) := dk_96 (dk_at dksL_law_16 8 rfl rfl)
theorem dL_law_630 : decode cL_law 630 = .ok (.iaload, 1) := dk_46 (dk_at dksL_law_16 9 rfl rfl)
theorem dL_law_631 : decode cL_law 631 = .ok (.aload_n 3, 1) := dk_45 (dk_at dksL_law_16 10 rfl rfl)
theorem dL_law_632 : decode cL_law 632 = .ok (.invokestatic 240, 3) := dk_184 0 240 (dk_at dksL_law_16 11 rfl rfl)
theorem dL_law_635 : decode cL_law 635 = .ok (.istore 6, 2) := dk_54 6 (dk_at dksL_law_16 14 rfl rfl)
theorem dL_law_637 : decode cL_law 637 = .ok (.aload_n 2, 1) := dk_44 (dk_at dksL_law_16 16 rfl rfl)
theorem dL_law_638 : decode cL_law 638 = .ok (.aload_n 0, 1) := dk_42 (dk_at dksL_law_16 17 rfl rfl)
theorem dL_law_639 : decode cL_law 639 = .ok (.iload 5, 2) := dk_21 5 (dk_at dksL_law_16 18 rfl rfl)
theorem dL_law_641 : decode cL_law 641 = .ok (.iconst 1, 1) := dk_4 (dk_at dksL_law_16 20 rfl rfl)
theorem dL_law_642 : decode cL_law 642 = .ok (.iadd, 1) := dk_96 (dk_at dksL_law_16 21 rfl rfl)
theorem dL_law_643 : decode cL_law 643 = .ok (.iaload, 1) := dk_46 (dk_at dksL_law_16 22 rfl rfl)
theorem dL_law_644 : decode cL_law 644 = .ok (.invokevirtual 242, 3) := dk_182 0 242 (dk_at dksL_law_17 0 rfl rfl)
theorem dL_law_647 : decode cL_law 647 = .ok (.istore 7, 2) := dk_54 7 (dk_at dksL_law_17 3 rfl rfl)
theorem dL_law_649 : decode cL_law 649 = .ok (.aload_n 2, 1) := dk_44 (dk_at dksL_law_17 5 rfl rfl)
theorem dL_law_650 : decode cL_law 650 = .ok (.invokevirtual 218, 3) := dk_182 0 218 (dk_at dksL_law_17 6 rfl rfl)
theorem dL_law_653 : decode cL_law 653 = .ok (.iload 6, 2) := dk_21 6 (dk_at dksL_law_17 9 rfl rfl)
theorem dL_law_655 : decode cL_law 655 = .ok (.if_icmp .eq 5, 3) := dk_159 0 5 (dk_at dksL_law_17 11 rfl rfl)
theorem dL_law_658 : decode cL_law 658 = .ok (.iconst 0, 1) := dk_3 (dk_at dksL_law_17 14 rfl rfl)
theorem dL_law_659 : decode cL_law 659 = .ok (.ireturn, 1) := dk_172 (dk_at dksL_law_17 15 rfl rfl)
theorem dL_law_660 : decode cL_law 660 = .ok (.iload 6, 2) := dk_21 6 (dk_at dksL_law_17 16 rfl rfl)
theorem dL_law_662 : decode cL_law 662 = .ok (.ifCond .ne 15, 3) := dk_154 0 15 (dk_at dksL_law_17 18 rfl rfl)
theorem dL_law_665 : decode cL_law 665 = .ok (.aload_n 3, 1) := dk_45 (dk_at dksL_law_17 21 rfl rfl)
theorem dL_law_666 : decode cL_law 666 = .ok (.iconst 0, 1) := dk_3 (dk_at dksL_law_17 22 rfl rfl)
theorem dL_law_667 : decode cL_law 667 = .ok (.laload, 1) := dk_47 (dk_at dksL_law_17 23 rfl rfl)
theorem dL_law_668 : decode cL_law 668 = .ok (.iload 7, 2) := dk_21 7 (dk_at dksL_law_18 0 rfl rfl)
theorem dL_law_670 : decode cL_law 670 = .ok (.i2l, 1) := dk_133 (dk_at dksL_law_18 2 rfl rfl)
theorem dL_law_671 : decode cL_law 671 = .ok (.lcmp, 1) := dk_148 (dk_at dksL_law_18 3 rfl rfl)
theorem dL_law_672 : decode cL_law 672 = .ok (.ifCond .eq 5, 3) := dk_153 0 5 (dk_at dksL_law_18 4 rfl rfl)
theorem dL_law_675 : decode cL_law 675 = .ok (.iconst 0, 1) := dk_3 (dk_at dksL_law_18 7 rfl rfl)
theorem dL_law_676 : decode cL_law 676 = .ok (.ireturn, 1) := dk_172 (dk_at dksL_law_18 8 rfl rfl)
theorem dL_law_677 : decode cL_law 677 = .ok (.goto 3582, 3) := dk_167 13 254 (dk_at dksL_law_18 9 rfl rfl)
theorem dL_law_680 : decode cL_law 680 = .ok (.aload_n 1, 1) := dk_43 (dk_at dksL_law_18 12 rfl rfl)
theorem dL_law_681 : decode cL_law 681 = .ok (.aload_n 0, 1) := dk_42 (dk_at dksL_law_18 13 rfl rfl)
theorem dL_law_682 : decode cL_law 682 = .ok (.iload 5, 2) := dk_21 5 (dk_at dksL_law_18 14 rfl rfl)
theorem dL_law_684 : decode cL_law 684 = .ok (.iconst 1, 1) := dk_4 (dk_at dksL_law_18 16 rfl rfl)
theorem dL_law_685 : decode cL_law 685 = .ok (.iadd, 1) := dk_96 (dk_at dksL_law_18 17 rfl rfl)
theorem dL_law_686 : decode cL_law 686 = .ok (.iaload, 1) := dk_46 (dk_at dksL_law_18 18 rfl rfl)
theorem dL_law_687 : decode cL_law 687 = .ok (.aload_n 0, 1) := dk_42 (dk_at dksL_law_18 19 rfl rfl)
theorem dL_law_688 : decode cL_law 688 = .ok (.iload 5, 2) := dk_21 5 (dk_at dksL_law_18 20 rfl rfl)
theorem dL_law_690 : decode cL_law 690 = .ok (.iconst 2, 1) := dk_5 (dk_at dksL_law_18 22 rfl rfl)
theorem dL_law_691 : decode cL_law 691 = .ok (.iadd, 1) := dk_96 (dk_at dksL_law_18 23 rfl rfl)
theorem dL_law_692 : decode cL_law 692 = .ok (.iaload, 1) := dk_46 (dk_at dksL_law_19 0 rfl rfl)
theorem dL_law_693 : decode cL_law 693 = .ok (.aload_n 3, 1) := dk_45 (dk_at dksL_law_19 1 rfl rfl)
theorem dL_law_694 : decode cL_law 694 = .ok (.invokestatic 243, 3) := dk_184 0 243 (dk_at dksL_law_19 2 rfl rfl)
theorem dL_law_697 : decode cL_law 697 = .ok (.istore 6, 2) := dk_54 6 (dk_at dksL_law_19 5 rfl rfl)
theorem dL_law_699 : decode cL_law 699 = .ok (.aload_n 2, 1) := dk_44 (dk_at dksL_law_19 7 rfl rfl)
theorem dL_law_700 : decode cL_law 700 = .ok (.aload_n 0, 1) := dk_42 (dk_at dksL_law_19 8 rfl rfl)
theorem dL_law_701 : decode cL_law 701 = .ok (.iload 5, 2) := dk_21 5 (dk_at dksL_law_19 9 rfl rfl)
theorem dL_law_703 : decode cL_law 703 = .ok (.iconst 1, 1) := dk_4 (dk_at dksL_law_19 11 rfl rfl)
theorem dL_law_704 : decode cL_law 704 = .ok (.iadd, 1) := dk_96 (dk_at dksL_law_19 12 rfl rfl)
theorem dL_law_705 : decode cL_law 705 = .ok (.iaload, 1) := dk_46 (dk_at dksL_law_19 13 rfl rfl)
theorem dL_law_706 : decode cL_law 706 = .ok (.aload_n 0, 1) := dk_42 (dk_at dksL_law_19 14 rfl rfl)
theorem dL_law_707 : decode cL_law 707 = .ok (.iload 5, 2) := dk_21 5 (dk_at dksL_law_19 15 rfl rfl)
theorem dL_law_709 : decode cL_law 709 = .ok (.iconst 2, 1) := dk_5 (dk_at dksL_law_19 17 rfl rfl)
theorem dL_law_710 : decode cL_law 710 = .ok (.iadd, 1) := dk_96 (dk_at dksL_law_19 18 rfl rfl)
theorem dL_law_711 : decode cL_law 711 = .ok (.iaload, 1) := dk_46 (dk_at dksL_law_19 19 rfl rfl)
theorem dL_law_712 : decode cL_law 712 = .ok (.invokevirtual 246, 3) := dk_182 0 246 (dk_at dksL_law_19 20 rfl rfl)
theorem dL_law_715 : decode cL_law 715 = .ok (.istore 7, 2) := dk_54 7 (dk_at dksL_law_20 0 rfl rfl)
theorem dL_law_717 : decode cL_law 717 = .ok (.aload_n 2, 1) := dk_44 (dk_at dksL_law_20 2 rfl rfl)
theorem dL_law_718 : decode cL_law 718 = .ok (.invokevirtual 218, 3) := dk_182 0 218 (dk_at dksL_law_20 3 rfl rfl)
theorem dL_law_721 : decode cL_law 721 = .ok (.iload 6, 2) := dk_21 6 (dk_at dksL_law_20 6 rfl rfl)
theorem dL_law_723 : decode cL_law 723 = .ok (.if_icmp .eq 5, 3) := dk_159 0 5 (dk_at dksL_law_20 8 rfl rfl)
theorem dL_law_726 : decode cL_law 726 = .ok (.iconst 0, 1) := dk_3 (dk_at dksL_law_20 11 rfl rfl)
theorem dL_law_727 : decode cL_law 727 = .ok (.ireturn, 1) := dk_172 (dk_at dksL_law_20 12 rfl rfl)
theorem dL_law_728 : decode cL_law 728 = .ok (.iload 6, 2) := dk_21 6 (dk_at dksL_law_20 13 rfl rfl)
theorem dL_law_730 : decode cL_law 730 = .ok (.ifCond .ne 15, 3) := dk_154 0 15 (dk_at dksL_law_20 15 rfl rfl)
theorem dL_law_733 : decode cL_law 733 = .ok (.aload_n 3, 1) := dk_45 (dk_at dksL_law_20 18 rfl rfl)
theorem dL_law_734 : decode cL_law 734 = .ok (.iconst 0, 1) := dk_3 (dk_at dksL_law_20 19 rfl rfl)
theorem dL_law_735 : decode cL_law 735 = .ok (.laload, 1) := dk_47 (dk_at dksL_law_20 20 rfl rfl)
theorem dL_law_736 : decode cL_law 736 = .ok (.iload 7, 2) := dk_21 7 (dk_at dksL_law_20 21 rfl rfl)
theorem dL_law_738 : decode cL_law 738 = .ok (.i2l, 1) := dk_133 (dk_at dksL_law_20 23 rfl rfl)
theorem dL_law_739 : decode cL_law 739 = .ok (.lcmp, 1) := dk_148 (dk_at dksL_law_21 0 rfl rfl)
theorem dL_law_740 : decode cL_law 740 = .ok (.ifCond .eq 5, 3) := dk_153 0 5 (dk_at dksL_law_21 1 rfl rfl)
theorem dL_law_743 : decode cL_law 743 = .ok (.iconst 0, 1) := dk_3 (dk_at dksL_law_21 4 rfl rfl)
theorem dL_law_744 : decode cL_law 744 = .ok (.ireturn, 1) := dk_172 (dk_at dksL_law_21 5 rfl rfl)
theorem dL_law_745 : decode cL_law 745 = .ok (.goto 3514, 3) := dk_167 13 186 (dk_at dksL_law_21 6 rfl rfl)
theorem dL_law_748 : decode cL_law 748 = .ok (.aload_n 1, 1) := dk_43 (dk_at dksL_law_21 9 rfl rfl)
theorem dL_law_749 : decode cL_law 749 = .ok (.aload_n 0, 1) := dk_42 (dk_at dksL_law_21 10 rfl rfl)
theorem dL_law_750 : decode cL_law 750 = .ok (.iload 5, 2) := dk_21 5 (dk_at dksL_law_21 11 rfl rfl)
theorem dL_law_752 : decode cL_law 752 = .ok (.iconst 1, 1) := dk_4 (dk_at dksL_law_21 13 rfl rfl)
theorem dL_law_753 : decode cL_law 753 = .ok (.iadd, 1) := dk_96 (dk_at dksL_law_21 14 rfl rfl)
theorem dL_law_754 : decode cL_law 754 = .ok (.iaload, 1) := dk_46 (dk_at dksL_law_21 15 rfl rfl)
theorem dL_law_755 : decode cL_law 755 = .ok (.aload_n 0, 1) := dk_42 (dk_at dksL_law_21 16 rfl rfl)
theorem dL_law_756 : decode cL_law 756 = .ok (.iload 5, 2) := dk_21 5 (dk_at dksL_law_21 17 rfl rfl)
theorem dL_law_758 : decode cL_law 758 = .ok (.iconst 2, 1) := dk_5 (dk_at dksL_law_21 19 rfl rfl)
theorem dL_law_759 : decode cL_law 759 = .ok (.iadd, 1) := dk_96 (dk_at dksL_law_21 20 rfl rfl)
theorem dL_law_760 : decode cL_law 760 = .ok (.iaload, 1) := dk_46 (dk_at dksL_law_21 21 rfl rfl)
theorem dL_law_761 : decode cL_law 761 = .ok (.aload_n 3, 1) := dk_45 (dk_at dksL_law_21 22 rfl rfl)
theorem dL_law_762 : decode cL_law 762 = .ok (.invokestatic 247, 3) := dk_184 0 247 (dk_at dksL_law_22 0 rfl rfl)
theorem dL_law_765 : decode cL_law 765 = .ok (.istore 6, 2) := dk_54 6 (dk_at dksL_law_22 3 rfl rfl)
theorem dL_law_767 : decode cL_law 767 = .ok (.aload_n 2, 1) := dk_44 (dk_at dksL_law_22 5 rfl rfl)
theorem dL_law_768 : decode cL_law 768 = .ok (.aload_n 0, 1) := dk_42 (dk_at dksL_law_22 6 rfl rfl)
theorem dL_law_769 : decode cL_law 769 = .ok (.iload 5, 2) := dk_21 5 (dk_at dksL_law_22 7 rfl rfl)
theorem dL_law_771 : decode cL_law 771 = .ok (.iconst 1, 1) := dk_4 (dk_at dksL_law_22 9 rfl rfl)
theorem dL_law_772 : decode cL_law 772 = .ok (.iadd, 1) := dk_96 (dk_at dksL_law_22 10 rfl rfl)
theorem dL_law_773 : decode cL_law 773 = .ok (.iaload, 1) := dk_46 (dk_at dksL_law_22 11 rfl rfl)
theorem dL_law_774 : decode cL_law 774 = .ok (.aload_n 0, 1) := dk_42 (dk_at dksL_law_22 12 rfl rfl)
theorem dL_law_775 : decode cL_law 775 = .ok (.iload 5, 2) := dk_21 5 (dk_at dksL_law_22 13 rfl rfl)
theorem dL_law_777 : decode cL_law 777 = .ok (.iconst 2, 1) := dk_5 (dk_at dksL_law_22 15 rfl rfl)
theorem dL_law_778 : decode cL_law 778 = .ok (.iadd, 1) := dk_96 (dk_at dksL_law_22 16 rfl rfl)
theorem dL_law_779 : decode cL_law 779 = .ok (.iaload, 1) := dk_46 (dk_at dksL_law_22 17 rfl rfl)
theorem dL_law_780 : decode cL_law 780 = .ok (.invokevirtual 249, 3) := dk_182 0 249 (dk_at dksL_law_22 18 rfl rfl)
theorem dL_law_783 : decode cL_law 783 = .ok (.istore 7, 2) := dk_54 7 (dk_at dksL_law_22 21 rfl rfl)
theorem dL_law_785 : decode cL_law 785 = .ok (.aload_n 2, 1) := dk_44 (dk_at dksL_law_22 23 rfl rfl)
theorem dL_law_786 : decode cL_law 786 = .ok (.invokevirtual 218, 3) := dk_182 0 218 (dk_at dksL_law_23 0 rfl rfl)
theorem dL_law_789 : decode cL_law 789 = .ok (.iload 6, 2) := dk_21 6 (dk_at dksL_law_23 3 rfl rfl)
theorem dL_law_791 : decode cL_law 791 = .ok (.if_icmp .eq 5, 3) := dk_159 0 5 (dk_at dksL_law_23 5 rfl rfl)
theorem dL_law_794 : decode cL_law 794 = .ok (.iconst 0, 1) := dk_3 (dk_at dksL_law_23 8 rfl rfl)
theorem dL_law_795 : decode cL_law 795 = .ok (.ireturn, 1) := dk_172 (dk_at dksL_law_23 9 rfl rfl)
theorem dL_law_796 : decode cL_law 796 = .ok (.iload 6, 2) := dk_21 6 (dk_at dksL_law_23 10 rfl rfl)
theorem dL_law_798 : decode cL_law 798 = .ok (.ifCond .ne 15, 3) := dk_154 0 15 (dk_at dksL_law_23 12 rfl rfl)
theorem dL_law_801 : decode cL_law 801 = .ok (.aload_n 3, 1) := dk_45 (dk_at dksL_law_23 15 rfl rfl)
theorem dL_law_802 : decode cL_law 802 = .ok (.iconst 0, 1) := dk_3 (dk_at dksL_law_23 16 rfl rfl)
theorem dL_law_803 : decode cL_law 803 = .ok (.laload, 1) := dk_47 (dk_at dksL_law_23 17 rfl rfl)
theorem dL_law_804 : decode cL_law 804 = .ok (.iload 7, 2) := dk_21 7 (dk_at dksL_law_23 18 rfl rfl)
theorem dL_law_806 : decode cL_law 806 = .ok (.i2l, 1) := dk_133 (dk_at dksL_law_23 20 rfl rfl)
theorem dL_law_807 : decode cL_law 807 = .ok (.lcmp, 1) := dk_148 (dk_at dksL_law_23 21 rfl rfl)
theorem dL_law_808 : decode cL_law 808 = .ok (.ifCond .eq 5, 3) := dk_153 0 5 (dk_at dksL_law_24 0 rfl rfl)
theorem dL_law_811 : decode cL_law 811 = .ok (.iconst 0, 1) := dk_3 (dk_at dksL_law_24 3 rfl rfl)
theorem dL_law_812 : decode cL_law 812 = .ok (.ireturn, 1) := dk_172 (dk_at dksL_law_24 4 rfl rfl)
theorem dL_law_813 : decode cL_law 813 = .ok (.goto 3446, 3) := dk_167 13 118 (dk_at dksL_law_24 5 rfl rfl)
theorem dL_law_816 : decode cL_law 816 = .ok (.aload_n 1, 1) := dk_43 (dk_at dksL_law_24 8 rfl rfl)
theorem dL_law_817 : decode cL_law 817 = .ok (.aload_n 0, 1) := dk_42 (dk_at dksL_law_24 9 rfl rfl)
theorem dL_law_818 : decode cL_law 818 = .ok (.iload 5, 2) := dk_21 5 (dk_at dksL_law_24 10 rfl rfl)
theorem dL_law_820 : decode cL_law 820 = .ok (.iconst 1, 1) := dk_4 (dk_at dksL_law_24 12 rfl rfl)
theorem dL_law_821 : decode cL_law 821 = .ok (.iadd, 1) := dk_96 (dk_at dksL_law_24 13 rfl rfl)
theorem dL_law_822 : decode cL_law 822 = .ok (.iaload, 1) := dk_46 (dk_at dksL_law_24 14 rfl rfl)
theorem dL_law_823 : decode cL_law 823 = .ok (.aload_n 0, 1) := dk_42 (dk_at dksL_law_24 15 rfl rfl)
theorem dL_law_824 : decode cL_law 824 = .ok (.iload 5, 2) := dk_21 5 (dk_at dksL_law_24 16 rfl rfl)
theorem dL_law_826 : decode cL_law 826 = .ok (.iconst 2, 1) := dk_5 (dk_at dksL_law_24 18 rfl rfl)
theorem dL_law_827 : decode cL_law 827 = .ok (.iadd, 1) := dk_96 (dk_at dksL_law_24 19 rfl rfl)
theorem dL_law_828 : decode cL_law 828 = .ok (.iaload, 1) := dk_46 (dk_at dksL_law_24 20 rfl rfl)
theorem dL_law_829 : decode cL_law 829 = .ok (.aload_n 3, 1) := dk_45 (dk_at dksL_law_24 21 rfl rfl)
theorem dL_law_830 : decode cL_law 830 = .ok (.invokestatic 250, 3) := dk_184 0 250 (dk_at dksL_law_25 0 rfl rfl)
theorem dL_law_833 : decode cL_law 833 = .ok (.istore 6, 2) := dk_54 6 (dk_at dksL_law_25 3 rfl rfl)
theorem dL_law_835 : decode cL_law 835 = .ok (.aload_n 2, 1) := dk_44 (dk_at dksL_law_25 5 rfl rfl)
theorem dL_law_836 : decode cL_law 836 = .ok (.aload_n 0, 1) := dk_42 (dk_at dksL_law_25 6 rfl rfl)
theorem dL_law_837 : decode cL_law 837 = .ok (.iload 5, 2) := dk_21 5 (dk_at dksL_law_25 7 rfl rfl)
theorem dL_law_839 : decode cL_law 839 = .ok (.iconst 1, 1) := dk_4 (dk_at dksL_law_25 9 rfl rfl)
theorem dL_law_840 : decode cL_law 840 = .ok (.iadd, 1) := dk_96 (dk_at dksL_law_25 10 rfl rfl)
theorem dL_law_841 : decode cL_law 841 = .ok (.iaload, 1) := dk_46 (dk_at dksL_law_25 11 rfl rfl)
theorem dL_law_842 : decode cL_law 842 = .ok (.aload_n 0, 1) := dk_42 (dk_at dksL_law_25 12 rfl rfl)
theorem dL_law_843 : decode cL_law 843 = .ok (.iload 5, 2) := dk_21 5 (dk_at dksL_law_25 13 rfl rfl)
theorem dL_law_845 : decode cL_law 845 = .ok (.iconst 2, 1) := dk_5 (dk_at dksL_law_25 15 rfl rfl)
theorem dL_law_846 : decode cL_law 846 = .ok (.iadd, 1) := dk_96 (dk_at dksL_law_25 16 rfl rfl)
theorem dL_law_847 : decode cL_law 847 = .ok (.iaload, 1) := dk_46 (dk_at dksL_law_25 17 rfl rfl)
theorem dL_law_848 : decode cL_law 848 = .ok (.invokevirtual 252, 3) := dk_182 0 252 (dk_at dksL_law_25 18 rfl rfl)
theorem dL_law_851 : decode cL_law 851 = .ok (.istore 7, 2) := dk_54 7 (dk_at dksL_law_25 21 rfl rfl)
theorem dL_law_853 : decode cL_law 853 = .ok (.aload_n 2, 1) := dk_44 (dk_at dksL_law_25 23 rfl rfl)
theorem dL_law_854 : decode cL_law 854 = .ok (.invokevirtual 218, 3) := dk_182 0 218 (dk_at dksL_law_26 0 rfl rfl)
theorem dL_law_857 : decode cL_law 857 = .ok (.iload 6, 2) := dk_21 6 (dk_at dksL_law_26 3 rfl rfl)
theorem dL_law_859 : decode cL_law 859 = .ok (.if_icmp .eq 5, 3) := dk_159 0 5 (dk_at dksL_law_26 5 rfl rfl)
theorem dL_law_862 : decode cL_law 862 = .ok (.iconst 0, 1) := dk_3 (dk_at dksL_law_26 8 rfl rfl)
theorem dL_law_863 : decode cL_law 863 = .ok (.ireturn, 1) := dk_172 (dk_at dksL_law_26 9 rfl rfl)
theorem dL_law_864 : decode cL_law 864 = .ok (.iload 6, 2) := dk_21 6 (dk_at dksL_law_26 10 rfl rfl)
theorem dL_law_866 : decode cL_law 866 = .ok (.ifCond .ne 15, 3) := dk_154 0 15 (dk_at dksL_law_26 12 rfl rfl)
theorem dL_law_869 : decode cL_law 869 = .ok (.aload_n 3, 1) := dk_45 (dk_at dksL_law_26 15 rfl rfl)
theorem dL_law_870 : decode cL_law 870 = .ok (.iconst 0, 1) := dk_3 (dk_at dksL_law_26 16 rfl rfl)
theorem dL_law_871 : decode cL_law 871 = .ok (.laload, 1) := dk_47 (dk_at dksL_law_26 17 rfl rfl)
theorem dL_law_872 : decode cL_law 872 = .ok (.iload 7, 2) := dk_21 7 (dk_at dksL_law_26 18 rfl rfl)
theorem dL_law_874 : decode cL_law 874 = .ok (.i2l, 1) := dk_133 (dk_at dksL_law_26 20 rfl rfl)
theorem dL_law_875 : decode cL_law 875 = .ok (.lcmp, 1) := dk_148 (dk_at dksL_law_26 21 rfl rfl)
theorem dL_law_876 : decode cL_law 876 = .ok (.ifCond .eq 5, 3) := dk_153 0 5 (dk_at dksL_law_27 0 rfl rfl)
theorem dL_law_879 : decode cL_law 879 = .ok (.iconst 0, 1) := dk_3 (dk_at dksL_law_27 3 rfl rfl)
theorem dL_law_880 : decode cL_law 880 = .ok (.ireturn, 1) := dk_172 (dk_at dksL_law_27 4 rfl rfl)
theorem dL_law_881 : decode cL_law 881 = .ok (.goto 3378, 3) := dk_167 13 50 (dk_at dksL_law_27 5 rfl rfl)
theorem dL_law_884 : decode cL_law 884 = .ok (.aload_n 1, 1) := dk_43 (dk_at dksL_law_27 8 rfl rfl)
theorem dL_law_885 : decode cL_law 885 = .ok (.aload_n 0, 1) := dk_42 (dk_at dksL_law_27 9 rfl rfl)
theorem dL_law_886 : decode cL_law 886 = .ok (.iload 5, 2) := dk_21 5 (dk_at dksL_law_27 10 rfl rfl)
theorem dL_law_888 : decode cL_law 888 = .ok (.iconst 1, 1) := dk_4 (dk_at dksL_law_27 12 rfl rfl)
theorem dL_law_889 : decode cL_law 889 = .ok (.iadd, 1) := dk_96 (dk_at dksL_law_27 13 rfl rfl)
theorem dL_law_890 : decode cL_law 890 = .ok (.iaload, 1) := dk_46 (dk_at dksL_law_27 14 rfl rfl)
theorem dL_law_891 : decode cL_law 891 = .ok (.aload_n 0, 1) := dk_42 (dk_at dksL_law_27 15 rfl rfl)
theorem dL_law_892 : decode cL_law 892 = .ok (.iload 5, 2) := dk_21 5 (dk_at dksL_law_27 16 rfl rfl)
theorem dL_law_894 : decode cL_law 894 = .ok (.iconst 2, 1) := dk_5 (dk_at dksL_law_27 18 rfl rfl)
theorem dL_law_895 : decode cL_law 895 = .ok (.iadd, 1) := dk_96 (dk_at dksL_law_27 19 rfl rfl)
theorem dL_law_896 : decode cL_law 896 = .ok (.iaload, 1) := dk_46 (dk_at dksL_law_27 20 rfl rfl)
theorem dL_law_897 : decode cL_law 897 = .ok (.aload_n 3, 1) := dk_45 (dk_at dksL_law_27 21 rfl rfl)
theorem dL_law_898 : decode cL_law 898 = .ok (.invokestatic 253, 3) := dk_184 0 253 (dk_at dksL_law_28 0 rfl rfl)
theorem dL_law_901 : decode cL_law 901 = .ok (.istore 6, 2) := dk_54 6 (dk_at dksL_law_28 3 rfl rfl)
theorem dL_law_903 : decode cL_law 903 = .ok (.aload_n 2, 1) := dk_44 (dk_at dksL_law_28 5 rfl rfl)
theorem dL_law_904 : decode cL_law 904 = .ok (.aload_n 0, 1) := dk_42 (dk_at dksL_law_28 6 rfl rfl)
theorem dL_law_905 : decode cL_law 905 = .ok (.iload 5, 2) := dk_21 5 (dk_at dksL_law_28 7 rfl rfl)
theorem dL_law_907 : decode cL_law 907 = .ok (.iconst 1, 1) := dk_4 (dk_at dksL_law_28 9 rfl rfl)
theorem dL_law_908 : decode cL_law 908 = .ok (.iadd, 1) := dk_96 (dk_at dksL_law_28 10 rfl rfl)
theorem dL_law_909 : decode cL_law 909 = .ok (.iaload, 1) := dk_46 (dk_at dksL_law_28 11 rfl rfl)
theorem dL_law_910 : decode cL_law 910 = .ok (.aload_n 0, 1) := dk_42 (dk_at dksL_law_28 12 rfl rfl)
theorem dL_law_911 : decode cL_law 911 = .ok (.iload 5, 2) := dk_21 5 (dk_at dksL_law_28 13 rfl rfl)
theorem dL_law_913 : decode cL_law 913 = .ok (.iconst 2, 1) := dk_5 (dk_at dksL_law_28 15 rfl rfl)
theorem dL_law_914 : decode cL_law 914 = .ok (.iadd, 1) := dk_96 (dk_at dksL_law_28 16 rfl rfl)
theorem dL_law_915 : decode cL_law 915 = .ok (.iaload, 1) := dk_46 (dk_at dksL_law_28 17 rfl rfl)
theorem dL_law_916 : decode cL_law 916 = .ok (.invokevirtual 255, 3) := dk_182 0 255 (dk_at dksL_law_28 18 rfl rfl)
theorem dL_law_919 : decode cL_law 919 = .ok (.istore 7, 2) := dk_54 7 (dk_at dksL_law_28 21 rfl rfl)
theorem dL_law_921 : decode cL_law 921 = .ok (.aload_n 2, 1) := dk_44 (dk_at dksL_law_28 23 rfl rfl)
theorem dL_law_922 : decode cL_law 922 = .ok (.invokevirtual 218, 3) := dk_182 0 218 (dk_at dksL_law_29 0 rfl rfl)
theorem dL_law_925 : decode cL_law 925 = .ok (.iload 6, 2) := dk_21 6 (dk_at dksL_law_29 3 rfl rfl)
theorem dL_law_927 : decode cL_law 927 = .ok (.if_icmp .eq 5, 3) := dk_159 0 5 (dk_at dksL_law_29 5 rfl rfl)
theorem dL_law_930 : decode cL_law 930 = .ok (.iconst 0, 1) := dk_3 (dk_at dksL_law_29 8 rfl rfl)
theorem dL_law_931 : decode cL_law 931 = .ok (.ireturn, 1) := dk_172 (dk_at dksL_law_29 9 rfl rfl)
theorem dL_law_932 : decode cL_law 932 = .ok (.iload 6, 2) := dk_21 6 (dk_at dksL_law_29 10 rfl rfl)
theorem dL_law_934 : decode cL_law 934 = .ok (.ifCond .ne 15, 3) := dk_154 0 15 (dk_at dksL_law_29 12 rfl rfl)
theorem dL_law_937 : decode cL_law 937 = .ok (.aload_n 3, 1) := dk_45 (dk_at dksL_law_29 15 rfl rfl)
theorem dL_law_938 : decode cL_law 938 = .ok (.iconst 0, 1) := dk_3 (dk_at dksL_law_29 16 rfl rfl)
theorem dL_law_939 : decode cL_law 939 = .ok (.laload, 1) := dk_47 (dk_at dksL_law_29 17 rfl rfl)
theorem dL_law_940 : decode cL_law 940 = .ok (.iload 7, 2) := dk_21 7 (dk_at dksL_law_29 18 rfl rfl)
theorem dL_law_942 : decode cL_law 942 = .ok (.i2l, 1) := dk_133 (dk_at dksL_law_29 20 rfl rfl)
theorem dL_law_943 : decode cL_law 943 = .ok (.lcmp, 1) := dk_148 (dk_at dksL_law_29 21 rfl rfl)
theorem dL_law_944 : decode cL_law 944 = .ok (.ifCond .eq 5, 3) := dk_153 0 5 (dk_at dksL_law_30 0 rfl rfl)
theorem dL_law_947 : decode cL_law 947 = .ok (.iconst 0, 1) := dk_3 (dk_at dksL_law_30 3 rfl rfl)
theorem dL_law_948 : decode cL_law 948 = .ok (.ireturn, 1) := dk_172 (dk_at dksL_law_30 4 rfl rfl)
theorem dL_law_949 : decode cL_law 949 = .ok (.goto 3310, 3) := dk_167 12 238 (dk_at dksL_law_30 5 rfl rfl)
theorem dL_law_952 : decode cL_law 952 = .ok (.aload_n 1, 1) := dk_43 (dk_at dksL_law_30 8 rfl rfl)
theorem dL_law_953 : decode cL_law 953 = .ok (.aload_n 3, 1) := dk_45 (dk_at dksL_law_30 9 rfl rfl)
theorem dL_law_954 : decode cL_law 954 = .ok (.invokestatic 256, 3) := dk_184 1 0 (dk_at dksL_law_30 10 rfl rfl)
theorem dL_law_957 : decode cL_law 957 = .ok (.istore 6, 2) := dk_54 6 (dk_at dksL_law_30 13 rfl rfl)
theorem dL_law_959 : decode cL_law 959 = .ok (.aload_n 2, 1) := dk_44 (dk_at dksL_law_30 15 rfl rfl)
theorem dL_law_960 : decode cL_law 960 = .ok (.invokevirtual 259, 3) := dk_182 1 3 (dk_at dksL_law_30 16 rfl rfl)
theorem dL_law_963 : decode cL_law 963 = .ok (.istore 7, 2) := dk_54 7 (dk_at dksL_law_30 19 rfl rfl)
theorem dL_law_965 : decode cL_law 965 = .ok (.aload_n 2, 1) := dk_44 (dk_at dksL_law_30 21 rfl rfl)
theorem dL_law_966 : decode cL_law 966 = .ok (.invokevirtual 218, 3) := dk_182 0 218 (dk_at dksL_law_31 0 rfl rfl)
theorem dL_law_969 : decode cL_law 969 = .ok (.iload 6, 2) := dk_21 6 (dk_at dksL_law_31 3 rfl rfl)
theorem dL_law_971 : decode cL_law 971 = .ok (.if_icmp .eq 5, 3) := dk_159 0 5 (dk_at dksL_law_31 5 rfl rfl)
theorem dL_law_974 : decode cL_law 974 = .ok (.iconst 0, 1) := dk_3 (dk_at dksL_law_31 8 rfl rfl)
theorem dL_law_975 : decode cL_law 975 = .ok (.ireturn, 1) := dk_172 (dk_at dksL_law_31 9 rfl rfl)
theorem dL_law_976 : decode cL_law 976 = .ok (.iload 6, 2) := dk_21 6 (dk_at dksL_law_31 10 rfl rfl)
theorem dL_law_978 : decode cL_law 978 = .ok (.ifCond .ne 15, 3) := dk_154 0 15 (dk_at dksL_law_31 12 rfl rfl)
theorem dL_law_981 : decode cL_law 981 = .ok (.aload_n 3, 1) := dk_45 (dk_at dksL_law_31 15 rfl rfl)
theorem dL_law_982 : decode cL_law 982 = .ok (.iconst 0, 1) := dk_3 (dk_at dksL_law_31 16 rfl rfl)
theorem dL_law_983 : decode cL_law 983 = .ok (.laload, 1) := dk_47 (dk_at dksL_law_31 17 rfl rfl)
theorem dL_law_984 : decode cL_law 984 = .ok (.iload 7, 2) := dk_21 7 (dk_at dksL_law_31 18 rfl rfl)
theorem dL_law_986 : decode cL_law 986 = .ok (.i2l, 1) := dk_133 (dk_at dksL_law_31 20 rfl rfl)
theorem dL_law_987 : decode cL_law 987 = .ok (.lcmp, 1) := dk_148 (dk_at dksL_law_31 21 rfl rfl)
theorem dL_law_988 : decode cL_law 988 = .ok (.ifCond .eq 5, 3) := dk_153 0 5 (dk_at dksL_law_32 0 rfl rfl)
theorem dL_law_991 : decode cL_law 991 = .ok (.iconst 0, 1) := dk_3 (dk_at dksL_law_32 3 rfl rfl)
theorem dL_law_992 : decode cL_law 992 = .ok (.ireturn, 1) := dk_172 (dk_at dksL_law_32 4 rfl rfl)
theorem dL_law_993 : decode cL_law 993 = .ok (.goto 3266, 3) := dk_167 12 194 (dk_at dksL_law_32 5 rfl rfl)
theorem dL_law_996 : decode cL_law 996 = .ok (.aload_n 1, 1) := dk_43 (dk_at dksL_law_32 8 rfl rfl)
theorem dL_law_997 : decode cL_law 997 = .ok (.aload_n 0, 1) := dk_42 (dk_at dksL_law_32 9 rfl rfl)
theorem dL_law_998 : decode cL_law 998 = .ok (.iload 5, 2) := dk_21 5 (dk_at dksL_law_32 10 rfl rfl)
theorem dL_law_1000 : decode cL_law 1000 = .ok (.iconst 1, 1) := dk_4 (dk_at dksL_law_32 12 rfl rfl)
theorem dL_law_1001 : decode cL_law 1001 = .ok (.iadd, 1) := dk_96 (dk_at dksL_law_32 13 rfl rfl)
theorem dL_law_1002 : decode cL_law 1002 = .ok (.iaload, 1) := dk_46 (dk_at dksL_law_32 14 rfl rfl)
theorem dL_law_1003 : decode cL_law 1003 = .ok (.aload_n 0, 1) := dk_42 (dk_at dksL_law_32 15 rfl rfl)
theorem dL_law_1004 : decode cL_law 1004 = .ok (.iload 5, 2) := dk_21 5 (dk_at dksL_law_32 16 rfl rfl)
theorem dL_law_1006 : decode cL_law 1006 = .ok (.iconst 2, 1) := dk_5 (dk_at dksL_law_32 18 rfl rfl)
theorem dL_law_1007 : decode cL_law 1007 = .ok (.iadd, 1) := dk_96 (dk_at dksL_law_32 19 rfl rfl)
theorem dL_law_1008 : decode cL_law 1008 = .ok (.iaload, 1) := dk_46 (dk_at dksL_law_32 20 rfl rfl)
theorem dL_law_1009 : decode cL_law 1009 = .ok (.aload_n 3, 1) := dk_45 (dk_at dksL_law_32 21 rfl rfl)
theorem dL_law_1010 : decode cL_law 1010 = .ok (.invokestatic 260, 3) := dk_184 1 4 (dk_at dksL_law_33 0 rfl rfl)
theorem dL_law_1013 : decode cL_law 1013 = .ok (.istore 6, 2) := dk_54 6 (dk_at dksL_law_33 3 rfl rfl)
theorem dL_law_1015 : decode cL_law 1015 = .ok (.aload_n 2, 1) := dk_44 (dk_at dksL_law_33 5 rfl rfl)
theorem dL_law_1016 : decode cL_law 1016 = .ok (.aload_n 0, 1) := dk_42 (dk_at dksL_law_33 6 rfl rfl)
theorem dL_law_1017 : decode cL_law 1017 = .ok (.iload 5, 2) := dk_21 5 (dk_at dksL_law_33 7 rfl rfl)
theorem dL_law_1019 : decode cL_law 1019 = .ok (.iconst 1, 1) := dk_4 (dk_at dksL_law_33 9 rfl rfl)
theorem dL_law_1020 : decode cL_law 1020 = .ok (.iadd, 1) := dk_96 (dk_at dksL_law_33 10 rfl rfl)
theorem dL_law_1021 : decode cL_law 1021 = .ok (.iaload, 1) := dk_46 (dk_at dksL_law_33 11 rfl rfl)
theorem dL_law_1022 : decode cL_law 1022 = .ok (.aload_n 0, 1) := dk_42 (dk_at dksL_law_33 12 rfl rfl)
theorem dL_law_1023 : decode cL_law 1023 = .ok (.iload 5, 2) := dk_21 5 (dk_at dksL_law_33 13 rfl rfl)
theorem dL_law_1025 : decode cL_law 1025 = .ok (.iconst 2, 1) := dk_5 (dk_at dksL_law_33 15 rfl rfl)
theorem dL_law_1026 : decode cL_law 1026 = .ok (.iadd, 1) := dk_96 (dk_at dksL_law_33 16 rfl rfl)
theorem dL_law_1027 : decode cL_law 1027 = .ok (.iaload, 1) := dk_46 (dk_at dksL_law_33 17 rfl rfl)
theorem dL_law_1028 : decode cL_law 1028 = .ok (.invokevirtual 262, 3) := dk_182 1 6 (dk_at dksL_law_33 18 rfl rfl)
theorem dL_law_1031 : decode cL_law 1031 = .ok (.istore 7, 2) := dk_54 7 (dk_at dksL_law_33 21 rfl rfl)
theorem dL_law_1033 : decode cL_law 1033 = .ok (.aload_n 2, 1) := dk_44 (dk_at dksL_law_33 23 rfl rfl)
theorem dL_law_1034 : decode cL_law 1034 = .ok (.invokevirtual 218, 3) := dk_182 0 218 (dk_at dksL_law_34 0 rfl rfl)
theorem dL_law_1037 : decode cL_law 1037 = .ok (.iload 6, 2) := dk_21 6 (dk_at dksL_law_34 3 rfl rfl)
theorem dL_law_1039 : decode cL_law 1039 = .ok (.if_icmp .eq 5, 3) := dk_159 0 5 (dk_at dksL_law_34 5 rfl rfl)
theorem dL_law_1042 : decode cL_law 1042 = .ok (.iconst 0, 1) := dk_3 (dk_at dksL_law_34 8 rfl rfl)
theorem dL_law_1043 : decode cL_law 1043 = .ok (.ireturn, 1) := dk_172 (dk_at dksL_law_34 9 rfl rfl)
theorem dL_law_1044 : decode cL_law 1044 = .ok (.iload 6, 2) := dk_21 6 (dk_at dksL_law_34 10 rfl rfl)
theorem dL_law_1046 : decode cL_law 1046 = .ok (.ifCond .ne 22, 3) := dk_154 0 22 (dk_at dksL_law_34 12 rfl rfl)
theorem dL_law_1049 : decode cL_law 1049 = .ok (.aload_n 3, 1) := dk_45 (dk_at dksL_law_34 15 rfl rfl)
theorem dL_law_1050 : decode cL_law 1050 = .ok (.iconst 0, 1) := dk_3 (dk_at dksL_law_34 16 rfl rfl)
theorem dL_law_1051 : decode cL_law 1051 = .ok (.laload, 1) := dk_47 (dk_at dksL_law_34 17 rfl rfl)
theorem dL_law_1052 : decode cL_law 1052 = .ok (.iload 7, 2) := dk_21 7 (dk_at dksL_law_34 18 rfl rfl)
theorem dL_law_1054 : decode cL_law 1054 = .ok (.ifCond .eq 7, 3) := dk_153 0 7 (dk_at dksL_law_34 20 rfl rfl)
theorem dL_law_1057 : decode cL_law 1057 = .ok (.lconst 1, 1) := dk_10 (dk_at dksL_law_34 23 rfl rfl)
theorem dL_law_1058 : decode cL_law 1058 = .ok (.goto 4, 3) := dk_167 0 4 (dk_at dksL_law_35 0 rfl rfl)
theorem dL_law_1061 : decode cL_law 1061 = .ok (.lconst 0, 1) := dk_9 (dk_at dksL_law_35 3 rfl rfl)
theorem dL_law_1062 : decode cL_law 1062 = .ok (.lcmp, 1) := dk_148 (dk_at dksL_law_35 4 rfl rfl)
theorem dL_law_1063 : decode cL_law 1063 = .ok (.ifCond .eq 5, 3) := dk_153 0 5 (dk_at dksL_law_35 5 rfl rfl)
theorem dL_law_1066 : decode cL_law 1066 = .ok (.iconst 0, 1) := dk_3 (dk_at dksL_law_35 8 rfl rfl)
theorem dL_law_1067 : decode cL_law 1067 = .ok (.ireturn, 1) := dk_172 (dk_at dksL_law_35 9 rfl rfl)
theorem dL_law_1068 : decode cL_law 1068 = .ok (.goto 3191, 3) := dk_167 12 119 (dk_at dksL_law_35 10 rfl rfl)
theorem dL_law_1071 : decode cL_law 1071 = .ok (.aload_n 1, 1) := dk_43 (dk_at dksL_law_35 13 rfl rfl)
theorem dL_law_1072 : decode cL_law 1072 = .ok (.aload_n 0, 1) := dk_42 (dk_at dksL_law_35 14 rfl rfl)
theorem dL_law_1073 : decode cL_law 1073 = .ok (.iload 5, 2) := dk_21 5 (dk_at dksL_law_35 15 rfl rfl)
theorem dL_law_1075 : decode cL_law 1075 = .ok (.iconst 1, 1) := dk_4 (dk_at dksL_law_35 17 rfl rfl)
theorem dL_law_1076 : decode cL_law 1076 = .ok (.iadd, 1) := dk_96 (dk_at dksL_law_35 18 rfl rfl)
theorem dL_law_1077 : decode cL_law 1077 = .ok (.iaload, 1) := dk_46 (dk_at dksL_law_35 19 rfl rfl)
theorem dL_law_1078 : decode cL_law 1078 = .ok (.aload_n 0, 1) := dk_42 (dk_at dksL_law_35 20 rfl rfl)
theorem dL_law_1079 : decode cL_law 1079 = .ok (.iload 5, 2) := dk_21 5 (dk_at dksL_law_35 21 rfl rfl)
theorem dL_law_1081 : decode cL_law 1081 = .ok (.iconst 2, 1) := dk_5 (dk_at dksL_law_35 23 rfl rfl)
theorem dL_law_1082 : decode cL_law 1082 = .ok (.iadd, 1) := dk_96 (dk_at dksL_law_36 0 rfl rfl)
theorem dL_law_1083 : decode cL_law 1083 = .ok (.iaload, 1) := dk_46 (dk_at dksL_law_36 1 rfl rfl)
theorem dL_law_1084 : decode cL_law 1084 = .ok (.aload_n 3, 1) := dk_45 (dk_at dksL_law_36 2 rfl rfl)
theorem dL_law_1085 : decode cL_law 1085 = .ok (.invokestatic 263, 3) := dk_184 1 7 (dk_at dksL_law_36 3 rfl rfl)
theorem dL_law_1088 : decode cL_law 1088 = .ok (.istore 6, 2) := dk_54 6 (dk_at dksL_law_36 6 rfl rfl)
theorem dL_law_1090 : decode cL_law 1090 = .ok (.aload_n 2, 1) := dk_44 (dk_at dksL_law_36 8 rfl rfl)
theorem dL_law_1091 : decode cL_law 1091 = .ok (.aload_n 0, 1) := dk_42 (dk_at dksL_law_36 9 rfl rfl)
theorem dL_law_1092 : decode cL_law 1092 = .ok (.iload 5, 2) := dk_21 5 (dk_at dksL_law_36 10 rfl rfl)
theorem dL_law_1094 : decode cL_law 1094 = .ok (.iconst 1, 1) := dk_4 (dk_at dksL_law_36 12 rfl rfl)
theorem dL_law_1095 : decode cL_law 1095 = .ok (.iadd, 1) := dk_96 (dk_at dksL_law_36 13 rfl rfl)
theorem dL_law_1096 : decode cL_law 1096 = .ok (.iaload, 1) := dk_46 (dk_at dksL_law_36 14 rfl rfl)
theorem dL_law_1097 : decode cL_law 1097 = .ok (.aload_n 0, 1) := dk_42 (dk_at dksL_law_36 15 rfl rfl)
theorem dL_law_1098 : decode cL_law 1098 = .ok (.iload 5, 2) := dk_21 5 (dk_at dksL_law_36 16 rfl rfl)
theorem dL_law_1100 : decode cL_law 1100 = .ok (.iconst 2, 1) := dk_5 (dk_at dksL_law_36 18 rfl rfl)
theorem dL_law_1101 : decode cL_law 1101 = .ok (.iadd, 1) := dk_96 (dk_at dksL_law_36 19 rfl rfl)
theorem dL_law_1102 : decode cL_law 1102 = .ok (.iaload, 1) := dk_46 (dk_at dksL_law_36 20 rfl rfl)
theorem dL_law_1103 : decode cL_law 1103 = .ok (.invokevirtual 265, 3) := dk_182 1 9 (dk_at dksL_law_36 21 rfl rfl)
theorem dL_law_1106 : decode cL_law 1106 = .ok (.istore 7, 2) := dk_54 7 (dk_at dksL_law_37 0 rfl rfl)
theorem dL_law_1108 : decode cL_law 1108 = .ok (.aload_n 2, 1) := dk_44 (dk_at dksL_law_37 2 rfl rfl)
theorem dL_law_1109 : decode cL_law 1109 = .ok (.invokevirtual 218, 3) := dk_182 0 218 (dk_at dksL_law_37 3 rfl rfl)
theorem dL_law_1112 : decode cL_law 1112 = .ok (.iload 6, 2) := dk_21 6 (dk_at dksL_law_37 6 rfl rfl)
theorem dL_law_1114 : decode cL_law 1114 = .ok (.if_icmp .eq 5, 3) := dk_159 0 5 (dk_at dksL_law_37 8 rfl rfl)
theorem dL_law_1117 : decode cL_law 1117 = .ok (.iconst 0, 1) := dk_3 (dk_at dksL_law_37 11 rfl rfl)
theorem dL_law_1118 : decode cL_law 1118 = .ok (.ireturn, 1) := dk_172 (dk_at dksL_law_37 12 rfl rfl)
theorem dL_law_1119 : decode cL_law 1119 = .ok (.iload 6, 2) := dk_21 6 (dk_at dksL_law_37 13 rfl rfl)
theorem dL_law_1121 : decode cL_law 1121 = .ok (.ifCond .ne 22, 3) := dk_154 0 22 (dk_at dksL_law_37 15 rfl rfl)
theorem dL_law_1124 : decode cL_law 1124 = .ok (.aload_n 3, 1) := dk_45 (dk_at dksL_law_37 18 rfl rfl)
theorem dL_law_1125 : decode cL_law 1125 = .ok (.iconst 0, 1) := dk_3 (dk_at dksL_law_37 19 rfl rfl)
theorem dL_law_1126 : decode cL_law 1126 = .ok (.laload, 1) := dk_47 (dk_at dksL_law_37 20 rfl rfl)
theorem dL_law_1127 : decode cL_law 1127 = .ok (.iload 7, 2) := dk_21 7 (dk_at dksL_law_37 21 rfl rfl)
theorem dL_law_1129 : decode cL_law 1129 = .ok (.ifCond .eq 7, 3) := dk_153 0 7 (dk_at dksL_law_38 0 rfl rfl)
theorem dL_law_1132 : decode cL_law 1132 = .ok (.lconst 1, 1) := dk_10 (dk_at dksL_law_38 3 rfl rfl)
theorem dL_law_1133 : decode cL_law 1133 = .ok (.goto 4, 3) := dk_167 0 4 (dk_at dksL_law_38 4 rfl rfl)
theorem dL_law_1136 : decode cL_law 1136 = .ok (.lconst 0, 1) := dk_9 (dk_at dksL_law_38 7 rfl rfl)
theorem dL_law_1137 : decode cL_law 1137 = .ok (.lcmp, 1) := dk_148 (dk_at dksL_law_38 8 rfl rfl)
theorem dL_law_1138 : decode cL_law 1138 = .ok (.ifCond .eq 5, 3) := dk_153 0 5 (dk_at dksL_law_38 9 rfl rfl)
theorem dL_law_1141 : decode cL_law 1141 = .ok (.iconst 0, 1) := dk_3 (dk_at dksL_law_38 12 rfl rfl)
theorem dL_law_1142 : decode cL_law 1142 = .ok (.ireturn, 1) := dk_172 (dk_at dksL_law_38 13 rfl rfl)
theorem dL_law_1143 : decode cL_law 1143 = .ok (.goto 3116, 3) := dk_167 12 44 (dk_at dksL_law_38 14 rfl rfl)
theorem dL_law_1146 : decode cL_law 1146 = .ok (.aload_n 1, 1) := dk_43 (dk_at dksL_law_38 17 rfl rfl)
theorem dL_law_1147 : decode cL_law 1147 = .ok (.aload_n 0, 1) := dk_42 (dk_at dksL_law_38 18 rfl rfl)
theorem dL_law_1148 : decode cL_law 1148 = .ok (.iload 5, 2) := dk_21 5 (dk_at dksL_law_38 19 rfl rfl)
theorem dL_law_1150 : decode cL_law 1150 = .ok (.iconst 1, 1) := dk_4 (dk_at dksL_law_38 21 rfl rfl)
theorem dL_law_1151 : decode cL_law 1151 = .ok (.iadd, 1) := dk_96 (dk_at dksL_law_38 22 rfl rfl)
theorem dL_law_1152 : decode cL_law 1152 = .ok (.iaload, 1) := dk_46 (dk_at dksL_law_38 23 rfl rfl)
theorem dL_law_1153 : decode cL_law 1153 = .ok (.aload_n 3, 1) := dk_45 (dk_at dksL_law_39 0 rfl rfl)
theorem dL_law_1154 : decode cL_law 1154 = .ok (.invokestatic 266, 3) := dk_184 1 10 (dk_at dksL_law_39 1 rfl rfl)
theorem dL_law_1157 : decode cL_law 1157 = .ok (.istore 6, 2) := dk_54 6 (dk_at dksL_law_39 4 rfl rfl)
theorem dL_law_1159 : decode cL_law 1159 = .ok (.aload_n 2, 1) := dk_44 (dk_at dksL_law_39 6 rfl rfl)
theorem dL_law_1160 : decode cL_law 1160 = .ok (.aload_n 0, 1) := dk_42 (dk_at dksL_law_39 7 rfl rfl)
theorem dL_law_1161 : decode cL_law 1161 = .ok (.iload 5, 2) := dk_21 5 (dk_at dksL_law_39 8 rfl rfl)
theorem dL_law_1163 : decode cL_law 1163 = .ok (.iconst 1, 1) := dk_4 (dk_at dksL_law_39 10 rfl rfl)
theorem dL_law_1164 : decode cL_law 1164 = .ok (.iadd, 1) := dk_96 (dk_at dksL_law_39 11 rfl rfl)
theorem dL_law_1165 : decode cL_law 1165 = .ok (.iaload, 1) := dk_46 (dk_at dksL_law_39 12 rfl rfl)
theorem dL_law_1166 : decode cL_law 1166 = .ok (.invokevirtual 268, 3) := dk_182 1 12 (dk_at dksL_law_39 13 rfl rfl)
theorem dL_law_1169 : decode cL_law 1169 = .ok (.istore 7, 2) := dk_54 7 (dk_at dksL_law_39 16 rfl rfl)
theorem dL_law_1171 : decode cL_law 1171 = .ok (.aload_n 2, 1) := dk_44 (dk_at dksL_law_39 18 rfl rfl)
theorem dL_law_1172 : decode cL_law 1172 = .ok (.invokevirtual 218, 3) := dk_182 0 218 (dk_at dksL_law_39 19 rfl rfl)
theorem dL_law_1175 : decode cL_law 1175 = .ok (.iload 6, 2) := dk_21 6 (dk_at dksL_law_39 22 rfl rfl)
theorem dL_law_1177 : decode cL_law 1177 = .ok (.if_icmp .eq 5, 3) := dk_159 0 5 (dk_at dksL_law_40 0 rfl rfl)
theorem dL_law_1180 : decode cL_law 1180 = .ok (.iconst 0, 1) := dk_3 (dk_at dksL_law_40 3 rfl rfl)
theorem dL_law_1181 : decode cL_law 1181 = .ok (.ireturn, 1) := dk_172 (dk_at dksL_law_40 4 rfl rfl)
theorem dL_law_1182 : decode cL_law 1182 = .ok (.iload 6, 2) := dk_21 6 (dk_at dksL_law_40 5 rfl rfl)
theorem dL_law_1184 : decode cL_law 1184 = .ok (.ifCond .ne 15, 3) := dk_154 0 15 (dk_at dksL_law_40 7 rfl rfl)
theorem dL_law_1187 : decode cL_law 1187 = .ok (.aload_n 3, 1) := dk_45 (dk_at dksL_law_40 10 rfl rfl)
theorem dL_law_1188 : decode cL_law 1188 = .ok (.iconst 0, 1) := dk_3 (dk_at dksL_law_40 11 rfl rfl)
theorem dL_law_1189 : decode cL_law 1189 = .ok (.laload, 1) := dk_47 (dk_at dksL_law_40 12 rfl rfl)
theorem dL_law_1190 : decode cL_law 1190 = .ok (.iload 7, 2) := dk_21 7 (dk_at dksL_law_40 13 rfl rfl)
theorem dL_law_1192 : decode cL_law 1192 = .ok (.i2l, 1) := dk_133 (dk_at dksL_law_40 15 rfl rfl)
theorem dL_law_1193 : decode cL_law 1193 = .ok (.lcmp, 1) := dk_148 (dk_at dksL_law_40 16 rfl rfl)
theorem dL_law_1194 : decode cL_law 1194 = .ok (.ifCond .eq 5, 3) := dk_153 0 5 (dk_at dksL_law_40 17 rfl rfl)
theorem dL_law_1197 : decode cL_law 1197 = .ok (.iconst 0, 1) := dk_3 (dk_at dksL_law_40 20 rfl rfl)
theorem dL_law_1198 : decode cL_law 1198 = .ok (.ireturn, 1) := dk_172 (dk_at dksL_law_40 21 rfl rfl)
theorem dL_law_1199 : decode cL_law 1199 = .ok (.goto 3060, 3) := dk_167 11 244 (dk_at dksL_law_41 0 rfl rfl)
theorem dL_law_1202 : decode cL_law 1202 = .ok (.aload_n 1, 1) := dk_43 (dk_at dksL_law_41 3 rfl rfl)
theorem dL_law_1203 : decode cL_law 1203 = .ok (.aload_n 0, 1) := dk_42 (dk_at dksL_law_41 4 rfl rfl)
theorem dL_law_1204 : decode cL_law 1204 = .ok (.iload 5, 2) := dk_21 5 (dk_at dksL_law_41 5 rfl rfl)
theorem dL_law_1206 : decode cL_law 1206 = .ok (.iconst 1, 1) := dk_4 (dk_at dksL_law_41 7 rfl rfl)
theorem dL_law_1207 : decode cL_law 1207 = .ok (.iadd, 1) := dk_96 (dk_at dksL_law_41 8 rfl rfl)
theorem dL_law_1208 : decode cL_law 1208 = .ok (.iaload, 1) := dk_46 (dk_at dksL_law_41 9 rfl rfl)
theorem dL_law_1209 : decode cL_law 1209 = .ok (.aload_n 0, 1) := dk_42 (dk_at dksL_law_41 10 rfl rfl)
theorem dL_law_1210 : decode cL_law 1210 = .ok (.iload 5, 2) := dk_21 5 (dk_at dksL_law_41 11 rfl rfl)
theorem dL_law_1212 : decode cL_law 1212 = .ok (.iconst 2, 1) := dk_5 (dk_at dksL_law_41 13 rfl rfl)
theorem dL_law_1213 : decode cL_law 1213 = .ok (.iadd, 1) := dk_96 (dk_at dksL_law_41 14 rfl rfl)
theorem dL_law_1214 : decode cL_law 1214 = .ok (.iaload, 1) := dk_46 (dk_at dksL_law_41 15 rfl rfl)
theorem dL_law_1215 : decode cL_law 1215 = .ok (.aload_n 3, 1) := dk_45 (dk_at dksL_law_41 16 rfl rfl)
theorem dL_law_1216 : decode cL_law 1216 = .ok (.invokestatic 269, 3) := dk_184 1 13 (dk_at dksL_law_41 17 rfl rfl)
theorem dL_law_1219 : decode cL_law 1219 = .ok (.istore 6, 2) := dk_54 6 (dk_at dksL_law_41 20 rfl rfl)
theorem dL_law_1221 : decode cL_law 1221 = .ok (.aload_n 2, 1) := dk_44 (dk_at dksL_law_41 22 rfl rfl)
theorem dL_law_1222 : decode cL_law 1222 = .ok (.aload_n 0, 1) := dk_42 (dk_at dksL_law_41 23 rfl rfl)
theorem dL_law_1223 : decode cL_law 1223 = .ok (.iload 5, 2) := dk_21 5 (dk_at dksL_law_42 0 rfl rfl)
theorem dL_law_1225 : decode cL_law 1225 = .ok (.iconst 1, 1) := dk_4 (dk_at dksL_law_42 2 rfl rfl)
theorem dL_law_1226 : decode cL_law 1226 = .ok (.iadd, 1) := dk_96 (dk_at dksL_law_42 3 rfl rfl)
theorem dL_law_1227 : decode cL_law 1227 = .ok (.iaload, 1) := dk_46 (dk_at dksL_law_42 4 rfl rfl)
theorem dL_law_1228 : decode cL_law 1228 = .ok (.aload_n 0, 1) := dk_42 (dk_at dksL_law_42 5 rfl rfl)
theorem dL_law_1229 : decode cL_law 1229 = .ok (.iload 5, 2) := dk_21 5 (dk_at dksL_law_42 6 rfl rfl)
theorem dL_law_1231 : decode cL_law 1231 = .ok (.iconst 2, 1) := dk_5 (dk_at dksL_law_42 8 rfl rfl)
theorem dL_law_1232 : decode cL_law 1232 = .ok (.iadd, 1) := dk_96 (dk_at dksL_law_42 9 rfl rfl)
theorem dL_law_1233 : decode cL_law 1233 = .ok (.iaload, 1) := dk_46 (dk_at dksL_law_42 10 rfl rfl)
theorem dL_law_1234 : decode cL_law 1234 = .ok (.invokevirtual 271, 3) := dk_182 1 15 (dk_at dksL_law_42 11 rfl rfl)
theorem dL_law_1237 : decode cL_law 1237 = .ok (.istore 7, 2) := dk_54 7 (dk_at dksL_law_42 14 rfl rfl)
theorem dL_law_1239 : decode cL_law 1239 = .ok (.aload_n 2, 1) := dk_44 (dk_at dksL_law_42 16 rfl rfl)
theorem dL_law_1240 : decode cL_law 1240 = .ok (.invokevirtual 218, 3) := dk_182 0 218 (dk_at dksL_law_42 17 rfl rfl)
theorem dL_law_1243 : decode cL_law 1243 = .ok (.iload 6, 2) := dk_21 6 (dk_at dksL_law_42 20 rfl rfl)
theorem dL_law_1245 : decode cL_law 1245 = .ok (.if_icmp .eq 5, 3) := dk_159 0 5 (dk_at dksL_law_43 0 rfl rfl)
theorem dL_law_1248 : decode cL_law 1248 = .ok (.iconst 0, 1) := dk_3 (dk_at dksL_law_43 3 rfl rfl)
theorem dL_law_1249 : decode cL_law 1249 = .ok (.ireturn, 1) := dk_172 (dk_at dksL_law_43 4 rfl rfl)
theorem dL_law_1250 : decode cL_law 1250 = .ok (.iload 6, 2) := dk_21 6 (dk_at dksL_law_43 5 rfl rfl)
theorem dL_law_1252 : decode cL_law 1252 = .ok (.ifCond .ne 15, 3) := dk_154 0 15 (dk_at dksL_law_43 7 rfl rfl)
theorem dL_law_1255 : decode cL_law 1255 = .ok (.aload_n 3, 1) := dk_45 (dk_at dksL_law_43 10 rfl rfl)
theorem dL_law_1256 : decode cL_law 1256 = .ok (.iconst 0, 1) := dk_3 (dk_at dksL_law_43 11 rfl rfl)
theorem dL_law_1257 : decode cL_law 1257 = .ok (.laload, 1) := dk_47 (dk_at dksL_law_43 12 rfl rfl)
theorem dL_law_1258 : decode cL_law 1258 = .ok (.iload 7, 2) := dk_21 7 (dk_at dksL_law_43 13 rfl rfl)
theorem dL_law_1260 : decode cL_law 1260 = .ok (.i2l, 1) := dk_133 (dk_at dksL_law_43 15 rfl rfl)
theorem dL_law_1261 : decode cL_law 1261 = .ok (.lcmp, 1) := dk_148 (dk_at dksL_law_43 16 rfl rfl)
theorem dL_law_1262 : decode cL_law 1262 = .ok (.ifCond .eq 5, 3) := dk_153 0 5 (dk_at dksL_law_43 17 rfl rfl)
theorem dL_law_1265 : decode cL_law 1265 = .ok (.iconst 0, 1) := dk_3 (dk_at dksL_law_43 20 rfl rfl)
theorem dL_law_1266 : decode cL_law 1266 = .ok (.ireturn, 1) := dk_172 (dk_at dksL_law_43 21 rfl rfl)
theorem dL_law_1267 : decode cL_law 1267 = .ok (.goto 2992, 3) := dk_167 11 176 (dk_at dksL_law_44 0 rfl rfl)
theorem dL_law_1270 : decode cL_law 1270 = .ok (.aload_n 1, 1) := dk_43 (dk_at dksL_law_44 3 rfl rfl)
theorem dL_law_1271 : decode cL_law 1271 = .ok (.aload_n 0, 1) := dk_42 (dk_at dksL_law_44 4 rfl rfl)
theorem dL_law_1272 : decode cL_law 1272 = .ok (.iload 5, 2) := dk_21 5 (dk_at dksL_law_44 5 rfl rfl)
theorem dL_law_1274 : decode cL_law 1274 = .ok (.iconst 1, 1) := dk_4 (dk_at dksL_law_44 7 rfl rfl)
theorem dL_law_1275 : decode cL_law 1275 = .ok (.iadd, 1) := dk_96 (dk_at dksL_law_44 8 rfl rfl)
theorem dL_law_1276 : decode cL_law 1276 = .ok (.iaload, 1) := dk_46 (dk_at dksL_law_44 9 rfl rfl)
theorem dL_law_1277 : decode cL_law 1277 = .ok (.aload_n 3, 1) := dk_45 (dk_at dksL_law_44 10 rfl rfl)
theorem dL_law_1278 : decode cL_law 1278 = .ok (.invokestatic 272, 3) := dk_184 1 16 (dk_at dksL_law_44 11 rfl rfl)
theorem dL_law_1281 : decode cL_law 1281 = .ok (.istore 6, 2) := dk_54 6 (dk_at dksL_law_44 14 rfl rfl)
theorem dL_law_1283 : decode cL_law 1283 = .ok (.aload_n 2, 1) := dk_44 (dk_at dksL_law_44 16 rfl rfl)
theorem dL_law_1284 : decode cL_law 1284 = .ok (.aload_n 0, 1) := dk_42 (dk_at dksL_law_44 17 rfl rfl)
theorem dL_law_1285 : decode cL_law 1285 = .ok (.iload 5, 2) := dk_21 5 (dk_at dksL_law_44 18 rfl rfl)
theorem dL_law_1287 : decode cL_law 1287 = .ok (.iconst 1, 1) := dk_4 (dk_at dksL_law_44 20 rfl rfl)
theorem dL_law_1288 : decode cL_law 1288 = .ok (.iadd, 1) := dk_96 (dk_at dksL_law_44 21 rfl rfl)
theorem dL_law_1289 : decode cL_law 1289 = .ok (.iaload, 1) := dk_46 (dk_at dksL_law_44 22 rfl rfl)
theorem dL_law_1290 : decode cL_law 1290 = .ok (.invokevirtual 274, 3) := dk_182 1 18 (dk_at dksL_law_45 0 rfl rfl)
theorem dL_law_1293 : decode cL_law 1293 = .ok (.istore 7, 2) := dk_54 7 (dk_at dksL_law_45 3 rfl rfl)
theorem dL_law_1295 : decode cL_law 1295 = .ok (.aload_n 2, 1) := dk_44 (dk_at dksL_law_45 5 rfl rfl)
theorem dL_law_1296 : decode cL_law 1296 = .ok (.invokevirtual 218, 3) := dk_182 0 218 (dk_at dksL_law_45 6 rfl rfl)
theorem dL_law_1299 : decode cL_law 1299 = .ok (.iload 6, 2) := dk_21 6 (dk_at dksL_law_45 9 rfl rfl)
theorem dL_law_1301 : decode cL_law 1301 = .ok (.if_icmp .eq 5, 3) := dk_159 0 5 (dk_at dksL_law_45 11 rfl rfl)
theorem dL_law_1304 : decode cL_law 1304 = .ok (.iconst 0, 1) := dk_3 (dk_at dksL_law_45 14 rfl rfl)
theorem dL_law_1305 : decode cL_law 1305 = .ok (.ireturn, 1) := dk_172 (dk_at dksL_law_45 15 rfl rfl)
theorem dL_law_1306 : decode cL_law 1306 = .ok (.iload 6, 2) := dk_21 6 (dk_at dksL_law_45 16 rfl rfl)
theorem dL_law_1308 : decode cL_law 1308 = .ok (.ifCond .ne 15, 3) := dk_154 0 15 (dk_at dksL_law_45 18 rfl rfl)
theorem dL_law_1311 : decode cL_law 1311 = .ok (.aload_n 3, 1) := dk_45 (dk_at dksL_law_45 21 rfl rfl)
theorem dL_law_1312 : decode cL_law 1312 = .ok (.iconst 0, 1) := dk_3 (dk_at dksL_law_45 22 rfl rfl)
theorem dL_law_1313 : decode cL_law 1313 = .ok (.laload, 1) := dk_47 (dk_at dksL_law_45 23 rfl rfl)
theorem dL_law_1314 : decode cL_law 1314 = .ok (.iload 7, 2) := dk_21 7 (dk_at dksL_law_46 0 rfl rfl)
theorem dL_law_1316 : decode cL_law 1316 = .ok (.i2l, 1) := dk_133 (dk_at dksL_law_46 2 rfl rfl)
theorem dL_law_1317 : decode cL_law 1317 = .ok (.lcmp, 1) := dk_148 (dk_at dksL_law_46 3 rfl rfl)
theorem dL_law_1318 : decode cL_law 1318 = .ok (.ifCond .eq 5, 3) := dk_153 0 5 (dk_at dksL_law_46 4 rfl rfl)
theorem dL_law_1321 : decode cL_law 1321 = .ok (.iconst 0, 1) := dk_3 (dk_at dksL_law_46 7 rfl rfl)
theorem dL_law_1322 : decode cL_law 1322 = .ok (.ireturn, 1) := dk_172 (dk_at dksL_law_46 8 rfl rfl)
theorem dL_law_1323 : decode cL_law 1323 = .ok (.goto 2936, 3) := dk_167 11 120 (dk_at dksL_law_46 9 rfl rfl)
theorem dL_law_1326 : decode cL_law 1326 = .ok (.aload_n 1, 1) := dk_43 (dk_at dksL_law_46 12 rfl rfl)
theorem dL_law_1327 : decode cL_law 1327 = .ok (.aload_n 0, 1) := dk_42 (dk_at dksL_law_46 13 rfl rfl)
theorem dL_law_1328 : decode cL_law 1328 = .ok (.iload 5, 2) := dk_21 5 (dk_at dksL_law_46 14 rfl rfl)
theorem dL_law_1330 : decode cL_law 1330 = .ok (.iconst 1, 1) := dk_4 (dk_at dksL_law_46 16 rfl rfl)
theorem dL_law_1331 : decode cL_law 1331 = .ok (.iadd, 1) := dk_96 (dk_at dksL_law_46 17 rfl rfl)
theorem dL_law_1332 : decode cL_law 1332 = .ok (.iaload, 1) := dk_46 (dk_at dksL_law_46 18 rfl rfl)
theorem dL_law_1333 : decode cL_law 1333 = .ok (.aload_n 0, 1) := dk_42 (dk_at dksL_law_46 19 rfl rfl)
theorem dL_law_1334 : decode cL_law 1334 = .ok (.iload 5, 2) := dk_21 5 (dk_at dksL_law_46 20 rfl rfl)
theorem dL_law_1336 : decode cL_law 1336 = .ok (.iconst 2, 1) := dk_5 (dk_at dksL_law_46 22 rfl rfl)
theorem dL_law_1337 : decode cL_law 1337 = .ok (.iadd, 1) := dk_96 (dk_at dksL_law_46 23 rfl rfl)
theorem dL_law_1338 : decode cL_law 1338 = .ok (.iaload, 1) := dk_46 (dk_at dksL_law_47 0 rfl rfl)
theorem dL_law_1339 : decode cL_law 1339 = .ok (.aload_n 3, 1) := dk_45 (dk_at dksL_law_47 1 rfl rfl)
theorem dL_law_1340 : decode cL_law 1340 = .ok (.invokestatic 275, 3) := dk_184 1 19 (dk_at dksL_law_47 2 rfl rfl)
theorem dL_law_1343 : decode cL_law 1343 = .ok (.istore 6, 2) := dk_54 6 (dk_at dksL_law_47 5 rfl rfl)
theorem dL_law_1345 : decode cL_law 1345 = .ok (.aload_n 2, 1) := dk_44 (dk_at dksL_law_47 7 rfl rfl)
theorem dL_law_1346 : decode cL_law 1346 = .ok (.aload_n 0, 1) := dk_42 (dk_at dksL_law_47 8 rfl rfl)
theorem dL_law_1347 : decode cL_law 1347 = .ok (.iload 5, 2) := dk_21 5 (dk_at dksL_law_47 9 rfl rfl)
theorem dL_law_1349 : decode cL_law 1349 = .ok (.iconst 1, 1) := dk_4 (dk_at dksL_law_47 11 rfl rfl)
theorem dL_law_1350 : decode cL_law 1350 = .ok (.iadd, 1) := dk_96 (dk_at dksL_law_47 12 rfl rfl)
theorem dL_law_1351 : decode cL_law 1351 = .ok (.iaload, 1) := dk_46 (dk_at dksL_law_47 13 rfl rfl)
theorem dL_law_1352 : decode cL_law 1352 = .ok (.aload_n 0, 1) := dk_42 (dk_at dksL_law_47 14 rfl rfl)
theorem dL_law_1353 : decode cL_law 1353 = .ok (.iload 5, 2) := dk_21 5 (dk_at dksL_law_47 15 rfl rfl)
theorem dL_law_1355 : decode cL_law 1355 = .ok (.iconst 2, 1) := dk_5 (dk_at dksL_law_47 17 rfl rfl)
theorem dL_law_1356 : decode cL_law 1356 = .ok (.iadd, 1) := dk_96 (dk_at dksL_law_47 18 rfl rfl)
theorem dL_law_1357 : decode cL_law 1357 = .ok (.iaload, 1) := dk_46 (dk_at dksL_law_47 19 rfl rfl)
theorem dL_law_1358 : decode cL_law 1358 = .ok (.invokevirtual 277, 3) := dk_182 1 21 (dk_at dksL_law_47 20 rfl rfl)
theorem dL_law_1361 : decode cL_law 1361 = .ok (.istore 7, 2) := dk_54 7 (dk_at dksL_law_48 0 rfl rfl)
theorem dL_law_1363 : decode cL_law 1363 = .ok (.aload_n 2, 1) := dk_44 (dk_at dksL_law_48 2 rfl rfl)
theorem dL_law_1364 : decode cL_law 1364 = .ok (.invokevirtual 218, 3) := dk_182 0 218 (dk_at dksL_law_48 3 rfl rfl)
theorem dL_law_1367 : decode cL_law 1367 = .ok (.iload 6, 2) := dk_21 6 (dk_at dksL_law_48 6 rfl rfl)
theorem dL_law_1369 : decode cL_law 1369 = .ok (.if_icmp .eq 5, 3) := dk_159 0 5 (dk_at dksL_law_48 8 rfl rfl)
theorem dL_law_1372 : decode cL_law 1372 = .ok (.iconst 0, 1) := dk_3 (dk_at dksL_law_48 11 rfl rfl)
theorem dL_law_1373 : decode cL_law 1373 = .ok (.ireturn, 1) := dk_172 (dk_at dksL_law_48 12 rfl rfl)
theorem dL_law_1374 : decode cL_law 1374 = .ok (.iload 6, 2) := dk_21 6 (dk_at dksL_law_48 13 rfl rfl)
theorem dL_law_1376 : decode cL_law 1376 = .ok (.ifCond .ne 15, 3) := dk_154 0 15 (dk_at dksL_law_48 15 rfl rfl)
theorem dL_law_1379 : decode cL_law 1379 = .ok (.aload_n 3, 1) := dk_45 (dk_at dksL_law_48 18 rfl rfl)
theorem dL_law_1380 : decode cL_law 1380 = .ok (.iconst 0, 1) := dk_3 (dk_at dksL_law_48 19 rfl rfl)
theorem dL_law_1381 : decode cL_law 1381 = .ok (.laload, 1) := dk_47 (dk_at dksL_law_48 20 rfl rfl)
theorem dL_law_1382 : decode cL_law 1382 = .ok (.iload 7, 2) := dk_21 7 (dk_at dksL_law_48 21 rfl rfl)
theorem dL_law_1384 : decode cL_law 1384 = .ok (.i2l, 1) := dk_133 (dk_at dksL_law_48 23 rfl rfl)
theorem dL_law_1385 : decode cL_law 1385 = .ok (.lcmp, 1) := dk_148 (dk_at dksL_law_49 0 rfl rfl)
theorem dL_law_1386 : decode cL_law 1386 = .ok (.ifCond .eq 5, 3) := dk_153 0 5 (dk_at dksL_law_49 1 rfl rfl)
theorem dL_law_1389 : decode cL_law 1389 = .ok (.iconst 0, 1) := dk_3 (dk_at dksL_law_49 4 rfl rfl)
theorem dL_law_1390 : decode cL_law 1390 = .ok (.ireturn, 1) := dk_172 (dk_at dksL_law_49 5 rfl rfl)
theorem dL_law_1391 : decode cL_law 1391 = .ok (.goto 2868, 3) := dk_167 11 52 (dk_at dksL_law_49 6 rfl rfl)
theorem dL_law_1394 : decode cL_law 1394 = .ok (.aload_n 1, 1) := dk_43 (dk_at dksL_law_49 9 rfl rfl)
theorem dL_law_1395 : decode cL_law 1395 = .ok (.aload_n 0, 1) := dk_42 (dk_at dksL_law_49 10 rfl rfl)
theorem dL_law_1396 : decode cL_law 1396 = .ok (.iload 5, 2) := dk_21 5 (dk_at dksL_law_49 11 rfl rfl)
theorem dL_law_1398 : decode cL_law 1398 = .ok (.iconst 1, 1) := dk_4 (dk_at dksL_law_49 13 rfl rfl)
theorem dL_law_1399 : decode cL_law 1399 = .ok (.iadd, 1) := dk_96 (dk_at dksL_law_49 14 rfl rfl)
theorem dL_law_1400 : decode cL_law 1400 = .ok (.iaload, 1) := dk_46 (dk_at dksL_law_49 15 rfl rfl)
theorem dL_law_1401 : decode cL_law 1401 = .ok (.aload_n 0, 1) := dk_42 (dk_at dksL_law_49 16 rfl rfl)
theorem dL_law_1402 : decode cL_law 1402 = .ok (.iload 5, 2) := dk_21 5 (dk_at dksL_law_49 17 rfl rfl)
theorem dL_law_1404 : decode cL_law 1404 = .ok (.iconst 2, 1) := dk_5 (dk_at dksL_law_49 19 rfl rfl)
theorem dL_law_1405 : decode cL_law 1405 = .ok (.iadd, 1) := dk_96 (dk_at dksL_law_49 20 rfl rfl)
theorem dL_law_1406 : decode cL_law 1406 = .ok (.iaload, 1) := dk_46 (dk_at dksL_law_49 21 rfl rfl)
theorem dL_law_1407 : decode cL_law 1407 = .ok (.aload_n 3, 1) := dk_45 (dk_at dksL_law_49 22 rfl rfl)
theorem dL_law_1408 : decode cL_law 1408 = .ok (.invokestatic 278, 3) := dk_184 1 22 (dk_at dksL_law_50 0 rfl rfl)
theorem dL_law_1411 : decode cL_law 1411 = .ok (.istore 6, 2) := dk_54 6 (dk_at dksL_law_50 3 rfl rfl)
theorem dL_law_1413 : decode cL_law 1413 = .ok (.aload_n 2, 1) := dk_44 (dk_at dksL_law_50 5 rfl rfl)
theorem dL_law_1414 : decode cL_law 1414 = .ok (.aload_n 0, 1) := dk_42 (dk_at dksL_law_50 6 rfl rfl)
theorem dL_law_1415 : decode cL_law 1415 = .ok (.iload 5, 2) := dk_21 5 (dk_at dksL_law_50 7 rfl rfl)
theorem dL_law_1417 : decode cL_law 1417 = .ok (.iconst 1, 1) := dk_4 (dk_at dksL_law_50 9 rfl rfl)
theorem dL_law_1418 : decode cL_law 1418 = .ok (.iadd, 1) := dk_96 (dk_at dksL_law_50 10 rfl rfl)
theorem dL_law_1419 : decode cL_law 1419 = .ok (.iaload, 1) := dk_46 (dk_at dksL_law_50 11 rfl rfl)
theorem dL_law_1420 : decode cL_law 1420 = .ok (.aload_n 0, 1) := dk_42 (dk_at dksL_law_50 12 rfl rfl)
theorem dL_law_1421 : decode cL_law 1421 = .ok (.iload 5, 2) := dk_21 5 (dk_at dksL_law_50 13 rfl rfl)
theorem dL_law_1423 : decode cL_law 1423 = .ok (.iconst 2, 1) := dk_5 (dk_at dksL_law_50 15 rfl rfl)
theorem dL_law_1424 : decode cL_law 1424 = .ok (.iadd, 1) := dk_96 (dk_at dksL_law_50 16 rfl rfl)
theorem dL_law_1425 : decode cL_law 1425 = .ok (.iaload, 1) := dk_46 (dk_at dksL_law_50 17 rfl rfl)
theorem dL_law_1426 : decode cL_law 1426 = .ok (.invokevirtual 280, 3) := dk_182 1 24 (dk_at dksL_law_50 18 rfl rfl)
theorem dL_law_1429 : decode cL_law 1429 = .ok (.istore 7, 2) := dk_54 7 (dk_at dksL_law_50 21 rfl rfl)
theorem dL_law_1431 : decode cL_law 1431 = .ok (.aload_n 2, 1) := dk_44 (dk_at dksL_law_50 23 rfl rfl)
theorem dL_law_1432 : decode cL_law 1432 = .ok (.invokevirtual 218, 3) := dk_182 0 218 (dk_at dksL_law_51 0 rfl rfl)
theorem dL_law_1435 : decode cL_law 1435 = .ok (.iload 6, 2) := dk_21 6 (dk_at dksL_law_51 3 rfl rfl)
theorem dL_law_1437 : decode cL_law 1437 = .ok (.if_icmp .eq 5, 3) := dk_159 0 5 (dk_at dksL_law_51 5 rfl rfl)
theorem dL_law_1440 : decode cL_law 1440 = .ok (.iconst 0, 1) := dk_3 (dk_at dksL_law_51 8 rfl rfl)
theorem dL_law_1441 : decode cL_law 1441 = .ok (.ireturn, 1) := dk_172 (dk_at dksL_law_51 9 rfl rfl)
theorem dL_law_1442 : decode cL_law 1442 = .ok (.iload 6, 2) := dk_21 6 (dk_at dksL_law_51 10 rfl rfl)
theorem dL_law_1444 : decode cL_law 1444 = .ok (.ifCond .ne 15, 3) := dk_154 0 15 (dk_at dksL_law_51 12 rfl rfl)
theorem dL_law_1447 : decode cL_law 1447 = .ok (.aload_n 3, 1) := dk_45 (dk_at dksL_law_51 15 rfl rfl)
theorem dL_law_1448 : decode cL_law 1448 = .ok (.iconst 0, 1) := dk_3 (dk_at dksL_law_51 16 rfl rfl)
theorem dL_law_1449 : decode cL_law 1449 = .ok (.laload, 1) := dk_47 (dk_at dksL_law_51 17 rfl rfl)
theorem dL_law_1450 : decode cL_law 1450 = .ok (.iload 7, 2) := dk_21 7 (dk_at dksL_law_51 18 rfl rfl)
theorem dL_law_1452 : decode cL_law 1452 = .ok (.i2l, 1) := dk_133 (dk_at dksL_law_51 20 rfl rfl)
theorem dL_law_1453 : decode cL_law 1453 = .ok (.lcmp, 1) := dk_148 (dk_at dksL_law_51 21 rfl rfl)
theorem dL_law_1454 : decode cL_law 1454 = .ok (.ifCond .eq 5, 3) := dk_153 0 5 (dk_at dksL_law_52 0 rfl rfl)
theorem dL_law_1457 : decode cL_law 1457 = .ok (.iconst 0, 1) := dk_3 (dk_at dksL_law_52 3 rfl rfl)
theorem dL_law_1458 : decode cL_law 1458 = .ok (.ireturn, 1) := dk_172 (dk_at dksL_law_52 4 rfl rfl)
theorem dL_law_1459 : decode cL_law 1459 = .ok (.goto 2800, 3) := dk_167 10 240 (dk_at dksL_law_52 5 rfl rfl)
theorem dL_law_1462 : decode cL_law 1462 = .ok (.aload_n 1, 1) := dk_43 (dk_at dksL_law_52 8 rfl rfl)
theorem dL_law_1463 : decode cL_law 1463 = .ok (.aload_n 0, 1) := dk_42 (dk_at dksL_law_52 9 rfl rfl)
theorem dL_law_1464 : decode cL_law 1464 = .ok (.iload 5, 2) := dk_21 5 (dk_at dksL_law_52 10 rfl rfl)
theorem dL_law_1466 : decode cL_law 1466 = .ok (.iconst 1, 1) := dk_4 (dk_at dksL_law_52 12 rfl rfl)
theorem dL_law_1467 : decode cL_law 1467 = .ok (.iadd, 1) := dk_96 (dk_at dksL_law_52 13 rfl rfl)
theorem dL_law_1468 : decode cL_law 1468 = .ok (.iaload, 1) := dk_46 (dk_at dksL_law_52 14 rfl rfl)
theorem dL_law_1469 : decode cL_law 1469 = .ok (.aload_n 0, 1) := dk_42 (dk_at dksL_law_52 15 rfl rfl)
theorem dL_law_1470 : decode cL_law 1470 = .ok (.iload 5, 2) := dk_21 5 (dk_at dksL_law_52 16 rfl rfl)
theorem dL_law_1472 : decode cL_law 1472 = .ok (.iconst 2, 1) := dk_5 (dk_at dksL_law_52 18 rfl rfl)
theorem dL_law_1473 : decode cL_law 1473 = .ok (.iadd, 1) := dk_96 (dk_at dksL_law_52 19 rfl rfl)
theorem dL_law_1474 : decode cL_law 1474 = .ok (.iaload, 1) := dk_46 (dk_at dksL_law_52 20 rfl rfl)
theorem dL_law_1475 : decode cL_law 1475 = .ok (.aload_n 0, 1) := dk_42 (dk_at dksL_law_52 21 rfl rfl)
theorem dL_law_1476 : decode cL_law 1476 = .ok (.iload 5, 2) := dk_21 5 (dk_at dksL_law_52 22 rfl rfl)
theorem dL_law_1478 : decode cL_law 1478 = .ok (.iconst 3, 1) := dk_6 (dk_at dksL_law_53 0 rfl rfl)
theorem dL_law_1479 : decode cL_law 1479 = .ok (.iadd, 1) := dk_96 (dk_at dksL_law_53 1 rfl rfl)
theorem dL_law_1480 : decode cL_law 1480 = .ok (.iaload, 1) := dk_46 (dk_at dksL_law_53 2 rfl rfl)
theorem dL_law_1481 : decode cL_law 1481 = .ok (.aload_n 0, 1) := dk_42 (dk_at dksL_law_53 3 rfl rfl)
theorem dL_law_1482 : decode cL_law 1482 = .ok (.iload 5, 2) := dk_21 5 (dk_at dksL_law_53 4 rfl rfl)
theorem dL_law_1484 : decode cL_law 1484 = .ok (.iconst 4, 1) := dk_7 (dk_at dksL_law_53 6 rfl rfl)
theorem dL_law_1485 : decode cL_law 1485 = .ok (.iadd, 1) := dk_96 (dk_at dksL_law_53 7 rfl rfl)
theorem dL_law_1486 : decode cL_law 1486 = .ok (.iaload, 1) := dk_46 (dk_at dksL_law_53 8 rfl rfl)
theorem dL_law_1487 : decode cL_law 1487 = .ok (.aload_n 3, 1) := dk_45 (dk_at dksL_law_53 9 rfl rfl)
theorem dL_law_1488 : decode cL_law 1488 = .ok (.invokestatic 281, 3) := dk_184 1 25 (dk_at dksL_law_53 10 rfl rfl)
theorem dL_law_1491 : decode cL_law 1491 = .ok (.istore 6, 2) := dk_54 6 (dk_at dksL_law_53 13 rfl rfl)
theorem dL_law_1493 : decode cL_law 1493 = .ok (.aload_n 2, 1) := dk_44 (dk_at dksL_law_53 15 rfl rfl)
theorem dL_law_1494 : decode cL_law 1494 = .ok (.aload_n 0, 1) := dk_42 (dk_at dksL_law_53 16 rfl rfl)
theorem dL_law_1495 : decode cL_law 1495 = .ok (.iload 5, 2) := dk_21 5 (dk_at dksL_law_53 17 rfl rfl)
theorem dL_law_1497 : decode cL_law 1497 = .ok (.iconst 1, 1) := dk_4 (dk_at dksL_law_53 19 rfl rfl)
theorem dL_law_1498 : decode cL_law 1498 = .ok (.iadd, 1) := dk_96 (dk_at dksL_law_53 20 rfl rfl)
theorem dL_law_1499 : decode cL_law 1499 = .ok (.iaload, 1) := dk_46 (dk_at dksL_law_53 21 rfl rfl)
theorem dL_law_1500 : decode cL_law 1500 = .ok (.aload_n 0, 1) := dk_42 (dk_at dksL_law_53 22 rfl rfl)
theorem dL_law_1501 : decode cL_law 1501 = .ok (.iload 5, 2) := dk_21 5 (dk_at dksL_law_54 0 rfl rfl)
theorem dL_law_1503 : decode cL_law 1503 = .ok (.iconst 2, 1) := dk_5 (dk_at dksL_law_54 2 rfl rfl)
theorem dL_law_1504 : decode cL_law 1504 = .ok (.iadd, 1) := dk_96 (dk_at dksL_law_54 3 rfl rfl)
theorem dL_law_1505 : decode cL_law 1505 = .ok (.iaload, 1) := dk_46 (dk_at dksL_law_54 4 rfl rfl)
theorem dL_law_1506 : decode cL_law 1506 = .ok (.aload_n 0, 1) := dk_42 (dk_at dksL_law_54 5 rfl rfl)
theorem dL_law_1507 : decode cL_law 1507 = .ok (.iload 5, 2) := dk_21 5 (dk_at dksL_law_54 6 rfl rfl)
theorem dL_law_1509 : decode cL_law 1509 = .ok (.iconst 3, 1) := dk_6 (dk_at dksL_law_54 8 rfl rfl)
theorem dL_law_1510 : decode cL_law 1510 = .ok (.iadd, 1) := dk_96 (dk_at dksL_law_54 9 rfl rfl)
theorem dL_law_1511 : decode cL_law 1511 = .ok (.iaload, 1) := dk_46 (dk_at dksL_law_54 10 rfl rfl)
theorem dL_law_1512 : decode cL_law 1512 = .ok (.aload_n 0, 1) := dk_42 (dk_at dksL_law_54 11 rfl rfl)
theorem dL_law_1513 : decode cL_law 1513 = .ok (.iload 5, 2) := dk_21 5 (dk_at dksL_law_54 12 rfl rfl)
theorem dL_law_1515 : decode cL_law 1515 = .ok (.iconst 4, 1) := dk_7 (dk_at dksL_law_54 14 rfl rfl)
theorem dL_law_1516 : decode cL_law 1516 = .ok (.iadd, 1) := dk_96 (dk_at dksL_law_54 15 rfl rfl)
theorem dL_law_1517 : decode cL_law 1517 = .ok (.iaload, 1) := dk_46 (dk_at dksL_law_54 16 rfl rfl)
theorem dL_law_1518 : decode cL_law 1518 = .ok (.invokevirtual 284, 3) := dk_182 1 28 (dk_at dksL_law_54 17 rfl rfl)
theorem dL_law_1521 : decode cL_law 1521 = .ok (.istore 7, 2) := dk_54 7 (dk_at dksL_law_54 20 rfl rfl)
theorem dL_law_1523 : decode cL_law 1523 = .ok (.aload_n 2, 1) := dk_44 (dk_at dksL_law_54 22 rfl rfl)
theorem dL_law_1524 : decode cL_law 1524 = .ok (.invokevirtual 218, 3) := dk_182 0 218 (dk_at dksL_law_55 0 rfl rfl)
theorem dL_law_1527 : decode cL_law 1527 = .ok (.iload 6, 2) := dk_21 6 (dk_at dksL_law_55 3 rfl rfl)
theorem dL_law_1529 : decode cL_law 1529 = .ok (.if_icmp .eq 5, 3) := dk_159 0 5 (dk_at dksL_law_55 5 rfl rfl)
theorem dL_law_1532 : decode cL_law 1532 = .ok (.iconst 0, 1) := dk_3 (dk_at dksL_law_55 8 rfl rfl)
theorem dL_law_1533 : decode cL_law 1533 = .ok (.ireturn, 1) := dk_172 (dk_at dksL_law_55 9 rfl rfl)
theorem dL_law_1534 : decode cL_law 1534 = .ok (.iload 6, 2) := dk_21 6 (dk_at dksL_law_55 10 rfl rfl)
theorem dL_law_1536 : decode cL_law 1536 = .ok (.ifCond .ne 15, 3) := dk_154 0 15 (dk_at dksL_law_55 12 rfl rfl)
theorem dL_law_1539 : decode cL_law 1539 = .ok (.aload_n 3, 1) := dk_45 (dk_at dksL_law_55 15 rfl rfl)
theorem dL_law_1540 : decode cL_law 1540 = .ok (.iconst 0, 1) := dk_3 (dk_at dksL_law_55 16 rfl rfl)
theorem dL_law_1541 : decode cL_law 1541 = .ok (.laload, 1) := dk_47 (dk_at dksL_law_55 17 rfl rfl)
theorem dL_law_1542 : decode cL_law 1542 = .ok (.iload 7, 2) := dk_21 7 (dk_at dksL_law_55 18 rfl rfl)
theorem dL_law_1544 : decode cL_law 1544 = .ok (.i2l, 1) := dk_133 (dk_at dksL_law_55 20 rfl rfl)
theorem dL_law_1545 : decode cL_law 1545 = .ok (.lcmp, 1) := dk_148 (dk_at dksL_law_55 21 rfl rfl)
theorem dL_law_1546 : decode cL_law 1546 = .ok (.ifCond .eq 5, 3) := dk_153 0 5 (dk_at dksL_law_56 0 rfl rfl)
theorem dL_law_1549 : decode cL_law 1549 = .ok (.iconst 0, 1) := dk_3 (dk_at dksL_law_56 3 rfl rfl)
theorem dL_law_1550 : decode cL_law 1550 = .ok (.ireturn, 1) := dk_172 (dk_at dksL_law_56 4 rfl rfl)
theorem dL_law_1551 : decode cL_law 1551 = .ok (.goto 2708, 3) := dk_167 10 148 (dk_at dksL_law_56 5 rfl rfl)
theorem dL_law_1554 : decode cL_law 1554 = .ok (.aload_n 1, 1) := dk_43 (dk_at dksL_law_56 8 rfl rfl)
theorem dL_law_1555 : decode cL_law 1555 = .ok (.aload_n 0, 1) := dk_42 (dk_at dksL_law_56 9 rfl rfl)
theorem dL_law_1556 : decode cL_law 1556 = .ok (.iload 5, 2) := dk_21 5 (dk_at dksL_law_56 10 rfl rfl)
theorem dL_law_1558 : decode cL_law 1558 = .ok (.iconst 1, 1) := dk_4 (dk_at dksL_law_56 12 rfl rfl)
theorem dL_law_1559 : decode cL_law 1559 = .ok (.iadd, 1) := dk_96 (dk_at dksL_law_56 13 rfl rfl)
theorem dL_law_1560 : decode cL_law 1560 = .ok (.iaload, 1) := dk_46 (dk_at dksL_law_56 14 rfl rfl)
theorem dL_law_1561 : decode cL_law 1561 = .ok (.aload_n 0, 1) := dk_42 (dk_at dksL_law_56 15 rfl rfl)
theorem dL_law_1562 : decode cL_law 1562 = .ok (.iload 5, 2) := dk_21 5 (dk_at dksL_law_56 16 rfl rfl)
theorem dL_law_1564 : decode cL_law 1564 = .ok (.iconst 2, 1) := dk_5 (dk_at dksL_law_56 18 rfl rfl)
theorem dL_law_1565 : decode cL_law 1565 = .ok (.iadd, 1) := dk_96 (dk_at dksL_law_56 19 rfl rfl)
theorem dL_law_1566 : decode cL_law 1566 = .ok (.iaload, 1) := dk_46 (dk_at dksL_law_56 20 rfl rfl)
theorem dL_law_1567 : decode cL_law 1567 = .ok (.aload_n 0, 1) := dk_42 (dk_at dksL_law_56 21 rfl rfl)
theorem dL_law_1568 : decode cL_law 1568 = .ok (.iload 5, 2) := dk_21 5 (dk_at dksL_law_56 22 rfl rfl)
theorem dL_law_1570 : decode cL_law 1570 = .ok (.iconst 3, 1) := dk_6 (dk_at dksL_law_57 0 rfl rfl)
theorem dL_law_1571 : decode cL_law 1571 = .ok (.iadd, 1) := dk_96 (dk_at dksL_law_57 1 rfl rfl)
theorem dL_law_1572 : decode cL_law 1572 = .ok (.iaload, 1) := dk_46 (dk_at dksL_law_57 2 rfl rfl)
theorem dL_law_1573 : decode cL_law 1573 = .ok (.ifCond .eq 7, 3) := dk_153 0 7 (dk_at dksL_law_57 3 rfl rfl)
theorem dL_law_1576 : decode cL_law 1576 = .ok (.iconst 1, 1) := dk_4 (dk_at dksL_law_57 6 rfl rfl)
theorem dL_law_1577 : decode cL_law 1577 = .ok (.goto 4, 3) := dk_167 0 4 (dk_at dksL_law_57 7 rfl rfl)
theorem dL_law_1580 : decode cL_law 1580 = .ok (.iconst 0, 1) := dk_3 (dk_at dksL_law_57 10 rfl rfl)
theorem dL_law_1581 : decode cL_law 1581 = .ok (.aload_n 3, 1) := dk_45 (dk_at dksL_law_57 11 rfl rfl)
theorem dL_law_1582 : decode cL_law 1582 = .ok (.invokestatic 285, 3) := dk_184 1 29 (dk_at dksL_law_57 12 rfl rfl)
theorem dL_law_1585 : decode cL_law 1585 = .ok (.istore 6, 2) := dk_54 6 (dk_at dksL_law_57 15 rfl rfl)
theorem dL_law_1587 : decode cL_law 1587 = .ok (.aload_n 2, 1) := dk_44 (dk_at dksL_law_57 17 rfl rfl)
theorem dL_law_1588 : decode cL_law 1588 = .ok (.aload_n 0, 1) := dk_42 (dk_at dksL_law_57 18 rfl rfl)
theorem dL_law_1589 : decode cL_law 1589 = .ok (.iload 5, 2) := dk_21 5 (dk_at dksL_law_57 19 rfl rfl)
theorem dL_law_1591 : decode cL_law 1591 = .ok (.iconst 1, 1) := dk_4 (dk_at dksL_law_57 21 rfl rfl)
theorem dL_law_1592 : decode cL_law 1592 = .ok (.iadd, 1) := dk_96 (dk_at dksL_law_57 22 rfl rfl)
theorem dL_law_1593 : decode cL_law 1593 = .ok (.iaload, 1) := dk_46 (dk_at dksL_law_57 23 rfl rfl)
theorem dL_law_1594 : decode cL_law 1594 = .ok (.aload_n 0, 1) := dk_42 (dk_at dksL_law_58 0 rfl rfl)
theorem dL_law_1595 : decode cL_law 1595 = .ok (.iload 5, 2) := dk_21 5 (dk_at dksL_law_58 1 rfl rfl)
theorem dL_law_1597 : decode cL_law 1597 = .ok (.iconst 2, 1) := dk_5 (dk_at dksL_law_58 3 rfl rfl)
theorem dL_law_1598 : decode cL_law 1598 = .ok (.iadd, 1) := dk_96 (dk_at dksL_law_58 4 rfl rfl)
theorem dL_law_1599 : decode cL_law 1599 = .ok (.iaload, 1) := dk_46 (dk_at dksL_law_58 5 rfl rfl)
theorem dL_law_1600 : decode cL_law 1600 = .ok (.aload_n 0, 1) := dk_42 (dk_at dksL_law_58 6 rfl rfl)
theorem dL_law_1601 : decode cL_law 1601 = .ok (.iload 5, 2) := dk_21 5 (dk_at dksL_law_58 7 rfl rfl)
theorem dL_law_1603 : decode cL_law 1603 = .ok (.iconst 3, 1) := dk_6 (dk_at dksL_law_58 9 rfl rfl)
theorem dL_law_1604 : decode cL_law 1604 = .ok (.iadd, 1) := dk_96 (dk_at dksL_law_58 10 rfl rfl)
theorem dL_law_1605 : decode cL_law 1605 = .ok (.iaload, 1) := dk_46 (dk_at dksL_law_58 11 rfl rfl)
theorem dL_law_1606 : decode cL_law 1606 = .ok (.ifCond .eq 7, 3) := dk_153 0 7 (dk_at dksL_law_58 12 rfl rfl)
theorem dL_law_1609 : decode cL_law 1609 = .ok (.iconst 1, 1) := dk_4 (dk_at dksL_law_58 15 rfl rfl)
theorem dL_law_1610 : decode cL_law 1610 = .ok (.goto 4, 3) := dk_167 0 4 (dk_at dksL_law_58 16 rfl rfl)
theorem dL_law_1613 : decode cL_law 1613 = .ok (.iconst 0, 1) := dk_3 (dk_at dksL_law_58 19 rfl rfl)
theorem dL_law_1614 : decode cL_law 1614 = .ok (.invokevirtual 288, 3) := dk_182 1 32 (dk_at dksL_law_58 20 rfl rfl)
theorem dL_law_1617 : decode cL_law 1617 = .ok (.istore 7, 2) := dk_54 7 (dk_at dksL_law_59 0 rfl rfl)
theorem dL_law_1619 : decode cL_law 1619 = .ok (.aload_n 2, 1) := dk_44 (dk_at dksL_law_59 2 rfl rfl)
theorem dL_law_1620 : decode cL_law 1620 = .ok (.invokevirtual 218, 3) := dk_182 0 218 (dk_at dksL_law_59 3 rfl rfl)
theorem dL_law_1623 : decode cL_law 1623 = .ok (.iload 6, 2) := dk_21 6 (dk_at dksL_law_59 6 rfl rfl)
theorem dL_law_1625 : decode cL_law 1625 = .ok (.if_icmp .eq 5, 3) := dk_159 0 5 (dk_at dksL_law_59 8 rfl rfl)
theorem dL_law_1628 : decode cL_law 1628 = .ok (.iconst 0, 1) := dk_3 (dk_at dksL_law_59 11 rfl rfl)
theorem dL_law_1629 : decode cL_law 1629 = .ok (.ireturn, 1) := dk_172 (dk_at dksL_law_59 12 rfl rfl)
theorem dL_law_1630 : decode cL_law 1630 = .ok (.iload 6, 2) := dk_21 6 (dk_at dksL_law_59 13 rfl rfl)
theorem dL_law_1632 : decode cL_law 1632 = .ok (.ifCond .ne 15, 3) := dk_154 0 15 (dk_at dksL_law_59 15 rfl rfl)
theorem dL_law_1635 : decode cL_law 1635 = .ok (.aload_n 3, 1) := dk_45 (dk_at dksL_law_59 18 rfl rfl)
theorem dL_law_1636 : decode cL_law 1636 = .ok (.iconst 0, 1) := dk_3 (dk_at dksL_law_59 19 rfl rfl)
theorem dL_law_1637 : decode cL_law 1637 = .ok (.laload, 1) := dk_47 (dk_at dksL_law_59 20 rfl rfl)
theorem dL_law_1638 : decode cL_law 1638 = .ok (.iload 7, 2) := dk_21 7 (dk_at dksL_law_59 21 rfl rfl)
theorem dL_law_1640 : decode cL_law 1640 = .ok (.i2l, 1) := dk_133 (dk_at dksL_law_59 23 rfl rfl)
theorem dL_law_1641 : decode cL_law 1641 = .ok (.lcmp, 1) := dk_148 (dk_at dksL_law_60 0 rfl rfl)
theorem dL_law_1642 : decode cL_law 1642 = .ok (.ifCond .eq 5, 3) := dk_153 0 5 (dk_at dksL_law_60 1 rfl rfl)
theorem dL_law_1645 : decode cL_law 1645 = .ok (.iconst 0, 1) := dk_3 (dk_at dksL_law_60 4 rfl rfl)
theorem dL_law_1646 : decode cL_law 1646 = .ok (.ireturn, 1) := dk_172 (dk_at dksL_law_60 5 rfl rfl)
theorem dL_law_1647 : decode cL_law 1647 = .ok (.goto 2612, 3) := dk_167 10 52 (dk_at dksL_law_60 6 rfl rfl)
theorem dL_law_1650 : decode cL_law 1650 = .ok (.aload_n 1, 1) := dk_43 (dk_at dksL_law_60 9 rfl rfl)
theorem dL_law_1651 : decode cL_law 1651 = .ok (.aload_n 0, 1) := dk_42 (dk_at dksL_law_60 10 rfl rfl)
theorem dL_law_1652 : decode cL_law 1652 = .ok (.iload 5, 2) := dk_21 5 (dk_at dksL_law_60 11 rfl rfl)
theorem dL_law_1654 : decode cL_law 1654 = .ok (.iconst 1, 1) := dk_4 (dk_at dksL_law_60 13 rfl rfl)
theorem dL_law_1655 : decode cL_law 1655 = .ok (.iadd, 1) := dk_96 (dk_at dksL_law_60 14 rfl rfl)
theorem dL_law_1656 : decode cL_law 1656 = .ok (.iaload, 1) := dk_46 (dk_at dksL_law_60 15 rfl rfl)
theorem dL_law_1657 : decode cL_law 1657 = .ok (.aload_n 0, 1) := dk_42 (dk_at dksL_law_60 16 rfl rfl)
theorem dL_law_1658 : decode cL_law 1658 = .ok (.iload 5, 2) := dk_21 5 (dk_at dksL_law_60 17 rfl rfl)
theorem dL_law_1660 : decode cL_law 1660 = .ok (.iconst 2, 1) := dk_5 (dk_at dksL_law_60 19 rfl rfl)
theorem dL_law_1661 : decode cL_law 1661 = .ok (.iadd, 1) := dk_96 (dk_at dksL_law_60 20 rfl rfl)
theorem dL_law_1662 : decode cL_law 1662 = .ok (.iaload, 1) := dk_46 (dk_at dksL_law_60 21 rfl rfl)
theorem dL_law_1663 : decode cL_law 1663 = .ok (.aload_n 3, 1) := dk_45 (dk_at dksL_law_60 22 rfl rfl)
theorem dL_law_1664 : decode cL_law 1664 = .ok (.invokestatic 289, 3) := dk_184 1 33 (dk_at dksL_law_61 0 rfl rfl)
theorem dL_law_1667 : decode cL_law 1667 = .ok (.istore 6, 2) := dk_54 6 (dk_at dksL_law_61 3 rfl rfl)
theorem dL_law_1669 : decode cL_law 1669 = .ok (.aload_n 2, 1) := dk_44 (dk_at dksL_law_61 5 rfl rfl)
theorem dL_law_1670 : decode cL_law 1670 = .ok (.aload_n 0, 1) := dk_42 (dk_at dksL_law_61 6 rfl rfl)
theorem dL_law_1671 : decode cL_law 1671 = .ok (.iload 5, 2) := dk_21 5 (dk_at dksL_law_61 7 rfl rfl)
theorem dL_law_1673 : decode cL_law 1673 = .ok (.iconst 1, 1) := dk_4 (dk_at dksL_law_61 9 rfl rfl)
theorem dL_law_1674 : decode cL_law 1674 = .ok (.iadd, 1) := dk_96 (dk_at dksL_law_61 10 rfl rfl)
theorem dL_law_1675 : decode cL_law 1675 = .ok (.iaload, 1) := dk_46 (dk_at dksL_law_61 11 rfl rfl)
theorem dL_law_1676 : decode cL_law 1676 = .ok (.aload_n 0, 1) := dk_42 (dk_at dksL_law_61 12 rfl rfl)
theorem dL_law_1677 : decode cL_law 1677 = .ok (.iload 5, 2) := dk_21 5 (dk_at dksL_law_61 13 rfl rfl)
theorem dL_law_1679 : decode cL_law 1679 = .ok (.iconst 2, 1) := dk_5 (dk_at dksL_law_61 15 rfl rfl)
theorem dL_law_1680 : decode cL_law 1680 = .ok (.iadd, 1) := dk_96 (dk_at dksL_law_61 16 rfl rfl)
theorem dL_law_1681 : decode cL_law 1681 = .ok (.iaload, 1) := dk_46 (dk_at dksL_law_61 17 rfl rfl)
theorem dL_law_1682 : decode cL_law 1682 = .ok (.invokevirtual 291, 3) := dk_182 1 35 (dk_at dksL_law_61 18 rfl rfl)
theorem dL_law_1685 : decode cL_law 1685 = .ok (.istore 7, 2) := dk_54 7 (dk_at dksL_law_61 21 rfl rfl)
theorem dL_law_1687 : decode cL_law 1687 = .ok (.aload_n 2, 1) := dk_44 (dk_at dksL_law_61 23 rfl rfl)
theorem dL_law_1688 : decode cL_law 1688 = .ok (.invokevirtual 218, 3) := dk_182 0 218 (dk_at dksL_law_62 0 rfl rfl)
theorem dL_law_1691 : decode cL_law 1691 = .ok (.iload 6, 2) := dk_21 6 (dk_at dksL_law_62 3 rfl rfl)
theorem dL_law_1693 : decode cL_law 1693 = .ok (.if_icmp .eq 5, 3) := dk_159 0 5 (dk_at dksL_law_62 5 rfl rfl)
theorem dL_law_1696 : decode cL_law 1696 = .ok (.iconst 0, 1) := dk_3 (dk_at dksL_law_62 8 rfl rfl)
theorem dL_law_1697 : decode cL_law 1697 = .ok (.ireturn, 1) := dk_172 (dk_at dksL_law_62 9 rfl rfl)
theorem dL_law_1698 : decode cL_law 1698 = .ok (.iload 6, 2) := dk_21 6 (dk_at dksL_law_62 10 rfl rfl)
theorem dL_law_1700 : decode cL_law 1700 = .ok (.ifCond .ne 15, 3) := dk_154 0 15 (dk_at dksL_law_62 12 rfl rfl)
theorem dL_law_1703 : decode cL_law 1703 = .ok (.aload_n 3, 1) := dk_45 (dk_at dksL_law_62 15 rfl rfl)
theorem dL_law_1704 : decode cL_law 1704 = .ok (.iconst 0, 1) := dk_3 (dk_at dksL_law_62 16 rfl rfl)
theorem dL_law_1705 : decode cL_law 1705 = .ok (.laload, 1) := dk_47 (dk_at dksL_law_62 17 rfl rfl)
theorem dL_law_1706 : decode cL_law 1706 = .ok (.iload 7, 2) := dk_21 7 (dk_at dksL_law_62 18 rfl rfl)
theorem dL_law_1708 : decode cL_law 1708 = .ok (.i2l, 1) := dk_133 (dk_at dksL_law_62 20 rfl rfl)
theorem dL_law_1709 : decode cL_law 1709 = .ok (.lcmp, 1) := dk_148 (dk_at dksL_law_62 21 rfl rfl)
theorem dL_law_1710 : decode cL_law 1710 = .ok (.ifCond .eq 5, 3) := dk_153 0 5 (dk_at dksL_law_63 0 rfl rfl)
theorem dL_law_1713 : decode cL_law 1713 = .ok (.iconst 0, 1) := dk_3 (dk_at dksL_law_63 3 rfl rfl)
theorem dL_law_1714 : decode cL_law 1714 = .ok (.ireturn, 1) := dk_172 (dk_at dksL_law_63 4 rfl rfl)
theorem dL_law_1715 : decode cL_law 1715 = .ok (.goto 2544, 3) := dk_167 9 240 (dk_at dksL_law_63 5 rfl rfl)
theorem dL_law_1718 : decode cL_law 1718 = .ok (.aload_n 1, 1) := dk_43 (dk_at dksL_law_63 8 rfl rfl)
theorem dL_law_1719 : decode cL_law 1719 = .ok (.aload_n 0, 1) := dk_42 (dk_at dksL_law_63 9 rfl rfl)
theorem dL_law_1720 : decode cL_law 1720 = .ok (.iload 5, 2) := dk_21 5 (dk_at dksL_law_63 10 rfl rfl)
theorem dL_law_1722 : decode cL_law 1722 = .ok (.iconst 1, 1) := dk_4 (dk_at dksL_law_63 12 rfl rfl)
theorem dL_law_1723 : decode cL_law 1723 = .ok (.iadd, 1) := dk_96 (dk_at dksL_law_63 13 rfl rfl)
theorem dL_law_1724 : decode cL_law 1724 = .ok (.iaload, 1) := dk_46 (dk_at dksL_law_63 14 rfl rfl)
theorem dL_law_1725 : decode cL_law 1725 = .ok (.aload_n 0, 1) := dk_42 (dk_at dksL_law_63 15 rfl rfl)
theorem dL_law_1726 : decode cL_law 1726 = .ok (.iload 5, 2) := dk_21 5 (dk_at dksL_law_63 16 rfl rfl)
theorem dL_law_1728 : decode cL_law 1728 = .ok (.iconst 2, 1) := dk_5 (dk_at dksL_law_63 18 rfl rfl)
theorem dL_law_1729 : decode cL_law 1729 = .ok (.iadd, 1) := dk_96 (dk_at dksL_law_63 19 rfl rfl)
theorem dL_law_1730 : decode cL_law 1730 = .ok (.iaload, 1) := dk_46 (dk_at dksL_law_63 20 rfl rfl)
theorem dL_law_1731 : decode cL_law 1731 = .ok (.aload_n 3, 1) := dk_45 (dk_at dksL_law_63 21 rfl rfl)
theorem dL_law_1732 : decode cL_law 1732 = .ok (.invokestatic 292, 3) := dk_184 1 36 (dk_at dksL_law_64 0 rfl rfl)
theorem dL_law_1735 : decode cL_law 1735 = .ok (.istore 6, 2) := dk_54 6 (dk_at dksL_law_64 3 rfl rfl)
theorem dL_law_1737 : decode cL_law 1737 = .ok (.aload_n 2, 1) := dk_44 (dk_at dksL_law_64 5 rfl rfl)
theorem dL_law_1738 : decode cL_law 1738 = .ok (.aload_n 0, 1) := dk_42 (dk_at dksL_law_64 6 rfl rfl)
theorem dL_law_1739 : decode cL_law 1739 = .ok (.iload 5, 2) := dk_21 5 (dk_at dksL_law_64 7 rfl rfl)
theorem dL_law_1741 : decode cL_law 1741 = .ok (.iconst 1, 1) := dk_4 (dk_at dksL_law_64 9 rfl rfl)
theorem dL_law_1742 : decode cL_law 1742 = .ok (.iadd, 1) := dk_96 (dk_at dksL_law_64 10 rfl rfl)
theorem dL_law_1743 : decode cL_law 1743 = .ok (.iaload, 1) := dk_46 (dk_at dksL_law_64 11 rfl rfl)
theorem dL_law_1744 : decode cL_law 1744 = .ok (.aload_n 0, 1) := dk_42 (dk_at dksL_law_64 12 rfl rfl)
theorem dL_law_1745 : decode cL_law 1745 = .ok (.iload 5, 2) := dk_21 5 (dk_at dksL_law_64 13 rfl rfl)
theorem dL_law_1747 : decode cL_law 1747 = .ok (.iconst 2, 1) := dk_5 (dk_at dksL_law_64 15 rfl rfl)
theorem dL_law_1748 : decode cL_law 1748 = .ok (.iadd, 1) := dk_96 (dk_at dksL_law_64 16 rfl rfl)
theorem dL_law_1749 : decode cL_law 1749 = .ok (.iaload, 1) := dk_46 (dk_at dksL_law_64 17 rfl rfl)
theorem dL_law_1750 : decode cL_law 1750 = .ok (.invokevirtual 294, 3) := dk_182 1 38 (dk_at dksL_law_64 18 rfl rfl)
theorem dL_law_1753 : decode cL_law 1753 = .ok (.istore 7, 2) := dk_54 7 (dk_at dksL_law_64 21 rfl rfl)
theorem dL_law_1755 : decode cL_law 1755 = .ok (.aload_n 2, 1) := dk_44 (dk_at dksL_law_64 23 rfl rfl)
theorem dL_law_1756 : decode cL_law 1756 = .ok (.invokevirtual 218, 3) := dk_182 0 218 (dk_at dksL_law_65 0 rfl rfl)
theorem dL_law_1759 : decode cL_law 1759 = .ok (.iload 6, 2) := dk_21 6 (dk_at dksL_law_65 3 rfl rfl)
theorem dL_law_1761 : decode cL_law 1761 = .ok (.if_icmp .eq 5, 3) := dk_159 0 5 (dk_at dksL_law_65 5 rfl rfl)
theorem dL_law_1764 : decode cL_law 1764 = .ok (.iconst 0, 1) := dk_3 (dk_at dksL_law_65 8 rfl rfl)
theorem dL_law_1765 : decode cL_law 1765 = .ok (.ireturn, 1) := dk_172 (dk_at dksL_law_65 9 rfl rfl)
theorem dL_law_1766 : decode cL_law 1766 = .ok (.iload 6, 2) := dk_21 6 (dk_at dksL_law_65 10 rfl rfl)
theorem dL_law_1768 : decode cL_law 1768 = .ok (.ifCond .ne 15, 3) := dk_154 0 15 (dk_at dksL_law_65 12 rfl rfl)
theorem dL_law_1771 : decode cL_law 1771 = .ok (.aload_n 3, 1) := dk_45 (dk_at dksL_law_65 15 rfl rfl)
theorem dL_law_1772 : decode cL_law 1772 = .ok (.iconst 0, 1) := dk_3 (dk_at dksL_law_65 16 rfl rfl)
theorem dL_law_1773 : decode cL_law 1773 = .ok (.laload, 1) := dk_47 (dk_at dksL_law_65 17 rfl rfl)
theorem dL_law_1774 : decode cL_law 1774 = .ok (.iload 7, 2) := dk_21 7 (dk_at dksL_law_65 18 rfl rfl)
theorem dL_law_1776 : decode cL_law 1776 = .ok (.i2l, 1) := dk_133 (dk_at dksL_law_65 20 rfl rfl)
theorem dL_law_1777 : decode cL_law 1777 = .ok (.lcmp, 1) := dk_148 (dk_at dksL_law_65 21 rfl rfl)
theorem dL_law_1778 : decode cL_law 1778 = .ok (.ifCond .eq 5, 3) := dk_153 0 5 (dk_at dksL_law_66 0 rfl rfl)
theorem dL_law_1781 : decode cL_law 1781 = .ok (.iconst 0, 1) := dk_3 (dk_at dksL_law_66 3 rfl rfl)
theorem dL_law_1782 : decode cL_law 1782 = .ok (.ireturn, 1) := dk_172 (dk_at dksL_law_66 4 rfl rfl)
theorem dL_law_1783 : decode cL_law 1783 = .ok (.goto 2476, 3) := dk_167 9 172 (dk_at dksL_law_66 5 rfl rfl)
theorem dL_law_1786 : decode cL_law 1786 = .ok (.aload_n 1, 1) := dk_43 (dk_at dksL_law_66 8 rfl rfl)
theorem dL_law_1787 : decode cL_law 1787 = .ok (.aload_n 0, 1) := dk_42 (dk_at dksL_law_66 9 rfl rfl)
theorem dL_law_1788 : decode cL_law 1788 = .ok (.iload 5, 2) := dk_21 5 (dk_at dksL_law_66 10 rfl rfl)
theorem dL_law_1790 : decode cL_law 1790 = .ok (.iconst 1, 1) := dk_4 (dk_at dksL_law_66 12 rfl rfl)
theorem dL_law_1791 : decode cL_law 1791 = .ok (.iadd, 1) := dk_96 (dk_at dksL_law_66 13 rfl rfl)
theorem dL_law_1792 : decode cL_law 1792 = .ok (.iaload, 1) := dk_46 (dk_at dksL_law_66 14 rfl rfl)
theorem dL_law_1793 : decode cL_law 1793 = .ok (.aload_n 0, 1) := dk_42 (dk_at dksL_law_66 15 rfl rfl)
theorem dL_law_1794 : decode cL_law 1794 = .ok (.iload 5, 2) := dk_21 5 (dk_at dksL_law_66 16 rfl rfl)
theorem dL_law_1796 : decode cL_law 1796 = .ok (.iconst 2, 1) := dk_5 (dk_at dksL_law_66 18 rfl rfl)
theorem dL_law_1797 : decode cL_law 1797 = .ok (.iadd, 1) := dk_96 (dk_at dksL_law_66 19 rfl rfl)
theorem dL_law_1798 : decode cL_law 1798 = .ok (.iaload, 1) := dk_46 (dk_at dksL_law_66 20 rfl rfl)
theorem dL_law_1799 : decode cL_law 1799 = .ok (.aload_n 3, 1) := dk_45 (dk_at dksL_law_66 21 rfl rfl)
theorem dL_law_1800 : decode cL_law 1800 = .ok (.invokestatic 295, 3) := dk_184 1 39 (dk_at dksL_law_67 0 rfl rfl)
theorem dL_law_1803 : decode cL_law 1803 = .ok (.istore 6, 2) := dk_54 6 (dk_at dksL_law_67 3 rfl rfl)
theorem dL_law_1805 : decode cL_law 1805 = .ok (.aload_n 2, 1) := dk_44 (dk_at dksL_law_67 5 rfl rfl)
theorem dL_law_1806 : decode cL_law 1806 = .ok (.aload_n 0, 1) := dk_42 (dk_at dksL_law_67 6 rfl rfl)
theorem dL_law_1807 : decode cL_law 1807 = .ok (.iload 5, 2) := dk_21 5 (dk_at dksL_law_67 7 rfl rfl)
theorem dL_law_1809 : decode cL_law 1809 = .ok (.iconst 1, 1) := dk_4 (dk_at dksL_law_67 9 rfl rfl)
theorem dL_law_1810 : decode cL_law 1810 = .ok (.iadd, 1) := dk_96 (dk_at dksL_law_67 10 rfl rfl)
theorem dL_law_1811 : decode cL_law 1811 = .ok (.iaload, 1) := dk_46 (dk_at dksL_law_67 11 rfl rfl)
theorem dL_law_1812 : decode cL_law 1812 = .ok (.aload_n 0, 1) := dk_42 (dk_at dksL_law_67 12 rfl rfl)
theorem dL_law_1813 : decode cL_law 1813 = .ok (.iload 5, 2) := dk_21 5 (dk_at dksL_law_67 13 rfl rfl)
theorem dL_law_1815 : decode cL_law 1815 = .ok (.iconst 2, 1) := dk_5 (dk_at dksL_law_67 15 rfl rfl)
theorem dL_law_1816 : decode cL_law 1816 = .ok (.iadd, 1) := dk_96 (dk_at dksL_law_67 16 rfl rfl)
theorem dL_law_1817 : decode cL_law 1817 = .ok (.iaload, 1) := dk_46 (dk_at dksL_law_67 17 rfl rfl)
theorem dL_law_1818 : decode cL_law 1818 = .ok (.invokevirtual 297, 3) := dk_182 1 41 (dk_at dksL_law_67 18 rfl rfl)
theorem dL_law_1821 : decode cL_law 1821 = .ok (.istore 7, 2) := dk_54 7 (dk_at dksL_law_67 21 rfl rfl)
theorem dL_law_1823 : decode cL_law 1823 = .ok (.aload_n 2, 1) := dk_44 (dk_at dksL_law_67 23 rfl rfl)
theorem dL_law_1824 : decode cL_law 1824 = .ok (.invokevirtual 218, 3) := dk_182 0 218 (dk_at dksL_law_68 0 rfl rfl)
theorem dL_law_1827 : decode cL_law 1827 = .ok (.iload 6, 2) := dk_21 6 (dk_at dksL_law_68 3 rfl rfl)
theorem dL_law_1829 : decode cL_law 1829 = .ok (.if_icmp .eq 5, 3) := dk_159 0 5 (dk_at dksL_law_68 5 rfl rfl)
theorem dL_law_1832 : decode cL_law 1832 = .ok (.iconst 0, 1) := dk_3 (dk_at dksL_law_68 8 rfl rfl)
theorem dL_law_1833 : decode cL_law 1833 = .ok (.ireturn, 1) := dk_172 (dk_at dksL_law_68 9 rfl rfl)
theorem dL_law_1834 : decode cL_law 1834 = .ok (.iload 6, 2) := dk_21 6 (dk_at dksL_law_68 10 rfl rfl)
theorem dL_law_1836 : decode cL_law 1836 = .ok (.ifCond .ne 22, 3) := dk_154 0 22 (dk_at dksL_law_68 12 rfl rfl)
theorem dL_law_1839 : decode cL_law 1839 = .ok (.aload_n 3, 1) := dk_45 (dk_at dksL_law_68 15 rfl rfl)
theorem dL_law_1840 : decode cL_law 1840 = .ok (.iconst 0, 1) := dk_3 (dk_at dksL_law_68 16 rfl rfl)
theorem dL_law_1841 : decode cL_law 1841 = .ok (.laload, 1) := dk_47 (dk_at dksL_law_68 17 rfl rfl)
theorem dL_law_1842 : decode cL_law 1842 = .ok (.iload 7, 2) := dk_21 7 (dk_at dksL_law_68 18 rfl rfl)
theorem dL_law_1844 : decode cL_law 1844 = .ok (.ifCond .eq 7, 3) := dk_153 0 7 (dk_at dksL_law_68 20 rfl rfl)
theorem dL_law_1847 : decode cL_law 1847 = .ok (.lconst 1, 1) := dk_10 (dk_at dksL_law_68 23 rfl rfl)
theorem dL_law_1848 : decode cL_law 1848 = .ok (.goto 4, 3) := dk_167 0 4 (dk_at dksL_law_69 0 rfl rfl)
theorem dL_law_1851 : decode cL_law 1851 = .ok (.lconst 0, 1) := dk_9 (dk_at dksL_law_69 3 rfl rfl)
theorem dL_law_1852 : decode cL_law 1852 = .ok (.lcmp, 1) := dk_148 (dk_at dksL_law_69 4 rfl rfl)
theorem dL_law_1853 : decode cL_law 1853 = .ok (.ifCond .eq 5, 3) := dk_153 0 5 (dk_at dksL_law_69 5 rfl rfl)
theorem dL_law_1856 : decode cL_law 1856 = .ok (.iconst 0, 1) := dk_3 (dk_at dksL_law_69 8 rfl rfl)
theorem dL_law_1857 : decode cL_law 1857 = .ok (.ireturn, 1) := dk_172 (dk_at dksL_law_69 9 rfl rfl)
theorem dL_law_1858 : decode cL_law 1858 = .ok (.goto 2401, 3) := dk_167 9 97 (dk_at dksL_law_69 10 rfl rfl)
theorem dL_law_1861 : decode cL_law 1861 = .ok (.aload_n 1, 1) := dk_43 (dk_at dksL_law_69 13 rfl rfl)
theorem dL_law_1862 : decode cL_law 1862 = .ok (.aload_n 0, 1) := dk_42 (dk_at dksL_law_69 14 rfl rfl)
theorem dL_law_1863 : decode cL_law 1863 = .ok (.iload 5, 2) := dk_21 5 (dk_at dksL_law_69 15 rfl rfl)
theorem dL_law_1865 : decode cL_law 1865 = .ok (.iconst 1, 1) := dk_4 (dk_at dksL_law_69 17 rfl rfl)
theorem dL_law_1866 : decode cL_law 1866 = .ok (.iadd, 1) := dk_96 (dk_at dksL_law_69 18 rfl rfl)
theorem dL_law_1867 : decode cL_law 1867 = .ok (.iaload, 1) := dk_46 (dk_at dksL_law_69 19 rfl rfl)
theorem dL_law_1868 : decode cL_law 1868 = .ok (.aload_n 0, 1) := dk_42 (dk_at dksL_law_69 20 rfl rfl)
theorem dL_law_1869 : decode cL_law 1869 = .ok (.iload 5, 2) := dk_21 5 (dk_at dksL_law_69 21 rfl rfl)
theorem dL_law_1871 : decode cL_law 1871 = .ok (.iconst 2, 1) := dk_5 (dk_at dksL_law_69 23 rfl rfl)
theorem dL_law_1872 : decode cL_law 1872 = .ok (.iadd, 1) := dk_96 (dk_at dksL_law_70 0 rfl rfl)
theorem dL_law_1873 : decode cL_law 1873 = .ok (.iaload, 1) := dk_46 (dk_at dksL_law_70 1 rfl rfl)
theorem dL_law_1874 : decode cL_law 1874 = .ok (.aload_n 3, 1) := dk_45 (dk_at dksL_law_70 2 rfl rfl)
theorem dL_law_1875 : decode cL_law 1875 = .ok (.invokestatic 298, 3) := dk_184 1 42 (dk_at dksL_law_70 3 rfl rfl)
theorem dL_law_1878 : decode cL_law 1878 = .ok (.istore 6, 2) := dk_54 6 (dk_at dksL_law_70 6 rfl rfl)
theorem dL_law_1880 : decode cL_law 1880 = .ok (.aload_n 2, 1) := dk_44 (dk_at dksL_law_70 8 rfl rfl)
theorem dL_law_1881 : decode cL_law 1881 = .ok (.aload_n 0, 1) := dk_42 (dk_at dksL_law_70 9 rfl rfl)
theorem dL_law_1882 : decode cL_law 1882 = .ok (.iload 5, 2) := dk_21 5 (dk_at dksL_law_70 10 rfl rfl)
theorem dL_law_1884 : decode cL_law 1884 = .ok (.iconst 1, 1) := dk_4 (dk_at dksL_law_70 12 rfl rfl)
theorem dL_law_1885 : decode cL_law 1885 = .ok (.iadd, 1) := dk_96 (dk_at dksL_law_70 13 rfl rfl)
theorem dL_law_1886 : decode cL_law 1886 = .ok (.iaload, 1) := dk_46 (dk_at dksL_law_70 14 rfl rfl)
theorem dL_law_1887 : decode cL_law 1887 = .ok (.aload_n 0, 1) := dk_42 (dk_at dksL_law_70 15 rfl rfl)
theorem dL_law_1888 : decode cL_law 1888 = .ok (.iload 5, 2) := dk_21 5 (dk_at dksL_law_70 16 rfl rfl)
theorem dL_law_1890 : decode cL_law 1890 = .ok (.iconst 2, 1) := dk_5 (dk_at dksL_law_70 18 rfl rfl)
theorem dL_law_1891 : decode cL_law 1891 = .ok (.iadd, 1) := dk_96 (dk_at dksL_law_70 19 rfl rfl)
theorem dL_law_1892 : decode cL_law 1892 = .ok (.iaload, 1) := dk_46 (dk_at dksL_law_70 20 rfl rfl)
theorem dL_law_1893 : decode cL_law 1893 = .ok (.invokevirtual 300, 3) := dk_182 1 44 (dk_at dksL_law_70 21 rfl rfl)
theorem dL_law_1896 : decode cL_law 1896 = .ok (.istore 7, 2) := dk_54 7 (dk_at dksL_law_71 0 rfl rfl)
theorem dL_law_1898 : decode cL_law 1898 = .ok (.aload_n 2, 1) := dk_44 (dk_at dksL_law_71 2 rfl rfl)
theorem dL_law_1899 : decode cL_law 1899 = .ok (.invokevirtual 218, 3) := dk_182 0 218 (dk_at dksL_law_71 3 rfl rfl)
theorem dL_law_1902 : decode cL_law 1902 = .ok (.iload 6, 2) := dk_21 6 (dk_at dksL_law_71 6 rfl rfl)
theorem dL_law_1904 : decode cL_law 1904 = .ok (.if_icmp .eq 5, 3) := dk_159 0 5 (dk_at dksL_law_71 8 rfl rfl)
theorem dL_law_1907 : decode cL_law 1907 = .ok (.iconst 0, 1) := dk_3 (dk_at dksL_law_71 11 rfl rfl)
theorem dL_law_1908 : decode cL_law 1908 = .ok (.ireturn, 1) := dk_172 (dk_at dksL_law_71 12 rfl rfl)
theorem dL_law_1909 : decode cL_law 1909 = .ok (.iload 6, 2) := dk_21 6 (dk_at dksL_law_71 13 rfl rfl)
theorem dL_law_1911 : decode cL_law 1911 = .ok (.ifCond .ne 22, 3) := dk_154 0 22 (dk_at dksL_law_71 15 rfl rfl)
theorem dL_law_1914 : decode cL_law 1914 = .ok (.aload_n 3, 1) := dk_45 (dk_at dksL_law_71 18 rfl rfl)
theorem dL_law_1915 : decode cL_law 1915 = .ok (.iconst 0, 1) := dk_3 (dk_at dksL_law_71 19 rfl rfl)
theorem dL_law_1916 : decode cL_law 1916 = .ok (.laload, 1) := dk_47 (dk_at dksL_law_71 20 rfl rfl)
theorem dL_law_1917 : decode cL_law 1917 = .ok (.iload 7, 2) := dk_21 7 (dk_at dksL_law_71 21 rfl rfl)
theorem dL_law_1919 : decode cL_law 1919 = .ok (.ifCond .eq 7, 3) := dk_153 0 7 (dk_at dksL_law_72 0 rfl rfl)
theorem dL_law_1922 : decode cL_law 1922 = .ok (.lconst 1, 1) := dk_10 (dk_at dksL_law_72 3 rfl rfl)
theorem dL_law_1923 : decode cL_law 1923 = .ok (.goto 4, 3) := dk_167 0 4 (dk_at dksL_law_72 4 rfl rfl)
theorem dL_law_1926 : decode cL_law 1926 = .ok (.lconst 0, 1) := dk_9 (dk_at dksL_law_72 7 rfl rfl)
theorem dL_law_1927 : decode cL_law 1927 = .ok (.lcmp, 1) := dk_148 (dk_at dksL_law_72 8 rfl rfl)
theorem dL_law_1928 : decode cL_law 1928 = .ok (.ifCond .eq 5, 3) := dk_153 0 5 (dk_at dksL_law_72 9 rfl rfl)
theorem dL_law_1931 : decode cL_law 1931 = .ok (.iconst 0, 1) := dk_3 (dk_at dksL_law_72 12 rfl rfl)
theorem dL_law_1932 : decode cL_law 1932 = .ok (.ireturn, 1) := dk_172 (dk_at dksL_law_72 13 rfl rfl)
theorem dL_law_1933 : decode cL_law 1933 = .ok (.goto 2326, 3) := dk_167 9 22 (dk_at dksL_law_72 14 rfl rfl)
theorem dL_law_1936 : decode cL_law 1936 = .ok (.aload_n 1, 1) := dk_43 (dk_at dksL_law_72 17 rfl rfl)
theorem dL_law_1937 : decode cL_law 1937 = .ok (.aload_n 0, 1) := dk_42 (dk_at dksL_law_72 18 rfl rfl)
theorem dL_law_1938 : decode cL_law 1938 = .ok (.iload 5, 2) := dk_21 5 (dk_at dksL_law_72 19 rfl rfl)
theorem dL_law_1940 : decode cL_law 1940 = .ok (.iconst 1, 1) := dk_4 (dk_at dksL_law_72 21 rfl rfl)
theorem dL_law_1941 : decode cL_law 1941 = .ok (.iadd, 1) := dk_96 (dk_at dksL_law_72 22 rfl rfl)
theorem dL_law_1942 : decode cL_law 1942 = .ok (.iaload, 1) := dk_46 (dk_at dksL_law_72 23 rfl rfl)
theorem dL_law_1943 : decode cL_law 1943 = .ok (.aload_n 3, 1) := dk_45 (dk_at dksL_law_73 0 rfl rfl)
theorem dL_law_1944 : decode cL_law 1944 = .ok (.invokestatic 301, 3) := dk_184 1 45 (dk_at dksL_law_73 1 rfl rfl)
theorem dL_law_1947 : decode cL_law 1947 = .ok (.istore 6, 2) := dk_54 6 (dk_at dksL_law_73 4 rfl rfl)
theorem dL_law_1949 : decode cL_law 1949 = .ok (.aload_n 2, 1) := dk_44 (dk_at dksL_law_73 6 rfl rfl)
theorem dL_law_1950 : decode cL_law 1950 = .ok (.aload_n 0, 1) := dk_42 (dk_at dksL_law_73 7 rfl rfl)
theorem dL_law_1951 : decode cL_law 1951 = .ok (.iload 5, 2) := dk_21 5 (dk_at dksL_law_73 8 rfl rfl)
theorem dL_law_1953 : decode cL_law 1953 = .ok (.iconst 1, 1) := dk_4 (dk_at dksL_law_73 10 rfl rfl)
theorem dL_law_1954 : decode cL_law 1954 = .ok (.iadd, 1) := dk_96 (dk_at dksL_law_73 11 rfl rfl)
theorem dL_law_1955 : decode cL_law 1955 = .ok (.iaload, 1) := dk_46 (dk_at dksL_law_73 12 rfl rfl)
theorem dL_law_1956 : decode cL_law 1956 = .ok (.invokevirtual 303, 3) := dk_182 1 47 (dk_at dksL_law_73 13 rfl rfl)
theorem dL_law_1959 : decode cL_law 1959 = .ok (.istore 7, 2) := dk_54 7 (dk_at dksL_law_73 16 rfl rfl)
theorem dL_law_1961 : decode cL_law 1961 = .ok (.aload_n 2, 1) := dk_44 (dk_at dksL_law_73 18 rfl rfl)
theorem dL_law_1962 : decode cL_law 1962 = .ok (.invokevirtual 218, 3) := dk_182 0 218 (dk_at dksL_law_73 19 rfl rfl)
theorem dL_law_1965 : decode cL_law 1965 = .ok (.iload 6, 2) := dk_21 6 (dk_at dksL_law_73 22 rfl rfl)
theorem dL_law_1967 : decode cL_law 1967 = .ok (.if_icmp .eq 5, 3) := dk_159 0 5 (dk_at dksL_law_74 0 rfl rfl)
theorem dL_law_1970 : decode cL_law 1970 = .ok (.iconst 0, 1) := dk_3 (dk_at dksL_law_74 3 rfl rfl)
theorem dL_law_1971 : decode cL_law 1971 = .ok (.ireturn, 1) := dk_172 (dk_at dksL_law_74 4 rfl rfl)
theorem dL_law_1972 : decode cL_law 1972 = .ok (.iload 6, 2) := dk_21 6 (dk_at dksL_law_74 5 rfl rfl)
theorem dL_law_1974 : decode cL_law 1974 = .ok (.ifCond .ne 15, 3) := dk_154 0 15 (dk_at dksL_law_74 7 rfl rfl)
theorem dL_law_1977 : decode cL_law 1977 = .ok (.aload_n 3, 1) := dk_45 (dk_at dksL_law_74 10 rfl rfl)
theorem dL_law_1978 : decode cL_law 1978 = .ok (.iconst 0, 1) := dk_3 (dk_at dksL_law_74 11 rfl rfl)
theorem dL_law_1979 : decode cL_law 1979 = .ok (.laload, 1) := dk_47 (dk_at dksL_law_74 12 rfl rfl)
theorem dL_law_1980 : decode cL_law 1980 = .ok (.iload 7, 2) := dk_21 7 (dk_at dksL_law_74 13 rfl rfl)
theorem dL_law_1982 : decode cL_law 1982 = .ok (.i2l, 1) := dk_133 (dk_at dksL_law_74 15 rfl rfl)
theorem dL_law_1983 : decode cL_law 1983 = .ok (.lcmp, 1) := dk_148 (dk_at dksL_law_74 16 rfl rfl)
theorem dL_law_1984 : decode cL_law 1984 = .ok (.ifCond .eq 5, 3) := dk_153 0 5 (dk_at dksL_law_74 17 rfl rfl)
theorem dL_law_1987 : decode cL_law 1987 = .ok (.iconst 0, 1) := dk_3 (dk_at dksL_law_74 20 rfl rfl)
theorem dL_law_1988 : decode cL_law 1988 = .ok (.ireturn, 1) := dk_172 (dk_at dksL_law_74 21 rfl rfl)
theorem dL_law_1989 : decode cL_law 1989 = .ok (.goto 2270, 3) := dk_167 8 222 (dk_at dksL_law_75 0 rfl rfl)
theorem dL_law_1992 : decode cL_law 1992 = .ok (.aload_n 1, 1) := dk_43 (dk_at dksL_law_75 3 rfl rfl)
theorem dL_law_1993 : decode cL_law 1993 = .ok (.aload_n 0, 1) := dk_42 (dk_at dksL_law_75 4 rfl rfl)
theorem dL_law_1994 : decode cL_law 1994 = .ok (.iload 5, 2) := dk_21 5 (dk_at dksL_law_75 5 rfl rfl)
theorem dL_law_1996 : decode cL_law 1996 = .ok (.iconst 1, 1) := dk_4 (dk_at dksL_law_75 7 rfl rfl)
theorem dL_law_1997 : decode cL_law 1997 = .ok (.iadd, 1) := dk_96 (dk_at dksL_law_75 8 rfl rfl)
theorem dL_law_1998 : decode cL_law 1998 = .ok (.iaload, 1) := dk_46 (dk_at dksL_law_75 9 rfl rfl)
theorem dL_law_1999 : decode cL_law 1999 = .ok (.aload_n 3, 1) := dk_45 (dk_at dksL_law_75 10 rfl rfl)
theorem dL_law_2000 : decode cL_law 2000 = .ok (.invokestatic 304, 3) := dk_184 1 48 (dk_at dksL_law_75 11 rfl rfl)
theorem dL_law_2003 : decode cL_law 2003 = .ok (.istore 6, 2) := dk_54 6 (dk_at dksL_law_75 14 rfl rfl)
theorem dL_law_2005 : decode cL_law 2005 = .ok (.aload_n 2, 1) := dk_44 (dk_at dksL_law_75 16 rfl rfl)
theorem dL_law_2006 : decode cL_law 2006 = .ok (.aload_n 0, 1) := dk_42 (dk_at dksL_law_75 17 rfl rfl)
theorem dL_law_2007 : decode cL_law 2007 = .ok (.iload 5, 2) := dk_21 5 (dk_at dksL_law_75 18 rfl rfl)
theorem dL_law_2009 : decode cL_law 2009 = .ok (.iconst 1, 1) := dk_4 (dk_at dksL_law_75 20 rfl rfl)
theorem dL_law_2010 : decode cL_law 2010 = .ok (.iadd, 1) := dk_96 (dk_at dksL_law_75 21 rfl rfl)
theorem dL_law_2011 : decode cL_law 2011 = .ok (.iaload, 1) := dk_46 (dk_at dksL_law_75 22 rfl rfl)
theorem dL_law_2012 : decode cL_law 2012 = .ok (.invokevirtual 306, 3) := dk_182 1 50 (dk_at dksL_law_76 0 rfl rfl)
theorem dL_law_2015 : decode cL_law 2015 = .ok (.istore 7, 2) := dk_54 7 (dk_at dksL_law_76 3 rfl rfl)
theorem dL_law_2017 : decode cL_law 2017 = .ok (.aload_n 2, 1) := dk_44 (dk_at dksL_law_76 5 rfl rfl)
theorem dL_law_2018 : decode cL_law 2018 = .ok (.invokevirtual 218, 3) := dk_182 0 218 (dk_at dksL_law_76 6 rfl rfl)
theorem dL_law_2021 : decode cL_law 2021 = .ok (.iload 6, 2) := dk_21 6 (dk_at dksL_law_76 9 rfl rfl)
theorem dL_law_2023 : decode cL_law 2023 = .ok (.if_icmp .eq 5, 3) := dk_159 0 5 (dk_at dksL_law_76 11 rfl rfl)
theorem dL_law_2026 : decode cL_law 2026 = .ok (.iconst 0, 1) := dk_3 (dk_at dksL_law_76 14 rfl rfl)
theorem dL_law_2027 : decode cL_law 2027 = .ok (.ireturn, 1) := dk_172 (dk_at dksL_law_76 15 rfl rfl)
theorem dL_law_2028 : decode cL_law 2028 = .ok (.iload 6, 2) := dk_21 6 (dk_at dksL_law_76 16 rfl rfl)
theorem dL_law_2030 : decode cL_law 2030 = .ok (.ifCond .ne 15, 3) := dk_154 0 15 (dk_at dksL_law_76 18 rfl rfl)
theorem dL_law_2033 : decode cL_law 2033 = .ok (.aload_n 3, 1) := dk_45 (dk_at dksL_law_76 21 rfl rfl)
theorem dL_law_2034 : decode cL_law 2034 = .ok (.iconst 0, 1) := dk_3 (dk_at dksL_law_76 22 rfl rfl)
theorem dL_law_2035 : decode cL_law 2035 = .ok (.laload, 1) := dk_47 (dk_at dksL_law_76 23 rfl rfl)
theorem dL_law_2036 : decode cL_law 2036 = .ok (.iload 7, 2) := dk_21 7 (dk_at dksL_law_77 0 rfl rfl)
theorem dL_law_2038 : decode cL_law 2038 = .ok (.i2l, 1) := dk_133 (dk_at dksL_law_77 2 rfl rfl)
theorem dL_law_2039 : decode cL_law 2039 = .ok (.lcmp, 1) := dk_148 (dk_at dksL_law_77 3 rfl rfl)
theorem dL_law_2040 : decode cL_law 2040 = .ok (.ifCond .eq 5, 3) := dk_153 0 5 (dk_at dksL_law_77 4 rfl rfl)
theorem dL_law_2043 : decode cL_law 2043 = .ok (.iconst 0, 1) := dk_3 (dk_at dksL_law_77 7 rfl rfl)
theorem dL_law_2044 : decode cL_law 2044 = .ok (.ireturn, 1) := dk_172 (dk_at dksL_law_77 8 rfl rfl)
theorem dL_law_2045 : decode cL_law 2045 = .ok (.goto 2214, 3) := dk_167 8 166 (dk_at dksL_law_77 9 rfl rfl)
theorem dL_law_2048 : decode cL_law 2048 = .ok (.aload_n 1, 1) := dk_43 (dk_at dksL_law_77 12 rfl rfl)
theorem dL_law_2049 : decode cL_law 2049 = .ok (.aload_n 0, 1) := dk_42 (dk_at dksL_law_77 13 rfl rfl)
theorem dL_law_2050 : decode cL_law 2050 = .ok (.iload 5, 2) := dk_21 5 (dk_at dksL_law_77 14 rfl rfl)
theorem dL_law_2052 : decode cL_law 2052 = .ok (.iconst 1, 1) := dk_4 (dk_at dksL_law_77 16 rfl rfl)
theorem dL_law_2053 : decode cL_law 2053 = .ok (.iadd, 1) := dk_96 (dk_at dksL_law_77 17 rfl rfl)
theorem dL_law_2054 : decode cL_law 2054 = .ok (.iaload, 1) := dk_46 (dk_at dksL_law_77 18 rfl rfl)
theorem dL_law_2055 : decode cL_law 2055 = .ok (.aload_n 3, 1) := dk_45 (dk_at dksL_law_77 19 rfl rfl)
theorem dL_law_2056 : decode cL_law 2056 = .ok (.invokestatic 307, 3) := dk_184 1 51 (dk_at dksL_law_77 20 rfl rfl)
theorem dL_law_2059 : decode cL_law 2059 = .ok (.istore 6, 2) := dk_54 6 (dk_at dksL_law_78 0 rfl rfl)
theorem dL_law_2061 : decode cL_law 2061 = .ok (.aload_n 2, 1) := dk_44 (dk_at dksL_law_78 2 rfl rfl)
theorem dL_law_2062 : decode cL_law 2062 = .ok (.aload_n 0, 1) := dk_42 (dk_at dksL_law_78 3 rfl rfl)
theorem dL_law_2063 : decode cL_law 2063 = .ok (.iload 5, 2) := dk_21 5 (dk_at dksL_law_78 4 rfl rfl)
theorem dL_law_2065 : decode cL_law 2065 = .ok (.iconst 1, 1) := dk_4 (dk_at dksL_law_78 6 rfl rfl)
theorem dL_law_2066 : decode cL_law 2066 = .ok (.iadd, 1) := dk_96 (dk_at dksL_law_78 7 rfl rfl)
theorem dL_law_2067 : decode cL_law 2067 = .ok (.iaload, 1) := dk_46 (dk_at dksL_law_78 8 rfl rfl)
theorem dL_law_2068 : decode cL_law 2068 = .ok (.invokevirtual 309, 3) := dk_182 1 53 (dk_at dksL_law_78 9 rfl rfl)
theorem dL_law_2071 : decode cL_law 2071 = .ok (.istore 7, 2) := dk_54 7 (dk_at dksL_law_78 12 rfl rfl)
theorem dL_law_2073 : decode cL_law 2073 = .ok (.aload_n 2, 1) := dk_44 (dk_at dksL_law_78 14 rfl rfl)
theorem dL_law_2074 : decode cL_law 2074 = .ok (.invokevirtual 218, 3) := dk_182 0 218 (dk_at dksL_law_78 15 rfl rfl)
theorem dL_law_2077 : decode cL_law 2077 = .ok (.iload 6, 2) := dk_21 6 (dk_at dksL_law_78 18 rfl rfl)
theorem dL_law_2079 : decode cL_law 2079 = .ok (.if_icmp .eq 5, 3) := dk_159 0 5 (dk_at dksL_law_78 20 rfl rfl)
theorem dL_law_2082 : decode cL_law 2082 = .ok (.iconst 0, 1) := dk_3 (dk_at dksL_law_78 23 rfl rfl)
theorem dL_law_2083 : decode cL_law 2083 = .ok (.ireturn, 1) := dk_172 (dk_at dksL_law_79 0 rfl rfl)
theorem dL_law_2084 : decode cL_law 2084 = .ok (.iload 6, 2) := dk_21 6 (dk_at dksL_law_79 1 rfl rfl)
theorem dL_law_2086 : decode cL_law 2086 = .ok (.ifCond .ne 15, 3) := dk_154 0 15 (dk_at dksL_law_79 3 rfl rfl)
theorem dL_law_2089 : decode cL_law 2089 = .ok (.aload_n 3, 1) := dk_45 (dk_at dksL_law_79 6 rfl rfl)
theorem dL_law_2090 : decode cL_law 2090 = .ok (.iconst 0, 1) := dk_3 (dk_at dksL_law_79 7 rfl rfl)
theorem dL_law_2091 : decode cL_law 2091 = .ok (.laload, 1) := dk_47 (dk_at dksL_law_79 8 rfl rfl)
theorem dL_law_2092 : decode cL_law 2092 = .ok (.iload 7, 2) := dk_21 7 (dk_at dksL_law_79 9 rfl rfl)
theorem dL_law_2094 : decode cL_law 2094 = .ok (.i2l, 1) := dk_133 (dk_at dksL_law_79 11 rfl rfl)
theorem dL_law_2095 : decode cL_law 2095 = .ok (.lcmp, 1) := dk_148 (dk_at dksL_law_79 12 rfl rfl)
theorem dL_law_2096 : decode cL_law 2096 = .ok (.ifCond .eq 5, 3) := dk_153 0 5 (dk_at dksL_law_79 13 rfl rfl)
theorem dL_law_2099 : decode cL_law 2099 = .ok (.iconst 0, 1) := dk_3 (dk_at dksL_law_79 16 rfl rfl)
theorem dL_law_2100 : decode cL_law 2100 = .ok (.ireturn, 1) := dk_172 (dk_at dksL_law_79 17 rfl rfl)
theorem dL_law_2101 : decode cL_law 2101 = .ok (.goto 2158, 3) := dk_167 8 110 (dk_at dksL_law_79 18 rfl rfl)
theorem dL_law_2104 : decode cL_law 2104 = .ok (.aload_n 1, 1) := dk_43 (dk_at dksL_law_79 21 rfl rfl)
theorem dL_law_2105 : decode cL_law 2105 = .ok (.aload_n 0, 1) := dk_42 (dk_at dksL_law_79 22 rfl rfl)
theorem dL_law_2106 : decode cL_law 2106 = .ok (.iload 5, 2) := dk_21 5 (dk_at dksL_law_80 0 rfl rfl)
theorem dL_law_2108 : decode cL_law 2108 = .ok (.iconst 1, 1) := dk_4 (dk_at dksL_law_80 2 rfl rfl)
theorem dL_law_2109 : decode cL_law 2109 = .ok (.iadd, 1) := dk_96 (dk_at dksL_law_80 3 rfl rfl)
theorem dL_law_2110 : decode cL_law 2110 = .ok (.iaload, 1) := dk_46 (dk_at dksL_law_80 4 rfl rfl)
theorem dL_law_2111 : decode cL_law 2111 = .ok (.aload_n 3, 1) := dk_45 (dk_at dksL_law_80 5 rfl rfl)
theorem dL_law_2112 : decode cL_law 2112 = .ok (.invokestatic 310, 3) := dk_184 1 54 (dk_at dksL_law_80 6 rfl rfl)
theorem dL_law_2115 : decode cL_law 2115 = .ok (.istore 6, 2) := dk_54 6 (dk_at dksL_law_80 9 rfl rfl)
theorem dL_law_2117 : decode cL_law 2117 = .ok (.aload_n 2, 1) := dk_44 (dk_at dksL_law_80 11 rfl rfl)
theorem dL_law_2118 : decode cL_law 2118 = .ok (.aload_n 0, 1) := dk_42 (dk_at dksL_law_80 12 rfl rfl)
theorem dL_law_2119 : decode cL_law 2119 = .ok (.iload 5, 2) := dk_21 5 (dk_at dksL_law_80 13 rfl rfl)
theorem dL_law_2121 : decode cL_law 2121 = .ok (.iconst 1, 1) := dk_4 (dk_at dksL_law_80 15 rfl rfl)
theorem dL_law_2122 : decode cL_law 2122 = .ok (.iadd, 1) := dk_96 (dk_at dksL_law_80 16 rfl rfl)
theorem dL_law_2123 : decode cL_law 2123 = .ok (.iaload, 1) := dk_46 (dk_at dksL_law_80 17 rfl rfl)
theorem dL_law_2124 : decode cL_law 2124 = .ok (.invokevirtual 312, 3) := dk_182 1 56 (dk_at dksL_law_80 18 rfl rfl)
theorem dL_law_2127 : decode cL_law 2127 = .ok (.istore 7, 2) := dk_54 7 (dk_at dksL_law_80 21 rfl rfl)
theorem dL_law_2129 : decode cL_law 2129 = .ok (.aload_n 2, 1) := dk_44 (dk_at dksL_law_80 23 rfl rfl)
theorem dL_law_2130 : decode cL_law 2130 = .ok (.invokevirtual 218, 3) := dk_182 0 218 (dk_at dksL_law_81 0 rfl rfl)
theorem dL_law_2133 : decode cL_law 2133 = .ok (.iload 6, 2) := dk_21 6 (dk_at dksL_law_81 3 rfl rfl)
theorem dL_law_2135 : decode cL_law 2135 = .ok (.if_icmp .eq 5, 3) := dk_159 0 5 (dk_at dksL_law_81 5 rfl rfl)
theorem dL_law_2138 : decode cL_law 2138 = .ok (.iconst 0, 1) := dk_3 (dk_at dksL_law_81 8 rfl rfl)
theorem dL_law_2139 : decode cL_law 2139 = .ok (.ireturn, 1) := dk_172 (dk_at dksL_law_81 9 rfl rfl)
theorem dL_law_2140 : decode cL_law 2140 = .ok (.iload 6, 2) := dk_21 6 (dk_at dksL_law_81 10 rfl rfl)
theorem dL_law_2142 : decode cL_law 2142 = .ok (.ifCond .ne 15, 3) := dk_154 0 15 (dk_at dksL_law_81 12 rfl rfl)
theorem dL_law_2145 : decode cL_law 2145 = .ok (.aload_n 3, 1) := dk_45 (dk_at dksL_law_81 15 rfl rfl)
theorem dL_law_2146 : decode cL_law 2146 = .ok (.iconst 0, 1) := dk_3 (dk_at dksL_law_81 16 rfl rfl)
theorem dL_law_2147 : decode cL_law 2147 = .ok (.laload, 1) := dk_47 (dk_at dksL_law_81 17 rfl rfl)
theorem dL_law_2148 : decode cL_law 2148 = .ok (.iload 7, 2) := dk_21 7 (dk_at dksL_law_81 18 rfl rfl)
theorem dL_law_2150 : decode cL_law 2150 = .ok (.i2l, 1) := dk_133 (dk_at dksL_law_81 20 rfl rfl)
theorem dL_law_2151 : decode cL_law 2151 = .ok (.lcmp, 1) := dk_148 (dk_at dksL_law_81 21 rfl rfl)
theorem dL_law_2152 : decode cL_law 2152 = .ok (.ifCond .eq 5, 3) := dk_153 0 5 (dk_at dksL_law_82 0 rfl rfl)
theorem dL_law_2155 : decode cL_law 2155 = .ok (.iconst 0, 1) := dk_3 (dk_at dksL_law_82 3 rfl rfl)
theorem dL_law_2156 : decode cL_law 2156 = .ok (.ireturn, 1) := dk_172 (dk_at dksL_law_82 4 rfl rfl)
theorem dL_law_2157 : decode cL_law 2157 = .ok (.goto 2102, 3) := dk_167 8 54 (dk_at dksL_law_82 5 rfl rfl)
theorem dL_law_2160 : decode cL_law 2160 = .ok (.aload_n 1, 1) := dk_43 (dk_at dksL_law_82 8 rfl rfl)
theorem dL_law_2161 : decode cL_law 2161 = .ok (.aload_n 0, 1) := dk_42 (dk_at dksL_law_82 9 rfl rfl)
theorem dL_law_2162 : decode cL_law 2162 = .ok (.iload 5, 2) := dk_21 5 (dk_at dksL_law_82 10 rfl rfl)
theorem dL_law_2164 : decode cL_law 2164 = .ok (.iconst 1, 1) := dk_4 (dk_at dksL_law_82 12 rfl rfl)
theorem dL_law_2165 : decode cL_law 2165 = .ok (.iadd, 1) := dk_96 (dk_at dksL_law_82 13 rfl rfl)
theorem dL_law_2166 : decode cL_law 2166 = .ok (.iaload, 1) := dk_46 (dk_at dksL_law_82 14 rfl rfl)
theorem dL_law_2167 : decode cL_law 2167 = .ok (.aload_n 3, 1) := dk_45 (dk_at dksL_law_82 15 rfl rfl)
theorem dL_law_2168 : decode cL_law 2168 = .ok (.invokestatic 313, 3) := dk_184 1 57 (dk_at dksL_law_82 16 rfl rfl)
theorem dL_law_2171 : decode cL_law 2171 = .ok (.istore 6, 2) := dk_54 6 (dk_at dksL_law_82 19 rfl rfl)
theorem dL_law_2173 : decode cL_law 2173 = .ok (.aload_n 2, 1) := dk_44 (dk_at dksL_law_82 21 rfl rfl)
theorem dL_law_2174 : decode cL_law 2174 = .ok (.aload_n 0, 1) := dk_42 (dk_at dksL_law_82 22 rfl rfl)
theorem dL_law_2175 : decode cL_law 2175 = .ok (.iload 5, 2) := dk_21 5 (dk_at dksL_law_83 0 rfl rfl)
theorem dL_law_2177 : decode cL_law 2177 = .ok (.iconst 1, 1) := dk_4 (dk_at dksL_law_83 2 rfl rfl)
theorem dL_law_2178 : decode cL_law 2178 = .ok (.iadd, 1) := dk_96 (dk_at dksL_law_83 3 rfl rfl)
theorem dL_law_2179 : decode cL_law 2179 = .ok (.iaload, 1) := dk_46 (dk_at dksL_law_83 4 rfl rfl)
theorem dL_law_2180 : decode cL_law 2180 = .ok (.invokevirtual 315, 3) := dk_182 1 59 (dk_at dksL_law_83 5 rfl rfl)
theorem dL_law_2183 : decode cL_law 2183 = .ok (.istore 7, 2) := dk_54 7 (dk_at dksL_law_83 8 rfl rfl)
theorem dL_law_2185 : decode cL_law 2185 = .ok (.aload_n 2, 1) := dk_44 (dk_at dksL_law_83 10 rfl rfl)
theorem dL_law_2186 : decode cL_law 2186 = .ok (.invokevirtual 218, 3) := dk_182 0 218 (dk_at dksL_law_83 11 rfl rfl)
theorem dL_law_2189 : decode cL_law 2189 = .ok (.iload 6, 2) := dk_21 6 (dk_at dksL_law_83 14 rfl rfl)
theorem dL_law_2191 : decode cL_law 2191 = .ok (.if_icmp .eq 5, 3) := dk_159 0 5 (dk_at dksL_law_83 16 rfl rfl)
theorem dL_law_2194 : decode cL_law 2194 = .ok (.iconst 0, 1) := dk_3 (dk_at dksL_law_83 19 rfl rfl)
theorem dL_law_2195 : decode cL_law 2195 = .ok (.ireturn, 1) := dk_172 (dk_at dksL_law_83 20 rfl rfl)
theorem dL_law_2196 : decode cL_law 2196 = .ok (.iload 6, 2) := dk_21 6 (dk_at dksL_law_83 21 rfl rfl)
theorem dL_law_2198 : decode cL_law 2198 = .ok (.ifCond .ne 15, 3) := dk_154 0 15 (dk_at dksL_law_84 0 rfl rfl)
theorem dL_law_2201 : decode cL_law 2201 = .ok (.aload_n 3, 1) := dk_45 (dk_at dksL_law_84 3 rfl rfl)
theorem dL_law_2202 : decode cL_law 2202 = .ok (.iconst 0, 1) := dk_3 (dk_at dksL_law_84 4 rfl rfl)
theorem dL_law_2203 : decode cL_law 2203 = .ok (.laload, 1) := dk_47 (dk_at dksL_law_84 5 rfl rfl)
theorem dL_law_2204 : decode cL_law 2204 = .ok (.iload 7, 2) := dk_21 7 (dk_at dksL_law_84 6 rfl rfl)
theorem dL_law_2206 : decode cL_law 2206 = .ok (.i2l, 1) := dk_133 (dk_at dksL_law_84 8 rfl rfl)
theorem dL_law_2207 : decode cL_law 2207 = .ok (.lcmp, 1) := dk_148 (dk_at dksL_law_84 9 rfl rfl)
theorem dL_law_2208 : decode cL_law 2208 = .ok (.ifCond .eq 5, 3) := dk_153 0 5 (dk_at dksL_law_84 10 rfl rfl)
theorem dL_law_2211 : decode cL_law 2211 = .ok (.iconst 0, 1) := dk_3 (dk_at dksL_law_84 13 rfl rfl)
theorem dL_law_2212 : decode cL_law 2212 = .ok (.ireturn, 1) := dk_172 (dk_at dksL_law_84 14 rfl rfl)
theorem dL_law_2213 : decode cL_law 2213 = .ok (.goto 2046, 3) := dk_167 7 254 (dk_at dksL_law_84 15 rfl rfl)
theorem dL_law_2216 : decode cL_law 2216 = .ok (.aload_n 1, 1) := dk_43 (dk_at dksL_law_84 18 rfl rfl)
theorem dL_law_2217 : decode cL_law 2217 = .ok (.aload_n 3, 1) := dk_45 (dk_at dksL_law_84 19 rfl rfl)
theorem dL_law_2218 : decode cL_law 2218 = .ok (.invokestatic 316, 3) := dk_184 1 60 (dk_at dksL_law_84 20 rfl rfl)
theorem dL_law_2221 : decode cL_law 2221 = .ok (.istore 6, 2) := dk_54 6 (dk_at dksL_law_85 0 rfl rfl)
theorem dL_law_2223 : decode cL_law 2223 = .ok (.aload_n 2, 1) := dk_44 (dk_at dksL_law_85 2 rfl rfl)
theorem dL_law_2224 : decode cL_law 2224 = .ok (.invokevirtual 318, 3) := dk_182 1 62 (dk_at dksL_law_85 3 rfl rfl)
theorem dL_law_2227 : decode cL_law 2227 = .ok (.istore 7, 2) := dk_54 7 (dk_at dksL_law_85 6 rfl rfl)
theorem dL_law_2229 : decode cL_law 2229 = .ok (.aload_n 2, 1) := dk_44 (dk_at dksL_law_85 8 rfl rfl)
theorem dL_law_2230 : decode cL_law 2230 = .ok (.invokevirtual 218, 3) := dk_182 0 218 (dk_at dksL_law_85 9 rfl rfl)
theorem dL_law_2233 : decode cL_law 2233 = .ok (.iload 6, 2) := dk_21 6 (dk_at dksL_law_85 12 rfl rfl)
theorem dL_law_2235 : decode cL_law 2235 = .ok (.if_icmp .eq 5, 3) := dk_159 0 5 (dk_at dksL_law_85 14 rfl rfl)
theorem dL_law_2238 : decode cL_law 2238 = .ok (.iconst 0, 1) := dk_3 (dk_at dksL_law_85 17 rfl rfl)
theorem dL_law_2239 : decode cL_law 2239 = .ok (.ireturn, 1) := dk_172 (dk_at dksL_law_85 18 rfl rfl)
theorem dL_law_2240 : decode cL_law 2240 = .ok (.iload 6, 2) := dk_21 6 (dk_at dksL_law_85 19 rfl rfl)
theorem dL_law_2242 : decode cL_law 2242 = .ok (.ifCond .ne 15, 3) := dk_154 0 15 (dk_at dksL_law_85 21 rfl rfl)
theorem dL_law_2245 : decode cL_law 2245 = .ok (.aload_n 3, 1) := dk_45 (dk_at dksL_law_86 0 rfl rfl)
theorem dL_law_2246 : decode cL_law 2246 = .ok (.iconst 0, 1) := dk_3 (dk_at dksL_law_86 1 rfl rfl)
theorem dL_law_2247 : decode cL_law 2247 = .ok (.laload, 1) := dk_47 (dk_at dksL_law_86 2 rfl rfl)
theorem dL_law_2248 : decode cL_law 2248 = .ok (.iload 7, 2) := dk_21 7 (dk_at dksL_law_86 3 rfl rfl)
theorem dL_law_2250 : decode cL_law 2250 = .ok (.i2l, 1) := dk_133 (dk_at dksL_law_86 5 rfl rfl)
theorem dL_law_2251 : decode cL_law 2251 = .ok (.lcmp, 1) := dk_148 (dk_at dksL_law_86 6 rfl rfl)
theorem dL_law_2252 : decode cL_law 2252 = .ok (.ifCond .eq 5, 3) := dk_153 0 5 (dk_at dksL_law_86 7 rfl rfl)
theorem dL_law_2255 : decode cL_law 2255 = .ok (.iconst 0, 1) := dk_3 (dk_at dksL_law_86 10 rfl rfl)
theorem dL_law_2256 : decode cL_law 2256 = .ok (.ireturn, 1) := dk_172 (dk_at dksL_law_86 11 rfl rfl)
theorem dL_law_2257 : decode cL_law 2257 = .ok (.goto 2002, 3) := dk_167 7 210 (dk_at dksL_law_86 12 rfl rfl)
theorem dL_law_2260 : decode cL_law 2260 = .ok (.aload_n 1, 1) := dk_43 (dk_at dksL_law_86 15 rfl rfl)
theorem dL_law_2261 : decode cL_law 2261 = .ok (.aload_n 0, 1) := dk_42 (dk_at dksL_law_86 16 rfl rfl)
theorem dL_law_2262 : decode cL_law 2262 = .ok (.iload 5, 2) := dk_21 5 (dk_at dksL_law_86 17 rfl rfl)
theorem dL_law_2264 : decode cL_law 2264 = .ok (.iconst 1, 1) := dk_4 (dk_at dksL_law_86 19 rfl rfl)
theorem dL_law_2265 : decode cL_law 2265 = .ok (.iadd, 1) := dk_96 (dk_at dksL_law_86 20 rfl rfl)
theorem dL_law_2266 : decode cL_law 2266 = .ok (.iaload, 1) := dk_46 (dk_at dksL_law_86 21 rfl rfl)
theorem dL_law_2267 : decode cL_law 2267 = .ok (.aload_n 3, 1) := dk_45 (dk_at dksL_law_86 22 rfl rfl)
theorem dL_law_2268 : decode cL_law 2268 = .ok (.invokestatic 319, 3) := dk_184 1 63 (dk_at dksL_law_87 0 rfl rfl)
theorem dL_law_2271 : decode cL_law 2271 = .ok (.istore 6, 2) := dk_54 6 (dk_at dksL_law_87 3 rfl rfl)
theorem dL_law_2273 : decode cL_law 2273 = .ok (.aload_n 2, 1) := dk_44 (dk_at dksL_law_87 5 rfl rfl)
theorem dL_law_2274 : decode cL_law 2274 = .ok (.aload_n 0, 1) := dk_42 (dk_at dksL_law_87 6 rfl rfl)
theorem dL_law_2275 : decode cL_law 2275 = .ok (.iload 5, 2) := dk_21 5 (dk_at dksL_law_87 7 rfl rfl)
theorem dL_law_2277 : decode cL_law 2277 = .ok (.iconst 1, 1) := dk_4 (dk_at dksL_law_87 9 rfl rfl)
theorem dL_law_2278 : decode cL_law 2278 = .ok (.iadd, 1) := dk_96 (dk_at dksL_law_87 10 rfl rfl)
theorem dL_law_2279 : decode cL_law 2279 = .ok (.iaload, 1) := dk_46 (dk_at dksL_law_87 11 rfl rfl)
theorem dL_law_2280 : decode cL_law 2280 = .ok (.invokevirtual 321, 3) := dk_182 1 65 (dk_at dksL_law_87 12 rfl rfl)
theorem dL_law_2283 : decode cL_law 2283 = .ok (.istore 7, 2) := dk_54 7 (dk_at dksL_law_87 15 rfl rfl)
theorem dL_law_2285 : decode cL_law 2285 = .ok (.aload_n 2, 1) := dk_44 (dk_at dksL_law_87 17 rfl rfl)
theorem dL_law_2286 : decode cL_law 2286 = .ok (.invokevirtual 218, 3) := dk_182 0 218 (dk_at dksL_law_87 18 rfl rfl)
theorem dL_law_2289 : decode cL_law 2289 = .ok (.iload 6, 2) := dk_21 6 (dk_at dksL_law_87 21 rfl rfl)
theorem dL_law_2291 : decode cL_law 2291 = .ok (.if_icmp .eq 5, 3) := dk_159 0 5 (dk_at dksL_law_88 0 rfl rfl)
theorem dL_law_2294 : decode cL_law 2294 = .ok (.iconst 0, 1) := dk_3 (dk_at dksL_law_88 3 rfl rfl)
theorem dL_law_2295 : decode cL_law 2295 = .ok (.ireturn, 1) := dk_172 (dk_at dksL_law_88 4 rfl rfl)
theorem dL_law_2296 : decode cL_law 2296 = .ok (.iload 6, 2) := dk_21 6 (dk_at dksL_law_88 5 rfl rfl)
theorem dL_law_2298 : decode cL_law 2298 = .ok (.ifCond .ne 15, 3) := dk_154 0 15 (dk_at dksL_law_88 7 rfl rfl)
theorem dL_law_2301 : decode cL_law 2301 = .ok (.aload_n 3, 1) := dk_45 (dk_at dksL_law_88 10 rfl rfl)
theorem dL_law_2302 : decode cL_law 2302 = .ok (.iconst 0, 1) := dk_3 (dk_at dksL_law_88 11 rfl rfl)
theorem dL_law_2303 : decode cL_law 2303 = .ok (.laload, 1) := dk_47 (dk_at dksL_law_88 12 rfl rfl)
theorem dL_law_2304 : decode cL_law 2304 = .ok (.iload 7, 2) := dk_21 7 (dk_at dksL_law_88 13 rfl rfl)
theorem dL_law_2306 : decode cL_law 2306 = .ok (.i2l, 1) := dk_133 (dk_at dksL_law_88 15 rfl rfl)
theorem dL_law_2307 : decode cL_law 2307 = .ok (.lcmp, 1) := dk_148 (dk_at dksL_law_88 16 rfl rfl)
theorem dL_law_2308 : decode cL_law 2308 = .ok (.ifCond .eq 5, 3) := dk_153 0 5 (dk_at dksL_law_88 17 rfl rfl)
theorem dL_law_2311 : decode cL_law 2311 = .ok (.iconst 0, 1) := dk_3 (dk_at dksL_law_88 20 rfl rfl)
theorem dL_law_2312 : decode cL_law 2312 = .ok (.ireturn, 1) := dk_172 (dk_at dksL_law_88 21 rfl rfl)
theorem dL_law_2313 : decode cL_law 2313 = .ok (.goto 1946, 3) := dk_167 7 154 (dk_at dksL_law_89 0 rfl rfl)
theorem dL_law_2316 : decode cL_law 2316 = .ok (.aload_n 1, 1) := dk_43 (dk_at dksL_law_89 3 rfl rfl)
theorem dL_law_2317 : decode cL_law 2317 = .ok (.aload_n 3, 1) := dk_45 (dk_at dksL_law_89 4 rfl rfl)
theorem dL_law_2318 : decode cL_law 2318 = .ok (.invokestatic 322, 3) := dk_184 1 66 (dk_at dksL_law_89 5 rfl rfl)
theorem dL_law_2321 : decode cL_law 2321 = .ok (.istore 6, 2) := dk_54 6 (dk_at dksL_law_89 8 rfl rfl)
theorem dL_law_2323 : decode cL_law 2323 = .ok (.aload_n 2, 1) := dk_44 (dk_at dksL_law_89 10 rfl rfl)
theorem dL_law_2324 : decode cL_law 2324 = .ok (.invokevirtual 324, 3) := dk_182 1 68 (dk_at dksL_law_89 11 rfl rfl)
theorem dL_law_2327 : decode cL_law 2327 = .ok (.istore 7, 2) := dk_54 7 (dk_at dksL_law_89 14 rfl rfl)
theorem dL_law_2329 : decode cL_law 2329 = .ok (.aload_n 2, 1) := dk_44 (dk_at dksL_law_89 16 rfl rfl)
theorem dL_law_2330 : decode cL_law 2330 = .ok (.invokevirtual 218, 3) := dk_182 0 218 (dk_at dksL_law_89 17 rfl rfl)
theorem dL_law_2333 : decode cL_law 2333 = .ok (.iload 6, 2) := dk_21 6 (dk_at dksL_law_89 20 rfl rfl)
theorem dL_law_2335 : decode cL_law 2335 = .ok (.if_icmp .eq 5, 3) := dk_159 0 5 (dk_at dksL_law_90 0 rfl rfl)
theorem dL_law_2338 : decode cL_law 2338 = .ok (.iconst 0, 1) := dk_3 (dk_at dksL_law_90 3 rfl rfl)
theorem dL_law_2339 : decode cL_law 2339 = .ok (.ireturn, 1) := dk_172 (dk_at dksL_law_90 4 rfl rfl)
theorem dL_law_2340 : decode cL_law 2340 = .ok (.iload 6, 2) := dk_21 6 (dk_at dksL_law_90 5 rfl rfl)
theorem dL_law_2342 : decode cL_law 2342 = .ok (.ifCond .ne 15, 3) := dk_154 0 15 (dk_at dksL_law_90 7 rfl rfl)
theorem dL_law_2345 : decode cL_law 2345 = .ok (.aload_n 3, 1) := dk_45 (dk_at dksL_law_90 10 rfl rfl)
theorem dL_law_2346 : decode cL_law 2346 = .ok (.iconst 0, 1) := dk_3 (dk_at dksL_law_90 11 rfl rfl)
theorem dL_law_2347 : decode cL_law 2347 = .ok (.laload, 1) := dk_47 (dk_at dksL_law_90 12 rfl rfl)
theorem dL_law_2348 : decode cL_law 2348 = .ok (.iload 7, 2) := dk_21 7 (dk_at dksL_law_90 13 rfl rfl)
theorem dL_law_2350 : decode cL_law 2350 = .ok (.i2l, 1) := dk_133 (dk_at dksL_law_90 15 rfl rfl)
theorem dL_law_2351 : decode cL_law 2351 = .ok (.lcmp, 1) := dk_148 (dk_at dksL_law_90 16 rfl rfl)
theorem dL_law_2352 : decode cL_law 2352 = .ok (.ifCond .eq 5, 3) := dk_153 0 5 (dk_at dksL_law_90 17 rfl rfl)
theorem dL_law_2355 : decode cL_law 2355 = .ok (.iconst 0, 1) := dk_3 (dk_at dksL_law_90 20 rfl rfl)
theorem dL_law_2356 : decode cL_law 2356 = .ok (.ireturn, 1) := dk_172 (dk_at dksL_law_90 21 rfl rfl)
theorem dL_law_2357 : decode cL_law 2357 = .ok (.goto 1902, 3) := dk_167 7 110 (dk_at dksL_law_91 0 rfl rfl)
theorem dL_law_2360 : decode cL_law 2360 = .ok (.aload_n 1, 1) := dk_43 (dk_at dksL_law_91 3 rfl rfl)
theorem dL_law_2361 : decode cL_law 2361 = .ok (.aload_n 3, 1) := dk_45 (dk_at dksL_law_91 4 rfl rfl)
theorem dL_law_2362 : decode cL_law 2362 = .ok (.invokestatic 325, 3) := dk_184 1 69 (dk_at dksL_law_91 5 rfl rfl)
theorem dL_law_2365 : decode cL_law 2365 = .ok (.istore 6, 2) := dk_54 6 (dk_at dksL_law_91 8 rfl rfl)
theorem dL_law_2367 : decode cL_law 2367 = .ok (.aload_n 2, 1) := dk_44 (dk_at dksL_law_91 10 rfl rfl)
theorem dL_law_2368 : decode cL_law 2368 = .ok (.invokevirtual 327, 3) := dk_182 1 71 (dk_at dksL_law_91 11 rfl rfl)
theorem dL_law_2371 : decode cL_law 2371 = .ok (.istore 7, 2) := dk_54 7 (dk_at dksL_law_91 14 rfl rfl)
theorem dL_law_2373 : decode cL_law 2373 = .ok (.aload_n 2, 1) := dk_44 (dk_at dksL_law_91 16 rfl rfl)
theorem dL_law_2374 : decode cL_law 2374 = .ok (.invokevirtual 218, 3) := dk_182 0 218 (dk_at dksL_law_91 17 rfl rfl)
theorem dL_law_2377 : decode cL_law 2377 = .ok (.iload 6, 2) := dk_21 6 (dk_at dksL_law_91 20 rfl rfl)
theorem dL_law_2379 : decode cL_law 2379 = .ok (.if_icmp .eq 5, 3) := dk_159 0 5 (dk_at dksL_law_92 0 rfl rfl)
theorem dL_law_2382 : decode cL_law 2382 = .ok (.iconst 0, 1) := dk_3 (dk_at dksL_law_92 3 rfl rfl)
theorem dL_law_2383 : decode cL_law 2383 = .ok (.ireturn, 1) := dk_172 (dk_at dksL_law_92 4 rfl rfl)
theorem dL_law_2384 : decode cL_law 2384 = .ok (.iload 6, 2) := dk_21 6 (dk_at dksL_law_92 5 rfl rfl)
theorem dL_law_2386 : decode cL_law 2386 = .ok (.ifCond .ne 15, 3) := dk_154 0 15 (dk_at dksL_law_92 7 rfl rfl)
theorem dL_law_2389 : decode cL_law 2389 = .ok (.aload_n 3, 1) := dk_45 (dk_at dksL_law_92 10 rfl rfl)
theorem dL_law_2390 : decode cL_law 2390 = .ok (.iconst 0, 1) := dk_3 (dk_at dksL_law_92 11 rfl rfl)
theorem dL_law_2391 : decode cL_law 2391 = .ok (.laload, 1) := dk_47 (dk_at dksL_law_92 12 rfl rfl)
theorem dL_law_2392 : decode cL_law 2392 = .ok (.iload 7, 2) := dk_21 7 (dk_at dksL_law_92 13 rfl rfl)
theorem dL_law_2394 : decode cL_law 2394 = .ok (.i2l, 1) := dk_133 (dk_at dksL_law_92 15 rfl rfl)
theorem dL_law_2395 : decode cL_law 2395 = .ok (.lcmp, 1) := dk_148 (dk_at dksL_law_92 16 rfl rfl)
theorem dL_law_2396 : decode cL_law 2396 = .ok (.ifCond .eq 5, 3) := dk_153 0 5 (dk_at dksL_law_92 17 rfl rfl)
theorem dL_law_2399 : decode cL_law 2399 = .ok (.iconst 0, 1) := dk_3 (dk_at dksL_law_92 20 rfl rfl)
theorem dL_law_2400 : decode cL_law 2400 = .ok (.ireturn, 1) := dk_172 (dk_at dksL_law_92 21 rfl rfl)
theorem dL_law_2401 : decode cL_law 2401 = .ok (.goto 1858, 3) := dk_167 7 66 (dk_at dksL_law_93 0 rfl rfl)
theorem dL_law_2404 : decode cL_law 2404 = .ok (.aload_n 1, 1) := dk_43 (dk_at dksL_law_93 3 rfl rfl)
theorem dL_law_2405 : decode cL_law 2405 = .ok (.aload 4, 2) := dk_25 4 (dk_at dksL_law_93 4 rfl rfl)
theorem dL_law_2407 : decode cL_law 2407 = .ok (.invokestatic 328, 3) := dk_184 1 72 (dk_at dksL_law_93 6 rfl rfl)
theorem dL_law_2410 : decode cL_law 2410 = .ok (.istore 6, 2) := dk_54 6 (dk_at dksL_law_93 9 rfl rfl)
theorem dL_law_2412 : decode cL_law 2412 = .ok (.aload_n 2, 1) := dk_44 (dk_at dksL_law_93 11 rfl rfl)
theorem dL_law_2413 : decode cL_law 2413 = .ok (.invokevirtual 331, 3) := dk_182 1 75 (dk_at dksL_law_93 12 rfl rfl)
theorem dL_law_2416 : decode cL_law 2416 = .ok (.dstore 7, 2) := dk_57 7 (dk_at dksL_law_93 15 rfl rfl)
theorem dL_law_2418 : decode cL_law 2418 = .ok (.aload_n 2, 1) := dk_44 (dk_at dksL_law_93 17 rfl rfl)
theorem dL_law_2419 : decode cL_law 2419 = .ok (.invokevirtual 218, 3) := dk_182 0 218 (dk_at dksL_law_93 18 rfl rfl)
theorem dL_law_2422 : decode cL_law 2422 = .ok (.iload 6, 2) := dk_21 6 (dk_at dksL_law_93 21 rfl rfl)
theorem dL_law_2424 : decode cL_law 2424 = .ok (.if_icmp .eq 5, 3) := dk_159 0 5 (dk_at dksL_law_94 0 rfl rfl)
theorem dL_law_2427 : decode cL_law 2427 = .ok (.iconst 0, 1) := dk_3 (dk_at dksL_law_94 3 rfl rfl)
theorem dL_law_2428 : decode cL_law 2428 = .ok (.ireturn, 1) := dk_172 (dk_at dksL_law_94 4 rfl rfl)
theorem dL_law_2429 : decode cL_law 2429 = .ok (.iload 6, 2) := dk_21 6 (dk_at dksL_law_94 5 rfl rfl)
theorem dL_law_2431 : decode cL_law 2431 = .ok (.ifCond .ne 35, 3) := dk_154 0 35 (dk_at dksL_law_94 7 rfl rfl)
theorem dL_law_2434 : decode cL_law 2434 = .ok (.aload 4, 2) := dk_25 4 (dk_at dksL_law_94 10 rfl rfl)
theorem dL_law_2436 : decode cL_law 2436 = .ok (.iconst 0, 1) := dk_3 (dk_at dksL_law_94 12 rfl rfl)
theorem dL_law_2437 : decode cL_law 2437 = .ok (.daload, 1) := dk_49 (dk_at dksL_law_94 13 rfl rfl)
theorem dL_law_2438 : decode cL_law 2438 = .ok (.dload 7, 2) := dk_24 7 (dk_at dksL_law_94 14 rfl rfl)
theorem dL_law_2440 : decode cL_law 2440 = .ok (.dcmp .l, 1) := dk_151 (dk_at dksL_law_94 16 rfl rfl)
theorem dL_law_2441 : decode cL_law 2441 = .ok (.ifCond .eq 25, 3) := dk_153 0 25 (dk_at dksL_law_94 17 rfl rfl)
theorem dL_law_2444 : decode cL_law 2444 = .ok (.aload 4, 2) := dk_25 4 (dk_at dksL_law_94 20 rfl rfl)
theorem dL_law_2446 : decode cL_law 2446 = .ok (.iconst 0, 1) := dk_3 (dk_at dksL_law_94 22 rfl rfl)
theorem dL_law_2447 : decode cL_law 2447 = .ok (.daload, 1) := dk_49 (dk_at dksL_law_94 23 rfl rfl)
theorem dL_law_2448 : decode cL_law 2448 = .ok (.aload 4, 2) := dk_25 4 (dk_at dksL_law_95 0 rfl rfl)
theorem dL_law_2450 : decode cL_law 2450 = .ok (.iconst 0, 1) := dk_3 (dk_at dksL_law_95 2 rfl rfl)
theorem dL_law_2451 : decode cL_law 2451 = .ok (.daload, 1) := dk_49 (dk_at dksL_law_95 3 rfl rfl)
theorem dL_law_2452 : decode cL_law 2452 = .ok (.dcmp .l, 1) := dk_151 (dk_at dksL_law_95 4 rfl rfl)
theorem dL_law_2453 : decode cL_law 2453 = .ok (.ifCond .eq 11, 3) := dk_153 0 11 (dk_at dksL_law_95 5 rfl rfl)
theorem dL_law_2456 : decode cL_law 2456 = .ok (.dload 7, 2) := dk_24 7 (dk_at dksL_law_95 8 rfl rfl)
theorem dL_law_2458 : decode cL_law 2458 = .ok (.dload 7, 2) := dk_24 7 (dk_at dksL_law_95 10 rfl rfl)
theorem dL_law_2460 : decode cL_law 2460 = .ok (.dcmp .l, 1) := dk_151 (dk_at dksL_law_95 12 rfl rfl)
theorem dL_law_2461 : decode cL_law 2461 = .ok (.ifCond .ne 5, 3) := dk_154 0 5 (dk_at dksL_law_95 13 rfl rfl)
theorem dL_law_2464 : decode cL_law 2464 = .ok (.iconst 0, 1) := dk_3 (dk_at dksL_law_95 16 rfl rfl)
theorem dL_law_2465 : decode cL_law 2465 = .ok (.ireturn, 1) := dk_172 (dk_at dksL_law_95 17 rfl rfl)
theorem dL_law_2466 : decode cL_law 2466 = .ok (.goto 1793, 3) := dk_167 7 1 (dk_at dksL_law_95 18 rfl rfl)
theorem dL_law_2469 : decode cL_law 2469 = .ok (.aload_n 1, 1) := dk_43 (dk_at dksL_law_95 21 rfl rfl)
theorem dL_law_2470 : decode cL_law 2470 = .ok (.aload_n 0, 1) := dk_42 (dk_at dksL_law_95 22 rfl rfl)
theorem dL_law_2471 : decode cL_law 2471 = .ok (.iload 5, 2) := dk_21 5 (dk_at dksL_law_96 0 rfl rfl)
theorem dL_law_2473 : decode cL_law 2473 = .ok (.iconst 1, 1) := dk_4 (dk_at dksL_law_96 2 rfl rfl)
theorem dL_law_2474 : decode cL_law 2474 = .ok (.iadd, 1) := dk_96 (dk_at dksL_law_96 3 rfl rfl)
theorem dL_law_2475 : decode cL_law 2475 = .ok (.iaload, 1) := dk_46 (dk_at dksL_law_96 4 rfl rfl)
theorem dL_law_2476 : decode cL_law 2476 = .ok (.aload 4, 2) := dk_25 4 (dk_at dksL_law_96 5 rfl rfl)
theorem dL_law_2478 : decode cL_law 2478 = .ok (.invokestatic 332, 3) := dk_184 1 76 (dk_at dksL_law_96 7 rfl rfl)
theorem dL_law_2481 : decode cL_law 2481 = .ok (.istore 6, 2) := dk_54 6 (dk_at dksL_law_96 10 rfl rfl)
theorem dL_law_2483 : decode cL_law 2483 = .ok (.aload_n 2, 1) := dk_44 (dk_at dksL_law_96 12 rfl rfl)
theorem dL_law_2484 : decode cL_law 2484 = .ok (.aload_n 0, 1) := dk_42 (dk_at dksL_law_96 13 rfl rfl)
theorem dL_law_2485 : decode cL_law 2485 = .ok (.iload 5, 2) := dk_21 5 (dk_at dksL_law_96 14 rfl rfl)
theorem dL_law_2487 : decode cL_law 2487 = .ok (.iconst 1, 1) := dk_4 (dk_at dksL_law_96 16 rfl rfl)
theorem dL_law_2488 : decode cL_law 2488 = .ok (.iadd, 1) := dk_96 (dk_at dksL_law_96 17 rfl rfl)
theorem dL_law_2489 : decode cL_law 2489 = .ok (.iaload, 1) := dk_46 (dk_at dksL_law_96 18 rfl rfl)
theorem dL_law_2490 : decode cL_law 2490 = .ok (.invokevirtual 335, 3) := dk_182 1 79 (dk_at dksL_law_96 19 rfl rfl)
theorem dL_law_2493 : decode cL_law 2493 = .ok (.fstore 7, 2) := dk_56 7 (dk_at dksL_law_96 22 rfl rfl)
theorem dL_law_2495 : decode cL_law 2495 = .ok (.aload_n 2, 1) := dk_44 (dk_at dksL_law_97 0 rfl rfl)
theorem dL_law_2496 : decode cL_law 2496 = .ok (.invokevirtual 218, 3) := dk_182 0 218 (dk_at dksL_law_97 1 rfl rfl)
theorem dL_law_2499 : decode cL_law 2499 = .ok (.iload 6, 2) := dk_21 6 (dk_at dksL_law_97 4 rfl rfl)
theorem dL_law_2501 : decode cL_law 2501 = .ok (.if_icmp .eq 5, 3) := dk_159 0 5 (dk_at dksL_law_97 6 rfl rfl)
theorem dL_law_2504 : decode cL_law 2504 = .ok (.iconst 0, 1) := dk_3 (dk_at dksL_law_97 9 rfl rfl)
theorem dL_law_2505 : decode cL_law 2505 = .ok (.ireturn, 1) := dk_172 (dk_at dksL_law_97 10 rfl rfl)
theorem dL_law_2506 : decode cL_law 2506 = .ok (.iload 6, 2) := dk_21 6 (dk_at dksL_law_97 11 rfl rfl)
theorem dL_law_2508 : decode cL_law 2508 = .ok (.ifCond .ne 36, 3) := dk_154 0 36 (dk_at dksL_law_97 13 rfl rfl)
theorem dL_law_2511 : decode cL_law 2511 = .ok (.aload 4, 2) := dk_25 4 (dk_at dksL_law_97 16 rfl rfl)
theorem dL_law_2513 : decode cL_law 2513 = .ok (.iconst 0, 1) := dk_3 (dk_at dksL_law_97 18 rfl rfl)
theorem dL_law_2514 : decode cL_law 2514 = .ok (.daload, 1) := dk_49 (dk_at dksL_law_97 19 rfl rfl)
theorem dL_law_2515 : decode cL_law 2515 = .ok (.fload 7, 2) := dk_23 7 (dk_at dksL_law_97 20 rfl rfl)
theorem dL_law_2517 : decode cL_law 2517 = .ok (.f2d, 1) := dk_141 (dk_at dksL_law_97 22 rfl rfl)
theorem dL_law_2518 : decode cL_law 2518 = .ok (.dcmp .l, 1) := dk_151 (dk_at dksL_law_97 23 rfl rfl)
theorem dL_law_2519 : decode cL_law 2519 = .ok (.ifCond .eq 25, 3) := dk_153 0 25 (dk_at dksL_law_98 0 rfl rfl)
theorem dL_law_2522 : decode cL_law 2522 = .ok (.aload 4, 2) := dk_25 4 (dk_at dksL_law_98 3 rfl rfl)
theorem dL_law_2524 : decode cL_law 2524 = .ok (.iconst 0, 1) := dk_3 (dk_at dksL_law_98 5 rfl rfl)
theorem dL_law_2525 : decode cL_law 2525 = .ok (.daload, 1) := dk_49 (dk_at dksL_law_98 6 rfl rfl)
theorem dL_law_2526 : decode cL_law 2526 = .ok (.aload 4, 2) := dk_25 4 (dk_at dksL_law_98 7 rfl rfl)
theorem dL_law_2528 : decode cL_law 2528 = .ok (.iconst 0, 1) := dk_3 (dk_at dksL_law_98 9 rfl rfl)
theorem dL_law_2529 : decode cL_law 2529 = .ok (.daload, 1) := dk_49 (dk_at dksL_law_98 10 rfl rfl)
theorem dL_law_2530 : decode cL_law 2530 = .ok (.dcmp .l, 1) := dk_151 (dk_at dksL_law_98 11 rfl rfl)
theorem dL_law_2531 : decode cL_law 2531 = .ok (.ifCond .eq 11, 3) := dk_153 0 11 (dk_at dksL_law_98 12 rfl rfl)
theorem dL_law_2534 : decode cL_law 2534 = .ok (.fload 7, 2) := dk_23 7 (dk_at dksL_law_98 15 rfl rfl)
theorem dL_law_2536 : decode cL_law 2536 = .ok (.fload 7, 2) := dk_23 7 (dk_at dksL_law_98 17 rfl rfl)
theorem dL_law_2538 : decode cL_law 2538 = .ok (.fcmp .l, 1) := dk_149 (dk_at dksL_law_98 19 rfl rfl)
theorem dL_law_2539 : decode cL_law 2539 = .ok (.ifCond .ne 5, 3) := dk_154 0 5 (dk_at dksL_law_98 20 rfl rfl)
theorem dL_law_2542 : decode cL_law 2542 = .ok (.iconst 0, 1) := dk_3 (dk_at dksL_law_98 23 rfl rfl)
theorem dL_law_2543 : decode cL_law 2543 = .ok (.ireturn, 1) := dk_172 (dk_at dksL_law_99 0 rfl rfl)
theorem dL_law_2544 : decode cL_law 2544 = .ok (.goto 1715, 3) := dk_167 6 179 (dk_at dksL_law_99 1 rfl rfl)
theorem dL_law_2547 : decode cL_law 2547 = .ok (.aload_n 1, 1) := dk_43 (dk_at dksL_law_99 4 rfl rfl)
theorem dL_law_2548 : decode cL_law 2548 = .ok (.aload_n 0, 1) := dk_42 (dk_at dksL_law_99 5 rfl rfl)
theorem dL_law_2549 : decode cL_law 2549 = .ok (.iload 5, 2) := dk_21 5 (dk_at dksL_law_99 6 rfl rfl)
theorem dL_law_2551 : decode cL_law 2551 = .ok (.iconst 1, 1) := dk_4 (dk_at dksL_law_99 8 rfl rfl)
theorem dL_law_2552 : decode cL_law 2552 = .ok (.iadd, 1) := dk_96 (dk_at dksL_law_99 9 rfl rfl)
theorem dL_law_2553 : decode cL_law 2553 = .ok (.iaload, 1) := dk_46 (dk_at dksL_law_99 10 rfl rfl)
theorem dL_law_2554 : decode cL_law 2554 = .ok (.aload_n 0, 1) := dk_42 (dk_at dksL_law_99 11 rfl rfl)
theorem dL_law_2555 : decode cL_law 2555 = .ok (.iload 5, 2) := dk_21 5 (dk_at dksL_law_99 12 rfl rfl)
theorem dL_law_2557 : decode cL_law 2557 = .ok (.iconst 2, 1) := dk_5 (dk_at dksL_law_99 14 rfl rfl)
theorem dL_law_2558 : decode cL_law 2558 = .ok (.iadd, 1) := dk_96 (dk_at dksL_law_99 15 rfl rfl)
theorem dL_law_2559 : decode cL_law 2559 = .ok (.iaload, 1) := dk_46 (dk_at dksL_law_99 16 rfl rfl)
theorem dL_law_2560 : decode cL_law 2560 = .ok (.aload_n 3, 1) := dk_45 (dk_at dksL_law_99 17 rfl rfl)
theorem dL_law_2561 : decode cL_law 2561 = .ok (.invokestatic 336, 3) := dk_184 1 80 (dk_at dksL_law_99 18 rfl rfl)
theorem dL_law_2564 : decode cL_law 2564 = .ok (.istore 6, 2) := dk_54 6 (dk_at dksL_law_99 21 rfl rfl)
theorem dL_law_2566 : decode cL_law 2566 = .ok (.aload_n 2, 1) := dk_44 (dk_at dksL_law_99 23 rfl rfl)
theorem dL_law_2567 : decode cL_law 2567 = .ok (.aload_n 0, 1) := dk_42 (dk_at dksL_law_100 0 rfl rfl)
theorem dL_law_2568 : decode cL_law 2568 = .ok (.iload 5, 2) := dk_21 5 (dk_at dksL_law_100 1 rfl rfl)
theorem dL_law_2570 : decode cL_law 2570 = .ok (.iconst 1, 1) := dk_4 (dk_at dksL_law_100 3 rfl rfl)
theorem dL_law_2571 : decode cL_law 2571 = .ok (.iadd, 1) := dk_96 (dk_at dksL_law_100 4 rfl rfl)
theorem dL_law_2572 : decode cL_law 2572 = .ok (.iaload, 1) := dk_46 (dk_at dksL_law_100 5 rfl rfl)
theorem dL_law_2573 : decode cL_law 2573 = .ok (.aload_n 0, 1) := dk_42 (dk_at dksL_law_100 6 rfl rfl)
theorem dL_law_2574 : decode cL_law 2574 = .ok (.iload 5, 2) := dk_21 5 (dk_at dksL_law_100 7 rfl rfl)
theorem dL_law_2576 : decode cL_law 2576 = .ok (.iconst 2, 1) := dk_5 (dk_at dksL_law_100 9 rfl rfl)
theorem dL_law_2577 : decode cL_law 2577 = .ok (.iadd, 1) := dk_96 (dk_at dksL_law_100 10 rfl rfl)
theorem dL_law_2578 : decode cL_law 2578 = .ok (.iaload, 1) := dk_46 (dk_at dksL_law_100 11 rfl rfl)
theorem dL_law_2579 : decode cL_law 2579 = .ok (.invokevirtual 338, 3) := dk_182 1 82 (dk_at dksL_law_100 12 rfl rfl)
theorem dL_law_2582 : decode cL_law 2582 = .ok (.istore 7, 2) := dk_54 7 (dk_at dksL_law_100 15 rfl rfl)
theorem dL_law_2584 : decode cL_law 2584 = .ok (.aload_n 2, 1) := dk_44 (dk_at dksL_law_100 17 rfl rfl)
theorem dL_law_2585 : decode cL_law 2585 = .ok (.invokevirtual 218, 3) := dk_182 0 218 (dk_at dksL_law_100 18 rfl rfl)
theorem dL_law_2588 : decode cL_law 2588 = .ok (.iload 6, 2) := dk_21 6 (dk_at dksL_law_100 21 rfl rfl)
theorem dL_law_2590 : decode cL_law 2590 = .ok (.if_icmp .eq 5, 3) := dk_159 0 5 (dk_at dksL_law_101 0 rfl rfl)
theorem dL_law_2593 : decode cL_law 2593 = .ok (.iconst 0, 1) := dk_3 (dk_at dksL_law_101 3 rfl rfl)
theorem dL_law_2594 : decode cL_law 2594 = .ok (.ireturn, 1) := dk_172 (dk_at dksL_law_101 4 rfl rfl)
theorem dL_law_2595 : decode cL_law 2595 = .ok (.iload 6, 2) := dk_21 6 (dk_at dksL_law_101 5 rfl rfl)
theorem dL_law_2597 : decode cL_law 2597 = .ok (.ifCond .ne 15, 3) := dk_154 0 15 (dk_at dksL_law_101 7 rfl rfl)
theorem dL_law_2600 : decode cL_law 2600 = .ok (.aload_n 3, 1) := dk_45 (dk_at dksL_law_101 10 rfl rfl)
theorem dL_law_2601 : decode cL_law 2601 = .ok (.iconst 0, 1) := dk_3 (dk_at dksL_law_101 11 rfl rfl)
theorem dL_law_2602 : decode cL_law 2602 = .ok (.laload, 1) := dk_47 (dk_at dksL_law_101 12 rfl rfl)
theorem dL_law_2603 : decode cL_law 2603 = .ok (.iload 7, 2) := dk_21 7 (dk_at dksL_law_101 13 rfl rfl)
theorem dL_law_2605 : decode cL_law 2605 = .ok (.i2l, 1) := dk_133 (dk_at dksL_law_101 15 rfl rfl)
theorem dL_law_2606 : decode cL_law 2606 = .ok (.lcmp, 1) := dk_148 (dk_at dksL_law_101 16 rfl rfl)
theorem dL_law_2607 : decode cL_law 2607 = .ok (.ifCond .eq 5, 3) := dk_153 0 5 (dk_at dksL_law_101 17 rfl rfl)
theorem dL_law_2610 : decode cL_law 2610 = .ok (.iconst 0, 1) := dk_3 (dk_at dksL_law_101 20 rfl rfl)
theorem dL_law_2611 : decode cL_law 2611 = .ok (.ireturn, 1) := dk_172 (dk_at dksL_law_101 21 rfl rfl)
theorem dL_law_2612 : decode cL_law 2612 = .ok (.goto 1647, 3) := dk_167 6 111 (dk_at dksL_law_102 0 rfl rfl)
theorem dL_law_2615 : decode cL_law 2615 = .ok (.aload_n 1, 1) := dk_43 (dk_at dksL_law_102 3 rfl rfl)
theorem dL_law_2616 : decode cL_law 2616 = .ok (.aload_n 0, 1) := dk_42 (dk_at dksL_law_102 4 rfl rfl)
theorem dL_law_2617 : decode cL_law 2617 = .ok (.iload 5, 2) := dk_21 5 (dk_at dksL_law_102 5 rfl rfl)
theorem dL_law_2619 : decode cL_law 2619 = .ok (.iconst 1, 1) := dk_4 (dk_at dksL_law_102 7 rfl rfl)
theorem dL_law_2620 : decode cL_law 2620 = .ok (.iadd, 1) := dk_96 (dk_at dksL_law_102 8 rfl rfl)
theorem dL_law_2621 : decode cL_law 2621 = .ok (.iaload, 1) := dk_46 (dk_at dksL_law_102 9 rfl rfl)
theorem dL_law_2622 : decode cL_law 2622 = .ok (.aload_n 0, 1) := dk_42 (dk_at dksL_law_102 10 rfl rfl)
theorem dL_law_2623 : decode cL_law 2623 = .ok (.iload 5, 2) := dk_21 5 (dk_at dksL_law_102 11 rfl rfl)
theorem dL_law_2625 : decode cL_law 2625 = .ok (.iconst 2, 1) := dk_5 (dk_at dksL_law_102 13 rfl rfl)
theorem dL_law_2626 : decode cL_law 2626 = .ok (.iadd, 1) := dk_96 (dk_at dksL_law_102 14 rfl rfl)
theorem dL_law_2627 : decode cL_law 2627 = .ok (.iaload, 1) := dk_46 (dk_at dksL_law_102 15 rfl rfl)
theorem dL_law_2628 : decode cL_law 2628 = .ok (.aload_n 3, 1) := dk_45 (dk_at dksL_law_102 16 rfl rfl)
theorem dL_law_2629 : decode cL_law 2629 = .ok (.invokestatic 339, 3) := dk_184 1 83 (dk_at dksL_law_102 17 rfl rfl)
theorem dL_law_2632 : decode cL_law 2632 = .ok (.istore 6, 2) := dk_54 6 (dk_at dksL_law_102 20 rfl rfl)
theorem dL_law_2634 : decode cL_law 2634 = .ok (.aload_n 2, 1) := dk_44 (dk_at dksL_law_102 22 rfl rfl)
theorem dL_law_2635 : decode cL_law 2635 = .ok (.aload_n 0, 1) := dk_42 (dk_at dksL_law_102 23 rfl rfl)
theorem dL_law_2636 : decode cL_law 2636 = .ok (.iload 5, 2) := dk_21 5 (dk_at dksL_law_103 0 rfl rfl)
theorem dL_law_2638 : decode cL_law 2638 = .ok (.iconst 1, 1) := dk_4 (dk_at dksL_law_103 2 rfl rfl)
theorem dL_law_2639 : decode cL_law 2639 = .ok (.iadd, 1) := dk_96 (dk_at dksL_law_103 3 rfl rfl)
theorem dL_law_2640 : decode cL_law 2640 = .ok (.iaload, 1) := dk_46 (dk_at dksL_law_103 4 rfl rfl)
theorem dL_law_2641 : decode cL_law 2641 = .ok (.aload_n 0, 1) := dk_42 (dk_at dksL_law_103 5 rfl rfl)
theorem dL_law_2642 : decode cL_law 2642 = .ok (.iload 5, 2) := dk_21 5 (dk_at dksL_law_103 6 rfl rfl)
theorem dL_law_2644 : decode cL_law 2644 = .ok (.iconst 2, 1) := dk_5 (dk_at dksL_law_103 8 rfl rfl)
theorem dL_law_2645 : decode cL_law 2645 = .ok (.iadd, 1) := dk_96 (dk_at dksL_law_103 9 rfl rfl)
theorem dL_law_2646 : decode cL_law 2646 = .ok (.iaload, 1) := dk_46 (dk_at dksL_law_103 10 rfl rfl)
theorem dL_law_2647 : decode cL_law 2647 = .ok (.invokevirtual 341, 3) := dk_182 1 85 (dk_at dksL_law_103 11 rfl rfl)
theorem dL_law_2650 : decode cL_law 2650 = .ok (.istore 7, 2) := dk_54 7 (dk_at dksL_law_103 14 rfl rfl)
theorem dL_law_2652 : decode cL_law 2652 = .ok (.aload_n 2, 1) := dk_44 (dk_at dksL_law_103 16 rfl rfl)
theorem dL_law_2653 : decode cL_law 2653 = .ok (.invokevirtual 218, 3) := dk_182 0 218 (dk_at dksL_law_103 17 rfl rfl)
theorem dL_law_2656 : decode cL_law 2656 = .ok (.iload 6, 2) := dk_21 6 (dk_at dksL_law_103 20 rfl rfl)
theorem dL_law_2658 : decode cL_law 2658 = .ok (.if_icmp .eq 5, 3) := dk_159 0 5 (dk_at dksL_law_104 0 rfl rfl)
theorem dL_law_2661 : decode cL_law 2661 = .ok (.iconst 0, 1) := dk_3 (dk_at dksL_law_104 3 rfl rfl)
theorem dL_law_2662 : decode cL_law 2662 = .ok (.ireturn, 1) := dk_172 (dk_at dksL_law_104 4 rfl rfl)
theorem dL_law_2663 : decode cL_law 2663 = .ok (.iload 6, 2) := dk_21 6 (dk_at dksL_law_104 5 rfl rfl)
theorem dL_law_2665 : decode cL_law 2665 = .ok (.ifCond .ne 15, 3) := dk_154 0 15 (dk_at dksL_law_104 7 rfl rfl)
theorem dL_law_2668 : decode cL_law 2668 = .ok (.aload_n 3, 1) := dk_45 (dk_at dksL_law_104 10 rfl rfl)
theorem dL_law_2669 : decode cL_law 2669 = .ok (.iconst 0, 1) := dk_3 (dk_at dksL_law_104 11 rfl rfl)
theorem dL_law_2670 : decode cL_law 2670 = .ok (.laload, 1) := dk_47 (dk_at dksL_law_104 12 rfl rfl)
theorem dL_law_2671 : decode cL_law 2671 = .ok (.iload 7, 2) := dk_21 7 (dk_at dksL_law_104 13 rfl rfl)
theorem dL_law_2673 : decode cL_law 2673 = .ok (.i2l, 1) := dk_133 (dk_at dksL_law_104 15 rfl rfl)
theorem dL_law_2674 : decode cL_law 2674 = .ok (.lcmp, 1) := dk_148 (dk_at dksL_law_104 16 rfl rfl)
theorem dL_law_2675 : decode cL_law 2675 = .ok (.ifCond .eq 5, 3) := dk_153 0 5 (dk_at dksL_law_104 17 rfl rfl)
theorem dL_law_2678 : decode cL_law 2678 = .ok (.iconst 0, 1) := dk_3 (dk_at dksL_law_104 20 rfl rfl)
theorem dL_law_2679 : decode cL_law 2679 = .ok (.ireturn, 1) := dk_172 (dk_at dksL_law_104 21 rfl rfl)
theorem dL_law_2680 : decode cL_law 2680 = .ok (.goto 1579, 3) := dk_167 6 43 (dk_at dksL_law_105 0 rfl rfl)
theorem dL_law_2683 : decode cL_law 2683 = .ok (.aload_n 1, 1) := dk_43 (dk_at dksL_law_105 3 rfl rfl)
theorem dL_law_2684 : decode cL_law 2684 = .ok (.aload_n 0, 1) := dk_42 (dk_at dksL_law_105 4 rfl rfl)
theorem dL_law_2685 : decode cL_law 2685 = .ok (.iload 5, 2) := dk_21 5 (dk_at dksL_law_105 5 rfl rfl)
theorem dL_law_2687 : decode cL_law 2687 = .ok (.iconst 1, 1) := dk_4 (dk_at dksL_law_105 7 rfl rfl)
theorem dL_law_2688 : decode cL_law 2688 = .ok (.iadd, 1) := dk_96 (dk_at dksL_law_105 8 rfl rfl)
theorem dL_law_2689 : decode cL_law 2689 = .ok (.iaload, 1) := dk_46 (dk_at dksL_law_105 9 rfl rfl)
theorem dL_law_2690 : decode cL_law 2690 = .ok (.aload_n 0, 1) := dk_42 (dk_at dksL_law_105 10 rfl rfl)
theorem dL_law_2691 : decode cL_law 2691 = .ok (.iload 5, 2) := dk_21 5 (dk_at dksL_law_105 11 rfl rfl)
theorem dL_law_2693 : decode cL_law 2693 = .ok (.iconst 2, 1) := dk_5 (dk_at dksL_law_105 13 rfl rfl)
theorem dL_law_2694 : decode cL_law 2694 = .ok (.iadd, 1) := dk_96 (dk_at dksL_law_105 14 rfl rfl)
theorem dL_law_2695 : decode cL_law 2695 = .ok (.iaload, 1) := dk_46 (dk_at dksL_law_105 15 rfl rfl)
theorem dL_law_2696 : decode cL_law 2696 = .ok (.aload_n 3, 1) := dk_45 (dk_at dksL_law_105 16 rfl rfl)
theorem dL_law_2697 : decode cL_law 2697 = .ok (.invokestatic 342, 3) := dk_184 1 86 (dk_at dksL_law_105 17 rfl rfl)
theorem dL_law_2700 : decode cL_law 2700 = .ok (.istore 6, 2) := dk_54 6 (dk_at dksL_law_105 20 rfl rfl)
theorem dL_law_2702 : decode cL_law 2702 = .ok (.aload_n 2, 1) := dk_44 (dk_at dksL_law_105 22 rfl rfl)
theorem dL_law_2703 : decode cL_law 2703 = .ok (.aload_n 0, 1) := dk_42 (dk_at dksL_law_105 23 rfl rfl)
theorem dL_law_2704 : decode cL_law 2704 = .ok (.iload 5, 2) := dk_21 5 (dk_at dksL_law_106 0 rfl rfl)
theorem dL_law_2706 : decode cL_law 2706 = .ok (.iconst 1, 1) := dk_4 (dk_at dksL_law_106 2 rfl rfl)
theorem dL_law_2707 : decode cL_law 2707 = .ok (.iadd, 1) := dk_96 (dk_at dksL_law_106 3 rfl rfl)
theorem dL_law_2708 : decode cL_law 2708 = .ok (.iaload, 1) := dk_46 (dk_at dksL_law_106 4 rfl rfl)
theorem dL_law_2709 : decode cL_law 2709 = .ok (.aload_n 0, 1) := dk_42 (dk_at dksL_law_106 5 rfl rfl)
theorem dL_law_2710 : decode cL_law 2710 = .ok (.iload 5, 2) := dk_21 5 (dk_at dksL_law_106 6 rfl rfl)
theorem dL_law_2712 : decode cL_law 2712 = .ok (.iconst 2, 1) := dk_5 (dk_at dksL_law_106 8 rfl rfl)
theorem dL_law_2713 : decode cL_law 2713 = .ok (.iadd, 1) := dk_96 (dk_at dksL_law_106 9 rfl rfl)
theorem dL_law_2714 : decode cL_law 2714 = .ok (.iaload, 1) := dk_46 (dk_at dksL_law_106 10 rfl rfl)
theorem dL_law_2715 : decode cL_law 2715 = .ok (.invokevirtual 344, 3) := dk_182 1 88 (dk_at dksL_law_106 11 rfl rfl)
theorem dL_law_2718 : decode cL_law 2718 = .ok (.istore 7, 2) := dk_54 7 (dk_at dksL_law_106 14 rfl rfl)
theorem dL_law_2720 : decode cL_law 2720 = .ok (.aload_n 2, 1) := dk_44 (dk_at dksL_law_106 16 rfl rfl)
theorem dL_law_2721 : decode cL_law 2721 = .ok (.invokevirtual 218, 3) := dk_182 0 218 (dk_at dksL_law_106 17 rfl rfl)
theorem dL_law_2724 : decode cL_law 2724 = .ok (.iload 6, 2) := dk_21 6 (dk_at dksL_law_106 20 rfl rfl)
theorem dL_law_2726 : decode cL_law 2726 = .ok (.if_icmp .eq 5, 3) := dk_159 0 5 (dk_at dksL_law_107 0 rfl rfl)
theorem dL_law_2729 : decode cL_law 2729 = .ok (.iconst 0, 1) := dk_3 (dk_at dksL_law_107 3 rfl rfl)
theorem dL_law_2730 : decode cL_law 2730 = .ok (.ireturn, 1) := dk_172 (dk_at dksL_law_107 4 rfl rfl)
theorem dL_law_2731 : decode cL_law 2731 = .ok (.iload 6, 2) := dk_21 6 (dk_at dksL_law_107 5 rfl rfl)
theorem dL_law_2733 : decode cL_law 2733 = .ok (.ifCond .ne 15, 3) := dk_154 0 15 (dk_at dksL_law_107 7 rfl rfl)
theorem dL_law_2736 : decode cL_law 2736 = .ok (.aload_n 3, 1) := dk_45 (dk_at dksL_law_107 10 rfl rfl)
theorem dL_law_2737 : decode cL_law 2737 = .ok (.iconst 0, 1) := dk_3 (dk_at dksL_law_107 11 rfl rfl)
theorem dL_law_2738 : decode cL_law 2738 = .ok (.laload, 1) := dk_47 (dk_at dksL_law_107 12 rfl rfl)
theorem dL_law_2739 : decode cL_law 2739 = .ok (.iload 7, 2) := dk_21 7 (dk_at dksL_law_107 13 rfl rfl)
theorem dL_law_2741 : decode cL_law 2741 = .ok (.i2l, 1) := dk_133 (dk_at dksL_law_107 15 rfl rfl)
theorem dL_law_2742 : decode cL_law 2742 = .ok (.lcmp, 1) := dk_148 (dk_at dksL_law_107 16 rfl rfl)
theorem dL_law_2743 : decode cL_law 2743 = .ok (.ifCond .eq 5, 3) := dk_153 0 5 (dk_at dksL_law_107 17 rfl rfl)
theorem dL_law_2746 : decode cL_law 2746 = .ok (.iconst 0, 1) := dk_3 (dk_at dksL_law_107 20 rfl rfl)
theorem dL_law_2747 : decode cL_law 2747 = .ok (.ireturn, 1) := dk_172 (dk_at dksL_law_107 21 rfl rfl)
theorem dL_law_2748 : decode cL_law 2748 = .ok (.goto 1511, 3) := dk_167 5 231 (dk_at dksL_law_108 0 rfl rfl)
theorem dL_law_2751 : decode cL_law 2751 = .ok (.aload_n 1, 1) := dk_43 (dk_at dksL_law_108 3 rfl rfl)
theorem dL_law_2752 : decode cL_law 2752 = .ok (.aload_n 0, 1) := dk_42 (dk_at dksL_law_108 4 rfl rfl)
theorem dL_law_2753 : decode cL_law 2753 = .ok (.iload 5, 2) := dk_21 5 (dk_at dksL_law_108 5 rfl rfl)
theorem dL_law_2755 : decode cL_law 2755 = .ok (.iconst 1, 1) := dk_4 (dk_at dksL_law_108 7 rfl rfl)
theorem dL_law_2756 : decode cL_law 2756 = .ok (.iadd, 1) := dk_96 (dk_at dksL_law_108 8 rfl rfl)
theorem dL_law_2757 : decode cL_law 2757 = .ok (.iaload, 1) := dk_46 (dk_at dksL_law_108 9 rfl rfl)
theorem dL_law_2758 : decode cL_law 2758 = .ok (.aload_n 0, 1) := dk_42 (dk_at dksL_law_108 10 rfl rfl)
theorem dL_law_2759 : decode cL_law 2759 = .ok (.iload 5, 2) := dk_21 5 (dk_at dksL_law_108 11 rfl rfl)
theorem dL_law_2761 : decode cL_law 2761 = .ok (.iconst 2, 1) := dk_5 (dk_at dksL_law_108 13 rfl rfl)
theorem dL_law_2762 : decode cL_law 2762 = .ok (.iadd, 1) := dk_96 (dk_at dksL_law_108 14 rfl rfl)
theorem dL_law_2763 : decode cL_law 2763 = .ok (.iaload, 1) := dk_46 (dk_at dksL_law_108 15 rfl rfl)
theorem dL_law_2764 : decode cL_law 2764 = .ok (.aload_n 3, 1) := dk_45 (dk_at dksL_law_108 16 rfl rfl)
theorem dL_law_2765 : decode cL_law 2765 = .ok (.invokestatic 345, 3) := dk_184 1 89 (dk_at dksL_law_108 17 rfl rfl)
theorem dL_law_2768 : decode cL_law 2768 = .ok (.istore 6, 2) := dk_54 6 (dk_at dksL_law_108 20 rfl rfl)
theorem dL_law_2770 : decode cL_law 2770 = .ok (.aload_n 2, 1) := dk_44 (dk_at dksL_law_108 22 rfl rfl)
theorem dL_law_2771 : decode cL_law 2771 = .ok (.aload_n 0, 1) := dk_42 (dk_at dksL_law_108 23 rfl rfl)
theorem dL_law_2772 : decode cL_law 2772 = .ok (.iload 5, 2) := dk_21 5 (dk_at dksL_law_109 0 rfl rfl)
theorem dL_law_2774 : decode cL_law 2774 = .ok (.iconst 1, 1) := dk_4 (dk_at dksL_law_109 2 rfl rfl)
theorem dL_law_2775 : decode cL_law 2775 = .ok (.iadd, 1) := dk_96 (dk_at dksL_law_109 3 rfl rfl)
theorem dL_law_2776 : decode cL_law 2776 = .ok (.iaload, 1) := dk_46 (dk_at dksL_law_109 4 rfl rfl)
theorem dL_law_2777 : decode cL_law 2777 = .ok (.aload_n 0, 1) := dk_42 (dk_at dksL_law_109 5 rfl rfl)
theorem dL_law_2778 : decode cL_law 2778 = .ok (.iload 5, 2) := dk_21 5 (dk_at dksL_law_109 6 rfl rfl)
theorem dL_law_2780 : decode cL_law 2780 = .ok (.iconst 2, 1) := dk_5 (dk_at dksL_law_109 8 rfl rfl)
theorem dL_law_2781 : decode cL_law 2781 = .ok (.iadd, 1) := dk_96 (dk_at dksL_law_109 9 rfl rfl)
theorem dL_law_2782 : decode cL_law 2782 = .ok (.iaload, 1) := dk_46 (dk_at dksL_law_109 10 rfl rfl)
theorem dL_law_2783 : decode cL_law 2783 = .ok (.invokevirtual 347, 3) := dk_182 1 91 (dk_at dksL_law_109 11 rfl rfl)
theorem dL_law_2786 : decode cL_law 2786 = .ok (.istore 7, 2) := dk_54 7 (dk_at dksL_law_109 14 rfl rfl)
theorem dL_law_2788 : decode cL_law 2788 = .ok (.aload_n 2, 1) := dk_44 (dk_at dksL_law_109 16 rfl rfl)
theorem dL_law_2789 : decode cL_law 2789 = .ok (.invokevirtual 218, 3) := dk_182 0 218 (dk_at dksL_law_109 17 rfl rfl)
theorem dL_law_2792 : decode cL_law 2792 = .ok (.iload 6, 2) := dk_21 6 (dk_at dksL_law_109 20 rfl rfl)
theorem dL_law_2794 : decode cL_law 2794 = .ok (.if_icmp .eq 5, 3) := dk_159 0 5 (dk_at dksL_law_110 0 rfl rfl)
theorem dL_law_2797 : decode cL_law 2797 = .ok (.iconst 0, 1) := dk_3 (dk_at dksL_law_110 3 rfl rfl)
theorem dL_law_2798 : decode cL_law 2798 = .ok (.ireturn, 1) := dk_172 (dk_at dksL_law_110 4 rfl rfl)
theorem dL_law_2799 : decode cL_law 2799 = .ok (.iload 6, 2) := dk_21 6 (dk_at dksL_law_110 5 rfl rfl)
theorem dL_law_2801 : decode cL_law 2801 = .ok (.ifCond .ne 15, 3) := dk_154 0 15 (dk_at dksL_law_110 7 rfl rfl)
theorem dL_law_2804 : decode cL_law 2804 = .ok (.aload_n 3, 1) := dk_45 (dk_at dksL_law_110 10 rfl rfl)
theorem dL_law_2805 : decode cL_law 2805 = .ok (.iconst 0, 1) := dk_3 (dk_at dksL_law_110 11 rfl rfl)
theorem dL_law_2806 : decode cL_law 2806 = .ok (.laload, 1) := dk_47 (dk_at dksL_law_110 12 rfl rfl)
theorem dL_law_2807 : decode cL_law 2807 = .ok (.iload 7, 2) := dk_21 7 (dk_at dksL_law_110 13 rfl rfl)
theorem dL_law_2809 : decode cL_law 2809 = .ok (.i2l, 1) := dk_133 (dk_at dksL_law_110 15 rfl rfl)
theorem dL_law_2810 : decode cL_law 2810 = .ok (.lcmp, 1) := dk_148 (dk_at dksL_law_110 16 rfl rfl)
theorem dL_law_2811 : decode cL_law 2811 = .ok (.ifCond .eq 5, 3) := dk_153 0 5 (dk_at dksL_law_110 17 rfl rfl)
theorem dL_law_2814 : decode cL_law 2814 = .ok (.iconst 0, 1) := dk_3 (dk_at dksL_law_110 20 rfl rfl)
theorem dL_law_2815 : decode cL_law 2815 = .ok (.ireturn, 1) := dk_172 (dk_at dksL_law_110 21 rfl rfl)
theorem dL_law_2816 : decode cL_law 2816 = .ok (.goto 1443, 3) := dk_167 5 163 (dk_at dksL_law_111 0 rfl rfl)
theorem dL_law_2819 : decode cL_law 2819 = .ok (.aload_n 1, 1) := dk_43 (dk_at dksL_law_111 3 rfl rfl)
theorem dL_law_2820 : decode cL_law 2820 = .ok (.aload_n 0, 1) := dk_42 (dk_at dksL_law_111 4 rfl rfl)
theorem dL_law_2821 : decode cL_law 2821 = .ok (.iload 5, 2) := dk_21 5 (dk_at dksL_law_111 5 rfl rfl)
theorem dL_law_2823 : decode cL_law 2823 = .ok (.iconst 1, 1) := dk_4 (dk_at dksL_law_111 7 rfl rfl)
theorem dL_law_2824 : decode cL_law 2824 = .ok (.iadd, 1) := dk_96 (dk_at dksL_law_111 8 rfl rfl)
theorem dL_law_2825 : decode cL_law 2825 = .ok (.iaload, 1) := dk_46 (dk_at dksL_law_111 9 rfl rfl)
theorem dL_law_2826 : decode cL_law 2826 = .ok (.aload_n 3, 1) := dk_45 (dk_at dksL_law_111 10 rfl rfl)
theorem dL_law_2827 : decode cL_law 2827 = .ok (.invokestatic 348, 3) := dk_184 1 92 (dk_at dksL_law_111 11 rfl rfl)
theorem dL_law_2830 : decode cL_law 2830 = .ok (.istore 6, 2) := dk_54 6 (dk_at dksL_law_111 14 rfl rfl)
theorem dL_law_2832 : decode cL_law 2832 = .ok (.aload_n 2, 1) := dk_44 (dk_at dksL_law_111 16 rfl rfl)
theorem dL_law_2833 : decode cL_law 2833 = .ok (.aload_n 0, 1) := dk_42 (dk_at dksL_law_111 17 rfl rfl)
theorem dL_law_2834 : decode cL_law 2834 = .ok (.iload 5, 2) := dk_21 5 (dk_at dksL_law_111 18 rfl rfl)
theorem dL_law_2836 : decode cL_law 2836 = .ok (.iconst 1, 1) := dk_4 (dk_at dksL_law_111 20 rfl rfl)
theorem dL_law_2837 : decode cL_law 2837 = .ok (.iadd, 1) := dk_96 (dk_at dksL_law_111 21 rfl rfl)
theorem dL_law_2838 : decode cL_law 2838 = .ok (.iaload, 1) := dk_46 (dk_at dksL_law_111 22 rfl rfl)
theorem dL_law_2839 : decode cL_law 2839 = .ok (.invokevirtual 350, 3) := dk_182 1 94 (dk_at dksL_law_112 0 rfl rfl)
theorem dL_law_2842 : decode cL_law 2842 = .ok (.istore 7, 2) := dk_54 7 (dk_at dksL_law_112 3 rfl rfl)
theorem dL_law_2844 : decode cL_law 2844 = .ok (.aload_n 2, 1) := dk_44 (dk_at dksL_law_112 5 rfl rfl)
theorem dL_law_2845 : decode cL_law 2845 = .ok (.invokevirtual 218, 3) := dk_182 0 218 (dk_at dksL_law_112 6 rfl rfl)
theorem dL_law_2848 : decode cL_law 2848 = .ok (.iload 6, 2) := dk_21 6 (dk_at dksL_law_112 9 rfl rfl)
theorem dL_law_2850 : decode cL_law 2850 = .ok (.if_icmp .eq 5, 3) := dk_159 0 5 (dk_at dksL_law_112 11 rfl rfl)
theorem dL_law_2853 : decode cL_law 2853 = .ok (.iconst 0, 1) := dk_3 (dk_at dksL_law_112 14 rfl rfl)
theorem dL_law_2854 : decode cL_law 2854 = .ok (.ireturn, 1) := dk_172 (dk_at dksL_law_112 15 rfl rfl)
theorem dL_law_2855 : decode cL_law 2855 = .ok (.iload 6, 2) := dk_21 6 (dk_at dksL_law_112 16 rfl rfl)
theorem dL_law_2857 : decode cL_law 2857 = .ok (.ifCond .ne 15, 3) := dk_154 0 15 (dk_at dksL_law_112 18 rfl rfl)
theorem dL_law_2860 : decode cL_law 2860 = .ok (.aload_n 3, 1) := dk_45 (dk_at dksL_law_112 21 rfl rfl)
theorem dL_law_2861 : decode cL_law 2861 = .ok (.iconst 0, 1) := dk_3 (dk_at dksL_law_112 22 rfl rfl)
theorem dL_law_2862 : decode cL_law 2862 = .ok (.laload, 1) := dk_47 (dk_at dksL_law_112 23 rfl rfl)
theorem dL_law_2863 : decode cL_law 2863 = .ok (.iload 7, 2) := dk_21 7 (dk_at dksL_law_113 0 rfl rfl)
theorem dL_law_2865 : decode cL_law 2865 = .ok (.i2l, 1) := dk_133 (dk_at dksL_law_113 2 rfl rfl)
theorem dL_law_2866 : decode cL_law 2866 = .ok (.lcmp, 1) := dk_148 (dk_at dksL_law_113 3 rfl rfl)
theorem dL_law_2867 : decode cL_law 2867 = .ok (.ifCond .eq 5, 3) := dk_153 0 5 (dk_at dksL_law_113 4 rfl rfl)
theorem dL_law_2870 : decode cL_law 2870 = .ok (.iconst 0, 1) := dk_3 (dk_at dksL_law_113 7 rfl rfl)
theorem dL_law_2871 : decode cL_law 2871 = .ok (.ireturn, 1) := dk_172 (dk_at dksL_law_113 8 rfl rfl)
theorem dL_law_2872 : decode cL_law 2872 = .ok (.goto 1387, 3) := dk_167 5 107 (dk_at dksL_law_113 9 rfl rfl)
theorem dL_law_2875 : decode cL_law 2875 = .ok (.aload_n 1, 1) := dk_43 (dk_at dksL_law_113 12 rfl rfl)
theorem dL_law_2876 : decode cL_law 2876 = .ok (.aload_n 0, 1) := dk_42 (dk_at dksL_law_113 13 rfl rfl)
theorem dL_law_2877 : decode cL_law 2877 = .ok (.iload 5, 2) := dk_21 5 (dk_at dksL_law_113 14 rfl rfl)
theorem dL_law_2879 : decode cL_law 2879 = .ok (.iconst 1, 1) := dk_4 (dk_at dksL_law_113 16 rfl rfl)
theorem dL_law_2880 : decode cL_law 2880 = .ok (.iadd, 1) := dk_96 (dk_at dksL_law_113 17 rfl rfl)
theorem dL_law_2881 : decode cL_law 2881 = .ok (.iaload, 1) := dk_46 (dk_at dksL_law_113 18 rfl rfl)
theorem dL_law_2882 : decode cL_law 2882 = .ok (.aload_n 0, 1) := dk_42 (dk_at dksL_law_113 19 rfl rfl)
theorem dL_law_2883 : decode cL_law 2883 = .ok (.iload 5, 2) := dk_21 5 (dk_at dksL_law_113 20 rfl rfl)
theorem dL_law_2885 : decode cL_law 2885 = .ok (.iconst 2, 1) := dk_5 (dk_at dksL_law_113 22 rfl rfl)
theorem dL_law_2886 : decode cL_law 2886 = .ok (.iadd, 1) := dk_96 (dk_at dksL_law_113 23 rfl rfl)
theorem dL_law_2887 : decode cL_law 2887 = .ok (.iaload, 1) := dk_46 (dk_at dksL_law_114 0 rfl rfl)
theorem dL_law_2888 : decode cL_law 2888 = .ok (.aload_n 3, 1) := dk_45 (dk_at dksL_law_114 1 rfl rfl)
theorem dL_law_2889 : decode cL_law 2889 = .ok (.invokestatic 351, 3) := dk_184 1 95 (dk_at dksL_law_114 2 rfl rfl)
theorem dL_law_2892 : decode cL_law 2892 = .ok (.istore 6, 2) := dk_54 6 (dk_at dksL_law_114 5 rfl rfl)
theorem dL_law_2894 : decode cL_law 2894 = .ok (.aload_n 2, 1) := dk_44 (dk_at dksL_law_114 7 rfl rfl)
theorem dL_law_2895 : decode cL_law 2895 = .ok (.aload_n 0, 1) := dk_42 (dk_at dksL_law_114 8 rfl rfl)
theorem dL_law_2896 : decode cL_law 2896 = .ok (.iload 5, 2) := dk_21 5 (dk_at dksL_law_114 9 rfl rfl)
theorem dL_law_2898 : decode cL_law 2898 = .ok (.iconst 1, 1) := dk_4 (dk_at dksL_law_114 11 rfl rfl)
theorem dL_law_2899 : decode cL_law 2899 = .ok (.iadd, 1) := dk_96 (dk_at dksL_law_114 12 rfl rfl)
theorem dL_law_2900 : decode cL_law 2900 = .ok (.iaload, 1) := dk_46 (dk_at dksL_law_114 13 rfl rfl)
theorem dL_law_2901 : decode cL_law 2901 = .ok (.aload_n 0, 1) := dk_42 (dk_at dksL_law_114 14 rfl rfl)
theorem dL_law_2902 : decode cL_law 2902 = .ok (.iload 5, 2) := dk_21 5 (dk_at dksL_law_114 15 rfl rfl)
theorem dL_law_2904 : decode cL_law 2904 = .ok (.iconst 2, 1) := dk_5 (dk_at dksL_law_114 17 rfl rfl)
theorem dL_law_2905 : decode cL_law 2905 = .ok (.iadd, 1) := dk_96 (dk_at dksL_law_114 18 rfl rfl)
theorem dL_law_2906 : decode cL_law 2906 = .ok (.iaload, 1) := dk_46 (dk_at dksL_law_114 19 rfl rfl)
theorem dL_law_2907 : decode cL_law 2907 = .ok (.invokevirtual 353, 3) := dk_182 1 97 (dk_at dksL_law_114 20 rfl rfl)
theorem dL_law_2910 : decode cL_law 2910 = .ok (.istore 7, 2) := dk_54 7 (dk_at dksL_law_115 0 rfl rfl)
theorem dL_law_2912 : decode cL_law 2912 = .ok (.aload_n 2, 1) := dk_44 (dk_at dksL_law_115 2 rfl rfl)
theorem dL_law_2913 : decode cL_law 2913 = .ok (.invokevirtual 218, 3) := dk_182 0 218 (dk_at dksL_law_115 3 rfl rfl)
theorem dL_law_2916 : decode cL_law 2916 = .ok (.iload 6, 2) := dk_21 6 (dk_at dksL_law_115 6 rfl rfl)
theorem dL_law_2918 : decode cL_law 2918 = .ok (.if_icmp .eq 5, 3) := dk_159 0 5 (dk_at dksL_law_115 8 rfl rfl)
theorem dL_law_2921 : decode cL_law 2921 = .ok (.iconst 0, 1) := dk_3 (dk_at dksL_law_115 11 rfl rfl)
theorem dL_law_2922 : decode cL_law 2922 = .ok (.ireturn, 1) := dk_172 (dk_at dksL_law_115 12 rfl rfl)
theorem dL_law_2923 : decode cL_law 2923 = .ok (.iload 6, 2) := dk_21 6 (dk_at dksL_law_115 13 rfl rfl)
theorem dL_law_2925 : decode cL_law 2925 = .ok (.ifCond .ne 15, 3) := dk_154 0 15 (dk_at dksL_law_115 15 rfl rfl)
theorem dL_law_2928 : decode cL_law 2928 = .ok (.aload_n 3, 1) := dk_45 (dk_at dksL_law_115 18 rfl rfl)
theorem dL_law_2929 : decode cL_law 2929 = .ok (.iconst 0, 1) := dk_3 (dk_at dksL_law_115 19 rfl rfl)
theorem dL_law_2930 : decode cL_law 2930 = .ok (.laload, 1) := dk_47 (dk_at dksL_law_115 20 rfl rfl)
theorem dL_law_2931 : decode cL_law 2931 = .ok (.iload 7, 2) := dk_21 7 (dk_at dksL_law_115 21 rfl rfl)
theorem dL_law_2933 : decode cL_law 2933 = .ok (.i2l, 1) := dk_133 (dk_at dksL_law_115 23 rfl rfl)
theorem dL_law_2934 : decode cL_law 2934 = .ok (.lcmp, 1) := dk_148 (dk_at dksL_law_116 0 rfl rfl)
theorem dL_law_2935 : decode cL_law 2935 = .ok (.ifCond .eq 5, 3) := dk_153 0 5 (dk_at dksL_law_116 1 rfl rfl)
theorem dL_law_2938 : decode cL_law 2938 = .ok (.iconst 0, 1) := dk_3 (dk_at dksL_law_116 4 rfl rfl)
theorem dL_law_2939 : decode cL_law 2939 = .ok (.ireturn, 1) := dk_172 (dk_at dksL_law_116 5 rfl rfl)
theorem dL_law_2940 : decode cL_law 2940 = .ok (.goto 1319, 3) := dk_167 5 39 (dk_at dksL_law_116 6 rfl rfl)
theorem dL_law_2943 : decode cL_law 2943 = .ok (.aload_n 1, 1) := dk_43 (dk_at dksL_law_116 9 rfl rfl)
theorem dL_law_2944 : decode cL_law 2944 = .ok (.aload_n 0, 1) := dk_42 (dk_at dksL_law_116 10 rfl rfl)
theorem dL_law_2945 : decode cL_law 2945 = .ok (.iload 5, 2) := dk_21 5 (dk_at dksL_law_116 11 rfl rfl)
theorem dL_law_2947 : decode cL_law 2947 = .ok (.iconst 1, 1) := dk_4 (dk_at dksL_law_116 13 rfl rfl)
theorem dL_law_2948 : decode cL_law 2948 = .ok (.iadd, 1) := dk_96 (dk_at dksL_law_116 14 rfl rfl)
theorem dL_law_2949 : decode cL_law 2949 = .ok (.iaload, 1) := dk_46 (dk_at dksL_law_116 15 rfl rfl)
theorem dL_law_2950 : decode cL_law 2950 = .ok (.aload_n 0, 1) := dk_42 (dk_at dksL_law_116 16 rfl rfl)
theorem dL_law_2951 : decode cL_law 2951 = .ok (.iload 5, 2) := dk_21 5 (dk_at dksL_law_116 17 rfl rfl)
theorem dL_law_2953 : decode cL_law 2953 = .ok (.iconst 2, 1) := dk_5 (dk_at dksL_law_116 19 rfl rfl)
theorem dL_law_2954 : decode cL_law 2954 = .ok (.iadd, 1) := dk_96 (dk_at dksL_law_116 20 rfl rfl)
theorem dL_law_2955 : decode cL_law 2955 = .ok (.iaload, 1) := dk_46 (dk_at dksL_law_116 21 rfl rfl)
theorem dL_law_2956 : decode cL_law 2956 = .ok (.aload_n 0, 1) := dk_42 (dk_at dksL_law_116 22 rfl rfl)
theorem dL_law_2957 : decode cL_law 2957 = .ok (.iload 5, 2) := dk_21 5 (dk_at dksL_law_117 0 rfl rfl)
theorem dL_law_2959 : decode cL_law 2959 = .ok (.iconst 3, 1) := dk_6 (dk_at dksL_law_117 2 rfl rfl)
theorem dL_law_2960 : decode cL_law 2960 = .ok (.iadd, 1) := dk_96 (dk_at dksL_law_117 3 rfl rfl)
theorem dL_law_2961 : decode cL_law 2961 = .ok (.iaload, 1) := dk_46 (dk_at dksL_law_117 4 rfl rfl)
theorem dL_law_2962 : decode cL_law 2962 = .ok (.aload_n 3, 1) := dk_45 (dk_at dksL_law_117 5 rfl rfl)
theorem dL_law_2963 : decode cL_law 2963 = .ok (.invokestatic 354, 3) := dk_184 1 98 (dk_at dksL_law_117 6 rfl rfl)
theorem dL_law_2966 : decode cL_law 2966 = .ok (.istore 6, 2) := dk_54 6 (dk_at dksL_law_117 9 rfl rfl)
theorem dL_law_2968 : decode cL_law 2968 = .ok (.aload_n 2, 1) := dk_44 (dk_at dksL_law_117 11 rfl rfl)
theorem dL_law_2969 : decode cL_law 2969 = .ok (.aload_n 0, 1) := dk_42 (dk_at dksL_law_117 12 rfl rfl)
theorem dL_law_2970 : decode cL_law 2970 = .ok (.iload 5, 2) := dk_21 5 (dk_at dksL_law_117 13 rfl rfl)
theorem dL_law_2972 : decode cL_law 2972 = .ok (.iconst 1, 1) := dk_4 (dk_at dksL_law_117 15 rfl rfl)
theorem dL_law_2973 : decode cL_law 2973 = .ok (.iadd, 1) := dk_96 (dk_at dksL_law_117 16 rfl rfl)
theorem dL_law_2974 : decode cL_law 2974 = .ok (.iaload, 1) := dk_46 (dk_at dksL_law_117 17 rfl rfl)
theorem dL_law_2975 : decode cL_law 2975 = .ok (.aload_n 0, 1) := dk_42 (dk_at dksL_law_117 18 rfl rfl)
theorem dL_law_2976 : decode cL_law 2976 = .ok (.iload 5, 2) := dk_21 5 (dk_at dksL_law_117 19 rfl rfl)
theorem dL_law_2978 : decode cL_law 2978 = .ok (.iconst 2, 1) := dk_5 (dk_at dksL_law_117 21 rfl rfl)
theorem dL_law_2979 : decode cL_law 2979 = .ok (.iadd, 1) := dk_96 (dk_at dksL_law_117 22 rfl rfl)
theorem dL_law_2980 : decode cL_law 2980 = .ok (.iaload, 1) := dk_46 (dk_at dksL_law_117 23 rfl rfl)
theorem dL_law_2981 : decode cL_law 2981 = .ok (.aload_n 0, 1) := dk_42 (dk_at dksL_law_118 0 rfl rfl)
theorem dL_law_2982 : decode cL_law 2982 = .ok (.iload 5, 2) := dk_21 5 (dk_at dksL_law_118 1 rfl rfl)
theorem dL_law_2984 : decode cL_law 2984 = .ok (.iconst 3, 1) := dk_6 (dk_at dksL_law_118 3 rfl rfl)
theorem dL_law_2985 : decode cL_law 2985 = .ok (.iadd, 1) := dk_96 (dk_at dksL_law_118 4 rfl rfl)
theorem dL_law_2986 : decode cL_law 2986 = .ok (.iaload, 1) := dk_46 (dk_at dksL_law_118 5 rfl rfl)
theorem dL_law_2987 : decode cL_law 2987 = .ok (.invokevirtual 357, 3) := dk_182 1 101 (dk_at dksL_law_118 6 rfl rfl)
theorem dL_law_2990 : decode cL_law 2990 = .ok (.istore 7, 2) := dk_54 7 (dk_at dksL_law_118 9 rfl rfl)
theorem dL_law_2992 : decode cL_law 2992 = .ok (.aload_n 2, 1) := dk_44 (dk_at dksL_law_118 11 rfl rfl)
theorem dL_law_2993 : decode cL_law 2993 = .ok (.invokevirtual 218, 3) := dk_182 0 218 (dk_at dksL_law_118 12 rfl rfl)
theorem dL_law_2996 : decode cL_law 2996 = .ok (.iload 6, 2) := dk_21 6 (dk_at dksL_law_118 15 rfl rfl)
theorem dL_law_2998 : decode cL_law 2998 = .ok (.if_icmp .eq 5, 3) := dk_159 0 5 (dk_at dksL_law_118 17 rfl rfl)
theorem dL_law_3001 : decode cL_law 3001 = .ok (.iconst 0, 1) := dk_3 (dk_at dksL_law_118 20 rfl rfl)
theorem dL_law_3002 : decode cL_law 3002 = .ok (.ireturn, 1) := dk_172 (dk_at dksL_law_118 21 rfl rfl)
theorem dL_law_3003 : decode cL_law 3003 = .ok (.iload 6, 2) := dk_21 6 (dk_at dksL_law_118 22 rfl rfl)
theorem dL_law_3005 : decode cL_law 3005 = .ok (.ifCond .ne 15, 3) := dk_154 0 15 (dk_at dksL_law_119 0 rfl rfl)
theorem dL_law_3008 : decode cL_law 3008 = .ok (.aload_n 3, 1) := dk_45 (dk_at dksL_law_119 3 rfl rfl)
theorem dL_law_3009 : decode cL_law 3009 = .ok (.iconst 0, 1) := dk_3 (dk_at dksL_law_119 4 rfl rfl)
theorem dL_law_3010 : decode cL_law 3010 = .ok (.laload, 1) := dk_47 (dk_at dksL_law_119 5 rfl rfl)
theorem dL_law_3011 : decode cL_law 3011 = .ok (.iload 7, 2) := dk_21 7 (dk_at dksL_law_119 6 rfl rfl)
theorem dL_law_3013 : decode cL_law 3013 = .ok (.i2l, 1) := dk_133 (dk_at dksL_law_119 8 rfl rfl)
theorem dL_law_3014 : decode cL_law 3014 = .ok (.lcmp, 1) := dk_148 (dk_at dksL_law_119 9 rfl rfl)
theorem dL_law_3015 : decode cL_law 3015 = .ok (.ifCond .eq 5, 3) := dk_153 0 5 (dk_at dksL_law_119 10 rfl rfl)
theorem dL_law_3018 : decode cL_law 3018 = .ok (.iconst 0, 1) := dk_3 (dk_at dksL_law_119 13 rfl rfl)
theorem dL_law_3019 : decode cL_law 3019 = .ok (.ireturn, 1) := dk_172 (dk_at dksL_law_119 14 rfl rfl)
theorem dL_law_3020 : decode cL_law 3020 = .ok (.goto 1239, 3) := dk_167 4 215 (dk_at dksL_law_119 15 rfl rfl)
theorem dL_law_3023 : decode cL_law 3023 = .ok (.aload_n 1, 1) := dk_43 (dk_at dksL_law_119 18 rfl rfl)
theorem dL_law_3024 : decode cL_law 3024 = .ok (.aload_n 0, 1) := dk_42 (dk_at dksL_law_119 19 rfl rfl)
theorem dL_law_3025 : decode cL_law 3025 = .ok (.iload 5, 2) := dk_21 5 (dk_at dksL_law_119 20 rfl rfl)
theorem dL_law_3027 : decode cL_law 3027 = .ok (.iconst 1, 1) := dk_4 (dk_at dksL_law_119 22 rfl rfl)
theorem dL_law_3028 : decode cL_law 3028 = .ok (.iadd, 1) := dk_96 (dk_at dksL_law_119 23 rfl rfl)
theorem dL_law_3029 : decode cL_law 3029 = .ok (.iaload, 1) := dk_46 (dk_at dksL_law_120 0 rfl rfl)
theorem dL_law_3030 : decode cL_law 3030 = .ok (.aload_n 0, 1) := dk_42 (dk_at dksL_law_120 1 rfl rfl)
theorem dL_law_3031 : decode cL_law 3031 = .ok (.iload 5, 2) := dk_21 5 (dk_at dksL_law_120 2 rfl rfl)
theorem dL_law_3033 : decode cL_law 3033 = .ok (.iconst 2, 1) := dk_5 (dk_at dksL_law_120 4 rfl rfl)
theorem dL_law_3034 : decode cL_law 3034 = .ok (.iadd, 1) := dk_96 (dk_at dksL_law_120 5 rfl rfl)
theorem dL_law_3035 : decode cL_law 3035 = .ok (.iaload, 1) := dk_46 (dk_at dksL_law_120 6 rfl rfl)
theorem dL_law_3036 : decode cL_law 3036 = .ok (.aload_n 3, 1) := dk_45 (dk_at dksL_law_120 7 rfl rfl)
theorem dL_law_3037 : decode cL_law 3037 = .ok (.invokestatic 358, 3) := dk_184 1 102 (dk_at dksL_law_120 8 rfl rfl)
theorem dL_law_3040 : decode cL_law 3040 = .ok (.istore 6, 2) := dk_54 6 (dk_at dksL_law_120 11 rfl rfl)
theorem dL_law_3042 : decode cL_law 3042 = .ok (.aload_n 2, 1) := dk_44 (dk_at dksL_law_120 13 rfl rfl)
theorem dL_law_3043 : decode cL_law 3043 = .ok (.aload_n 0, 1) := dk_42 (dk_at dksL_law_120 14 rfl rfl)
theorem dL_law_3044 : decode cL_law 3044 = .ok (.iload 5, 2) := dk_21 5 (dk_at dksL_law_120 15 rfl rfl)
theorem dL_law_3046 : decode cL_law 3046 = .ok (.iconst 1, 1) := dk_4 (dk_at dksL_law_120 17 rfl rfl)
theorem dL_law_3047 : decode cL_law 3047 = .ok (.iadd, 1) := dk_96 (dk_at dksL_law_120 18 rfl rfl)
theorem dL_law_3048 : decode cL_law 3048 = .ok (.iaload, 1) := dk_46 (dk_at dksL_law_120 19 rfl rfl)
theorem dL_law_3049 : decode cL_law 3049 = .ok (.aload_n 0, 1) := dk_42 (dk_at dksL_law_120 20 rfl rfl)
theorem dL_law_3050 : decode cL_law 3050 = .ok (.iload 5, 2) := dk_21 5 (dk_at dksL_law_120 21 rfl rfl)
theorem dL_law_3052 : decode cL_law 3052 = .ok (.iconst 2, 1) := dk_5 (dk_at dksL_law_120 23 rfl rfl)
theorem dL_law_3053 : decode cL_law 3053 = .ok (.iadd, 1) := dk_96 (dk_at dksL_law_121 0 rfl rfl)
theorem dL_law_3054 : decode cL_law 3054 = .ok (.iaload, 1) := dk_46 (dk_at dksL_law_121 1 rfl rfl)
theorem dL_law_3055 : decode cL_law 3055 = .ok (.invokevirtual 360, 3) := dk_182 1 104 (dk_at dksL_law_121 2 rfl rfl)
theorem dL_law_3058 : decode cL_law 3058 = .ok (.istore 7, 2) := dk_54 7 (dk_at dksL_law_121 5 rfl rfl)
theorem dL_law_3060 : decode cL_law 3060 = .ok (.aload_n 2, 1) := dk_44 (dk_at dksL_law_121 7 rfl rfl)
theorem dL_law_3061 : decode cL_law 3061 = .ok (.invokevirtual 218, 3) := dk_182 0 218 (dk_at dksL_law_121 8 rfl rfl)
theorem dL_law_3064 : decode cL_law 3064 = .ok (.iload 6, 2) := dk_21 6 (dk_at dksL_law_121 11 rfl rfl)
theorem dL_law_3066 : decode cL_law 3066 = .ok (.if_icmp .eq 5, 3) := dk_159 0 5 (dk_at dksL_law_121 13 rfl rfl)
theorem dL_law_3069 : decode cL_law 3069 = .ok (.iconst 0, 1) := dk_3 (dk_at dksL_law_121 16 rfl rfl)
theorem dL_law_3070 : decode cL_law 3070 = .ok (.ireturn, 1) := dk_172 (dk_at dksL_law_121 17 rfl rfl)
theorem dL_law_3071 : decode cL_law 3071 = .ok (.iload 6, 2) := dk_21 6 (dk_at dksL_law_121 18 rfl rfl)
theorem dL_law_3073 : decode cL_law 3073 = .ok (.ifCond .ne 15, 3) := dk_154 0 15 (dk_at dksL_law_121 20 rfl rfl)
theorem dL_law_3076 : decode cL_law 3076 = .ok (.aload_n 3, 1) := dk_45 (dk_at dksL_law_121 23 rfl rfl)
theorem dL_law_3077 : decode cL_law 3077 = .ok (.iconst 0, 1) := dk_3 (dk_at dksL_law_122 0 rfl rfl)
theorem dL_law_3078 : decode cL_law 3078 = .ok (.laload, 1) := dk_47 (dk_at dksL_law_122 1 rfl rfl)
theorem dL_law_3079 : decode cL_law 3079 = .ok (.iload 7, 2) := dk_21 7 (dk_at dksL_law_122 2 rfl rfl)
theorem dL_law_3081 : decode cL_law 3081 = .ok (.i2l, 1) := dk_133 (dk_at dksL_law_122 4 rfl rfl)
theorem dL_law_3082 : decode cL_law 3082 = .ok (.lcmp, 1) := dk_148 (dk_at dksL_law_122 5 rfl rfl)
theorem dL_law_3083 : decode cL_law 3083 = .ok (.ifCond .eq 5, 3) := dk_153 0 5 (dk_at dksL_law_122 6 rfl rfl)
theorem dL_law_3086 : decode cL_law 3086 = .ok (.iconst 0, 1) := dk_3 (dk_at dksL_law_122 9 rfl rfl)
theorem dL_law_3087 : decode cL_law 3087 = .ok (.ireturn, 1) := dk_172 (dk_at dksL_law_122 10 rfl rfl)
theorem dL_law_3088 : decode cL_law 3088 = .ok (.goto 1171, 3) := dk_167 4 147 (dk_at dksL_law_122 11 rfl rfl)
theorem dL_law_3091 : decode cL_law 3091 = .ok (.aload_n 1, 1) := dk_43 (dk_at dksL_law_122 14 rfl rfl)
theorem dL_law_3092 : decode cL_law 3092 = .ok (.aload_n 0, 1) := dk_42 (dk_at dksL_law_122 15 rfl rfl)
theorem dL_law_3093 : decode cL_law 3093 = .ok (.iload 5, 2) := dk_21 5 (dk_at dksL_law_122 16 rfl rfl)
theorem dL_law_3095 : decode cL_law 3095 = .ok (.iconst 1, 1) := dk_4 (dk_at dksL_law_122 18 rfl rfl)
theorem dL_law_3096 : decode cL_law 3096 = .ok (.iadd, 1) := dk_96 (dk_at dksL_law_122 19 rfl rfl)
theorem dL_law_3097 : decode cL_law 3097 = .ok (.iaload, 1) := dk_46 (dk_at dksL_law_122 20 rfl rfl)
theorem dL_law_3098 : decode cL_law 3098 = .ok (.aload_n 0, 1) := dk_42 (dk_at dksL_law_122 21 rfl rfl)
theorem dL_law_3099 : decode cL_law 3099 = .ok (.iload 5, 2) := dk_21 5 (dk_at dksL_law_122 22 rfl rfl)
theorem dL_law_3101 : decode cL_law 3101 = .ok (.iconst 2, 1) := dk_5 (dk_at dksL_law_123 0 rfl rfl)
theorem dL_law_3102 : decode cL_law 3102 = .ok (.iadd, 1) := dk_96 (dk_at dksL_law_123 1 rfl rfl)
theorem dL_law_3103 : decode cL_law 3103 = .ok (.iaload, 1) := dk_46 (dk_at dksL_law_123 2 rfl rfl)
theorem dL_law_3104 : decode cL_law 3104 = .ok (.aload_n 3, 1) := dk_45 (dk_at dksL_law_123 3 rfl rfl)
theorem dL_law_3105 : decode cL_law 3105 = .ok (.invokestatic 361, 3) := dk_184 1 105 (dk_at dksL_law_123 4 rfl rfl)
theorem dL_law_3108 : decode cL_law 3108 = .ok (.istore 6, 2) := dk_54 6 (dk_at dksL_law_123 7 rfl rfl)
theorem dL_law_3110 : decode cL_law 3110 = .ok (.aload_n 2, 1) := dk_44 (dk_at dksL_law_123 9 rfl rfl)
theorem dL_law_3111 : decode cL_law 3111 = .ok (.aload_n 0, 1) := dk_42 (dk_at dksL_law_123 10 rfl rfl)
theorem dL_law_3112 : decode cL_law 3112 = .ok (.iload 5, 2) := dk_21 5 (dk_at dksL_law_123 11 rfl rfl)
theorem dL_law_3114 : decode cL_law 3114 = .ok (.iconst 1, 1) := dk_4 (dk_at dksL_law_123 13 rfl rfl)
theorem dL_law_3115 : decode cL_law 3115 = .ok (.iadd, 1) := dk_96 (dk_at dksL_law_123 14 rfl rfl)
theorem dL_law_3116 : decode cL_law 3116 = .ok (.iaload, 1) := dk_46 (dk_at dksL_law_123 15 rfl rfl)
theorem dL_law_3117 : decode cL_law 3117 = .ok (.aload_n 0, 1) := dk_42 (dk_at dksL_law_123 16 rfl rfl)
theorem dL_law_3118 : decode cL_law 3118 = .ok (.iload 5, 2) := dk_21 5 (dk_at dksL_law_123 17 rfl rfl)
theorem dL_law_3120 : decode cL_law 3120 = .ok (.iconst 2, 1) := dk_5 (dk_at dksL_law_123 19 rfl rfl)
theorem dL_law_3121 : decode cL_law 3121 = .ok (.iadd, 1) := dk_96 (dk_at dksL_law_123 20 rfl rfl)
theorem dL_law_3122 : decode cL_law 3122 = .ok (.iaload, 1) := dk_46 (dk_at dksL_law_123 21 rfl rfl)
theorem dL_law_3123 : decode cL_law 3123 = .ok (.invokevirtual 363, 3) := dk_182 1 107 (dk_at dksL_law_124 0 rfl rfl)
theorem dL_law_3126 : decode cL_law 3126 = .ok (.istore 7, 2) := dk_54 7 (dk_at dksL_law_124 3 rfl rfl)
theorem dL_law_3128 : decode cL_law 3128 = .ok (.aload_n 2, 1) := dk_44 (dk_at dksL_law_124 5 rfl rfl)
theorem dL_law_3129 : decode cL_law 3129 = .ok (.invokevirtual 218, 3) := dk_182 0 218 (dk_at dksL_law_124 6 rfl rfl)
theorem dL_law_3132 : decode cL_law 3132 = .ok (.iload 6, 2) := dk_21 6 (dk_at dksL_law_124 9 rfl rfl)
theorem dL_law_3134 : decode cL_law 3134 = .ok (.if_icmp .eq 5, 3) := dk_159 0 5 (dk_at dksL_law_124 11 rfl rfl)
theorem dL_law_3137 : decode cL_law 3137 = .ok (.iconst 0, 1) := dk_3 (dk_at dksL_law_124 14 rfl rfl)
theorem dL_law_3138 : decode cL_law 3138 = .ok (.ireturn, 1) := dk_172 (dk_at dksL_law_124 15 rfl rfl)
theorem dL_law_3139 : decode cL_law 3139 = .ok (.iload 6, 2) := dk_21 6 (dk_at dksL_law_124 16 rfl rfl)
theorem dL_law_3141 : decode cL_law 3141 = .ok (.ifCond .ne 15, 3) := dk_154 0 15 (dk_at dksL_law_124 18 rfl rfl)
theorem dL_law_3144 : decode cL_law 3144 = .ok (.aload_n 3, 1) := dk_45 (dk_at dksL_law_124 21 rfl rfl)
theorem dL_law_3145 : decode cL_law 3145 = .ok (.iconst 0, 1) := dk_3 (dk_at dksL_law_124 22 rfl rfl)
theorem dL_law_3146 : decode cL_law 3146 = .ok (.laload, 1) := dk_47 (dk_at dksL_law_124 23 rfl rfl)
theorem dL_law_3147 : decode cL_law 3147 = .ok (.iload 7, 2) := dk_21 7 (dk_at dksL_law_125 0 rfl rfl)
theorem dL_law_3149 : decode cL_law 3149 = .ok (.i2l, 1) := dk_133 (dk_at dksL_law_125 2 rfl rfl)
theorem dL_law_3150 : decode cL_law 3150 = .ok (.lcmp, 1) := dk_148 (dk_at dksL_law_125 3 rfl rfl)
theorem dL_law_3151 : decode cL_law 3151 = .ok (.ifCond .eq 5, 3) := dk_153 0 5 (dk_at dksL_law_125 4 rfl rfl)
theorem dL_law_3154 : decode cL_law 3154 = .ok (.iconst 0, 1) := dk_3 (dk_at dksL_law_125 7 rfl rfl)
theorem dL_law_3155 : decode cL_law 3155 = .ok (.ireturn, 1) := dk_172 (dk_at dksL_law_125 8 rfl rfl)
theorem dL_law_3156 : decode cL_law 3156 = .ok (.goto 1103, 3) := dk_167 4 79 (dk_at dksL_law_125 9 rfl rfl)
theorem dL_law_3159 : decode cL_law 3159 = .ok (.aload_n 1, 1) := dk_43 (dk_at dksL_law_125 12 rfl rfl)
theorem dL_law_3160 : decode cL_law 3160 = .ok (.aload_n 0, 1) := dk_42 (dk_at dksL_law_125 13 rfl rfl)
theorem dL_law_3161 : decode cL_law 3161 = .ok (.iload 5, 2) := dk_21 5 (dk_at dksL_law_125 14 rfl rfl)
theorem dL_law_3163 : decode cL_law 3163 = .ok (.iconst 1, 1) := dk_4 (dk_at dksL_law_125 16 rfl rfl)
theorem dL_law_3164 : decode cL_law 3164 = .ok (.iadd, 1) := dk_96 (dk_at dksL_law_125 17 rfl rfl)
theorem dL_law_3165 : decode cL_law 3165 = .ok (.iaload, 1) := dk_46 (dk_at dksL_law_125 18 rfl rfl)
theorem dL_law_3166 : decode cL_law 3166 = .ok (.aload_n 3, 1) := dk_45 (dk_at dksL_law_125 19 rfl rfl)
theorem dL_law_3167 : decode cL_law 3167 = .ok (.invokestatic 364, 3) := dk_184 1 108 (dk_at dksL_law_125 20 rfl rfl)
theorem dL_law_3170 : decode cL_law 3170 = .ok (.istore 6, 2) := dk_54 6 (dk_at dksL_law_126 0 rfl rfl)
theorem dL_law_3172 : decode cL_law 3172 = .ok (.aload_n 2, 1) := dk_44 (dk_at dksL_law_126 2 rfl rfl)
theorem dL_law_3173 : decode cL_law 3173 = .ok (.aload_n 0, 1) := dk_42 (dk_at dksL_law_126 3 rfl rfl)
theorem dL_law_3174 : decode cL_law 3174 = .ok (.iload 5, 2) := dk_21 5 (dk_at dksL_law_126 4 rfl rfl)
theorem dL_law_3176 : decode cL_law 3176 = .ok (.iconst 1, 1) := dk_4 (dk_at dksL_law_126 6 rfl rfl)
theorem dL_law_3177 : decode cL_law 3177 = .ok (.iadd, 1) := dk_96 (dk_at dksL_law_126 7 rfl rfl)
theorem dL_law_3178 : decode cL_law 3178 = .ok (.iaload, 1) := dk_46 (dk_at dksL_law_126 8 rfl rfl)
theorem dL_law_3179 : decode cL_law 3179 = .ok (.invokevirtual 366, 3) := dk_182 1 110 (dk_at dksL_law_126 9 rfl rfl)
theorem dL_law_3182 : decode cL_law 3182 = .ok (.istore 7, 2) := dk_54 7 (dk_at dksL_law_126 12 rfl rfl)
theorem dL_law_3184 : decode cL_law 3184 = .ok (.aload_n 2, 1) := dk_44 (dk_at dksL_law_126 14 rfl rfl)
theorem dL_law_3185 : decode cL_law 3185 = .ok (.invokevirtual 218, 3) := dk_182 0 218 (dk_at dksL_law_126 15 rfl rfl)
theorem dL_law_3188 : decode cL_law 3188 = .ok (.iload 6, 2) := dk_21 6 (dk_at dksL_law_126 18 rfl rfl)
theorem dL_law_3190 : decode cL_law 3190 = .ok (.if_icmp .eq 5, 3) := dk_159 0 5 (dk_at dksL_law_126 20 rfl rfl)
theorem dL_law_3193 : decode cL_law 3193 = .ok (.iconst 0, 1) := dk_3 (dk_at dksL_law_126 23 rfl rfl)
theorem dL_law_3194 : decode cL_law 3194 = .ok (.ireturn, 1) := dk_172 (dk_at dksL_law_127 0 rfl rfl)
theorem dL_law_3195 : decode cL_law 3195 = .ok (.iload 6, 2) := dk_21 6 (dk_at dksL_law_127 1 rfl rfl)
theorem dL_law_3197 : decode cL_law 3197 = .ok (.ifCond .ne 15, 3) := dk_154 0 15 (dk_at dksL_law_127 3 rfl rfl)
theorem dL_law_3200 : decode cL_law 3200 = .ok (.aload_n 3, 1) := dk_45 (dk_at dksL_law_127 6 rfl rfl)
theorem dL_law_3201 : decode cL_law 3201 = .ok (.iconst 0, 1) := dk_3 (dk_at dksL_law_127 7 rfl rfl)
theorem dL_law_3202 : decode cL_law 3202 = .ok (.laload, 1) := dk_47 (dk_at dksL_law_127 8 rfl rfl)
theorem dL_law_3203 : decode cL_law 3203 = .ok (.iload 7, 2) := dk_21 7 (dk_at dksL_law_127 9 rfl rfl)
theorem dL_law_3205 : decode cL_law 3205 = .ok (.i2l, 1) := dk_133 (dk_at dksL_law_127 11 rfl rfl)
theorem dL_law_3206 : decode cL_law 3206 = .ok (.lcmp, 1) := dk_148 (dk_at dksL_law_127 12 rfl rfl)
theorem dL_law_3207 : decode cL_law 3207 = .ok (.ifCond .eq 5, 3) := dk_153 0 5 (dk_at dksL_law_127 13 rfl rfl)
theorem dL_law_3210 : decode cL_law 3210 = .ok (.iconst 0, 1) := dk_3 (dk_at dksL_law_127 16 rfl rfl)
theorem dL_law_3211 : decode cL_law 3211 = .ok (.ireturn, 1) := dk_172 (dk_at dksL_law_127 17 rfl rfl)
theorem dL_law_3212 : decode cL_law 3212 = .ok (.goto 1047, 3) := dk_167 4 23 (dk_at dksL_law_127 18 rfl rfl)
theorem dL_law_3215 : decode cL_law 3215 = .ok (.aload_n 1, 1) := dk_43 (dk_at dksL_law_127 21 rfl rfl)
theorem dL_law_3216 : decode cL_law 3216 = .ok (.aload_n 0, 1) := dk_42 (dk_at dksL_law_127 22 rfl rfl)
theorem dL_law_3217 : decode cL_law 3217 = .ok (.iload 5, 2) := dk_21 5 (dk_at dksL_law_128 0 rfl rfl)
theorem dL_law_3219 : decode cL_law 3219 = .ok (.iconst 1, 1) := dk_4 (dk_at dksL_law_128 2 rfl rfl)
theorem dL_law_3220 : decode cL_law 3220 = .ok (.iadd, 1) := dk_96 (dk_at dksL_law_128 3 rfl rfl)
theorem dL_law_3221 : decode cL_law 3221 = .ok (.iaload, 1) := dk_46 (dk_at dksL_law_128 4 rfl rfl)
theorem dL_law_3222 : decode cL_law 3222 = .ok (.aload_n 0, 1) := dk_42 (dk_at dksL_law_128 5 rfl rfl)
theorem dL_law_3223 : decode cL_law 3223 = .ok (.iload 5, 2) := dk_21 5 (dk_at dksL_law_128 6 rfl rfl)
theorem dL_law_3225 : decode cL_law 3225 = .ok (.iconst 2, 1) := dk_5 (dk_at dksL_law_128 8 rfl rfl)
theorem dL_law_3226 : decode cL_law 3226 = .ok (.iadd, 1) := dk_96 (dk_at dksL_law_128 9 rfl rfl)
theorem dL_law_3227 : decode cL_law 3227 = .ok (.iaload, 1) := dk_46 (dk_at dksL_law_128 10 rfl rfl)
theorem dL_law_3228 : decode cL_law 3228 = .ok (.aload_n 3, 1) := dk_45 (dk_at dksL_law_128 11 rfl rfl)
theorem dL_law_3229 : decode cL_law 3229 = .ok (.invokestatic 367, 3) := dk_184 1 111 (dk_at dksL_law_128 12 rfl rfl)
theorem dL_law_3232 : decode cL_law 3232 = .ok (.istore 6, 2) := dk_54 6 (dk_at dksL_law_128 15 rfl rfl)
theorem dL_law_3234 : decode cL_law 3234 = .ok (.aload_n 2, 1) := dk_44 (dk_at dksL_law_128 17 rfl rfl)
theorem dL_law_3235 : decode cL_law 3235 = .ok (.aload_n 0, 1) := dk_42 (dk_at dksL_law_128 18 rfl rfl)
theorem dL_law_3236 : decode cL_law 3236 = .ok (.iload 5, 2) := dk_21 5 (dk_at dksL_law_128 19 rfl rfl)
theorem dL_law_3238 : decode cL_law 3238 = .ok (.iconst 1, 1) := dk_4 (dk_at dksL_law_128 21 rfl rfl)
theorem dL_law_3239 : decode cL_law 3239 = .ok (.iadd, 1) := dk_96 (dk_at dksL_law_128 22 rfl rfl)
theorem dL_law_3240 : decode cL_law 3240 = .ok (.iaload, 1) := dk_46 (dk_at dksL_law_128 23 rfl rfl)
theorem dL_law_3241 : decode cL_law 3241 = .ok (.aload_n 0, 1) := dk_42 (dk_at dksL_law_129 0 rfl rfl)
theorem dL_law_3242 : decode cL_law 3242 = .ok (.iload 5, 2) := dk_21 5 (dk_at dksL_law_129 1 rfl rfl)
theorem dL_law_3244 : decode cL_law 3244 = .ok (.iconst 2, 1) := dk_5 (dk_at dksL_law_129 3 rfl rfl)
theorem dL_law_3245 : decode cL_law 3245 = .ok (.iadd, 1) := dk_96 (dk_at dksL_law_129 4 rfl rfl)
theorem dL_law_3246 : decode cL_law 3246 = .ok (.iaload, 1) := dk_46 (dk_at dksL_law_129 5 rfl rfl)
theorem dL_law_3247 : decode cL_law 3247 = .ok (.invokevirtual 369, 3) := dk_182 1 113 (dk_at dksL_law_129 6 rfl rfl)
theorem dL_law_3250 : decode cL_law 3250 = .ok (.istore 7, 2) := dk_54 7 (dk_at dksL_law_129 9 rfl rfl)
theorem dL_law_3252 : decode cL_law 3252 = .ok (.aload_n 2, 1) := dk_44 (dk_at dksL_law_129 11 rfl rfl)
theorem dL_law_3253 : decode cL_law 3253 = .ok (.invokevirtual 218, 3) := dk_182 0 218 (dk_at dksL_law_129 12 rfl rfl)
theorem dL_law_3256 : decode cL_law 3256 = .ok (.iload 6, 2) := dk_21 6 (dk_at dksL_law_129 15 rfl rfl)
theorem dL_law_3258 : decode cL_law 3258 = .ok (.if_icmp .eq 5, 3) := dk_159 0 5 (dk_at dksL_law_129 17 rfl rfl)
theorem dL_law_3261 : decode cL_law 3261 = .ok (.iconst 0, 1) := dk_3 (dk_at dksL_law_129 20 rfl rfl)
theorem dL_law_3262 : decode cL_law 3262 = .ok (.ireturn, 1) := dk_172 (dk_at dksL_law_129 21 rfl rfl)
theorem dL_law_3263 : decode cL_law 3263 = .ok (.iload 6, 2) := dk_21 6 (dk_at dksL_law_129 22 rfl rfl)
theorem dL_law_3265 : decode cL_law 3265 = .ok (.ifCond .ne 15, 3) := dk_154 0 15 (dk_at dksL_law_130 0 rfl rfl)
theorem dL_law_3268 : decode cL_law 3268 = .ok (.aload_n 3, 1) := dk_45 (dk_at dksL_law_130 3 rfl rfl)
theorem dL_law_3269 : decode cL_law 3269 = .ok (.iconst 0, 1) := dk_3 (dk_at dksL_law_130 4 rfl rfl)
theorem dL_law_3270 : decode cL_law 3270 = .ok (.laload, 1) := dk_47 (dk_at dksL_law_130 5 rfl rfl)
theorem dL_law_3271 : decode cL_law 3271 = .ok (.iload 7, 2) := dk_21 7 (dk_at dksL_law_130 6 rfl rfl)
theorem dL_law_3273 : decode cL_law 3273 = .ok (.i2l, 1) := dk_133 (dk_at dksL_law_130 8 rfl rfl)
theorem dL_law_3274 : decode cL_law 3274 = .ok (.lcmp, 1) := dk_148 (dk_at dksL_law_130 9 rfl rfl)
theorem dL_law_3275 : decode cL_law 3275 = .ok (.ifCond .eq 5, 3) := dk_153 0 5 (dk_at dksL_law_130 10 rfl rfl)
theorem dL_law_3278 : decode cL_law 3278 = .ok (.iconst 0, 1) := dk_3 (dk_at dksL_law_130 13 rfl rfl)
theorem dL_law_3279 : decode cL_law 3279 = .ok (.ireturn, 1) := dk_172 (dk_at dksL_law_130 14 rfl rfl)
theorem dL_law_3280 : decode cL_law 3280 = .ok (.goto 979, 3) := dk_167 3 211 (dk_at dksL_law_130 15 rfl rfl)
theorem dL_law_3283 : decode cL_law 3283 = .ok (.aload_n 1, 1) := dk_43 (dk_at dksL_law_130 18 rfl rfl)
theorem dL_law_3284 : decode cL_law 3284 = .ok (.aload_n 3, 1) := dk_45 (dk_at dksL_law_130 19 rfl rfl)
theorem dL_law_3285 : decode cL_law 3285 = .ok (.invokestatic 370, 3) := dk_184 1 114 (dk_at dksL_law_130 20 rfl rfl)
theorem dL_law_3288 : decode cL_law 3288 = .ok (.istore 6, 2) := dk_54 6 (dk_at dksL_law_131 0 rfl rfl)
theorem dL_law_3290 : decode cL_law 3290 = .ok (.aload_n 2, 1) := dk_44 (dk_at dksL_law_131 2 rfl rfl)
theorem dL_law_3291 : decode cL_law 3291 = .ok (.invokevirtual 372, 3) := dk_182 1 116 (dk_at dksL_law_131 3 rfl rfl)
theorem dL_law_3294 : decode cL_law 3294 = .ok (.istore 7, 2) := dk_54 7 (dk_at dksL_law_131 6 rfl rfl)
theorem dL_law_3296 : decode cL_law 3296 = .ok (.aload_n 2, 1) := dk_44 (dk_at dksL_law_131 8 rfl rfl)
theorem dL_law_3297 : decode cL_law 3297 = .ok (.invokevirtual 218, 3) := dk_182 0 218 (dk_at dksL_law_131 9 rfl rfl)
theorem dL_law_3300 : decode cL_law 3300 = .ok (.iload 6, 2) := dk_21 6 (dk_at dksL_law_131 12 rfl rfl)
theorem dL_law_3302 : decode cL_law 3302 = .ok (.if_icmp .eq 5, 3) := dk_159 0 5 (dk_at dksL_law_131 14 rfl rfl)
theorem dL_law_3305 : decode cL_law 3305 = .ok (.iconst 0, 1) := dk_3 (dk_at dksL_law_131 17 rfl rfl)
theorem dL_law_3306 : decode cL_law 3306 = .ok (.ireturn, 1) := dk_172 (dk_at dksL_law_131 18 rfl rfl)
theorem dL_law_3307 : decode cL_law 3307 = .ok (.iload 6, 2) := dk_21 6 (dk_at dksL_law_131 19 rfl rfl)
theorem dL_law_3309 : decode cL_law 3309 = .ok (.ifCond .ne 15, 3) := dk_154 0 15 (dk_at dksL_law_131 21 rfl rfl)
theorem dL_law_3312 : decode cL_law 3312 = .ok (.aload_n 3, 1) := dk_45 (dk_at dksL_law_132 0 rfl rfl)
theorem dL_law_3313 : decode cL_law 3313 = .ok (.iconst 0, 1) := dk_3 (dk_at dksL_law_132 1 rfl rfl)
theorem dL_law_3314 : decode cL_law 3314 = .ok (.laload, 1) := dk_47 (dk_at dksL_law_132 2 rfl rfl)
theorem dL_law_3315 : decode cL_law 3315 = .ok (.iload 7, 2) := dk_21 7 (dk_at dksL_law_132 3 rfl rfl)
theorem dL_law_3317 : decode cL_law 3317 = .ok (.i2l, 1) := dk_133 (dk_at dksL_law_132 5 rfl rfl)
theorem dL_law_3318 : decode cL_law 3318 = .ok (.lcmp, 1) := dk_148 (dk_at dksL_law_132 6 rfl rfl)
theorem dL_law_3319 : decode cL_law 3319 = .ok (.ifCond .eq 5, 3) := dk_153 0 5 (dk_at dksL_law_132 7 rfl rfl)
theorem dL_law_3322 : decode cL_law 3322 = .ok (.iconst 0, 1) := dk_3 (dk_at dksL_law_132 10 rfl rfl)
theorem dL_law_3323 : decode cL_law 3323 = .ok (.ireturn, 1) := dk_172 (dk_at dksL_law_132 11 rfl rfl)
theorem dL_law_3324 : decode cL_law 3324 = .ok (.goto 935, 3) := dk_167 3 167 (dk_at dksL_law_132 12 rfl rfl)
theorem dL_law_3327 : decode cL_law 3327 = .ok (.aload_n 1, 1) := dk_43 (dk_at dksL_law_132 15 rfl rfl)
theorem dL_law_3328 : decode cL_law 3328 = .ok (.aload_n 0, 1) := dk_42 (dk_at dksL_law_132 16 rfl rfl)
theorem dL_law_3329 : decode cL_law 3329 = .ok (.iload 5, 2) := dk_21 5 (dk_at dksL_law_132 17 rfl rfl)
theorem dL_law_3331 : decode cL_law 3331 = .ok (.iconst 1, 1) := dk_4 (dk_at dksL_law_132 19 rfl rfl)
theorem dL_law_3332 : decode cL_law 3332 = .ok (.iadd, 1) := dk_96 (dk_at dksL_law_132 20 rfl rfl)
theorem dL_law_3333 : decode cL_law 3333 = .ok (.iaload, 1) := dk_46 (dk_at dksL_law_132 21 rfl rfl)
theorem dL_law_3334 : decode cL_law 3334 = .ok (.aload_n 3, 1) := dk_45 (dk_at dksL_law_132 22 rfl rfl)
theorem dL_law_3335 : decode cL_law 3335 = .ok (.invokestatic 373, 3) := dk_184 1 117 (dk_at dksL_law_133 0 rfl rfl)
theorem dL_law_3338 : decode cL_law 3338 = .ok (.istore 6, 2) := dk_54 6 (dk_at dksL_law_133 3 rfl rfl)
theorem dL_law_3340 : decode cL_law 3340 = .ok (.aload_n 2, 1) := dk_44 (dk_at dksL_law_133 5 rfl rfl)
theorem dL_law_3341 : decode cL_law 3341 = .ok (.aload_n 0, 1) := dk_42 (dk_at dksL_law_133 6 rfl rfl)
theorem dL_law_3342 : decode cL_law 3342 = .ok (.iload 5, 2) := dk_21 5 (dk_at dksL_law_133 7 rfl rfl)
theorem dL_law_3344 : decode cL_law 3344 = .ok (.iconst 1, 1) := dk_4 (dk_at dksL_law_133 9 rfl rfl)
theorem dL_law_3345 : decode cL_law 3345 = .ok (.iadd, 1) := dk_96 (dk_at dksL_law_133 10 rfl rfl)
theorem dL_law_3346 : decode cL_law 3346 = .ok (.iaload, 1) := dk_46 (dk_at dksL_law_133 11 rfl rfl)
theorem dL_law_3347 : decode cL_law 3347 = .ok (.invokevirtual 375, 3) := dk_182 1 119 (dk_at dksL_law_133 12 rfl rfl)
theorem dL_law_3350 : decode cL_law 3350 = .ok (.istore 7, 2) := dk_54 7 (dk_at dksL_law_133 15 rfl rfl)
theorem dL_law_3352 : decode cL_law 3352 = .ok (.aload_n 2, 1) := dk_44 (dk_at dksL_law_133 17 rfl rfl)
theorem dL_law_3353 : decode cL_law 3353 = .ok (.invokevirtual 218, 3) := dk_182 0 218 (dk_at dksL_law_133 18 rfl rfl)
theorem dL_law_3356 : decode cL_law 3356 = .ok (.iload 6, 2) := dk_21 6 (dk_at dksL_law_133 21 rfl rfl)
theorem dL_law_3358 : decode cL_law 3358 = .ok (.if_icmp .eq 5, 3) := dk_159 0 5 (dk_at dksL_law_134 0 rfl rfl)
theorem dL_law_3361 : decode cL_law 3361 = .ok (.iconst 0, 1) := dk_3 (dk_at dksL_law_134 3 rfl rfl)
theorem dL_law_3362 : decode cL_law 3362 = .ok (.ireturn, 1) := dk_172 (dk_at dksL_law_134 4 rfl rfl)
theorem dL_law_3363 : decode cL_law 3363 = .ok (.iload 6, 2) := dk_21 6 (dk_at dksL_law_134 5 rfl rfl)
theorem dL_law_3365 : decode cL_law 3365 = .ok (.ifCond .ne 15, 3) := dk_154 0 15 (dk_at dksL_law_134 7 rfl rfl)
theorem dL_law_3368 : decode cL_law 3368 = .ok (.aload_n 3, 1) := dk_45 (dk_at dksL_law_134 10 rfl rfl)
theorem dL_law_3369 : decode cL_law 3369 = .ok (.iconst 0, 1) := dk_3 (dk_at dksL_law_134 11 rfl rfl)
theorem dL_law_3370 : decode cL_law 3370 = .ok (.laload, 1) := dk_47 (dk_at dksL_law_134 12 rfl rfl)
theorem dL_law_3371 : decode cL_law 3371 = .ok (.iload 7, 2) := dk_21 7 (dk_at dksL_law_134 13 rfl rfl)
theorem dL_law_3373 : decode cL_law 3373 = .ok (.i2l, 1) := dk_133 (dk_at dksL_law_134 15 rfl rfl)
theorem dL_law_3374 : decode cL_law 3374 = .ok (.lcmp, 1) := dk_148 (dk_at dksL_law_134 16 rfl rfl)
theorem dL_law_3375 : decode cL_law 3375 = .ok (.ifCond .eq 5, 3) := dk_153 0 5 (dk_at dksL_law_134 17 rfl rfl)
theorem dL_law_3378 : decode cL_law 3378 = .ok (.iconst 0, 1) := dk_3 (dk_at dksL_law_134 20 rfl rfl)
theorem dL_law_3379 : decode cL_law 3379 = .ok (.ireturn, 1) := dk_172 (dk_at dksL_law_134 21 rfl rfl)
theorem dL_law_3380 : decode cL_law 3380 = .ok (.goto 879, 3) := dk_167 3 111 (dk_at dksL_law_135 0 rfl rfl)
theorem dL_law_3383 : decode cL_law 3383 = .ok (.aload_n 1, 1) := dk_43 (dk_at dksL_law_135 3 rfl rfl)
theorem dL_law_3384 : decode cL_law 3384 = .ok (.aload_n 0, 1) := dk_42 (dk_at dksL_law_135 4 rfl rfl)
theorem dL_law_3385 : decode cL_law 3385 = .ok (.iload 5, 2) := dk_21 5 (dk_at dksL_law_135 5 rfl rfl)
theorem dL_law_3387 : decode cL_law 3387 = .ok (.iconst 1, 1) := dk_4 (dk_at dksL_law_135 7 rfl rfl)
theorem dL_law_3388 : decode cL_law 3388 = .ok (.iadd, 1) := dk_96 (dk_at dksL_law_135 8 rfl rfl)
theorem dL_law_3389 : decode cL_law 3389 = .ok (.iaload, 1) := dk_46 (dk_at dksL_law_135 9 rfl rfl)
theorem dL_law_3390 : decode cL_law 3390 = .ok (.aload_n 3, 1) := dk_45 (dk_at dksL_law_135 10 rfl rfl)
theorem dL_law_3391 : decode cL_law 3391 = .ok (.invokestatic 376, 3) := dk_184 1 120 (dk_at dksL_law_135 11 rfl rfl)
theorem dL_law_3394 : decode cL_law 3394 = .ok (.istore 6, 2) := dk_54 6 (dk_at dksL_law_135 14 rfl rfl)
theorem dL_law_3396 : decode cL_law 3396 = .ok (.aload_n 2, 1) := dk_44 (dk_at dksL_law_135 16 rfl rfl)
theorem dL_law_3397 : decode cL_law 3397 = .ok (.aload_n 0, 1) := dk_42 (dk_at dksL_law_135 17 rfl rfl)
theorem dL_law_3398 : decode cL_law 3398 = .ok (.iload 5, 2) := dk_21 5 (dk_at dksL_law_135 18 rfl rfl)
theorem dL_law_3400 : decode cL_law 3400 = .ok (.iconst 1, 1) := dk_4 (dk_at dksL_law_135 20 rfl rfl)
theorem dL_law_3401 : decode cL_law 3401 = .ok (.iadd, 1) := dk_96 (dk_at dksL_law_135 21 rfl rfl)
theorem dL_law_3402 : decode cL_law 3402 = .ok (.iaload, 1) := dk_46 (dk_at dksL_law_135 22 rfl rfl)
theorem dL_law_3403 : decode cL_law 3403 = .ok (.invokevirtual 378, 3) := dk_182 1 122 (dk_at dksL_law_136 0 rfl rfl)
theorem dL_law_3406 : decode cL_law 3406 = .ok (.istore 7, 2) := dk_54 7 (dk_at dksL_law_136 3 rfl rfl)
theorem dL_law_3408 : decode cL_law 3408 = .ok (.aload_n 2, 1) := dk_44 (dk_at dksL_law_136 5 rfl rfl)
theorem dL_law_3409 : decode cL_law 3409 = .ok (.invokevirtual 218, 3) := dk_182 0 218 (dk_at dksL_law_136 6 rfl rfl)
theorem dL_law_3412 : decode cL_law 3412 = .ok (.iload 6, 2) := dk_21 6 (dk_at dksL_law_136 9 rfl rfl)
theorem dL_law_3414 : decode cL_law 3414 = .ok (.if_icmp .eq 5, 3) := dk_159 0 5 (dk_at dksL_law_136 11 rfl rfl)
theorem dL_law_3417 : decode cL_law 3417 = .ok (.iconst 0, 1) := dk_3 (dk_at dksL_law_136 14 rfl rfl)
theorem dL_law_3418 : decode cL_law 3418 = .ok (.ireturn, 1) := dk_172 (dk_at dksL_law_136 15 rfl rfl)
theorem dL_law_3419 : decode cL_law 3419 = .ok (.iload 6, 2) := dk_21 6 (dk_at dksL_law_136 16 rfl rfl)
theorem dL_law_3421 : decode cL_law 3421 = .ok (.ifCond .ne 15, 3) := dk_154 0 15 (dk_at dksL_law_136 18 rfl rfl)
theorem dL_law_3424 : decode cL_law 3424 = .ok (.aload_n 3, 1) := dk_45 (dk_at dksL_law_136 21 rfl rfl)
theorem dL_law_3425 : decode cL_law 3425 = .ok (.iconst 0, 1) := dk_3 (dk_at dksL_law_136 22 rfl rfl)
theorem dL_law_3426 : decode cL_law 3426 = .ok (.laload, 1) := dk_47 (dk_at dksL_law_136 23 rfl rfl)
theorem dL_law_3427 : decode cL_law 3427 = .ok (.iload 7, 2) := dk_21 7 (dk_at dksL_law_137 0 rfl rfl)
theorem dL_law_3429 : decode cL_law 3429 = .ok (.i2l, 1) := dk_133 (dk_at dksL_law_137 2 rfl rfl)
theorem dL_law_3430 : decode cL_law 3430 = .ok (.lcmp, 1) := dk_148 (dk_at dksL_law_137 3 rfl rfl)
theorem dL_law_3431 : decode cL_law 3431 = .ok (.ifCond .eq 5, 3) := dk_153 0 5 (dk_at dksL_law_137 4 rfl rfl)
theorem dL_law_3434 : decode cL_law 3434 = .ok (.iconst 0, 1) := dk_3 (dk_at dksL_law_137 7 rfl rfl)
theorem dL_law_3435 : decode cL_law 3435 = .ok (.ireturn, 1) := dk_172 (dk_at dksL_law_137 8 rfl rfl)
theorem dL_law_3436 : decode cL_law 3436 = .ok (.goto 823, 3) := dk_167 3 55 (dk_at dksL_law_137 9 rfl rfl)
theorem dL_law_3439 : decode cL_law 3439 = .ok (.aload_n 1, 1) := dk_43 (dk_at dksL_law_137 12 rfl rfl)
theorem dL_law_3440 : decode cL_law 3440 = .ok (.aload_n 0, 1) := dk_42 (dk_at dksL_law_137 13 rfl rfl)
theorem dL_law_3441 : decode cL_law 3441 = .ok (.iload 5, 2) := dk_21 5 (dk_at dksL_law_137 14 rfl rfl)
theorem dL_law_3443 : decode cL_law 3443 = .ok (.iconst 1, 1) := dk_4 (dk_at dksL_law_137 16 rfl rfl)
theorem dL_law_3444 : decode cL_law 3444 = .ok (.iadd, 1) := dk_96 (dk_at dksL_law_137 17 rfl rfl)
theorem dL_law_3445 : decode cL_law 3445 = .ok (.iaload, 1) := dk_46 (dk_at dksL_law_137 18 rfl rfl)
theorem dL_law_3446 : decode cL_law 3446 = .ok (.aload_n 0, 1) := dk_42 (dk_at dksL_law_137 19 rfl rfl)
theorem dL_law_3447 : decode cL_law 3447 = .ok (.iload 5, 2) := dk_21 5 (dk_at dksL_law_137 20 rfl rfl)
theorem dL_law_3449 : decode cL_law 3449 = .ok (.iconst 2, 1) := dk_5 (dk_at dksL_law_137 22 rfl rfl)
theorem dL_law_3450 : decode cL_law 3450 = .ok (.iadd, 1) := dk_96 (dk_at dksL_law_137 23 rfl rfl)
theorem dL_law_3451 : decode cL_law 3451 = .ok (.iaload, 1) := dk_46 (dk_at dksL_law_138 0 rfl rfl)
theorem dL_law_3452 : decode cL_law 3452 = .ok (.aload_n 0, 1) := dk_42 (dk_at dksL_law_138 1 rfl rfl)
theorem dL_law_3453 : decode cL_law 3453 = .ok (.iload 5, 2) := dk_21 5 (dk_at dksL_law_138 2 rfl rfl)
theorem dL_law_3455 : decode cL_law 3455 = .ok (.iconst 3, 1) := dk_6 (dk_at dksL_law_138 4 rfl rfl)
theorem dL_law_3456 : decode cL_law 3456 = .ok (.iadd, 1) := dk_96 (dk_at dksL_law_138 5 rfl rfl)
theorem dL_law_3457 : decode cL_law 3457 = .ok (.iaload, 1) := dk_46 (dk_at dksL_law_138 6 rfl rfl)
theorem dL_law_3458 : decode cL_law 3458 = .ok (.ifCond .eq 7, 3) := dk_153 0 7 (dk_at dksL_law_138 7 rfl rfl)
theorem dL_law_3461 : decode cL_law 3461 = .ok (.iconst 1, 1) := dk_4 (dk_at dksL_law_138 10 rfl rfl)
theorem dL_law_3462 : decode cL_law 3462 = .ok (.goto 4, 3) := dk_167 0 4 (dk_at dksL_law_138 11 rfl rfl)
theorem dL_law_3465 : decode cL_law 3465 = .ok (.iconst 0, 1) := dk_3 (dk_at dksL_law_138 14 rfl rfl)
theorem dL_law_3466 : decode cL_law 3466 = .ok (.aload_n 3, 1) := dk_45 (dk_at dksL_law_138 15 rfl rfl)
theorem dL_law_3467 : decode cL_law 3467 = .ok (.invokestatic 379, 3) := dk_184 1 123 (dk_at dksL_law_138 16 rfl rfl)
theorem dL_law_3470 : decode cL_law 3470 = .ok (.istore 6, 2) := dk_54 6 (dk_at dksL_law_138 19 rfl rfl)
theorem dL_law_3472 : decode cL_law 3472 = .ok (.aload_n 2, 1) := dk_44 (dk_at dksL_law_138 21 rfl rfl)
theorem dL_law_3473 : decode cL_law 3473 = .ok (.aload_n 0, 1) := dk_42 (dk_at dksL_law_138 22 rfl rfl)
theorem dL_law_3474 : decode cL_law 3474 = .ok (.iload 5, 2) := dk_21 5 (dk_at dksL_law_139 0 rfl rfl)
theorem dL_law_3476 : decode cL_law 3476 = .ok (.iconst 1, 1) := dk_4 (dk_at dksL_law_139 2 rfl rfl)
theorem dL_law_3477 : decode cL_law 3477 = .ok (.iadd, 1) := dk_96 (dk_at dksL_law_139 3 rfl rfl)
theorem dL_law_3478 : decode cL_law 3478 = .ok (.iaload, 1) := dk_46 (dk_at dksL_law_139 4 rfl rfl)
theorem dL_law_3479 : decode cL_law 3479 = .ok (.aload_n 0, 1) := dk_42 (dk_at dksL_law_139 5 rfl rfl)
theorem dL_law_3480 : decode cL_law 3480 = .ok (.iload 5, 2) := dk_21 5 (dk_at dksL_law_139 6 rfl rfl)
theorem dL_law_3482 : decode cL_law 3482 = .ok (.iconst 2, 1) := dk_5 (dk_at dksL_law_139 8 rfl rfl)
theorem dL_law_3483 : decode cL_law 3483 = .ok (.iadd, 1) := dk_96 (dk_at dksL_law_139 9 rfl rfl)
theorem dL_law_3484 : decode cL_law 3484 = .ok (.iaload, 1) := dk_46 (dk_at dksL_law_139 10 rfl rfl)
theorem dL_law_3485 : decode cL_law 3485 = .ok (.aload_n 0, 1) := dk_42 (dk_at dksL_law_139 11 rfl rfl)
theorem dL_law_3486 : decode cL_law 3486 = .ok (.iload 5, 2) := dk_21 5 (dk_at dksL_law_139 12 rfl rfl)
theorem dL_law_3488 : decode cL_law 3488 = .ok (.iconst 3, 1) := dk_6 (dk_at dksL_law_139 14 rfl rfl)
theorem dL_law_3489 : decode cL_law 3489 = .ok (.iadd, 1) := dk_96 (dk_at dksL_law_139 15 rfl rfl)
theorem dL_law_3490 : decode cL_law 3490 = .ok (.iaload, 1) := dk_46 (dk_at dksL_law_139 16 rfl rfl)
theorem dL_law_3491 : decode cL_law 3491 = .ok (.ifCond .eq 7, 3) := dk_153 0 7 (dk_at dksL_law_139 17 rfl rfl)
theorem dL_law_3494 : decode cL_law 3494 = .ok (.iconst 1, 1) := dk_4 (dk_at dksL_law_139 20 rfl rfl)
theorem dL_law_3495 : decode cL_law 3495 = .ok (.goto 4, 3) := dk_167 0 4 (dk_at dksL_law_139 21 rfl rfl)
theorem dL_law_3498 : decode cL_law 3498 = .ok (.iconst 0, 1) := dk_3 (dk_at dksL_law_140 0 rfl rfl)
theorem dL_law_3499 : decode cL_law 3499 = .ok (.invokevirtual 381, 3) := dk_182 1 125 (dk_at dksL_law_140 1 rfl rfl)
theorem dL_law_3502 : decode cL_law 3502 = .ok (.istore 7, 2) := dk_54 7 (dk_at dksL_law_140 4 rfl rfl)
theorem dL_law_3504 : decode cL_law 3504 = .ok (.aload_n 2, 1) := dk_44 (dk_at dksL_law_140 6 rfl rfl)
theorem dL_law_3505 : decode cL_law 3505 = .ok (.invokevirtual 218, 3) := dk_182 0 218 (dk_at dksL_law_140 7 rfl rfl)
theorem dL_law_3508 : decode cL_law 3508 = .ok (.iload 6, 2) := dk_21 6 (dk_at dksL_law_140 10 rfl rfl)
theorem dL_law_3510 : decode cL_law 3510 = .ok (.if_icmp .eq 5, 3) := dk_159 0 5 (dk_at dksL_law_140 12 rfl rfl)
theorem dL_law_3513 : decode cL_law 3513 = .ok (.iconst 0, 1) := dk_3 (dk_at dksL_law_140 15 rfl rfl)
theorem dL_law_3514 : decode cL_law 3514 = .ok (.ireturn, 1) := dk_172 (dk_at dksL_law_140 16 rfl rfl)
theorem dL_law_3515 : decode cL_law 3515 = .ok (.iload 6, 2) := dk_21 6 (dk_at dksL_law_140 17 rfl rfl)
theorem dL_law_3517 : decode cL_law 3517 = .ok (.ifCond .ne 15, 3) := dk_154 0 15 (dk_at dksL_law_140 19 rfl rfl)
theorem dL_law_3520 : decode cL_law 3520 = .ok (.aload_n 3, 1) := dk_45 (dk_at dksL_law_140 22 rfl rfl)
theorem dL_law_3521 : decode cL_law 3521 = .ok (.iconst 0, 1) := dk_3 (dk_at dksL_law_140 23 rfl rfl)
theorem dL_law_3522 : decode cL_law 3522 = .ok (.laload, 1) := dk_47 (dk_at dksL_law_141 0 rfl rfl)
theorem dL_law_3523 : decode cL_law 3523 = .ok (.iload 7, 2) := dk_21 7 (dk_at dksL_law_141 1 rfl rfl)
theorem dL_law_3525 : decode cL_law 3525 = .ok (.i2l, 1) := dk_133 (dk_at dksL_law_141 3 rfl rfl)
theorem dL_law_3526 : decode cL_law 3526 = .ok (.lcmp, 1) := dk_148 (dk_at dksL_law_141 4 rfl rfl)
theorem dL_law_3527 : decode cL_law 3527 = .ok (.ifCond .eq 5, 3) := dk_153 0 5 (dk_at dksL_law_141 5 rfl rfl)
theorem dL_law_3530 : decode cL_law 3530 = .ok (.iconst 0, 1) := dk_3 (dk_at dksL_law_141 8 rfl rfl)
theorem dL_law_3531 : decode cL_law 3531 = .ok (.ireturn, 1) := dk_172 (dk_at dksL_law_141 9 rfl rfl)
theorem dL_law_3532 : decode cL_law 3532 = .ok (.goto 727, 3) := dk_167 2 215 (dk_at dksL_law_141 10 rfl rfl)
theorem dL_law_3535 : decode cL_law 3535 = .ok (.aload_n 1, 1) := dk_43 (dk_at dksL_law_141 13 rfl rfl)
theorem dL_law_3536 : decode cL_law 3536 = .ok (.aload_n 0, 1) := dk_42 (dk_at dksL_law_141 14 rfl rfl)
theorem dL_law_3537 : decode cL_law 3537 = .ok (.iload 5, 2) := dk_21 5 (dk_at dksL_law_141 15 rfl rfl)
theorem dL_law_3539 : decode cL_law 3539 = .ok (.iconst 1, 1) := dk_4 (dk_at dksL_law_141 17 rfl rfl)
theorem dL_law_3540 : decode cL_law 3540 = .ok (.iadd, 1) := dk_96 (dk_at dksL_law_141 18 rfl rfl)
theorem dL_law_3541 : decode cL_law 3541 = .ok (.iaload, 1) := dk_46 (dk_at dksL_law_141 19 rfl rfl)
theorem dL_law_3542 : decode cL_law 3542 = .ok (.aload_n 0, 1) := dk_42 (dk_at dksL_law_141 20 rfl rfl)
theorem dL_law_3543 : decode cL_law 3543 = .ok (.iload 5, 2) := dk_21 5 (dk_at dksL_law_141 21 rfl rfl)
theorem dL_law_3545 : decode cL_law 3545 = .ok (.iconst 2, 1) := dk_5 (dk_at dksL_law_141 23 rfl rfl)
theorem dL_law_3546 : decode cL_law 3546 = .ok (.iadd, 1) := dk_96 (dk_at dksL_law_142 0 rfl rfl)
theorem dL_law_3547 : decode cL_law 3547 = .ok (.iaload, 1) := dk_46 (dk_at dksL_law_142 1 rfl rfl)
theorem dL_law_3548 : decode cL_law 3548 = .ok (.aload_n 3, 1) := dk_45 (dk_at dksL_law_142 2 rfl rfl)
theorem dL_law_3549 : decode cL_law 3549 = .ok (.invokestatic 382, 3) := dk_184 1 126 (dk_at dksL_law_142 3 rfl rfl)
theorem dL_law_3552 : decode cL_law 3552 = .ok (.istore 6, 2) := dk_54 6 (dk_at dksL_law_142 6 rfl rfl)
theorem dL_law_3554 : decode cL_law 3554 = .ok (.aload_n 2, 1) := dk_44 (dk_at dksL_law_142 8 rfl rfl)
theorem dL_law_3555 : decode cL_law 3555 = .ok (.aload_n 0, 1) := dk_42 (dk_at dksL_law_142 9 rfl rfl)
theorem dL_law_3556 : decode cL_law 3556 = .ok (.iload 5, 2) := dk_21 5 (dk_at dksL_law_142 10 rfl rfl)
theorem dL_law_3558 : decode cL_law 3558 = .ok (.iconst 1, 1) := dk_4 (dk_at dksL_law_142 12 rfl rfl)
theorem dL_law_3559 : decode cL_law 3559 = .ok (.iadd, 1) := dk_96 (dk_at dksL_law_142 13 rfl rfl)
theorem dL_law_3560 : decode cL_law 3560 = .ok (.iaload, 1) := dk_46 (dk_at dksL_law_142 14 rfl rfl)
theorem dL_law_3561 : decode cL_law 3561 = .ok (.aload_n 0, 1) := dk_42 (dk_at dksL_law_142 15 rfl rfl)
theorem dL_law_3562 : decode cL_law 3562 = .ok (.iload 5, 2) := dk_21 5 (dk_at dksL_law_142 16 rfl rfl)
theorem dL_law_3564 : decode cL_law 3564 = .ok (.iconst 2, 1) := dk_5 (dk_at dksL_law_142 18 rfl rfl)
theorem dL_law_3565 : decode cL_law 3565 = .ok (.iadd, 1) := dk_96 (dk_at dksL_law_142 19 rfl rfl)
theorem dL_law_3566 : decode cL_law 3566 = .ok (.iaload, 1) := dk_46 (dk_at dksL_law_142 20 rfl rfl)
theorem dL_law_3567 : decode cL_law 3567 = .ok (.invokevirtual 384, 3) := dk_182 1 128 (dk_at dksL_law_142 21 rfl rfl)
theorem dL_law_3570 : decode cL_law 3570 = .ok (.istore 7, 2) := dk_54 7 (dk_at dksL_law_143 0 rfl rfl)
theorem dL_law_3572 : decode cL_law 3572 = .ok (.aload_n 2, 1) := dk_44 (dk_at dksL_law_143 2 rfl rfl)
theorem dL_law_3573 : decode cL_law 3573 = .ok (.invokevirtual 218, 3) := dk_182 0 218 (dk_at dksL_law_143 3 rfl rfl)
theorem dL_law_3576 : decode cL_law 3576 = .ok (.iload 6, 2) := dk_21 6 (dk_at dksL_law_143 6 rfl rfl)
theorem dL_law_3578 : decode cL_law 3578 = .ok (.if_icmp .eq 5, 3) := dk_159 0 5 (dk_at dksL_law_143 8 rfl rfl)
theorem dL_law_3581 : decode cL_law 3581 = .ok (.iconst 0, 1) := dk_3 (dk_at dksL_law_143 11 rfl rfl)
theorem dL_law_3582 : decode cL_law 3582 = .ok (.ireturn, 1) := dk_172 (dk_at dksL_law_143 12 rfl rfl)
theorem dL_law_3583 : decode cL_law 3583 = .ok (.iload 6, 2) := dk_21 6 (dk_at dksL_law_143 13 rfl rfl)
theorem dL_law_3585 : decode cL_law 3585 = .ok (.ifCond .ne 15, 3) := dk_154 0 15 (dk_at dksL_law_143 15 rfl rfl)
theorem dL_law_3588 : decode cL_law 3588 = .ok (.aload_n 3, 1) := dk_45 (dk_at dksL_law_143 18 rfl rfl)
theorem dL_law_3589 : decode cL_law 3589 = .ok (.iconst 0, 1) := dk_3 (dk_at dksL_law_143 19 rfl rfl)
theorem dL_law_3590 : decode cL_law 3590 = .ok (.laload, 1) := dk_47 (dk_at dksL_law_143 20 rfl rfl)
theorem dL_law_3591 : decode cL_law 3591 = .ok (.iload 7, 2) := dk_21 7 (dk_at dksL_law_143 21 rfl rfl)
theorem dL_law_3593 : decode cL_law 3593 = .ok (.i2l, 1) := dk_133 (dk_at dksL_law_143 23 rfl rfl)
theorem dL_law_3594 : decode cL_law 3594 = .ok (.lcmp, 1) := dk_148 (dk_at dksL_law_144 0 rfl rfl)
theorem dL_law_3595 : decode cL_law 3595 = .ok (.ifCond .eq 5, 3) := dk_153 0 5 (dk_at dksL_law_144 1 rfl rfl)
theorem dL_law_3598 : decode cL_law 3598 = .ok (.iconst 0, 1) := dk_3 (dk_at dksL_law_144 4 rfl rfl)
theorem dL_law_3599 : decode cL_law 3599 = .ok (.ireturn, 1) := dk_172 (dk_at dksL_law_144 5 rfl rfl)
theorem dL_law_3600 : decode cL_law 3600 = .ok (.goto 659, 3) := dk_167 2 147 (dk_at dksL_law_144 6 rfl rfl)
theorem dL_law_3603 : decode cL_law 3603 = .ok (.aload_n 1, 1) := dk_43 (dk_at dksL_law_144 9 rfl rfl)
theorem dL_law_3604 : decode cL_law 3604 = .ok (.aload_n 0, 1) := dk_42 (dk_at dksL_law_144 10 rfl rfl)
theorem dL_law_3605 : decode cL_law 3605 = .ok (.iload 5, 2) := dk_21 5 (dk_at dksL_law_144 11 rfl rfl)
theorem dL_law_3607 : decode cL_law 3607 = .ok (.iconst 1, 1) := dk_4 (dk_at dksL_law_144 13 rfl rfl)
theorem dL_law_3608 : decode cL_law 3608 = .ok (.iadd, 1) := dk_96 (dk_at dksL_law_144 14 rfl rfl)
theorem dL_law_3609 : decode cL_law 3609 = .ok (.iaload, 1) := dk_46 (dk_at dksL_law_144 15 rfl rfl)
theorem dL_law_3610 : decode cL_law 3610 = .ok (.aload_n 0, 1) := dk_42 (dk_at dksL_law_144 16 rfl rfl)
theorem dL_law_3611 : decode cL_law 3611 = .ok (.iload 5, 2) := dk_21 5 (dk_at dksL_law_144 17 rfl rfl)
theorem dL_law_3613 : decode cL_law 3613 = .ok (.iconst 2, 1) := dk_5 (dk_at dksL_law_144 19 rfl rfl)
theorem dL_law_3614 : decode cL_law 3614 = .ok (.iadd, 1) := dk_96 (dk_at dksL_law_144 20 rfl rfl)
theorem dL_law_3615 : decode cL_law 3615 = .ok (.iaload, 1) := dk_46 (dk_at dksL_law_144 21 rfl rfl)
theorem dL_law_3616 : decode cL_law 3616 = .ok (.ifCond .eq 7, 3) := dk_153 0 7 (dk_at dksL_law_145 0 rfl rfl)
theorem dL_law_3619 : decode cL_law 3619 = .ok (.iconst 1, 1) := dk_4 (dk_at dksL_law_145 3 rfl rfl)
theorem dL_law_3620 : decode cL_law 3620 = .ok (.goto 4, 3) := dk_167 0 4 (dk_at dksL_law_145 4 rfl rfl)
theorem dL_law_3623 : decode cL_law 3623 = .ok (.iconst 0, 1) := dk_3 (dk_at dksL_law_145 7 rfl rfl)
theorem dL_law_3624 : decode cL_law 3624 = .ok (.aload_n 3, 1) := dk_45 (dk_at dksL_law_145 8 rfl rfl)
theorem dL_law_3625 : decode cL_law 3625 = .ok (.invokestatic 385, 3) := dk_184 1 129 (dk_at dksL_law_145 9 rfl rfl)
theorem dL_law_3628 : decode cL_law 3628 = .ok (.istore 6, 2) := dk_54 6 (dk_at dksL_law_145 12 rfl rfl)
theorem dL_law_3630 : decode cL_law 3630 = .ok (.aload_n 2, 1) := dk_44 (dk_at dksL_law_145 14 rfl rfl)
theorem dL_law_3631 : decode cL_law 3631 = .ok (.aload_n 0, 1) := dk_42 (dk_at dksL_law_145 15 rfl rfl)
theorem dL_law_3632 : decode cL_law 3632 = .ok (.iload 5, 2) := dk_21 5 (dk_at dksL_law_145 16 rfl rfl)
theorem dL_law_3634 : decode cL_law 3634 = .ok (.iconst 1, 1) := dk_4 (dk_at dksL_law_145 18 rfl rfl)
theorem dL_law_3635 : decode cL_law 3635 = .ok (.iadd, 1) := dk_96 (dk_at dksL_law_145 19 rfl rfl)
theorem dL_law_3636 : decode cL_law 3636 = .ok (.iaload, 1) := dk_46 (dk_at dksL_law_145 20 rfl rfl)
theorem dL_law_3637 : decode cL_law 3637 = .ok (.aload_n 0, 1) := dk_42 (dk_at dksL_law_145 21 rfl rfl)
theorem dL_law_3638 : decode cL_law 3638 = .ok (.iload 5, 2) := dk_21 5 (dk_at dksL_law_145 22 rfl rfl)
theorem dL_law_3640 : decode cL_law 3640 = .ok (.iconst 2, 1) := dk_5 (dk_at dksL_law_146 0 rfl rfl)
theorem dL_law_3641 : decode cL_law 3641 = .ok (.iadd, 1) := dk_96 (dk_at dksL_law_146 1 rfl rfl)
theorem dL_law_3642 : decode cL_law 3642 = .ok (.iaload, 1) := dk_46 (dk_at dksL_law_146 2 rfl rfl)
theorem dL_law_3643 : decode cL_law 3643 = .ok (.ifCond .eq 7, 3) := dk_153 0 7 (dk_at dksL_law_146 3 rfl rfl)
theorem dL_law_3646 : decode cL_law 3646 = .ok (.iconst 1, 1) := dk_4 (dk_at dksL_law_146 6 rfl rfl)
theorem dL_law_3647 : decode cL_law 3647 = .ok (.goto 4, 3) := dk_167 0 4 (dk_at dksL_law_146 7 rfl rfl)
theorem dL_law_3650 : decode cL_law 3650 = .ok (.iconst 0, 1) := dk_3 (dk_at dksL_law_146 10 rfl rfl)
theorem dL_law_3651 : decode cL_law 3651 = .ok (.invokevirtual 387, 3) := dk_182 1 131 (dk_at dksL_law_146 11 rfl rfl)
theorem dL_law_3654 : decode cL_law 3654 = .ok (.istore 7, 2) := dk_54 7 (dk_at dksL_law_146 14 rfl rfl)
theorem dL_law_3656 : decode cL_law 3656 = .ok (.aload_n 2, 1) := dk_44 (dk_at dksL_law_146 16 rfl rfl)
theorem dL_law_3657 : decode cL_law 3657 = .ok (.invokevirtual 218, 3) := dk_182 0 218 (dk_at dksL_law_146 17 rfl rfl)
theorem dL_law_3660 : decode cL_law 3660 = .ok (.iload 6, 2) := dk_21 6 (dk_at dksL_law_146 20 rfl rfl)
theorem dL_law_3662 : decode cL_law 3662 = .ok (.if_icmp .eq 5, 3) := dk_159 0 5 (dk_at dksL_law_147 0 rfl rfl)
theorem dL_law_3665 : decode cL_law 3665 = .ok (.iconst 0, 1) := dk_3 (dk_at dksL_law_147 3 rfl rfl)
theorem dL_law_3666 : decode cL_law 3666 = .ok (.ireturn, 1) := dk_172 (dk_at dksL_law_147 4 rfl rfl)
theorem dL_law_3667 : decode cL_law 3667 = .ok (.iload 6, 2) := dk_21 6 (dk_at dksL_law_147 5 rfl rfl)
theorem dL_law_3669 : decode cL_law 3669 = .ok (.ifCond .ne 22, 3) := dk_154 0 22 (dk_at dksL_law_147 7 rfl rfl)
theorem dL_law_3672 : decode cL_law 3672 = .ok (.aload_n 3, 1) := dk_45 (dk_at dksL_law_147 10 rfl rfl)
theorem dL_law_3673 : decode cL_law 3673 = .ok (.iconst 0, 1) := dk_3 (dk_at dksL_law_147 11 rfl rfl)
theorem dL_law_3674 : decode cL_law 3674 = .ok (.laload, 1) := dk_47 (dk_at dksL_law_147 12 rfl rfl)
theorem dL_law_3675 : decode cL_law 3675 = .ok (.iload 7, 2) := dk_21 7 (dk_at dksL_law_147 13 rfl rfl)
theorem dL_law_3677 : decode cL_law 3677 = .ok (.ifCond .eq 7, 3) := dk_153 0 7 (dk_at dksL_law_147 15 rfl rfl)
theorem dL_law_3680 : decode cL_law 3680 = .ok (.lconst 1, 1) := dk_10 (dk_at dksL_law_147 18 rfl rfl)
theorem dL_law_3681 : decode cL_law 3681 = .ok (.goto 4, 3) := dk_167 0 4 (dk_at dksL_law_147 19 rfl rfl)
theorem dL_law_3684 : decode cL_law 3684 = .ok (.lconst 0, 1) := dk_9 (dk_at dksL_law_147 22 rfl rfl)
theorem dL_law_3685 : decode cL_law 3685 = .ok (.lcmp, 1) := dk_148 (dk_at dksL_law_147 23 rfl rfl)
theorem dL_law_3686 : decode cL_law 3686 = .ok (.ifCond .eq 5, 3) := dk_153 0 5 (dk_at dksL_law_148 0 rfl rfl)
theorem dL_law_3689 : decode cL_law 3689 = .ok (.iconst 0, 1) := dk_3 (dk_at dksL_law_148 3 rfl rfl)
theorem dL_law_3690 : decode cL_law 3690 = .ok (.ireturn, 1) := dk_172 (dk_at dksL_law_148 4 rfl rfl)
theorem dL_law_3691 : decode cL_law 3691 = .ok (.goto 568, 3) := dk_167 2 56 (dk_at dksL_law_148 5 rfl rfl)
theorem dL_law_3694 : decode cL_law 3694 = .ok (.aload_n 1, 1) := dk_43 (dk_at dksL_law_148 8 rfl rfl)
theorem dL_law_3695 : decode cL_law 3695 = .ok (.aload_n 0, 1) := dk_42 (dk_at dksL_law_148 9 rfl rfl)
theorem dL_law_3696 : decode cL_law 3696 = .ok (.iload 5, 2) := dk_21 5 (dk_at dksL_law_148 10 rfl rfl)
theorem dL_law_3698 : decode cL_law 3698 = .ok (.iconst 1, 1) := dk_4 (dk_at dksL_law_148 12 rfl rfl)
theorem dL_law_3699 : decode cL_law 3699 = .ok (.iadd, 1) := dk_96 (dk_at dksL_law_148 13 rfl rfl)
theorem dL_law_3700 : decode cL_law 3700 = .ok (.iaload, 1) := dk_46 (dk_at dksL_law_148 14 rfl rfl)
theorem dL_law_3701 : decode cL_law 3701 = .ok (.aload_n 3, 1) := dk_45 (dk_at dksL_law_148 15 rfl rfl)
theorem dL_law_3702 : decode cL_law 3702 = .ok (.invokestatic 388, 3) := dk_184 1 132 (dk_at dksL_law_148 16 rfl rfl)
theorem dL_law_3705 : decode cL_law 3705 = .ok (.istore 6, 2) := dk_54 6 (dk_at dksL_law_148 19 rfl rfl)
theorem dL_law_3707 : decode cL_law 3707 = .ok (.aload_n 2, 1) := dk_44 (dk_at dksL_law_148 21 rfl rfl)
theorem dL_law_3708 : decode cL_law 3708 = .ok (.aload_n 0, 1) := dk_42 (dk_at dksL_law_148 22 rfl rfl)
theorem dL_law_3709 : decode cL_law 3709 = .ok (.iload 5, 2) := dk_21 5 (dk_at dksL_law_149 0 rfl rfl)
theorem dL_law_3711 : decode cL_law 3711 = .ok (.iconst 1, 1) := dk_4 (dk_at dksL_law_149 2 rfl rfl)
theorem dL_law_3712 : decode cL_law 3712 = .ok (.iadd, 1) := dk_96 (dk_at dksL_law_149 3 rfl rfl)
theorem dL_law_3713 : decode cL_law 3713 = .ok (.iaload, 1) := dk_46 (dk_at dksL_law_149 4 rfl rfl)
theorem dL_law_3714 : decode cL_law 3714 = .ok (.invokevirtual 390, 3) := dk_182 1 134 (dk_at dksL_law_149 5 rfl rfl)
theorem dL_law_3717 : decode cL_law 3717 = .ok (.istore 7, 2) := dk_54 7 (dk_at dksL_law_149 8 rfl rfl)
theorem dL_law_3719 : decode cL_law 3719 = .ok (.aload_n 2, 1) := dk_44 (dk_at dksL_law_149 10 rfl rfl)
theorem dL_law_3720 : decode cL_law 3720 = .ok (.invokevirtual 218, 3) := dk_182 0 218 (dk_at dksL_law_149 11 rfl rfl)
theorem dL_law_3723 : decode cL_law 3723 = .ok (.iload 6, 2) := dk_21 6 (dk_at dksL_law_149 14 rfl rfl)
theorem dL_law_3725 : decode cL_law 3725 = .ok (.if_icmp .eq 5, 3) := dk_159 0 5 (dk_at dksL_law_149 16 rfl rfl)
theorem dL_law_3728 : decode cL_law 3728 = .ok (.iconst 0, 1) := dk_3 (dk_at dksL_law_149 19 rfl rfl)
theorem dL_law_3729 : decode cL_law 3729 = .ok (.ireturn, 1) := dk_172 (dk_at dksL_law_149 20 rfl rfl)
theorem dL_law_3730 : decode cL_law 3730 = .ok (.iload 6, 2) := dk_21 6 (dk_at dksL_law_149 21 rfl rfl)
theorem dL_law_3732 : decode cL_law 3732 = .ok (.ifCond .ne 15, 3) := dk_154 0 15 (dk_at dksL_law_150 0 rfl rfl)
theorem dL_law_3735 : decode cL_law 3735 = .ok (.aload_n 3, 1) := dk_45 (dk_at dksL_law_150 3 rfl rfl)
theorem dL_law_3736 : decode cL_law 3736 = .ok (.iconst 0, 1) := dk_3 (dk_at dksL_law_150 4 rfl rfl)
theorem dL_law_3737 : decode cL_law 3737 = .ok (.laload, 1) := dk_47 (dk_at dksL_law_150 5 rfl rfl)
theorem dL_law_3738 : decode cL_law 3738 = .ok (.iload 7, 2) := dk_21 7 (dk_at dksL_law_150 6 rfl rfl)
theorem dL_law_3740 : decode cL_law 3740 = .ok (.i2l, 1) := dk_133 (dk_at dksL_law_150 8 rfl rfl)
theorem dL_law_3741 : decode cL_law 3741 = .ok (.lcmp, 1) := dk_148 (dk_at dksL_law_150 9 rfl rfl)
theorem dL_law_3742 : decode cL_law 3742 = .ok (.ifCond .eq 5, 3) := dk_153 0 5 (dk_at dksL_law_150 10 rfl rfl)
theorem dL_law_3745 : decode cL_law 3745 = .ok (.iconst 0, 1) := dk_3 (dk_at dksL_law_150 13 rfl rfl)
theorem dL_law_3746 : decode cL_law 3746 = .ok (.ireturn, 1) := dk_172 (dk_at dksL_law_150 14 rfl rfl)
theorem dL_law_3747 : decode cL_law 3747 = .ok (.goto 512, 3) := dk_167 2 0 (dk_at dksL_law_150 15 rfl rfl)
theorem dL_law_3750 : decode cL_law 3750 = .ok (.aload_n 1, 1) := dk_43 (dk_at dksL_law_150 18 rfl rfl)
theorem dL_law_3751 : decode cL_law 3751 = .ok (.aload_n 0, 1) := dk_42 (dk_at dksL_law_150 19 rfl rfl)
theorem dL_law_3752 : decode cL_law 3752 = .ok (.iload 5, 2) := dk_21 5 (dk_at dksL_law_150 20 rfl rfl)
theorem dL_law_3754 : decode cL_law 3754 = .ok (.iconst 1, 1) := dk_4 (dk_at dksL_law_150 22 rfl rfl)
theorem dL_law_3755 : decode cL_law 3755 = .ok (.iadd, 1) := dk_96 (dk_at dksL_law_150 23 rfl rfl)
theorem dL_law_3756 : decode cL_law 3756 = .ok (.iaload, 1) := dk_46 (dk_at dksL_law_151 0 rfl rfl)
theorem dL_law_3757 : decode cL_law 3757 = .ok (.aload_n 0, 1) := dk_42 (dk_at dksL_law_151 1 rfl rfl)
theorem dL_law_3758 : decode cL_law 3758 = .ok (.iload 5, 2) := dk_21 5 (dk_at dksL_law_151 2 rfl rfl)
theorem dL_law_3760 : decode cL_law 3760 = .ok (.iconst 2, 1) := dk_5 (dk_at dksL_law_151 4 rfl rfl)
theorem dL_law_3761 : decode cL_law 3761 = .ok (.iadd, 1) := dk_96 (dk_at dksL_law_151 5 rfl rfl)
theorem dL_law_3762 : decode cL_law 3762 = .ok (.iaload, 1) := dk_46 (dk_at dksL_law_151 6 rfl rfl)
theorem dL_law_3763 : decode cL_law 3763 = .ok (.aload_n 3, 1) := dk_45 (dk_at dksL_law_151 7 rfl rfl)
theorem dL_law_3764 : decode cL_law 3764 = .ok (.invokestatic 391, 3) := dk_184 1 135 (dk_at dksL_law_151 8 rfl rfl)
theorem dL_law_3767 : decode cL_law 3767 = .ok (.istore 6, 2) := dk_54 6 (dk_at dksL_law_151 11 rfl rfl)
theorem dL_law_3769 : decode cL_law 3769 = .ok (.aload_n 2, 1) := dk_44 (dk_at dksL_law_151 13 rfl rfl)
theorem dL_law_3770 : decode cL_law 3770 = .ok (.aload_n 0, 1) := dk_42 (dk_at dksL_law_151 14 rfl rfl)
theorem dL_law_3771 : decode cL_law 3771 = .ok (.iload 5, 2) := dk_21 5 (dk_at dksL_law_151 15 rfl rfl)
theorem dL_law_3773 : decode cL_law 3773 = .ok (.iconst 1, 1) := dk_4 (dk_at dksL_law_151 17 rfl rfl)
theorem dL_law_3774 : decode cL_law 3774 = .ok (.iadd, 1) := dk_96 (dk_at dksL_law_151 18 rfl rfl)
theorem dL_law_3775 : decode cL_law 3775 = .ok (.iaload, 1) := dk_46 (dk_at dksL_law_151 19 rfl rfl)
theorem dL_law_3776 : decode cL_law 3776 = .ok (.aload_n 0, 1) := dk_42 (dk_at dksL_law_151 20 rfl rfl)
theorem dL_law_3777 : decode cL_law 3777 = .ok (.iload 5, 2) := dk_21 5 (dk_at dksL_law_151 21 rfl rfl)
theorem dL_law_3779 : decode cL_law 3779 = .ok (.iconst 2, 1) := dk_5 (dk_at dksL_law_151 23 rfl rfl)
theorem dL_law_3780 : decode cL_law 3780 = .ok (.iadd, 1) := dk_96 (dk_at dksL_law_152 0 rfl rfl)
theorem dL_law_3781 : decode cL_law 3781 = .ok (.iaload, 1) := dk_46 (dk_at dksL_law_152 1 rfl rfl)
theorem dL_law_3782 : decode cL_law 3782 = .ok (.invokevirtual 393, 3) := dk_182 1 137 (dk_at dksL_law_152 2 rfl rfl)
theorem dL_law_3785 : decode cL_law 3785 = .ok (.istore 7, 2) := dk_54 7 (dk_at dksL_law_152 5 rfl rfl)
theorem dL_law_3787 : decode cL_law 3787 = .ok (.aload_n 2, 1) := dk_44 (dk_at dksL_law_152 7 rfl rfl)
theorem dL_law_3788 : decode cL_law 3788 = .ok (.invokevirtual 218, 3) := dk_182 0 218 (dk_at dksL_law_152 8 rfl rfl)
theorem dL_law_3791 : decode cL_law 3791 = .ok (.iload 6, 2) := dk_21 6 (dk_at dksL_law_152 11 rfl rfl)
theorem dL_law_3793 : decode cL_law 3793 = .ok (.if_icmp .eq 5, 3) := dk_159 0 5 (dk_at dksL_law_152 13 rfl rfl)
theorem dL_law_3796 : decode cL_law 3796 = .ok (.iconst 0, 1) := dk_3 (dk_at dksL_law_152 16 rfl rfl)
theorem dL_law_3797 : decode cL_law 3797 = .ok (.ireturn, 1) := dk_172 (dk_at dksL_law_152 17 rfl rfl)
theorem dL_law_3798 : decode cL_law 3798 = .ok (.iload 6, 2) := dk_21 6 (dk_at dksL_law_152 18 rfl rfl)
theorem dL_law_3800 : decode cL_law 3800 = .ok (.ifCond .ne 15, 3) := dk_154 0 15 (dk_at dksL_law_152 20 rfl rfl)
theorem dL_law_3803 : decode cL_law 3803 = .ok (.aload_n 3, 1) := dk_45 (dk_at dksL_law_152 23 rfl rfl)
theorem dL_law_3804 : decode cL_law 3804 = .ok (.iconst 0, 1) := dk_3 (dk_at dksL_law_153 0 rfl rfl)
theorem dL_law_3805 : decode cL_law 3805 = .ok (.laload, 1) := dk_47 (dk_at dksL_law_153 1 rfl rfl)
theorem dL_law_3806 : decode cL_law 3806 = .ok (.iload 7, 2) := dk_21 7 (dk_at dksL_law_153 2 rfl rfl)
theorem dL_law_3808 : decode cL_law 3808 = .ok (.i2l, 1) := dk_133 (dk_at dksL_law_153 4 rfl rfl)
theorem dL_law_3809 : decode cL_law 3809 = .ok (.lcmp, 1) := dk_148 (dk_at dksL_law_153 5 rfl rfl)
theorem dL_law_3810 : decode cL_law 3810 = .ok (.ifCond .eq 5, 3) := dk_153 0 5 (dk_at dksL_law_153 6 rfl rfl)
theorem dL_law_3813 : decode cL_law 3813 = .ok (.iconst 0, 1) := dk_3 (dk_at dksL_law_153 9 rfl rfl)
theorem dL_law_3814 : decode cL_law 3814 = .ok (.ireturn, 1) := dk_172 (dk_at dksL_law_153 10 rfl rfl)
theorem dL_law_3815 : decode cL_law 3815 = .ok (.goto 444, 3) := dk_167 1 188 (dk_at dksL_law_153 11 rfl rfl)
theorem dL_law_3818 : decode cL_law 3818 = .ok (.aload_n 1, 1) := dk_43 (dk_at dksL_law_153 14 rfl rfl)
theorem dL_law_3819 : decode cL_law 3819 = .ok (.aload_n 0, 1) := dk_42 (dk_at dksL_law_153 15 rfl rfl)
theorem dL_law_3820 : decode cL_law 3820 = .ok (.iload 5, 2) := dk_21 5 (dk_at dksL_law_153 16 rfl rfl)
theorem dL_law_3822 : decode cL_law 3822 = .ok (.iconst 1, 1) := dk_4 (dk_at dksL_law_153 18 rfl rfl)
theorem dL_law_3823 : decode cL_law 3823 = .ok (.iadd, 1) := dk_96 (dk_at dksL_law_153 19 rfl rfl)
theorem dL_law_3824 : decode cL_law 3824 = .ok (.iaload, 1) := dk_46 (dk_at dksL_law_153 20 rfl rfl)
theorem dL_law_3825 : decode cL_law 3825 = .ok (.aload_n 0, 1) := dk_42 (dk_at dksL_law_153 21 rfl rfl)
theorem dL_law_3826 : decode cL_law 3826 = .ok (.iload 5, 2) := dk_21 5 (dk_at dksL_law_153 22 rfl rfl)
theorem dL_law_3828 : decode cL_law 3828 = .ok (.iconst 2, 1) := dk_5 (dk_at dksL_law_154 0 rfl rfl)
theorem dL_law_3829 : decode cL_law 3829 = .ok (.iadd, 1) := dk_96 (dk_at dksL_law_154 1 rfl rfl)
theorem dL_law_3830 : decode cL_law 3830 = .ok (.iaload, 1) := dk_46 (dk_at dksL_law_154 2 rfl rfl)
theorem dL_law_3831 : decode cL_law 3831 = .ok (.aload_n 0, 1) := dk_42 (dk_at dksL_law_154 3 rfl rfl)
theorem dL_law_3832 : decode cL_law 3832 = .ok (.iload 5, 2) := dk_21 5 (dk_at dksL_law_154 4 rfl rfl)
theorem dL_law_3834 : decode cL_law 3834 = .ok (.iconst 3, 1) := dk_6 (dk_at dksL_law_154 6 rfl rfl)
theorem dL_law_3835 : decode cL_law 3835 = .ok (.iadd, 1) := dk_96 (dk_at dksL_law_154 7 rfl rfl)
theorem dL_law_3836 : decode cL_law 3836 = .ok (.iaload, 1) := dk_46 (dk_at dksL_law_154 8 rfl rfl)
theorem dL_law_3837 : decode cL_law 3837 = .ok (.aload_n 3, 1) := dk_45 (dk_at dksL_law_154 9 rfl rfl)
theorem dL_law_3838 : decode cL_law 3838 = .ok (.invokestatic 394, 3) := dk_184 1 138 (dk_at dksL_law_154 10 rfl rfl)
theorem dL_law_3841 : decode cL_law 3841 = .ok (.istore 6, 2) := dk_54 6 (dk_at dksL_law_154 13 rfl rfl)
theorem dL_law_3843 : decode cL_law 3843 = .ok (.aload_n 2, 1) := dk_44 (dk_at dksL_law_154 15 rfl rfl)
theorem dL_law_3844 : decode cL_law 3844 = .ok (.aload_n 0, 1) := dk_42 (dk_at dksL_law_154 16 rfl rfl)
theorem dL_law_3845 : decode cL_law 3845 = .ok (.iload 5, 2) := dk_21 5 (dk_at dksL_law_154 17 rfl rfl)
theorem dL_law_3847 : decode cL_law 3847 = .ok (.iconst 1, 1) := dk_4 (dk_at dksL_law_154 19 rfl rfl)
theorem dL_law_3848 : decode cL_law 3848 = .ok (.iadd, 1) := dk_96 (dk_at dksL_law_154 20 rfl rfl)
theorem dL_law_3849 : decode cL_law 3849 = .ok (.iaload, 1) := dk_46 (dk_at dksL_law_154 21 rfl rfl)
theorem dL_law_3850 : decode cL_law 3850 = .ok (.aload_n 0, 1) := dk_42 (dk_at dksL_law_154 22 rfl rfl)
theorem dL_law_3851 : decode cL_law 3851 = .ok (.iload 5, 2) := dk_21 5 (dk_at dksL_law_155 0 rfl rfl)
theorem dL_law_3853 : decode cL_law 3853 = .ok (.iconst 2, 1) := dk_5 (dk_at dksL_law_155 2 rfl rfl)
theorem dL_law_3854 : decode cL_law 3854 = .ok (.iadd, 1) := dk_96 (dk_at dksL_law_155 3 rfl rfl)
theorem dL_law_3855 : decode cL_law 3855 = .ok (.iaload, 1) := dk_46 (dk_at dksL_law_155 4 rfl rfl)
theorem dL_law_3856 : decode cL_law 3856 = .ok (.aload_n 0, 1) := dk_42 (dk_at dksL_law_155 5 rfl rfl)
theorem dL_law_3857 : decode cL_law 3857 = .ok (.iload 5, 2) := dk_21 5 (dk_at dksL_law_155 6 rfl rfl)
theorem dL_law_3859 : decode cL_law 3859 = .ok (.iconst 3, 1) := dk_6 (dk_at dksL_law_155 8 rfl rfl)
theorem dL_law_3860 : decode cL_law 3860 = .ok (.iadd, 1) := dk_96 (dk_at dksL_law_155 9 rfl rfl)
theorem dL_law_3861 : decode cL_law 3861 = .ok (.iaload, 1) := dk_46 (dk_at dksL_law_155 10 rfl rfl)
theorem dL_law_3862 : decode cL_law 3862 = .ok (.invokevirtual 396, 3) := dk_182 1 140 (dk_at dksL_law_155 11 rfl rfl)
theorem dL_law_3865 : decode cL_law 3865 = .ok (.istore 7, 2) := dk_54 7 (dk_at dksL_law_155 14 rfl rfl)
theorem dL_law_3867 : decode cL_law 3867 = .ok (.aload_n 2, 1) := dk_44 (dk_at dksL_law_155 16 rfl rfl)
theorem dL_law_3868 : decode cL_law 3868 = .ok (.invokevirtual 218, 3) := dk_182 0 218 (dk_at dksL_law_155 17 rfl rfl)
theorem dL_law_3871 : decode cL_law 3871 = .ok (.iload 6, 2) := dk_21 6 (dk_at dksL_law_155 20 rfl rfl)
theorem dL_law_3873 : decode cL_law 3873 = .ok (.if_icmp .eq 5, 3) := dk_159 0 5 (dk_at dksL_law_156 0 rfl rfl)
theorem dL_law_3876 : decode cL_law 3876 = .ok (.iconst 0, 1) := dk_3 (dk_at dksL_law_156 3 rfl rfl)
theorem dL_law_3877 : decode cL_law 3877 = .ok (.ireturn, 1) := dk_172 (dk_at dksL_law_156 4 rfl rfl)
theorem dL_law_3878 : decode cL_law 3878 = .ok (.iload 6, 2) := dk_21 6 (dk_at dksL_law_156 5 rfl rfl)
theorem dL_law_3880 : decode cL_law 3880 = .ok (.ifCond .ne 15, 3) := dk_154 0 15 (dk_at dksL_law_156 7 rfl rfl)
theorem dL_law_3883 : decode cL_law 3883 = .ok (.aload_n 3, 1) := dk_45 (dk_at dksL_law_156 10 rfl rfl)
theorem dL_law_3884 : decode cL_law 3884 = .ok (.iconst 0, 1) := dk_3 (dk_at dksL_law_156 11 rfl rfl)
theorem dL_law_3885 : decode cL_law 3885 = .ok (.laload, 1) := dk_47 (dk_at dksL_law_156 12 rfl rfl)
theorem dL_law_3886 : decode cL_law 3886 = .ok (.iload 7, 2) := dk_21 7 (dk_at dksL_law_156 13 rfl rfl)
theorem dL_law_3888 : decode cL_law 3888 = .ok (.i2l, 1) := dk_133 (dk_at dksL_law_156 15 rfl rfl)
theorem dL_law_3889 : decode cL_law 3889 = .ok (.lcmp, 1) := dk_148 (dk_at dksL_law_156 16 rfl rfl)
theorem dL_law_3890 : decode cL_law 3890 = .ok (.ifCond .eq 5, 3) := dk_153 0 5 (dk_at dksL_law_156 17 rfl rfl)
theorem dL_law_3893 : decode cL_law 3893 = .ok (.iconst 0, 1) := dk_3 (dk_at dksL_law_156 20 rfl rfl)
theorem dL_law_3894 : decode cL_law 3894 = .ok (.ireturn, 1) := dk_172 (dk_at dksL_law_156 21 rfl rfl)
theorem dL_law_3895 : decode cL_law 3895 = .ok (.goto 364, 3) := dk_167 1 108 (dk_at dksL_law_157 0 rfl rfl)
theorem dL_law_3898 : decode cL_law 3898 = .ok (.aload_n 1, 1) := dk_43 (dk_at dksL_law_157 3 rfl rfl)
theorem dL_law_3899 : decode cL_law 3899 = .ok (.aload_n 0, 1) := dk_42 (dk_at dksL_law_157 4 rfl rfl)
theorem dL_law_3900 : decode cL_law 3900 = .ok (.iload 5, 2) := dk_21 5 (dk_at dksL_law_157 5 rfl rfl)
theorem dL_law_3902 : decode cL_law 3902 = .ok (.iconst 1, 1) := dk_4 (dk_at dksL_law_157 7 rfl rfl)
theorem dL_law_3903 : decode cL_law 3903 = .ok (.iadd, 1) := dk_96 (dk_at dksL_law_157 8 rfl rfl)
theorem dL_law_3904 : decode cL_law 3904 = .ok (.iaload, 1) := dk_46 (dk_at dksL_law_157 9 rfl rfl)
theorem dL_law_3905 : decode cL_law 3905 = .ok (.aload_n 0, 1) := dk_42 (dk_at dksL_law_157 10 rfl rfl)
theorem dL_law_3906 : decode cL_law 3906 = .ok (.iload 5, 2) := dk_21 5 (dk_at dksL_law_157 11 rfl rfl)
theorem dL_law_3908 : decode cL_law 3908 = .ok (.iconst 2, 1) := dk_5 (dk_at dksL_law_157 13 rfl rfl)
theorem dL_law_3909 : decode cL_law 3909 = .ok (.iadd, 1) := dk_96 (dk_at dksL_law_157 14 rfl rfl)
theorem dL_law_3910 : decode cL_law 3910 = .ok (.iaload, 1) := dk_46 (dk_at dksL_law_157 15 rfl rfl)
theorem dL_law_3911 : decode cL_law 3911 = .ok (.aload_n 3, 1) := dk_45 (dk_at dksL_law_157 16 rfl rfl)
theorem dL_law_3912 : decode cL_law 3912 = .ok (.invokestatic 397, 3) := dk_184 1 141 (dk_at dksL_law_157 17 rfl rfl)
theorem dL_law_3915 : decode cL_law 3915 = .ok (.istore 6, 2) := dk_54 6 (dk_at dksL_law_157 20 rfl rfl)
theorem dL_law_3917 : decode cL_law 3917 = .ok (.aload_n 2, 1) := dk_44 (dk_at dksL_law_157 22 rfl rfl)
theorem dL_law_3918 : decode cL_law 3918 = .ok (.aload_n 0, 1) := dk_42 (dk_at dksL_law_157 23 rfl rfl)
theorem dL_law_3919 : decode cL_law 3919 = .ok (.iload 5, 2) := dk_21 5 (dk_at dksL_law_158 0 rfl rfl)
theorem dL_law_3921 : decode cL_law 3921 = .ok (.iconst 1, 1) := dk_4 (dk_at dksL_law_158 2 rfl rfl)
theorem dL_law_3922 : decode cL_law 3922 = .ok (.iadd, 1) := dk_96 (dk_at dksL_law_158 3 rfl rfl)
theorem dL_law_3923 : decode cL_law 3923 = .ok (.iaload, 1) := dk_46 (dk_at dksL_law_158 4 rfl rfl)
theorem dL_law_3924 : decode cL_law 3924 = .ok (.aload_n 0, 1) := dk_42 (dk_at dksL_law_158 5 rfl rfl)
theorem dL_law_3925 : decode cL_law 3925 = .ok (.iload 5, 2) := dk_21 5 (dk_at dksL_law_158 6 rfl rfl)
theorem dL_law_3927 : decode cL_law 3927 = .ok (.iconst 2, 1) := dk_5 (dk_at dksL_law_158 8 rfl rfl)
theorem dL_law_3928 : decode cL_law 3928 = .ok (.iadd, 1) := dk_96 (dk_at dksL_law_158 9 rfl rfl)
theorem dL_law_3929 : decode cL_law 3929 = .ok (.iaload, 1) := dk_46 (dk_at dksL_law_158 10 rfl rfl)
theorem dL_law_3930 : decode cL_law 3930 = .ok (.invokevirtual 399, 3) := dk_182 1 143 (dk_at dksL_law_158 11 rfl rfl)
theorem dL_law_3933 : decode cL_law 3933 = .ok (.istore 7, 2) := dk_54 7 (dk_at dksL_law_158 14 rfl rfl)
theorem dL_law_3935 : decode cL_law 3935 = .ok (.aload_n 2, 1) := dk_44 (dk_at dksL_law_158 16 rfl rfl)
theorem dL_law_3936 : decode cL_law 3936 = .ok (.invokevirtual 218, 3) := dk_182 0 218 (dk_at dksL_law_158 17 rfl rfl)
theorem dL_law_3939 : decode cL_law 3939 = .ok (.iload 6, 2) := dk_21 6 (dk_at dksL_law_158 20 rfl rfl)
theorem dL_law_3941 : decode cL_law 3941 = .ok (.if_icmp .eq 5, 3) := dk_159 0 5 (dk_at dksL_law_159 0 rfl rfl)
theorem dL_law_3944 : decode cL_law 3944 = .ok (.iconst 0, 1) := dk_3 (dk_at dksL_law_159 3 rfl rfl)
theorem dL_law_3945 : decode cL_law 3945 = .ok (.ireturn, 1) := dk_172 (dk_at dksL_law_159 4 rfl rfl)
theorem dL_law_3946 : decode cL_law 3946 = .ok (.iload 6, 2) := dk_21 6 (dk_at dksL_law_159 5 rfl rfl)
theorem dL_law_3948 : decode cL_law 3948 = .ok (.ifCond .ne 15, 3) := dk_154 0 15 (dk_at dksL_law_159 7 rfl rfl)
theorem dL_law_3951 : decode cL_law 3951 = .ok (.aload_n 3, 1) := dk_45 (dk_at dksL_law_159 10 rfl rfl)
theorem dL_law_3952 : decode cL_law 3952 = .ok (.iconst 0, 1) := dk_3 (dk_at dksL_law_159 11 rfl rfl)
theorem dL_law_3953 : decode cL_law 3953 = .ok (.laload, 1) := dk_47 (dk_at dksL_law_159 12 rfl rfl)
theorem dL_law_3954 : decode cL_law 3954 = .ok (.iload 7, 2) := dk_21 7 (dk_at dksL_law_159 13 rfl rfl)
theorem dL_law_3956 : decode cL_law 3956 = .ok (.i2l, 1) := dk_133 (dk_at dksL_law_159 15 rfl rfl)
theorem dL_law_3957 : decode cL_law 3957 = .ok (.lcmp, 1) := dk_148 (dk_at dksL_law_159 16 rfl rfl)
theorem dL_law_3958 : decode cL_law 3958 = .ok (.ifCond .eq 5, 3) := dk_153 0 5 (dk_at dksL_law_159 17 rfl rfl)
theorem dL_law_3961 : decode cL_law 3961 = .ok (.iconst 0, 1) := dk_3 (dk_at dksL_law_159 20 rfl rfl)
theorem dL_law_3962 : decode cL_law 3962 = .ok (.ireturn, 1) := dk_172 (dk_at dksL_law_159 21 rfl rfl)
theorem dL_law_3963 : decode cL_law 3963 = .ok (.goto 296, 3) := dk_167 1 40 (dk_at dksL_law_160 0 rfl rfl)
theorem dL_law_3966 : decode cL_law 3966 = .ok (.aload_n 1, 1) := dk_43 (dk_at dksL_law_160 3 rfl rfl)
theorem dL_law_3967 : decode cL_law 3967 = .ok (.aload_n 0, 1) := dk_42 (dk_at dksL_law_160 4 rfl rfl)
theorem dL_law_3968 : decode cL_law 3968 = .ok (.iload 5, 2) := dk_21 5 (dk_at dksL_law_160 5 rfl rfl)
theorem dL_law_3970 : decode cL_law 3970 = .ok (.iconst 1, 1) := dk_4 (dk_at dksL_law_160 7 rfl rfl)
theorem dL_law_3971 : decode cL_law 3971 = .ok (.iadd, 1) := dk_96 (dk_at dksL_law_160 8 rfl rfl)
theorem dL_law_3972 : decode cL_law 3972 = .ok (.iaload, 1) := dk_46 (dk_at dksL_law_160 9 rfl rfl)
theorem dL_law_3973 : decode cL_law 3973 = .ok (.aload_n 3, 1) := dk_45 (dk_at dksL_law_160 10 rfl rfl)
theorem dL_law_3974 : decode cL_law 3974 = .ok (.invokestatic 400, 3) := dk_184 1 144 (dk_at dksL_law_160 11 rfl rfl)
theorem dL_law_3977 : decode cL_law 3977 = .ok (.istore 6, 2) := dk_54 6 (dk_at dksL_law_160 14 rfl rfl)
theorem dL_law_3979 : decode cL_law 3979 = .ok (.aload_n 2, 1) := dk_44 (dk_at dksL_law_160 16 rfl rfl)
theorem dL_law_3980 : decode cL_law 3980 = .ok (.aload_n 0, 1) := dk_42 (dk_at dksL_law_160 17 rfl rfl)
theorem dL_law_3981 : decode cL_law 3981 = .ok (.iload 5, 2) := dk_21 5 (dk_at dksL_law_160 18 rfl rfl)
theorem dL_law_3983 : decode cL_law 3983 = .ok (.iconst 1, 1) := dk_4 (dk_at dksL_law_160 20 rfl rfl)
theorem dL_law_3984 : decode cL_law 3984 = .ok (.iadd, 1) := dk_96 (dk_at dksL_law_160 21 rfl rfl)
theorem dL_law_3985 : decode cL_law 3985 = .ok (.iaload, 1) := dk_46 (dk_at dksL_law_160 22 rfl rfl)
theorem dL_law_3986 : decode cL_law 3986 = .ok (.invokevirtual 402, 3) := dk_182 1 146 (dk_at dksL_law_161 0 rfl rfl)
theorem dL_law_3989 : decode cL_law 3989 = .ok (.istore 7, 2) := dk_54 7 (dk_at dksL_law_161 3 rfl rfl)
theorem dL_law_3991 : decode cL_law 3991 = .ok (.aload_n 2, 1) := dk_44 (dk_at dksL_law_161 5 rfl rfl)
theorem dL_law_3992 : decode cL_law 3992 = .ok (.invokevirtual 218, 3) := dk_182 0 218 (dk_at dksL_law_161 6 rfl rfl)
theorem dL_law_3995 : decode cL_law 3995 = .ok (.iload 6, 2) := dk_21 6 (dk_at dksL_law_161 9 rfl rfl)
theorem dL_law_3997 : decode cL_law 3997 = .ok (.if_icmp .eq 5, 3) := dk_159 0 5 (dk_at dksL_law_161 11 rfl rfl)
theorem dL_law_4000 : decode cL_law 4000 = .ok (.iconst 0, 1) := dk_3 (dk_at dksL_law_161 14 rfl rfl)
theorem dL_law_4001 : decode cL_law 4001 = .ok (.ireturn, 1) := dk_172 (dk_at dksL_law_161 15 rfl rfl)
theorem dL_law_4002 : decode cL_law 4002 = .ok (.iload 6, 2) := dk_21 6 (dk_at dksL_law_161 16 rfl rfl)
theorem dL_law_4004 : decode cL_law 4004 = .ok (.ifCond .ne 15, 3) := dk_154 0 15 (dk_at dksL_law_161 18 rfl rfl)
theorem dL_law_4007 : decode cL_law 4007 = .ok (.aload_n 3, 1) := dk_45 (dk_at dksL_law_161 21 rfl rfl)
theorem dL_law_4008 : decode cL_law 4008 = .ok (.iconst 0, 1) := dk_3 (dk_at dksL_law_161 22 rfl rfl)
theorem dL_law_4009 : decode cL_law 4009 = .ok (.laload, 1) := dk_47 (dk_at dksL_law_161 23 rfl rfl)
theorem dL_law_4010 : decode cL_law 4010 = .ok (.iload 7, 2) := dk_21 7 (dk_at dksL_law_162 0 rfl rfl)
theorem dL_law_4012 : decode cL_law 4012 = .ok (.i2l, 1) := dk_133 (dk_at dksL_law_162 2 rfl rfl)
theorem dL_law_4013 : decode cL_law 4013 = .ok (.lcmp, 1) := dk_148 (dk_at dksL_law_162 3 rfl rfl)
theorem dL_law_4014 : decode cL_law 4014 = .ok (.ifCond .eq 5, 3) := dk_153 0 5 (dk_at dksL_law_162 4 rfl rfl)
theorem dL_law_4017 : decode cL_law 4017 = .ok (.iconst 0, 1) := dk_3 (dk_at dksL_law_162 7 rfl rfl)
theorem dL_law_4018 : decode cL_law 4018 = .ok (.ireturn, 1) := dk_172 (dk_at dksL_law_162 8 rfl rfl)
theorem dL_law_4019 : decode cL_law 4019 = .ok (.goto 240, 3) := dk_167 0 240 (dk_at dksL_law_162 9 rfl rfl)
theorem dL_law_4022 : decode cL_law 4022 = .ok (.aload_n 1, 1) := dk_43 (dk_at dksL_law_162 12 rfl rfl)
theorem dL_law_4023 : decode cL_law 4023 = .ok (.aload_n 0, 1) := dk_42 (dk_at dksL_law_162 13 rfl rfl)
theorem dL_law_4024 : decode cL_law 4024 = .ok (.iload 5, 2) := dk_21 5 (dk_at dksL_law_162 14 rfl rfl)
theorem dL_law_4026 : decode cL_law 4026 = .ok (.iconst 1, 1) := dk_4 (dk_at dksL_law_162 16 rfl rfl)
theorem dL_law_4027 : decode cL_law 4027 = .ok (.iadd, 1) := dk_96 (dk_at dksL_law_162 17 rfl rfl)
theorem dL_law_4028 : decode cL_law 4028 = .ok (.iaload, 1) := dk_46 (dk_at dksL_law_162 18 rfl rfl)
theorem dL_law_4029 : decode cL_law 4029 = .ok (.aload_n 0, 1) := dk_42 (dk_at dksL_law_162 19 rfl rfl)
theorem dL_law_4030 : decode cL_law 4030 = .ok (.iload 5, 2) := dk_21 5 (dk_at dksL_law_162 20 rfl rfl)
theorem dL_law_4032 : decode cL_law 4032 = .ok (.iconst 2, 1) := dk_5 (dk_at dksL_law_162 22 rfl rfl)
theorem dL_law_4033 : decode cL_law 4033 = .ok (.iadd, 1) := dk_96 (dk_at dksL_law_162 23 rfl rfl)
theorem dL_law_4034 : decode cL_law 4034 = .ok (.iaload, 1) := dk_46 (dk_at dksL_law_163 0 rfl rfl)
theorem dL_law_4035 : decode cL_law 4035 = .ok (.aload_n 3, 1) := dk_45 (dk_at dksL_law_163 1 rfl rfl)
theorem dL_law_4036 : decode cL_law 4036 = .ok (.invokestatic 403, 3) := dk_184 1 147 (dk_at dksL_law_163 2 rfl rfl)
theorem dL_law_4039 : decode cL_law 4039 = .ok (.istore 6, 2) := dk_54 6 (dk_at dksL_law_163 5 rfl rfl)
theorem dL_law_4041 : decode cL_law 4041 = .ok (.aload_n 2, 1) := dk_44 (dk_at dksL_law_163 7 rfl rfl)
theorem dL_law_4042 : decode cL_law 4042 = .ok (.aload_n 0, 1) := dk_42 (dk_at dksL_law_163 8 rfl rfl)
theorem dL_law_4043 : decode cL_law 4043 = .ok (.iload 5, 2) := dk_21 5 (dk_at dksL_law_163 9 rfl rfl)
theorem dL_law_4045 : decode cL_law 4045 = .ok (.iconst 1, 1) := dk_4 (dk_at dksL_law_163 11 rfl rfl)
theorem dL_law_4046 : decode cL_law 4046 = .ok (.iadd, 1) := dk_96 (dk_at dksL_law_163 12 rfl rfl)
theorem dL_law_4047 : decode cL_law 4047 = .ok (.iaload, 1) := dk_46 (dk_at dksL_law_163 13 rfl rfl)
theorem dL_law_4048 : decode cL_law 4048 = .ok (.aload_n 0, 1) := dk_42 (dk_at dksL_law_163 14 rfl rfl)
theorem dL_law_4049 : decode cL_law 4049 = .ok (.iload 5, 2) := dk_21 5 (dk_at dksL_law_163 15 rfl rfl)
theorem dL_law_4051 : decode cL_law 4051 = .ok (.iconst 2, 1) := dk_5 (dk_at dksL_law_163 17 rfl rfl)
theorem dL_law_4052 : decode cL_law 4052 = .ok (.iadd, 1) := dk_96 (dk_at dksL_law_163 18 rfl rfl)
theorem dL_law_4053 : decode cL_law 4053 = .ok (.iaload, 1) := dk_46 (dk_at dksL_law_163 19 rfl rfl)
theorem dL_law_4054 : decode cL_law 4054 = .ok (.invokevirtual 405, 3) := dk_182 1 149 (dk_at dksL_law_163 20 rfl rfl)
theorem dL_law_4057 : decode cL_law 4057 = .ok (.istore 7, 2) := dk_54 7 (dk_at dksL_law_164 0 rfl rfl)
theorem dL_law_4059 : decode cL_law 4059 = .ok (.aload_n 2, 1) := dk_44 (dk_at dksL_law_164 2 rfl rfl)
theorem dL_law_4060 : decode cL_law 4060 = .ok (.invokevirtual 218, 3) := dk_182 0 218 (dk_at dksL_law_164 3 rfl rfl)
theorem dL_law_4063 : decode cL_law 4063 = .ok (.iload 6, 2) := dk_21 6 (dk_at dksL_law_164 6 rfl rfl)
theorem dL_law_4065 : decode cL_law 4065 = .ok (.if_icmp .eq 5, 3) := dk_159 0 5 (dk_at dksL_law_164 8 rfl rfl)
theorem dL_law_4068 : decode cL_law 4068 = .ok (.iconst 0, 1) := dk_3 (dk_at dksL_law_164 11 rfl rfl)
theorem dL_law_4069 : decode cL_law 4069 = .ok (.ireturn, 1) := dk_172 (dk_at dksL_law_164 12 rfl rfl)
theorem dL_law_4070 : decode cL_law 4070 = .ok (.iload 6, 2) := dk_21 6 (dk_at dksL_law_164 13 rfl rfl)
theorem dL_law_4072 : decode cL_law 4072 = .ok (.ifCond .ne 15, 3) := dk_154 0 15 (dk_at dksL_law_164 15 rfl rfl)
theorem dL_law_4075 : decode cL_law 4075 = .ok (.aload_n 3, 1) := dk_45 (dk_at dksL_law_164 18 rfl rfl)
theorem dL_law_4076 : decode cL_law 4076 = .ok (.iconst 0, 1) := dk_3 (dk_at dksL_law_164 19 rfl rfl)
theorem dL_law_4077 : decode cL_law 4077 = .ok (.laload, 1) := dk_47 (dk_at dksL_law_164 20 rfl rfl)
theorem dL_law_4078 : decode cL_law 4078 = .ok (.iload 7, 2) := dk_21 7 (dk_at dksL_law_164 21 rfl rfl)
theorem dL_law_4080 : decode cL_law 4080 = .ok (.i2l, 1) := dk_133 (dk_at dksL_law_164 23 rfl rfl)
theorem dL_law_4081 : decode cL_law 4081 = .ok (.lcmp, 1) := dk_148 (dk_at dksL_law_165 0 rfl rfl)
theorem dL_law_4082 : decode cL_law 4082 = .ok (.ifCond .eq 5, 3) := dk_153 0 5 (dk_at dksL_law_165 1 rfl rfl)
theorem dL_law_4085 : decode cL_law 4085 = .ok (.iconst 0, 1) := dk_3 (dk_at dksL_law_165 4 rfl rfl)
theorem dL_law_4086 : decode cL_law 4086 = .ok (.ireturn, 1) := dk_172 (dk_at dksL_law_165 5 rfl rfl)
theorem dL_law_4087 : decode cL_law 4087 = .ok (.goto 172, 3) := dk_167 0 172 (dk_at dksL_law_165 6 rfl rfl)
theorem dL_law_4090 : decode cL_law 4090 = .ok (.aload_n 1, 1) := dk_43 (dk_at dksL_law_165 9 rfl rfl)
theorem dL_law_4091 : decode cL_law 4091 = .ok (.aload_n 3, 1) := dk_45 (dk_at dksL_law_165 10 rfl rfl)
theorem dL_law_4092 : decode cL_law 4092 = .ok (.invokestatic 406, 3) := dk_184 1 150 (dk_at dksL_law_165 11 rfl rfl)
theorem dL_law_4095 : decode cL_law 4095 = .ok (.istore 6, 2) := dk_54 6 (dk_at dksL_law_165 14 rfl rfl)
theorem dL_law_4097 : decode cL_law 4097 = .ok (.aload_n 2, 1) := dk_44 (dk_at dksL_law_165 16 rfl rfl)
theorem dL_law_4098 : decode cL_law 4098 = .ok (.invokevirtual 408, 3) := dk_182 1 152 (dk_at dksL_law_165 17 rfl rfl)
theorem dL_law_4101 : decode cL_law 4101 = .ok (.istore 7, 2) := dk_54 7 (dk_at dksL_law_165 20 rfl rfl)
theorem dL_law_4103 : decode cL_law 4103 = .ok (.aload_n 2, 1) := dk_44 (dk_at dksL_law_165 22 rfl rfl)
theorem dL_law_4104 : decode cL_law 4104 = .ok (.invokevirtual 218, 3) := dk_182 0 218 (dk_at dksL_law_166 0 rfl rfl)
theorem dL_law_4107 : decode cL_law 4107 = .ok (.iload 6, 2) := dk_21 6 (dk_at dksL_law_166 3 rfl rfl)
theorem dL_law_4109 : decode cL_law 4109 = .ok (.if_icmp .eq 5, 3) := dk_159 0 5 (dk_at dksL_law_166 5 rfl rfl)
theorem dL_law_4112 : decode cL_law 4112 = .ok (.iconst 0, 1) := dk_3 (dk_at dksL_law_166 8 rfl rfl)
theorem dL_law_4113 : decode cL_law 4113 = .ok (.ireturn, 1) := dk_172 (dk_at dksL_law_166 9 rfl rfl)
theorem dL_law_4114 : decode cL_law 4114 = .ok (.iload 6, 2) := dk_21 6 (dk_at dksL_law_166 10 rfl rfl)
theorem dL_law_4116 : decode cL_law 4116 = .ok (.ifCond .ne 15, 3) := dk_154 0 15 (dk_at dksL_law_166 12 rfl rfl)
theorem dL_law_4119 : decode cL_law 4119 = .ok (.aload_n 3, 1) := dk_45 (dk_at dksL_law_166 15 rfl rfl)
theorem dL_law_4120 : decode cL_law 4120 = .ok (.iconst 0, 1) := dk_3 (dk_at dksL_law_166 16 rfl rfl)
theorem dL_law_4121 : decode cL_law 4121 = .ok (.laload, 1) := dk_47 (dk_at dksL_law_166 17 rfl rfl)
theorem dL_law_4122 : decode cL_law 4122 = .ok (.iload 7, 2) := dk_21 7 (dk_at dksL_law_166 18 rfl rfl)
theorem dL_law_4124 : decode cL_law 4124 = .ok (.i2l, 1) := dk_133 (dk_at dksL_law_166 20 rfl rfl)
theorem dL_law_4125 : decode cL_law 4125 = .ok (.lcmp, 1) := dk_148 (dk_at dksL_law_166 21 rfl rfl)
theorem dL_law_4126 : decode cL_law 4126 = .ok (.ifCond .eq 5, 3) := dk_153 0 5 (dk_at dksL_law_167 0 rfl rfl)
theorem dL_law_4129 : decode cL_law 4129 = .ok (.iconst 0, 1) := dk_3 (dk_at dksL_law_167 3 rfl rfl)
theorem dL_law_4130 : decode cL_law 4130 = .ok (.ireturn, 1) := dk_172 (dk_at dksL_law_167 4 rfl rfl)
theorem dL_law_4131 : decode cL_law 4131 = .ok (.goto 128, 3) := dk_167 0 128 (dk_at dksL_law_167 5 rfl rfl)
theorem dL_law_4134 : decode cL_law 4134 = .ok (.aload_n 1, 1) := dk_43 (dk_at dksL_law_167 8 rfl rfl)
theorem dL_law_4135 : decode cL_law 4135 = .ok (.invokevirtual 409, 3) := dk_182 1 153 (dk_at dksL_law_167 9 rfl rfl)
theorem dL_law_4138 : decode cL_law 4138 = .ok (.aload_n 2, 1) := dk_44 (dk_at dksL_law_167 12 rfl rfl)
theorem dL_law_4139 : decode cL_law 4139 = .ok (.invokevirtual 412, 3) := dk_182 1 156 (dk_at dksL_law_167 13 rfl rfl)
theorem dL_law_4142 : decode cL_law 4142 = .ok (.if_icmp .eq 117, 3) := dk_159 0 117 (dk_at dksL_law_167 16 rfl rfl)
theorem dL_law_4145 : decode cL_law 4145 = .ok (.iconst 0, 1) := dk_3 (dk_at dksL_law_167 19 rfl rfl)
theorem dL_law_4146 : decode cL_law 4146 = .ok (.ireturn, 1) := dk_172 (dk_at dksL_law_167 20 rfl rfl)
theorem dL_law_4147 : decode cL_law 4147 = .ok (.aload_n 1, 1) := dk_43 (dk_at dksL_law_167 21 rfl rfl)
theorem dL_law_4148 : decode cL_law 4148 = .ok (.aload_n 0, 1) := dk_42 (dk_at dksL_law_167 22 rfl rfl)
theorem dL_law_4149 : decode cL_law 4149 = .ok (.iload 5, 2) := dk_21 5 (dk_at dksL_law_168 0 rfl rfl)
theorem dL_law_4151 : decode cL_law 4151 = .ok (.iconst 1, 1) := dk_4 (dk_at dksL_law_168 2 rfl rfl)
theorem dL_law_4152 : decode cL_law 4152 = .ok (.iadd, 1) := dk_96 (dk_at dksL_law_168 3 rfl rfl)
theorem dL_law_4153 : decode cL_law 4153 = .ok (.iaload, 1) := dk_46 (dk_at dksL_law_168 4 rfl rfl)
theorem dL_law_4154 : decode cL_law 4154 = .ok (.aload_n 3, 1) := dk_45 (dk_at dksL_law_168 5 rfl rfl)
theorem dL_law_4155 : decode cL_law 4155 = .ok (.invokestatic 413, 3) := dk_184 1 157 (dk_at dksL_law_168 6 rfl rfl)
theorem dL_law_4158 : decode cL_law 4158 = .ok (.istore 6, 2) := dk_54 6 (dk_at dksL_law_168 9 rfl rfl)
theorem dL_law_4160 : decode cL_law 4160 = .ok (.aload_n 2, 1) := dk_44 (dk_at dksL_law_168 11 rfl rfl)
theorem dL_law_4161 : decode cL_law 4161 = .ok (.aload_n 0, 1) := dk_42 (dk_at dksL_law_168 12 rfl rfl)
theorem dL_law_4162 : decode cL_law 4162 = .ok (.iload 5, 2) := dk_21 5 (dk_at dksL_law_168 13 rfl rfl)
theorem dL_law_4164 : decode cL_law 4164 = .ok (.iconst 1, 1) := dk_4 (dk_at dksL_law_168 15 rfl rfl)
theorem dL_law_4165 : decode cL_law 4165 = .ok (.iadd, 1) := dk_96 (dk_at dksL_law_168 16 rfl rfl)
theorem dL_law_4166 : decode cL_law 4166 = .ok (.iaload, 1) := dk_46 (dk_at dksL_law_168 17 rfl rfl)
theorem dL_law_4167 : decode cL_law 4167 = .ok (.invokevirtual 415, 3) := dk_182 1 159 (dk_at dksL_law_168 18 rfl rfl)
theorem dL_law_4170 : decode cL_law 4170 = .ok (.istore 7, 2) := dk_54 7 (dk_at dksL_law_168 21 rfl rfl)
theorem dL_law_4172 : decode cL_law 4172 = .ok (.aload_n 2, 1) := dk_44 (dk_at dksL_law_168 23 rfl rfl)
theorem dL_law_4173 : decode cL_law 4173 = .ok (.invokevirtual 218, 3) := dk_182 0 218 (dk_at dksL_law_169 0 rfl rfl)
theorem dL_law_4176 : decode cL_law 4176 = .ok (.iload 6, 2) := dk_21 6 (dk_at dksL_law_169 3 rfl rfl)
theorem dL_law_4178 : decode cL_law 4178 = .ok (.if_icmp .eq 5, 3) := dk_159 0 5 (dk_at dksL_law_169 5 rfl rfl)
theorem dL_law_4181 : decode cL_law 4181 = .ok (.iconst 0, 1) := dk_3 (dk_at dksL_law_169 8 rfl rfl)
theorem dL_law_4182 : decode cL_law 4182 = .ok (.ireturn, 1) := dk_172 (dk_at dksL_law_169 9 rfl rfl)
theorem dL_law_4183 : decode cL_law 4183 = .ok (.iload 6, 2) := dk_21 6 (dk_at dksL_law_169 10 rfl rfl)
theorem dL_law_4185 : decode cL_law 4185 = .ok (.ifCond .ne 15, 3) := dk_154 0 15 (dk_at dksL_law_169 12 rfl rfl)
theorem dL_law_4188 : decode cL_law 4188 = .ok (.aload_n 3, 1) := dk_45 (dk_at dksL_law_169 15 rfl rfl)
theorem dL_law_4189 : decode cL_law 4189 = .ok (.iconst 0, 1) := dk_3 (dk_at dksL_law_169 16 rfl rfl)
theorem dL_law_4190 : decode cL_law 4190 = .ok (.laload, 1) := dk_47 (dk_at dksL_law_169 17 rfl rfl)
theorem dL_law_4191 : decode cL_law 4191 = .ok (.iload 7, 2) := dk_21 7 (dk_at dksL_law_169 18 rfl rfl)
theorem dL_law_4193 : decode cL_law 4193 = .ok (.i2l, 1) := dk_133 (dk_at dksL_law_169 20 rfl rfl)
theorem dL_law_4194 : decode cL_law 4194 = .ok (.lcmp, 1) := dk_148 (dk_at dksL_law_169 21 rfl rfl)
theorem dL_law_4195 : decode cL_law 4195 = .ok (.ifCond .eq 5, 3) := dk_153 0 5 (dk_at dksL_law_170 0 rfl rfl)
theorem dL_law_4198 : decode cL_law 4198 = .ok (.iconst 0, 1) := dk_3 (dk_at dksL_law_170 3 rfl rfl)
theorem dL_law_4199 : decode cL_law 4199 = .ok (.ireturn, 1) := dk_172 (dk_at dksL_law_170 4 rfl rfl)
theorem dL_law_4200 : decode cL_law 4200 = .ok (.goto 59, 3) := dk_167 0 59 (dk_at dksL_law_170 5 rfl rfl)
theorem dL_law_4203 : decode cL_law 4203 = .ok (.aload_n 1, 1) := dk_43 (dk_at dksL_law_170 8 rfl rfl)
theorem dL_law_4204 : decode cL_law 4204 = .ok (.aload_n 0, 1) := dk_42 (dk_at dksL_law_170 9 rfl rfl)
theorem dL_law_4205 : decode cL_law 4205 = .ok (.iload 5, 2) := dk_21 5 (dk_at dksL_law_170 10 rfl rfl)
theorem dL_law_4207 : decode cL_law 4207 = .ok (.iconst 1, 1) := dk_4 (dk_at dksL_law_170 12 rfl rfl)
theorem dL_law_4208 : decode cL_law 4208 = .ok (.iadd, 1) := dk_96 (dk_at dksL_law_170 13 rfl rfl)
theorem dL_law_4209 : decode cL_law 4209 = .ok (.iaload, 1) := dk_46 (dk_at dksL_law_170 14 rfl rfl)
theorem dL_law_4210 : decode cL_law 4210 = .ok (.aload_n 3, 1) := dk_45 (dk_at dksL_law_170 15 rfl rfl)
theorem dL_law_4211 : decode cL_law 4211 = .ok (.invokestatic 416, 3) := dk_184 1 160 (dk_at dksL_law_170 16 rfl rfl)
theorem dL_law_4214 : decode cL_law 4214 = .ok (.istore 6, 2) := dk_54 6 (dk_at dksL_law_170 19 rfl rfl)
theorem dL_law_4216 : decode cL_law 4216 = .ok (.aload_n 2, 1) := dk_44 (dk_at dksL_law_170 21 rfl rfl)
theorem dL_law_4217 : decode cL_law 4217 = .ok (.aload_n 0, 1) := dk_42 (dk_at dksL_law_170 22 rfl rfl)
theorem dL_law_4218 : decode cL_law 4218 = .ok (.iload 5, 2) := dk_21 5 (dk_at dksL_law_171 0 rfl rfl)
theorem dL_law_4220 : decode cL_law 4220 = .ok (.iconst 1, 1) := dk_4 (dk_at dksL_law_171 2 rfl rfl)
theorem dL_law_4221 : decode cL_law 4221 = .ok (.iadd, 1) := dk_96 (dk_at dksL_law_171 3 rfl rfl)
theorem dL_law_4222 : decode cL_law 4222 = .ok (.iaload, 1) := dk_46 (dk_at dksL_law_171 4 rfl rfl)
theorem dL_law_4223 : decode cL_law 4223 = .ok (.invokevirtual 418, 3) := dk_182 1 162 (dk_at dksL_law_171 5 rfl rfl)
theorem dL_law_4226 : decode cL_law 4226 = .ok (.istore 7, 2) := dk_54 7 (dk_at dksL_law_171 8 rfl rfl)
theorem dL_law_4228 : decode cL_law 4228 = .ok (.aload_n 2, 1) := dk_44 (dk_at dksL_law_171 10 rfl rfl)
theorem dL_law_4229 : decode cL_law 4229 = .ok (.invokevirtual 218, 3) := dk_182 0 218 (dk_at dksL_law_171 11 rfl rfl)
theorem dL_law_4232 : decode cL_law 4232 = .ok (.iload 6, 2) := dk_21 6 (dk_at dksL_law_171 14 rfl rfl)
theorem dL_law_4234 : decode cL_law 4234 = .ok (.if_icmp .eq 5, 3) := dk_159 0 5 (dk_at dksL_law_171 16 rfl rfl)
theorem dL_law_4237 : decode cL_law 4237 = .ok (.iconst 0, 1) := dk_3 (dk_at dksL_law_171 19 rfl rfl)
theorem dL_law_4238 : decode cL_law 4238 = .ok (.ireturn, 1) := dk_172 (dk_at dksL_law_171 20 rfl rfl)
theorem dL_law_4239 : decode cL_law 4239 = .ok (.iload 6, 2) := dk_21 6 (dk_at dksL_law_171 21 rfl rfl)
theorem dL_law_4241 : decode cL_law 4241 = .ok (.ifCond .ne 15, 3) := dk_154 0 15 (dk_at dksL_law_172 0 rfl rfl)
theorem dL_law_4244 : decode cL_law 4244 = .ok (.aload_n 3, 1) := dk_45 (dk_at dksL_law_172 3 rfl rfl)
theorem dL_law_4245 : decode cL_law 4245 = .ok (.iconst 0, 1) := dk_3 (dk_at dksL_law_172 4 rfl rfl)
theorem dL_law_4246 : decode cL_law 4246 = .ok (.laload, 1) := dk_47 (dk_at dksL_law_172 5 rfl rfl)
theorem dL_law_4247 : decode cL_law 4247 = .ok (.iload 7, 2) := dk_21 7 (dk_at dksL_law_172 6 rfl rfl)
theorem dL_law_4249 : decode cL_law 4249 = .ok (.i2l, 1) := dk_133 (dk_at dksL_law_172 8 rfl rfl)
theorem dL_law_4250 : decode cL_law 4250 = .ok (.lcmp, 1) := dk_148 (dk_at dksL_law_172 9 rfl rfl)
theorem dL_law_4251 : decode cL_law 4251 = .ok (.ifCond .eq 5, 3) := dk_153 0 5 (dk_at dksL_law_172 10 rfl rfl)
theorem dL_law_4254 : decode cL_law 4254 = .ok (.iconst 0, 1) := dk_3 (dk_at dksL_law_172 13 rfl rfl)
theorem dL_law_4255 : decode cL_law 4255 = .ok (.ireturn, 1) := dk_172 (dk_at dksL_law_172 14 rfl rfl)
theorem dL_law_4256 : decode cL_law 4256 = .ok (.goto 3, 3) := dk_167 0 3 (dk_at dksL_law_172 15 rfl rfl)
theorem dL_law_4259 : decode cL_law 4259 = .ok (.iinc 5 6, 3) := dk_132 5 6 (dk_at dksL_law_172 18 rfl rfl)
theorem dL_law_4262 : decode cL_law 4262 = .ok (.goto (-4234), 3) := dk_167 239 118 (dk_at dksL_law_172 21 rfl rfl)
theorem dL_law_4265 : decode cL_law 4265 = .ok (.iconst 1, 1) := dk_4 (dk_at dksL_law_173 0 rfl rfl)
theorem dL_law_4266 : decode cL_law 4266 = .ok (.ireturn, 1) := dk_172 (dk_at dksL_law_173 1 rfl rfl)
/-! X0.FlareSlopesLaw.lean.txt -/
def RX0 : String := "FlareSlopesLaw"
abbrev cX0_load : ByteArray := method_3_code
def yX0_load : MethodName := ⟨RX0, "load", "(LFlareSlopes;I[J)I"⟩
def dkwX0_load_0 : List UInt8 := [44, 3, 42, 27, 182, 0, 7, 133, 80, 167, 0, 9, 78, 4, 172, 78, 5, 172, 3, 172]
abbrev dktX0_load_0 : List UInt8 := dkwX0_load_0 ++ []
theorem dksX0_load_0 : cX0_load.data.toList.drop 0 = dktX0_load_0 := by decide +kernel
theorem dX0_load_0 : decode cX0_load 0 = .ok (.aload_n 2, 1) := dk_44 (dk_at dksX0_load_0 0 rfl rfl)
theorem dX0_load_1 : decode cX0_load 1 = .ok (.iconst 0, 1) := dk_3 (dk_at dksX0_load_0 1 rfl rfl)
theorem dX0_load_2 : decode cX0_load 2 = .ok (.aload_n 0, 1) := dk_42 (dk_at dksX0_load_0 2 rfl rfl)
theorem dX0_load_3 : decode cX0_load 3 = .ok (.iload_n 1, 1) := dk_27 (dk_at dksX0_load_0 3 rfl rfl)
theorem dX0_load_4 : decode cX0_load 4 = .ok (.invokevirtual 7, 3) := dk_182 0 7 (dk_at dksX0_load_0 4 rfl rfl)
theorem dX0_load_7 : decode cX0_load 7 = .ok (.i2l, 1) := dk_133 (dk_at dksX0_load_0 7 rfl rfl)
theorem dX0_load_8 : decode cX0_load 8 = .ok (.lastore, 1) := dk_80 (dk_at dksX0_load_0 8 rfl rfl)
theorem dX0_load_9 : decode cX0_load 9 = .ok (.goto 9, 3) := dk_167 0 9 (dk_at dksX0_load_0 9 rfl rfl)
theorem dX0_load_12 : decode cX0_load 12 = .ok (.astore_n 3, 1) := dk_78 (dk_at dksX0_load_0 12 rfl rfl)
theorem dX0_load_13 : decode cX0_load 13 = .ok (.iconst 1, 1) := dk_4 (dk_at dksX0_load_0 13 rfl rfl)
theorem dX0_load_14 : decode cX0_load 14 = .ok (.ireturn, 1) := dk_172 (dk_at dksX0_load_0 14 rfl rfl)
theorem dX0_load_15 : decode cX0_load 15 = .ok (.astore_n 3, 1) := dk_78 (dk_at dksX0_load_0 15 rfl rfl)
theorem dX0_load_16 : decode cX0_load 16 = .ok (.iconst 2, 1) := dk_5 (dk_at dksX0_load_0 16 rfl rfl)
theorem dX0_load_17 : decode cX0_load 17 = .ok (.ireturn, 1) := dk_172 (dk_at dksX0_load_0 17 rfl rfl)
theorem dX0_load_18 : decode cX0_load 18 = .ok (.iconst 0, 1) := dk_3 (dk_at dksX0_load_0 18 rfl rfl)
theorem dX0_load_19 : decode cX0_load 19 = .ok (.ireturn, 1) := dk_172 (dk_at dksX0_load_0 19 rfl rfl)
abbrev cX0_find : ByteArray := method_4_code
def yX0_find : MethodName := ⟨RX0, "find", "(LFlareSlopes;IZ[J)I"⟩
def dkwX0_find_0 : List UInt8 := [45, 3, 42, 27, 28, 182, 0, 17, 133, 80, 167, 0, 11, 58, 4, 4, 172, 58, 4, 5, 172, 3, 172]
abbrev dktX0_find_0 : List UInt8 := dkwX0_find_0 ++ []
theorem dksX0_find_0 : cX0_find.data.toList.drop 0 = dktX0_find_0 := by decide +kernel
theorem dX0_find_0 : decode cX0_find 0 = .ok (.aload_n 3, 1) := dk_45 (dk_at dksX0_find_0 0 rfl rfl)
theorem dX0_find_1 : decode cX0_find 1 = .ok (.iconst 0, 1) := dk_3 (dk_at dksX0_find_0 1 rfl rfl)
theorem dX0_find_2 : decode cX0_find 2 = .ok (.aload_n 0, 1) := dk_42 (dk_at dksX0_find_0 2 rfl rfl)
theorem dX0_find_3 : decode cX0_find 3 = .ok (.iload_n 1, 1) := dk_27 (dk_at dksX0_find_0 3 rfl rfl)
theorem dX0_find_4 : decode cX0_find 4 = .ok (.iload_n 2, 1) := dk_28 (dk_at dksX0_find_0 4 rfl rfl)
theorem dX0_find_5 : decode cX0_find 5 = .ok (.invokevirtual 17, 3) := dk_182 0 17 (dk_at dksX0_find_0 5 rfl rfl)
theorem dX0_find_8 : decode cX0_find 8 = .ok (.i2l, 1) := dk_133 (dk_at dksX0_find_0 8 rfl rfl)
theorem dX0_find_9 : decode cX0_find 9 = .ok (.lastore, 1) := dk_80 (dk_at dksX0_find_0 9 rfl rfl)
theorem dX0_find_10 : decode cX0_find 10 = .ok (.goto 11, 3) := dk_167 0 11 (dk_at dksX0_find_0 10 rfl rfl)
theorem dX0_find_13 : decode cX0_find 13 = .ok (.astore 4, 2) := dk_58 4 (dk_at dksX0_find_0 13 rfl rfl)
theorem dX0_find_15 : decode cX0_find 15 = .ok (.iconst 1, 1) := dk_4 (dk_at dksX0_find_0 15 rfl rfl)
theorem dX0_find_16 : decode cX0_find 16 = .ok (.ireturn, 1) := dk_172 (dk_at dksX0_find_0 16 rfl rfl)
theorem dX0_find_17 : decode cX0_find 17 = .ok (.astore 4, 2) := dk_58 4 (dk_at dksX0_find_0 17 rfl rfl)
theorem dX0_find_19 : decode cX0_find 19 = .ok (.iconst 2, 1) := dk_5 (dk_at dksX0_find_0 19 rfl rfl)
theorem dX0_find_20 : decode cX0_find 20 = .ok (.ireturn, 1) := dk_172 (dk_at dksX0_find_0 20 rfl rfl)
theorem dX0_find_21 : decode cX0_find 21 = .ok (.iconst 0, 1) := dk_3 (dk_at dksX0_find_0 21 rfl rfl)
theorem dX0_find_22 : decode cX0_find 22 = .ok (.ireturn, 1) := dk_172 (dk_at dksX0_find_0 22 rfl rfl)
abbrev cX0_count : ByteArray := method_5_code
def yX0_count : MethodName := ⟨RX0, "count", "(LFlareSlopes;I[J)I"⟩
def dkwX0_count_0 : List UInt8 := [44, 3, 42, 27, 182, 0, 23, 133, 80, 167, 0, 9, 78, 4, 172, 78, 5, 172, 3, 172]
abbrev dktX0_count_0 : List UInt8 := dkwX0_count_0 ++ []
theorem dksX0_count_0 : cX0_count.data.toList.drop 0 = dktX0_count_0 := by decide +kernel
theorem dX0_count_0 : decode cX0_count 0 = .ok (.aload_n 2, 1) := dk_44 (dk_at dksX0_count_0 0 rfl rfl)
theorem dX0_count_1 : decode cX0_count 1 = .ok (.iconst 0, 1) := dk_3 (dk_at dksX0_count_0 1 rfl rfl)
theorem dX0_count_2 : decode cX0_count 2 = .ok (.aload_n 0, 1) := dk_42 (dk_at dksX0_count_0 2 rfl rfl)
theorem dX0_count_3 : decode cX0_count 3 = .ok (.iload_n 1, 1) := dk_27 (dk_at dksX0_count_0 3 rfl rfl)
theorem dX0_count_4 : decode cX0_count 4 = .ok (.invokevirtual 23, 3) := dk_182 0 23 (dk_at dksX0_count_0 4 rfl rfl)
theorem dX0_count_7 : decode cX0_count 7 = .ok (.i2l, 1) := dk_133 (dk_at dksX0_count_0 7 rfl rfl)
theorem dX0_count_8 : decode cX0_count 8 = .ok (.lastore, 1) := dk_80 (dk_at dksX0_count_0 8 rfl rfl)
theorem dX0_count_9 : decode cX0_count 9 = .ok (.goto 9, 3) := dk_167 0 9 (dk_at dksX0_count_0 9 rfl rfl)
theorem dX0_count_12 : decode cX0_count 12 = .ok (.astore_n 3, 1) := dk_78 (dk_at dksX0_count_0 12 rfl rfl)
theorem dX0_count_13 : decode cX0_count 13 = .ok (.iconst 1, 1) := dk_4 (dk_at dksX0_count_0 13 rfl rfl)
theorem dX0_count_14 : decode cX0_count 14 = .ok (.ireturn, 1) := dk_172 (dk_at dksX0_count_0 14 rfl rfl)
theorem dX0_count_15 : decode cX0_count 15 = .ok (.astore_n 3, 1) := dk_78 (dk_at dksX0_count_0 15 rfl rfl)
theorem dX0_count_16 : decode cX0_count 16 = .ok (.iconst 2, 1) := dk_5 (dk_at dksX0_count_0 16 rfl rfl)
theorem dX0_count_17 : decode cX0_count 17 = .ok (.ireturn, 1) := dk_172 (dk_at dksX0_count_0 17 rfl rfl)
theorem dX0_count_18 : decode cX0_count 18 = .ok (.iconst 0, 1) := dk_3 (dk_at dksX0_count_0 18 rfl rfl)
theorem dX0_count_19 : decode cX0_count 19 = .ok (.ireturn, 1) := dk_172 (dk_at dksX0_count_0 19 rfl rfl)
abbrev cX0_setting : ByteArray := method_6_code
def yX0_setting : MethodName := ⟨RX0, "setting", "(LFlareSlopes;I[J)I"⟩
def dkwX0_setting_0 : List UInt8 := [44, 3, 42, 27, 182, 0, 26, 133, 80, 167, 0, 9, 78, 4, 172, 78, 5, 172, 3, 172]
abbrev dktX0_setting_0 : List UInt8 := dkwX0_setting_0 ++ []
theorem dksX0_setting_0 : cX0_setting.data.toList.drop 0 = dktX0_setting_0 := by decide +kernel
theorem dX0_setting_0 : decode cX0_setting 0 = .ok (.aload_n 2, 1) := dk_44 (dk_at dksX0_setting_0 0 rfl rfl)
theorem dX0_setting_1 : decode cX0_setting 1 = .ok (.iconst 0, 1) := dk_3 (dk_at dksX0_setting_0 1 rfl rfl)
theorem dX0_setting_2 : decode cX0_setting 2 = .ok (.aload_n 0, 1) := dk_42 (dk_at dksX0_setting_0 2 rfl rfl)
theorem dX0_setting_3 : decode cX0_setting 3 = .ok (.iload_n 1, 1) := dk_27 (dk_at dksX0_setting_0 3 rfl rfl)
theorem dX0_setting_4 : decode cX0_setting 4 = .ok (.invokevirtual 26, 3) := dk_182 0 26 (dk_at dksX0_setting_0 4 rfl rfl)
theorem dX0_setting_7 : decode cX0_setting 7 = .ok (.i2l, 1) := dk_133 (dk_at dksX0_setting_0 7 rfl rfl)
theorem dX0_setting_8 : decode cX0_setting 8 = .ok (.lastore, 1) := dk_80 (dk_at dksX0_setting_0 8 rfl rfl)
theorem dX0_setting_9 : decode cX0_setting 9 = .ok (.goto 9, 3) := dk_167 0 9 (dk_at dksX0_setting_0 9 rfl rfl)
theorem dX0_setting_12 : decode cX0_setting 12 = .ok (.astore_n 3, 1) := dk_78 (dk_at dksX0_setting_0 12 rfl rfl)
theorem dX0_setting_13 : decode cX0_setting 13 = .ok (.iconst 1, 1) := dk_4 (dk_at dksX0_setting_0 13 rfl rfl)
theorem dX0_setting_14 : decode cX0_setting 14 = .ok (.ireturn, 1) := dk_172 (dk_at dksX0_setting_0 14 rfl rfl)
theorem dX0_setting_15 : decode cX0_setting 15 = .ok (.astore_n 3, 1) := dk_78 (dk_at dksX0_setting_0 15 rfl rfl)
theorem dX0_setting_16 : decode cX0_setting 16 = .ok (.iconst 2, 1) := dk_5 (dk_at dksX0_setting_0 16 rfl rfl)
theorem dX0_setting_17 : decode cX0_setting 17 = .ok (.ireturn, 1) := dk_172 (dk_at dksX0_setting_0 17 rfl rfl)
theorem dX0_setting_18 : decode cX0_setting 18 = .ok (.iconst 0, 1) := dk_3 (dk_at dksX0_setting_0 18 rfl rfl)
theorem dX0_setting_19 : decode cX0_setting 19 = .ok (.ireturn, 1) := dk_172 (dk_at dksX0_setting_0 19 rfl rfl)
abbrev cX0_cabin : ByteArray := method_7_code
def yX0_cabin : MethodName := ⟨RX0, "cabin", "(LFlareSlopes;II[J)I"⟩
def dkwX0_cabin_1 : List UInt8 := [172, 3, 172]
abbrev dktX0_cabin_1 : List UInt8 := dkwX0_cabin_1 ++ []
def dkwX0_cabin_0 : List UInt8 := [45, 3, 42, 27, 28, 182, 0, 29, 133, 80, 167, 0, 15, 58, 4, 4, 172, 58, 4, 5, 172, 58, 4, 6]
abbrev dktX0_cabin_0 : List UInt8 := dkwX0_cabin_0 ++ dktX0_cabin_1
theorem dksX0_cabin_0 : cX0_cabin.data.toList.drop 0 = dktX0_cabin_0 := by decide +kernel
theorem dksX0_cabin_1 : cX0_cabin.data.toList.drop 24 = dktX0_cabin_1 := dk_seg dksX0_cabin_0 24 rfl rfl
theorem dX0_cabin_0 : decode cX0_cabin 0 = .ok (.aload_n 3, 1) := dk_45 (dk_at dksX0_cabin_0 0 rfl rfl)
theorem dX0_cabin_1 : decode cX0_cabin 1 = .ok (.iconst 0, 1) := dk_3 (dk_at dksX0_cabin_0 1 rfl rfl)
theorem dX0_cabin_2 : decode cX0_cabin 2 = .ok (.aload_n 0, 1) := dk_42 (dk_at dksX0_cabin_0 2 rfl rfl)
theorem dX0_cabin_3 : decode cX0_cabin 3 = .ok (.iload_n 1, 1) := dk_27 (dk_at dksX0_cabin_0 3 rfl rfl)
theorem dX0_cabin_4 : decode cX0_cabin 4 = .ok (.iload_n 2, 1) := dk_28 (dk_at dksX0_cabin_0 4 rfl rfl)
theorem dX0_cabin_5 : decode cX0_cabin 5 = .ok (.invokevirtual 29, 3) := dk_182 0 29 (dk_at dksX0_cabin_0 5 rfl rfl)
theorem dX0_cabin_8 : decode cX0_cabin 8 = .ok (.i2l, 1) := dk_133 (dk_at dksX0_cabin_0 8 rfl rfl)
theorem dX0_cabin_9 : decode cX0_cabin 9 = .ok (.lastore, 1) := dk_80 (dk_at dksX0_cabin_0 9 rfl rfl)
theorem dX0_cabin_10 : decode cX0_cabin 10 = .ok (.goto 15, 3) := dk_167 0 15 (dk_at dksX0_cabin_0 10 rfl rfl)
theorem dX0_cabin_13 : decode cX0_cabin 13 = .ok (.astore 4, 2) := dk_58 4 (dk_at dksX0_cabin_0 13 rfl rfl)
theorem dX0_cabin_15 : decode cX0_cabin 15 = .ok (.iconst 1, 1) := dk_4 (dk_at dksX0_cabin_0 15 rfl rfl)
theorem dX0_cabin_16 : decode cX0_cabin 16 = .ok (.ireturn, 1) := dk_172 (dk_at dksX0_cabin_0 16 rfl rfl)
theorem dX0_cabin_17 : decode cX0_cabin 17 = .ok (.astore 4, 2) := dk_58 4 (dk_at dksX0_cabin_0 17 rfl rfl)
theorem dX0_cabin_19 : decode cX0_cabin 19 = .ok (.iconst 2, 1) := dk_5 (dk_at dksX0_cabin_0 19 rfl rfl)
theorem dX0_cabin_20 : decode cX0_cabin 20 = .ok (.ireturn, 1) := dk_172 (dk_at dksX0_cabin_0 20 rfl rfl)
theorem dX0_cabin_21 : decode cX0_cabin 21 = .ok (.astore 4, 2) := dk_58 4 (dk_at dksX0_cabin_0 21 rfl rfl)
theorem dX0_cabin_23 : decode cX0_cabin 23 = .ok (.iconst 3, 1) := dk_6 (dk_at dksX0_cabin_0 23 rfl rfl)
theorem dX0_cabin_24 : decode cX0_cabin 24 = .ok (.ireturn, 1) := dk_172 (dk_at dksX0_cabin_1 0 rfl rfl)
theorem dX0_cabin_25 : decode cX0_cabin 25 = .ok (.iconst 0, 1) := dk_3 (dk_at dksX0_cabin_1 1 rfl rfl)
theorem dX0_cabin_26 : decode cX0_cabin 26 = .ok (.ireturn, 1) := dk_172 (dk_at dksX0_cabin_1 2 rfl rfl)
abbrev cX0_slope : ByteArray := method_8_code
def yX0_slope : MethodName := ⟨RX0, "slope", "(LFlareSlopes;II[J)I"⟩
def dkwX0_slope_1 : List UInt8 := [172, 3, 172]
abbrev dktX0_slope_1 : List UInt8 := dkwX0_slope_1 ++ []
def dkwX0_slope_0 : List UInt8 := [45, 3, 42, 27, 28, 182, 0, 33, 133, 80, 167, 0, 15, 58, 4, 4, 172, 58, 4, 5, 172, 58, 4, 6]
abbrev dktX0_slope_0 : List UInt8 := dkwX0_slope_0 ++ dktX0_slope_1
theorem dksX0_slope_0 : cX0_slope.data.toList.drop 0 = dktX0_slope_0 := by decide +kernel
theorem dksX0_slope_1 : cX0_slope.data.toList.drop 24 = dktX0_slope_1 := dk_seg dksX0_slope_0 24 rfl rfl
theorem dX0_slope_0 : decode cX0_slope 0 = .ok (.aload_n 3, 1) := dk_45 (dk_at dksX0_slope_0 0 rfl rfl)
theorem dX0_slope_1 : decode cX0_slope 1 = .ok (.iconst 0, 1) := dk_3 (dk_at dksX0_slope_0 1 rfl rfl)
theorem dX0_slope_2 : decode cX0_slope 2 = .ok (.aload_n 0, 1) := dk_42 (dk_at dksX0_slope_0 2 rfl rfl)
theorem dX0_slope_3 : decode cX0_slope 3 = .ok (.iload_n 1, 1) := dk_27 (dk_at dksX0_slope_0 3 rfl rfl)
theorem dX0_slope_4 : decode cX0_slope 4 = .ok (.iload_n 2, 1) := dk_28 (dk_at dksX0_slope_0 4 rfl rfl)
theorem dX0_slope_5 : decode cX0_slope 5 = .ok (.invokevirtual 33, 3) := dk_182 0 33 (dk_at dksX0_slope_0 5 rfl rfl)
theorem dX0_slope_8 : decode cX0_slope 8 = .ok (.i2l, 1) := dk_133 (dk_at dksX0_slope_0 8 rfl rfl)
theorem dX0_slope_9 : decode cX0_slope 9 = .ok (.lastore, 1) := dk_80 (dk_at dksX0_slope_0 9 rfl rfl)
theorem dX0_slope_10 : decode cX0_slope 10 = .ok (.goto 15, 3) := dk_167 0 15 (dk_at dksX0_slope_0 10 rfl rfl)
theorem dX0_slope_13 : decode cX0_slope 13 = .ok (.astore 4, 2) := dk_58 4 (dk_at dksX0_slope_0 13 rfl rfl)
theorem dX0_slope_15 : decode cX0_slope 15 = .ok (.iconst 1, 1) := dk_4 (dk_at dksX0_slope_0 15 rfl rfl)
theorem dX0_slope_16 : decode cX0_slope 16 = .ok (.ireturn, 1) := dk_172 (dk_at dksX0_slope_0 16 rfl rfl)
theorem dX0_slope_17 : decode cX0_slope 17 = .ok (.astore 4, 2) := dk_58 4 (dk_at dksX0_slope_0 17 rfl rfl)
theorem dX0_slope_19 : decode cX0_slope 19 = .ok (.iconst 2, 1) := dk_5 (dk_at dksX0_slope_0 19 rfl rfl)
theorem dX0_slope_20 : decode cX0_slope 20 = .ok (.ireturn, 1) := dk_172 (dk_at dksX0_slope_0 20 rfl rfl)
theorem dX0_slope_21 : decode cX0_slope 21 = .ok (.astore 4, 2) := dk_58 4 (dk_at dksX0_slope_0 21 rfl rfl)
theorem dX0_slope_23 : decode cX0_slope 23 = .ok (.iconst 3, 1) := dk_6 (dk_at dksX0_slope_0 23 rfl rfl)
theorem dX0_slope_24 : decode cX0_slope 24 = .ok (.ireturn, 1) := dk_172 (dk_at dksX0_slope_1 0 rfl rfl)
theorem dX0_slope_25 : decode cX0_slope 25 = .ok (.iconst 0, 1) := dk_3 (dk_at dksX0_slope_1 1 rfl rfl)
theorem dX0_slope_26 : decode cX0_slope 26 = .ok (.ireturn, 1) := dk_172 (dk_at dksX0_slope_1 2 rfl rfl)
abbrev cX0_ridge : ByteArray := method_9_code
def yX0_ridge : MethodName := ⟨RX0, "ridge", "(LFlareSlopes;II[J)I"⟩
def dkwX0_ridge_1 : List UInt8 := [172, 3, 172]
abbrev dktX0_ridge_1 : List UInt8 := dkwX0_ridge_1 ++ []
def dkwX0_ridge_0 : List UInt8 := [45, 3, 42, 27, 28, 182, 0, 36, 133, 80, 167, 0, 15, 58, 4, 4, 172, 58, 4, 5, 172, 58, 4, 6]
abbrev dktX0_ridge_0 : List UInt8 := dkwX0_ridge_0 ++ dktX0_ridge_1
theorem dksX0_ridge_0 : cX0_ridge.data.toList.drop 0 = dktX0_ridge_0 := by decide +kernel
theorem dksX0_ridge_1 : cX0_ridge.data.toList.drop 24 = dktX0_ridge_1 := dk_seg dksX0_ridge_0 24 rfl rfl
theorem dX0_ridge_0 : decode cX0_ridge 0 = .ok (.aload_n 3, 1) := dk_45 (dk_at dksX0_ridge_0 0 rfl rfl)
theorem dX0_ridge_1 : decode cX0_ridge 1 = .ok (.iconst 0, 1) := dk_3 (dk_at dksX0_ridge_0 1 rfl rfl)
theorem dX0_ridge_2 : decode cX0_ridge 2 = .ok (.aload_n 0, 1) := dk_42 (dk_at dksX0_ridge_0 2 rfl rfl)
theorem dX0_ridge_3 : decode cX0_ridge 3 = .ok (.iload_n 1, 1) := dk_27 (dk_at dksX0_ridge_0 3 rfl rfl)
theorem dX0_ridge_4 : decode cX0_ridge 4 = .ok (.iload_n 2, 1) := dk_28 (dk_at dksX0_ridge_0 4 rfl rfl)
theorem dX0_ridge_5 : decode cX0_ridge 5 = .ok (.invokevirtual 36, 3) := dk_182 0 36 (dk_at dksX0_ridge_0 5 rfl rfl)
theorem dX0_ridge_8 : decode cX0_ridge 8 = .ok (.i2l, 1) := dk_133 (dk_at dksX0_ridge_0 8 rfl rfl)
theorem dX0_ridge_9 : decode cX0_ridge 9 = .ok (.lastore, 1) := dk_80 (dk_at dksX0_ridge_0 9 rfl rfl)
theorem dX0_ridge_10 : decode cX0_ridge 10 = .ok (.goto 15, 3) := dk_167 0 15 (dk_at dksX0_ridge_0 10 rfl rfl)
theorem dX0_ridge_13 : decode cX0_ridge 13 = .ok (.astore 4, 2) := dk_58 4 (dk_at dksX0_ridge_0 13 rfl rfl)
theorem dX0_ridge_15 : decode cX0_ridge 15 = .ok (.iconst 1, 1) := dk_4 (dk_at dksX0_ridge_0 15 rfl rfl)
theorem dX0_ridge_16 : decode cX0_ridge 16 = .ok (.ireturn, 1) := dk_172 (dk_at dksX0_ridge_0 16 rfl rfl)
theorem dX0_ridge_17 : decode cX0_ridge 17 = .ok (.astore 4, 2) := dk_58 4 (dk_at dksX0_ridge_0 17 rfl rfl)
theorem dX0_ridge_19 : decode cX0_ridge 19 = .ok (.iconst 2, 1) := dk_5 (dk_at dksX0_ridge_0 19 rfl rfl)
theorem dX0_ridge_20 : decode cX0_ridge 20 = .ok (.ireturn, 1) := dk_172 (dk_at dksX0_ridge_0 20 rfl rfl)
theorem dX0_ridge_21 : decode cX0_ridge 21 = .ok (.astore 4, 2) := dk_58 4 (dk_at dksX0_ridge_0 21 rfl rfl)
theorem dX0_ridge_23 : decode cX0_ridge 23 = .ok (.iconst 3, 1) := dk_6 (dk_at dksX0_ridge_0 23 rfl rfl)
theorem dX0_ridge_24 : decode cX0_ridge 24 = .ok (.ireturn, 1) := dk_172 (dk_at dksX0_ridge_1 0 rfl rfl)
theorem dX0_ridge_25 : decode cX0_ridge 25 = .ok (.iconst 0, 1) := dk_3 (dk_at dksX0_ridge_1 1 rfl rfl)
theorem dX0_ridge_26 : decode cX0_ridge 26 = .ok (.ireturn, 1) := dk_172 (dk_at dksX0_ridge_1 2 rfl rfl)
abbrev cX0_fog : ByteArray := method_10_code
def yX0_fog : MethodName := ⟨RX0, "fog", "(LFlareSlopes;II[J)I"⟩
def dkwX0_fog_1 : List UInt8 := [172, 3, 172]
abbrev dktX0_fog_1 : List UInt8 := dkwX0_fog_1 ++ []
def dkwX0_fog_0 : List UInt8 := [45, 3, 42, 27, 28, 182, 0, 39, 133, 80, 167, 0, 15, 58, 4, 4, 172, 58, 4, 5, 172, 58, 4, 6]
abbrev dktX0_fog_0 : List UInt8 := dkwX0_fog_0 ++ dktX0_fog_1
theorem dksX0_fog_0 : cX0_fog.data.toList.drop 0 = dktX0_fog_0 := by decide +kernel
theorem dksX0_fog_1 : cX0_fog.data.toList.drop 24 = dktX0_fog_1 := dk_seg dksX0_fog_0 24 rfl rfl
theorem dX0_fog_0 : decode cX0_fog 0 = .ok (.aload_n 3, 1) := dk_45 (dk_at dksX0_fog_0 0 rfl rfl)
theorem dX0_fog_1 : decode cX0_fog 1 = .ok (.iconst 0, 1) := dk_3 (dk_at dksX0_fog_0 1 rfl rfl)
theorem dX0_fog_2 : decode cX0_fog 2 = .ok (.aload_n 0, 1) := dk_42 (dk_at dksX0_fog_0 2 rfl rfl)
theorem dX0_fog_3 : decode cX0_fog 3 = .ok (.iload_n 1, 1) := dk_27 (dk_at dksX0_fog_0 3 rfl rfl)
theorem dX0_fog_4 : decode cX0_fog 4 = .ok (.iload_n 2, 1) := dk_28 (dk_at dksX0_fog_0 4 rfl rfl)
theorem dX0_fog_5 : decode cX0_fog 5 = .ok (.invokevirtual 39, 3) := dk_182 0 39 (dk_at dksX0_fog_0 5 rfl rfl)
theorem dX0_fog_8 : decode cX0_fog 8 = .ok (.i2l, 1) := dk_133 (dk_at dksX0_fog_0 8 rfl rfl)
theorem dX0_fog_9 : decode cX0_fog 9 = .ok (.lastore, 1) := dk_80 (dk_at dksX0_fog_0 9 rfl rfl)
theorem dX0_fog_10 : decode cX0_fog 10 = .ok (.goto 15, 3) := dk_167 0 15 (dk_at dksX0_fog_0 10 rfl rfl)
theorem dX0_fog_13 : decode cX0_fog 13 = .ok (.astore 4, 2) := dk_58 4 (dk_at dksX0_fog_0 13 rfl rfl)
theorem dX0_fog_15 : decode cX0_fog 15 = .ok (.iconst 1, 1) := dk_4 (dk_at dksX0_fog_0 15 rfl rfl)
theorem dX0_fog_16 : decode cX0_fog 16 = .ok (.ireturn, 1) := dk_172 (dk_at dksX0_fog_0 16 rfl rfl)
theorem dX0_fog_17 : decode cX0_fog 17 = .ok (.astore 4, 2) := dk_58 4 (dk_at dksX0_fog_0 17 rfl rfl)
theorem dX0_fog_19 : decode cX0_fog 19 = .ok (.iconst 2, 1) := dk_5 (dk_at dksX0_fog_0 19 rfl rfl)
theorem dX0_fog_20 : decode cX0_fog 20 = .ok (.ireturn, 1) := dk_172 (dk_at dksX0_fog_0 20 rfl rfl)
theorem dX0_fog_21 : decode cX0_fog 21 = .ok (.astore 4, 2) := dk_58 4 (dk_at dksX0_fog_0 21 rfl rfl)
theorem dX0_fog_23 : decode cX0_fog 23 = .ok (.iconst 3, 1) := dk_6 (dk_at dksX0_fog_0 23 rfl rfl)
theorem dX0_fog_24 : decode cX0_fog 24 = .ok (.ireturn, 1) := dk_172 (dk_at dksX0_fog_1 0 rfl rfl)
theorem dX0_fog_25 : decode cX0_fog 25 = .ok (.iconst 0, 1) := dk_3 (dk_at dksX0_fog_1 1 rfl rfl)
theorem dX0_fog_26 : decode cX0_fog 26 = .ok (.ireturn, 1) := dk_172 (dk_at dksX0_fog_1 2 rfl rfl)
abbrev cX0_sight : ByteArray := method_11_code
def yX0_sight : MethodName := ⟨RX0, "sight", "(LFlareSlopes;[J)I"⟩
def dkwX0_sight_0 : List UInt8 := [43, 3, 42, 182, 0, 42, 133, 80, 167, 0, 6, 77, 4, 172, 3, 172]
abbrev dktX0_sight_0 : List UInt8 := dkwX0_sight_0 ++ []
theorem dksX0_sight_0 : cX0_sight.data.toList.drop 0 = dktX0_sight_0 := by decide +kernel
theorem dX0_sight_0 : decode cX0_sight 0 = .ok (.aload_n 1, 1) := dk_43 (dk_at dksX0_sight_0 0 rfl rfl)
theorem dX0_sight_1 : decode cX0_sight 1 = .ok (.iconst 0, 1) := dk_3 (dk_at dksX0_sight_0 1 rfl rfl)
theorem dX0_sight_2 : decode cX0_sight 2 = .ok (.aload_n 0, 1) := dk_42 (dk_at dksX0_sight_0 2 rfl rfl)
theorem dX0_sight_3 : decode cX0_sight 3 = .ok (.invokevirtual 42, 3) := dk_182 0 42 (dk_at dksX0_sight_0 3 rfl rfl)
theorem dX0_sight_6 : decode cX0_sight 6 = .ok (.i2l, 1) := dk_133 (dk_at dksX0_sight_0 6 rfl rfl)
theorem dX0_sight_7 : decode cX0_sight 7 = .ok (.lastore, 1) := dk_80 (dk_at dksX0_sight_0 7 rfl rfl)
theorem dX0_sight_8 : decode cX0_sight 8 = .ok (.goto 6, 3) := dk_167 0 6 (dk_at dksX0_sight_0 8 rfl rfl)
theorem dX0_sight_11 : decode cX0_sight 11 = .ok (.astore_n 2, 1) := dk_77 (dk_at dksX0_sight_0 11 rfl rfl)
theorem dX0_sight_12 : decode cX0_sight 12 = .ok (.iconst 1, 1) := dk_4 (dk_at dksX0_sight_0 12 rfl rfl)
theorem dX0_sight_13 : decode cX0_sight 13 = .ok (.ireturn, 1) := dk_172 (dk_at dksX0_sight_0 13 rfl rfl)
theorem dX0_sight_14 : decode cX0_sight 14 = .ok (.iconst 0, 1) := dk_3 (dk_at dksX0_sight_0 14 rfl rfl)
theorem dX0_sight_15 : decode cX0_sight 15 = .ok (.ireturn, 1) := dk_172 (dk_at dksX0_sight_0 15 rfl rfl)
abbrev cX0_sees : ByteArray := method_12_code
def yX0_sees : MethodName := ⟨RX0, "sees", "(LFlareSlopes;II[J)I"⟩
def dkwX0_sees_1 : List UInt8 := [58, 4, 5, 172, 3, 172]
abbrev dktX0_sees_1 : List UInt8 := dkwX0_sees_1 ++ []
def dkwX0_sees_0 : List UInt8 := [45, 3, 42, 27, 28, 182, 0, 46, 153, 0, 7, 10, 167, 0, 4, 9, 80, 167, 0, 11, 58, 4, 4, 172]
abbrev dktX0_sees_0 : List UInt8 := dkwX0_sees_0 ++ dktX0_sees_1
theorem dksX0_sees_0 : cX0_sees.data.toList.drop 0 = dktX0_sees_0 := by decide +kernel
theorem dksX0_sees_1 : cX0_sees.data.toList.drop 24 = dktX0_sees_1 := dk_seg dksX0_sees_0 24 rfl rfl
theorem dX0_sees_0 : decode cX0_sees 0 = .ok (.aload_n 3, 1) := dk_45 (dk_at dksX0_sees_0 0 rfl rfl)
theorem dX0_sees_1 : decode cX0_sees 1 = .ok (.iconst 0, 1) := dk_3 (dk_at dksX0_sees_0 1 rfl rfl)
theorem dX0_sees_2 : decode cX0_sees 2 = .ok (.aload_n 0, 1) := dk_42 (dk_at dksX0_sees_0 2 rfl rfl)
theorem dX0_sees_3 : decode cX0_sees 3 = .ok (.iload_n 1, 1) := dk_27 (dk_at dksX0_sees_0 3 rfl rfl)
theorem dX0_sees_4 : decode cX0_sees 4 = .ok (.iload_n 2, 1) := dk_28 (dk_at dksX0_sees_0 4 rfl rfl)
theorem dX0_sees_5 : decode cX0_sees 5 = .ok (.invokevirtual 46, 3) := dk_182 0 46 (dk_at dksX0_sees_0 5 rfl rfl)
theorem dX0_sees_8 : decode cX0_sees 8 = .ok (.ifCond .eq 7, 3) := dk_153 0 7 (dk_at dksX0_sees_0 8 rfl rfl)
theorem dX0_sees_11 : decode cX0_sees 11 = .ok (.lconst 1, 1) := dk_10 (dk_at dksX0_sees_0 11 rfl rfl)
theorem dX0_sees_12 : decode cX0_sees 12 = .ok (.goto 4, 3) := dk_167 0 4 (dk_at dksX0_sees_0 12 rfl rfl)
theorem dX0_sees_15 : decode cX0_sees 15 = .ok (.lconst 0, 1) := dk_9 (dk_at dksX0_sees_0 15 rfl rfl)
theorem dX0_sees_16 : decode cX0_sees 16 = .ok (.lastore, 1) := dk_80 (dk_at dksX0_sees_0 16 rfl rfl)
theorem dX0_sees_17 : decode cX0_sees 17 = .ok (.goto 11, 3) := dk_167 0 11 (dk_at dksX0_sees_0 17 rfl rfl)
theorem dX0_sees_20 : decode cX0_sees 20 = .ok (.astore 4, 2) := dk_58 4 (dk_at dksX0_sees_0 20 rfl rfl)
theorem dX0_sees_22 : decode cX0_sees 22 = .ok (.iconst 1, 1) := dk_4 (dk_at dksX0_sees_0 22 rfl rfl)
theorem dX0_sees_23 : decode cX0_sees 23 = .ok (.ireturn, 1) := dk_172 (dk_at dksX0_sees_0 23 rfl rfl)
theorem dX0_sees_24 : decode cX0_sees 24 = .ok (.astore 4, 2) := dk_58 4 (dk_at dksX0_sees_1 0 rfl rfl)
theorem dX0_sees_26 : decode cX0_sees 26 = .ok (.iconst 2, 1) := dk_5 (dk_at dksX0_sees_1 2 rfl rfl)
theorem dX0_sees_27 : decode cX0_sees 27 = .ok (.ireturn, 1) := dk_172 (dk_at dksX0_sees_1 3 rfl rfl)
theorem dX0_sees_28 : decode cX0_sees 28 = .ok (.iconst 0, 1) := dk_3 (dk_at dksX0_sees_1 4 rfl rfl)
theorem dX0_sees_29 : decode cX0_sees 29 = .ok (.ireturn, 1) := dk_172 (dk_at dksX0_sees_1 5 rfl rfl)
abbrev cX0_seesSlope : ByteArray := method_13_code
def yX0_seesSlope : MethodName := ⟨RX0, "seesSlope", "(LFlareSlopes;II[J)I"⟩
def dkwX0_seesSlope_1 : List UInt8 := [58, 4, 5, 172, 3, 172]
abbrev dktX0_seesSlope_1 : List UInt8 := dkwX0_seesSlope_1 ++ []
def dkwX0_seesSlope_0 : List UInt8 := [45, 3, 42, 27, 28, 182, 0, 50, 153, 0, 7, 10, 167, 0, 4, 9, 80, 167, 0, 11, 58, 4, 4, 172]
abbrev dktX0_seesSlope_0 : List UInt8 := dkwX0_seesSlope_0 ++ dktX0_seesSlope_1
theorem dksX0_seesSlope_0 : cX0_seesSlope.data.toList.drop 0 = dktX0_seesSlope_0 := by decide +kernel
theorem dksX0_seesSlope_1 : cX0_seesSlope.data.toList.drop 24 = dktX0_seesSlope_1 := dk_seg dksX0_seesSlope_0 24 rfl rfl
theorem dX0_seesSlope_0 : decode cX0_seesSlope 0 = .ok (.aload_n 3, 1) := dk_45 (dk_at dksX0_seesSlope_0 0 rfl rfl)
theorem dX0_seesSlope_1 : decode cX0_seesSlope 1 = .ok (.iconst 0, 1) := dk_3 (dk_at dksX0_seesSlope_0 1 rfl rfl)
theorem dX0_seesSlope_2 : decode cX0_seesSlope 2 = .ok (.aload_n 0, 1) := dk_42 (dk_at dksX0_seesSlope_0 2 rfl rfl)
theorem dX0_seesSlope_3 : decode cX0_seesSlope 3 = .ok (.iload_n 1, 1) := dk_27 (dk_at dksX0_seesSlope_0 3 rfl rfl)
theorem dX0_seesSlope_4 : decode cX0_seesSlope 4 = .ok (.iload_n 2, 1) := dk_28 (dk_at dksX0_seesSlope_0 4 rfl rfl)
theorem dX0_seesSlope_5 : decode cX0_seesSlope 5 = .ok (.invokevirtual 50, 3) := dk_182 0 50 (dk_at dksX0_seesSlope_0 5 rfl rfl)
theorem dX0_seesSlope_8 : decode cX0_seesSlope 8 = .ok (.ifCond .eq 7, 3) := dk_153 0 7 (dk_at dksX0_seesSlope_0 8 rfl rfl)
theorem dX0_seesSlope_11 : decode cX0_seesSlope 11 = .ok (.lconst 1, 1) := dk_10 (dk_at dksX0_seesSlope_0 11 rfl rfl)
theorem dX0_seesSlope_12 : decode cX0_seesSlope 12 = .ok (.goto 4, 3) := dk_167 0 4 (dk_at dksX0_seesSlope_0 12 rfl rfl)
theorem dX0_seesSlope_15 : decode cX0_seesSlope 15 = .ok (.lconst 0, 1) := dk_9 (dk_at dksX0_seesSlope_0 15 rfl rfl)
theorem dX0_seesSlope_16 : decode cX0_seesSlope 16 = .ok (.lastore, 1) := dk_80 (dk_at dksX0_seesSlope_0 16 rfl rfl)
theorem dX0_seesSlope_17 : decode cX0_seesSlope 17 = .ok (.goto 11, 3) := dk_167 0 11 (dk_at dksX0_seesSlope_0 17 rfl rfl)
theorem dX0_seesSlope_20 : decode cX0_seesSlope 20 = .ok (.astore 4, 2) := dk_58 4 (dk_at dksX0_seesSlope_0 20 rfl rfl)
theorem dX0_seesSlope_22 : decode cX0_seesSlope 22 = .ok (.iconst 1, 1) := dk_4 (dk_at dksX0_seesSlope_0 22 rfl rfl)
theorem dX0_seesSlope_23 : decode cX0_seesSlope 23 = .ok (.ireturn, 1) := dk_172 (dk_at dksX0_seesSlope_0 23 rfl rfl)
theorem dX0_seesSlope_24 : decode cX0_seesSlope 24 = .ok (.astore 4, 2) := dk_58 4 (dk_at dksX0_seesSlope_1 0 rfl rfl)
theorem dX0_seesSlope_26 : decode cX0_seesSlope 26 = .ok (.iconst 2, 1) := dk_5 (dk_at dksX0_seesSlope_1 2 rfl rfl)
theorem dX0_seesSlope_27 : decode cX0_seesSlope 27 = .ok (.ireturn, 1) := dk_172 (dk_at dksX0_seesSlope_1 3 rfl rfl)
theorem dX0_seesSlope_28 : decode cX0_seesSlope 28 = .ok (.iconst 0, 1) := dk_3 (dk_at dksX0_seesSlope_1 4 rfl rfl)
theorem dX0_seesSlope_29 : decode cX0_seesSlope 29 = .ok (.ireturn, 1) := dk_172 (dk_at dksX0_seesSlope_1 5 rfl rfl)
abbrev cX0_seers : ByteArray := method_14_code
def yX0_seers : MethodName := ⟨RX0, "seers", "(LFlareSlopes;I[J)I"⟩
def dkwX0_seers_0 : List UInt8 := [44, 3, 42, 27, 182, 0, 53, 133, 80, 167, 0, 9, 78, 4, 172, 78, 5, 172, 3, 172]
abbrev dktX0_seers_0 : List UInt8 := dkwX0_seers_0 ++ []
theorem dksX0_seers_0 : cX0_seers.data.toList.drop 0 = dktX0_seers_0 := by decide +kernel
theorem dX0_seers_0 : decode cX0_seers 0 = .ok (.aload_n 2, 1) := dk_44 (dk_at dksX0_seers_0 0 rfl rfl)
theorem dX0_seers_1 : decode cX0_seers 1 = .ok (.iconst 0, 1) := dk_3 (dk_at dksX0_seers_0 1 rfl rfl)
theorem dX0_seers_2 : decode cX0_seers 2 = .ok (.aload_n 0, 1) := dk_42 (dk_at dksX0_seers_0 2 rfl rfl)
theorem dX0_seers_3 : decode cX0_seers 3 = .ok (.iload_n 1, 1) := dk_27 (dk_at dksX0_seers_0 3 rfl rfl)
theorem dX0_seers_4 : decode cX0_seers 4 = .ok (.invokevirtual 53, 3) := dk_182 0 53 (dk_at dksX0_seers_0 4 rfl rfl)
theorem dX0_seers_7 : decode cX0_seers 7 = .ok (.i2l, 1) := dk_133 (dk_at dksX0_seers_0 7 rfl rfl)
theorem dX0_seers_8 : decode cX0_seers 8 = .ok (.lastore, 1) := dk_80 (dk_at dksX0_seers_0 8 rfl rfl)
theorem dX0_seers_9 : decode cX0_seers 9 = .ok (.goto 9, 3) := dk_167 0 9 (dk_at dksX0_seers_0 9 rfl rfl)
theorem dX0_seers_12 : decode cX0_seers 12 = .ok (.astore_n 3, 1) := dk_78 (dk_at dksX0_seers_0 12 rfl rfl)
theorem dX0_seers_13 : decode cX0_seers 13 = .ok (.iconst 1, 1) := dk_4 (dk_at dksX0_seers_0 13 rfl rfl)
theorem dX0_seers_14 : decode cX0_seers 14 = .ok (.ireturn, 1) := dk_172 (dk_at dksX0_seers_0 14 rfl rfl)
theorem dX0_seers_15 : decode cX0_seers 15 = .ok (.astore_n 3, 1) := dk_78 (dk_at dksX0_seers_0 15 rfl rfl)
theorem dX0_seers_16 : decode cX0_seers 16 = .ok (.iconst 2, 1) := dk_5 (dk_at dksX0_seers_0 16 rfl rfl)
theorem dX0_seers_17 : decode cX0_seers 17 = .ok (.ireturn, 1) := dk_172 (dk_at dksX0_seers_0 17 rfl rfl)
theorem dX0_seers_18 : decode cX0_seers 18 = .ok (.iconst 0, 1) := dk_3 (dk_at dksX0_seers_0 18 rfl rfl)
theorem dX0_seers_19 : decode cX0_seers 19 = .ok (.ireturn, 1) := dk_172 (dk_at dksX0_seers_0 19 rfl rfl)
abbrev cX0_distance : ByteArray := method_15_code
def yX0_distance : MethodName := ⟨RX0, "distance", "(LFlareSlopes;II[J)I"⟩
def dkwX0_distance_0 : List UInt8 := [45, 3, 42, 27, 28, 182, 0, 56, 133, 80, 167, 0, 11, 58, 4, 4, 172, 58, 4, 5, 172, 3, 172]
abbrev dktX0_distance_0 : List UInt8 := dkwX0_distance_0 ++ []
theorem dksX0_distance_0 : cX0_distance.data.toList.drop 0 = dktX0_distance_0 := by decide +kernel
theorem dX0_distance_0 : decode cX0_distance 0 = .ok (.aload_n 3, 1) := dk_45 (dk_at dksX0_distance_0 0 rfl rfl)
theorem dX0_distance_1 : decode cX0_distance 1 = .ok (.iconst 0, 1) := dk_3 (dk_at dksX0_distance_0 1 rfl rfl)
theorem dX0_distance_2 : decode cX0_distance 2 = .ok (.aload_n 0, 1) := dk_42 (dk_at dksX0_distance_0 2 rfl rfl)
theorem dX0_distance_3 : decode cX0_distance 3 = .ok (.iload_n 1, 1) := dk_27 (dk_at dksX0_distance_0 3 rfl rfl)
theorem dX0_distance_4 : decode cX0_distance 4 = .ok (.iload_n 2, 1) := dk_28 (dk_at dksX0_distance_0 4 rfl rfl)
theorem dX0_distance_5 : decode cX0_distance 5 = .ok (.invokevirtual 56, 3) := dk_182 0 56 (dk_at dksX0_distance_0 5 rfl rfl)
theorem dX0_distance_8 : decode cX0_distance 8 = .ok (.i2l, 1) := dk_133 (dk_at dksX0_distance_0 8 rfl rfl)
theorem dX0_distance_9 : decode cX0_distance 9 = .ok (.lastore, 1) := dk_80 (dk_at dksX0_distance_0 9 rfl rfl)
theorem dX0_distance_10 : decode cX0_distance 10 = .ok (.goto 11, 3) := dk_167 0 11 (dk_at dksX0_distance_0 10 rfl rfl)
theorem dX0_distance_13 : decode cX0_distance 13 = .ok (.astore 4, 2) := dk_58 4 (dk_at dksX0_distance_0 13 rfl rfl)
theorem dX0_distance_15 : decode cX0_distance 15 = .ok (.iconst 1, 1) := dk_4 (dk_at dksX0_distance_0 15 rfl rfl)
theorem dX0_distance_16 : decode cX0_distance 16 = .ok (.ireturn, 1) := dk_172 (dk_at dksX0_distance_0 16 rfl rfl)
theorem dX0_distance_17 : decode cX0_distance 17 = .ok (.astore 4, 2) := dk_58 4 (dk_at dksX0_distance_0 17 rfl rfl)
theorem dX0_distance_19 : decode cX0_distance 19 = .ok (.iconst 2, 1) := dk_5 (dk_at dksX0_distance_0 19 rfl rfl)
theorem dX0_distance_20 : decode cX0_distance 20 = .ok (.ireturn, 1) := dk_172 (dk_at dksX0_distance_0 20 rfl rfl)
theorem dX0_distance_21 : decode cX0_distance 21 = .ok (.iconst 0, 1) := dk_3 (dk_at dksX0_distance_0 21 rfl rfl)
theorem dX0_distance_22 : decode cX0_distance 22 = .ok (.ireturn, 1) := dk_172 (dk_at dksX0_distance_0 22 rfl rfl)
abbrev cX0_reached : ByteArray := method_16_code
def yX0_reached : MethodName := ⟨RX0, "reached", "(LFlareSlopes;I[J)I"⟩
def dkwX0_reached_0 : List UInt8 := [44, 3, 42, 27, 182, 0, 59, 133, 80, 167, 0, 9, 78, 4, 172, 78, 5, 172, 3, 172]
abbrev dktX0_reached_0 : List UInt8 := dkwX0_reached_0 ++ []
theorem dksX0_reached_0 : cX0_reached.data.toList.drop 0 = dktX0_reached_0 := by decide +kernel
theorem dX0_reached_0 : decode cX0_reached 0 = .ok (.aload_n 2, 1) := dk_44 (dk_at dksX0_reached_0 0 rfl rfl)
theorem dX0_reached_1 : decode cX0_reached 1 = .ok (.iconst 0, 1) := dk_3 (dk_at dksX0_reached_0 1 rfl rfl)
theorem dX0_reached_2 : decode cX0_reached 2 = .ok (.aload_n 0, 1) := dk_42 (dk_at dksX0_reached_0 2 rfl rfl)
theorem dX0_reached_3 : decode cX0_reached 3 = .ok (.iload_n 1, 1) := dk_27 (dk_at dksX0_reached_0 3 rfl rfl)
theorem dX0_reached_4 : decode cX0_reached 4 = .ok (.invokevirtual 59, 3) := dk_182 0 59 (dk_at dksX0_reached_0 4 rfl rfl)
theorem dX0_reached_7 : decode cX0_reached 7 = .ok (.i2l, 1) := dk_133 (dk_at dksX0_reached_0 7 rfl rfl)
theorem dX0_reached_8 : decode cX0_reached 8 = .ok (.lastore, 1) := dk_80 (dk_at dksX0_reached_0 8 rfl rfl)
theorem dX0_reached_9 : decode cX0_reached 9 = .ok (.goto 9, 3) := dk_167 0 9 (dk_at dksX0_reached_0 9 rfl rfl)
theorem dX0_reached_12 : decode cX0_reached 12 = .ok (.astore_n 3, 1) := dk_78 (dk_at dksX0_reached_0 12 rfl rfl)
theorem dX0_reached_13 : decode cX0_reached 13 = .ok (.iconst 1, 1) := dk_4 (dk_at dksX0_reached_0 13 rfl rfl)
theorem dX0_reached_14 : decode cX0_reached 14 = .ok (.ireturn, 1) := dk_172 (dk_at dksX0_reached_0 14 rfl rfl)
theorem dX0_reached_15 : decode cX0_reached 15 = .ok (.astore_n 3, 1) := dk_78 (dk_at dksX0_reached_0 15 rfl rfl)
theorem dX0_reached_16 : decode cX0_reached 16 = .ok (.iconst 2, 1) := dk_5 (dk_at dksX0_reached_0 16 rfl rfl)
theorem dX0_reached_17 : decode cX0_reached 17 = .ok (.ireturn, 1) := dk_172 (dk_at dksX0_reached_0 17 rfl rfl)
theorem dX0_reached_18 : decode cX0_reached 18 = .ok (.iconst 0, 1) := dk_3 (dk_at dksX0_reached_0 18 rfl rfl)
theorem dX0_reached_19 : decode cX0_reached 19 = .ok (.ireturn, 1) := dk_172 (dk_at dksX0_reached_0 19 rfl rfl)
abbrev cX0_steps : ByteArray := method_17_code
def yX0_steps : MethodName := ⟨RX0, "steps", "(LFlareSlopes;II[J)I"⟩
def dkwX0_steps_0 : List UInt8 := [45, 3, 42, 27, 28, 182, 0, 62, 133, 80, 167, 0, 11, 58, 4, 4, 172, 58, 4, 5, 172, 3, 172]
abbrev dktX0_steps_0 : List UInt8 := dkwX0_steps_0 ++ []
theorem dksX0_steps_0 : cX0_steps.data.toList.drop 0 = dktX0_steps_0 := by decide +kernel
theorem dX0_steps_0 : decode cX0_steps 0 = .ok (.aload_n 3, 1) := dk_45 (dk_at dksX0_steps_0 0 rfl rfl)
theorem dX0_steps_1 : decode cX0_steps 1 = .ok (.iconst 0, 1) := dk_3 (dk_at dksX0_steps_0 1 rfl rfl)
theorem dX0_steps_2 : decode cX0_steps 2 = .ok (.aload_n 0, 1) := dk_42 (dk_at dksX0_steps_0 2 rfl rfl)
theorem dX0_steps_3 : decode cX0_steps 3 = .ok (.iload_n 1, 1) := dk_27 (dk_at dksX0_steps_0 3 rfl rfl)
theorem dX0_steps_4 : decode cX0_steps 4 = .ok (.iload_n 2, 1) := dk_28 (dk_at dksX0_steps_0 4 rfl rfl)
theorem dX0_steps_5 : decode cX0_steps 5 = .ok (.invokevirtual 62, 3) := dk_182 0 62 (dk_at dksX0_steps_0 5 rfl rfl)
theorem dX0_steps_8 : decode cX0_steps 8 = .ok (.i2l, 1) := dk_133 (dk_at dksX0_steps_0 8 rfl rfl)
theorem dX0_steps_9 : decode cX0_steps 9 = .ok (.lastore, 1) := dk_80 (dk_at dksX0_steps_0 9 rfl rfl)
theorem dX0_steps_10 : decode cX0_steps 10 = .ok (.goto 11, 3) := dk_167 0 11 (dk_at dksX0_steps_0 10 rfl rfl)
theorem dX0_steps_13 : decode cX0_steps 13 = .ok (.astore 4, 2) := dk_58 4 (dk_at dksX0_steps_0 13 rfl rfl)
theorem dX0_steps_15 : decode cX0_steps 15 = .ok (.iconst 1, 1) := dk_4 (dk_at dksX0_steps_0 15 rfl rfl)
theorem dX0_steps_16 : decode cX0_steps 16 = .ok (.ireturn, 1) := dk_172 (dk_at dksX0_steps_0 16 rfl rfl)
theorem dX0_steps_17 : decode cX0_steps 17 = .ok (.astore 4, 2) := dk_58 4 (dk_at dksX0_steps_0 17 rfl rfl)
theorem dX0_steps_19 : decode cX0_steps 19 = .ok (.iconst 2, 1) := dk_5 (dk_at dksX0_steps_0 19 rfl rfl)
theorem dX0_steps_20 : decode cX0_steps 20 = .ok (.ireturn, 1) := dk_172 (dk_at dksX0_steps_0 20 rfl rfl)
theorem dX0_steps_21 : decode cX0_steps 21 = .ok (.iconst 0, 1) := dk_3 (dk_at dksX0_steps_0 21 rfl rfl)
theorem dX0_steps_22 : decode cX0_steps 22 = .ok (.ireturn, 1) := dk_172 (dk_at dksX0_steps_0 22 rfl rfl)
abbrev cX0_ridgesBetween : ByteArray := method_18_code
def yX0_ridgesBetween : MethodName := ⟨RX0, "ridgesBetween", "(LFlareSlopes;II[J)I"⟩
def dkwX0_ridgesBetween_0 : List UInt8 := [45, 3, 42, 27, 28, 182, 0, 65, 133, 80, 167, 0, 11, 58, 4, 4, 172, 58, 4, 5, 172, 3, 172]
abbrev dktX0_ridgesBetween_0 : List UInt8 := dkwX0_ridgesBetween_0 ++ []
theorem dksX0_ridgesBetween_0 : cX0_ridgesBetween.data.toList.drop 0 = dktX0_ridgesBetween_0 := by decide +kernel
theorem dX0_ridgesBetween_0 : decode cX0_ridgesBetween 0 = .ok (.aload_n 3, 1) := dk_45 (dk_at dksX0_ridgesBetween_0 0 rfl rfl)
theorem dX0_ridgesBetween_1 : decode cX0_ridgesBetween 1 = .ok (.iconst 0, 1) := dk_3 (dk_at dksX0_ridgesBetween_0 1 rfl rfl)
theorem dX0_ridgesBetween_2 : decode cX0_ridgesBetween 2 = .ok (.aload_n 0, 1) := dk_42 (dk_at dksX0_ridgesBetween_0 2 rfl rfl)
theorem dX0_ridgesBetween_3 : decode cX0_ridgesBetween 3 = .ok (.iload_n 1, 1) := dk_27 (dk_at dksX0_ridgesBetween_0 3 rfl rfl)
theorem dX0_ridgesBetween_4 : decode cX0_ridgesBetween 4 = .ok (.iload_n 2, 1) := dk_28 (dk_at dksX0_ridgesBetween_0 4 rfl rfl)
theorem dX0_ridgesBetween_5 : decode cX0_ridgesBetween 5 = .ok (.invokevirtual 65, 3) := dk_182 0 65 (dk_at dksX0_ridgesBetween_0 5 rfl rfl)
theorem dX0_ridgesBetween_8 : decode cX0_ridgesBetween 8 = .ok (.i2l, 1) := dk_133 (dk_at dksX0_ridgesBetween_0 8 rfl rfl)
theorem dX0_ridgesBetween_9 : decode cX0_ridgesBetween 9 = .ok (.lastore, 1) := dk_80 (dk_at dksX0_ridgesBetween_0 9 rfl rfl)
theorem dX0_ridgesBetween_10 : decode cX0_ridgesBetween 10 = .ok (.goto 11, 3) := dk_167 0 11 (dk_at dksX0_ridgesBetween_0 10 rfl rfl)
theorem dX0_ridgesBetween_13 : decode cX0_ridgesBetween 13 = .ok (.astore 4, 2) := dk_58 4 (dk_at dksX0_ridgesBetween_0 13 rfl rfl)
theorem dX0_ridgesBetween_15 : decode cX0_ridgesBetween 15 = .ok (.iconst 1, 1) := dk_4 (dk_at dksX0_ridgesBetween_0 15 rfl rfl)
theorem dX0_ridgesBetween_16 : decode cX0_ridgesBetween 16 = .ok (.ireturn, 1) := dk_172 (dk_at dksX0_ridgesBetween_0 16 rfl rfl)
theorem dX0_ridgesBetween_17 : decode cX0_ridgesBetween 17 = .ok (.astore 4, 2) := dk_58 4 (dk_at dksX0_ridgesBetween_0 17 rfl rfl)
theorem dX0_ridgesBetween_19 : decode cX0_ridgesBetween 19 = .ok (.iconst 2, 1) := dk_5 (dk_at dksX0_ridgesBetween_0 19 rfl rfl)
theorem dX0_ridgesBetween_20 : decode cX0_ridgesBetween 20 = .ok (.ireturn, 1) := dk_172 (dk_at dksX0_ridgesBetween_0 20 rfl rfl)
theorem dX0_ridgesBetween_21 : decode cX0_ridgesBetween 21 = .ok (.iconst 0, 1) := dk_3 (dk_at dksX0_ridgesBetween_0 21 rfl rfl)
theorem dX0_ridgesBetween_22 : decode cX0_ridgesBetween 22 = .ok (.ireturn, 1) := dk_172 (dk_at dksX0_ridgesBetween_0 22 rfl rfl)
abbrev cX0_vote : ByteArray := method_19_code
def yX0_vote : MethodName := ⟨RX0, "vote", "(LFlareSlopes;IIII[J)I"⟩
def dkwX0_vote_1 : List UInt8 := [172, 58, 6, 6, 172, 3, 172]
abbrev dktX0_vote_1 : List UInt8 := dkwX0_vote_1 ++ []
def dkwX0_vote_0 : List UInt8 := [25, 5, 3, 42, 27, 28, 29, 21, 4, 182, 0, 68, 133, 80, 167, 0, 15, 58, 6, 4, 172, 58, 6, 5]
abbrev dktX0_vote_0 : List UInt8 := dkwX0_vote_0 ++ dktX0_vote_1
theorem dksX0_vote_0 : cX0_vote.data.toList.drop 0 = dktX0_vote_0 := by decide +kernel
theorem dksX0_vote_1 : cX0_vote.data.toList.drop 24 = dktX0_vote_1 := dk_seg dksX0_vote_0 24 rfl rfl
theorem dX0_vote_0 : decode cX0_vote 0 = .ok (.aload 5, 2) := dk_25 5 (dk_at dksX0_vote_0 0 rfl rfl)
theorem dX0_vote_2 : decode cX0_vote 2 = .ok (.iconst 0, 1) := dk_3 (dk_at dksX0_vote_0 2 rfl rfl)
theorem dX0_vote_3 : decode cX0_vote 3 = .ok (.aload_n 0, 1) := dk_42 (dk_at dksX0_vote_0 3 rfl rfl)
theorem dX0_vote_4 : decode cX0_vote 4 = .ok (.iload_n 1, 1) := dk_27 (dk_at dksX0_vote_0 4 rfl rfl)
theorem dX0_vote_5 : decode cX0_vote 5 = .ok (.iload_n 2, 1) := dk_28 (dk_at dksX0_vote_0 5 rfl rfl)
theorem dX0_vote_6 : decode cX0_vote 6 = .ok (.iload_n 3, 1) := dk_29 (dk_at dksX0_vote_0 6 rfl rfl)
theorem dX0_vote_7 : decode cX0_vote 7 = .ok (.iload 4, 2) := dk_21 4 (dk_at dksX0_vote_0 7 rfl rfl)
theorem dX0_vote_9 : decode cX0_vote 9 = .ok (.invokevirtual 68, 3) := dk_182 0 68 (dk_at dksX0_vote_0 9 rfl rfl)
theorem dX0_vote_12 : decode cX0_vote 12 = .ok (.i2l, 1) := dk_133 (dk_at dksX0_vote_0 12 rfl rfl)
theorem dX0_vote_13 : decode cX0_vote 13 = .ok (.lastore, 1) := dk_80 (dk_at dksX0_vote_0 13 rfl rfl)
theorem dX0_vote_14 : decode cX0_vote 14 = .ok (.goto 15, 3) := dk_167 0 15 (dk_at dksX0_vote_0 14 rfl rfl)
theorem dX0_vote_17 : decode cX0_vote 17 = .ok (.astore 6, 2) := dk_58 6 (dk_at dksX0_vote_0 17 rfl rfl)
theorem dX0_vote_19 : decode cX0_vote 19 = .ok (.iconst 1, 1) := dk_4 (dk_at dksX0_vote_0 19 rfl rfl)
theorem dX0_vote_20 : decode cX0_vote 20 = .ok (.ireturn, 1) := dk_172 (dk_at dksX0_vote_0 20 rfl rfl)
theorem dX0_vote_21 : decode cX0_vote 21 = .ok (.astore 6, 2) := dk_58 6 (dk_at dksX0_vote_0 21 rfl rfl)
theorem dX0_vote_23 : decode cX0_vote 23 = .ok (.iconst 2, 1) := dk_5 (dk_at dksX0_vote_0 23 rfl rfl)
theorem dX0_vote_24 : decode cX0_vote 24 = .ok (.ireturn, 1) := dk_172 (dk_at dksX0_vote_1 0 rfl rfl)
theorem dX0_vote_25 : decode cX0_vote 25 = .ok (.astore 6, 2) := dk_58 6 (dk_at dksX0_vote_1 1 rfl rfl)
theorem dX0_vote_27 : decode cX0_vote 27 = .ok (.iconst 3, 1) := dk_6 (dk_at dksX0_vote_1 3 rfl rfl)
theorem dX0_vote_28 : decode cX0_vote 28 = .ok (.ireturn, 1) := dk_172 (dk_at dksX0_vote_1 4 rfl rfl)
theorem dX0_vote_29 : decode cX0_vote 29 = .ok (.iconst 0, 1) := dk_3 (dk_at dksX0_vote_1 5 rfl rfl)
theorem dX0_vote_30 : decode cX0_vote 30 = .ok (.ireturn, 1) := dk_172 (dk_at dksX0_vote_1 6 rfl rfl)
abbrev cX0_weights : ByteArray := method_20_code
def yX0_weights : MethodName := ⟨RX0, "weights", "(LFlareSlopes;IIZ[J)I"⟩
def dkwX0_weights_1 : List UInt8 := [172]
abbrev dktX0_weights_1 : List UInt8 := dkwX0_weights_1 ++ []
def dkwX0_weights_0 : List UInt8 := [25, 4, 3, 42, 27, 28, 29, 182, 0, 72, 133, 80, 167, 0, 11, 58, 5, 4, 172, 58, 5, 5, 172, 3]
abbrev dktX0_weights_0 : List UInt8 := dkwX0_weights_0 ++ dktX0_weights_1
theorem dksX0_weights_0 : cX0_weights.data.toList.drop 0 = dktX0_weights_0 := by decide +kernel
theorem dksX0_weights_1 : cX0_weights.data.toList.drop 24 = dktX0_weights_1 := dk_seg dksX0_weights_0 24 rfl rfl
theorem dX0_weights_0 : decode cX0_weights 0 = .ok (.aload 4, 2) := dk_25 4 (dk_at dksX0_weights_0 0 rfl rfl)
theorem dX0_weights_2 : decode cX0_weights 2 = .ok (.iconst 0, 1) := dk_3 (dk_at dksX0_weights_0 2 rfl rfl)
theorem dX0_weights_3 : decode cX0_weights 3 = .ok (.aload_n 0, 1) := dk_42 (dk_at dksX0_weights_0 3 rfl rfl)
theorem dX0_weights_4 : decode cX0_weights 4 = .ok (.iload_n 1, 1) := dk_27 (dk_at dksX0_weights_0 4 rfl rfl)
theorem dX0_weights_5 : decode cX0_weights 5 = .ok (.iload_n 2, 1) := dk_28 (dk_at dksX0_weights_0 5 rfl rfl)
theorem dX0_weights_6 : decode cX0_weights 6 = .ok (.iload_n 3, 1) := dk_29 (dk_at dksX0_weights_0 6 rfl rfl)
theorem dX0_weights_7 : decode cX0_weights 7 = .ok (.invokevirtual 72, 3) := dk_182 0 72 (dk_at dksX0_weights_0 7 rfl rfl)
theorem dX0_weights_10 : decode cX0_weights 10 = .ok (.i2l, 1) := dk_133 (dk_at dksX0_weights_0 10 rfl rfl)
theorem dX0_weights_11 : decode cX0_weights 11 = .ok (.lastore, 1) := dk_80 (dk_at dksX0_weights_0 11 rfl rfl)
theorem dX0_weights_12 : decode cX0_weights 12 = .ok (.goto 11, 3) := dk_167 0 11 (dk_at dksX0_weights_0 12 rfl rfl)
theorem dX0_weights_15 : decode cX0_weights 15 = .ok (.astore 5, 2) := dk_58 5 (dk_at dksX0_weights_0 15 rfl rfl)
theorem dX0_weights_17 : decode cX0_weights 17 = .ok (.iconst 1, 1) := dk_4 (dk_at dksX0_weights_0 17 rfl rfl)
theorem dX0_weights_18 : decode cX0_weights 18 = .ok (.ireturn, 1) := dk_172 (dk_at dksX0_weights_0 18 rfl rfl)
theorem dX0_weights_19 : decode cX0_weights 19 = .ok (.astore 5, 2) := dk_58 5 (dk_at dksX0_weights_0 19 rfl rfl)
theorem dX0_weights_21 : decode cX0_weights 21 = .ok (.iconst 2, 1) := dk_5 (dk_at dksX0_weights_0 21 rfl rfl)
theorem dX0_weights_22 : decode cX0_weights 22 = .ok (.ireturn, 1) := dk_172 (dk_at dksX0_weights_0 22 rfl rfl)
theorem dX0_weights_23 : decode cX0_weights 23 = .ok (.iconst 0, 1) := dk_3 (dk_at dksX0_weights_0 23 rfl rfl)
theorem dX0_weights_24 : decode cX0_weights 24 = .ok (.ireturn, 1) := dk_172 (dk_at dksX0_weights_1 0 rfl rfl)
abbrev cX0_rules : ByteArray := method_21_code
def yX0_rules : MethodName := ⟨RX0, "rules", "(LFlareSlopes;II[J)I"⟩
def dkwX0_rules_0 : List UInt8 := [45, 3, 42, 27, 28, 182, 0, 76, 133, 80, 167, 0, 11, 58, 4, 4, 172, 58, 4, 5, 172, 3, 172]
abbrev dktX0_rules_0 : List UInt8 := dkwX0_rules_0 ++ []
theorem dksX0_rules_0 : cX0_rules.data.toList.drop 0 = dktX0_rules_0 := by decide +kernel
theorem dX0_rules_0 : decode cX0_rules 0 = .ok (.aload_n 3, 1) := dk_45 (dk_at dksX0_rules_0 0 rfl rfl)
theorem dX0_rules_1 : decode cX0_rules 1 = .ok (.iconst 0, 1) := dk_3 (dk_at dksX0_rules_0 1 rfl rfl)
theorem dX0_rules_2 : decode cX0_rules 2 = .ok (.aload_n 0, 1) := dk_42 (dk_at dksX0_rules_0 2 rfl rfl)
theorem dX0_rules_3 : decode cX0_rules 3 = .ok (.iload_n 1, 1) := dk_27 (dk_at dksX0_rules_0 3 rfl rfl)
theorem dX0_rules_4 : decode cX0_rules 4 = .ok (.iload_n 2, 1) := dk_28 (dk_at dksX0_rules_0 4 rfl rfl)
theorem dX0_rules_5 : decode cX0_rules 5 = .ok (.invokevirtual 76, 3) := dk_182 0 76 (dk_at dksX0_rules_0 5 rfl rfl)
theorem dX0_rules_8 : decode cX0_rules 8 = .ok (.i2l, 1) := dk_133 (dk_at dksX0_rules_0 8 rfl rfl)
theorem dX0_rules_9 : decode cX0_rules 9 = .ok (.lastore, 1) := dk_80 (dk_at dksX0_rules_0 9 rfl rfl)
theorem dX0_rules_10 : decode cX0_rules 10 = .ok (.goto 11, 3) := dk_167 0 11 (dk_at dksX0_rules_0 10 rfl rfl)
theorem dX0_rules_13 : decode cX0_rules 13 = .ok (.astore 4, 2) := dk_58 4 (dk_at dksX0_rules_0 13 rfl rfl)
theorem dX0_rules_15 : decode cX0_rules 15 = .ok (.iconst 1, 1) := dk_4 (dk_at dksX0_rules_0 15 rfl rfl)
theorem dX0_rules_16 : decode cX0_rules 16 = .ok (.ireturn, 1) := dk_172 (dk_at dksX0_rules_0 16 rfl rfl)
theorem dX0_rules_17 : decode cX0_rules 17 = .ok (.astore 4, 2) := dk_58 4 (dk_at dksX0_rules_0 17 rfl rfl)
theorem dX0_rules_19 : decode cX0_rules 19 = .ok (.iconst 2, 1) := dk_5 (dk_at dksX0_rules_0 19 rfl rfl)
theorem dX0_rules_20 : decode cX0_rules 20 = .ok (.ireturn, 1) := dk_172 (dk_at dksX0_rules_0 20 rfl rfl)
theorem dX0_rules_21 : decode cX0_rules 21 = .ok (.iconst 0, 1) := dk_3 (dk_at dksX0_rules_0 21 rfl rfl)
theorem dX0_rules_22 : decode cX0_rules 22 = .ok (.ireturn, 1) := dk_172 (dk_at dksX0_rules_0 22 rfl rfl)
abbrev cX0_run : ByteArray := method_22_code
def yX0_run : MethodName := ⟨RX0, "run", "(LFlareSlopes;II[J)I"⟩
def dkwX0_run_0 : List UInt8 := [45, 3, 42, 27, 28, 182, 0, 79, 133, 80, 167, 0, 11, 58, 4, 4, 172, 58, 4, 5, 172, 3, 172]
abbrev dktX0_run_0 : List UInt8 := dkwX0_run_0 ++ []
theorem dksX0_run_0 : cX0_run.data.toList.drop 0 = dktX0_run_0 := by decide +kernel
theorem dX0_run_0 : decode cX0_run 0 = .ok (.aload_n 3, 1) := dk_45 (dk_at dksX0_run_0 0 rfl rfl)
theorem dX0_run_1 : decode cX0_run 1 = .ok (.iconst 0, 1) := dk_3 (dk_at dksX0_run_0 1 rfl rfl)
theorem dX0_run_2 : decode cX0_run 2 = .ok (.aload_n 0, 1) := dk_42 (dk_at dksX0_run_0 2 rfl rfl)
theorem dX0_run_3 : decode cX0_run 3 = .ok (.iload_n 1, 1) := dk_27 (dk_at dksX0_run_0 3 rfl rfl)
theorem dX0_run_4 : decode cX0_run 4 = .ok (.iload_n 2, 1) := dk_28 (dk_at dksX0_run_0 4 rfl rfl)
theorem dX0_run_5 : decode cX0_run 5 = .ok (.invokevirtual 79, 3) := dk_182 0 79 (dk_at dksX0_run_0 5 rfl rfl)
theorem dX0_run_8 : decode cX0_run 8 = .ok (.i2l, 1) := dk_133 (dk_at dksX0_run_0 8 rfl rfl)
theorem dX0_run_9 : decode cX0_run 9 = .ok (.lastore, 1) := dk_80 (dk_at dksX0_run_0 9 rfl rfl)
theorem dX0_run_10 : decode cX0_run 10 = .ok (.goto 11, 3) := dk_167 0 11 (dk_at dksX0_run_0 10 rfl rfl)
theorem dX0_run_13 : decode cX0_run 13 = .ok (.astore 4, 2) := dk_58 4 (dk_at dksX0_run_0 13 rfl rfl)
theorem dX0_run_15 : decode cX0_run 15 = .ok (.iconst 1, 1) := dk_4 (dk_at dksX0_run_0 15 rfl rfl)
theorem dX0_run_16 : decode cX0_run 16 = .ok (.ireturn, 1) := dk_172 (dk_at dksX0_run_0 16 rfl rfl)
theorem dX0_run_17 : decode cX0_run 17 = .ok (.astore 4, 2) := dk_58 4 (dk_at dksX0_run_0 17 rfl rfl)
theorem dX0_run_19 : decode cX0_run 19 = .ok (.iconst 2, 1) := dk_5 (dk_at dksX0_run_0 19 rfl rfl)
theorem dX0_run_20 : decode cX0_run 20 = .ok (.ireturn, 1) := dk_172 (dk_at dksX0_run_0 20 rfl rfl)
theorem dX0_run_21 : decode cX0_run 21 = .ok (.iconst 0, 1) := dk_3 (dk_at dksX0_run_0 21 rfl rfl)
theorem dX0_run_22 : decode cX0_run 22 = .ok (.ireturn, 1) := dk_172 (dk_at dksX0_run_0 22 rfl rfl)
abbrev cX0_isClosed : ByteArray := method_23_code
def yX0_isClosed : MethodName := ⟨RX0, "isClosed", "(LFlareSlopes;II[J)I"⟩
def dkwX0_isClosed_1 : List UInt8 := [58, 4, 5, 172, 3, 172]
abbrev dktX0_isClosed_1 : List UInt8 := dkwX0_isClosed_1 ++ []
def dkwX0_isClosed_0 : List UInt8 := [45, 3, 42, 27, 28, 182, 0, 82, 153, 0, 7, 10, 167, 0, 4, 9, 80, 167, 0, 11, 58, 4, 4, 172]
abbrev dktX0_isClosed_0 : List UInt8 := dkwX0_isClosed_0 ++ dktX0_isClosed_1
theorem dksX0_isClosed_0 : cX0_isClosed.data.toList.drop 0 = dktX0_isClosed_0 := by decide +kernel
theorem dksX0_isClosed_1 : cX0_isClosed.data.toList.drop 24 = dktX0_isClosed_1 := dk_seg dksX0_isClosed_0 24 rfl rfl
theorem dX0_isClosed_0 : decode cX0_isClosed 0 = .ok (.aload_n 3, 1) := dk_45 (dk_at dksX0_isClosed_0 0 rfl rfl)
theorem dX0_isClosed_1 : decode cX0_isClosed 1 = .ok (.iconst 0, 1) := dk_3 (dk_at dksX0_isClosed_0 1 rfl rfl)
theorem dX0_isClosed_2 : decode cX0_isClosed 2 = .ok (.aload_n 0, 1) := dk_42 (dk_at dksX0_isClosed_0 2 rfl rfl)
theorem dX0_isClosed_3 : decode cX0_isClosed 3 = .ok (.iload_n 1, 1) := dk_27 (dk_at dksX0_isClosed_0 3 rfl rfl)
theorem dX0_isClosed_4 : decode cX0_isClosed 4 = .ok (.iload_n 2, 1) := dk_28 (dk_at dksX0_isClosed_0 4 rfl rfl)
theorem dX0_isClosed_5 : decode cX0_isClosed 5 = .ok (.invokevirtual 82, 3) := dk_182 0 82 (dk_at dksX0_isClosed_0 5 rfl rfl)
theorem dX0_isClosed_8 : decode cX0_isClosed 8 = .ok (.ifCond .eq 7, 3) := dk_153 0 7 (dk_at dksX0_isClosed_0 8 rfl rfl)
theorem dX0_isClosed_11 : decode cX0_isClosed 11 = .ok (.lconst 1, 1) := dk_10 (dk_at dksX0_isClosed_0 11 rfl rfl)
theorem dX0_isClosed_12 : decode cX0_isClosed 12 = .ok (.goto 4, 3) := dk_167 0 4 (dk_at dksX0_isClosed_0 12 rfl rfl)
theorem dX0_isClosed_15 : decode cX0_isClosed 15 = .ok (.lconst 0, 1) := dk_9 (dk_at dksX0_isClosed_0 15 rfl rfl)
theorem dX0_isClosed_16 : decode cX0_isClosed 16 = .ok (.lastore, 1) := dk_80 (dk_at dksX0_isClosed_0 16 rfl rfl)
theorem dX0_isClosed_17 : decode cX0_isClosed 17 = .ok (.goto 11, 3) := dk_167 0 11 (dk_at dksX0_isClosed_0 17 rfl rfl)
theorem dX0_isClosed_20 : decode cX0_isClosed 20 = .ok (.astore 4, 2) := dk_58 4 (dk_at dksX0_isClosed_0 20 rfl rfl)
theorem dX0_isClosed_22 : decode cX0_isClosed 22 = .ok (.iconst 1, 1) := dk_4 (dk_at dksX0_isClosed_0 22 rfl rfl)
theorem dX0_isClosed_23 : decode cX0_isClosed 23 = .ok (.ireturn, 1) := dk_172 (dk_at dksX0_isClosed_0 23 rfl rfl)
theorem dX0_isClosed_24 : decode cX0_isClosed 24 = .ok (.astore 4, 2) := dk_58 4 (dk_at dksX0_isClosed_1 0 rfl rfl)
theorem dX0_isClosed_26 : decode cX0_isClosed 26 = .ok (.iconst 2, 1) := dk_5 (dk_at dksX0_isClosed_1 2 rfl rfl)
theorem dX0_isClosed_27 : decode cX0_isClosed 27 = .ok (.ireturn, 1) := dk_172 (dk_at dksX0_isClosed_1 3 rfl rfl)
theorem dX0_isClosed_28 : decode cX0_isClosed 28 = .ok (.iconst 0, 1) := dk_3 (dk_at dksX0_isClosed_1 4 rfl rfl)
theorem dX0_isClosed_29 : decode cX0_isClosed 29 = .ok (.ireturn, 1) := dk_172 (dk_at dksX0_isClosed_1 5 rfl rfl)
abbrev cX0_toldClosed : ByteArray := method_24_code
def yX0_toldClosed : MethodName := ⟨RX0, "toldClosed", "(LFlareSlopes;II[J)I"⟩
def dkwX0_toldClosed_1 : List UInt8 := [58, 4, 5, 172, 3, 172]
abbrev dktX0_toldClosed_1 : List UInt8 := dkwX0_toldClosed_1 ++ []
def dkwX0_toldClosed_0 : List UInt8 := [45, 3, 42, 27, 28, 182, 0, 85, 153, 0, 7, 10, 167, 0, 4, 9, 80, 167, 0, 11, 58, 4, 4, 172]
abbrev dktX0_toldClosed_0 : List UInt8 := dkwX0_toldClosed_0 ++ dktX0_toldClosed_1
theorem dksX0_toldClosed_0 : cX0_toldClosed.data.toList.drop 0 = dktX0_toldClosed_0 := by decide +kernel
theorem dksX0_toldClosed_1 : cX0_toldClosed.data.toList.drop 24 = dktX0_toldClosed_1 := dk_seg dksX0_toldClosed_0 24 rfl rfl
theorem dX0_toldClosed_0 : decode cX0_toldClosed 0 = .ok (.aload_n 3, 1) := dk_45 (dk_at dksX0_toldClosed_0 0 rfl rfl)
theorem dX0_toldClosed_1 : decode cX0_toldClosed 1 = .ok (.iconst 0, 1) := dk_3 (dk_at dksX0_toldClosed_0 1 rfl rfl)
theorem dX0_toldClosed_2 : decode cX0_toldClosed 2 = .ok (.aload_n 0, 1) := dk_42 (dk_at dksX0_toldClosed_0 2 rfl rfl)
theorem dX0_toldClosed_3 : decode cX0_toldClosed 3 = .ok (.iload_n 1, 1) := dk_27 (dk_at dksX0_toldClosed_0 3 rfl rfl)
theorem dX0_toldClosed_4 : decode cX0_toldClosed 4 = .ok (.iload_n 2, 1) := dk_28 (dk_at dksX0_toldClosed_0 4 rfl rfl)
theorem dX0_toldClosed_5 : decode cX0_toldClosed 5 = .ok (.invokevirtual 85, 3) := dk_182 0 85 (dk_at dksX0_toldClosed_0 5 rfl rfl)
theorem dX0_toldClosed_8 : decode cX0_toldClosed 8 = .ok (.ifCond .eq 7, 3) := dk_153 0 7 (dk_at dksX0_toldClosed_0 8 rfl rfl)
theorem dX0_toldClosed_11 : decode cX0_toldClosed 11 = .ok (.lconst 1, 1) := dk_10 (dk_at dksX0_toldClosed_0 11 rfl rfl)
theorem dX0_toldClosed_12 : decode cX0_toldClosed 12 = .ok (.goto 4, 3) := dk_167 0 4 (dk_at dksX0_toldClosed_0 12 rfl rfl)
theorem dX0_toldClosed_15 : decode cX0_toldClosed 15 = .ok (.lconst 0, 1) := dk_9 (dk_at dksX0_toldClosed_0 15 rfl rfl)
theorem dX0_toldClosed_16 : decode cX0_toldClosed 16 = .ok (.lastore, 1) := dk_80 (dk_at dksX0_toldClosed_0 16 rfl rfl)
theorem dX0_toldClosed_17 : decode cX0_toldClosed 17 = .ok (.goto 11, 3) := dk_167 0 11 (dk_at dksX0_toldClosed_0 17 rfl rfl)
theorem dX0_toldClosed_20 : decode cX0_toldClosed 20 = .ok (.astore 4, 2) := dk_58 4 (dk_at dksX0_toldClosed_0 20 rfl rfl)
theorem dX0_toldClosed_22 : decode cX0_toldClosed 22 = .ok (.iconst 1, 1) := dk_4 (dk_at dksX0_toldClosed_0 22 rfl rfl)
theorem dX0_toldClosed_23 : decode cX0_toldClosed 23 = .ok (.ireturn, 1) := dk_172 (dk_at dksX0_toldClosed_0 23 rfl rfl)
theorem dX0_toldClosed_24 : decode cX0_toldClosed 24 = .ok (.astore 4, 2) := dk_58 4 (dk_at dksX0_toldClosed_1 0 rfl rfl)
theorem dX0_toldClosed_26 : decode cX0_toldClosed 26 = .ok (.iconst 2, 1) := dk_5 (dk_at dksX0_toldClosed_1 2 rfl rfl)
theorem dX0_toldClosed_27 : decode cX0_toldClosed 27 = .ok (.ireturn, 1) := dk_172 (dk_at dksX0_toldClosed_1 3 rfl rfl)
theorem dX0_toldClosed_28 : decode cX0_toldClosed 28 = .ok (.iconst 0, 1) := dk_3 (dk_at dksX0_toldClosed_1 4 rfl rfl)
theorem dX0_toldClosed_29 : decode cX0_toldClosed 29 = .ok (.ireturn, 1) := dk_172 (dk_at dksX0_toldClosed_1 5 rfl rfl)
abbrev cX0_closers : ByteArray := method_25_code
def yX0_closers : MethodName := ⟨RX0, "closers", "(LFlareSlopes;I[J)I"⟩
def dkwX0_closers_0 : List UInt8 := [44, 3, 42, 27, 182, 0, 88, 133, 80, 167, 0, 9, 78, 4, 172, 78, 5, 172, 3, 172]
abbrev dktX0_closers_0 : List UInt8 := dkwX0_closers_0 ++ []
theorem dksX0_closers_0 : cX0_closers.data.toList.drop 0 = dktX0_closers_0 := by decide +kernel
theorem dX0_closers_0 : decode cX0_closers 0 = .ok (.aload_n 2, 1) := dk_44 (dk_at dksX0_closers_0 0 rfl rfl)
theorem dX0_closers_1 : decode cX0_closers 1 = .ok (.iconst 0, 1) := dk_3 (dk_at dksX0_closers_0 1 rfl rfl)
theorem dX0_closers_2 : decode cX0_closers 2 = .ok (.aload_n 0, 1) := dk_42 (dk_at dksX0_closers_0 2 rfl rfl)
theorem dX0_closers_3 : decode cX0_closers 3 = .ok (.iload_n 1, 1) := dk_27 (dk_at dksX0_closers_0 3 rfl rfl)
theorem dX0_closers_4 : decode cX0_closers 4 = .ok (.invokevirtual 88, 3) := dk_182 0 88 (dk_at dksX0_closers_0 4 rfl rfl)
theorem dX0_closers_7 : decode cX0_closers 7 = .ok (.i2l, 1) := dk_133 (dk_at dksX0_closers_0 7 rfl rfl)
theorem dX0_closers_8 : decode cX0_closers 8 = .ok (.lastore, 1) := dk_80 (dk_at dksX0_closers_0 8 rfl rfl)
theorem dX0_closers_9 : decode cX0_closers 9 = .ok (.goto 9, 3) := dk_167 0 9 (dk_at dksX0_closers_0 9 rfl rfl)
theorem dX0_closers_12 : decode cX0_closers 12 = .ok (.astore_n 3, 1) := dk_78 (dk_at dksX0_closers_0 12 rfl rfl)
theorem dX0_closers_13 : decode cX0_closers 13 = .ok (.iconst 1, 1) := dk_4 (dk_at dksX0_closers_0 13 rfl rfl)
theorem dX0_closers_14 : decode cX0_closers 14 = .ok (.ireturn, 1) := dk_172 (dk_at dksX0_closers_0 14 rfl rfl)
theorem dX0_closers_15 : decode cX0_closers 15 = .ok (.astore_n 3, 1) := dk_78 (dk_at dksX0_closers_0 15 rfl rfl)
theorem dX0_closers_16 : decode cX0_closers 16 = .ok (.iconst 2, 1) := dk_5 (dk_at dksX0_closers_0 16 rfl rfl)
theorem dX0_closers_17 : decode cX0_closers 17 = .ok (.ireturn, 1) := dk_172 (dk_at dksX0_closers_0 17 rfl rfl)
theorem dX0_closers_18 : decode cX0_closers 18 = .ok (.iconst 0, 1) := dk_3 (dk_at dksX0_closers_0 18 rfl rfl)
theorem dX0_closers_19 : decode cX0_closers 19 = .ok (.ireturn, 1) := dk_172 (dk_at dksX0_closers_0 19 rfl rfl)
abbrev cX0_quarrels : ByteArray := method_26_code
def yX0_quarrels : MethodName := ⟨RX0, "quarrels", "(LFlareSlopes;I[J)I"⟩
def dkwX0_quarrels_0 : List UInt8 := [44, 3, 42, 27, 182, 0, 91, 133, 80, 167, 0, 9, 78, 4, 172, 78, 5, 172, 3, 172]
abbrev dktX0_quarrels_0 : List UInt8 := dkwX0_quarrels_0 ++ []
theorem dksX0_quarrels_0 : cX0_quarrels.data.toList.drop 0 = dktX0_quarrels_0 := by decide +kernel
theorem dX0_quarrels_0 : decode cX0_quarrels 0 = .ok (.aload_n 2, 1) := dk_44 (dk_at dksX0_quarrels_0 0 rfl rfl)
theorem dX0_quarrels_1 : decode cX0_quarrels 1 = .ok (.iconst 0, 1) := dk_3 (dk_at dksX0_quarrels_0 1 rfl rfl)
theorem dX0_quarrels_2 : decode cX0_quarrels 2 = .ok (.aload_n 0, 1) := dk_42 (dk_at dksX0_quarrels_0 2 rfl rfl)
theorem dX0_quarrels_3 : decode cX0_quarrels 3 = .ok (.iload_n 1, 1) := dk_27 (dk_at dksX0_quarrels_0 3 rfl rfl)
theorem dX0_quarrels_4 : decode cX0_quarrels 4 = .ok (.invokevirtual 91, 3) := dk_182 0 91 (dk_at dksX0_quarrels_0 4 rfl rfl)
theorem dX0_quarrels_7 : decode cX0_quarrels 7 = .ok (.i2l, 1) := dk_133 (dk_at dksX0_quarrels_0 7 rfl rfl)
theorem dX0_quarrels_8 : decode cX0_quarrels 8 = .ok (.lastore, 1) := dk_80 (dk_at dksX0_quarrels_0 8 rfl rfl)
theorem dX0_quarrels_9 : decode cX0_quarrels 9 = .ok (.goto 9, 3) := dk_167 0 9 (dk_at dksX0_quarrels_0 9 rfl rfl)
theorem dX0_quarrels_12 : decode cX0_quarrels 12 = .ok (.astore_n 3, 1) := dk_78 (dk_at dksX0_quarrels_0 12 rfl rfl)
theorem dX0_quarrels_13 : decode cX0_quarrels 13 = .ok (.iconst 1, 1) := dk_4 (dk_at dksX0_quarrels_0 13 rfl rfl)
theorem dX0_quarrels_14 : decode cX0_quarrels 14 = .ok (.ireturn, 1) := dk_172 (dk_at dksX0_quarrels_0 14 rfl rfl)
theorem dX0_quarrels_15 : decode cX0_quarrels 15 = .ok (.astore_n 3, 1) := dk_78 (dk_at dksX0_quarrels_0 15 rfl rfl)
theorem dX0_quarrels_16 : decode cX0_quarrels 16 = .ok (.iconst 2, 1) := dk_5 (dk_at dksX0_quarrels_0 16 rfl rfl)
theorem dX0_quarrels_17 : decode cX0_quarrels 17 = .ok (.ireturn, 1) := dk_172 (dk_at dksX0_quarrels_0 17 rfl rfl)
theorem dX0_quarrels_18 : decode cX0_quarrels 18 = .ok (.iconst 0, 1) := dk_3 (dk_at dksX0_quarrels_0 18 rfl rfl)
theorem dX0_quarrels_19 : decode cX0_quarrels 19 = .ok (.ireturn, 1) := dk_172 (dk_at dksX0_quarrels_0 19 rfl rfl)
abbrev cX0_disputes : ByteArray := method_27_code
def yX0_disputes : MethodName := ⟨RX0, "disputes", "(LFlareSlopes;I[J)I"⟩
def dkwX0_disputes_0 : List UInt8 := [44, 3, 42, 27, 182, 0, 94, 133, 80, 167, 0, 9, 78, 4, 172, 78, 5, 172, 3, 172]
abbrev dktX0_disputes_0 : List UInt8 := dkwX0_disputes_0 ++ []
theorem dksX0_disputes_0 : cX0_disputes.data.toList.drop 0 = dktX0_disputes_0 := by decide +kernel
theorem dX0_disputes_0 : decode cX0_disputes 0 = .ok (.aload_n 2, 1) := dk_44 (dk_at dksX0_disputes_0 0 rfl rfl)
theorem dX0_disputes_1 : decode cX0_disputes 1 = .ok (.iconst 0, 1) := dk_3 (dk_at dksX0_disputes_0 1 rfl rfl)
theorem dX0_disputes_2 : decode cX0_disputes 2 = .ok (.aload_n 0, 1) := dk_42 (dk_at dksX0_disputes_0 2 rfl rfl)
theorem dX0_disputes_3 : decode cX0_disputes 3 = .ok (.iload_n 1, 1) := dk_27 (dk_at dksX0_disputes_0 3 rfl rfl)
theorem dX0_disputes_4 : decode cX0_disputes 4 = .ok (.invokevirtual 94, 3) := dk_182 0 94 (dk_at dksX0_disputes_0 4 rfl rfl)
theorem dX0_disputes_7 : decode cX0_disputes 7 = .ok (.i2l, 1) := dk_133 (dk_at dksX0_disputes_0 7 rfl rfl)
theorem dX0_disputes_8 : decode cX0_disputes 8 = .ok (.lastore, 1) := dk_80 (dk_at dksX0_disputes_0 8 rfl rfl)
theorem dX0_disputes_9 : decode cX0_disputes 9 = .ok (.goto 9, 3) := dk_167 0 9 (dk_at dksX0_disputes_0 9 rfl rfl)
theorem dX0_disputes_12 : decode cX0_disputes 12 = .ok (.astore_n 3, 1) := dk_78 (dk_at dksX0_disputes_0 12 rfl rfl)
theorem dX0_disputes_13 : decode cX0_disputes 13 = .ok (.iconst 1, 1) := dk_4 (dk_at dksX0_disputes_0 13 rfl rfl)
theorem dX0_disputes_14 : decode cX0_disputes 14 = .ok (.ireturn, 1) := dk_172 (dk_at dksX0_disputes_0 14 rfl rfl)
theorem dX0_disputes_15 : decode cX0_disputes 15 = .ok (.astore_n 3, 1) := dk_78 (dk_at dksX0_disputes_0 15 rfl rfl)
theorem dX0_disputes_16 : decode cX0_disputes 16 = .ok (.iconst 2, 1) := dk_5 (dk_at dksX0_disputes_0 16 rfl rfl)
theorem dX0_disputes_17 : decode cX0_disputes 17 = .ok (.ireturn, 1) := dk_172 (dk_at dksX0_disputes_0 17 rfl rfl)
theorem dX0_disputes_18 : decode cX0_disputes 18 = .ok (.iconst 0, 1) := dk_3 (dk_at dksX0_disputes_0 18 rfl rfl)
theorem dX0_disputes_19 : decode cX0_disputes 19 = .ok (.ireturn, 1) := dk_172 (dk_at dksX0_disputes_0 19 rfl rfl)
abbrev cX0_falseVotes : ByteArray := method_28_code
def yX0_falseVotes : MethodName := ⟨RX0, "falseVotes", "(LFlareSlopes;I[J)I"⟩
def dkwX0_falseVotes_0 : List UInt8 := [44, 3, 42, 27, 182, 0, 97, 133, 80, 167, 0, 9, 78, 4, 172, 78, 5, 172, 3, 172]
abbrev dktX0_falseVotes_0 : List UInt8 := dkwX0_falseVotes_0 ++ []
theorem dksX0_falseVotes_0 : cX0_falseVotes.data.toList.drop 0 = dktX0_falseVotes_0 := by decide +kernel
theorem dX0_falseVotes_0 : decode cX0_falseVotes 0 = .ok (.aload_n 2, 1) := dk_44 (dk_at dksX0_falseVotes_0 0 rfl rfl)
theorem dX0_falseVotes_1 : decode cX0_falseVotes 1 = .ok (.iconst 0, 1) := dk_3 (dk_at dksX0_falseVotes_0 1 rfl rfl)
theorem dX0_falseVotes_2 : decode cX0_falseVotes 2 = .ok (.aload_n 0, 1) := dk_42 (dk_at dksX0_falseVotes_0 2 rfl rfl)
theorem dX0_falseVotes_3 : decode cX0_falseVotes 3 = .ok (.iload_n 1, 1) := dk_27 (dk_at dksX0_falseVotes_0 3 rfl rfl)
theorem dX0_falseVotes_4 : decode cX0_falseVotes 4 = .ok (.invokevirtual 97, 3) := dk_182 0 97 (dk_at dksX0_falseVotes_0 4 rfl rfl)
theorem dX0_falseVotes_7 : decode cX0_falseVotes 7 = .ok (.i2l, 1) := dk_133 (dk_at dksX0_falseVotes_0 7 rfl rfl)
theorem dX0_falseVotes_8 : decode cX0_falseVotes 8 = .ok (.lastore, 1) := dk_80 (dk_at dksX0_falseVotes_0 8 rfl rfl)
theorem dX0_falseVotes_9 : decode cX0_falseVotes 9 = .ok (.goto 9, 3) := dk_167 0 9 (dk_at dksX0_falseVotes_0 9 rfl rfl)
theorem dX0_falseVotes_12 : decode cX0_falseVotes 12 = .ok (.astore_n 3, 1) := dk_78 (dk_at dksX0_falseVotes_0 12 rfl rfl)
theorem dX0_falseVotes_13 : decode cX0_falseVotes 13 = .ok (.iconst 1, 1) := dk_4 (dk_at dksX0_falseVotes_0 13 rfl rfl)
theorem dX0_falseVotes_14 : decode cX0_falseVotes 14 = .ok (.ireturn, 1) := dk_172 (dk_at dksX0_falseVotes_0 14 rfl rfl)
theorem dX0_falseVotes_15 : decode cX0_falseVotes 15 = .ok (.astore_n 3, 1) := dk_78 (dk_at dksX0_falseVotes_0 15 rfl rfl)
theorem dX0_falseVotes_16 : decode cX0_falseVotes 16 = .ok (.iconst 2, 1) := dk_5 (dk_at dksX0_falseVotes_0 16 rfl rfl)
theorem dX0_falseVotes_17 : decode cX0_falseVotes 17 = .ok (.ireturn, 1) := dk_172 (dk_at dksX0_falseVotes_0 17 rfl rfl)
theorem dX0_falseVotes_18 : decode cX0_falseVotes 18 = .ok (.iconst 0, 1) := dk_3 (dk_at dksX0_falseVotes_0 18 rfl rfl)
theorem dX0_falseVotes_19 : decode cX0_falseVotes 19 = .ok (.ireturn, 1) := dk_172 (dk_at dksX0_falseVotes_0 19 rfl rfl)
abbrev cX0_oldestVote : ByteArray := method_29_code
def yX0_oldestVote : MethodName := ⟨RX0, "oldestVote", "(LFlareSlopes;I[J)I"⟩
def dkwX0_oldestVote_0 : List UInt8 := [44, 3, 42, 27, 182, 0, 100, 133, 80, 167, 0, 9, 78, 4, 172, 78, 5, 172, 3, 172]
abbrev dktX0_oldestVote_0 : List UInt8 := dkwX0_oldestVote_0 ++ []
theorem dksX0_oldestVote_0 : cX0_oldestVote.data.toList.drop 0 = dktX0_oldestVote_0 := by decide +kernel
theorem dX0_oldestVote_0 : decode cX0_oldestVote 0 = .ok (.aload_n 2, 1) := dk_44 (dk_at dksX0_oldestVote_0 0 rfl rfl)
theorem dX0_oldestVote_1 : decode cX0_oldestVote 1 = .ok (.iconst 0, 1) := dk_3 (dk_at dksX0_oldestVote_0 1 rfl rfl)
theorem dX0_oldestVote_2 : decode cX0_oldestVote 2 = .ok (.aload_n 0, 1) := dk_42 (dk_at dksX0_oldestVote_0 2 rfl rfl)
theorem dX0_oldestVote_3 : decode cX0_oldestVote 3 = .ok (.iload_n 1, 1) := dk_27 (dk_at dksX0_oldestVote_0 3 rfl rfl)
theorem dX0_oldestVote_4 : decode cX0_oldestVote 4 = .ok (.invokevirtual 100, 3) := dk_182 0 100 (dk_at dksX0_oldestVote_0 4 rfl rfl)
theorem dX0_oldestVote_7 : decode cX0_oldestVote 7 = .ok (.i2l, 1) := dk_133 (dk_at dksX0_oldestVote_0 7 rfl rfl)
theorem dX0_oldestVote_8 : decode cX0_oldestVote 8 = .ok (.lastore, 1) := dk_80 (dk_at dksX0_oldestVote_0 8 rfl rfl)
theorem dX0_oldestVote_9 : decode cX0_oldestVote 9 = .ok (.goto 9, 3) := dk_167 0 9 (dk_at dksX0_oldestVote_0 9 rfl rfl)
theorem dX0_oldestVote_12 : decode cX0_oldestVote 12 = .ok (.astore_n 3, 1) := dk_78 (dk_at dksX0_oldestVote_0 12 rfl rfl)
theorem dX0_oldestVote_13 : decode cX0_oldestVote 13 = .ok (.iconst 1, 1) := dk_4 (dk_at dksX0_oldestVote_0 13 rfl rfl)
theorem dX0_oldestVote_14 : decode cX0_oldestVote 14 = .ok (.ireturn, 1) := dk_172 (dk_at dksX0_oldestVote_0 14 rfl rfl)
theorem dX0_oldestVote_15 : decode cX0_oldestVote 15 = .ok (.astore_n 3, 1) := dk_78 (dk_at dksX0_oldestVote_0 15 rfl rfl)
theorem dX0_oldestVote_16 : decode cX0_oldestVote 16 = .ok (.iconst 2, 1) := dk_5 (dk_at dksX0_oldestVote_0 16 rfl rfl)
theorem dX0_oldestVote_17 : decode cX0_oldestVote 17 = .ok (.ireturn, 1) := dk_172 (dk_at dksX0_oldestVote_0 17 rfl rfl)
theorem dX0_oldestVote_18 : decode cX0_oldestVote 18 = .ok (.iconst 0, 1) := dk_3 (dk_at dksX0_oldestVote_0 18 rfl rfl)
theorem dX0_oldestVote_19 : decode cX0_oldestVote 19 = .ok (.ireturn, 1) := dk_172 (dk_at dksX0_oldestVote_0 19 rfl rfl)
abbrev cX0_risky : ByteArray := method_30_code
def yX0_risky : MethodName := ⟨RX0, "risky", "(LFlareSlopes;[J)I"⟩
def dkwX0_risky_0 : List UInt8 := [43, 3, 42, 182, 0, 103, 133, 80, 167, 0, 6, 77, 4, 172, 3, 172]
abbrev dktX0_risky_0 : List UInt8 := dkwX0_risky_0 ++ []
theorem dksX0_risky_0 : cX0_risky.data.toList.drop 0 = dktX0_risky_0 := by decide +kernel
theorem dX0_risky_0 : decode cX0_risky 0 = .ok (.aload_n 1, 1) := dk_43 (dk_at dksX0_risky_0 0 rfl rfl)
theorem dX0_risky_1 : decode cX0_risky 1 = .ok (.iconst 0, 1) := dk_3 (dk_at dksX0_risky_0 1 rfl rfl)
theorem dX0_risky_2 : decode cX0_risky 2 = .ok (.aload_n 0, 1) := dk_42 (dk_at dksX0_risky_0 2 rfl rfl)
theorem dX0_risky_3 : decode cX0_risky 3 = .ok (.invokevirtual 103, 3) := dk_182 0 103 (dk_at dksX0_risky_0 3 rfl rfl)
theorem dX0_risky_6 : decode cX0_risky 6 = .ok (.i2l, 1) := dk_133 (dk_at dksX0_risky_0 6 rfl rfl)
theorem dX0_risky_7 : decode cX0_risky 7 = .ok (.lastore, 1) := dk_80 (dk_at dksX0_risky_0 7 rfl rfl)
theorem dX0_risky_8 : decode cX0_risky 8 = .ok (.goto 6, 3) := dk_167 0 6 (dk_at dksX0_risky_0 8 rfl rfl)
theorem dX0_risky_11 : decode cX0_risky 11 = .ok (.astore_n 2, 1) := dk_77 (dk_at dksX0_risky_0 11 rfl rfl)
theorem dX0_risky_12 : decode cX0_risky 12 = .ok (.iconst 1, 1) := dk_4 (dk_at dksX0_risky_0 12 rfl rfl)
theorem dX0_risky_13 : decode cX0_risky 13 = .ok (.ireturn, 1) := dk_172 (dk_at dksX0_risky_0 13 rfl rfl)
theorem dX0_risky_14 : decode cX0_risky 14 = .ok (.iconst 0, 1) := dk_3 (dk_at dksX0_risky_0 14 rfl rfl)
theorem dX0_risky_15 : decode cX0_risky 15 = .ok (.ireturn, 1) := dk_172 (dk_at dksX0_risky_0 15 rfl rfl)
abbrev cX0_weightiest : ByteArray := method_31_code
def yX0_weightiest : MethodName := ⟨RX0, "weightiest", "(LFlareSlopes;I[J)I"⟩
def dkwX0_weightiest_0 : List UInt8 := [44, 3, 42, 27, 182, 0, 106, 133, 80, 167, 0, 9, 78, 4, 172, 78, 5, 172, 3, 172]
abbrev dktX0_weightiest_0 : List UInt8 := dkwX0_weightiest_0 ++ []
theorem dksX0_weightiest_0 : cX0_weightiest.data.toList.drop 0 = dktX0_weightiest_0 := by decide +kernel
theorem dX0_weightiest_0 : decode cX0_weightiest 0 = .ok (.aload_n 2, 1) := dk_44 (dk_at dksX0_weightiest_0 0 rfl rfl)
theorem dX0_weightiest_1 : decode cX0_weightiest 1 = .ok (.iconst 0, 1) := dk_3 (dk_at dksX0_weightiest_0 1 rfl rfl)
theorem dX0_weightiest_2 : decode cX0_weightiest 2 = .ok (.aload_n 0, 1) := dk_42 (dk_at dksX0_weightiest_0 2 rfl rfl)
theorem dX0_weightiest_3 : decode cX0_weightiest 3 = .ok (.iload_n 1, 1) := dk_27 (dk_at dksX0_weightiest_0 3 rfl rfl)
theorem dX0_weightiest_4 : decode cX0_weightiest 4 = .ok (.invokevirtual 106, 3) := dk_182 0 106 (dk_at dksX0_weightiest_0 4 rfl rfl)
theorem dX0_weightiest_7 : decode cX0_weightiest 7 = .ok (.i2l, 1) := dk_133 (dk_at dksX0_weightiest_0 7 rfl rfl)
theorem dX0_weightiest_8 : decode cX0_weightiest 8 = .ok (.lastore, 1) := dk_80 (dk_at dksX0_weightiest_0 8 rfl rfl)
theorem dX0_weightiest_9 : decode cX0_weightiest 9 = .ok (.goto 9, 3) := dk_167 0 9 (dk_at dksX0_weightiest_0 9 rfl rfl)
theorem dX0_weightiest_12 : decode cX0_weightiest 12 = .ok (.astore_n 3, 1) := dk_78 (dk_at dksX0_weightiest_0 12 rfl rfl)
theorem dX0_weightiest_13 : decode cX0_weightiest 13 = .ok (.iconst 1, 1) := dk_4 (dk_at dksX0_weightiest_0 13 rfl rfl)
theorem dX0_weightiest_14 : decode cX0_weightiest 14 = .ok (.ireturn, 1) := dk_172 (dk_at dksX0_weightiest_0 14 rfl rfl)
theorem dX0_weightiest_15 : decode cX0_weightiest 15 = .ok (.astore_n 3, 1) := dk_78 (dk_at dksX0_weightiest_0 15 rfl rfl)
theorem dX0_weightiest_16 : decode cX0_weightiest 16 = .ok (.iconst 2, 1) := dk_5 (dk_at dksX0_weightiest_0 16 rfl rfl)
theorem dX0_weightiest_17 : decode cX0_weightiest 17 = .ok (.ireturn, 1) := dk_172 (dk_at dksX0_weightiest_0 17 rfl rfl)
theorem dX0_weightiest_18 : decode cX0_weightiest 18 = .ok (.iconst 0, 1) := dk_3 (dk_at dksX0_weightiest_0 18 rfl rfl)
theorem dX0_weightiest_19 : decode cX0_weightiest 19 = .ok (.ireturn, 1) := dk_172 (dk_at dksX0_weightiest_0 19 rfl rfl)
abbrev cX0_leastTrusted : ByteArray := method_32_code
def yX0_leastTrusted : MethodName := ⟨RX0, "leastTrusted", "(LFlareSlopes;[J)I"⟩
def dkwX0_leastTrusted_0 : List UInt8 := [43, 3, 42, 182, 0, 109, 133, 80, 167, 0, 6, 77, 4, 172, 3, 172]
abbrev dktX0_leastTrusted_0 : List UInt8 := dkwX0_leastTrusted_0 ++ []
theorem dksX0_leastTrusted_0 : cX0_leastTrusted.data.toList.drop 0 = dktX0_leastTrusted_0 := by decide +kernel
theorem dX0_leastTrusted_0 : decode cX0_leastTrusted 0 = .ok (.aload_n 1, 1) := dk_43 (dk_at dksX0_leastTrusted_0 0 rfl rfl)
theorem dX0_leastTrusted_1 : decode cX0_leastTrusted 1 = .ok (.iconst 0, 1) := dk_3 (dk_at dksX0_leastTrusted_0 1 rfl rfl)
theorem dX0_leastTrusted_2 : decode cX0_leastTrusted 2 = .ok (.aload_n 0, 1) := dk_42 (dk_at dksX0_leastTrusted_0 2 rfl rfl)
theorem dX0_leastTrusted_3 : decode cX0_leastTrusted 3 = .ok (.invokevirtual 109, 3) := dk_182 0 109 (dk_at dksX0_leastTrusted_0 3 rfl rfl)
theorem dX0_leastTrusted_6 : decode cX0_leastTrusted 6 = .ok (.i2l, 1) := dk_133 (dk_at dksX0_leastTrusted_0 6 rfl rfl)
theorem dX0_leastTrusted_7 : decode cX0_leastTrusted 7 = .ok (.lastore, 1) := dk_80 (dk_at dksX0_leastTrusted_0 7 rfl rfl)
theorem dX0_leastTrusted_8 : decode cX0_leastTrusted 8 = .ok (.goto 6, 3) := dk_167 0 6 (dk_at dksX0_leastTrusted_0 8 rfl rfl)
theorem dX0_leastTrusted_11 : decode cX0_leastTrusted 11 = .ok (.astore_n 2, 1) := dk_77 (dk_at dksX0_leastTrusted_0 11 rfl rfl)
theorem dX0_leastTrusted_12 : decode cX0_leastTrusted 12 = .ok (.iconst 1, 1) := dk_4 (dk_at dksX0_leastTrusted_0 12 rfl rfl)
theorem dX0_leastTrusted_13 : decode cX0_leastTrusted 13 = .ok (.ireturn, 1) := dk_172 (dk_at dksX0_leastTrusted_0 13 rfl rfl)
theorem dX0_leastTrusted_14 : decode cX0_leastTrusted 14 = .ok (.iconst 0, 1) := dk_3 (dk_at dksX0_leastTrusted_0 14 rfl rfl)
theorem dX0_leastTrusted_15 : decode cX0_leastTrusted 15 = .ok (.ireturn, 1) := dk_172 (dk_at dksX0_leastTrusted_0 15 rfl rfl)
abbrev cX0_loneliest : ByteArray := method_33_code
def yX0_loneliest : MethodName := ⟨RX0, "loneliest", "(LFlareSlopes;[J)I"⟩
def dkwX0_loneliest_0 : List UInt8 := [43, 3, 42, 182, 0, 112, 133, 80, 167, 0, 6, 77, 4, 172, 3, 172]
abbrev dktX0_loneliest_0 : List UInt8 := dkwX0_loneliest_0 ++ []
theorem dksX0_loneliest_0 : cX0_loneliest.data.toList.drop 0 = dktX0_loneliest_0 := by decide +kernel
theorem dX0_loneliest_0 : decode cX0_loneliest 0 = .ok (.aload_n 1, 1) := dk_43 (dk_at dksX0_loneliest_0 0 rfl rfl)
theorem dX0_loneliest_1 : decode cX0_loneliest 1 = .ok (.iconst 0, 1) := dk_3 (dk_at dksX0_loneliest_0 1 rfl rfl)
theorem dX0_loneliest_2 : decode cX0_loneliest 2 = .ok (.aload_n 0, 1) := dk_42 (dk_at dksX0_loneliest_0 2 rfl rfl)
theorem dX0_loneliest_3 : decode cX0_loneliest 3 = .ok (.invokevirtual 112, 3) := dk_182 0 112 (dk_at dksX0_loneliest_0 3 rfl rfl)
theorem dX0_loneliest_6 : decode cX0_loneliest 6 = .ok (.i2l, 1) := dk_133 (dk_at dksX0_loneliest_0 6 rfl rfl)
theorem dX0_loneliest_7 : decode cX0_loneliest 7 = .ok (.lastore, 1) := dk_80 (dk_at dksX0_loneliest_0 7 rfl rfl)
theorem dX0_loneliest_8 : decode cX0_loneliest 8 = .ok (.goto 6, 3) := dk_167 0 6 (dk_at dksX0_loneliest_0 8 rfl rfl)
theorem dX0_loneliest_11 : decode cX0_loneliest 11 = .ok (.astore_n 2, 1) := dk_77 (dk_at dksX0_loneliest_0 11 rfl rfl)
theorem dX0_loneliest_12 : decode cX0_loneliest 12 = .ok (.iconst 1, 1) := dk_4 (dk_at dksX0_loneliest_0 12 rfl rfl)
theorem dX0_loneliest_13 : decode cX0_loneliest 13 = .ok (.ireturn, 1) := dk_172 (dk_at dksX0_loneliest_0 13 rfl rfl)
theorem dX0_loneliest_14 : decode cX0_loneliest 14 = .ok (.iconst 0, 1) := dk_3 (dk_at dksX0_loneliest_0 14 rfl rfl)
theorem dX0_loneliest_15 : decode cX0_loneliest 15 = .ok (.ireturn, 1) := dk_172 (dk_at dksX0_loneliest_0 15 rfl rfl)
abbrev cX0_meanTrust : ByteArray := method_34_code
def yX0_meanTrust : MethodName := ⟨RX0, "meanTrust", "(LFlareSlopes;[D)I"⟩
def dkwX0_meanTrust_0 : List UInt8 := [43, 3, 42, 182, 0, 115, 82, 167, 0, 6, 77, 4, 172, 3, 172]
abbrev dktX0_meanTrust_0 : List UInt8 := dkwX0_meanTrust_0 ++ []
theorem dksX0_meanTrust_0 : cX0_meanTrust.data.toList.drop 0 = dktX0_meanTrust_0 := by decide +kernel
theorem dX0_meanTrust_0 : decode cX0_meanTrust 0 = .ok (.aload_n 1, 1) := dk_43 (dk_at dksX0_meanTrust_0 0 rfl rfl)
theorem dX0_meanTrust_1 : decode cX0_meanTrust 1 = .ok (.iconst 0, 1) := dk_3 (dk_at dksX0_meanTrust_0 1 rfl rfl)
theorem dX0_meanTrust_2 : decode cX0_meanTrust 2 = .ok (.aload_n 0, 1) := dk_42 (dk_at dksX0_meanTrust_0 2 rfl rfl)
theorem dX0_meanTrust_3 : decode cX0_meanTrust 3 = .ok (.invokevirtual 115, 3) := dk_182 0 115 (dk_at dksX0_meanTrust_0 3 rfl rfl)
theorem dX0_meanTrust_6 : decode cX0_meanTrust 6 = .ok (.dastore, 1) := dk_82 (dk_at dksX0_meanTrust_0 6 rfl rfl)
theorem dX0_meanTrust_7 : decode cX0_meanTrust 7 = .ok (.goto 6, 3) := dk_167 0 6 (dk_at dksX0_meanTrust_0 7 rfl rfl)
theorem dX0_meanTrust_10 : decode cX0_meanTrust 10 = .ok (.astore_n 2, 1) := dk_77 (dk_at dksX0_meanTrust_0 10 rfl rfl)
theorem dX0_meanTrust_11 : decode cX0_meanTrust 11 = .ok (.iconst 1, 1) := dk_4 (dk_at dksX0_meanTrust_0 11 rfl rfl)
theorem dX0_meanTrust_12 : decode cX0_meanTrust 12 = .ok (.ireturn, 1) := dk_172 (dk_at dksX0_meanTrust_0 12 rfl rfl)
theorem dX0_meanTrust_13 : decode cX0_meanTrust 13 = .ok (.iconst 0, 1) := dk_3 (dk_at dksX0_meanTrust_0 13 rfl rfl)
theorem dX0_meanTrust_14 : decode cX0_meanTrust 14 = .ok (.ireturn, 1) := dk_172 (dk_at dksX0_meanTrust_0 14 rfl rfl)
abbrev cX0_closedShare : ByteArray := method_35_code
def yX0_closedShare : MethodName := ⟨RX0, "closedShare", "(LFlareSlopes;I[D)I"⟩
def dkwX0_closedShare_0 : List UInt8 := [44, 3, 42, 27, 182, 0, 119, 141, 82, 167, 0, 9, 78, 4, 172, 78, 5, 172, 3, 172]
abbrev dktX0_closedShare_0 : List UInt8 := dkwX0_closedShare_0 ++ []
theorem dksX0_closedShare_0 : cX0_closedShare.data.toList.drop 0 = dktX0_closedShare_0 := by decide +kernel
theorem dX0_closedShare_0 : decode cX0_closedShare 0 = .ok (.aload_n 2, 1) := dk_44 (dk_at dksX0_closedShare_0 0 rfl rfl)
theorem dX0_closedShare_1 : decode cX0_closedShare 1 = .ok (.iconst 0, 1) := dk_3 (dk_at dksX0_closedShare_0 1 rfl rfl)
theorem dX0_closedShare_2 : decode cX0_closedShare 2 = .ok (.aload_n 0, 1) := dk_42 (dk_at dksX0_closedShare_0 2 rfl rfl)
theorem dX0_closedShare_3 : decode cX0_closedShare 3 = .ok (.iload_n 1, 1) := dk_27 (dk_at dksX0_closedShare_0 3 rfl rfl)
theorem dX0_closedShare_4 : decode cX0_closedShare 4 = .ok (.invokevirtual 119, 3) := dk_182 0 119 (dk_at dksX0_closedShare_0 4 rfl rfl)
theorem dX0_closedShare_7 : decode cX0_closedShare 7 = .ok (.f2d, 1) := dk_141 (dk_at dksX0_closedShare_0 7 rfl rfl)
theorem dX0_closedShare_8 : decode cX0_closedShare 8 = .ok (.dastore, 1) := dk_82 (dk_at dksX0_closedShare_0 8 rfl rfl)
theorem dX0_closedShare_9 : decode cX0_closedShare 9 = .ok (.goto 9, 3) := dk_167 0 9 (dk_at dksX0_closedShare_0 9 rfl rfl)
theorem dX0_closedShare_12 : decode cX0_closedShare 12 = .ok (.astore_n 3, 1) := dk_78 (dk_at dksX0_closedShare_0 12 rfl rfl)
theorem dX0_closedShare_13 : decode cX0_closedShare 13 = .ok (.iconst 1, 1) := dk_4 (dk_at dksX0_closedShare_0 13 rfl rfl)
theorem dX0_closedShare_14 : decode cX0_closedShare 14 = .ok (.ireturn, 1) := dk_172 (dk_at dksX0_closedShare_0 14 rfl rfl)
theorem dX0_closedShare_15 : decode cX0_closedShare 15 = .ok (.astore_n 3, 1) := dk_78 (dk_at dksX0_closedShare_0 15 rfl rfl)
theorem dX0_closedShare_16 : decode cX0_closedShare 16 = .ok (.iconst 2, 1) := dk_5 (dk_at dksX0_closedShare_0 16 rfl rfl)
theorem dX0_closedShare_17 : decode cX0_closedShare 17 = .ok (.ireturn, 1) := dk_172 (dk_at dksX0_closedShare_0 17 rfl rfl)
theorem dX0_closedShare_18 : decode cX0_closedShare 18 = .ok (.iconst 0, 1) := dk_3 (dk_at dksX0_closedShare_0 18 rfl rfl)
theorem dX0_closedShare_19 : decode cX0_closedShare 19 = .ok (.ireturn, 1) := dk_172 (dk_at dksX0_closedShare_0 19 rfl rfl)
abbrev cX0_bulletin : ByteArray := method_36_code
def yX0_bulletin : MethodName := ⟨RX0, "bulletin", "(LFlareSlopes;II[J)I"⟩
def dkwX0_bulletin_1 : List UInt8 := [172, 3, 172]
abbrev dktX0_bulletin_1 : List UInt8 := dkwX0_bulletin_1 ++ []
def dkwX0_bulletin_0 : List UInt8 := [45, 3, 42, 27, 28, 182, 0, 123, 133, 80, 167, 0, 15, 58, 4, 4, 172, 58, 4, 5, 172, 58, 4, 6]
abbrev dktX0_bulletin_0 : List UInt8 := dkwX0_bulletin_0 ++ dktX0_bulletin_1
theorem dksX0_bulletin_0 : cX0_bulletin.data.toList.drop 0 = dktX0_bulletin_0 := by decide +kernel
theorem dksX0_bulletin_1 : cX0_bulletin.data.toList.drop 24 = dktX0_bulletin_1 := dk_seg dksX0_bulletin_0 24 rfl rfl
theorem dX0_bulletin_0 : decode cX0_bulletin 0 = .ok (.aload_n 3, 1) := dk_45 (dk_at dksX0_bulletin_0 0 rfl rfl)
theorem dX0_bulletin_1 : decode cX0_bulletin 1 = .ok (.iconst 0, 1) := dk_3 (dk_at dksX0_bulletin_0 1 rfl rfl)
theorem dX0_bulletin_2 : decode cX0_bulletin 2 = .ok (.aload_n 0, 1) := dk_42 (dk_at dksX0_bulletin_0 2 rfl rfl)
theorem dX0_bulletin_3 : decode cX0_bulletin 3 = .ok (.iload_n 1, 1) := dk_27 (dk_at dksX0_bulletin_0 3 rfl rfl)
theorem dX0_bulletin_4 : decode cX0_bulletin 4 = .ok (.iload_n 2, 1) := dk_28 (dk_at dksX0_bulletin_0 4 rfl rfl)
theorem dX0_bulletin_5 : decode cX0_bulletin 5 = .ok (.invokevirtual 123, 3) := dk_182 0 123 (dk_at dksX0_bulletin_0 5 rfl rfl)
theorem dX0_bulletin_8 : decode cX0_bulletin 8 = .ok (.i2l, 1) := dk_133 (dk_at dksX0_bulletin_0 8 rfl rfl)
theorem dX0_bulletin_9 : decode cX0_bulletin 9 = .ok (.lastore, 1) := dk_80 (dk_at dksX0_bulletin_0 9 rfl rfl)
theorem dX0_bulletin_10 : decode cX0_bulletin 10 = .ok (.goto 15, 3) := dk_167 0 15 (dk_at dksX0_bulletin_0 10 rfl rfl)
theorem dX0_bulletin_13 : decode cX0_bulletin 13 = .ok (.astore 4, 2) := dk_58 4 (dk_at dksX0_bulletin_0 13 rfl rfl)
theorem dX0_bulletin_15 : decode cX0_bulletin 15 = .ok (.iconst 1, 1) := dk_4 (dk_at dksX0_bulletin_0 15 rfl rfl)
theorem dX0_bulletin_16 : decode cX0_bulletin 16 = .ok (.ireturn, 1) := dk_172 (dk_at dksX0_bulletin_0 16 rfl rfl)
theorem dX0_bulletin_17 : decode cX0_bulletin 17 = .ok (.astore 4, 2) := dk_58 4 (dk_at dksX0_bulletin_0 17 rfl rfl)
theorem dX0_bulletin_19 : decode cX0_bulletin 19 = .ok (.iconst 2, 1) := dk_5 (dk_at dksX0_bulletin_0 19 rfl rfl)
theorem dX0_bulletin_20 : decode cX0_bulletin 20 = .ok (.ireturn, 1) := dk_172 (dk_at dksX0_bulletin_0 20 rfl rfl)
theorem dX0_bulletin_21 : decode cX0_bulletin 21 = .ok (.astore 4, 2) := dk_58 4 (dk_at dksX0_bulletin_0 21 rfl rfl)
theorem dX0_bulletin_23 : decode cX0_bulletin 23 = .ok (.iconst 3, 1) := dk_6 (dk_at dksX0_bulletin_0 23 rfl rfl)
theorem dX0_bulletin_24 : decode cX0_bulletin 24 = .ok (.ireturn, 1) := dk_172 (dk_at dksX0_bulletin_1 0 rfl rfl)
theorem dX0_bulletin_25 : decode cX0_bulletin 25 = .ok (.iconst 0, 1) := dk_3 (dk_at dksX0_bulletin_1 1 rfl rfl)
theorem dX0_bulletin_26 : decode cX0_bulletin 26 = .ok (.ireturn, 1) := dk_172 (dk_at dksX0_bulletin_1 2 rfl rfl)
abbrev cX0_closesIn : ByteArray := method_37_code
def yX0_closesIn : MethodName := ⟨RX0, "closesIn", "(LFlareSlopes;II[J)I"⟩
def dkwX0_closesIn_0 : List UInt8 := [45, 3, 42, 27, 28, 182, 0, 126, 133, 80, 167, 0, 11, 58, 4, 4, 172, 58, 4, 5, 172, 3, 172]
abbrev dktX0_closesIn_0 : List UInt8 := dkwX0_closesIn_0 ++ []
theorem dksX0_closesIn_0 : cX0_closesIn.data.toList.drop 0 = dktX0_closesIn_0 := by decide +kernel
theorem dX0_closesIn_0 : decode cX0_closesIn 0 = .ok (.aload_n 3, 1) := dk_45 (dk_at dksX0_closesIn_0 0 rfl rfl)
theorem dX0_closesIn_1 : decode cX0_closesIn 1 = .ok (.iconst 0, 1) := dk_3 (dk_at dksX0_closesIn_0 1 rfl rfl)
theorem dX0_closesIn_2 : decode cX0_closesIn 2 = .ok (.aload_n 0, 1) := dk_42 (dk_at dksX0_closesIn_0 2 rfl rfl)
theorem dX0_closesIn_3 : decode cX0_closesIn 3 = .ok (.iload_n 1, 1) := dk_27 (dk_at dksX0_closesIn_0 3 rfl rfl)
theorem dX0_closesIn_4 : decode cX0_closesIn 4 = .ok (.iload_n 2, 1) := dk_28 (dk_at dksX0_closesIn_0 4 rfl rfl)
theorem dX0_closesIn_5 : decode cX0_closesIn 5 = .ok (.invokevirtual 126, 3) := dk_182 0 126 (dk_at dksX0_closesIn_0 5 rfl rfl)
theorem dX0_closesIn_8 : decode cX0_closesIn 8 = .ok (.i2l, 1) := dk_133 (dk_at dksX0_closesIn_0 8 rfl rfl)
theorem dX0_closesIn_9 : decode cX0_closesIn 9 = .ok (.lastore, 1) := dk_80 (dk_at dksX0_closesIn_0 9 rfl rfl)
theorem dX0_closesIn_10 : decode cX0_closesIn 10 = .ok (.goto 11, 3) := dk_167 0 11 (dk_at dksX0_closesIn_0 10 rfl rfl)
theorem dX0_closesIn_13 : decode cX0_closesIn 13 = .ok (.astore 4, 2) := dk_58 4 (dk_at dksX0_closesIn_0 13 rfl rfl)
theorem dX0_closesIn_15 : decode cX0_closesIn 15 = .ok (.iconst 1, 1) := dk_4 (dk_at dksX0_closesIn_0 15 rfl rfl)
theorem dX0_closesIn_16 : decode cX0_closesIn 16 = .ok (.ireturn, 1) := dk_172 (dk_at dksX0_closesIn_0 16 rfl rfl)
theorem dX0_closesIn_17 : decode cX0_closesIn 17 = .ok (.astore 4, 2) := dk_58 4 (dk_at dksX0_closesIn_0 17 rfl rfl)
theorem dX0_closesIn_19 : decode cX0_closesIn 19 = .ok (.iconst 2, 1) := dk_5 (dk_at dksX0_closesIn_0 19 rfl rfl)
theorem dX0_closesIn_20 : decode cX0_closesIn 20 = .ok (.ireturn, 1) := dk_172 (dk_at dksX0_closesIn_0 20 rfl rfl)
theorem dX0_closesIn_21 : decode cX0_closesIn 21 = .ok (.iconst 0, 1) := dk_3 (dk_at dksX0_closesIn_0 21 rfl rfl)
theorem dX0_closesIn_22 : decode cX0_closesIn 22 = .ok (.ireturn, 1) := dk_172 (dk_at dksX0_closesIn_0 22 rfl rfl)
abbrev cX0_opensIn : ByteArray := method_38_code
def yX0_opensIn : MethodName := ⟨RX0, "opensIn", "(LFlareSlopes;II[J)I"⟩
def dkwX0_opensIn_0 : List UInt8 := [45, 3, 42, 27, 28, 182, 0, 129, 133, 80, 167, 0, 11, 58, 4, 4, 172, 58, 4, 5, 172, 3, 172]
abbrev dktX0_opensIn_0 : List UInt8 := dkwX0_opensIn_0 ++ []
theorem dksX0_opensIn_0 : cX0_opensIn.data.toList.drop 0 = dktX0_opensIn_0 := by decide +kernel
theorem dX0_opensIn_0 : decode cX0_opensIn 0 = .ok (.aload_n 3, 1) := dk_45 (dk_at dksX0_opensIn_0 0 rfl rfl)
theorem dX0_opensIn_1 : decode cX0_opensIn 1 = .ok (.iconst 0, 1) := dk_3 (dk_at dksX0_opensIn_0 1 rfl rfl)
theorem dX0_opensIn_2 : decode cX0_opensIn 2 = .ok (.aload_n 0, 1) := dk_42 (dk_at dksX0_opensIn_0 2 rfl rfl)
theorem dX0_opensIn_3 : decode cX0_opensIn 3 = .ok (.iload_n 1, 1) := dk_27 (dk_at dksX0_opensIn_0 3 rfl rfl)
theorem dX0_opensIn_4 : decode cX0_opensIn 4 = .ok (.iload_n 2, 1) := dk_28 (dk_at dksX0_opensIn_0 4 rfl rfl)
theorem dX0_opensIn_5 : decode cX0_opensIn 5 = .ok (.invokevirtual 129, 3) := dk_182 0 129 (dk_at dksX0_opensIn_0 5 rfl rfl)
theorem dX0_opensIn_8 : decode cX0_opensIn 8 = .ok (.i2l, 1) := dk_133 (dk_at dksX0_opensIn_0 8 rfl rfl)
theorem dX0_opensIn_9 : decode cX0_opensIn 9 = .ok (.lastore, 1) := dk_80 (dk_at dksX0_opensIn_0 9 rfl rfl)
theorem dX0_opensIn_10 : decode cX0_opensIn 10 = .ok (.goto 11, 3) := dk_167 0 11 (dk_at dksX0_opensIn_0 10 rfl rfl)
theorem dX0_opensIn_13 : decode cX0_opensIn 13 = .ok (.astore 4, 2) := dk_58 4 (dk_at dksX0_opensIn_0 13 rfl rfl)
theorem dX0_opensIn_15 : decode cX0_opensIn 15 = .ok (.iconst 1, 1) := dk_4 (dk_at dksX0_opensIn_0 15 rfl rfl)
theorem dX0_opensIn_16 : decode cX0_opensIn 16 = .ok (.ireturn, 1) := dk_172 (dk_at dksX0_opensIn_0 16 rfl rfl)
theorem dX0_opensIn_17 : decode cX0_opensIn 17 = .ok (.astore 4, 2) := dk_58 4 (dk_at dksX0_opensIn_0 17 rfl rfl)
theorem dX0_opensIn_19 : decode cX0_opensIn 19 = .ok (.iconst 2, 1) := dk_5 (dk_at dksX0_opensIn_0 19 rfl rfl)
theorem dX0_opensIn_20 : decode cX0_opensIn 20 = .ok (.ireturn, 1) := dk_172 (dk_at dksX0_opensIn_0 20 rfl rfl)
theorem dX0_opensIn_21 : decode cX0_opensIn 21 = .ok (.iconst 0, 1) := dk_3 (dk_at dksX0_opensIn_0 21 rfl rfl)
theorem dX0_opensIn_22 : decode cX0_opensIn 22 = .ok (.ireturn, 1) := dk_172 (dk_at dksX0_opensIn_0 22 rfl rfl)
abbrev cX0_closersIn : ByteArray := method_39_code
def yX0_closersIn : MethodName := ⟨RX0, "closersIn", "(LFlareSlopes;II[J)I"⟩
def dkwX0_closersIn_1 : List UInt8 := [172, 3, 172]
abbrev dktX0_closersIn_1 : List UInt8 := dkwX0_closersIn_1 ++ []
def dkwX0_closersIn_0 : List UInt8 := [45, 3, 42, 27, 28, 182, 0, 132, 133, 80, 167, 0, 15, 58, 4, 4, 172, 58, 4, 5, 172, 58, 4, 6]
abbrev dktX0_closersIn_0 : List UInt8 := dkwX0_closersIn_0 ++ dktX0_closersIn_1
theorem dksX0_closersIn_0 : cX0_closersIn.data.toList.drop 0 = dktX0_closersIn_0 := by decide +kernel
theorem dksX0_closersIn_1 : cX0_closersIn.data.toList.drop 24 = dktX0_closersIn_1 := dk_seg dksX0_closersIn_0 24 rfl rfl
theorem dX0_closersIn_0 : decode cX0_closersIn 0 = .ok (.aload_n 3, 1) := dk_45 (dk_at dksX0_closersIn_0 0 rfl rfl)
theorem dX0_closersIn_1 : decode cX0_closersIn 1 = .ok (.iconst 0, 1) := dk_3 (dk_at dksX0_closersIn_0 1 rfl rfl)
theorem dX0_closersIn_2 : decode cX0_closersIn 2 = .ok (.aload_n 0, 1) := dk_42 (dk_at dksX0_closersIn_0 2 rfl rfl)
theorem dX0_closersIn_3 : decode cX0_closersIn 3 = .ok (.iload_n 1, 1) := dk_27 (dk_at dksX0_closersIn_0 3 rfl rfl)
theorem dX0_closersIn_4 : decode cX0_closersIn 4 = .ok (.iload_n 2, 1) := dk_28 (dk_at dksX0_closersIn_0 4 rfl rfl)
theorem dX0_closersIn_5 : decode cX0_closersIn 5 = .ok (.invokevirtual 132, 3) := dk_182 0 132 (dk_at dksX0_closersIn_0 5 rfl rfl)
theorem dX0_closersIn_8 : decode cX0_closersIn 8 = .ok (.i2l, 1) := dk_133 (dk_at dksX0_closersIn_0 8 rfl rfl)
theorem dX0_closersIn_9 : decode cX0_closersIn 9 = .ok (.lastore, 1) := dk_80 (dk_at dksX0_closersIn_0 9 rfl rfl)
theorem dX0_closersIn_10 : decode cX0_closersIn 10 = .ok (.goto 15, 3) := dk_167 0 15 (dk_at dksX0_closersIn_0 10 rfl rfl)
theorem dX0_closersIn_13 : decode cX0_closersIn 13 = .ok (.astore 4, 2) := dk_58 4 (dk_at dksX0_closersIn_0 13 rfl rfl)
theorem dX0_closersIn_15 : decode cX0_closersIn 15 = .ok (.iconst 1, 1) := dk_4 (dk_at dksX0_closersIn_0 15 rfl rfl)
theorem dX0_closersIn_16 : decode cX0_closersIn 16 = .ok (.ireturn, 1) := dk_172 (dk_at dksX0_closersIn_0 16 rfl rfl)
theorem dX0_closersIn_17 : decode cX0_closersIn 17 = .ok (.astore 4, 2) := dk_58 4 (dk_at dksX0_closersIn_0 17 rfl rfl)
theorem dX0_closersIn_19 : decode cX0_closersIn 19 = .ok (.iconst 2, 1) := dk_5 (dk_at dksX0_closersIn_0 19 rfl rfl)
theorem dX0_closersIn_20 : decode cX0_closersIn 20 = .ok (.ireturn, 1) := dk_172 (dk_at dksX0_closersIn_0 20 rfl rfl)
theorem dX0_closersIn_21 : decode cX0_closersIn 21 = .ok (.astore 4, 2) := dk_58 4 (dk_at dksX0_closersIn_0 21 rfl rfl)
theorem dX0_closersIn_23 : decode cX0_closersIn 23 = .ok (.iconst 3, 1) := dk_6 (dk_at dksX0_closersIn_0 23 rfl rfl)
theorem dX0_closersIn_24 : decode cX0_closersIn 24 = .ok (.ireturn, 1) := dk_172 (dk_at dksX0_closersIn_1 0 rfl rfl)
theorem dX0_closersIn_25 : decode cX0_closersIn 25 = .ok (.iconst 0, 1) := dk_3 (dk_at dksX0_closersIn_1 1 rfl rfl)
theorem dX0_closersIn_26 : decode cX0_closersIn 26 = .ok (.ireturn, 1) := dk_172 (dk_at dksX0_closersIn_1 2 rfl rfl)
abbrev cX0_votesIn : ByteArray := method_40_code
def yX0_votesIn : MethodName := ⟨RX0, "votesIn", "(LFlareSlopes;I[J)I"⟩
def dkwX0_votesIn_0 : List UInt8 := [44, 3, 42, 27, 182, 0, 135, 133, 80, 167, 0, 9, 78, 4, 172, 78, 5, 172, 3, 172]
abbrev dktX0_votesIn_0 : List UInt8 := dkwX0_votesIn_0 ++ []
theorem dksX0_votesIn_0 : cX0_votesIn.data.toList.drop 0 = dktX0_votesIn_0 := by decide +kernel
theorem dX0_votesIn_0 : decode cX0_votesIn 0 = .ok (.aload_n 2, 1) := dk_44 (dk_at dksX0_votesIn_0 0 rfl rfl)
theorem dX0_votesIn_1 : decode cX0_votesIn 1 = .ok (.iconst 0, 1) := dk_3 (dk_at dksX0_votesIn_0 1 rfl rfl)
theorem dX0_votesIn_2 : decode cX0_votesIn 2 = .ok (.aload_n 0, 1) := dk_42 (dk_at dksX0_votesIn_0 2 rfl rfl)
theorem dX0_votesIn_3 : decode cX0_votesIn 3 = .ok (.iload_n 1, 1) := dk_27 (dk_at dksX0_votesIn_0 3 rfl rfl)
theorem dX0_votesIn_4 : decode cX0_votesIn 4 = .ok (.invokevirtual 135, 3) := dk_182 0 135 (dk_at dksX0_votesIn_0 4 rfl rfl)
theorem dX0_votesIn_7 : decode cX0_votesIn 7 = .ok (.i2l, 1) := dk_133 (dk_at dksX0_votesIn_0 7 rfl rfl)
theorem dX0_votesIn_8 : decode cX0_votesIn 8 = .ok (.lastore, 1) := dk_80 (dk_at dksX0_votesIn_0 8 rfl rfl)
theorem dX0_votesIn_9 : decode cX0_votesIn 9 = .ok (.goto 9, 3) := dk_167 0 9 (dk_at dksX0_votesIn_0 9 rfl rfl)
theorem dX0_votesIn_12 : decode cX0_votesIn 12 = .ok (.astore_n 3, 1) := dk_78 (dk_at dksX0_votesIn_0 12 rfl rfl)
theorem dX0_votesIn_13 : decode cX0_votesIn 13 = .ok (.iconst 1, 1) := dk_4 (dk_at dksX0_votesIn_0 13 rfl rfl)
theorem dX0_votesIn_14 : decode cX0_votesIn 14 = .ok (.ireturn, 1) := dk_172 (dk_at dksX0_votesIn_0 14 rfl rfl)
theorem dX0_votesIn_15 : decode cX0_votesIn 15 = .ok (.astore_n 3, 1) := dk_78 (dk_at dksX0_votesIn_0 15 rfl rfl)
theorem dX0_votesIn_16 : decode cX0_votesIn 16 = .ok (.iconst 2, 1) := dk_5 (dk_at dksX0_votesIn_0 16 rfl rfl)
theorem dX0_votesIn_17 : decode cX0_votesIn 17 = .ok (.ireturn, 1) := dk_172 (dk_at dksX0_votesIn_0 17 rfl rfl)
theorem dX0_votesIn_18 : decode cX0_votesIn 18 = .ok (.iconst 0, 1) := dk_3 (dk_at dksX0_votesIn_0 18 rfl rfl)
theorem dX0_votesIn_19 : decode cX0_votesIn 19 = .ok (.ireturn, 1) := dk_172 (dk_at dksX0_votesIn_0 19 rfl rfl)
abbrev cX0_seeIn : ByteArray := method_41_code
def yX0_seeIn : MethodName := ⟨RX0, "seeIn", "(LFlareSlopes;II[J)I"⟩
def dkwX0_seeIn_0 : List UInt8 := [45, 3, 42, 27, 28, 182, 0, 138, 133, 80, 167, 0, 11, 58, 4, 4, 172, 58, 4, 5, 172, 3, 172]
abbrev dktX0_seeIn_0 : List UInt8 := dkwX0_seeIn_0 ++ []
theorem dksX0_seeIn_0 : cX0_seeIn.data.toList.drop 0 = dktX0_seeIn_0 := by decide +kernel
theorem dX0_seeIn_0 : decode cX0_seeIn 0 = .ok (.aload_n 3, 1) := dk_45 (dk_at dksX0_seeIn_0 0 rfl rfl)
theorem dX0_seeIn_1 : decode cX0_seeIn 1 = .ok (.iconst 0, 1) := dk_3 (dk_at dksX0_seeIn_0 1 rfl rfl)
theorem dX0_seeIn_2 : decode cX0_seeIn 2 = .ok (.aload_n 0, 1) := dk_42 (dk_at dksX0_seeIn_0 2 rfl rfl)
theorem dX0_seeIn_3 : decode cX0_seeIn 3 = .ok (.iload_n 1, 1) := dk_27 (dk_at dksX0_seeIn_0 3 rfl rfl)
theorem dX0_seeIn_4 : decode cX0_seeIn 4 = .ok (.iload_n 2, 1) := dk_28 (dk_at dksX0_seeIn_0 4 rfl rfl)
theorem dX0_seeIn_5 : decode cX0_seeIn 5 = .ok (.invokevirtual 138, 3) := dk_182 0 138 (dk_at dksX0_seeIn_0 5 rfl rfl)
theorem dX0_seeIn_8 : decode cX0_seeIn 8 = .ok (.i2l, 1) := dk_133 (dk_at dksX0_seeIn_0 8 rfl rfl)
theorem dX0_seeIn_9 : decode cX0_seeIn 9 = .ok (.lastore, 1) := dk_80 (dk_at dksX0_seeIn_0 9 rfl rfl)
theorem dX0_seeIn_10 : decode cX0_seeIn 10 = .ok (.goto 11, 3) := dk_167 0 11 (dk_at dksX0_seeIn_0 10 rfl rfl)
theorem dX0_seeIn_13 : decode cX0_seeIn 13 = .ok (.astore 4, 2) := dk_58 4 (dk_at dksX0_seeIn_0 13 rfl rfl)
theorem dX0_seeIn_15 : decode cX0_seeIn 15 = .ok (.iconst 1, 1) := dk_4 (dk_at dksX0_seeIn_0 15 rfl rfl)
theorem dX0_seeIn_16 : decode cX0_seeIn 16 = .ok (.ireturn, 1) := dk_172 (dk_at dksX0_seeIn_0 16 rfl rfl)
theorem dX0_seeIn_17 : decode cX0_seeIn 17 = .ok (.astore 4, 2) := dk_58 4 (dk_at dksX0_seeIn_0 17 rfl rfl)
theorem dX0_seeIn_19 : decode cX0_seeIn 19 = .ok (.iconst 2, 1) := dk_5 (dk_at dksX0_seeIn_0 19 rfl rfl)
theorem dX0_seeIn_20 : decode cX0_seeIn 20 = .ok (.ireturn, 1) := dk_172 (dk_at dksX0_seeIn_0 20 rfl rfl)
theorem dX0_seeIn_21 : decode cX0_seeIn 21 = .ok (.iconst 0, 1) := dk_3 (dk_at dksX0_seeIn_0 21 rfl rfl)
theorem dX0_seeIn_22 : decode cX0_seeIn 22 = .ok (.ireturn, 1) := dk_172 (dk_at dksX0_seeIn_0 22 rfl rfl)
abbrev cX0_closersIf : ByteArray := method_42_code
def yX0_closersIf : MethodName := ⟨RX0, "closersIf", "(LFlareSlopes;III[J)I"⟩
def dkwX0_closersIf_1 : List UInt8 := [58, 5, 6, 172, 3, 172]
abbrev dktX0_closersIf_1 : List UInt8 := dkwX0_closersIf_1 ++ []
def dkwX0_closersIf_0 : List UInt8 := [25, 4, 3, 42, 27, 28, 29, 182, 0, 141, 133, 80, 167, 0, 15, 58, 5, 4, 172, 58, 5, 5, 172]
abbrev dktX0_closersIf_0 : List UInt8 := dkwX0_closersIf_0 ++ dktX0_closersIf_1
theorem dksX0_closersIf_0 : cX0_closersIf.data.toList.drop 0 = dktX0_closersIf_0 := by decide +kernel
theorem dksX0_closersIf_1 : cX0_closersIf.data.toList.drop 23 = dktX0_closersIf_1 := dk_seg dksX0_closersIf_0 23 rfl rfl
theorem dX0_closersIf_0 : decode cX0_closersIf 0 = .ok (.aload 4, 2) := dk_25 4 (dk_at dksX0_closersIf_0 0 rfl rfl)
theorem dX0_closersIf_2 : decode cX0_closersIf 2 = .ok (.iconst 0, 1) := dk_3 (dk_at dksX0_closersIf_0 2 rfl rfl)
theorem dX0_closersIf_3 : decode cX0_closersIf 3 = .ok (.aload_n 0, 1) := dk_42 (dk_at dksX0_closersIf_0 3 rfl rfl)
theorem dX0_closersIf_4 : decode cX0_closersIf 4 = .ok (.iload_n 1, 1) := dk_27 (dk_at dksX0_closersIf_0 4 rfl rfl)
theorem dX0_closersIf_5 : decode cX0_closersIf 5 = .ok (.iload_n 2, 1) := dk_28 (dk_at dksX0_closersIf_0 5 rfl rfl)
theorem dX0_closersIf_6 : decode cX0_closersIf 6 = .ok (.iload_n 3, 1) := dk_29 (dk_at dksX0_closersIf_0 6 rfl rfl)
theorem dX0_closersIf_7 : decode cX0_closersIf 7 = .ok (.invokevirtual 141, 3) := dk_182 0 141 (dk_at dksX0_closersIf_0 7 rfl rfl)
theorem dX0_closersIf_10 : decode cX0_closersIf 10 = .ok (.i2l, 1) := dk_133 (dk_at dksX0_closersIf_0 10 rfl rfl)
theorem dX0_closersIf_11 : decode cX0_closersIf 11 = .ok (.lastore, 1) := dk_80 (dk_at dksX0_closersIf_0 11 rfl rfl)
theorem dX0_closersIf_12 : decode cX0_closersIf 12 = .ok (.goto 15, 3) := dk_167 0 15 (dk_at dksX0_closersIf_0 12 rfl rfl)
theorem dX0_closersIf_15 : decode cX0_closersIf 15 = .ok (.astore 5, 2) := dk_58 5 (dk_at dksX0_closersIf_0 15 rfl rfl)
theorem dX0_closersIf_17 : decode cX0_closersIf 17 = .ok (.iconst 1, 1) := dk_4 (dk_at dksX0_closersIf_0 17 rfl rfl)
theorem dX0_closersIf_18 : decode cX0_closersIf 18 = .ok (.ireturn, 1) := dk_172 (dk_at dksX0_closersIf_0 18 rfl rfl)
theorem dX0_closersIf_19 : decode cX0_closersIf 19 = .ok (.astore 5, 2) := dk_58 5 (dk_at dksX0_closersIf_0 19 rfl rfl)
theorem dX0_closersIf_21 : decode cX0_closersIf 21 = .ok (.iconst 2, 1) := dk_5 (dk_at dksX0_closersIf_0 21 rfl rfl)
theorem dX0_closersIf_22 : decode cX0_closersIf 22 = .ok (.ireturn, 1) := dk_172 (dk_at dksX0_closersIf_0 22 rfl rfl)
theorem dX0_closersIf_23 : decode cX0_closersIf 23 = .ok (.astore 5, 2) := dk_58 5 (dk_at dksX0_closersIf_1 0 rfl rfl)
theorem dX0_closersIf_25 : decode cX0_closersIf 25 = .ok (.iconst 3, 1) := dk_6 (dk_at dksX0_closersIf_1 2 rfl rfl)
theorem dX0_closersIf_26 : decode cX0_closersIf 26 = .ok (.ireturn, 1) := dk_172 (dk_at dksX0_closersIf_1 3 rfl rfl)
theorem dX0_closersIf_27 : decode cX0_closersIf 27 = .ok (.iconst 0, 1) := dk_3 (dk_at dksX0_closersIf_1 4 rfl rfl)
theorem dX0_closersIf_28 : decode cX0_closersIf 28 = .ok (.ireturn, 1) := dk_172 (dk_at dksX0_closersIf_1 5 rfl rfl)
abbrev cX0_bestCaller : ByteArray := method_43_code
def yX0_bestCaller : MethodName := ⟨RX0, "bestCaller", "(LFlareSlopes;II[J)I"⟩
def dkwX0_bestCaller_1 : List UInt8 := [172, 3, 172]
abbrev dktX0_bestCaller_1 : List UInt8 := dkwX0_bestCaller_1 ++ []
def dkwX0_bestCaller_0 : List UInt8 := [45, 3, 42, 27, 28, 182, 0, 145, 133, 80, 167, 0, 15, 58, 4, 4, 172, 58, 4, 5, 172, 58, 4, 6]
abbrev dktX0_bestCaller_0 : List UInt8 := dkwX0_bestCaller_0 ++ dktX0_bestCaller_1
theorem dksX0_bestCaller_0 : cX0_bestCaller.data.toList.drop 0 = dktX0_bestCaller_0 := by decide +kernel
theorem dksX0_bestCaller_1 : cX0_bestCaller.data.toList.drop 24 = dktX0_bestCaller_1 := dk_seg dksX0_bestCaller_0 24 rfl rfl
theorem dX0_bestCaller_0 : decode cX0_bestCaller 0 = .ok (.aload_n 3, 1) := dk_45 (dk_at dksX0_bestCaller_0 0 rfl rfl)
theorem dX0_bestCaller_1 : decode cX0_bestCaller 1 = .ok (.iconst 0, 1) := dk_3 (dk_at dksX0_bestCaller_0 1 rfl rfl)
theorem dX0_bestCaller_2 : decode cX0_bestCaller 2 = .ok (.aload_n 0, 1) := dk_42 (dk_at dksX0_bestCaller_0 2 rfl rfl)
theorem dX0_bestCaller_3 : decode cX0_bestCaller 3 = .ok (.iload_n 1, 1) := dk_27 (dk_at dksX0_bestCaller_0 3 rfl rfl)
theorem dX0_bestCaller_4 : decode cX0_bestCaller 4 = .ok (.iload_n 2, 1) := dk_28 (dk_at dksX0_bestCaller_0 4 rfl rfl)
theorem dX0_bestCaller_5 : decode cX0_bestCaller 5 = .ok (.invokevirtual 145, 3) := dk_182 0 145 (dk_at dksX0_bestCaller_0 5 rfl rfl)
theorem dX0_bestCaller_8 : decode cX0_bestCaller 8 = .ok (.i2l, 1) := dk_133 (dk_at dksX0_bestCaller_0 8 rfl rfl)
theorem dX0_bestCaller_9 : decode cX0_bestCaller 9 = .ok (.lastore, 1) := dk_80 (dk_at dksX0_bestCaller_0 9 rfl rfl)
theorem dX0_bestCaller_10 : decode cX0_bestCaller 10 = .ok (.goto 15, 3) := dk_167 0 15 (dk_at dksX0_bestCaller_0 10 rfl rfl)
theorem dX0_bestCaller_13 : decode cX0_bestCaller 13 = .ok (.astore 4, 2) := dk_58 4 (dk_at dksX0_bestCaller_0 13 rfl rfl)
theorem dX0_bestCaller_15 : decode cX0_bestCaller 15 = .ok (.iconst 1, 1) := dk_4 (dk_at dksX0_bestCaller_0 15 rfl rfl)
theorem dX0_bestCaller_16 : decode cX0_bestCaller 16 = .ok (.ireturn, 1) := dk_172 (dk_at dksX0_bestCaller_0 16 rfl rfl)
theorem dX0_bestCaller_17 : decode cX0_bestCaller 17 = .ok (.astore 4, 2) := dk_58 4 (dk_at dksX0_bestCaller_0 17 rfl rfl)
theorem dX0_bestCaller_19 : decode cX0_bestCaller 19 = .ok (.iconst 2, 1) := dk_5 (dk_at dksX0_bestCaller_0 19 rfl rfl)
theorem dX0_bestCaller_20 : decode cX0_bestCaller 20 = .ok (.ireturn, 1) := dk_172 (dk_at dksX0_bestCaller_0 20 rfl rfl)
theorem dX0_bestCaller_21 : decode cX0_bestCaller 21 = .ok (.astore 4, 2) := dk_58 4 (dk_at dksX0_bestCaller_0 21 rfl rfl)
theorem dX0_bestCaller_23 : decode cX0_bestCaller 23 = .ok (.iconst 3, 1) := dk_6 (dk_at dksX0_bestCaller_0 23 rfl rfl)
theorem dX0_bestCaller_24 : decode cX0_bestCaller 24 = .ok (.ireturn, 1) := dk_172 (dk_at dksX0_bestCaller_1 0 rfl rfl)
theorem dX0_bestCaller_25 : decode cX0_bestCaller 25 = .ok (.iconst 0, 1) := dk_3 (dk_at dksX0_bestCaller_1 1 rfl rfl)
theorem dX0_bestCaller_26 : decode cX0_bestCaller 26 = .ok (.ireturn, 1) := dk_172 (dk_at dksX0_bestCaller_1 2 rfl rfl)
abbrev cX0_leastShare : ByteArray := method_44_code
def yX0_leastShare : MethodName := ⟨RX0, "leastShare", "(LFlareSlopes;II[J)I"⟩
def dkwX0_leastShare_0 : List UInt8 := [45, 3, 42, 27, 28, 182, 0, 148, 133, 80, 167, 0, 11, 58, 4, 4, 172, 58, 4, 5, 172, 3, 172]
abbrev dktX0_leastShare_0 : List UInt8 := dkwX0_leastShare_0 ++ []
theorem dksX0_leastShare_0 : cX0_leastShare.data.toList.drop 0 = dktX0_leastShare_0 := by decide +kernel
theorem dX0_leastShare_0 : decode cX0_leastShare 0 = .ok (.aload_n 3, 1) := dk_45 (dk_at dksX0_leastShare_0 0 rfl rfl)
theorem dX0_leastShare_1 : decode cX0_leastShare 1 = .ok (.iconst 0, 1) := dk_3 (dk_at dksX0_leastShare_0 1 rfl rfl)
theorem dX0_leastShare_2 : decode cX0_leastShare 2 = .ok (.aload_n 0, 1) := dk_42 (dk_at dksX0_leastShare_0 2 rfl rfl)
theorem dX0_leastShare_3 : decode cX0_leastShare 3 = .ok (.iload_n 1, 1) := dk_27 (dk_at dksX0_leastShare_0 3 rfl rfl)
theorem dX0_leastShare_4 : decode cX0_leastShare 4 = .ok (.iload_n 2, 1) := dk_28 (dk_at dksX0_leastShare_0 4 rfl rfl)
theorem dX0_leastShare_5 : decode cX0_leastShare 5 = .ok (.invokevirtual 148, 3) := dk_182 0 148 (dk_at dksX0_leastShare_0 5 rfl rfl)
theorem dX0_leastShare_8 : decode cX0_leastShare 8 = .ok (.i2l, 1) := dk_133 (dk_at dksX0_leastShare_0 8 rfl rfl)
theorem dX0_leastShare_9 : decode cX0_leastShare 9 = .ok (.lastore, 1) := dk_80 (dk_at dksX0_leastShare_0 9 rfl rfl)
theorem dX0_leastShare_10 : decode cX0_leastShare 10 = .ok (.goto 11, 3) := dk_167 0 11 (dk_at dksX0_leastShare_0 10 rfl rfl)
theorem dX0_leastShare_13 : decode cX0_leastShare 13 = .ok (.astore 4, 2) := dk_58 4 (dk_at dksX0_leastShare_0 13 rfl rfl)
theorem dX0_leastShare_15 : decode cX0_leastShare 15 = .ok (.iconst 1, 1) := dk_4 (dk_at dksX0_leastShare_0 15 rfl rfl)
theorem dX0_leastShare_16 : decode cX0_leastShare 16 = .ok (.ireturn, 1) := dk_172 (dk_at dksX0_leastShare_0 16 rfl rfl)
theorem dX0_leastShare_17 : decode cX0_leastShare 17 = .ok (.astore 4, 2) := dk_58 4 (dk_at dksX0_leastShare_0 17 rfl rfl)
theorem dX0_leastShare_19 : decode cX0_leastShare 19 = .ok (.iconst 2, 1) := dk_5 (dk_at dksX0_leastShare_0 19 rfl rfl)
theorem dX0_leastShare_20 : decode cX0_leastShare 20 = .ok (.ireturn, 1) := dk_172 (dk_at dksX0_leastShare_0 20 rfl rfl)
theorem dX0_leastShare_21 : decode cX0_leastShare 21 = .ok (.iconst 0, 1) := dk_3 (dk_at dksX0_leastShare_0 21 rfl rfl)
theorem dX0_leastShare_22 : decode cX0_leastShare 22 = .ok (.ireturn, 1) := dk_172 (dk_at dksX0_leastShare_0 22 rfl rfl)
abbrev cX0_writeBulletin : ByteArray := method_45_code
def yX0_writeBulletin : MethodName := ⟨RX0, "writeBulletin", "(LFlareSlopes;I[J)I"⟩
def dkwX0_writeBulletin_0 : List UInt8 := [44, 3, 42, 27, 182, 0, 151, 133, 80, 167, 0, 9, 78, 4, 172, 78, 5, 172, 3, 172]
abbrev dktX0_writeBulletin_0 : List UInt8 := dkwX0_writeBulletin_0 ++ []
theorem dksX0_writeBulletin_0 : cX0_writeBulletin.data.toList.drop 0 = dktX0_writeBulletin_0 := by decide +kernel
theorem dX0_writeBulletin_0 : decode cX0_writeBulletin 0 = .ok (.aload_n 2, 1) := dk_44 (dk_at dksX0_writeBulletin_0 0 rfl rfl)
theorem dX0_writeBulletin_1 : decode cX0_writeBulletin 1 = .ok (.iconst 0, 1) := dk_3 (dk_at dksX0_writeBulletin_0 1 rfl rfl)
theorem dX0_writeBulletin_2 : decode cX0_writeBulletin 2 = .ok (.aload_n 0, 1) := dk_42 (dk_at dksX0_writeBulletin_0 2 rfl rfl)
theorem dX0_writeBulletin_3 : decode cX0_writeBulletin 3 = .ok (.iload_n 1, 1) := dk_27 (dk_at dksX0_writeBulletin_0 3 rfl rfl)
theorem dX0_writeBulletin_4 : decode cX0_writeBulletin 4 = .ok (.invokevirtual 151, 3) := dk_182 0 151 (dk_at dksX0_writeBulletin_0 4 rfl rfl)
theorem dX0_writeBulletin_7 : decode cX0_writeBulletin 7 = .ok (.i2l, 1) := dk_133 (dk_at dksX0_writeBulletin_0 7 rfl rfl)
theorem dX0_writeBulletin_8 : decode cX0_writeBulletin 8 = .ok (.lastore, 1) := dk_80 (dk_at dksX0_writeBulletin_0 8 rfl rfl)
theorem dX0_writeBulletin_9 : decode cX0_writeBulletin 9 = .ok (.goto 9, 3) := dk_167 0 9 (dk_at dksX0_writeBulletin_0 9 rfl rfl)
theorem dX0_writeBulletin_12 : decode cX0_writeBulletin 12 = .ok (.astore_n 3, 1) := dk_78 (dk_at dksX0_writeBulletin_0 12 rfl rfl)
theorem dX0_writeBulletin_13 : decode cX0_writeBulletin 13 = .ok (.iconst 1, 1) := dk_4 (dk_at dksX0_writeBulletin_0 13 rfl rfl)
theorem dX0_writeBulletin_14 : decode cX0_writeBulletin 14 = .ok (.ireturn, 1) := dk_172 (dk_at dksX0_writeBulletin_0 14 rfl rfl)
theorem dX0_writeBulletin_15 : decode cX0_writeBulletin 15 = .ok (.astore_n 3, 1) := dk_78 (dk_at dksX0_writeBulletin_0 15 rfl rfl)
theorem dX0_writeBulletin_16 : decode cX0_writeBulletin 16 = .ok (.iconst 2, 1) := dk_5 (dk_at dksX0_writeBulletin_0 16 rfl rfl)
theorem dX0_writeBulletin_17 : decode cX0_writeBulletin 17 = .ok (.ireturn, 1) := dk_172 (dk_at dksX0_writeBulletin_0 17 rfl rfl)
theorem dX0_writeBulletin_18 : decode cX0_writeBulletin 18 = .ok (.iconst 0, 1) := dk_3 (dk_at dksX0_writeBulletin_0 18 rfl rfl)
theorem dX0_writeBulletin_19 : decode cX0_writeBulletin 19 = .ok (.ireturn, 1) := dk_172 (dk_at dksX0_writeBulletin_0 19 rfl rfl)
abbrev cX0_writeVotes : ByteArray := method_46_code
def yX0_writeVotes : MethodName := ⟨RX0, "writeVotes", "(LFlareSlopes;II[J)I"⟩
def dkwX0_writeVotes_0 : List UInt8 := [45, 3, 42, 27, 28, 182, 0, 154, 133, 80, 167, 0, 11, 58, 4, 4, 172, 58, 4, 5, 172, 3, 172]
abbrev dktX0_writeVotes_0 : List UInt8 := dkwX0_writeVotes_0 ++ []
theorem dksX0_writeVotes_0 : cX0_writeVotes.data.toList.drop 0 = dktX0_writeVotes_0 := by decide +kernel
theorem dX0_writeVotes_0 : decode cX0_writeVotes 0 = .ok (.aload_n 3, 1) := dk_45 (dk_at dksX0_writeVotes_0 0 rfl rfl)
theorem dX0_writeVotes_1 : decode cX0_writeVotes 1 = .ok (.iconst 0, 1) := dk_3 (dk_at dksX0_writeVotes_0 1 rfl rfl)
theorem dX0_writeVotes_2 : decode cX0_writeVotes 2 = .ok (.aload_n 0, 1) := dk_42 (dk_at dksX0_writeVotes_0 2 rfl rfl)
theorem dX0_writeVotes_3 : decode cX0_writeVotes 3 = .ok (.iload_n 1, 1) := dk_27 (dk_at dksX0_writeVotes_0 3 rfl rfl)
theorem dX0_writeVotes_4 : decode cX0_writeVotes 4 = .ok (.iload_n 2, 1) := dk_28 (dk_at dksX0_writeVotes_0 4 rfl rfl)
theorem dX0_writeVotes_5 : decode cX0_writeVotes 5 = .ok (.invokevirtual 154, 3) := dk_182 0 154 (dk_at dksX0_writeVotes_0 5 rfl rfl)
theorem dX0_writeVotes_8 : decode cX0_writeVotes 8 = .ok (.i2l, 1) := dk_133 (dk_at dksX0_writeVotes_0 8 rfl rfl)
theorem dX0_writeVotes_9 : decode cX0_writeVotes 9 = .ok (.lastore, 1) := dk_80 (dk_at dksX0_writeVotes_0 9 rfl rfl)
theorem dX0_writeVotes_10 : decode cX0_writeVotes 10 = .ok (.goto 11, 3) := dk_167 0 11 (dk_at dksX0_writeVotes_0 10 rfl rfl)
theorem dX0_writeVotes_13 : decode cX0_writeVotes 13 = .ok (.astore 4, 2) := dk_58 4 (dk_at dksX0_writeVotes_0 13 rfl rfl)
theorem dX0_writeVotes_15 : decode cX0_writeVotes 15 = .ok (.iconst 1, 1) := dk_4 (dk_at dksX0_writeVotes_0 15 rfl rfl)
theorem dX0_writeVotes_16 : decode cX0_writeVotes 16 = .ok (.ireturn, 1) := dk_172 (dk_at dksX0_writeVotes_0 16 rfl rfl)
theorem dX0_writeVotes_17 : decode cX0_writeVotes 17 = .ok (.astore 4, 2) := dk_58 4 (dk_at dksX0_writeVotes_0 17 rfl rfl)
theorem dX0_writeVotes_19 : decode cX0_writeVotes 19 = .ok (.iconst 2, 1) := dk_5 (dk_at dksX0_writeVotes_0 19 rfl rfl)
theorem dX0_writeVotes_20 : decode cX0_writeVotes 20 = .ok (.ireturn, 1) := dk_172 (dk_at dksX0_writeVotes_0 20 rfl rfl)
theorem dX0_writeVotes_21 : decode cX0_writeVotes 21 = .ok (.iconst 0, 1) := dk_3 (dk_at dksX0_writeVotes_0 21 rfl rfl)
theorem dX0_writeVotes_22 : decode cX0_writeVotes 22 = .ok (.ireturn, 1) := dk_172 (dk_at dksX0_writeVotes_0 22 rfl rfl)
abbrev cX0_writeView : ByteArray := method_47_code
def yX0_writeView : MethodName := ⟨RX0, "writeView", "(LFlareSlopes;[J)I"⟩
def dkwX0_writeView_0 : List UInt8 := [43, 3, 42, 182, 0, 157, 133, 80, 167, 0, 6, 77, 4, 172, 3, 172]
abbrev dktX0_writeView_0 : List UInt8 := dkwX0_writeView_0 ++ []
theorem dksX0_writeView_0 : cX0_writeView.data.toList.drop 0 = dktX0_writeView_0 := by decide +kernel
theorem dX0_writeView_0 : decode cX0_writeView 0 = .ok (.aload_n 1, 1) := dk_43 (dk_at dksX0_writeView_0 0 rfl rfl)
theorem dX0_writeView_1 : decode cX0_writeView 1 = .ok (.iconst 0, 1) := dk_3 (dk_at dksX0_writeView_0 1 rfl rfl)
theorem dX0_writeView_2 : decode cX0_writeView 2 = .ok (.aload_n 0, 1) := dk_42 (dk_at dksX0_writeView_0 2 rfl rfl)
theorem dX0_writeView_3 : decode cX0_writeView 3 = .ok (.invokevirtual 157, 3) := dk_182 0 157 (dk_at dksX0_writeView_0 3 rfl rfl)
theorem dX0_writeView_6 : decode cX0_writeView 6 = .ok (.i2l, 1) := dk_133 (dk_at dksX0_writeView_0 6 rfl rfl)
theorem dX0_writeView_7 : decode cX0_writeView 7 = .ok (.lastore, 1) := dk_80 (dk_at dksX0_writeView_0 7 rfl rfl)
theorem dX0_writeView_8 : decode cX0_writeView 8 = .ok (.goto 6, 3) := dk_167 0 6 (dk_at dksX0_writeView_0 8 rfl rfl)
theorem dX0_writeView_11 : decode cX0_writeView 11 = .ok (.astore_n 2, 1) := dk_77 (dk_at dksX0_writeView_0 11 rfl rfl)
theorem dX0_writeView_12 : decode cX0_writeView 12 = .ok (.iconst 1, 1) := dk_4 (dk_at dksX0_writeView_0 12 rfl rfl)
theorem dX0_writeView_13 : decode cX0_writeView 13 = .ok (.ireturn, 1) := dk_172 (dk_at dksX0_writeView_0 13 rfl rfl)
theorem dX0_writeView_14 : decode cX0_writeView 14 = .ok (.iconst 0, 1) := dk_3 (dk_at dksX0_writeView_0 14 rfl rfl)
theorem dX0_writeView_15 : decode cX0_writeView 15 = .ok (.ireturn, 1) := dk_172 (dk_at dksX0_writeView_0 15 rfl rfl)
abbrev cX0_textByte : ByteArray := method_48_code
def yX0_textByte : MethodName := ⟨RX0, "textByte", "(LFlareSlopes;I[J)I"⟩
def dkwX0_textByte_0 : List UInt8 := [44, 3, 42, 27, 182, 0, 160, 133, 80, 167, 0, 6, 78, 4, 172, 3, 172]
abbrev dktX0_textByte_0 : List UInt8 := dkwX0_textByte_0 ++ []
theorem dksX0_textByte_0 : cX0_textByte.data.toList.drop 0 = dktX0_textByte_0 := by decide +kernel
theorem dX0_textByte_0 : decode cX0_textByte 0 = .ok (.aload_n 2, 1) := dk_44 (dk_at dksX0_textByte_0 0 rfl rfl)
theorem dX0_textByte_1 : decode cX0_textByte 1 = .ok (.iconst 0, 1) := dk_3 (dk_at dksX0_textByte_0 1 rfl rfl)
theorem dX0_textByte_2 : decode cX0_textByte 2 = .ok (.aload_n 0, 1) := dk_42 (dk_at dksX0_textByte_0 2 rfl rfl)
theorem dX0_textByte_3 : decode cX0_textByte 3 = .ok (.iload_n 1, 1) := dk_27 (dk_at dksX0_textByte_0 3 rfl rfl)
theorem dX0_textByte_4 : decode cX0_textByte 4 = .ok (.invokevirtual 160, 3) := dk_182 0 160 (dk_at dksX0_textByte_0 4 rfl rfl)
theorem dX0_textByte_7 : decode cX0_textByte 7 = .ok (.i2l, 1) := dk_133 (dk_at dksX0_textByte_0 7 rfl rfl)
theorem dX0_textByte_8 : decode cX0_textByte 8 = .ok (.lastore, 1) := dk_80 (dk_at dksX0_textByte_0 8 rfl rfl)
theorem dX0_textByte_9 : decode cX0_textByte 9 = .ok (.goto 6, 3) := dk_167 0 6 (dk_at dksX0_textByte_0 9 rfl rfl)
theorem dX0_textByte_12 : decode cX0_textByte 12 = .ok (.astore_n 3, 1) := dk_78 (dk_at dksX0_textByte_0 12 rfl rfl)
theorem dX0_textByte_13 : decode cX0_textByte 13 = .ok (.iconst 1, 1) := dk_4 (dk_at dksX0_textByte_0 13 rfl rfl)
theorem dX0_textByte_14 : decode cX0_textByte 14 = .ok (.ireturn, 1) := dk_172 (dk_at dksX0_textByte_0 14 rfl rfl)
theorem dX0_textByte_15 : decode cX0_textByte 15 = .ok (.iconst 0, 1) := dk_3 (dk_at dksX0_textByte_0 15 rfl rfl)
theorem dX0_textByte_16 : decode cX0_textByte 16 = .ok (.ireturn, 1) := dk_172 (dk_at dksX0_textByte_0 16 rfl rfl)
abbrev cX0_tick : ByteArray := method_49_code
def yX0_tick : MethodName := ⟨RX0, "tick", "(LFlareSlopes;I[J)I"⟩
def dkwX0_tick_0 : List UInt8 := [44, 3, 42, 27, 182, 0, 163, 133, 80, 167, 0, 9, 78, 4, 172, 78, 5, 172, 3, 172]
abbrev dktX0_tick_0 : List UInt8 := dkwX0_tick_0 ++ []
theorem dksX0_tick_0 : cX0_tick.data.toList.drop 0 = dktX0_tick_0 := by decide +kernel
theorem dX0_tick_0 : decode cX0_tick 0 = .ok (.aload_n 2, 1) := dk_44 (dk_at dksX0_tick_0 0 rfl rfl)
theorem dX0_tick_1 : decode cX0_tick 1 = .ok (.iconst 0, 1) := dk_3 (dk_at dksX0_tick_0 1 rfl rfl)
theorem dX0_tick_2 : decode cX0_tick 2 = .ok (.aload_n 0, 1) := dk_42 (dk_at dksX0_tick_0 2 rfl rfl)
theorem dX0_tick_3 : decode cX0_tick 3 = .ok (.iload_n 1, 1) := dk_27 (dk_at dksX0_tick_0 3 rfl rfl)
theorem dX0_tick_4 : decode cX0_tick 4 = .ok (.invokevirtual 163, 3) := dk_182 0 163 (dk_at dksX0_tick_0 4 rfl rfl)
theorem dX0_tick_7 : decode cX0_tick 7 = .ok (.i2l, 1) := dk_133 (dk_at dksX0_tick_0 7 rfl rfl)
theorem dX0_tick_8 : decode cX0_tick 8 = .ok (.lastore, 1) := dk_80 (dk_at dksX0_tick_0 8 rfl rfl)
theorem dX0_tick_9 : decode cX0_tick 9 = .ok (.goto 9, 3) := dk_167 0 9 (dk_at dksX0_tick_0 9 rfl rfl)
theorem dX0_tick_12 : decode cX0_tick 12 = .ok (.astore_n 3, 1) := dk_78 (dk_at dksX0_tick_0 12 rfl rfl)
theorem dX0_tick_13 : decode cX0_tick 13 = .ok (.iconst 1, 1) := dk_4 (dk_at dksX0_tick_0 13 rfl rfl)
theorem dX0_tick_14 : decode cX0_tick 14 = .ok (.ireturn, 1) := dk_172 (dk_at dksX0_tick_0 14 rfl rfl)
theorem dX0_tick_15 : decode cX0_tick 15 = .ok (.astore_n 3, 1) := dk_78 (dk_at dksX0_tick_0 15 rfl rfl)
theorem dX0_tick_16 : decode cX0_tick 16 = .ok (.iconst 2, 1) := dk_5 (dk_at dksX0_tick_0 16 rfl rfl)
theorem dX0_tick_17 : decode cX0_tick 17 = .ok (.ireturn, 1) := dk_172 (dk_at dksX0_tick_0 17 rfl rfl)
theorem dX0_tick_18 : decode cX0_tick 18 = .ok (.iconst 0, 1) := dk_3 (dk_at dksX0_tick_0 18 rfl rfl)
theorem dX0_tick_19 : decode cX0_tick 19 = .ok (.ireturn, 1) := dk_172 (dk_at dksX0_tick_0 19 rfl rfl)
abbrev cX0_flare : ByteArray := method_50_code
def yX0_flare : MethodName := ⟨RX0, "flare", "(LFlareSlopes;IIZ[J)I"⟩
def dkwX0_flare_1 : List UInt8 := [58, 5, 6, 172, 3, 172]
abbrev dktX0_flare_1 : List UInt8 := dkwX0_flare_1 ++ []
def dkwX0_flare_0 : List UInt8 := [25, 4, 3, 42, 27, 28, 29, 182, 0, 166, 133, 80, 167, 0, 15, 58, 5, 4, 172, 58, 5, 5, 172]
abbrev dktX0_flare_0 : List UInt8 := dkwX0_flare_0 ++ dktX0_flare_1
theorem dksX0_flare_0 : cX0_flare.data.toList.drop 0 = dktX0_flare_0 := by decide +kernel
theorem dksX0_flare_1 : cX0_flare.data.toList.drop 23 = dktX0_flare_1 := dk_seg dksX0_flare_0 23 rfl rfl
theorem dX0_flare_0 : decode cX0_flare 0 = .ok (.aload 4, 2) := dk_25 4 (dk_at dksX0_flare_0 0 rfl rfl)
theorem dX0_flare_2 : decode cX0_flare 2 = .ok (.iconst 0, 1) := dk_3 (dk_at dksX0_flare_0 2 rfl rfl)
theorem dX0_flare_3 : decode cX0_flare 3 = .ok (.aload_n 0, 1) := dk_42 (dk_at dksX0_flare_0 3 rfl rfl)
theorem dX0_flare_4 : decode cX0_flare 4 = .ok (.iload_n 1, 1) := dk_27 (dk_at dksX0_flare_0 4 rfl rfl)
theorem dX0_flare_5 : decode cX0_flare 5 = .ok (.iload_n 2, 1) := dk_28 (dk_at dksX0_flare_0 5 rfl rfl)
theorem dX0_flare_6 : decode cX0_flare 6 = .ok (.iload_n 3, 1) := dk_29 (dk_at dksX0_flare_0 6 rfl rfl)
theorem dX0_flare_7 : decode cX0_flare 7 = .ok (.invokevirtual 166, 3) := dk_182 0 166 (dk_at dksX0_flare_0 7 rfl rfl)
theorem dX0_flare_10 : decode cX0_flare 10 = .ok (.i2l, 1) := dk_133 (dk_at dksX0_flare_0 10 rfl rfl)
theorem dX0_flare_11 : decode cX0_flare 11 = .ok (.lastore, 1) := dk_80 (dk_at dksX0_flare_0 11 rfl rfl)
theorem dX0_flare_12 : decode cX0_flare 12 = .ok (.goto 15, 3) := dk_167 0 15 (dk_at dksX0_flare_0 12 rfl rfl)
theorem dX0_flare_15 : decode cX0_flare 15 = .ok (.astore 5, 2) := dk_58 5 (dk_at dksX0_flare_0 15 rfl rfl)
theorem dX0_flare_17 : decode cX0_flare 17 = .ok (.iconst 1, 1) := dk_4 (dk_at dksX0_flare_0 17 rfl rfl)
theorem dX0_flare_18 : decode cX0_flare 18 = .ok (.ireturn, 1) := dk_172 (dk_at dksX0_flare_0 18 rfl rfl)
theorem dX0_flare_19 : decode cX0_flare 19 = .ok (.astore 5, 2) := dk_58 5 (dk_at dksX0_flare_0 19 rfl rfl)
theorem dX0_flare_21 : decode cX0_flare 21 = .ok (.iconst 2, 1) := dk_5 (dk_at dksX0_flare_0 21 rfl rfl)
theorem dX0_flare_22 : decode cX0_flare 22 = .ok (.ireturn, 1) := dk_172 (dk_at dksX0_flare_0 22 rfl rfl)
theorem dX0_flare_23 : decode cX0_flare 23 = .ok (.astore 5, 2) := dk_58 5 (dk_at dksX0_flare_1 0 rfl rfl)
theorem dX0_flare_25 : decode cX0_flare 25 = .ok (.iconst 3, 1) := dk_6 (dk_at dksX0_flare_1 2 rfl rfl)
theorem dX0_flare_26 : decode cX0_flare 26 = .ok (.ireturn, 1) := dk_172 (dk_at dksX0_flare_1 3 rfl rfl)
theorem dX0_flare_27 : decode cX0_flare 27 = .ok (.iconst 0, 1) := dk_3 (dk_at dksX0_flare_1 4 rfl rfl)
theorem dX0_flare_28 : decode cX0_flare 28 = .ok (.ireturn, 1) := dk_172 (dk_at dksX0_flare_1 5 rfl rfl)
abbrev cX0_inspect : ByteArray := method_51_code
def yX0_inspect : MethodName := ⟨RX0, "inspect", "(LFlareSlopes;II[J)I"⟩
def dkwX0_inspect_1 : List UInt8 := [172, 3, 172]
abbrev dktX0_inspect_1 : List UInt8 := dkwX0_inspect_1 ++ []
def dkwX0_inspect_0 : List UInt8 := [45, 3, 42, 27, 28, 182, 0, 169, 133, 80, 167, 0, 15, 58, 4, 4, 172, 58, 4, 5, 172, 58, 4, 6]
abbrev dktX0_inspect_0 : List UInt8 := dkwX0_inspect_0 ++ dktX0_inspect_1
theorem dksX0_inspect_0 : cX0_inspect.data.toList.drop 0 = dktX0_inspect_0 := by decide +kernel
theorem dksX0_inspect_1 : cX0_inspect.data.toList.drop 24 = dktX0_inspect_1 := dk_seg dksX0_inspect_0 24 rfl rfl
theorem dX0_inspect_0 : decode cX0_inspect 0 = .ok (.aload_n 3, 1) := dk_45 (dk_at dksX0_inspect_0 0 rfl rfl)
theorem dX0_inspect_1 : decode cX0_inspect 1 = .ok (.iconst 0, 1) := dk_3 (dk_at dksX0_inspect_0 1 rfl rfl)
theorem dX0_inspect_2 : decode cX0_inspect 2 = .ok (.aload_n 0, 1) := dk_42 (dk_at dksX0_inspect_0 2 rfl rfl)
theorem dX0_inspect_3 : decode cX0_inspect 3 = .ok (.iload_n 1, 1) := dk_27 (dk_at dksX0_inspect_0 3 rfl rfl)
theorem dX0_inspect_4 : decode cX0_inspect 4 = .ok (.iload_n 2, 1) := dk_28 (dk_at dksX0_inspect_0 4 rfl rfl)
theorem dX0_inspect_5 : decode cX0_inspect 5 = .ok (.invokevirtual 169, 3) := dk_182 0 169 (dk_at dksX0_inspect_0 5 rfl rfl)
theorem dX0_inspect_8 : decode cX0_inspect 8 = .ok (.i2l, 1) := dk_133 (dk_at dksX0_inspect_0 8 rfl rfl)
theorem dX0_inspect_9 : decode cX0_inspect 9 = .ok (.lastore, 1) := dk_80 (dk_at dksX0_inspect_0 9 rfl rfl)
theorem dX0_inspect_10 : decode cX0_inspect 10 = .ok (.goto 15, 3) := dk_167 0 15 (dk_at dksX0_inspect_0 10 rfl rfl)
theorem dX0_inspect_13 : decode cX0_inspect 13 = .ok (.astore 4, 2) := dk_58 4 (dk_at dksX0_inspect_0 13 rfl rfl)
theorem dX0_inspect_15 : decode cX0_inspect 15 = .ok (.iconst 1, 1) := dk_4 (dk_at dksX0_inspect_0 15 rfl rfl)
theorem dX0_inspect_16 : decode cX0_inspect 16 = .ok (.ireturn, 1) := dk_172 (dk_at dksX0_inspect_0 16 rfl rfl)
theorem dX0_inspect_17 : decode cX0_inspect 17 = .ok (.astore 4, 2) := dk_58 4 (dk_at dksX0_inspect_0 17 rfl rfl)
theorem dX0_inspect_19 : decode cX0_inspect 19 = .ok (.iconst 2, 1) := dk_5 (dk_at dksX0_inspect_0 19 rfl rfl)
theorem dX0_inspect_20 : decode cX0_inspect 20 = .ok (.ireturn, 1) := dk_172 (dk_at dksX0_inspect_0 20 rfl rfl)
theorem dX0_inspect_21 : decode cX0_inspect 21 = .ok (.astore 4, 2) := dk_58 4 (dk_at dksX0_inspect_0 21 rfl rfl)
theorem dX0_inspect_23 : decode cX0_inspect 23 = .ok (.iconst 3, 1) := dk_6 (dk_at dksX0_inspect_0 23 rfl rfl)
theorem dX0_inspect_24 : decode cX0_inspect 24 = .ok (.ireturn, 1) := dk_172 (dk_at dksX0_inspect_1 0 rfl rfl)
theorem dX0_inspect_25 : decode cX0_inspect 25 = .ok (.iconst 0, 1) := dk_3 (dk_at dksX0_inspect_1 1 rfl rfl)
theorem dX0_inspect_26 : decode cX0_inspect 26 = .ok (.ireturn, 1) := dk_172 (dk_at dksX0_inspect_1 2 rfl rfl)
abbrev cX0_danger : ByteArray := method_52_code
def yX0_danger : MethodName := ⟨RX0, "danger", "(LFlareSlopes;IZ[J)I"⟩
def dkwX0_danger_1 : List UInt8 := [58, 4, 5, 172, 3, 172]
abbrev dktX0_danger_1 : List UInt8 := dkwX0_danger_1 ++ []
def dkwX0_danger_0 : List UInt8 := [45, 3, 42, 27, 28, 182, 0, 172, 153, 0, 7, 10, 167, 0, 4, 9, 80, 167, 0, 11, 58, 4, 4, 172]
abbrev dktX0_danger_0 : List UInt8 := dkwX0_danger_0 ++ dktX0_danger_1
theorem dksX0_danger_0 : cX0_danger.data.toList.drop 0 = dktX0_danger_0 := by decide +kernel
theorem dksX0_danger_1 : cX0_danger.data.toList.drop 24 = dktX0_danger_1 := dk_seg dksX0_danger_0 24 rfl rfl
theorem dX0_danger_0 : decode cX0_danger 0 = .ok (.aload_n 3, 1) := dk_45 (dk_at dksX0_danger_0 0 rfl rfl)
theorem dX0_danger_1 : decode cX0_danger 1 = .ok (.iconst 0, 1) := dk_3 (dk_at dksX0_danger_0 1 rfl rfl)
theorem dX0_danger_2 : decode cX0_danger 2 = .ok (.aload_n 0, 1) := dk_42 (dk_at dksX0_danger_0 2 rfl rfl)
theorem dX0_danger_3 : decode cX0_danger 3 = .ok (.iload_n 1, 1) := dk_27 (dk_at dksX0_danger_0 3 rfl rfl)
theorem dX0_danger_4 : decode cX0_danger 4 = .ok (.iload_n 2, 1) := dk_28 (dk_at dksX0_danger_0 4 rfl rfl)
theorem dX0_danger_5 : decode cX0_danger 5 = .ok (.invokevirtual 172, 3) := dk_182 0 172 (dk_at dksX0_danger_0 5 rfl rfl)
theorem dX0_danger_8 : decode cX0_danger 8 = .ok (.ifCond .eq 7, 3) := dk_153 0 7 (dk_at dksX0_danger_0 8 rfl rfl)
theorem dX0_danger_11 : decode cX0_danger 11 = .ok (.lconst 1, 1) := dk_10 (dk_at dksX0_danger_0 11 rfl rfl)
theorem dX0_danger_12 : decode cX0_danger 12 = .ok (.goto 4, 3) := dk_167 0 4 (dk_at dksX0_danger_0 12 rfl rfl)
theorem dX0_danger_15 : decode cX0_danger 15 = .ok (.lconst 0, 1) := dk_9 (dk_at dksX0_danger_0 15 rfl rfl)
theorem dX0_danger_16 : decode cX0_danger 16 = .ok (.lastore, 1) := dk_80 (dk_at dksX0_danger_0 16 rfl rfl)
theorem dX0_danger_17 : decode cX0_danger 17 = .ok (.goto 11, 3) := dk_167 0 11 (dk_at dksX0_danger_0 17 rfl rfl)
theorem dX0_danger_20 : decode cX0_danger 20 = .ok (.astore 4, 2) := dk_58 4 (dk_at dksX0_danger_0 20 rfl rfl)
theorem dX0_danger_22 : decode cX0_danger 22 = .ok (.iconst 1, 1) := dk_4 (dk_at dksX0_danger_0 22 rfl rfl)
theorem dX0_danger_23 : decode cX0_danger 23 = .ok (.ireturn, 1) := dk_172 (dk_at dksX0_danger_0 23 rfl rfl)
theorem dX0_danger_24 : decode cX0_danger 24 = .ok (.astore 4, 2) := dk_58 4 (dk_at dksX0_danger_1 0 rfl rfl)
theorem dX0_danger_26 : decode cX0_danger 26 = .ok (.iconst 2, 1) := dk_5 (dk_at dksX0_danger_1 2 rfl rfl)
theorem dX0_danger_27 : decode cX0_danger 27 = .ok (.ireturn, 1) := dk_172 (dk_at dksX0_danger_1 3 rfl rfl)
theorem dX0_danger_28 : decode cX0_danger 28 = .ok (.iconst 0, 1) := dk_3 (dk_at dksX0_danger_1 4 rfl rfl)
theorem dX0_danger_29 : decode cX0_danger 29 = .ok (.ireturn, 1) := dk_172 (dk_at dksX0_danger_1 5 rfl rfl)
abbrev cX0_issue : ByteArray := method_53_code
def yX0_issue : MethodName := ⟨RX0, "issue", "(LFlareSlopes;I[J)I"⟩
def dkwX0_issue_0 : List UInt8 := [44, 3, 42, 27, 182, 0, 176, 133, 80, 167, 0, 9, 78, 4, 172, 78, 5, 172, 3, 172]
abbrev dktX0_issue_0 : List UInt8 := dkwX0_issue_0 ++ []
theorem dksX0_issue_0 : cX0_issue.data.toList.drop 0 = dktX0_issue_0 := by decide +kernel
theorem dX0_issue_0 : decode cX0_issue 0 = .ok (.aload_n 2, 1) := dk_44 (dk_at dksX0_issue_0 0 rfl rfl)
theorem dX0_issue_1 : decode cX0_issue 1 = .ok (.iconst 0, 1) := dk_3 (dk_at dksX0_issue_0 1 rfl rfl)
theorem dX0_issue_2 : decode cX0_issue 2 = .ok (.aload_n 0, 1) := dk_42 (dk_at dksX0_issue_0 2 rfl rfl)
theorem dX0_issue_3 : decode cX0_issue 3 = .ok (.iload_n 1, 1) := dk_27 (dk_at dksX0_issue_0 3 rfl rfl)
theorem dX0_issue_4 : decode cX0_issue 4 = .ok (.invokevirtual 176, 3) := dk_182 0 176 (dk_at dksX0_issue_0 4 rfl rfl)
theorem dX0_issue_7 : decode cX0_issue 7 = .ok (.i2l, 1) := dk_133 (dk_at dksX0_issue_0 7 rfl rfl)
theorem dX0_issue_8 : decode cX0_issue 8 = .ok (.lastore, 1) := dk_80 (dk_at dksX0_issue_0 8 rfl rfl)
theorem dX0_issue_9 : decode cX0_issue 9 = .ok (.goto 9, 3) := dk_167 0 9 (dk_at dksX0_issue_0 9 rfl rfl)
theorem dX0_issue_12 : decode cX0_issue 12 = .ok (.astore_n 3, 1) := dk_78 (dk_at dksX0_issue_0 12 rfl rfl)
theorem dX0_issue_13 : decode cX0_issue 13 = .ok (.iconst 1, 1) := dk_4 (dk_at dksX0_issue_0 13 rfl rfl)
theorem dX0_issue_14 : decode cX0_issue 14 = .ok (.ireturn, 1) := dk_172 (dk_at dksX0_issue_0 14 rfl rfl)
theorem dX0_issue_15 : decode cX0_issue 15 = .ok (.astore_n 3, 1) := dk_78 (dk_at dksX0_issue_0 15 rfl rfl)
theorem dX0_issue_16 : decode cX0_issue 16 = .ok (.iconst 2, 1) := dk_5 (dk_at dksX0_issue_0 16 rfl rfl)
theorem dX0_issue_17 : decode cX0_issue 17 = .ok (.ireturn, 1) := dk_172 (dk_at dksX0_issue_0 17 rfl rfl)
theorem dX0_issue_18 : decode cX0_issue 18 = .ok (.iconst 0, 1) := dk_3 (dk_at dksX0_issue_0 18 rfl rfl)
theorem dX0_issue_19 : decode cX0_issue 19 = .ok (.ireturn, 1) := dk_172 (dk_at dksX0_issue_0 19 rfl rfl)
abbrev cX0_give : ByteArray := method_54_code
def yX0_give : MethodName := ⟨RX0, "give", "(LFlareSlopes;II[J)I"⟩
def dkwX0_give_1 : List UInt8 := [172, 3, 172]
abbrev dktX0_give_1 : List UInt8 := dkwX0_give_1 ++ []
def dkwX0_give_0 : List UInt8 := [45, 3, 42, 27, 28, 182, 0, 179, 133, 80, 167, 0, 15, 58, 4, 4, 172, 58, 4, 5, 172, 58, 4, 6]
abbrev dktX0_give_0 : List UInt8 := dkwX0_give_0 ++ dktX0_give_1
theorem dksX0_give_0 : cX0_give.data.toList.drop 0 = dktX0_give_0 := by decide +kernel
theorem dksX0_give_1 : cX0_give.data.toList.drop 24 = dktX0_give_1 := dk_seg dksX0_give_0 24 rfl rfl
theorem dX0_give_0 : decode cX0_give 0 = .ok (.aload_n 3, 1) := dk_45 (dk_at dksX0_give_0 0 rfl rfl)
theorem dX0_give_1 : decode cX0_give 1 = .ok (.iconst 0, 1) := dk_3 (dk_at dksX0_give_0 1 rfl rfl)
theorem dX0_give_2 : decode cX0_give 2 = .ok (.aload_n 0, 1) := dk_42 (dk_at dksX0_give_0 2 rfl rfl)
theorem dX0_give_3 : decode cX0_give 3 = .ok (.iload_n 1, 1) := dk_27 (dk_at dksX0_give_0 3 rfl rfl)
theorem dX0_give_4 : decode cX0_give 4 = .ok (.iload_n 2, 1) := dk_28 (dk_at dksX0_give_0 4 rfl rfl)
theorem dX0_give_5 : decode cX0_give 5 = .ok (.invokevirtual 179, 3) := dk_182 0 179 (dk_at dksX0_give_0 5 rfl rfl)
theorem dX0_give_8 : decode cX0_give 8 = .ok (.i2l, 1) := dk_133 (dk_at dksX0_give_0 8 rfl rfl)
theorem dX0_give_9 : decode cX0_give 9 = .ok (.lastore, 1) := dk_80 (dk_at dksX0_give_0 9 rfl rfl)
theorem dX0_give_10 : decode cX0_give 10 = .ok (.goto 15, 3) := dk_167 0 15 (dk_at dksX0_give_0 10 rfl rfl)
theorem dX0_give_13 : decode cX0_give 13 = .ok (.astore 4, 2) := dk_58 4 (dk_at dksX0_give_0 13 rfl rfl)
theorem dX0_give_15 : decode cX0_give 15 = .ok (.iconst 1, 1) := dk_4 (dk_at dksX0_give_0 15 rfl rfl)
theorem dX0_give_16 : decode cX0_give 16 = .ok (.ireturn, 1) := dk_172 (dk_at dksX0_give_0 16 rfl rfl)
theorem dX0_give_17 : decode cX0_give 17 = .ok (.astore 4, 2) := dk_58 4 (dk_at dksX0_give_0 17 rfl rfl)
theorem dX0_give_19 : decode cX0_give 19 = .ok (.iconst 2, 1) := dk_5 (dk_at dksX0_give_0 19 rfl rfl)
theorem dX0_give_20 : decode cX0_give 20 = .ok (.ireturn, 1) := dk_172 (dk_at dksX0_give_0 20 rfl rfl)
theorem dX0_give_21 : decode cX0_give 21 = .ok (.astore 4, 2) := dk_58 4 (dk_at dksX0_give_0 21 rfl rfl)
theorem dX0_give_23 : decode cX0_give 23 = .ok (.iconst 3, 1) := dk_6 (dk_at dksX0_give_0 23 rfl rfl)
theorem dX0_give_24 : decode cX0_give 24 = .ok (.ireturn, 1) := dk_172 (dk_at dksX0_give_1 0 rfl rfl)
theorem dX0_give_25 : decode cX0_give 25 = .ok (.iconst 0, 1) := dk_3 (dk_at dksX0_give_1 1 rfl rfl)
theorem dX0_give_26 : decode cX0_give 26 = .ok (.ireturn, 1) := dk_172 (dk_at dksX0_give_1 2 rfl rfl)
abbrev cX0_move : ByteArray := method_55_code
def yX0_move : MethodName := ⟨RX0, "move", "(LFlareSlopes;III[J)I"⟩
def dkwX0_move_1 : List UInt8 := [58, 5, 6, 172, 3, 172]
abbrev dktX0_move_1 : List UInt8 := dkwX0_move_1 ++ []
def dkwX0_move_0 : List UInt8 := [25, 4, 3, 42, 27, 28, 29, 182, 0, 182, 133, 80, 167, 0, 15, 58, 5, 4, 172, 58, 5, 5, 172]
abbrev dktX0_move_0 : List UInt8 := dkwX0_move_0 ++ dktX0_move_1
theorem dksX0_move_0 : cX0_move.data.toList.drop 0 = dktX0_move_0 := by decide +kernel
theorem dksX0_move_1 : cX0_move.data.toList.drop 23 = dktX0_move_1 := dk_seg dksX0_move_0 23 rfl rfl
theorem dX0_move_0 : decode cX0_move 0 = .ok (.aload 4, 2) := dk_25 4 (dk_at dksX0_move_0 0 rfl rfl)
theorem dX0_move_2 : decode cX0_move 2 = .ok (.iconst 0, 1) := dk_3 (dk_at dksX0_move_0 2 rfl rfl)
theorem dX0_move_3 : decode cX0_move 3 = .ok (.aload_n 0, 1) := dk_42 (dk_at dksX0_move_0 3 rfl rfl)
theorem dX0_move_4 : decode cX0_move 4 = .ok (.iload_n 1, 1) := dk_27 (dk_at dksX0_move_0 4 rfl rfl)
theorem dX0_move_5 : decode cX0_move 5 = .ok (.iload_n 2, 1) := dk_28 (dk_at dksX0_move_0 5 rfl rfl)
theorem dX0_move_6 : decode cX0_move 6 = .ok (.iload_n 3, 1) := dk_29 (dk_at dksX0_move_0 6 rfl rfl)
theorem dX0_move_7 : decode cX0_move 7 = .ok (.invokevirtual 182, 3) := dk_182 0 182 (dk_at dksX0_move_0 7 rfl rfl)
theorem dX0_move_10 : decode cX0_move 10 = .ok (.i2l, 1) := dk_133 (dk_at dksX0_move_0 10 rfl rfl)
theorem dX0_move_11 : decode cX0_move 11 = .ok (.lastore, 1) := dk_80 (dk_at dksX0_move_0 11 rfl rfl)
theorem dX0_move_12 : decode cX0_move 12 = .ok (.goto 15, 3) := dk_167 0 15 (dk_at dksX0_move_0 12 rfl rfl)
theorem dX0_move_15 : decode cX0_move 15 = .ok (.astore 5, 2) := dk_58 5 (dk_at dksX0_move_0 15 rfl rfl)
theorem dX0_move_17 : decode cX0_move 17 = .ok (.iconst 1, 1) := dk_4 (dk_at dksX0_move_0 17 rfl rfl)
theorem dX0_move_18 : decode cX0_move 18 = .ok (.ireturn, 1) := dk_172 (dk_at dksX0_move_0 18 rfl rfl)
theorem dX0_move_19 : decode cX0_move 19 = .ok (.astore 5, 2) := dk_58 5 (dk_at dksX0_move_0 19 rfl rfl)
theorem dX0_move_21 : decode cX0_move 21 = .ok (.iconst 2, 1) := dk_5 (dk_at dksX0_move_0 21 rfl rfl)
theorem dX0_move_22 : decode cX0_move 22 = .ok (.ireturn, 1) := dk_172 (dk_at dksX0_move_0 22 rfl rfl)
theorem dX0_move_23 : decode cX0_move 23 = .ok (.astore 5, 2) := dk_58 5 (dk_at dksX0_move_1 0 rfl rfl)
theorem dX0_move_25 : decode cX0_move 25 = .ok (.iconst 3, 1) := dk_6 (dk_at dksX0_move_1 2 rfl rfl)
theorem dX0_move_26 : decode cX0_move 26 = .ok (.ireturn, 1) := dk_172 (dk_at dksX0_move_1 3 rfl rfl)
theorem dX0_move_27 : decode cX0_move 27 = .ok (.iconst 0, 1) := dk_3 (dk_at dksX0_move_1 4 rfl rfl)
theorem dX0_move_28 : decode cX0_move 28 = .ok (.ireturn, 1) := dk_172 (dk_at dksX0_move_1 5 rfl rfl)
abbrev cX0_trust : ByteArray := method_56_code
def yX0_trust : MethodName := ⟨RX0, "trust", "(LFlareSlopes;II[J)I"⟩
def dkwX0_trust_1 : List UInt8 := [172, 3, 172]
abbrev dktX0_trust_1 : List UInt8 := dkwX0_trust_1 ++ []
def dkwX0_trust_0 : List UInt8 := [45, 3, 42, 27, 28, 182, 0, 185, 133, 80, 167, 0, 15, 58, 4, 4, 172, 58, 4, 5, 172, 58, 4, 6]
abbrev dktX0_trust_0 : List UInt8 := dkwX0_trust_0 ++ dktX0_trust_1
theorem dksX0_trust_0 : cX0_trust.data.toList.drop 0 = dktX0_trust_0 := by decide +kernel
theorem dksX0_trust_1 : cX0_trust.data.toList.drop 24 = dktX0_trust_1 := dk_seg dksX0_trust_0 24 rfl rfl
theorem dX0_trust_0 : decode cX0_trust 0 = .ok (.aload_n 3, 1) := dk_45 (dk_at dksX0_trust_0 0 rfl rfl)
theorem dX0_trust_1 : decode cX0_trust 1 = .ok (.iconst 0, 1) := dk_3 (dk_at dksX0_trust_0 1 rfl rfl)
theorem dX0_trust_2 : decode cX0_trust 2 = .ok (.aload_n 0, 1) := dk_42 (dk_at dksX0_trust_0 2 rfl rfl)
theorem dX0_trust_3 : decode cX0_trust 3 = .ok (.iload_n 1, 1) := dk_27 (dk_at dksX0_trust_0 3 rfl rfl)
theorem dX0_trust_4 : decode cX0_trust 4 = .ok (.iload_n 2, 1) := dk_28 (dk_at dksX0_trust_0 4 rfl rfl)
theorem dX0_trust_5 : decode cX0_trust 5 = .ok (.invokevirtual 185, 3) := dk_182 0 185 (dk_at dksX0_trust_0 5 rfl rfl)
theorem dX0_trust_8 : decode cX0_trust 8 = .ok (.i2l, 1) := dk_133 (dk_at dksX0_trust_0 8 rfl rfl)
theorem dX0_trust_9 : decode cX0_trust 9 = .ok (.lastore, 1) := dk_80 (dk_at dksX0_trust_0 9 rfl rfl)
theorem dX0_trust_10 : decode cX0_trust 10 = .ok (.goto 15, 3) := dk_167 0 15 (dk_at dksX0_trust_0 10 rfl rfl)
theorem dX0_trust_13 : decode cX0_trust 13 = .ok (.astore 4, 2) := dk_58 4 (dk_at dksX0_trust_0 13 rfl rfl)
theorem dX0_trust_15 : decode cX0_trust 15 = .ok (.iconst 1, 1) := dk_4 (dk_at dksX0_trust_0 15 rfl rfl)
theorem dX0_trust_16 : decode cX0_trust 16 = .ok (.ireturn, 1) := dk_172 (dk_at dksX0_trust_0 16 rfl rfl)
theorem dX0_trust_17 : decode cX0_trust 17 = .ok (.astore 4, 2) := dk_58 4 (dk_at dksX0_trust_0 17 rfl rfl)
theorem dX0_trust_19 : decode cX0_trust 19 = .ok (.iconst 2, 1) := dk_5 (dk_at dksX0_trust_0 19 rfl rfl)
theorem dX0_trust_20 : decode cX0_trust 20 = .ok (.ireturn, 1) := dk_172 (dk_at dksX0_trust_0 20 rfl rfl)
theorem dX0_trust_21 : decode cX0_trust 21 = .ok (.astore 4, 2) := dk_58 4 (dk_at dksX0_trust_0 21 rfl rfl)
theorem dX0_trust_23 : decode cX0_trust 23 = .ok (.iconst 3, 1) := dk_6 (dk_at dksX0_trust_0 23 rfl rfl)
theorem dX0_trust_24 : decode cX0_trust 24 = .ok (.ireturn, 1) := dk_172 (dk_at dksX0_trust_1 0 rfl rfl)
theorem dX0_trust_25 : decode cX0_trust 25 = .ok (.iconst 0, 1) := dk_3 (dk_at dksX0_trust_1 1 rfl rfl)
theorem dX0_trust_26 : decode cX0_trust 26 = .ok (.ireturn, 1) := dk_172 (dk_at dksX0_trust_1 2 rfl rfl)
abbrev cX0_forget : ByteArray := method_57_code
def yX0_forget : MethodName := ⟨RX0, "forget", "(LFlareSlopes;I[J)I"⟩
def dkwX0_forget_0 : List UInt8 := [44, 3, 42, 27, 182, 0, 188, 133, 80, 167, 0, 9, 78, 4, 172, 78, 5, 172, 3, 172]
abbrev dktX0_forget_0 : List UInt8 := dkwX0_forget_0 ++ []
theorem dksX0_forget_0 : cX0_forget.data.toList.drop 0 = dktX0_forget_0 := by decide +kernel
theorem dX0_forget_0 : decode cX0_forget 0 = .ok (.aload_n 2, 1) := dk_44 (dk_at dksX0_forget_0 0 rfl rfl)
theorem dX0_forget_1 : decode cX0_forget 1 = .ok (.iconst 0, 1) := dk_3 (dk_at dksX0_forget_0 1 rfl rfl)
theorem dX0_forget_2 : decode cX0_forget 2 = .ok (.aload_n 0, 1) := dk_42 (dk_at dksX0_forget_0 2 rfl rfl)
theorem dX0_forget_3 : decode cX0_forget 3 = .ok (.iload_n 1, 1) := dk_27 (dk_at dksX0_forget_0 3 rfl rfl)
theorem dX0_forget_4 : decode cX0_forget 4 = .ok (.invokevirtual 188, 3) := dk_182 0 188 (dk_at dksX0_forget_0 4 rfl rfl)
theorem dX0_forget_7 : decode cX0_forget 7 = .ok (.i2l, 1) := dk_133 (dk_at dksX0_forget_0 7 rfl rfl)
theorem dX0_forget_8 : decode cX0_forget 8 = .ok (.lastore, 1) := dk_80 (dk_at dksX0_forget_0 8 rfl rfl)
theorem dX0_forget_9 : decode cX0_forget 9 = .ok (.goto 9, 3) := dk_167 0 9 (dk_at dksX0_forget_0 9 rfl rfl)
theorem dX0_forget_12 : decode cX0_forget 12 = .ok (.astore_n 3, 1) := dk_78 (dk_at dksX0_forget_0 12 rfl rfl)
theorem dX0_forget_13 : decode cX0_forget 13 = .ok (.iconst 1, 1) := dk_4 (dk_at dksX0_forget_0 13 rfl rfl)
theorem dX0_forget_14 : decode cX0_forget 14 = .ok (.ireturn, 1) := dk_172 (dk_at dksX0_forget_0 14 rfl rfl)
theorem dX0_forget_15 : decode cX0_forget 15 = .ok (.astore_n 3, 1) := dk_78 (dk_at dksX0_forget_0 15 rfl rfl)
theorem dX0_forget_16 : decode cX0_forget 16 = .ok (.iconst 2, 1) := dk_5 (dk_at dksX0_forget_0 16 rfl rfl)
theorem dX0_forget_17 : decode cX0_forget 17 = .ok (.ireturn, 1) := dk_172 (dk_at dksX0_forget_0 17 rfl rfl)
theorem dX0_forget_18 : decode cX0_forget 18 = .ok (.iconst 0, 1) := dk_3 (dk_at dksX0_forget_0 18 rfl rfl)
theorem dX0_forget_19 : decode cX0_forget 19 = .ok (.ireturn, 1) := dk_172 (dk_at dksX0_forget_0 19 rfl rfl)
abbrev cX0_set : ByteArray := method_58_code
def yX0_set : MethodName := ⟨RX0, "set", "(LFlareSlopes;II[J)I"⟩
def dkwX0_set_0 : List UInt8 := [45, 3, 42, 27, 28, 182, 0, 191, 133, 80, 167, 0, 11, 58, 4, 4, 172, 58, 4, 5, 172, 3, 172]
abbrev dktX0_set_0 : List UInt8 := dkwX0_set_0 ++ []
theorem dksX0_set_0 : cX0_set.data.toList.drop 0 = dktX0_set_0 := by decide +kernel
theorem dX0_set_0 : decode cX0_set 0 = .ok (.aload_n 3, 1) := dk_45 (dk_at dksX0_set_0 0 rfl rfl)
theorem dX0_set_1 : decode cX0_set 1 = .ok (.iconst 0, 1) := dk_3 (dk_at dksX0_set_0 1 rfl rfl)
theorem dX0_set_2 : decode cX0_set 2 = .ok (.aload_n 0, 1) := dk_42 (dk_at dksX0_set_0 2 rfl rfl)
theorem dX0_set_3 : decode cX0_set 3 = .ok (.iload_n 1, 1) := dk_27 (dk_at dksX0_set_0 3 rfl rfl)
theorem dX0_set_4 : decode cX0_set 4 = .ok (.iload_n 2, 1) := dk_28 (dk_at dksX0_set_0 4 rfl rfl)
theorem dX0_set_5 : decode cX0_set 5 = .ok (.invokevirtual 191, 3) := dk_182 0 191 (dk_at dksX0_set_0 5 rfl rfl)
theorem dX0_set_8 : decode cX0_set 8 = .ok (.i2l, 1) := dk_133 (dk_at dksX0_set_0 8 rfl rfl)
theorem dX0_set_9 : decode cX0_set 9 = .ok (.lastore, 1) := dk_80 (dk_at dksX0_set_0 9 rfl rfl)
theorem dX0_set_10 : decode cX0_set 10 = .ok (.goto 11, 3) := dk_167 0 11 (dk_at dksX0_set_0 10 rfl rfl)
theorem dX0_set_13 : decode cX0_set 13 = .ok (.astore 4, 2) := dk_58 4 (dk_at dksX0_set_0 13 rfl rfl)
theorem dX0_set_15 : decode cX0_set 15 = .ok (.iconst 1, 1) := dk_4 (dk_at dksX0_set_0 15 rfl rfl)
theorem dX0_set_16 : decode cX0_set 16 = .ok (.ireturn, 1) := dk_172 (dk_at dksX0_set_0 16 rfl rfl)
theorem dX0_set_17 : decode cX0_set 17 = .ok (.astore 4, 2) := dk_58 4 (dk_at dksX0_set_0 17 rfl rfl)
theorem dX0_set_19 : decode cX0_set 19 = .ok (.iconst 2, 1) := dk_5 (dk_at dksX0_set_0 19 rfl rfl)
theorem dX0_set_20 : decode cX0_set 20 = .ok (.ireturn, 1) := dk_172 (dk_at dksX0_set_0 20 rfl rfl)
theorem dX0_set_21 : decode cX0_set 21 = .ok (.iconst 0, 1) := dk_3 (dk_at dksX0_set_0 21 rfl rfl)
theorem dX0_set_22 : decode cX0_set 22 = .ok (.ireturn, 1) := dk_172 (dk_at dksX0_set_0 22 rfl rfl)
abbrev cX0_undo : ByteArray := method_59_code
def yX0_undo : MethodName := ⟨RX0, "undo", "(LFlareSlopes;[J)I"⟩
def dkwX0_undo_0 : List UInt8 := [43, 3, 42, 182, 0, 194, 133, 80, 167, 0, 6, 77, 4, 172, 3, 172]
abbrev dktX0_undo_0 : List UInt8 := dkwX0_undo_0 ++ []
theorem dksX0_undo_0 : cX0_undo.data.toList.drop 0 = dktX0_undo_0 := by decide +kernel
theorem dX0_undo_0 : decode cX0_undo 0 = .ok (.aload_n 1, 1) := dk_43 (dk_at dksX0_undo_0 0 rfl rfl)
theorem dX0_undo_1 : decode cX0_undo 1 = .ok (.iconst 0, 1) := dk_3 (dk_at dksX0_undo_0 1 rfl rfl)
theorem dX0_undo_2 : decode cX0_undo 2 = .ok (.aload_n 0, 1) := dk_42 (dk_at dksX0_undo_0 2 rfl rfl)
theorem dX0_undo_3 : decode cX0_undo 3 = .ok (.invokevirtual 194, 3) := dk_182 0 194 (dk_at dksX0_undo_0 3 rfl rfl)
theorem dX0_undo_6 : decode cX0_undo 6 = .ok (.i2l, 1) := dk_133 (dk_at dksX0_undo_0 6 rfl rfl)
theorem dX0_undo_7 : decode cX0_undo 7 = .ok (.lastore, 1) := dk_80 (dk_at dksX0_undo_0 7 rfl rfl)
theorem dX0_undo_8 : decode cX0_undo 8 = .ok (.goto 6, 3) := dk_167 0 6 (dk_at dksX0_undo_0 8 rfl rfl)
theorem dX0_undo_11 : decode cX0_undo 11 = .ok (.astore_n 2, 1) := dk_77 (dk_at dksX0_undo_0 11 rfl rfl)
theorem dX0_undo_12 : decode cX0_undo 12 = .ok (.iconst 1, 1) := dk_4 (dk_at dksX0_undo_0 12 rfl rfl)
theorem dX0_undo_13 : decode cX0_undo 13 = .ok (.ireturn, 1) := dk_172 (dk_at dksX0_undo_0 13 rfl rfl)
theorem dX0_undo_14 : decode cX0_undo 14 = .ok (.iconst 0, 1) := dk_3 (dk_at dksX0_undo_0 14 rfl rfl)
theorem dX0_undo_15 : decode cX0_undo 15 = .ok (.ireturn, 1) := dk_172 (dk_at dksX0_undo_0 15 rfl rfl)
abbrev cX0_save : ByteArray := method_60_code
def yX0_save : MethodName := ⟨RX0, "save", "(LFlareSlopes;I[J)I"⟩
def dkwX0_save_0 : List UInt8 := [44, 3, 42, 27, 182, 0, 197, 133, 80, 167, 0, 9, 78, 4, 172, 78, 5, 172, 3, 172]
abbrev dktX0_save_0 : List UInt8 := dkwX0_save_0 ++ []
theorem dksX0_save_0 : cX0_save.data.toList.drop 0 = dktX0_save_0 := by decide +kernel
theorem dX0_save_0 : decode cX0_save 0 = .ok (.aload_n 2, 1) := dk_44 (dk_at dksX0_save_0 0 rfl rfl)
theorem dX0_save_1 : decode cX0_save 1 = .ok (.iconst 0, 1) := dk_3 (dk_at dksX0_save_0 1 rfl rfl)
theorem dX0_save_2 : decode cX0_save 2 = .ok (.aload_n 0, 1) := dk_42 (dk_at dksX0_save_0 2 rfl rfl)
theorem dX0_save_3 : decode cX0_save 3 = .ok (.iload_n 1, 1) := dk_27 (dk_at dksX0_save_0 3 rfl rfl)
theorem dX0_save_4 : decode cX0_save 4 = .ok (.invokevirtual 197, 3) := dk_182 0 197 (dk_at dksX0_save_0 4 rfl rfl)
theorem dX0_save_7 : decode cX0_save 7 = .ok (.i2l, 1) := dk_133 (dk_at dksX0_save_0 7 rfl rfl)
theorem dX0_save_8 : decode cX0_save 8 = .ok (.lastore, 1) := dk_80 (dk_at dksX0_save_0 8 rfl rfl)
theorem dX0_save_9 : decode cX0_save 9 = .ok (.goto 9, 3) := dk_167 0 9 (dk_at dksX0_save_0 9 rfl rfl)
theorem dX0_save_12 : decode cX0_save 12 = .ok (.astore_n 3, 1) := dk_78 (dk_at dksX0_save_0 12 rfl rfl)
theorem dX0_save_13 : decode cX0_save 13 = .ok (.iconst 1, 1) := dk_4 (dk_at dksX0_save_0 13 rfl rfl)
theorem dX0_save_14 : decode cX0_save 14 = .ok (.ireturn, 1) := dk_172 (dk_at dksX0_save_0 14 rfl rfl)
theorem dX0_save_15 : decode cX0_save 15 = .ok (.astore_n 3, 1) := dk_78 (dk_at dksX0_save_0 15 rfl rfl)
theorem dX0_save_16 : decode cX0_save 16 = .ok (.iconst 2, 1) := dk_5 (dk_at dksX0_save_0 16 rfl rfl)
theorem dX0_save_17 : decode cX0_save 17 = .ok (.ireturn, 1) := dk_172 (dk_at dksX0_save_0 17 rfl rfl)
theorem dX0_save_18 : decode cX0_save 18 = .ok (.iconst 0, 1) := dk_3 (dk_at dksX0_save_0 18 rfl rfl)
theorem dX0_save_19 : decode cX0_save 19 = .ok (.ireturn, 1) := dk_172 (dk_at dksX0_save_0 19 rfl rfl)
abbrev cX0_restore : ByteArray := method_61_code
def yX0_restore : MethodName := ⟨RX0, "restore", "(LFlareSlopes;I[J)I"⟩
def dkwX0_restore_0 : List UInt8 := [44, 3, 42, 27, 182, 0, 200, 133, 80, 167, 0, 9, 78, 4, 172, 78, 5, 172, 3, 172]
abbrev dktX0_restore_0 : List UInt8 := dkwX0_restore_0 ++ []
theorem dksX0_restore_0 : cX0_restore.data.toList.drop 0 = dktX0_restore_0 := by decide +kernel
theorem dX0_restore_0 : decode cX0_restore 0 = .ok (.aload_n 2, 1) := dk_44 (dk_at dksX0_restore_0 0 rfl rfl)
theorem dX0_restore_1 : decode cX0_restore 1 = .ok (.iconst 0, 1) := dk_3 (dk_at dksX0_restore_0 1 rfl rfl)
theorem dX0_restore_2 : decode cX0_restore 2 = .ok (.aload_n 0, 1) := dk_42 (dk_at dksX0_restore_0 2 rfl rfl)
theorem dX0_restore_3 : decode cX0_restore 3 = .ok (.iload_n 1, 1) := dk_27 (dk_at dksX0_restore_0 3 rfl rfl)
theorem dX0_restore_4 : decode cX0_restore 4 = .ok (.invokevirtual 200, 3) := dk_182 0 200 (dk_at dksX0_restore_0 4 rfl rfl)
theorem dX0_restore_7 : decode cX0_restore 7 = .ok (.i2l, 1) := dk_133 (dk_at dksX0_restore_0 7 rfl rfl)
theorem dX0_restore_8 : decode cX0_restore 8 = .ok (.lastore, 1) := dk_80 (dk_at dksX0_restore_0 8 rfl rfl)
theorem dX0_restore_9 : decode cX0_restore 9 = .ok (.goto 9, 3) := dk_167 0 9 (dk_at dksX0_restore_0 9 rfl rfl)
theorem dX0_restore_12 : decode cX0_restore 12 = .ok (.astore_n 3, 1) := dk_78 (dk_at dksX0_restore_0 12 rfl rfl)
theorem dX0_restore_13 : decode cX0_restore 13 = .ok (.iconst 1, 1) := dk_4 (dk_at dksX0_restore_0 13 rfl rfl)
theorem dX0_restore_14 : decode cX0_restore 14 = .ok (.ireturn, 1) := dk_172 (dk_at dksX0_restore_0 14 rfl rfl)
theorem dX0_restore_15 : decode cX0_restore 15 = .ok (.astore_n 3, 1) := dk_78 (dk_at dksX0_restore_0 15 rfl rfl)
theorem dX0_restore_16 : decode cX0_restore 16 = .ok (.iconst 2, 1) := dk_5 (dk_at dksX0_restore_0 16 rfl rfl)
theorem dX0_restore_17 : decode cX0_restore 17 = .ok (.ireturn, 1) := dk_172 (dk_at dksX0_restore_0 17 rfl rfl)
theorem dX0_restore_18 : decode cX0_restore 18 = .ok (.iconst 0, 1) := dk_3 (dk_at dksX0_restore_0 18 rfl rfl)
theorem dX0_restore_19 : decode cX0_restore 19 = .ok (.ireturn, 1) := dk_172 (dk_at dksX0_restore_0 19 rfl rfl)
theorem q127 : (Jvm.Cond.initialized "FlareSlopesLaw") ∈ lw_all := lw_g (lw_at lw_m1 0 rfl) rfl
theorem q201 : (Jvm.Cond.classLink "FlareSlopesLaw" (8 : Nat) "FlareSlopes") ∈ lw_all := lw_g (lw_at lw_m1 74 rfl) rfl
theorem q203 : (Jvm.Cond.methodLink "FlareSlopesLaw" (203 : Nat) ({ cls := "FlareSlopes", name := "<init>", desc := "()V" } : Jvm.MethodName)) ∈ lw_all := lw_g (lw_at lw_m1 76 rfl) rfl
theorem q294 : (Jvm.Cond.methodLink "FlareSlopesLaw" (207 : Nat) ({ cls := "FlareSlopes", name := "append", desc := "(IIIII)I" } : Jvm.MethodName)) ∈ lw_all := lw_g (lw_at lw_m1 167 rfl) rfl
theorem q299 : (Jvm.Cond.methodLink "FlareSlopesLaw" (221 : Nat) ({ cls := "FlareSlopes", name := "parseError", desc := "()I" } : Jvm.MethodName)) ∈ lw_all := lw_g (lw_at lw_m1 172 rfl) rfl
theorem q303 : (Jvm.Cond.methodLink "FlareSlopesLaw" (225 : Nat) ({ cls := "FlareSlopes", name := "errorPosition", desc := "()I" } : Jvm.MethodName)) ∈ lw_all := lw_g (lw_at lw_m1 176 rfl) rfl
theorem q307 : (Jvm.Cond.methodLink "FlareSlopesLaw" (229 : Nat) ({ cls := "FlareSlopes", name := "buffered", desc := "()I" } : Jvm.MethodName)) ∈ lw_all := lw_g (lw_at lw_m1 180 rfl) rfl
theorem q311 : (Jvm.Cond.methodLink "FlareSlopesLaw" (409 : Nat) ({ cls := "FlareSlopes", name := "undoable", desc := "()I" } : Jvm.MethodName)) ∈ lw_all := lw_g (lw_at lw_m1 184 rfl) rfl
theorem q322 : (Jvm.Cond.methodLink "FlareSlopesLaw" (212 : Nat) ({ cls := "FlareSlopesLaw", name := "load", desc := "(LFlareSlopes;I[J)I" } : Jvm.MethodName)) ∈ lw_all := lw_g (lw_at lw_m1 195 rfl) rfl
theorem q323 : (Jvm.Cond.static ({ cls := "FlareSlopesLaw", name := "load", desc := "(LFlareSlopes;I[J)I" } : Jvm.MethodName)) ∈ lw_all := lw_g (lw_at lw_m1 196 rfl) rfl
theorem q324 : (Jvm.Cond.codeWith ({ cls := "FlareSlopesLaw", name := "load", desc := "(LFlareSlopes;I[J)I" } : Jvm.MethodName) method_3_code (4 : Nat) (Option.some Jvm.ClassFile.FieldType.int) [((0 : Nat), (9 : Nat), (12 : Nat), (13 : Nat)), ((0 : Nat), (9 : Nat), (15 : Nat), (15 : Nat))]) ∈ lw_all := lw_g (lw_at lw_m1 197 rfl) rfl
theorem q325 : (Jvm.Cond.classLink "FlareSlopesLaw" (13 : Nat) "java/lang/IndexOutOfBoundsException") ∈ lw_all := lw_g (lw_at lw_m1 198 rfl) rfl
theorem q404 : (Jvm.Cond.classLink "FlareSlopesLaw" (15 : Nat) "java/lang/IllegalArgumentException") ∈ lw_all := lw_g (lw_at lw_m2 37 rfl) rfl
theorem q405 : (Jvm.Cond.methodLink "FlareSlopesLaw" (7 : Nat) ({ cls := "FlareSlopes", name := "load", desc := "(I)I" } : Jvm.MethodName)) ∈ lw_all := lw_g (lw_at lw_m2 38 rfl) rfl
theorem q1422 : (Jvm.Cond.methodLink "FlareSlopesLaw" (233 : Nat) ({ cls := "FlareSlopesLaw", name := "find", desc := "(LFlareSlopes;IZ[J)I" } : Jvm.MethodName)) ∈ lw_all := lw_g (lw_at lw_m6 95 rfl) rfl
theorem q1423 : (Jvm.Cond.static ({ cls := "FlareSlopesLaw", name := "find", desc := "(LFlareSlopes;IZ[J)I" } : Jvm.MethodName)) ∈ lw_all := lw_g (lw_at lw_m6 96 rfl) rfl
theorem q1424 : (Jvm.Cond.codeWith ({ cls := "FlareSlopesLaw", name := "find", desc := "(LFlareSlopes;IZ[J)I" } : Jvm.MethodName) method_4_code (5 : Nat) (Option.some Jvm.ClassFile.FieldType.int) [((0 : Nat), (10 : Nat), (13 : Nat), (21 : Nat)), ((0 : Nat), (10 : Nat), (17 : Nat), (13 : Nat))]) ∈ lw_all := lw_g (lw_at lw_m6 97 rfl) rfl
theorem q1425 : (Jvm.Cond.classLink "FlareSlopesLaw" (21 : Nat) "java/lang/IllegalStateException") ∈ lw_all := lw_g (lw_at lw_m6 98 rfl) rfl
theorem q1426 : (Jvm.Cond.methodLink "FlareSlopesLaw" (17 : Nat) ({ cls := "FlareSlopes", name := "find", desc := "(IZ)I" } : Jvm.MethodName)) ∈ lw_all := lw_g (lw_at lw_m6 99 rfl) rfl
theorem q1457 : (Jvm.Cond.methodLink "FlareSlopesLaw" (237 : Nat) ({ cls := "FlareSlopesLaw", name := "count", desc := "(LFlareSlopes;I[J)I" } : Jvm.MethodName)) ∈ lw_all := lw_g (lw_at lw_m6 130 rfl) rfl
theorem q1458 : (Jvm.Cond.static ({ cls := "FlareSlopesLaw", name := "count", desc := "(LFlareSlopes;I[J)I" } : Jvm.MethodName)) ∈ lw_all := lw_g (lw_at lw_m6 131 rfl) rfl
theorem q1459 : (Jvm.Cond.codeWith ({ cls := "FlareSlopesLaw", name := "count", desc := "(LFlareSlopes;I[J)I" } : Jvm.MethodName) method_5_code (4 : Nat) (Option.some Jvm.ClassFile.FieldType.int) [((0 : Nat), (9 : Nat), (12 : Nat), (21 : Nat)), ((0 : Nat), (9 : Nat), (15 : Nat), (15 : Nat))]) ∈ lw_all := lw_g (lw_at lw_m6 132 rfl) rfl
theorem q1460 : (Jvm.Cond.methodLink "FlareSlopesLaw" (23 : Nat) ({ cls := "FlareSlopes", name := "count", desc := "(I)I" } : Jvm.MethodName)) ∈ lw_all := lw_g (lw_at lw_m6 133 rfl) rfl
theorem q1951 : (Jvm.Cond.methodLink "FlareSlopesLaw" (240 : Nat) ({ cls := "FlareSlopesLaw", name := "setting", desc := "(LFlareSlopes;I[J)I" } : Jvm.MethodName)) ∈ lw_all := lw_g (lw_at lw_m8 144 rfl) rfl
theorem q1952 : (Jvm.Cond.static ({ cls := "FlareSlopesLaw", name := "setting", desc := "(LFlareSlopes;I[J)I" } : Jvm.MethodName)) ∈ lw_all := lw_g (lw_at lw_m8 145 rfl) rfl
theorem q1953 : (Jvm.Cond.codeWith ({ cls := "FlareSlopesLaw", name := "setting", desc := "(LFlareSlopes;I[J)I" } : Jvm.MethodName) method_6_code (4 : Nat) (Option.some Jvm.ClassFile.FieldType.int) [((0 : Nat), (9 : Nat), (12 : Nat), (21 : Nat)), ((0 : Nat), (9 : Nat), (15 : Nat), (15 : Nat))]) ∈ lw_all := lw_g (lw_at lw_m8 146 rfl) rfl
theorem q1954 : (Jvm.Cond.methodLink "FlareSlopesLaw" (26 : Nat) ({ cls := "FlareSlopes", name := "setting", desc := "(I)I" } : Jvm.MethodName)) ∈ lw_all := lw_g (lw_at lw_m8 147 rfl) rfl
theorem q1961 : (Jvm.Cond.methodLink "FlareSlopesLaw" (243 : Nat) ({ cls := "FlareSlopesLaw", name := "cabin", desc := "(LFlareSlopes;II[J)I" } : Jvm.MethodName)) ∈ lw_all := lw_g (lw_at lw_m8 154 rfl) rfl
theorem q1962 : (Jvm.Cond.static ({ cls := "FlareSlopesLaw", name := "cabin", desc := "(LFlareSlopes;II[J)I" } : Jvm.MethodName)) ∈ lw_all := lw_g (lw_at lw_m8 155 rfl) rfl
theorem q1963 : (Jvm.Cond.codeWith ({ cls := "FlareSlopesLaw", name := "cabin", desc := "(LFlareSlopes;II[J)I" } : Jvm.MethodName) method_7_code (5 : Nat) (Option.some Jvm.ClassFile.FieldType.int) [((0 : Nat), (10 : Nat), (13 : Nat), (21 : Nat)), ((0 : Nat), (10 : Nat), (17 : Nat), (13 : Nat)), ((0 : Nat), (10 : Nat), (21 : Nat), (15 : Nat))]) ∈ lw_all := lw_g (lw_at lw_m8 156 rfl) rfl
theorem q1964 : (Jvm.Cond.methodLink "FlareSlopesLaw" (29 : Nat) ({ cls := "FlareSlopes", name := "cabin", desc := "(II)I" } : Jvm.MethodName)) ∈ lw_all := lw_g (lw_at lw_m8 157 rfl) rfl
theorem q3037 : (Jvm.Cond.methodLink "FlareSlopesLaw" (247 : Nat) ({ cls := "FlareSlopesLaw", name := "slope", desc := "(LFlareSlopes;II[J)I" } : Jvm.MethodName)) ∈ lw_all := lw_g (lw_at lw_m13 30 rfl) rfl
theorem q3038 : (Jvm.Cond.static ({ cls := "FlareSlopesLaw", name := "slope", desc := "(LFlareSlopes;II[J)I" } : Jvm.MethodName)) ∈ lw_all := lw_g (lw_at lw_m13 31 rfl) rfl
theorem q3039 : (Jvm.Cond.codeWith ({ cls := "FlareSlopesLaw", name := "slope", desc := "(LFlareSlopes;II[J)I" } : Jvm.MethodName) method_8_code (5 : Nat) (Option.some Jvm.ClassFile.FieldType.int) [((0 : Nat), (10 : Nat), (13 : Nat), (21 : Nat)), ((0 : Nat), (10 : Nat), (17 : Nat), (13 : Nat)), ((0 : Nat), (10 : Nat), (21 : Nat), (15 : Nat))]) ∈ lw_all := lw_g (lw_at lw_m13 32 rfl) rfl
theorem q3040 : (Jvm.Cond.methodLink "FlareSlopesLaw" (33 : Nat) ({ cls := "FlareSlopes", name := "slope", desc := "(II)I" } : Jvm.MethodName)) ∈ lw_all := lw_g (lw_at lw_m13 33 rfl) rfl
theorem q3096 : (Jvm.Cond.methodLink "FlareSlopesLaw" (250 : Nat) ({ cls := "FlareSlopesLaw", name := "ridge", desc := "(LFlareSlopes;II[J)I" } : Jvm.MethodName)) ∈ lw_all := lw_g (lw_at lw_m13 89 rfl) rfl
theorem q3097 : (Jvm.Cond.static ({ cls := "FlareSlopesLaw", name := "ridge", desc := "(LFlareSlopes;II[J)I" } : Jvm.MethodName)) ∈ lw_all := lw_g (lw_at lw_m13 90 rfl) rfl
theorem q3098 : (Jvm.Cond.codeWith ({ cls := "FlareSlopesLaw", name := "ridge", desc := "(LFlareSlopes;II[J)I" } : Jvm.MethodName) method_9_code (5 : Nat) (Option.some Jvm.ClassFile.FieldType.int) [((0 : Nat), (10 : Nat), (13 : Nat), (21 : Nat)), ((0 : Nat), (10 : Nat), (17 : Nat), (13 : Nat)), ((0 : Nat), (10 : Nat), (21 : Nat), (15 : Nat))]) ∈ lw_all := lw_g (lw_at lw_m13 91 rfl) rfl
theorem q3099 : (Jvm.Cond.methodLink "FlareSlopesLaw" (36 : Nat) ({ cls := "FlareSlopes", name := "ridge", desc := "(II)I" } : Jvm.MethodName)) ∈ lw_all := lw_g (lw_at lw_m13 92 rfl) rfl
theorem q3106 : (Jvm.Cond.methodLink "FlareSlopesLaw" (253 : Nat) ({ cls := "FlareSlopesLaw", name := "fog", desc := "(LFlareSlopes;II[J)I" } : Jvm.MethodName)) ∈ lw_all := lw_g (lw_at lw_m13 99 rfl) rfl
theorem q3107 : (Jvm.Cond.static ({ cls := "FlareSlopesLaw", name := "fog", desc := "(LFlareSlopes;II[J)I" } : Jvm.MethodName)) ∈ lw_all := lw_g (lw_at lw_m13 100 rfl) rfl
theorem q3108 : (Jvm.Cond.codeWith ({ cls := "FlareSlopesLaw", name := "fog", desc := "(LFlareSlopes;II[J)I" } : Jvm.MethodName) method_10_code (5 : Nat) (Option.some Jvm.ClassFile.FieldType.int) [((0 : Nat), (10 : Nat), (13 : Nat), (21 : Nat)), ((0 : Nat), (10 : Nat), (17 : Nat), (13 : Nat)), ((0 : Nat), (10 : Nat), (21 : Nat), (15 : Nat))]) ∈ lw_all := lw_g (lw_at lw_m13 101 rfl) rfl
theorem q3109 : (Jvm.Cond.methodLink "FlareSlopesLaw" (39 : Nat) ({ cls := "FlareSlopes", name := "fog", desc := "(II)I" } : Jvm.MethodName)) ∈ lw_all := lw_g (lw_at lw_m13 102 rfl) rfl
theorem q3114 : (Jvm.Cond.methodLink "FlareSlopesLaw" (256 : Nat) ({ cls := "FlareSlopesLaw", name := "sight", desc := "(LFlareSlopes;[J)I" } : Jvm.MethodName)) ∈ lw_all := lw_g (lw_at lw_m13 107 rfl) rfl
theorem q3115 : (Jvm.Cond.static ({ cls := "FlareSlopesLaw", name := "sight", desc := "(LFlareSlopes;[J)I" } : Jvm.MethodName)) ∈ lw_all := lw_g (lw_at lw_m13 108 rfl) rfl
theorem q3116 : (Jvm.Cond.codeWith ({ cls := "FlareSlopesLaw", name := "sight", desc := "(LFlareSlopes;[J)I" } : Jvm.MethodName) method_11_code (3 : Nat) (Option.some Jvm.ClassFile.FieldType.int) [((0 : Nat), (8 : Nat), (11 : Nat), (21 : Nat))]) ∈ lw_all := lw_g (lw_at lw_m13 109 rfl) rfl
theorem q3117 : (Jvm.Cond.methodLink "FlareSlopesLaw" (42 : Nat) ({ cls := "FlareSlopes", name := "sight", desc := "()I" } : Jvm.MethodName)) ∈ lw_all := lw_g (lw_at lw_m13 110 rfl) rfl
theorem q3122 : (Jvm.Cond.methodLink "FlareSlopesLaw" (260 : Nat) ({ cls := "FlareSlopesLaw", name := "sees", desc := "(LFlareSlopes;II[J)I" } : Jvm.MethodName)) ∈ lw_all := lw_g (lw_at lw_m13 115 rfl) rfl
theorem q3123 : (Jvm.Cond.static ({ cls := "FlareSlopesLaw", name := "sees", desc := "(LFlareSlopes;II[J)I" } : Jvm.MethodName)) ∈ lw_all := lw_g (lw_at lw_m13 116 rfl) rfl
theorem q3124 : (Jvm.Cond.codeWith ({ cls := "FlareSlopesLaw", name := "sees", desc := "(LFlareSlopes;II[J)I" } : Jvm.MethodName) method_12_code (5 : Nat) (Option.some Jvm.ClassFile.FieldType.int) [((0 : Nat), (17 : Nat), (20 : Nat), (21 : Nat)), ((0 : Nat), (17 : Nat), (24 : Nat), (13 : Nat))]) ∈ lw_all := lw_g (lw_at lw_m13 117 rfl) rfl
theorem q3125 : (Jvm.Cond.methodLink "FlareSlopesLaw" (46 : Nat) ({ cls := "FlareSlopes", name := "sees", desc := "(II)Z" } : Jvm.MethodName)) ∈ lw_all := lw_g (lw_at lw_m13 118 rfl) rfl
theorem q3134 : (Jvm.Cond.methodLink "FlareSlopesLaw" (263 : Nat) ({ cls := "FlareSlopesLaw", name := "seesSlope", desc := "(LFlareSlopes;II[J)I" } : Jvm.MethodName)) ∈ lw_all := lw_g (lw_at lw_m13 127 rfl) rfl
theorem q3135 : (Jvm.Cond.static ({ cls := "FlareSlopesLaw", name := "seesSlope", desc := "(LFlareSlopes;II[J)I" } : Jvm.MethodName)) ∈ lw_all := lw_g (lw_at lw_m13 128 rfl) rfl
theorem q3136 : (Jvm.Cond.codeWith ({ cls := "FlareSlopesLaw", name := "seesSlope", desc := "(LFlareSlopes;II[J)I" } : Jvm.MethodName) method_13_code (5 : Nat) (Option.some Jvm.ClassFile.FieldType.int) [((0 : Nat), (17 : Nat), (20 : Nat), (21 : Nat)), ((0 : Nat), (17 : Nat), (24 : Nat), (13 : Nat))]) ∈ lw_all := lw_g (lw_at lw_m13 129 rfl) rfl
theorem q3137 : (Jvm.Cond.methodLink "FlareSlopesLaw" (50 : Nat) ({ cls := "FlareSlopes", name := "seesSlope", desc := "(II)Z" } : Jvm.MethodName)) ∈ lw_all := lw_g (lw_at lw_m13 130 rfl) rfl
theorem q3145 : (Jvm.Cond.methodLink "FlareSlopesLaw" (266 : Nat) ({ cls := "FlareSlopesLaw", name := "seers", desc := "(LFlareSlopes;I[J)I" } : Jvm.MethodName)) ∈ lw_all := lw_g (lw_at lw_m13 138 rfl) rfl
theorem q3146 : (Jvm.Cond.static ({ cls := "FlareSlopesLaw", name := "seers", desc := "(LFlareSlopes;I[J)I" } : Jvm.MethodName)) ∈ lw_all := lw_g (lw_at lw_m13 139 rfl) rfl
theorem q3147 : (Jvm.Cond.codeWith ({ cls := "FlareSlopesLaw", name := "seers", desc := "(LFlareSlopes;I[J)I" } : Jvm.MethodName) method_14_code (4 : Nat) (Option.some Jvm.ClassFile.FieldType.int) [((0 : Nat), (9 : Nat), (12 : Nat), (21 : Nat)), ((0 : Nat), (9 : Nat), (15 : Nat), (13 : Nat))]) ∈ lw_all := lw_g (lw_at lw_m13 140 rfl) rfl
theorem q3148 : (Jvm.Cond.methodLink "FlareSlopesLaw" (53 : Nat) ({ cls := "FlareSlopes", name := "seers", desc := "(I)I" } : Jvm.MethodName)) ∈ lw_all := lw_g (lw_at lw_m13 141 rfl) rfl
theorem q3152 : (Jvm.Cond.methodLink "FlareSlopesLaw" (269 : Nat) ({ cls := "FlareSlopesLaw", name := "distance", desc := "(LFlareSlopes;II[J)I" } : Jvm.MethodName)) ∈ lw_all := lw_g (lw_at lw_m13 145 rfl) rfl
theorem q3153 : (Jvm.Cond.static ({ cls := "FlareSlopesLaw", name := "distance", desc := "(LFlareSlopes;II[J)I" } : Jvm.MethodName)) ∈ lw_all := lw_g (lw_at lw_m13 146 rfl) rfl
theorem q3154 : (Jvm.Cond.codeWith ({ cls := "FlareSlopesLaw", name := "distance", desc := "(LFlareSlopes;II[J)I" } : Jvm.MethodName) method_15_code (5 : Nat) (Option.some Jvm.ClassFile.FieldType.int) [((0 : Nat), (10 : Nat), (13 : Nat), (21 : Nat)), ((0 : Nat), (10 : Nat), (17 : Nat), (13 : Nat))]) ∈ lw_all := lw_g (lw_at lw_m13 147 rfl) rfl
theorem q3155 : (Jvm.Cond.methodLink "FlareSlopesLaw" (56 : Nat) ({ cls := "FlareSlopes", name := "distance", desc := "(II)I" } : Jvm.MethodName)) ∈ lw_all := lw_g (lw_at lw_m13 148 rfl) rfl
theorem q3159 : (Jvm.Cond.methodLink "FlareSlopesLaw" (272 : Nat) ({ cls := "FlareSlopesLaw", name := "reached", desc := "(LFlareSlopes;I[J)I" } : Jvm.MethodName)) ∈ lw_all := lw_g (lw_at lw_m13 152 rfl) rfl
theorem q3160 : (Jvm.Cond.static ({ cls := "FlareSlopesLaw", name := "reached", desc := "(LFlareSlopes;I[J)I" } : Jvm.MethodName)) ∈ lw_all := lw_g (lw_at lw_m13 153 rfl) rfl
theorem q3161 : (Jvm.Cond.codeWith ({ cls := "FlareSlopesLaw", name := "reached", desc := "(LFlareSlopes;I[J)I" } : Jvm.MethodName) method_16_code (4 : Nat) (Option.some Jvm.ClassFile.FieldType.int) [((0 : Nat), (9 : Nat), (12 : Nat), (21 : Nat)), ((0 : Nat), (9 : Nat), (15 : Nat), (13 : Nat))]) ∈ lw_all := lw_g (lw_at lw_m13 154 rfl) rfl
theorem q3162 : (Jvm.Cond.methodLink "FlareSlopesLaw" (59 : Nat) ({ cls := "FlareSlopes", name := "reached", desc := "(I)I" } : Jvm.MethodName)) ∈ lw_all := lw_g (lw_at lw_m13 155 rfl) rfl
theorem q3171 : (Jvm.Cond.methodLink "FlareSlopesLaw" (275 : Nat) ({ cls := "FlareSlopesLaw", name := "steps", desc := "(LFlareSlopes;II[J)I" } : Jvm.MethodName)) ∈ lw_all := lw_g (lw_at lw_m13 164 rfl) rfl
theorem q3172 : (Jvm.Cond.static ({ cls := "FlareSlopesLaw", name := "steps", desc := "(LFlareSlopes;II[J)I" } : Jvm.MethodName)) ∈ lw_all := lw_g (lw_at lw_m13 165 rfl) rfl
theorem q3173 : (Jvm.Cond.codeWith ({ cls := "FlareSlopesLaw", name := "steps", desc := "(LFlareSlopes;II[J)I" } : Jvm.MethodName) method_17_code (5 : Nat) (Option.some Jvm.ClassFile.FieldType.int) [((0 : Nat), (10 : Nat), (13 : Nat), (21 : Nat)), ((0 : Nat), (10 : Nat), (17 : Nat), (13 : Nat))]) ∈ lw_all := lw_g (lw_at lw_m13 166 rfl) rfl
theorem q3174 : (Jvm.Cond.methodLink "FlareSlopesLaw" (62 : Nat) ({ cls := "FlareSlopes", name := "steps", desc := "(II)I" } : Jvm.MethodName)) ∈ lw_all := lw_g (lw_at lw_m13 167 rfl) rfl
theorem q3183 : (Jvm.Cond.methodLink "FlareSlopesLaw" (278 : Nat) ({ cls := "FlareSlopesLaw", name := "ridgesBetween", desc := "(LFlareSlopes;II[J)I" } : Jvm.MethodName)) ∈ lw_all := lw_g (lw_at lw_m13 176 rfl) rfl
theorem q3184 : (Jvm.Cond.static ({ cls := "FlareSlopesLaw", name := "ridgesBetween", desc := "(LFlareSlopes;II[J)I" } : Jvm.MethodName)) ∈ lw_all := lw_g (lw_at lw_m13 177 rfl) rfl
theorem q3185 : (Jvm.Cond.codeWith ({ cls := "FlareSlopesLaw", name := "ridgesBetween", desc := "(LFlareSlopes;II[J)I" } : Jvm.MethodName) method_18_code (5 : Nat) (Option.some Jvm.ClassFile.FieldType.int) [((0 : Nat), (10 : Nat), (13 : Nat), (21 : Nat)), ((0 : Nat), (10 : Nat), (17 : Nat), (13 : Nat))]) ∈ lw_all := lw_g (lw_at lw_m13 178 rfl) rfl
theorem q3186 : (Jvm.Cond.methodLink "FlareSlopesLaw" (65 : Nat) ({ cls := "FlareSlopes", name := "ridgesBetween", desc := "(II)I" } : Jvm.MethodName)) ∈ lw_all := lw_g (lw_at lw_m13 179 rfl) rfl
theorem q3191 : (Jvm.Cond.methodLink "FlareSlopesLaw" (281 : Nat) ({ cls := "FlareSlopesLaw", name := "vote", desc := "(LFlareSlopes;IIII[J)I" } : Jvm.MethodName)) ∈ lw_all := lw_g (lw_at lw_m13 184 rfl) rfl
theorem q3192 : (Jvm.Cond.static ({ cls := "FlareSlopesLaw", name := "vote", desc := "(LFlareSlopes;IIII[J)I" } : Jvm.MethodName)) ∈ lw_all := lw_g (lw_at lw_m13 185 rfl) rfl
theorem q3193 : (Jvm.Cond.codeWith ({ cls := "FlareSlopesLaw", name := "vote", desc := "(LFlareSlopes;IIII[J)I" } : Jvm.MethodName) method_19_code (7 : Nat) (Option.some Jvm.ClassFile.FieldType.int) [((0 : Nat), (14 : Nat), (17 : Nat), (21 : Nat)), ((0 : Nat), (14 : Nat), (21 : Nat), (13 : Nat)), ((0 : Nat), (14 : Nat), (25 : Nat), (15 : Nat))]) ∈ lw_all := lw_g (lw_at lw_m13 186 rfl) rfl
theorem q3194 : (Jvm.Cond.methodLink "FlareSlopesLaw" (68 : Nat) ({ cls := "FlareSlopes", name := "vote", desc := "(IIII)I" } : Jvm.MethodName)) ∈ lw_all := lw_g (lw_at lw_m13 187 rfl) rfl
theorem q3202 : (Jvm.Cond.methodLink "FlareSlopesLaw" (285 : Nat) ({ cls := "FlareSlopesLaw", name := "weights", desc := "(LFlareSlopes;IIZ[J)I" } : Jvm.MethodName)) ∈ lw_all := lw_g (lw_at lw_m13 195 rfl) rfl
theorem q3203 : (Jvm.Cond.static ({ cls := "FlareSlopesLaw", name := "weights", desc := "(LFlareSlopes;IIZ[J)I" } : Jvm.MethodName)) ∈ lw_all := lw_g (lw_at lw_m13 196 rfl) rfl
theorem q3204 : (Jvm.Cond.codeWith ({ cls := "FlareSlopesLaw", name := "weights", desc := "(LFlareSlopes;IIZ[J)I" } : Jvm.MethodName) method_20_code (6 : Nat) (Option.some Jvm.ClassFile.FieldType.int) [((0 : Nat), (12 : Nat), (15 : Nat), (21 : Nat)), ((0 : Nat), (12 : Nat), (19 : Nat), (13 : Nat))]) ∈ lw_all := lw_g (lw_at lw_m13 197 rfl) rfl
theorem q3205 : (Jvm.Cond.methodLink "FlareSlopesLaw" (72 : Nat) ({ cls := "FlareSlopes", name := "weights", desc := "(IIZ)I" } : Jvm.MethodName)) ∈ lw_all := lw_g (lw_at lw_m13 198 rfl) rfl
theorem q3209 : (Jvm.Cond.methodLink "FlareSlopesLaw" (289 : Nat) ({ cls := "FlareSlopesLaw", name := "rules", desc := "(LFlareSlopes;II[J)I" } : Jvm.MethodName)) ∈ lw_all := lw_g (lw_at lw_m13 202 rfl) rfl
theorem q3210 : (Jvm.Cond.static ({ cls := "FlareSlopesLaw", name := "rules", desc := "(LFlareSlopes;II[J)I" } : Jvm.MethodName)) ∈ lw_all := lw_g (lw_at lw_m13 203 rfl) rfl
theorem q3211 : (Jvm.Cond.codeWith ({ cls := "FlareSlopesLaw", name := "rules", desc := "(LFlareSlopes;II[J)I" } : Jvm.MethodName) method_21_code (5 : Nat) (Option.some Jvm.ClassFile.FieldType.int) [((0 : Nat), (10 : Nat), (13 : Nat), (21 : Nat)), ((0 : Nat), (10 : Nat), (17 : Nat), (13 : Nat))]) ∈ lw_all := lw_g (lw_at lw_m13 204 rfl) rfl
theorem q3212 : (Jvm.Cond.methodLink "FlareSlopesLaw" (76 : Nat) ({ cls := "FlareSlopes", name := "rules", desc := "(II)I" } : Jvm.MethodName)) ∈ lw_all := lw_g (lw_at lw_m13 205 rfl) rfl
theorem q3220 : (Jvm.Cond.methodLink "FlareSlopesLaw" (292 : Nat) ({ cls := "FlareSlopesLaw", name := "run", desc := "(LFlareSlopes;II[J)I" } : Jvm.MethodName)) ∈ lw_all := lw_g (lw_at lw_m13 213 rfl) rfl
theorem q3221 : (Jvm.Cond.static ({ cls := "FlareSlopesLaw", name := "run", desc := "(LFlareSlopes;II[J)I" } : Jvm.MethodName)) ∈ lw_all := lw_g (lw_at lw_m13 214 rfl) rfl
theorem q3222 : (Jvm.Cond.codeWith ({ cls := "FlareSlopesLaw", name := "run", desc := "(LFlareSlopes;II[J)I" } : Jvm.MethodName) method_22_code (5 : Nat) (Option.some Jvm.ClassFile.FieldType.int) [((0 : Nat), (10 : Nat), (13 : Nat), (21 : Nat)), ((0 : Nat), (10 : Nat), (17 : Nat), (13 : Nat))]) ∈ lw_all := lw_g (lw_at lw_m13 215 rfl) rfl
theorem q3223 : (Jvm.Cond.methodLink "FlareSlopesLaw" (79 : Nat) ({ cls := "FlareSlopes", name := "run", desc := "(II)I" } : Jvm.MethodName)) ∈ lw_all := lw_g (lw_at lw_m13 216 rfl) rfl
theorem q3227 : (Jvm.Cond.methodLink "FlareSlopesLaw" (295 : Nat) ({ cls := "FlareSlopesLaw", name := "isClosed", desc := "(LFlareSlopes;II[J)I" } : Jvm.MethodName)) ∈ lw_all := lw_g (lw_at lw_m13 220 rfl) rfl
theorem q3228 : (Jvm.Cond.static ({ cls := "FlareSlopesLaw", name := "isClosed", desc := "(LFlareSlopes;II[J)I" } : Jvm.MethodName)) ∈ lw_all := lw_g (lw_at lw_m13 221 rfl) rfl
theorem q3229 : (Jvm.Cond.codeWith ({ cls := "FlareSlopesLaw", name := "isClosed", desc := "(LFlareSlopes;II[J)I" } : Jvm.MethodName) method_23_code (5 : Nat) (Option.some Jvm.ClassFile.FieldType.int) [((0 : Nat), (17 : Nat), (20 : Nat), (21 : Nat)), ((0 : Nat), (17 : Nat), (24 : Nat), (13 : Nat))]) ∈ lw_all := lw_g (lw_at lw_m13 222 rfl) rfl
theorem q3230 : (Jvm.Cond.methodLink "FlareSlopesLaw" (82 : Nat) ({ cls := "FlareSlopes", name := "isClosed", desc := "(II)Z" } : Jvm.MethodName)) ∈ lw_all := lw_g (lw_at lw_m13 223 rfl) rfl
theorem q3235 : (Jvm.Cond.methodLink "FlareSlopesLaw" (298 : Nat) ({ cls := "FlareSlopesLaw", name := "toldClosed", desc := "(LFlareSlopes;II[J)I" } : Jvm.MethodName)) ∈ lw_all := lw_g (lw_at lw_m13 228 rfl) rfl
theorem q3236 : (Jvm.Cond.static ({ cls := "FlareSlopesLaw", name := "toldClosed", desc := "(LFlareSlopes;II[J)I" } : Jvm.MethodName)) ∈ lw_all := lw_g (lw_at lw_m13 229 rfl) rfl
theorem q3237 : (Jvm.Cond.codeWith ({ cls := "FlareSlopesLaw", name := "toldClosed", desc := "(LFlareSlopes;II[J)I" } : Jvm.MethodName) method_24_code (5 : Nat) (Option.some Jvm.ClassFile.FieldType.int) [((0 : Nat), (17 : Nat), (20 : Nat), (21 : Nat)), ((0 : Nat), (17 : Nat), (24 : Nat), (13 : Nat))]) ∈ lw_all := lw_g (lw_at lw_m13 230 rfl) rfl
theorem q3238 : (Jvm.Cond.methodLink "FlareSlopesLaw" (85 : Nat) ({ cls := "FlareSlopes", name := "toldClosed", desc := "(II)Z" } : Jvm.MethodName)) ∈ lw_all := lw_g (lw_at lw_m13 231 rfl) rfl
theorem q3248 : (Jvm.Cond.methodLink "FlareSlopesLaw" (301 : Nat) ({ cls := "FlareSlopesLaw", name := "closers", desc := "(LFlareSlopes;I[J)I" } : Jvm.MethodName)) ∈ lw_all := lw_g (lw_at lw_m14 1 rfl) rfl
theorem q3249 : (Jvm.Cond.static ({ cls := "FlareSlopesLaw", name := "closers", desc := "(LFlareSlopes;I[J)I" } : Jvm.MethodName)) ∈ lw_all := lw_g (lw_at lw_m14 2 rfl) rfl
theorem q3250 : (Jvm.Cond.codeWith ({ cls := "FlareSlopesLaw", name := "closers", desc := "(LFlareSlopes;I[J)I" } : Jvm.MethodName) method_25_code (4 : Nat) (Option.some Jvm.ClassFile.FieldType.int) [((0 : Nat), (9 : Nat), (12 : Nat), (21 : Nat)), ((0 : Nat), (9 : Nat), (15 : Nat), (13 : Nat))]) ∈ lw_all := lw_g (lw_at lw_m14 3 rfl) rfl
theorem q3251 : (Jvm.Cond.methodLink "FlareSlopesLaw" (88 : Nat) ({ cls := "FlareSlopes", name := "closers", desc := "(I)I" } : Jvm.MethodName)) ∈ lw_all := lw_g (lw_at lw_m14 4 rfl) rfl
theorem q3255 : (Jvm.Cond.methodLink "FlareSlopesLaw" (304 : Nat) ({ cls := "FlareSlopesLaw", name := "quarrels", desc := "(LFlareSlopes;I[J)I" } : Jvm.MethodName)) ∈ lw_all := lw_g (lw_at lw_m14 8 rfl) rfl
theorem q3256 : (Jvm.Cond.static ({ cls := "FlareSlopesLaw", name := "quarrels", desc := "(LFlareSlopes;I[J)I" } : Jvm.MethodName)) ∈ lw_all := lw_g (lw_at lw_m14 9 rfl) rfl
theorem q3257 : (Jvm.Cond.codeWith ({ cls := "FlareSlopesLaw", name := "quarrels", desc := "(LFlareSlopes;I[J)I" } : Jvm.MethodName) method_26_code (4 : Nat) (Option.some Jvm.ClassFile.FieldType.int) [((0 : Nat), (9 : Nat), (12 : Nat), (21 : Nat)), ((0 : Nat), (9 : Nat), (15 : Nat), (13 : Nat))]) ∈ lw_all := lw_g (lw_at lw_m14 10 rfl) rfl
theorem q3258 : (Jvm.Cond.methodLink "FlareSlopesLaw" (91 : Nat) ({ cls := "FlareSlopes", name := "quarrels", desc := "(I)I" } : Jvm.MethodName)) ∈ lw_all := lw_g (lw_at lw_m14 11 rfl) rfl
theorem q3262 : (Jvm.Cond.methodLink "FlareSlopesLaw" (307 : Nat) ({ cls := "FlareSlopesLaw", name := "disputes", desc := "(LFlareSlopes;I[J)I" } : Jvm.MethodName)) ∈ lw_all := lw_g (lw_at lw_m14 15 rfl) rfl
theorem q3263 : (Jvm.Cond.static ({ cls := "FlareSlopesLaw", name := "disputes", desc := "(LFlareSlopes;I[J)I" } : Jvm.MethodName)) ∈ lw_all := lw_g (lw_at lw_m14 16 rfl) rfl
theorem q3264 : (Jvm.Cond.codeWith ({ cls := "FlareSlopesLaw", name := "disputes", desc := "(LFlareSlopes;I[J)I" } : Jvm.MethodName) method_27_code (4 : Nat) (Option.some Jvm.ClassFile.FieldType.int) [((0 : Nat), (9 : Nat), (12 : Nat), (21 : Nat)), ((0 : Nat), (9 : Nat), (15 : Nat), (13 : Nat))]) ∈ lw_all := lw_g (lw_at lw_m14 17 rfl) rfl
theorem q3265 : (Jvm.Cond.methodLink "FlareSlopesLaw" (94 : Nat) ({ cls := "FlareSlopes", name := "disputes", desc := "(I)I" } : Jvm.MethodName)) ∈ lw_all := lw_g (lw_at lw_m14 18 rfl) rfl
theorem q3380 : (Jvm.Cond.methodLink "FlareSlopesLaw" (310 : Nat) ({ cls := "FlareSlopesLaw", name := "falseVotes", desc := "(LFlareSlopes;I[J)I" } : Jvm.MethodName)) ∈ lw_all := lw_g (lw_at lw_m14 133 rfl) rfl
theorem q3381 : (Jvm.Cond.static ({ cls := "FlareSlopesLaw", name := "falseVotes", desc := "(LFlareSlopes;I[J)I" } : Jvm.MethodName)) ∈ lw_all := lw_g (lw_at lw_m14 134 rfl) rfl
theorem q3382 : (Jvm.Cond.codeWith ({ cls := "FlareSlopesLaw", name := "falseVotes", desc := "(LFlareSlopes;I[J)I" } : Jvm.MethodName) method_28_code (4 : Nat) (Option.some Jvm.ClassFile.FieldType.int) [((0 : Nat), (9 : Nat), (12 : Nat), (21 : Nat)), ((0 : Nat), (9 : Nat), (15 : Nat), (13 : Nat))]) ∈ lw_all := lw_g (lw_at lw_m14 135 rfl) rfl
theorem q3383 : (Jvm.Cond.methodLink "FlareSlopesLaw" (97 : Nat) ({ cls := "FlareSlopes", name := "falseVotes", desc := "(I)I" } : Jvm.MethodName)) ∈ lw_all := lw_g (lw_at lw_m14 136 rfl) rfl
theorem q3397 : (Jvm.Cond.methodLink "FlareSlopesLaw" (313 : Nat) ({ cls := "FlareSlopesLaw", name := "oldestVote", desc := "(LFlareSlopes;I[J)I" } : Jvm.MethodName)) ∈ lw_all := lw_g (lw_at lw_m14 150 rfl) rfl
theorem q3398 : (Jvm.Cond.static ({ cls := "FlareSlopesLaw", name := "oldestVote", desc := "(LFlareSlopes;I[J)I" } : Jvm.MethodName)) ∈ lw_all := lw_g (lw_at lw_m14 151 rfl) rfl
theorem q3399 : (Jvm.Cond.codeWith ({ cls := "FlareSlopesLaw", name := "oldestVote", desc := "(LFlareSlopes;I[J)I" } : Jvm.MethodName) method_29_code (4 : Nat) (Option.some Jvm.ClassFile.FieldType.int) [((0 : Nat), (9 : Nat), (12 : Nat), (21 : Nat)), ((0 : Nat), (9 : Nat), (15 : Nat), (13 : Nat))]) ∈ lw_all := lw_g (lw_at lw_m14 152 rfl) rfl
theorem q3400 : (Jvm.Cond.methodLink "FlareSlopesLaw" (100 : Nat) ({ cls := "FlareSlopes", name := "oldestVote", desc := "(I)I" } : Jvm.MethodName)) ∈ lw_all := lw_g (lw_at lw_m14 153 rfl) rfl
theorem q3404 : (Jvm.Cond.methodLink "FlareSlopesLaw" (316 : Nat) ({ cls := "FlareSlopesLaw", name := "risky", desc := "(LFlareSlopes;[J)I" } : Jvm.MethodName)) ∈ lw_all := lw_g (lw_at lw_m14 157 rfl) rfl
theorem q3405 : (Jvm.Cond.static ({ cls := "FlareSlopesLaw", name := "risky", desc := "(LFlareSlopes;[J)I" } : Jvm.MethodName)) ∈ lw_all := lw_g (lw_at lw_m14 158 rfl) rfl
theorem q3406 : (Jvm.Cond.codeWith ({ cls := "FlareSlopesLaw", name := "risky", desc := "(LFlareSlopes;[J)I" } : Jvm.MethodName) method_30_code (3 : Nat) (Option.some Jvm.ClassFile.FieldType.int) [((0 : Nat), (8 : Nat), (11 : Nat), (21 : Nat))]) ∈ lw_all := lw_g (lw_at lw_m14 159 rfl) rfl
theorem q3407 : (Jvm.Cond.methodLink "FlareSlopesLaw" (103 : Nat) ({ cls := "FlareSlopes", name := "risky", desc := "()I" } : Jvm.MethodName)) ∈ lw_all := lw_g (lw_at lw_m14 160 rfl) rfl
theorem q3411 : (Jvm.Cond.methodLink "FlareSlopesLaw" (319 : Nat) ({ cls := "FlareSlopesLaw", name := "weightiest", desc := "(LFlareSlopes;I[J)I" } : Jvm.MethodName)) ∈ lw_all := lw_g (lw_at lw_m14 164 rfl) rfl
theorem q3412 : (Jvm.Cond.static ({ cls := "FlareSlopesLaw", name := "weightiest", desc := "(LFlareSlopes;I[J)I" } : Jvm.MethodName)) ∈ lw_all := lw_g (lw_at lw_m14 165 rfl) rfl
theorem q3413 : (Jvm.Cond.codeWith ({ cls := "FlareSlopesLaw", name := "weightiest", desc := "(LFlareSlopes;I[J)I" } : Jvm.MethodName) method_31_code (4 : Nat) (Option.some Jvm.ClassFile.FieldType.int) [((0 : Nat), (9 : Nat), (12 : Nat), (21 : Nat)), ((0 : Nat), (9 : Nat), (15 : Nat), (13 : Nat))]) ∈ lw_all := lw_g (lw_at lw_m14 166 rfl) rfl
theorem q3414 : (Jvm.Cond.methodLink "FlareSlopesLaw" (106 : Nat) ({ cls := "FlareSlopes", name := "weightiest", desc := "(I)I" } : Jvm.MethodName)) ∈ lw_all := lw_g (lw_at lw_m14 167 rfl) rfl
theorem q3418 : (Jvm.Cond.methodLink "FlareSlopesLaw" (322 : Nat) ({ cls := "FlareSlopesLaw", name := "leastTrusted", desc := "(LFlareSlopes;[J)I" } : Jvm.MethodName)) ∈ lw_all := lw_g (lw_at lw_m14 171 rfl) rfl
theorem q3419 : (Jvm.Cond.static ({ cls := "FlareSlopesLaw", name := "leastTrusted", desc := "(LFlareSlopes;[J)I" } : Jvm.MethodName)) ∈ lw_all := lw_g (lw_at lw_m14 172 rfl) rfl
theorem q3420 : (Jvm.Cond.codeWith ({ cls := "FlareSlopesLaw", name := "leastTrusted", desc := "(LFlareSlopes;[J)I" } : Jvm.MethodName) method_32_code (3 : Nat) (Option.some Jvm.ClassFile.FieldType.int) [((0 : Nat), (8 : Nat), (11 : Nat), (21 : Nat))]) ∈ lw_all := lw_g (lw_at lw_m14 173 rfl) rfl
theorem q3421 : (Jvm.Cond.methodLink "FlareSlopesLaw" (109 : Nat) ({ cls := "FlareSlopes", name := "leastTrusted", desc := "()I" } : Jvm.MethodName)) ∈ lw_all := lw_g (lw_at lw_m14 174 rfl) rfl
theorem q3425 : (Jvm.Cond.methodLink "FlareSlopesLaw" (325 : Nat) ({ cls := "FlareSlopesLaw", name := "loneliest", desc := "(LFlareSlopes;[J)I" } : Jvm.MethodName)) ∈ lw_all := lw_g (lw_at lw_m14 178 rfl) rfl
theorem q3426 : (Jvm.Cond.static ({ cls := "FlareSlopesLaw", name := "loneliest", desc := "(LFlareSlopes;[J)I" } : Jvm.MethodName)) ∈ lw_all := lw_g (lw_at lw_m14 179 rfl) rfl
theorem q3427 : (Jvm.Cond.codeWith ({ cls := "FlareSlopesLaw", name := "loneliest", desc := "(LFlareSlopes;[J)I" } : Jvm.MethodName) method_33_code (3 : Nat) (Option.some Jvm.ClassFile.FieldType.int) [((0 : Nat), (8 : Nat), (11 : Nat), (21 : Nat))]) ∈ lw_all := lw_g (lw_at lw_m14 180 rfl) rfl
theorem q3428 : (Jvm.Cond.methodLink "FlareSlopesLaw" (112 : Nat) ({ cls := "FlareSlopes", name := "loneliest", desc := "()I" } : Jvm.MethodName)) ∈ lw_all := lw_g (lw_at lw_m14 181 rfl) rfl
theorem q3432 : (Jvm.Cond.methodLink "FlareSlopesLaw" (328 : Nat) ({ cls := "FlareSlopesLaw", name := "meanTrust", desc := "(LFlareSlopes;[D)I" } : Jvm.MethodName)) ∈ lw_all := lw_g (lw_at lw_m14 185 rfl) rfl
theorem q3433 : (Jvm.Cond.static ({ cls := "FlareSlopesLaw", name := "meanTrust", desc := "(LFlareSlopes;[D)I" } : Jvm.MethodName)) ∈ lw_all := lw_g (lw_at lw_m14 186 rfl) rfl
theorem q3434 : (Jvm.Cond.codeWith ({ cls := "FlareSlopesLaw", name := "meanTrust", desc := "(LFlareSlopes;[D)I" } : Jvm.MethodName) method_34_code (3 : Nat) (Option.some Jvm.ClassFile.FieldType.int) [((0 : Nat), (7 : Nat), (10 : Nat), (21 : Nat))]) ∈ lw_all := lw_g (lw_at lw_m14 187 rfl) rfl
theorem q3435 : (Jvm.Cond.methodLink "FlareSlopesLaw" (115 : Nat) ({ cls := "FlareSlopes", name := "meanTrust", desc := "()D" } : Jvm.MethodName)) ∈ lw_all := lw_g (lw_at lw_m14 188 rfl) rfl
theorem q3439 : (Jvm.Cond.methodLink "FlareSlopesLaw" (332 : Nat) ({ cls := "FlareSlopesLaw", name := "closedShare", desc := "(LFlareSlopes;I[D)I" } : Jvm.MethodName)) ∈ lw_all := lw_g (lw_at lw_m14 192 rfl) rfl
theorem q3440 : (Jvm.Cond.static ({ cls := "FlareSlopesLaw", name := "closedShare", desc := "(LFlareSlopes;I[D)I" } : Jvm.MethodName)) ∈ lw_all := lw_g (lw_at lw_m14 193 rfl) rfl
theorem q3441 : (Jvm.Cond.codeWith ({ cls := "FlareSlopesLaw", name := "closedShare", desc := "(LFlareSlopes;I[D)I" } : Jvm.MethodName) method_35_code (4 : Nat) (Option.some Jvm.ClassFile.FieldType.int) [((0 : Nat), (9 : Nat), (12 : Nat), (21 : Nat)), ((0 : Nat), (9 : Nat), (15 : Nat), (13 : Nat))]) ∈ lw_all := lw_g (lw_at lw_m14 194 rfl) rfl
theorem q3442 : (Jvm.Cond.methodLink "FlareSlopesLaw" (119 : Nat) ({ cls := "FlareSlopes", name := "closedShare", desc := "(I)F" } : Jvm.MethodName)) ∈ lw_all := lw_g (lw_at lw_m14 195 rfl) rfl
theorem q3446 : (Jvm.Cond.methodLink "FlareSlopesLaw" (336 : Nat) ({ cls := "FlareSlopesLaw", name := "bulletin", desc := "(LFlareSlopes;II[J)I" } : Jvm.MethodName)) ∈ lw_all := lw_g (lw_at lw_m14 199 rfl) rfl
theorem q3447 : (Jvm.Cond.static ({ cls := "FlareSlopesLaw", name := "bulletin", desc := "(LFlareSlopes;II[J)I" } : Jvm.MethodName)) ∈ lw_all := lw_g (lw_at lw_m14 200 rfl) rfl
theorem q3448 : (Jvm.Cond.codeWith ({ cls := "FlareSlopesLaw", name := "bulletin", desc := "(LFlareSlopes;II[J)I" } : Jvm.MethodName) method_36_code (5 : Nat) (Option.some Jvm.ClassFile.FieldType.int) [((0 : Nat), (10 : Nat), (13 : Nat), (21 : Nat)), ((0 : Nat), (10 : Nat), (17 : Nat), (13 : Nat)), ((0 : Nat), (10 : Nat), (21 : Nat), (15 : Nat))]) ∈ lw_all := lw_g (lw_at lw_m14 201 rfl) rfl
theorem q3449 : (Jvm.Cond.methodLink "FlareSlopesLaw" (123 : Nat) ({ cls := "FlareSlopes", name := "bulletin", desc := "(II)I" } : Jvm.MethodName)) ∈ lw_all := lw_g (lw_at lw_m14 202 rfl) rfl
theorem q3455 : (Jvm.Cond.methodLink "FlareSlopesLaw" (339 : Nat) ({ cls := "FlareSlopesLaw", name := "closesIn", desc := "(LFlareSlopes;II[J)I" } : Jvm.MethodName)) ∈ lw_all := lw_g (lw_at lw_m14 208 rfl) rfl
theorem q3456 : (Jvm.Cond.static ({ cls := "FlareSlopesLaw", name := "closesIn", desc := "(LFlareSlopes;II[J)I" } : Jvm.MethodName)) ∈ lw_all := lw_g (lw_at lw_m14 209 rfl) rfl
theorem q3457 : (Jvm.Cond.codeWith ({ cls := "FlareSlopesLaw", name := "closesIn", desc := "(LFlareSlopes;II[J)I" } : Jvm.MethodName) method_37_code (5 : Nat) (Option.some Jvm.ClassFile.FieldType.int) [((0 : Nat), (10 : Nat), (13 : Nat), (21 : Nat)), ((0 : Nat), (10 : Nat), (17 : Nat), (13 : Nat))]) ∈ lw_all := lw_g (lw_at lw_m14 210 rfl) rfl
theorem q3458 : (Jvm.Cond.methodLink "FlareSlopesLaw" (126 : Nat) ({ cls := "FlareSlopes", name := "closesIn", desc := "(II)I" } : Jvm.MethodName)) ∈ lw_all := lw_g (lw_at lw_m14 211 rfl) rfl
theorem q3568 : (Jvm.Cond.methodLink "FlareSlopesLaw" (342 : Nat) ({ cls := "FlareSlopesLaw", name := "opensIn", desc := "(LFlareSlopes;II[J)I" } : Jvm.MethodName)) ∈ lw_all := lw_g (lw_at lw_m15 81 rfl) rfl
theorem q3569 : (Jvm.Cond.static ({ cls := "FlareSlopesLaw", name := "opensIn", desc := "(LFlareSlopes;II[J)I" } : Jvm.MethodName)) ∈ lw_all := lw_g (lw_at lw_m15 82 rfl) rfl
theorem q3570 : (Jvm.Cond.codeWith ({ cls := "FlareSlopesLaw", name := "opensIn", desc := "(LFlareSlopes;II[J)I" } : Jvm.MethodName) method_38_code (5 : Nat) (Option.some Jvm.ClassFile.FieldType.int) [((0 : Nat), (10 : Nat), (13 : Nat), (21 : Nat)), ((0 : Nat), (10 : Nat), (17 : Nat), (13 : Nat))]) ∈ lw_all := lw_g (lw_at lw_m15 83 rfl) rfl
theorem q3571 : (Jvm.Cond.methodLink "FlareSlopesLaw" (129 : Nat) ({ cls := "FlareSlopes", name := "opensIn", desc := "(II)I" } : Jvm.MethodName)) ∈ lw_all := lw_g (lw_at lw_m15 84 rfl) rfl
theorem q3575 : (Jvm.Cond.methodLink "FlareSlopesLaw" (345 : Nat) ({ cls := "FlareSlopesLaw", name := "closersIn", desc := "(LFlareSlopes;II[J)I" } : Jvm.MethodName)) ∈ lw_all := lw_g (lw_at lw_m15 88 rfl) rfl
theorem q3576 : (Jvm.Cond.static ({ cls := "FlareSlopesLaw", name := "closersIn", desc := "(LFlareSlopes;II[J)I" } : Jvm.MethodName)) ∈ lw_all := lw_g (lw_at lw_m15 89 rfl) rfl
theorem q3577 : (Jvm.Cond.codeWith ({ cls := "FlareSlopesLaw", name := "closersIn", desc := "(LFlareSlopes;II[J)I" } : Jvm.MethodName) method_39_code (5 : Nat) (Option.some Jvm.ClassFile.FieldType.int) [((0 : Nat), (10 : Nat), (13 : Nat), (21 : Nat)), ((0 : Nat), (10 : Nat), (17 : Nat), (13 : Nat)), ((0 : Nat), (10 : Nat), (21 : Nat), (15 : Nat))]) ∈ lw_all := lw_g (lw_at lw_m15 90 rfl) rfl
theorem q3578 : (Jvm.Cond.methodLink "FlareSlopesLaw" (132 : Nat) ({ cls := "FlareSlopes", name := "closersIn", desc := "(II)I" } : Jvm.MethodName)) ∈ lw_all := lw_g (lw_at lw_m15 91 rfl) rfl
theorem q3590 : (Jvm.Cond.methodLink "FlareSlopesLaw" (348 : Nat) ({ cls := "FlareSlopesLaw", name := "votesIn", desc := "(LFlareSlopes;I[J)I" } : Jvm.MethodName)) ∈ lw_all := lw_g (lw_at lw_m15 103 rfl) rfl
theorem q3591 : (Jvm.Cond.static ({ cls := "FlareSlopesLaw", name := "votesIn", desc := "(LFlareSlopes;I[J)I" } : Jvm.MethodName)) ∈ lw_all := lw_g (lw_at lw_m15 104 rfl) rfl
theorem q3592 : (Jvm.Cond.codeWith ({ cls := "FlareSlopesLaw", name := "votesIn", desc := "(LFlareSlopes;I[J)I" } : Jvm.MethodName) method_40_code (4 : Nat) (Option.some Jvm.ClassFile.FieldType.int) [((0 : Nat), (9 : Nat), (12 : Nat), (21 : Nat)), ((0 : Nat), (9 : Nat), (15 : Nat), (15 : Nat))]) ∈ lw_all := lw_g (lw_at lw_m15 105 rfl) rfl
theorem q3593 : (Jvm.Cond.methodLink "FlareSlopesLaw" (135 : Nat) ({ cls := "FlareSlopes", name := "votesIn", desc := "(I)I" } : Jvm.MethodName)) ∈ lw_all := lw_g (lw_at lw_m15 106 rfl) rfl
theorem q3597 : (Jvm.Cond.methodLink "FlareSlopesLaw" (351 : Nat) ({ cls := "FlareSlopesLaw", name := "seeIn", desc := "(LFlareSlopes;II[J)I" } : Jvm.MethodName)) ∈ lw_all := lw_g (lw_at lw_m15 110 rfl) rfl
theorem q3598 : (Jvm.Cond.static ({ cls := "FlareSlopesLaw", name := "seeIn", desc := "(LFlareSlopes;II[J)I" } : Jvm.MethodName)) ∈ lw_all := lw_g (lw_at lw_m15 111 rfl) rfl
theorem q3599 : (Jvm.Cond.codeWith ({ cls := "FlareSlopesLaw", name := "seeIn", desc := "(LFlareSlopes;II[J)I" } : Jvm.MethodName) method_41_code (5 : Nat) (Option.some Jvm.ClassFile.FieldType.int) [((0 : Nat), (10 : Nat), (13 : Nat), (21 : Nat)), ((0 : Nat), (10 : Nat), (17 : Nat), (13 : Nat))]) ∈ lw_all := lw_g (lw_at lw_m15 112 rfl) rfl
theorem q3600 : (Jvm.Cond.methodLink "FlareSlopesLaw" (138 : Nat) ({ cls := "FlareSlopes", name := "seeIn", desc := "(II)I" } : Jvm.MethodName)) ∈ lw_all := lw_g (lw_at lw_m15 113 rfl) rfl
theorem q3604 : (Jvm.Cond.methodLink "FlareSlopesLaw" (354 : Nat) ({ cls := "FlareSlopesLaw", name := "closersIf", desc := "(LFlareSlopes;III[J)I" } : Jvm.MethodName)) ∈ lw_all := lw_g (lw_at lw_m15 117 rfl) rfl
theorem q3605 : (Jvm.Cond.static ({ cls := "FlareSlopesLaw", name := "closersIf", desc := "(LFlareSlopes;III[J)I" } : Jvm.MethodName)) ∈ lw_all := lw_g (lw_at lw_m15 118 rfl) rfl
theorem q3606 : (Jvm.Cond.codeWith ({ cls := "FlareSlopesLaw", name := "closersIf", desc := "(LFlareSlopes;III[J)I" } : Jvm.MethodName) method_42_code (6 : Nat) (Option.some Jvm.ClassFile.FieldType.int) [((0 : Nat), (12 : Nat), (15 : Nat), (21 : Nat)), ((0 : Nat), (12 : Nat), (19 : Nat), (13 : Nat)), ((0 : Nat), (12 : Nat), (23 : Nat), (15 : Nat))]) ∈ lw_all := lw_g (lw_at lw_m15 119 rfl) rfl
theorem q3607 : (Jvm.Cond.methodLink "FlareSlopesLaw" (141 : Nat) ({ cls := "FlareSlopes", name := "closersIf", desc := "(III)I" } : Jvm.MethodName)) ∈ lw_all := lw_g (lw_at lw_m15 120 rfl) rfl
theorem q3639 : (Jvm.Cond.methodLink "FlareSlopesLaw" (358 : Nat) ({ cls := "FlareSlopesLaw", name := "bestCaller", desc := "(LFlareSlopes;II[J)I" } : Jvm.MethodName)) ∈ lw_all := lw_g (lw_at lw_m15 152 rfl) rfl
theorem q3640 : (Jvm.Cond.static ({ cls := "FlareSlopesLaw", name := "bestCaller", desc := "(LFlareSlopes;II[J)I" } : Jvm.MethodName)) ∈ lw_all := lw_g (lw_at lw_m15 153 rfl) rfl
theorem q3641 : (Jvm.Cond.codeWith ({ cls := "FlareSlopesLaw", name := "bestCaller", desc := "(LFlareSlopes;II[J)I" } : Jvm.MethodName) method_43_code (5 : Nat) (Option.some Jvm.ClassFile.FieldType.int) [((0 : Nat), (10 : Nat), (13 : Nat), (21 : Nat)), ((0 : Nat), (10 : Nat), (17 : Nat), (13 : Nat)), ((0 : Nat), (10 : Nat), (21 : Nat), (15 : Nat))]) ∈ lw_all := lw_g (lw_at lw_m15 154 rfl) rfl
theorem q3642 : (Jvm.Cond.methodLink "FlareSlopesLaw" (145 : Nat) ({ cls := "FlareSlopes", name := "bestCaller", desc := "(II)I" } : Jvm.MethodName)) ∈ lw_all := lw_g (lw_at lw_m15 155 rfl) rfl
theorem q3646 : (Jvm.Cond.methodLink "FlareSlopesLaw" (361 : Nat) ({ cls := "FlareSlopesLaw", name := "leastShare", desc := "(LFlareSlopes;II[J)I" } : Jvm.MethodName)) ∈ lw_all := lw_g (lw_at lw_m15 159 rfl) rfl
theorem q3647 : (Jvm.Cond.static ({ cls := "FlareSlopesLaw", name := "leastShare", desc := "(LFlareSlopes;II[J)I" } : Jvm.MethodName)) ∈ lw_all := lw_g (lw_at lw_m15 160 rfl) rfl
theorem q3648 : (Jvm.Cond.codeWith ({ cls := "FlareSlopesLaw", name := "leastShare", desc := "(LFlareSlopes;II[J)I" } : Jvm.MethodName) method_44_code (5 : Nat) (Option.some Jvm.ClassFile.FieldType.int) [((0 : Nat), (10 : Nat), (13 : Nat), (21 : Nat)), ((0 : Nat), (10 : Nat), (17 : Nat), (13 : Nat))]) ∈ lw_all := lw_g (lw_at lw_m15 161 rfl) rfl
theorem q3649 : (Jvm.Cond.methodLink "FlareSlopesLaw" (148 : Nat) ({ cls := "FlareSlopes", name := "leastShare", desc := "(II)I" } : Jvm.MethodName)) ∈ lw_all := lw_g (lw_at lw_m15 162 rfl) rfl
theorem q3653 : (Jvm.Cond.methodLink "FlareSlopesLaw" (364 : Nat) ({ cls := "FlareSlopesLaw", name := "writeBulletin", desc := "(LFlareSlopes;I[J)I" } : Jvm.MethodName)) ∈ lw_all := lw_g (lw_at lw_m15 166 rfl) rfl
theorem q3654 : (Jvm.Cond.static ({ cls := "FlareSlopesLaw", name := "writeBulletin", desc := "(LFlareSlopes;I[J)I" } : Jvm.MethodName)) ∈ lw_all := lw_g (lw_at lw_m15 167 rfl) rfl
theorem q3655 : (Jvm.Cond.codeWith ({ cls := "FlareSlopesLaw", name := "writeBulletin", desc := "(LFlareSlopes;I[J)I" } : Jvm.MethodName) method_45_code (4 : Nat) (Option.some Jvm.ClassFile.FieldType.int) [((0 : Nat), (9 : Nat), (12 : Nat), (21 : Nat)), ((0 : Nat), (9 : Nat), (15 : Nat), (13 : Nat))]) ∈ lw_all := lw_g (lw_at lw_m15 168 rfl) rfl
theorem q3656 : (Jvm.Cond.methodLink "FlareSlopesLaw" (151 : Nat) ({ cls := "FlareSlopes", name := "writeBulletin", desc := "(I)I" } : Jvm.MethodName)) ∈ lw_all := lw_g (lw_at lw_m15 169 rfl) rfl
theorem q3722 : (Jvm.Cond.methodLink "FlareSlopesLaw" (367 : Nat) ({ cls := "FlareSlopesLaw", name := "writeVotes", desc := "(LFlareSlopes;II[J)I" } : Jvm.MethodName)) ∈ lw_all := lw_g (lw_at lw_m15 235 rfl) rfl
theorem q3723 : (Jvm.Cond.static ({ cls := "FlareSlopesLaw", name := "writeVotes", desc := "(LFlareSlopes;II[J)I" } : Jvm.MethodName)) ∈ lw_all := lw_g (lw_at lw_m15 236 rfl) rfl
theorem q3724 : (Jvm.Cond.codeWith ({ cls := "FlareSlopesLaw", name := "writeVotes", desc := "(LFlareSlopes;II[J)I" } : Jvm.MethodName) method_46_code (5 : Nat) (Option.some Jvm.ClassFile.FieldType.int) [((0 : Nat), (10 : Nat), (13 : Nat), (21 : Nat)), ((0 : Nat), (10 : Nat), (17 : Nat), (13 : Nat))]) ∈ lw_all := lw_g (lw_at lw_m15 237 rfl) rfl
theorem q3725 : (Jvm.Cond.methodLink "FlareSlopesLaw" (154 : Nat) ({ cls := "FlareSlopes", name := "writeVotes", desc := "(II)I" } : Jvm.MethodName)) ∈ lw_all := lw_g (lw_at lw_m15 238 rfl) rfl
theorem q3730 : (Jvm.Cond.methodLink "FlareSlopesLaw" (370 : Nat) ({ cls := "FlareSlopesLaw", name := "writeView", desc := "(LFlareSlopes;[J)I" } : Jvm.MethodName)) ∈ lw_all := lw_g (lw_at lw_m16 3 rfl) rfl
theorem q3731 : (Jvm.Cond.static ({ cls := "FlareSlopesLaw", name := "writeView", desc := "(LFlareSlopes;[J)I" } : Jvm.MethodName)) ∈ lw_all := lw_g (lw_at lw_m16 4 rfl) rfl
theorem q3732 : (Jvm.Cond.codeWith ({ cls := "FlareSlopesLaw", name := "writeView", desc := "(LFlareSlopes;[J)I" } : Jvm.MethodName) method_47_code (3 : Nat) (Option.some Jvm.ClassFile.FieldType.int) [((0 : Nat), (8 : Nat), (11 : Nat), (21 : Nat))]) ∈ lw_all := lw_g (lw_at lw_m16 5 rfl) rfl
theorem q3733 : (Jvm.Cond.methodLink "FlareSlopesLaw" (157 : Nat) ({ cls := "FlareSlopes", name := "writeView", desc := "()I" } : Jvm.MethodName)) ∈ lw_all := lw_g (lw_at lw_m16 6 rfl) rfl
theorem q3737 : (Jvm.Cond.methodLink "FlareSlopesLaw" (373 : Nat) ({ cls := "FlareSlopesLaw", name := "textByte", desc := "(LFlareSlopes;I[J)I" } : Jvm.MethodName)) ∈ lw_all := lw_g (lw_at lw_m16 10 rfl) rfl
theorem q3738 : (Jvm.Cond.static ({ cls := "FlareSlopesLaw", name := "textByte", desc := "(LFlareSlopes;I[J)I" } : Jvm.MethodName)) ∈ lw_all := lw_g (lw_at lw_m16 11 rfl) rfl
theorem q3739 : (Jvm.Cond.codeWith ({ cls := "FlareSlopesLaw", name := "textByte", desc := "(LFlareSlopes;I[J)I" } : Jvm.MethodName) method_48_code (4 : Nat) (Option.some Jvm.ClassFile.FieldType.int) [((0 : Nat), (9 : Nat), (12 : Nat), (13 : Nat))]) ∈ lw_all := lw_g (lw_at lw_m16 12 rfl) rfl
theorem q3740 : (Jvm.Cond.methodLink "FlareSlopesLaw" (160 : Nat) ({ cls := "FlareSlopes", name := "textByte", desc := "(I)I" } : Jvm.MethodName)) ∈ lw_all := lw_g (lw_at lw_m16 13 rfl) rfl
theorem q3745 : (Jvm.Cond.methodLink "FlareSlopesLaw" (376 : Nat) ({ cls := "FlareSlopesLaw", name := "tick", desc := "(LFlareSlopes;I[J)I" } : Jvm.MethodName)) ∈ lw_all := lw_g (lw_at lw_m16 18 rfl) rfl
theorem q3746 : (Jvm.Cond.static ({ cls := "FlareSlopesLaw", name := "tick", desc := "(LFlareSlopes;I[J)I" } : Jvm.MethodName)) ∈ lw_all := lw_g (lw_at lw_m16 19 rfl) rfl
theorem q3747 : (Jvm.Cond.codeWith ({ cls := "FlareSlopesLaw", name := "tick", desc := "(LFlareSlopes;I[J)I" } : Jvm.MethodName) method_49_code (4 : Nat) (Option.some Jvm.ClassFile.FieldType.int) [((0 : Nat), (9 : Nat), (12 : Nat), (21 : Nat)), ((0 : Nat), (9 : Nat), (15 : Nat), (15 : Nat))]) ∈ lw_all := lw_g (lw_at lw_m16 20 rfl) rfl
theorem q3748 : (Jvm.Cond.methodLink "FlareSlopesLaw" (163 : Nat) ({ cls := "FlareSlopes", name := "tick", desc := "(I)I" } : Jvm.MethodName)) ∈ lw_all := lw_g (lw_at lw_m16 21 rfl) rfl
theorem q3768 : (Jvm.Cond.methodLink "FlareSlopesLaw" (379 : Nat) ({ cls := "FlareSlopesLaw", name := "flare", desc := "(LFlareSlopes;IIZ[J)I" } : Jvm.MethodName)) ∈ lw_all := lw_g (lw_at lw_m16 41 rfl) rfl
theorem q3769 : (Jvm.Cond.static ({ cls := "FlareSlopesLaw", name := "flare", desc := "(LFlareSlopes;IIZ[J)I" } : Jvm.MethodName)) ∈ lw_all := lw_g (lw_at lw_m16 42 rfl) rfl
theorem q3770 : (Jvm.Cond.codeWith ({ cls := "FlareSlopesLaw", name := "flare", desc := "(LFlareSlopes;IIZ[J)I" } : Jvm.MethodName) method_50_code (6 : Nat) (Option.some Jvm.ClassFile.FieldType.int) [((0 : Nat), (12 : Nat), (15 : Nat), (21 : Nat)), ((0 : Nat), (12 : Nat), (19 : Nat), (13 : Nat)), ((0 : Nat), (12 : Nat), (23 : Nat), (15 : Nat))]) ∈ lw_all := lw_g (lw_at lw_m16 43 rfl) rfl
theorem q3771 : (Jvm.Cond.methodLink "FlareSlopesLaw" (166 : Nat) ({ cls := "FlareSlopes", name := "flare", desc := "(IIZ)I" } : Jvm.MethodName)) ∈ lw_all := lw_g (lw_at lw_m16 44 rfl) rfl
theorem q3775 : (Jvm.Cond.methodLink "FlareSlopesLaw" (382 : Nat) ({ cls := "FlareSlopesLaw", name := "inspect", desc := "(LFlareSlopes;II[J)I" } : Jvm.MethodName)) ∈ lw_all := lw_g (lw_at lw_m16 48 rfl) rfl
theorem q3776 : (Jvm.Cond.static ({ cls := "FlareSlopesLaw", name := "inspect", desc := "(LFlareSlopes;II[J)I" } : Jvm.MethodName)) ∈ lw_all := lw_g (lw_at lw_m16 49 rfl) rfl
theorem q3777 : (Jvm.Cond.codeWith ({ cls := "FlareSlopesLaw", name := "inspect", desc := "(LFlareSlopes;II[J)I" } : Jvm.MethodName) method_51_code (5 : Nat) (Option.some Jvm.ClassFile.FieldType.int) [((0 : Nat), (10 : Nat), (13 : Nat), (21 : Nat)), ((0 : Nat), (10 : Nat), (17 : Nat), (13 : Nat)), ((0 : Nat), (10 : Nat), (21 : Nat), (15 : Nat))]) ∈ lw_all := lw_g (lw_at lw_m16 50 rfl) rfl
theorem q3778 : (Jvm.Cond.methodLink "FlareSlopesLaw" (169 : Nat) ({ cls := "FlareSlopes", name := "inspect", desc := "(II)I" } : Jvm.MethodName)) ∈ lw_all := lw_g (lw_at lw_m16 51 rfl) rfl
theorem q3796 : (Jvm.Cond.methodLink "FlareSlopesLaw" (385 : Nat) ({ cls := "FlareSlopesLaw", name := "danger", desc := "(LFlareSlopes;IZ[J)I" } : Jvm.MethodName)) ∈ lw_all := lw_g (lw_at lw_m16 69 rfl) rfl
theorem q3797 : (Jvm.Cond.static ({ cls := "FlareSlopesLaw", name := "danger", desc := "(LFlareSlopes;IZ[J)I" } : Jvm.MethodName)) ∈ lw_all := lw_g (lw_at lw_m16 70 rfl) rfl
theorem q3798 : (Jvm.Cond.codeWith ({ cls := "FlareSlopesLaw", name := "danger", desc := "(LFlareSlopes;IZ[J)I" } : Jvm.MethodName) method_52_code (5 : Nat) (Option.some Jvm.ClassFile.FieldType.int) [((0 : Nat), (17 : Nat), (20 : Nat), (21 : Nat)), ((0 : Nat), (17 : Nat), (24 : Nat), (13 : Nat))]) ∈ lw_all := lw_g (lw_at lw_m16 71 rfl) rfl
theorem q3799 : (Jvm.Cond.methodLink "FlareSlopesLaw" (172 : Nat) ({ cls := "FlareSlopes", name := "danger", desc := "(IZ)Z" } : Jvm.MethodName)) ∈ lw_all := lw_g (lw_at lw_m16 72 rfl) rfl
theorem q3803 : (Jvm.Cond.methodLink "FlareSlopesLaw" (388 : Nat) ({ cls := "FlareSlopesLaw", name := "issue", desc := "(LFlareSlopes;I[J)I" } : Jvm.MethodName)) ∈ lw_all := lw_g (lw_at lw_m16 76 rfl) rfl
theorem q3804 : (Jvm.Cond.static ({ cls := "FlareSlopesLaw", name := "issue", desc := "(LFlareSlopes;I[J)I" } : Jvm.MethodName)) ∈ lw_all := lw_g (lw_at lw_m16 77 rfl) rfl
theorem q3805 : (Jvm.Cond.codeWith ({ cls := "FlareSlopesLaw", name := "issue", desc := "(LFlareSlopes;I[J)I" } : Jvm.MethodName) method_53_code (4 : Nat) (Option.some Jvm.ClassFile.FieldType.int) [((0 : Nat), (9 : Nat), (12 : Nat), (21 : Nat)), ((0 : Nat), (9 : Nat), (15 : Nat), (13 : Nat))]) ∈ lw_all := lw_g (lw_at lw_m16 78 rfl) rfl
theorem q3806 : (Jvm.Cond.methodLink "FlareSlopesLaw" (176 : Nat) ({ cls := "FlareSlopes", name := "issue", desc := "(I)I" } : Jvm.MethodName)) ∈ lw_all := lw_g (lw_at lw_m16 79 rfl) rfl
theorem q3858 : (Jvm.Cond.methodLink "FlareSlopesLaw" (391 : Nat) ({ cls := "FlareSlopesLaw", name := "give", desc := "(LFlareSlopes;II[J)I" } : Jvm.MethodName)) ∈ lw_all := lw_g (lw_at lw_m16 131 rfl) rfl
theorem q3859 : (Jvm.Cond.static ({ cls := "FlareSlopesLaw", name := "give", desc := "(LFlareSlopes;II[J)I" } : Jvm.MethodName)) ∈ lw_all := lw_g (lw_at lw_m16 132 rfl) rfl
theorem q3860 : (Jvm.Cond.codeWith ({ cls := "FlareSlopesLaw", name := "give", desc := "(LFlareSlopes;II[J)I" } : Jvm.MethodName) method_54_code (5 : Nat) (Option.some Jvm.ClassFile.FieldType.int) [((0 : Nat), (10 : Nat), (13 : Nat), (21 : Nat)), ((0 : Nat), (10 : Nat), (17 : Nat), (13 : Nat)), ((0 : Nat), (10 : Nat), (21 : Nat), (15 : Nat))]) ∈ lw_all := lw_g (lw_at lw_m16 133 rfl) rfl
theorem q3861 : (Jvm.Cond.methodLink "FlareSlopesLaw" (179 : Nat) ({ cls := "FlareSlopes", name := "give", desc := "(II)I" } : Jvm.MethodName)) ∈ lw_all := lw_g (lw_at lw_m16 134 rfl) rfl
theorem q3865 : (Jvm.Cond.methodLink "FlareSlopesLaw" (394 : Nat) ({ cls := "FlareSlopesLaw", name := "move", desc := "(LFlareSlopes;III[J)I" } : Jvm.MethodName)) ∈ lw_all := lw_g (lw_at lw_m16 138 rfl) rfl
theorem q3866 : (Jvm.Cond.static ({ cls := "FlareSlopesLaw", name := "move", desc := "(LFlareSlopes;III[J)I" } : Jvm.MethodName)) ∈ lw_all := lw_g (lw_at lw_m16 139 rfl) rfl
theorem q3867 : (Jvm.Cond.codeWith ({ cls := "FlareSlopesLaw", name := "move", desc := "(LFlareSlopes;III[J)I" } : Jvm.MethodName) method_55_code (6 : Nat) (Option.some Jvm.ClassFile.FieldType.int) [((0 : Nat), (12 : Nat), (15 : Nat), (21 : Nat)), ((0 : Nat), (12 : Nat), (19 : Nat), (13 : Nat)), ((0 : Nat), (12 : Nat), (23 : Nat), (15 : Nat))]) ∈ lw_all := lw_g (lw_at lw_m16 140 rfl) rfl
theorem q3868 : (Jvm.Cond.methodLink "FlareSlopesLaw" (182 : Nat) ({ cls := "FlareSlopes", name := "move", desc := "(III)I" } : Jvm.MethodName)) ∈ lw_all := lw_g (lw_at lw_m16 141 rfl) rfl
theorem q3872 : (Jvm.Cond.methodLink "FlareSlopesLaw" (397 : Nat) ({ cls := "FlareSlopesLaw", name := "trust", desc := "(LFlareSlopes;II[J)I" } : Jvm.MethodName)) ∈ lw_all := lw_g (lw_at lw_m16 145 rfl) rfl
theorem q3873 : (Jvm.Cond.static ({ cls := "FlareSlopesLaw", name := "trust", desc := "(LFlareSlopes;II[J)I" } : Jvm.MethodName)) ∈ lw_all := lw_g (lw_at lw_m16 146 rfl) rfl
theorem q3874 : (Jvm.Cond.codeWith ({ cls := "FlareSlopesLaw", name := "trust", desc := "(LFlareSlopes;II[J)I" } : Jvm.MethodName) method_56_code (5 : Nat) (Option.some Jvm.ClassFile.FieldType.int) [((0 : Nat), (10 : Nat), (13 : Nat), (21 : Nat)), ((0 : Nat), (10 : Nat), (17 : Nat), (13 : Nat)), ((0 : Nat), (10 : Nat), (21 : Nat), (15 : Nat))]) ∈ lw_all := lw_g (lw_at lw_m16 147 rfl) rfl
theorem q3875 : (Jvm.Cond.methodLink "FlareSlopesLaw" (185 : Nat) ({ cls := "FlareSlopes", name := "trust", desc := "(II)I" } : Jvm.MethodName)) ∈ lw_all := lw_g (lw_at lw_m16 148 rfl) rfl
theorem q3880 : (Jvm.Cond.methodLink "FlareSlopesLaw" (400 : Nat) ({ cls := "FlareSlopesLaw", name := "forget", desc := "(LFlareSlopes;I[J)I" } : Jvm.MethodName)) ∈ lw_all := lw_g (lw_at lw_m16 153 rfl) rfl
theorem q3881 : (Jvm.Cond.static ({ cls := "FlareSlopesLaw", name := "forget", desc := "(LFlareSlopes;I[J)I" } : Jvm.MethodName)) ∈ lw_all := lw_g (lw_at lw_m16 154 rfl) rfl
theorem q3882 : (Jvm.Cond.codeWith ({ cls := "FlareSlopesLaw", name := "forget", desc := "(LFlareSlopes;I[J)I" } : Jvm.MethodName) method_57_code (4 : Nat) (Option.some Jvm.ClassFile.FieldType.int) [((0 : Nat), (9 : Nat), (12 : Nat), (21 : Nat)), ((0 : Nat), (9 : Nat), (15 : Nat), (13 : Nat))]) ∈ lw_all := lw_g (lw_at lw_m16 155 rfl) rfl
theorem q3883 : (Jvm.Cond.methodLink "FlareSlopesLaw" (188 : Nat) ({ cls := "FlareSlopes", name := "forget", desc := "(I)I" } : Jvm.MethodName)) ∈ lw_all := lw_g (lw_at lw_m16 156 rfl) rfl
theorem q3899 : (Jvm.Cond.methodLink "FlareSlopesLaw" (403 : Nat) ({ cls := "FlareSlopesLaw", name := "set", desc := "(LFlareSlopes;II[J)I" } : Jvm.MethodName)) ∈ lw_all := lw_g (lw_at lw_m16 172 rfl) rfl
theorem q3900 : (Jvm.Cond.static ({ cls := "FlareSlopesLaw", name := "set", desc := "(LFlareSlopes;II[J)I" } : Jvm.MethodName)) ∈ lw_all := lw_g (lw_at lw_m16 173 rfl) rfl
theorem q3901 : (Jvm.Cond.codeWith ({ cls := "FlareSlopesLaw", name := "set", desc := "(LFlareSlopes;II[J)I" } : Jvm.MethodName) method_58_code (5 : Nat) (Option.some Jvm.ClassFile.FieldType.int) [((0 : Nat), (10 : Nat), (13 : Nat), (21 : Nat)), ((0 : Nat), (10 : Nat), (17 : Nat), (15 : Nat))]) ∈ lw_all := lw_g (lw_at lw_m16 174 rfl) rfl
theorem q3902 : (Jvm.Cond.methodLink "FlareSlopesLaw" (191 : Nat) ({ cls := "FlareSlopes", name := "set", desc := "(II)I" } : Jvm.MethodName)) ∈ lw_all := lw_g (lw_at lw_m16 175 rfl) rfl
theorem q3908 : (Jvm.Cond.methodLink "FlareSlopesLaw" (406 : Nat) ({ cls := "FlareSlopesLaw", name := "undo", desc := "(LFlareSlopes;[J)I" } : Jvm.MethodName)) ∈ lw_all := lw_g (lw_at lw_m16 181 rfl) rfl
theorem q3909 : (Jvm.Cond.static ({ cls := "FlareSlopesLaw", name := "undo", desc := "(LFlareSlopes;[J)I" } : Jvm.MethodName)) ∈ lw_all := lw_g (lw_at lw_m16 182 rfl) rfl
theorem q3910 : (Jvm.Cond.codeWith ({ cls := "FlareSlopesLaw", name := "undo", desc := "(LFlareSlopes;[J)I" } : Jvm.MethodName) method_59_code (3 : Nat) (Option.some Jvm.ClassFile.FieldType.int) [((0 : Nat), (8 : Nat), (11 : Nat), (21 : Nat))]) ∈ lw_all := lw_g (lw_at lw_m16 183 rfl) rfl
theorem q3911 : (Jvm.Cond.methodLink "FlareSlopesLaw" (194 : Nat) ({ cls := "FlareSlopes", name := "undo", desc := "()I" } : Jvm.MethodName)) ∈ lw_all := lw_g (lw_at lw_m16 184 rfl) rfl
theorem q3920 : (Jvm.Cond.methodLink "FlareSlopesLaw" (413 : Nat) ({ cls := "FlareSlopesLaw", name := "save", desc := "(LFlareSlopes;I[J)I" } : Jvm.MethodName)) ∈ lw_all := lw_g (lw_at lw_m16 193 rfl) rfl
theorem q3921 : (Jvm.Cond.static ({ cls := "FlareSlopesLaw", name := "save", desc := "(LFlareSlopes;I[J)I" } : Jvm.MethodName)) ∈ lw_all := lw_g (lw_at lw_m16 194 rfl) rfl
theorem q3922 : (Jvm.Cond.codeWith ({ cls := "FlareSlopesLaw", name := "save", desc := "(LFlareSlopes;I[J)I" } : Jvm.MethodName) method_60_code (4 : Nat) (Option.some Jvm.ClassFile.FieldType.int) [((0 : Nat), (9 : Nat), (12 : Nat), (21 : Nat)), ((0 : Nat), (9 : Nat), (15 : Nat), (13 : Nat))]) ∈ lw_all := lw_g (lw_at lw_m16 195 rfl) rfl
theorem q3923 : (Jvm.Cond.methodLink "FlareSlopesLaw" (197 : Nat) ({ cls := "FlareSlopes", name := "save", desc := "(I)I" } : Jvm.MethodName)) ∈ lw_all := lw_g (lw_at lw_m16 196 rfl) rfl
theorem q3927 : (Jvm.Cond.methodLink "FlareSlopesLaw" (416 : Nat) ({ cls := "FlareSlopesLaw", name := "restore", desc := "(LFlareSlopes;I[J)I" } : Jvm.MethodName)) ∈ lw_all := lw_g (lw_at lw_m16 200 rfl) rfl
theorem q3928 : (Jvm.Cond.static ({ cls := "FlareSlopesLaw", name := "restore", desc := "(LFlareSlopes;I[J)I" } : Jvm.MethodName)) ∈ lw_all := lw_g (lw_at lw_m16 201 rfl) rfl
theorem q3929 : (Jvm.Cond.codeWith ({ cls := "FlareSlopesLaw", name := "restore", desc := "(LFlareSlopes;I[J)I" } : Jvm.MethodName) method_61_code (4 : Nat) (Option.some Jvm.ClassFile.FieldType.int) [((0 : Nat), (9 : Nat), (12 : Nat), (13 : Nat)), ((0 : Nat), (9 : Nat), (15 : Nat), (21 : Nat))]) ∈ lw_all := lw_g (lw_at lw_m16 202 rfl) rfl
theorem q3930 : (Jvm.Cond.methodLink "FlareSlopesLaw" (200 : Nat) ({ cls := "FlareSlopes", name := "restore", desc := "(I)I" } : Jvm.MethodName)) ∈ lw_all := lw_g (lw_at lw_m16 203 rfl) rfl
theorem q3934 : (Jvm.Cond.classLink "FlareSlopesLaw" (204 : Nat) "FlareSlopesModel") ∈ lw_all := lw_g (lw_at lw_m16 207 rfl) rfl
theorem q3936 : (Jvm.Cond.methodLink "FlareSlopesLaw" (206 : Nat) ({ cls := "FlareSlopesModel", name := "<init>", desc := "()V" } : Jvm.MethodName)) ∈ lw_all := lw_g (lw_at lw_m16 209 rfl) rfl
theorem q4009 : (Jvm.Cond.methodLink "FlareSlopesLaw" (218 : Nat) ({ cls := "FlareSlopesModel", name := "thrown", desc := "()I" } : Jvm.MethodName)) ∈ lw_all := lw_g (lw_at lw_m17 42 rfl) rfl
theorem q4013 : (Jvm.Cond.methodLink "FlareSlopesLaw" (211 : Nat) ({ cls := "FlareSlopesModel", name := "append", desc := "(IIIII)I" } : Jvm.MethodName)) ∈ lw_all := lw_g (lw_at lw_m17 46 rfl) rfl
theorem q4021 : (Jvm.Cond.methodLink "FlareSlopesLaw" (224 : Nat) ({ cls := "FlareSlopesModel", name := "parseError", desc := "()I" } : Jvm.MethodName)) ∈ lw_all := lw_g (lw_at lw_m17 54 rfl) rfl
theorem q4025 : (Jvm.Cond.methodLink "FlareSlopesLaw" (228 : Nat) ({ cls := "FlareSlopesModel", name := "errorPosition", desc := "()I" } : Jvm.MethodName)) ∈ lw_all := lw_g (lw_at lw_m17 58 rfl) rfl
theorem q4029 : (Jvm.Cond.methodLink "FlareSlopesLaw" (232 : Nat) ({ cls := "FlareSlopesModel", name := "buffered", desc := "()I" } : Jvm.MethodName)) ∈ lw_all := lw_g (lw_at lw_m17 62 rfl) rfl
theorem q4033 : (Jvm.Cond.methodLink "FlareSlopesLaw" (217 : Nat) ({ cls := "FlareSlopesModel", name := "load", desc := "(I)I" } : Jvm.MethodName)) ∈ lw_all := lw_g (lw_at lw_m17 66 rfl) rfl
theorem q4141 : (Jvm.Cond.methodLink "FlareSlopesLaw" (236 : Nat) ({ cls := "FlareSlopesModel", name := "find", desc := "(IZ)I" } : Jvm.MethodName)) ∈ lw_all := lw_g (lw_at lw_m17 174 rfl) rfl
theorem q4153 : (Jvm.Cond.methodLink "FlareSlopesLaw" (239 : Nat) ({ cls := "FlareSlopesModel", name := "count", desc := "(I)I" } : Jvm.MethodName)) ∈ lw_all := lw_g (lw_at lw_m17 186 rfl) rfl
theorem q4206 : (Jvm.Cond.methodLink "FlareSlopesLaw" (242 : Nat) ({ cls := "FlareSlopesModel", name := "setting", desc := "(I)I" } : Jvm.MethodName)) ∈ lw_all := lw_g (lw_at lw_m17 239 rfl) rfl
theorem q4210 : (Jvm.Cond.methodLink "FlareSlopesLaw" (246 : Nat) ({ cls := "FlareSlopesModel", name := "cabin", desc := "(II)I" } : Jvm.MethodName)) ∈ lw_all := lw_g (lw_at lw_m18 3 rfl) rfl
theorem q4241 : (Jvm.Cond.methodLink "FlareSlopesLaw" (249 : Nat) ({ cls := "FlareSlopesModel", name := "slope", desc := "(II)I" } : Jvm.MethodName)) ∈ lw_all := lw_g (lw_at lw_m18 34 rfl) rfl
theorem q4288 : (Jvm.Cond.methodLink "FlareSlopesLaw" (252 : Nat) ({ cls := "FlareSlopesModel", name := "ridge", desc := "(II)I" } : Jvm.MethodName)) ∈ lw_all := lw_g (lw_at lw_m18 81 rfl) rfl
theorem q4292 : (Jvm.Cond.methodLink "FlareSlopesLaw" (255 : Nat) ({ cls := "FlareSlopesModel", name := "fog", desc := "(II)I" } : Jvm.MethodName)) ∈ lw_all := lw_g (lw_at lw_m18 85 rfl) rfl
theorem q4296 : (Jvm.Cond.methodLink "FlareSlopesLaw" (259 : Nat) ({ cls := "FlareSlopesModel", name := "sight", desc := "()I" } : Jvm.MethodName)) ∈ lw_all := lw_g (lw_at lw_m18 89 rfl) rfl
theorem q4304 : (Jvm.Cond.methodLink "FlareSlopesLaw" (262 : Nat) ({ cls := "FlareSlopesModel", name := "sees", desc := "(II)Z" } : Jvm.MethodName)) ∈ lw_all := lw_g (lw_at lw_m18 97 rfl) rfl
theorem q4312 : (Jvm.Cond.methodLink "FlareSlopesLaw" (265 : Nat) ({ cls := "FlareSlopesModel", name := "seesSlope", desc := "(II)Z" } : Jvm.MethodName)) ∈ lw_all := lw_g (lw_at lw_m18 105 rfl) rfl
theorem q4320 : (Jvm.Cond.methodLink "FlareSlopesLaw" (268 : Nat) ({ cls := "FlareSlopesModel", name := "seers", desc := "(I)I" } : Jvm.MethodName)) ∈ lw_all := lw_g (lw_at lw_m18 113 rfl) rfl
theorem q4332 : (Jvm.Cond.methodLink "FlareSlopesLaw" (274 : Nat) ({ cls := "FlareSlopesModel", name := "reached", desc := "(I)I" } : Jvm.MethodName)) ∈ lw_all := lw_g (lw_at lw_m18 125 rfl) rfl
theorem q4340 : (Jvm.Cond.methodLink "FlareSlopesLaw" (277 : Nat) ({ cls := "FlareSlopesModel", name := "steps", desc := "(II)I" } : Jvm.MethodName)) ∈ lw_all := lw_g (lw_at lw_m18 133 rfl) rfl
theorem q4344 : (Jvm.Cond.methodLink "FlareSlopesLaw" (280 : Nat) ({ cls := "FlareSlopesModel", name := "ridgesBetween", desc := "(II)I" } : Jvm.MethodName)) ∈ lw_all := lw_g (lw_at lw_m18 137 rfl) rfl
theorem q4348 : (Jvm.Cond.methodLink "FlareSlopesLaw" (271 : Nat) ({ cls := "FlareSlopesModel", name := "distance", desc := "(II)I" } : Jvm.MethodName)) ∈ lw_all := lw_g (lw_at lw_m18 141 rfl) rfl
theorem q4352 : (Jvm.Cond.methodLink "FlareSlopesLaw" (284 : Nat) ({ cls := "FlareSlopesModel", name := "vote", desc := "(IIII)I" } : Jvm.MethodName)) ∈ lw_all := lw_g (lw_at lw_m18 145 rfl) rfl
theorem q4359 : (Jvm.Cond.methodLink "FlareSlopesLaw" (288 : Nat) ({ cls := "FlareSlopesModel", name := "weights", desc := "(IIZ)I" } : Jvm.MethodName)) ∈ lw_all := lw_g (lw_at lw_m18 152 rfl) rfl
theorem q4363 : (Jvm.Cond.methodLink "FlareSlopesLaw" (291 : Nat) ({ cls := "FlareSlopesModel", name := "rules", desc := "(II)I" } : Jvm.MethodName)) ∈ lw_all := lw_g (lw_at lw_m18 156 rfl) rfl
theorem q4371 : (Jvm.Cond.methodLink "FlareSlopesLaw" (294 : Nat) ({ cls := "FlareSlopesModel", name := "run", desc := "(II)I" } : Jvm.MethodName)) ∈ lw_all := lw_g (lw_at lw_m18 164 rfl) rfl
theorem q4379 : (Jvm.Cond.methodLink "FlareSlopesLaw" (297 : Nat) ({ cls := "FlareSlopesModel", name := "isClosed", desc := "(II)Z" } : Jvm.MethodName)) ∈ lw_all := lw_g (lw_at lw_m18 172 rfl) rfl
theorem q4383 : (Jvm.Cond.methodLink "FlareSlopesLaw" (300 : Nat) ({ cls := "FlareSlopesModel", name := "toldClosed", desc := "(II)Z" } : Jvm.MethodName)) ∈ lw_all := lw_g (lw_at lw_m18 176 rfl) rfl
theorem q4391 : (Jvm.Cond.methodLink "FlareSlopesLaw" (309 : Nat) ({ cls := "FlareSlopesModel", name := "disputes", desc := "(I)I" } : Jvm.MethodName)) ∈ lw_all := lw_g (lw_at lw_m18 184 rfl) rfl
theorem q4395 : (Jvm.Cond.methodLink "FlareSlopesLaw" (312 : Nat) ({ cls := "FlareSlopesModel", name := "falseVotes", desc := "(I)I" } : Jvm.MethodName)) ∈ lw_all := lw_g (lw_at lw_m18 188 rfl) rfl
theorem q4399 : (Jvm.Cond.methodLink "FlareSlopesLaw" (315 : Nat) ({ cls := "FlareSlopesModel", name := "oldestVote", desc := "(I)I" } : Jvm.MethodName)) ∈ lw_all := lw_g (lw_at lw_m18 192 rfl) rfl
theorem q4403 : (Jvm.Cond.methodLink "FlareSlopesLaw" (318 : Nat) ({ cls := "FlareSlopesModel", name := "risky", desc := "()I" } : Jvm.MethodName)) ∈ lw_all := lw_g (lw_at lw_m18 196 rfl) rfl
theorem q4407 : (Jvm.Cond.methodLink "FlareSlopesLaw" (321 : Nat) ({ cls := "FlareSlopesModel", name := "weightiest", desc := "(I)I" } : Jvm.MethodName)) ∈ lw_all := lw_g (lw_at lw_m18 200 rfl) rfl
theorem q4415 : (Jvm.Cond.methodLink "FlareSlopesLaw" (303 : Nat) ({ cls := "FlareSlopesModel", name := "closers", desc := "(I)I" } : Jvm.MethodName)) ∈ lw_all := lw_g (lw_at lw_m18 208 rfl) rfl
theorem q4419 : (Jvm.Cond.methodLink "FlareSlopesLaw" (306 : Nat) ({ cls := "FlareSlopesModel", name := "quarrels", desc := "(I)I" } : Jvm.MethodName)) ∈ lw_all := lw_g (lw_at lw_m18 212 rfl) rfl
theorem q4423 : (Jvm.Cond.methodLink "FlareSlopesLaw" (324 : Nat) ({ cls := "FlareSlopesModel", name := "leastTrusted", desc := "()I" } : Jvm.MethodName)) ∈ lw_all := lw_g (lw_at lw_m18 216 rfl) rfl
theorem q4427 : (Jvm.Cond.methodLink "FlareSlopesLaw" (327 : Nat) ({ cls := "FlareSlopesModel", name := "loneliest", desc := "()I" } : Jvm.MethodName)) ∈ lw_all := lw_g (lw_at lw_m18 220 rfl) rfl
theorem q4431 : (Jvm.Cond.methodLink "FlareSlopesLaw" (331 : Nat) ({ cls := "FlareSlopesModel", name := "meanTrust", desc := "()D" } : Jvm.MethodName)) ∈ lw_all := lw_g (lw_at lw_m18 224 rfl) rfl
theorem q4435 : (Jvm.Cond.methodLink "FlareSlopesLaw" (335 : Nat) ({ cls := "FlareSlopesModel", name := "closedShare", desc := "(I)F" } : Jvm.MethodName)) ∈ lw_all := lw_g (lw_at lw_m18 228 rfl) rfl
theorem q4439 : (Jvm.Cond.methodLink "FlareSlopesLaw" (338 : Nat) ({ cls := "FlareSlopesModel", name := "bulletin", desc := "(II)I" } : Jvm.MethodName)) ∈ lw_all := lw_g (lw_at lw_m18 232 rfl) rfl
theorem q4448 : (Jvm.Cond.methodLink "FlareSlopesLaw" (341 : Nat) ({ cls := "FlareSlopesModel", name := "closesIn", desc := "(II)I" } : Jvm.MethodName)) ∈ lw_all := lw_g (lw_at lw_m19 1 rfl) rfl
theorem q4476 : (Jvm.Cond.methodLink "FlareSlopesLaw" (344 : Nat) ({ cls := "FlareSlopesModel", name := "opensIn", desc := "(II)I" } : Jvm.MethodName)) ∈ lw_all := lw_g (lw_at lw_m19 29 rfl) rfl
theorem q4480 : (Jvm.Cond.methodLink "FlareSlopesLaw" (347 : Nat) ({ cls := "FlareSlopesModel", name := "closersIn", desc := "(II)I" } : Jvm.MethodName)) ∈ lw_all := lw_g (lw_at lw_m19 33 rfl) rfl
theorem q4491 : (Jvm.Cond.methodLink "FlareSlopesLaw" (350 : Nat) ({ cls := "FlareSlopesModel", name := "votesIn", desc := "(I)I" } : Jvm.MethodName)) ∈ lw_all := lw_g (lw_at lw_m19 44 rfl) rfl
theorem q4495 : (Jvm.Cond.methodLink "FlareSlopesLaw" (353 : Nat) ({ cls := "FlareSlopesModel", name := "seeIn", desc := "(II)I" } : Jvm.MethodName)) ∈ lw_all := lw_g (lw_at lw_m19 48 rfl) rfl
theorem q4499 : (Jvm.Cond.methodLink "FlareSlopesLaw" (357 : Nat) ({ cls := "FlareSlopesModel", name := "closersIf", desc := "(III)I" } : Jvm.MethodName)) ∈ lw_all := lw_g (lw_at lw_m19 52 rfl) rfl
theorem q4514 : (Jvm.Cond.methodLink "FlareSlopesLaw" (360 : Nat) ({ cls := "FlareSlopesModel", name := "bestCaller", desc := "(II)I" } : Jvm.MethodName)) ∈ lw_all := lw_g (lw_at lw_m19 67 rfl) rfl
theorem q4518 : (Jvm.Cond.methodLink "FlareSlopesLaw" (363 : Nat) ({ cls := "FlareSlopesModel", name := "leastShare", desc := "(II)I" } : Jvm.MethodName)) ∈ lw_all := lw_g (lw_at lw_m19 71 rfl) rfl
theorem q4522 : (Jvm.Cond.methodLink "FlareSlopesLaw" (366 : Nat) ({ cls := "FlareSlopesModel", name := "writeBulletin", desc := "(I)I" } : Jvm.MethodName)) ∈ lw_all := lw_g (lw_at lw_m19 75 rfl) rfl
theorem q4535 : (Jvm.Cond.methodLink "FlareSlopesLaw" (369 : Nat) ({ cls := "FlareSlopesModel", name := "writeVotes", desc := "(II)I" } : Jvm.MethodName)) ∈ lw_all := lw_g (lw_at lw_m19 88 rfl) rfl
theorem q4543 : (Jvm.Cond.methodLink "FlareSlopesLaw" (372 : Nat) ({ cls := "FlareSlopesModel", name := "writeView", desc := "()I" } : Jvm.MethodName)) ∈ lw_all := lw_g (lw_at lw_m19 96 rfl) rfl
theorem q4547 : (Jvm.Cond.methodLink "FlareSlopesLaw" (375 : Nat) ({ cls := "FlareSlopesModel", name := "textByte", desc := "(I)I" } : Jvm.MethodName)) ∈ lw_all := lw_g (lw_at lw_m19 100 rfl) rfl
theorem q4551 : (Jvm.Cond.methodLink "FlareSlopesLaw" (378 : Nat) ({ cls := "FlareSlopesModel", name := "tick", desc := "(I)I" } : Jvm.MethodName)) ∈ lw_all := lw_g (lw_at lw_m19 104 rfl) rfl
theorem q4559 : (Jvm.Cond.methodLink "FlareSlopesLaw" (381 : Nat) ({ cls := "FlareSlopesModel", name := "flare", desc := "(IIZ)I" } : Jvm.MethodName)) ∈ lw_all := lw_g (lw_at lw_m19 112 rfl) rfl
theorem q4563 : (Jvm.Cond.methodLink "FlareSlopesLaw" (384 : Nat) ({ cls := "FlareSlopesModel", name := "inspect", desc := "(II)I" } : Jvm.MethodName)) ∈ lw_all := lw_g (lw_at lw_m19 116 rfl) rfl
theorem q4567 : (Jvm.Cond.methodLink "FlareSlopesLaw" (387 : Nat) ({ cls := "FlareSlopesModel", name := "danger", desc := "(IZ)Z" } : Jvm.MethodName)) ∈ lw_all := lw_g (lw_at lw_m19 120 rfl) rfl
theorem q4571 : (Jvm.Cond.methodLink "FlareSlopesLaw" (390 : Nat) ({ cls := "FlareSlopesModel", name := "issue", desc := "(I)I" } : Jvm.MethodName)) ∈ lw_all := lw_g (lw_at lw_m19 124 rfl) rfl
theorem q4575 : (Jvm.Cond.methodLink "FlareSlopesLaw" (393 : Nat) ({ cls := "FlareSlopesModel", name := "give", desc := "(II)I" } : Jvm.MethodName)) ∈ lw_all := lw_g (lw_at lw_m19 128 rfl) rfl
theorem q4579 : (Jvm.Cond.methodLink "FlareSlopesLaw" (396 : Nat) ({ cls := "FlareSlopesModel", name := "move", desc := "(III)I" } : Jvm.MethodName)) ∈ lw_all := lw_g (lw_at lw_m19 132 rfl) rfl
theorem q4583 : (Jvm.Cond.methodLink "FlareSlopesLaw" (399 : Nat) ({ cls := "FlareSlopesModel", name := "trust", desc := "(II)I" } : Jvm.MethodName)) ∈ lw_all := lw_g (lw_at lw_m19 136 rfl) rfl
theorem q4587 : (Jvm.Cond.methodLink "FlareSlopesLaw" (402 : Nat) ({ cls := "FlareSlopesModel", name := "forget", desc := "(I)I" } : Jvm.MethodName)) ∈ lw_all := lw_g (lw_at lw_m19 140 rfl) rfl
theorem q4591 : (Jvm.Cond.methodLink "FlareSlopesLaw" (405 : Nat) ({ cls := "FlareSlopesModel", name := "set", desc := "(II)I" } : Jvm.MethodName)) ∈ lw_all := lw_g (lw_at lw_m19 144 rfl) rfl
theorem q4599 : (Jvm.Cond.methodLink "FlareSlopesLaw" (408 : Nat) ({ cls := "FlareSlopesModel", name := "undo", desc := "()I" } : Jvm.MethodName)) ∈ lw_all := lw_g (lw_at lw_m19 152 rfl) rfl
theorem q4603 : (Jvm.Cond.methodLink "FlareSlopesLaw" (412 : Nat) ({ cls := "FlareSlopesModel", name := "undoable", desc := "()I" } : Jvm.MethodName)) ∈ lw_all := lw_g (lw_at lw_m19 156 rfl) rfl
theorem q4607 : (Jvm.Cond.methodLink "FlareSlopesLaw" (415 : Nat) ({ cls := "FlareSlopesModel", name := "save", desc := "(I)I" } : Jvm.MethodName)) ∈ lw_all := lw_g (lw_at lw_m19 160 rfl) rfl
theorem q4611 : (Jvm.Cond.methodLink "FlareSlopesLaw" (418 : Nat) ({ cls := "FlareSlopesModel", name := "restore", desc := "(I)I" } : Jvm.MethodName)) ∈ lw_all := lw_g (lw_at lw_m19 164 rfl) rfl
/-! X1.FlareSlopes.lean.txt -/
def RX1 : String := "FlareSlopes"
def TX1 : u_T := fun k => match k with
  | 0 => ("FlareSlopes", "buffer", "[B", true)
  | 1 => ("FlareSlopes", "buffered", "I", false)
  | 2 => ("FlareSlopes", "parseError", "I", false)
  | 3 => ("FlareSlopes", "errorPosition", "I", false)
  | 4 => ("FlareSlopes", "now", "LFlareSlopes$State;", false)
  | 5 => ("FlareSlopes", "past", "Ljava/util/ArrayDeque;", true)
  | 6 => ("FlareSlopes", "saved", "[LFlareSlopes$State;", true)
  | _ => ("FlareSlopes", "output", "Ljava/lang/StringBuilder;", true)
def tyX1 : Nat → FieldType := fun k => match k with
  | 0 => .array .byte
  | 1 => .int
  | 2 => .int
  | 3 => .int
  | 4 => .object "FlareSlopes$State"
  | 5 => .object "java/util/ArrayDeque"
  | 6 => .array (.object "FlareSlopes$State")
  | _ => .object "java/lang/StringBuilder"
abbrev wsX10 : List Cond := u_ws RX1 TX1 8
theorem nmX1 : ∀ a, a < 8 → ∀ b, b < 8 → a ≠ b → (TX1 a).2.1 ≠ (TX1 b).2.1 := by decide +kernel
theorem tyX1_ok : ∀ k, k < 8 → parseFieldDescriptor (TX1 k).2.2.1 = some (tyX1 k) := by decide +kernel
abbrev cX1_init : ByteArray := prog_1_method_5_code
def yX1_init : MethodName := ⟨RX1, "<init>", "()V"⟩
def dkwX1_init_2 : List UInt8 := [181, 0, 39, 177]
abbrev dktX1_init_2 : List UInt8 := dkwX1_init_2 ++ []
def dkwX1_init_1 : List UInt8 := [183, 0, 25, 181, 0, 26, 42, 5, 189, 0, 30, 181, 0, 32, 42, 187, 0, 36, 89, 183, 0, 38]
abbrev dktX1_init_1 : List UInt8 := dkwX1_init_1 ++ dktX1_init_2
def dkwX1_init_0 : List UInt8 := [42, 183, 0, 9, 42, 17, 2, 188, 188, 8, 181, 0, 15, 42, 2, 181, 0, 19, 42, 187, 0, 23, 89]
abbrev dktX1_init_0 : List UInt8 := dkwX1_init_0 ++ dktX1_init_1
theorem dksX1_init_0 : cX1_init.data.toList.drop 0 = dktX1_init_0 := by decide +kernel
theorem dksX1_init_1 : cX1_init.data.toList.drop 23 = dktX1_init_1 := dk_seg dksX1_init_0 23 rfl rfl
theorem dksX1_init_2 : cX1_init.data.toList.drop 45 = dktX1_init_2 := dk_seg dksX1_init_1 22 rfl rfl
theorem dX1_init_0 : decode cX1_init 0 = .ok (.aload_n 0, 1) := dk_42 (dk_at dksX1_init_0 0 rfl rfl)
theorem dX1_init_1 : decode cX1_init 1 = .ok (.invokespecial 9, 3) := dk_183 0 9 (dk_at dksX1_init_0 1 rfl rfl)
theorem dX1_init_4 : decode cX1_init 4 = .ok (.aload_n 0, 1) := dk_42 (dk_at dksX1_init_0 4 rfl rfl)
theorem dX1_init_5 : decode cX1_init 5 = .ok (.sipush 700, 3) := dk_17 2 188 (dk_at dksX1_init_0 5 rfl rfl)
theorem dX1_init_8 : decode cX1_init 8 = .ok (.newarray .byte, 2) := dk_188_8 (dk_at dksX1_init_0 8 rfl rfl)
theorem dX1_init_10 : decode cX1_init 10 = .ok (.putfield 15, 3) := dk_181 0 15 (dk_at dksX1_init_0 10 rfl rfl)
theorem dX1_init_13 : decode cX1_init 13 = .ok (.aload_n 0, 1) := dk_42 (dk_at dksX1_init_0 13 rfl rfl)
theorem dX1_init_14 : decode cX1_init 14 = .ok (.iconst (-1), 1) := dk_2 (dk_at dksX1_init_0 14 rfl rfl)
theorem dX1_init_15 : decode cX1_init 15 = .ok (.putfield 19, 3) := dk_181 0 19 (dk_at dksX1_init_0 15 rfl rfl)
theorem dX1_init_18 : decode cX1_init 18 = .ok (.aload_n 0, 1) := dk_42 (dk_at dksX1_init_0 18 rfl rfl)
theorem dX1_init_19 : decode cX1_init 19 = .ok (.new 23, 3) := dk_187 0 23 (dk_at dksX1_init_0 19 rfl rfl)
theorem dX1_init_22 : decode cX1_init 22 = .ok (.dup, 1) := dk_89 (dk_at dksX1_init_0 22 rfl rfl)
theorem dX1_init_23 : decode cX1_init 23 = .ok (.invokespecial 25, 3) := dk_183 0 25 (dk_at dksX1_init_1 0 rfl rfl)
theorem dX1_init_26 : decode cX1_init 26 = .ok (.putfield 26, 3) := dk_181 0 26 (dk_at dksX1_init_1 3 rfl rfl)
theorem dX1_init_29 : decode cX1_init 29 = .ok (.aload_n 0, 1) := dk_42 (dk_at dksX1_init_1 6 rfl rfl)
theorem dX1_init_30 : decode cX1_init 30 = .ok (.iconst 2, 1) := dk_5 (dk_at dksX1_init_1 7 rfl rfl)
theorem dX1_init_31 : decode cX1_init 31 = .ok (.anewarray 30, 3) := dk_189 0 30 (dk_at dksX1_init_1 8 rfl rfl)
theorem dX1_init_34 : decode cX1_init 34 = .ok (.putfield 32, 3) := dk_181 0 32 (dk_at dksX1_init_1 11 rfl rfl)
theorem dX1_init_37 : decode cX1_init 37 = .ok (.aload_n 0, 1) := dk_42 (dk_at dksX1_init_1 14 rfl rfl)
theorem dX1_init_38 : decode cX1_init 38 = .ok (.new 36, 3) := dk_187 0 36 (dk_at dksX1_init_1 15 rfl rfl)
theorem dX1_init_41 : decode cX1_init 41 = .ok (.dup, 1) := dk_89 (dk_at dksX1_init_1 18 rfl rfl)
theorem dX1_init_42 : decode cX1_init 42 = .ok (.invokespecial 38, 3) := dk_183 0 38 (dk_at dksX1_init_1 19 rfl rfl)
theorem dX1_init_45 : decode cX1_init 45 = .ok (.putfield 39, 3) := dk_181 0 39 (dk_at dksX1_init_2 0 rfl rfl)
theorem dX1_init_48 : decode cX1_init 48 = .ok (.return_, 1) := dk_177 (dk_at dksX1_init_2 3 rfl rfl)
abbrev cX1_append : ByteArray := prog_1_method_14_code
def yX1_append : MethodName := ⟨RX1, "append", "(IIIII)I"⟩
def dkwX1_append_4 : List UInt8 := [96, 181, 0, 90, 132, 10, 248, 167, 255, 223, 132, 8, 1, 167, 255, 199, 42, 180, 0, 90, 172]
abbrev dktX1_append_4 : List UInt8 := dkwX1_append_4 ++ []
def dkwX1_append_3 : List UInt8 := [155, 0, 34, 42, 180, 0, 15, 42, 180, 0, 90, 21, 9, 21, 10, 122, 145, 84, 42, 89, 180, 0, 90, 4]
abbrev dktX1_append_3 : List UInt8 := dkwX1_append_3 ++ dktX1_append_4
def dkwX1_append_2 : List UInt8 := [54, 8, 21, 8, 21, 7, 162, 0, 56, 25, 6, 21, 8, 46, 54, 9, 16, 24, 54, 10, 21, 10]
abbrev dktX1_append_2 : List UInt8 := dkwX1_append_2 ++ dktX1_append_3
def dkwX1_append_1 : List UInt8 := [28, 79, 89, 5, 29, 79, 89, 6, 21, 4, 79, 89, 7, 21, 5, 79, 58, 6, 25, 6, 190, 54, 7, 3]
abbrev dktX1_append_1 : List UInt8 := dkwX1_append_1 ++ dktX1_append_2
def dkwX1_append_0 : List UInt8 := [42, 180, 0, 90, 16, 20, 96, 17, 2, 188, 164, 0, 5, 2, 172, 8, 188, 10, 89, 3, 27, 79, 89, 4]
abbrev dktX1_append_0 : List UInt8 := dkwX1_append_0 ++ dktX1_append_1
theorem dksX1_append_0 : cX1_append.data.toList.drop 0 = dktX1_append_0 := by decide +kernel
theorem dksX1_append_1 : cX1_append.data.toList.drop 24 = dktX1_append_1 := dk_seg dksX1_append_0 24 rfl rfl
theorem dksX1_append_2 : cX1_append.data.toList.drop 48 = dktX1_append_2 := dk_seg dksX1_append_1 24 rfl rfl
theorem dksX1_append_3 : cX1_append.data.toList.drop 70 = dktX1_append_3 := dk_seg dksX1_append_2 22 rfl rfl
theorem dksX1_append_4 : cX1_append.data.toList.drop 94 = dktX1_append_4 := dk_seg dksX1_append_3 24 rfl rfl
theorem dX1_append_0 : decode cX1_append 0 = .ok (.aload_n 0, 1) := dk_42 (dk_at dksX1_append_0 0 rfl rfl)
theorem dX1_append_1 : decode cX1_append 1 = .ok (.getfield 90, 3) := dk_180 0 90 (dk_at dksX1_append_0 1 rfl rfl)
theorem dX1_append_4 : decode cX1_append 4 = .ok (.bipush 20, 2) := dk_16 20 (dk_at dksX1_append_0 4 rfl rfl)
theorem dX1_append_6 : decode cX1_append 6 = .ok (.iadd, 1) := dk_96 (dk_at dksX1_append_0 6 rfl rfl)
theorem dX1_append_7 : decode cX1_append 7 = .ok (.sipush 700, 3) := dk_17 2 188 (dk_at dksX1_append_0 7 rfl rfl)
theorem dX1_append_10 : decode cX1_append 10 = .ok (.if_icmp .le 5, 3) := dk_164 0 5 (dk_at dksX1_append_0 10 rfl rfl)
theorem dX1_append_13 : decode cX1_append 13 = .ok (.iconst (-1), 1) := dk_2 (dk_at dksX1_append_0 13 rfl rfl)
theorem dX1_append_14 : decode cX1_append 14 = .ok (.ireturn, 1) := dk_172 (dk_at dksX1_append_0 14 rfl rfl)
theorem dX1_append_15 : decode cX1_append 15 = .ok (.iconst 5, 1) := dk_8 (dk_at dksX1_append_0 15 rfl rfl)
theorem dX1_append_16 : decode cX1_append 16 = .ok (.newarray .int, 2) := dk_188_10 (dk_at dksX1_append_0 16 rfl rfl)
theorem dX1_append_18 : decode cX1_append 18 = .ok (.dup, 1) := dk_89 (dk_at dksX1_append_0 18 rfl rfl)
theorem dX1_append_19 : decode cX1_append 19 = .ok (.iconst 0, 1) := dk_3 (dk_at dksX1_append_0 19 rfl rfl)
theorem dX1_append_20 : decode cX1_append 20 = .ok (.iload_n 1, 1) := dk_27 (dk_at dksX1_append_0 20 rfl rfl)
theorem dX1_append_21 : decode cX1_append 21 = .ok (.iastore, 1) := dk_79 (dk_at dksX1_append_0 21 rfl rfl)
theorem dX1_append_22 : decode cX1_append 22 = .ok (.dup, 1) := dk_89 (dk_at dksX1_append_0 22 rfl rfl)
theorem dX1_append_23 : decode cX1_append 23 = .ok (.iconst 1, 1) := dk_4 (dk_at dksX1_append_0 23 rfl rfl)
theorem dX1_append_24 : decode cX1_append 24 = .ok (.iload_n 2, 1) := dk_28 (dk_at dksX1_append_1 0 rfl rfl)
theorem dX1_append_25 : decode cX1_append 25 = .ok (.iastore, 1) := dk_79 (dk_at dksX1_append_1 1 rfl rfl)
theorem dX1_append_26 : decode cX1_append 26 = .ok (.dup, 1) := dk_89 (dk_at dksX1_append_1 2 rfl rfl)
theorem dX1_append_27 : decode cX1_append 27 = .ok (.iconst 2, 1) := dk_5 (dk_at dksX1_append_1 3 rfl rfl)
theorem dX1_append_28 : decode cX1_append 28 = .ok (.iload_n 3, 1) := dk_29 (dk_at dksX1_append_1 4 rfl rfl)
theorem dX1_append_29 : decode cX1_append 29 = .ok (.iastore, 1) := dk_79 (dk_at dksX1_append_1 5 rfl rfl)
theorem dX1_append_30 : decode cX1_append 30 = .ok (.dup, 1) := dk_89 (dk_at dksX1_append_1 6 rfl rfl)
theorem dX1_append_31 : decode cX1_append 31 = .ok (.iconst 3, 1) := dk_6 (dk_at dksX1_append_1 7 rfl rfl)
theorem dX1_append_32 : decode cX1_append 32 = .ok (.iload 4, 2) := dk_21 4 (dk_at dksX1_append_1 8 rfl rfl)
theorem dX1_append_34 : decode cX1_append 34 = .ok (.iastore, 1) := dk_79 (dk_at dksX1_append_1 10 rfl rfl)
theorem dX1_append_35 : decode cX1_append 35 = .ok (.dup, 1) := dk_89 (dk_at dksX1_append_1 11 rfl rfl)
theorem dX1_append_36 : decode cX1_append 36 = .ok (.iconst 4, 1) := dk_7 (dk_at dksX1_append_1 12 rfl rfl)
theorem dX1_append_37 : decode cX1_append 37 = .ok (.iload 5, 2) := dk_21 5 (dk_at dksX1_append_1 13 rfl rfl)
theorem dX1_append_39 : decode cX1_append 39 = .ok (.iastore, 1) := dk_79 (dk_at dksX1_append_1 15 rfl rfl)
theorem dX1_append_40 : decode cX1_append 40 = .ok (.astore 6, 2) := dk_58 6 (dk_at dksX1_append_1 16 rfl rfl)
theorem dX1_append_42 : decode cX1_append 42 = .ok (.aload 6, 2) := dk_25 6 (dk_at dksX1_append_1 18 rfl rfl)
theorem dX1_append_44 : decode cX1_append 44 = .ok (.arraylength, 1) := dk_190 (dk_at dksX1_append_1 20 rfl rfl)
theorem dX1_append_45 : decode cX1_append 45 = .ok (.istore 7, 2) := dk_54 7 (dk_at dksX1_append_1 21 rfl rfl)
theorem dX1_append_47 : decode cX1_append 47 = .ok (.iconst 0, 1) := dk_3 (dk_at dksX1_append_1 23 rfl rfl)
theorem dX1_append_48 : decode cX1_append 48 = .ok (.istore 8, 2) := dk_54 8 (dk_at dksX1_append_2 0 rfl rfl)
theorem dX1_append_50 : decode cX1_append 50 = .ok (.iload 8, 2) := dk_21 8 (dk_at dksX1_append_2 2 rfl rfl)
theorem dX1_append_52 : decode cX1_append 52 = .ok (.iload 7, 2) := dk_21 7 (dk_at dksX1_append_2 4 rfl rfl)
theorem dX1_append_54 : decode cX1_append 54 = .ok (.if_icmp .ge 56, 3) := dk_162 0 56 (dk_at dksX1_append_2 6 rfl rfl)
theorem dX1_append_57 : decode cX1_append 57 = .ok (.aload 6, 2) := dk_25 6 (dk_at dksX1_append_2 9 rfl rfl)
theorem dX1_append_59 : decode cX1_append 59 = .ok (.iload 8, 2) := dk_21 8 (dk_at dksX1_append_2 11 rfl rfl)
theorem dX1_append_61 : decode cX1_append 61 = .ok (.iaload, 1) := dk_46 (dk_at dksX1_append_2 13 rfl rfl)
theorem dX1_append_62 : decode cX1_append 62 = .ok (.istore 9, 2) := dk_54 9 (dk_at dksX1_append_2 14 rfl rfl)
theorem dX1_append_64 : decode cX1_append 64 = .ok (.bipush 24, 2) := dk_16 24 (dk_at dksX1_append_2 16 rfl rfl)
theorem dX1_append_66 : decode cX1_append 66 = .ok (.istore 10, 2) := dk_54 10 (dk_at dksX1_append_2 18 rfl rfl)
theorem dX1_append_68 : decode cX1_append 68 = .ok (.iload 10, 2) := dk_21 10 (dk_at dksX1_append_2 20 rfl rfl)
theorem dX1_append_70 : decode cX1_append 70 = .ok (.ifCond .lt 34, 3) := dk_155 0 34 (dk_at dksX1_append_3 0 rfl rfl)
theorem dX1_append_73 : decode cX1_append 73 = .ok (.aload_n 0, 1) := dk_42 (dk_at dksX1_append_3 3 rfl rfl)
theorem dX1_append_74 : decode cX1_append 74 = .ok (.getfield 15, 3) := dk_180 0 15 (dk_at dksX1_append_3 4 rfl rfl)
theorem dX1_append_77 : decode cX1_append 77 = .ok (.aload_n 0, 1) := dk_42 (dk_at dksX1_append_3 7 rfl rfl)
theorem dX1_append_78 : decode cX1_append 78 = .ok (.getfield 90, 3) := dk_180 0 90 (dk_at dksX1_append_3 8 rfl rfl)
theorem dX1_append_81 : decode cX1_append 81 = .ok (.iload 9, 2) := dk_21 9 (dk_at dksX1_append_3 11 rfl rfl)
theorem dX1_append_83 : decode cX1_append 83 = .ok (.iload 10, 2) := dk_21 10 (dk_at dksX1_append_3 13 rfl rfl)
theorem dX1_append_85 : decode cX1_append 85 = .ok (.ishr, 1) := dk_122 (dk_at dksX1_append_3 15 rfl rfl)
theorem dX1_append_86 : decode cX1_append 86 = .ok (.i2b, 1) := dk_145 (dk_at dksX1_append_3 16 rfl rfl)
theorem dX1_append_87 : decode cX1_append 87 = .ok (.bastore, 1) := dk_84 (dk_at dksX1_append_3 17 rfl rfl)
theorem dX1_append_88 : decode cX1_append 88 = .ok (.aload_n 0, 1) := dk_42 (dk_at dksX1_append_3 18 rfl rfl)
theorem dX1_append_89 : decode cX1_append 89 = .ok (.dup, 1) := dk_89 (dk_at dksX1_append_3 19 rfl rfl)
theorem dX1_append_90 : decode cX1_append 90 = .ok (.getfield 90, 3) := dk_180 0 90 (dk_at dksX1_append_3 20 rfl rfl)
theorem dX1_append_93 : decode cX1_append 93 = .ok (.iconst 1, 1) := dk_4 (dk_at dksX1_append_3 23 rfl rfl)
theorem dX1_append_94 : decode cX1_append 94 = .ok (.iadd, 1) := dk_96 (dk_at dksX1_append_4 0 rfl rfl)
theorem dX1_append_95 : decode cX1_append 95 = .ok (.putfield 90, 3) := dk_181 0 90 (dk_at dksX1_append_4 1 rfl rfl)
theorem dX1_append_98 : decode cX1_append 98 = .ok (.iinc 10 (-8), 3) := dk_132 10 248 (dk_at dksX1_append_4 4 rfl rfl)
theorem dX1_append_101 : decode cX1_append 101 = .ok (.goto (-33), 3) := dk_167 255 223 (dk_at dksX1_append_4 7 rfl rfl)
theorem dX1_append_104 : decode cX1_append 104 = .ok (.iinc 8 1, 3) := dk_132 8 1 (dk_at dksX1_append_4 10 rfl rfl)
theorem dX1_append_107 : decode cX1_append 107 = .ok (.goto (-57), 3) := dk_167 255 199 (dk_at dksX1_append_4 13 rfl rfl)
theorem dX1_append_110 : decode cX1_append 110 = .ok (.aload_n 0, 1) := dk_42 (dk_at dksX1_append_4 16 rfl rfl)
theorem dX1_append_111 : decode cX1_append 111 = .ok (.getfield 90, 3) := dk_180 0 90 (dk_at dksX1_append_4 17 rfl rfl)
theorem dX1_append_114 : decode cX1_append 114 = .ok (.ireturn, 1) := dk_172 (dk_at dksX1_append_4 20 rfl rfl)
abbrev cX1_parseError : ByteArray := prog_1_method_16_code
def yX1_parseError : MethodName := ⟨RX1, "parseError", "()I"⟩
theorem dX1_parseError_0 : decode cX1_parseError 0 = .ok (.aload_n 0, 1) := by decide +kernel
theorem dX1_parseError_1 : decode cX1_parseError 1 = .ok (.getfield 93, 3) := by decide +kernel
theorem dX1_parseError_4 : decode cX1_parseError 4 = .ok (.ireturn, 1) := by decide +kernel
abbrev cX1_errorPosition : ByteArray := prog_1_method_17_code
def yX1_errorPosition : MethodName := ⟨RX1, "errorPosition", "()I"⟩
theorem dX1_errorPosition_0 : decode cX1_errorPosition 0 = .ok (.aload_n 0, 1) := by decide +kernel
theorem dX1_errorPosition_1 : decode cX1_errorPosition 1 = .ok (.getfield 19, 3) := by decide +kernel
theorem dX1_errorPosition_4 : decode cX1_errorPosition 4 = .ok (.ireturn, 1) := by decide +kernel
abbrev cX1_buffered : ByteArray := prog_1_method_18_code
def yX1_buffered : MethodName := ⟨RX1, "buffered", "()I"⟩
theorem dX1_buffered_0 : decode cX1_buffered 0 = .ok (.aload_n 0, 1) := by decide +kernel
theorem dX1_buffered_1 : decode cX1_buffered 1 = .ok (.getfield 90, 3) := by decide +kernel
theorem dX1_buffered_4 : decode cX1_buffered 4 = .ok (.ireturn, 1) := by decide +kernel
abbrev cX1_undoable : ByteArray := prog_1_method_89_code
def yX1_undoable : MethodName := ⟨RX1, "undoable", "()I"⟩
def dkwX1_undoable_0 : List UInt8 := [42, 180, 0, 26, 182, 1, 177, 172]
abbrev dktX1_undoable_0 : List UInt8 := dkwX1_undoable_0 ++ []
theorem dksX1_undoable_0 : cX1_undoable.data.toList.drop 0 = dktX1_undoable_0 := by decide +kernel
theorem dX1_undoable_0 : decode cX1_undoable 0 = .ok (.aload_n 0, 1) := dk_42 (dk_at dksX1_undoable_0 0 rfl rfl)
theorem dX1_undoable_1 : decode cX1_undoable 1 = .ok (.getfield 26, 3) := dk_180 0 26 (dk_at dksX1_undoable_0 1 rfl rfl)
theorem dX1_undoable_4 : decode cX1_undoable 4 = .ok (.invokevirtual 433, 3) := dk_182 1 177 (dk_at dksX1_undoable_0 4 rfl rfl)
theorem dX1_undoable_7 : decode cX1_undoable 7 = .ok (.ireturn, 1) := dk_172 (dk_at dksX1_undoable_0 7 rfl rfl)
abbrev cX1_load : ByteArray := prog_1_method_15_code
def yX1_load : MethodName := ⟨RX1, "load", "(I)I"⟩
def dkwX1_load_4 : List UInt8 := [44, 180, 0, 116, 181, 0, 19, 187, 0, 43, 89, 183, 0, 45, 191]
abbrev dktX1_load_4 : List UInt8 := dkwX1_load_4 ++ []
def dkwX1_load_3 : List UInt8 := [132, 2, 1, 167, 255, 241, 42, 180, 0, 56, 182, 0, 68, 172, 77, 42, 44, 180, 0, 113, 181, 0, 93, 42]
abbrev dktX1_load_3 : List UInt8 := dkwX1_load_3 ++ dktX1_load_4
def dkwX1_load_2 : List UInt8 := [181, 0, 56, 42, 180, 0, 26, 182, 0, 108, 3, 61, 28, 5, 162, 0, 16, 42, 180, 0, 32, 28, 1, 83]
abbrev dktX1_load_2 : List UInt8 := dkwX1_load_2 ++ dktX1_load_3
def dkwX1_load_1 : List UInt8 := [181, 0, 19, 42, 187, 0, 30, 89, 187, 0, 96, 89, 42, 27, 183, 0, 98, 182, 0, 101, 183, 0, 105]
abbrev dktX1_load_1 : List UInt8 := dkwX1_load_1 ++ dktX1_load_2
def dkwX1_load_0 : List UInt8 := [27, 42, 180, 0, 90, 4, 96, 184, 0, 72, 42, 3, 181, 0, 90, 42, 3, 181, 0, 93, 42, 2]
abbrev dktX1_load_0 : List UInt8 := dkwX1_load_0 ++ dktX1_load_1
theorem dksX1_load_0 : cX1_load.data.toList.drop 0 = dktX1_load_0 := by decide +kernel
theorem dksX1_load_1 : cX1_load.data.toList.drop 22 = dktX1_load_1 := dk_seg dksX1_load_0 22 rfl rfl
theorem dksX1_load_2 : cX1_load.data.toList.drop 45 = dktX1_load_2 := dk_seg dksX1_load_1 23 rfl rfl
theorem dksX1_load_3 : cX1_load.data.toList.drop 69 = dktX1_load_3 := dk_seg dksX1_load_2 24 rfl rfl
theorem dksX1_load_4 : cX1_load.data.toList.drop 93 = dktX1_load_4 := dk_seg dksX1_load_3 24 rfl rfl
theorem dX1_load_0 : decode cX1_load 0 = .ok (.iload_n 1, 1) := dk_27 (dk_at dksX1_load_0 0 rfl rfl)
theorem dX1_load_1 : decode cX1_load 1 = .ok (.aload_n 0, 1) := dk_42 (dk_at dksX1_load_0 1 rfl rfl)
theorem dX1_load_2 : decode cX1_load 2 = .ok (.getfield 90, 3) := dk_180 0 90 (dk_at dksX1_load_0 2 rfl rfl)
theorem dX1_load_5 : decode cX1_load 5 = .ok (.iconst 1, 1) := dk_4 (dk_at dksX1_load_0 5 rfl rfl)
theorem dX1_load_6 : decode cX1_load 6 = .ok (.iadd, 1) := dk_96 (dk_at dksX1_load_0 6 rfl rfl)
theorem dX1_load_7 : decode cX1_load 7 = .ok (.invokestatic 72, 3) := dk_184 0 72 (dk_at dksX1_load_0 7 rfl rfl)
theorem dX1_load_10 : decode cX1_load 10 = .ok (.aload_n 0, 1) := dk_42 (dk_at dksX1_load_0 10 rfl rfl)
theorem dX1_load_11 : decode cX1_load 11 = .ok (.iconst 0, 1) := dk_3 (dk_at dksX1_load_0 11 rfl rfl)
theorem dX1_load_12 : decode cX1_load 12 = .ok (.putfield 90, 3) := dk_181 0 90 (dk_at dksX1_load_0 12 rfl rfl)
theorem dX1_load_15 : decode cX1_load 15 = .ok (.aload_n 0, 1) := dk_42 (dk_at dksX1_load_0 15 rfl rfl)
theorem dX1_load_16 : decode cX1_load 16 = .ok (.iconst 0, 1) := dk_3 (dk_at dksX1_load_0 16 rfl rfl)
theorem dX1_load_17 : decode cX1_load 17 = .ok (.putfield 93, 3) := dk_181 0 93 (dk_at dksX1_load_0 17 rfl rfl)
theorem dX1_load_20 : decode cX1_load 20 = .ok (.aload_n 0, 1) := dk_42 (dk_at dksX1_load_0 20 rfl rfl)
theorem dX1_load_21 : decode cX1_load 21 = .ok (.iconst (-1), 1) := dk_2 (dk_at dksX1_load_0 21 rfl rfl)
theorem dX1_load_22 : decode cX1_load 22 = .ok (.putfield 19, 3) := dk_181 0 19 (dk_at dksX1_load_1 0 rfl rfl)
theorem dX1_load_25 : decode cX1_load 25 = .ok (.aload_n 0, 1) := dk_42 (dk_at dksX1_load_1 3 rfl rfl)
theorem dX1_load_26 : decode cX1_load 26 = .ok (.new 30, 3) := dk_187 0 30 (dk_at dksX1_load_1 4 rfl rfl)
theorem dX1_load_29 : decode cX1_load 29 = .ok (.dup, 1) := dk_89 (dk_at dksX1_load_1 7 rfl rfl)
theorem dX1_load_30 : decode cX1_load 30 = .ok (.new 96, 3) := dk_187 0 96 (dk_at dksX1_load_1 8 rfl rfl)
theorem dX1_load_33 : decode cX1_load 33 = .ok (.dup, 1) := dk_89 (dk_at dksX1_load_1 11 rfl rfl)
theorem dX1_load_34 : decode cX1_load 34 = .ok (.aload_n 0, 1) := dk_42 (dk_at dksX1_load_1 12 rfl rfl)
theorem dX1_load_35 : decode cX1_load 35 = .ok (.iload_n 1, 1) := dk_27 (dk_at dksX1_load_1 13 rfl rfl)
theorem dX1_load_36 : decode cX1_load 36 = .ok (.invokespecial 98, 3) := dk_183 0 98 (dk_at dksX1_load_1 14 rfl rfl)
theorem dX1_load_39 : decode cX1_load 39 = .ok (.invokevirtual 101, 3) := dk_182 0 101 (dk_at dksX1_load_1 17 rfl rfl)
theorem dX1_load_42 : decode cX1_load 42 = .ok (.invokespecial 105, 3) := dk_183 0 105 (dk_at dksX1_load_1 20 rfl rfl)
theorem dX1_load_45 : decode cX1_load 45 = .ok (.putfield 56, 3) := dk_181 0 56 (dk_at dksX1_load_2 0 rfl rfl)
theorem dX1_load_48 : decode cX1_load 48 = .ok (.aload_n 0, 1) := dk_42 (dk_at dksX1_load_2 3 rfl rfl)
theorem dX1_load_49 : decode cX1_load 49 = .ok (.getfield 26, 3) := dk_180 0 26 (dk_at dksX1_load_2 4 rfl rfl)
theorem dX1_load_52 : decode cX1_load 52 = .ok (.invokevirtual 108, 3) := dk_182 0 108 (dk_at dksX1_load_2 7 rfl rfl)
theorem dX1_load_55 : decode cX1_load 55 = .ok (.iconst 0, 1) := dk_3 (dk_at dksX1_load_2 10 rfl rfl)
theorem dX1_load_56 : decode cX1_load 56 = .ok (.istore_n 2, 1) := dk_61 (dk_at dksX1_load_2 11 rfl rfl)
theorem dX1_load_57 : decode cX1_load 57 = .ok (.iload_n 2, 1) := dk_28 (dk_at dksX1_load_2 12 rfl rfl)
theorem dX1_load_58 : decode cX1_load 58 = .ok (.iconst 2, 1) := dk_5 (dk_at dksX1_load_2 13 rfl rfl)
theorem dX1_load_59 : decode cX1_load 59 = .ok (.if_icmp .ge 16, 3) := dk_162 0 16 (dk_at dksX1_load_2 14 rfl rfl)
theorem dX1_load_62 : decode cX1_load 62 = .ok (.aload_n 0, 1) := dk_42 (dk_at dksX1_load_2 17 rfl rfl)
theorem dX1_load_63 : decode cX1_load 63 = .ok (.getfield 32, 3) := dk_180 0 32 (dk_at dksX1_load_2 18 rfl rfl)
theorem dX1_load_66 : decode cX1_load 66 = .ok (.iload_n 2, 1) := dk_28 (dk_at dksX1_load_2 21 rfl rfl)
theorem dX1_load_67 : decode cX1_load 67 = .ok (.aconst_null, 1) := dk_1 (dk_at dksX1_load_2 22 rfl rfl)
theorem dX1_load_68 : decode cX1_load 68 = .ok (.aastore, 1) := dk_83 (dk_at dksX1_load_2 23 rfl rfl)
theorem dX1_load_69 : decode cX1_load 69 = .ok (.iinc 2 1, 3) := dk_132 2 1 (dk_at dksX1_load_3 0 rfl rfl)
theorem dX1_load_72 : decode cX1_load 72 = .ok (.goto (-15), 3) := dk_167 255 241 (dk_at dksX1_load_3 3 rfl rfl)
theorem dX1_load_75 : decode cX1_load 75 = .ok (.aload_n 0, 1) := dk_42 (dk_at dksX1_load_3 6 rfl rfl)
theorem dX1_load_76 : decode cX1_load 76 = .ok (.getfield 56, 3) := dk_180 0 56 (dk_at dksX1_load_3 7 rfl rfl)
theorem dX1_load_79 : decode cX1_load 79 = .ok (.invokevirtual 68, 3) := dk_182 0 68 (dk_at dksX1_load_3 10 rfl rfl)
theorem dX1_load_82 : decode cX1_load 82 = .ok (.ireturn, 1) := dk_172 (dk_at dksX1_load_3 13 rfl rfl)
theorem dX1_load_83 : decode cX1_load 83 = .ok (.astore_n 2, 1) := dk_77 (dk_at dksX1_load_3 14 rfl rfl)
theorem dX1_load_84 : decode cX1_load 84 = .ok (.aload_n 0, 1) := dk_42 (dk_at dksX1_load_3 15 rfl rfl)
theorem dX1_load_85 : decode cX1_load 85 = .ok (.aload_n 2, 1) := dk_44 (dk_at dksX1_load_3 16 rfl rfl)
theorem dX1_load_86 : decode cX1_load 86 = .ok (.getfield 113, 3) := dk_180 0 113 (dk_at dksX1_load_3 17 rfl rfl)
theorem dX1_load_89 : decode cX1_load 89 = .ok (.putfield 93, 3) := dk_181 0 93 (dk_at dksX1_load_3 20 rfl rfl)
theorem dX1_load_92 : decode cX1_load 92 = .ok (.aload_n 0, 1) := dk_42 (dk_at dksX1_load_3 23 rfl rfl)
theorem dX1_load_93 : decode cX1_load 93 = .ok (.aload_n 2, 1) := dk_44 (dk_at dksX1_load_4 0 rfl rfl)
theorem dX1_load_94 : decode cX1_load 94 = .ok (.getfield 116, 3) := dk_180 0 116 (dk_at dksX1_load_4 1 rfl rfl)
theorem dX1_load_97 : decode cX1_load 97 = .ok (.putfield 19, 3) := dk_181 0 19 (dk_at dksX1_load_4 4 rfl rfl)
theorem dX1_load_100 : decode cX1_load 100 = .ok (.new 43, 3) := dk_187 0 43 (dk_at dksX1_load_4 7 rfl rfl)
theorem dX1_load_103 : decode cX1_load 103 = .ok (.dup, 1) := dk_89 (dk_at dksX1_load_4 10 rfl rfl)
theorem dX1_load_104 : decode cX1_load 104 = .ok (.invokespecial 45, 3) := dk_183 0 45 (dk_at dksX1_load_4 11 rfl rfl)
theorem dX1_load_107 : decode cX1_load 107 = .ok (.athrow, 1) := dk_191 (dk_at dksX1_load_4 14 rfl rfl)
abbrev cX1_checkIndex : ByteArray := prog_1_method_7_code
def yX1_checkIndex : MethodName := ⟨RX1, "checkIndex", "(II)V"⟩
def dkwX1_checkIndex_0 : List UInt8 := [26, 3, 27, 4, 100, 184, 0, 46, 154, 0, 11, 187, 0, 50, 89, 183, 0, 52, 191, 177]
abbrev dktX1_checkIndex_0 : List UInt8 := dkwX1_checkIndex_0 ++ []
theorem dksX1_checkIndex_0 : cX1_checkIndex.data.toList.drop 0 = dktX1_checkIndex_0 := by decide +kernel
theorem dX1_checkIndex_0 : decode cX1_checkIndex 0 = .ok (.iload_n 0, 1) := dk_26 (dk_at dksX1_checkIndex_0 0 rfl rfl)
theorem dX1_checkIndex_1 : decode cX1_checkIndex 1 = .ok (.iconst 0, 1) := dk_3 (dk_at dksX1_checkIndex_0 1 rfl rfl)
theorem dX1_checkIndex_2 : decode cX1_checkIndex 2 = .ok (.iload_n 1, 1) := dk_27 (dk_at dksX1_checkIndex_0 2 rfl rfl)
theorem dX1_checkIndex_3 : decode cX1_checkIndex 3 = .ok (.iconst 1, 1) := dk_4 (dk_at dksX1_checkIndex_0 3 rfl rfl)
theorem dX1_checkIndex_4 : decode cX1_checkIndex 4 = .ok (.isub, 1) := dk_100 (dk_at dksX1_checkIndex_0 4 rfl rfl)
theorem dX1_checkIndex_5 : decode cX1_checkIndex 5 = .ok (.invokestatic 46, 3) := dk_184 0 46 (dk_at dksX1_checkIndex_0 5 rfl rfl)
theorem dX1_checkIndex_8 : decode cX1_checkIndex 8 = .ok (.ifCond .ne 11, 3) := dk_154 0 11 (dk_at dksX1_checkIndex_0 8 rfl rfl)
theorem dX1_checkIndex_11 : decode cX1_checkIndex 11 = .ok (.new 50, 3) := dk_187 0 50 (dk_at dksX1_checkIndex_0 11 rfl rfl)
theorem dX1_checkIndex_14 : decode cX1_checkIndex 14 = .ok (.dup, 1) := dk_89 (dk_at dksX1_checkIndex_0 14 rfl rfl)
theorem dX1_checkIndex_15 : decode cX1_checkIndex 15 = .ok (.invokespecial 52, 3) := dk_183 0 52 (dk_at dksX1_checkIndex_0 15 rfl rfl)
theorem dX1_checkIndex_18 : decode cX1_checkIndex 18 = .ok (.athrow, 1) := dk_191 (dk_at dksX1_checkIndex_0 18 rfl rfl)
theorem dX1_checkIndex_19 : decode cX1_checkIndex 19 = .ok (.return_, 1) := dk_177 (dk_at dksX1_checkIndex_0 19 rfl rfl)
abbrev cX1_in : ByteArray := prog_1_method_1_code
def yX1_in : MethodName := ⟨RX1, "in", "(III)Z"⟩
def dkwX1_in_0 : List UInt8 := [26, 27, 161, 0, 12, 26, 28, 163, 0, 7, 4, 167, 0, 4, 3, 172]
abbrev dktX1_in_0 : List UInt8 := dkwX1_in_0 ++ []
theorem dksX1_in_0 : cX1_in.data.toList.drop 0 = dktX1_in_0 := by decide +kernel
theorem dX1_in_0 : decode cX1_in 0 = .ok (.iload_n 0, 1) := dk_26 (dk_at dksX1_in_0 0 rfl rfl)
theorem dX1_in_1 : decode cX1_in 1 = .ok (.iload_n 1, 1) := dk_27 (dk_at dksX1_in_0 1 rfl rfl)
theorem dX1_in_2 : decode cX1_in 2 = .ok (.if_icmp .lt 12, 3) := dk_161 0 12 (dk_at dksX1_in_0 2 rfl rfl)
theorem dX1_in_5 : decode cX1_in 5 = .ok (.iload_n 0, 1) := dk_26 (dk_at dksX1_in_0 5 rfl rfl)
theorem dX1_in_6 : decode cX1_in 6 = .ok (.iload_n 2, 1) := dk_28 (dk_at dksX1_in_0 6 rfl rfl)
theorem dX1_in_7 : decode cX1_in 7 = .ok (.if_icmp .gt 7, 3) := dk_163 0 7 (dk_at dksX1_in_0 7 rfl rfl)
theorem dX1_in_10 : decode cX1_in 10 = .ok (.iconst 1, 1) := dk_4 (dk_at dksX1_in_0 10 rfl rfl)
theorem dX1_in_11 : decode cX1_in 11 = .ok (.goto 4, 3) := dk_167 0 4 (dk_at dksX1_in_0 11 rfl rfl)
theorem dX1_in_14 : decode cX1_in 14 = .ok (.iconst 0, 1) := dk_3 (dk_at dksX1_in_0 14 rfl rfl)
theorem dX1_in_15 : decode cX1_in 15 = .ok (.ireturn, 1) := dk_172 (dk_at dksX1_in_0 15 rfl rfl)
abbrev cX1_leastOf : ByteArray := prog_1_method_3_code
def yX1_leastOf : MethodName := ⟨RX1, "leastOf", "(I[I)I"⟩
def dkwX1_leastOf_2 : List UInt8 := [3, 167, 0, 10, 43, 6, 46, 167, 0, 4, 4, 172]
abbrev dktX1_leastOf_2 : List UInt8 := dkwX1_leastOf_2 ++ []
def dkwX1_leastOf_1 : List UInt8 := [171, 0, 0, 0, 0, 0, 37, 0, 0, 0, 2, 0, 0, 0, 4, 0, 0, 0, 31, 0, 0, 0, 5, 0, 0, 0, 27]
abbrev dktX1_leastOf_1 : List UInt8 := dkwX1_leastOf_1 ++ dktX1_leastOf_2
def dkwX1_leastOf_0 : List UInt8 := [26]
abbrev dktX1_leastOf_0 : List UInt8 := dkwX1_leastOf_0 ++ dktX1_leastOf_1
theorem dksX1_leastOf_0 : cX1_leastOf.data.toList.drop 0 = dktX1_leastOf_0 := by decide +kernel
theorem dksX1_leastOf_1 : cX1_leastOf.data.toList.drop 1 = dktX1_leastOf_1 := dk_seg dksX1_leastOf_0 1 rfl rfl
theorem dksX1_leastOf_2 : cX1_leastOf.data.toList.drop 28 = dktX1_leastOf_2 := dk_seg dksX1_leastOf_1 27 rfl rfl
theorem dX1_leastOf_0 : decode cX1_leastOf 0 = .ok (.iload_n 0, 1) := dk_26 (dk_at dksX1_leastOf_0 0 rfl rfl)
theorem dX1_leastOf_1 : decode cX1_leastOf 1 = .ok (.lookupswitch 37 #[(4, 31), (5, 27)], 27) := by decide +kernel
theorem dX1_leastOf_28 : decode cX1_leastOf 28 = .ok (.iconst 0, 1) := dk_3 (dk_at dksX1_leastOf_2 0 rfl rfl)
theorem dX1_leastOf_29 : decode cX1_leastOf 29 = .ok (.goto 10, 3) := dk_167 0 10 (dk_at dksX1_leastOf_2 1 rfl rfl)
theorem dX1_leastOf_32 : decode cX1_leastOf 32 = .ok (.aload_n 1, 1) := dk_43 (dk_at dksX1_leastOf_2 4 rfl rfl)
theorem dX1_leastOf_33 : decode cX1_leastOf 33 = .ok (.iconst 3, 1) := dk_6 (dk_at dksX1_leastOf_2 5 rfl rfl)
theorem dX1_leastOf_34 : decode cX1_leastOf 34 = .ok (.iaload, 1) := dk_46 (dk_at dksX1_leastOf_2 6 rfl rfl)
theorem dX1_leastOf_35 : decode cX1_leastOf 35 = .ok (.goto 4, 3) := dk_167 0 4 (dk_at dksX1_leastOf_2 7 rfl rfl)
theorem dX1_leastOf_38 : decode cX1_leastOf 38 = .ok (.iconst 1, 1) := dk_4 (dk_at dksX1_leastOf_2 10 rfl rfl)
theorem dX1_leastOf_39 : decode cX1_leastOf 39 = .ok (.ireturn, 1) := dk_172 (dk_at dksX1_leastOf_2 11 rfl rfl)
abbrev cX1_mostOf : ByteArray := prog_1_method_4_code
def yX1_mostOf : MethodName := ⟨RX1, "mostOf", "(I[I)I"⟩
def dkwX1_mostOf_3 : List UInt8 := [167, 0, 10, 16, 30, 167, 0, 5, 16, 50, 172]
abbrev dktX1_mostOf_3 : List UInt8 := dkwX1_mostOf_3 ++ []
def dkwX1_mostOf_2 : List UInt8 := [17, 0, 200, 167, 0, 31, 16, 99, 167, 0, 26, 16, 100, 167, 0, 21, 16, 9, 43, 7, 46, 184, 0, 3]
abbrev dktX1_mostOf_2 : List UInt8 := dkwX1_mostOf_2 ++ dktX1_mostOf_3
def dkwX1_mostOf_1 : List UInt8 := [170, 0, 0, 0, 0, 0, 67, 0, 0, 0, 0, 0, 0, 0, 4, 0, 0, 0, 35, 0, 0, 0, 41, 0, 0, 0, 46, 0, 0, 0, 51, 0, 0, 0, 62]
abbrev dktX1_mostOf_1 : List UInt8 := dkwX1_mostOf_1 ++ dktX1_mostOf_2
def dkwX1_mostOf_0 : List UInt8 := [26]
abbrev dktX1_mostOf_0 : List UInt8 := dkwX1_mostOf_0 ++ dktX1_mostOf_1
theorem dksX1_mostOf_0 : cX1_mostOf.data.toList.drop 0 = dktX1_mostOf_0 := by decide +kernel
theorem dksX1_mostOf_1 : cX1_mostOf.data.toList.drop 1 = dktX1_mostOf_1 := dk_seg dksX1_mostOf_0 1 rfl rfl
theorem dksX1_mostOf_2 : cX1_mostOf.data.toList.drop 36 = dktX1_mostOf_2 := dk_seg dksX1_mostOf_1 35 rfl rfl
theorem dksX1_mostOf_3 : cX1_mostOf.data.toList.drop 60 = dktX1_mostOf_3 := dk_seg dksX1_mostOf_2 24 rfl rfl
theorem dX1_mostOf_0 : decode cX1_mostOf 0 = .ok (.iload_n 0, 1) := dk_26 (dk_at dksX1_mostOf_0 0 rfl rfl)
theorem dX1_mostOf_1 : decode cX1_mostOf 1 = .ok (.tableswitch 67 0 4 #[35, 41, 46, 51, 62], 35) := by decide +kernel
theorem dX1_mostOf_36 : decode cX1_mostOf 36 = .ok (.sipush 200, 3) := dk_17 0 200 (dk_at dksX1_mostOf_2 0 rfl rfl)
theorem dX1_mostOf_39 : decode cX1_mostOf 39 = .ok (.goto 31, 3) := dk_167 0 31 (dk_at dksX1_mostOf_2 3 rfl rfl)
theorem dX1_mostOf_42 : decode cX1_mostOf 42 = .ok (.bipush 99, 2) := dk_16 99 (dk_at dksX1_mostOf_2 6 rfl rfl)
theorem dX1_mostOf_44 : decode cX1_mostOf 44 = .ok (.goto 26, 3) := dk_167 0 26 (dk_at dksX1_mostOf_2 8 rfl rfl)
theorem dX1_mostOf_47 : decode cX1_mostOf 47 = .ok (.bipush 100, 2) := dk_16 100 (dk_at dksX1_mostOf_2 11 rfl rfl)
theorem dX1_mostOf_49 : decode cX1_mostOf 49 = .ok (.goto 21, 3) := dk_167 0 21 (dk_at dksX1_mostOf_2 13 rfl rfl)
theorem dX1_mostOf_52 : decode cX1_mostOf 52 = .ok (.bipush 9, 2) := dk_16 9 (dk_at dksX1_mostOf_2 16 rfl rfl)
theorem dX1_mostOf_54 : decode cX1_mostOf 54 = .ok (.aload_n 1, 1) := dk_43 (dk_at dksX1_mostOf_2 18 rfl rfl)
theorem dX1_mostOf_55 : decode cX1_mostOf 55 = .ok (.iconst 4, 1) := dk_7 (dk_at dksX1_mostOf_2 19 rfl rfl)
theorem dX1_mostOf_56 : decode cX1_mostOf 56 = .ok (.iaload, 1) := dk_46 (dk_at dksX1_mostOf_2 20 rfl rfl)
theorem dX1_mostOf_57 : decode cX1_mostOf 57 = .ok (.invokestatic 3, 3) := dk_184 0 3 (dk_at dksX1_mostOf_2 21 rfl rfl)
theorem dX1_mostOf_60 : decode cX1_mostOf 60 = .ok (.goto 10, 3) := dk_167 0 10 (dk_at dksX1_mostOf_3 0 rfl rfl)
theorem dX1_mostOf_63 : decode cX1_mostOf 63 = .ok (.bipush 30, 2) := dk_16 30 (dk_at dksX1_mostOf_3 3 rfl rfl)
theorem dX1_mostOf_65 : decode cX1_mostOf 65 = .ok (.goto 5, 3) := dk_167 0 5 (dk_at dksX1_mostOf_3 5 rfl rfl)
theorem dX1_mostOf_68 : decode cX1_mostOf 68 = .ok (.bipush 50, 2) := dk_16 50 (dk_at dksX1_mostOf_3 8 rfl rfl)
theorem dX1_mostOf_70 : decode cX1_mostOf 70 = .ok (.ireturn, 1) := dk_172 (dk_at dksX1_mostOf_3 10 rfl rfl)
abbrev cX1_find : ByteArray := prog_1_method_20_code
def yX1_find : MethodName := ⟨RX1, "find", "(IZ)I"⟩
def dkwX1_find_3 : List UInt8 := [180, 0, 133, 167, 0, 10, 45, 180, 0, 129, 180, 0, 138, 25, 4, 184, 0, 141, 172]
abbrev dktX1_find_3 : List UInt8 := dkwX1_find_3 ++ []
def dkwX1_find_2 : List UInt8 := [182, 0, 125, 87, 132, 5, 1, 167, 255, 229, 42, 3, 181, 0, 90, 28, 153, 0, 13, 45, 180, 0, 129]
abbrev dktX1_find_2 : List UInt8 := dkwX1_find_2 ++ dktX1_find_3
def dkwX1_find_1 : List UInt8 := [3, 54, 5, 21, 5, 27, 162, 0, 27, 25, 4, 42, 180, 0, 15, 21, 5, 51, 17, 0, 255, 126, 146]
abbrev dktX1_find_1 : List UInt8 := dkwX1_find_1 ++ dktX1_find_2
def dkwX1_find_0 : List UInt8 := [42, 182, 0, 64, 78, 27, 42, 180, 0, 90, 4, 96, 184, 0, 72, 187, 0, 36, 89, 183, 0, 38, 58, 4]
abbrev dktX1_find_0 : List UInt8 := dkwX1_find_0 ++ dktX1_find_1
theorem dksX1_find_0 : cX1_find.data.toList.drop 0 = dktX1_find_0 := by decide +kernel
theorem dksX1_find_1 : cX1_find.data.toList.drop 24 = dktX1_find_1 := dk_seg dksX1_find_0 24 rfl rfl
theorem dksX1_find_2 : cX1_find.data.toList.drop 47 = dktX1_find_2 := dk_seg dksX1_find_1 23 rfl rfl
theorem dksX1_find_3 : cX1_find.data.toList.drop 70 = dktX1_find_3 := dk_seg dksX1_find_2 23 rfl rfl
theorem dX1_find_0 : decode cX1_find 0 = .ok (.aload_n 0, 1) := dk_42 (dk_at dksX1_find_0 0 rfl rfl)
theorem dX1_find_1 : decode cX1_find 1 = .ok (.invokevirtual 64, 3) := dk_182 0 64 (dk_at dksX1_find_0 1 rfl rfl)
theorem dX1_find_4 : decode cX1_find 4 = .ok (.astore_n 3, 1) := dk_78 (dk_at dksX1_find_0 4 rfl rfl)
theorem dX1_find_5 : decode cX1_find 5 = .ok (.iload_n 1, 1) := dk_27 (dk_at dksX1_find_0 5 rfl rfl)
theorem dX1_find_6 : decode cX1_find 6 = .ok (.aload_n 0, 1) := dk_42 (dk_at dksX1_find_0 6 rfl rfl)
theorem dX1_find_7 : decode cX1_find 7 = .ok (.getfield 90, 3) := dk_180 0 90 (dk_at dksX1_find_0 7 rfl rfl)
theorem dX1_find_10 : decode cX1_find 10 = .ok (.iconst 1, 1) := dk_4 (dk_at dksX1_find_0 10 rfl rfl)
theorem dX1_find_11 : decode cX1_find 11 = .ok (.iadd, 1) := dk_96 (dk_at dksX1_find_0 11 rfl rfl)
theorem dX1_find_12 : decode cX1_find 12 = .ok (.invokestatic 72, 3) := dk_184 0 72 (dk_at dksX1_find_0 12 rfl rfl)
theorem dX1_find_15 : decode cX1_find 15 = .ok (.new 36, 3) := dk_187 0 36 (dk_at dksX1_find_0 15 rfl rfl)
theorem dX1_find_18 : decode cX1_find 18 = .ok (.dup, 1) := dk_89 (dk_at dksX1_find_0 18 rfl rfl)
theorem dX1_find_19 : decode cX1_find 19 = .ok (.invokespecial 38, 3) := dk_183 0 38 (dk_at dksX1_find_0 19 rfl rfl)
theorem dX1_find_22 : decode cX1_find 22 = .ok (.astore 4, 2) := dk_58 4 (dk_at dksX1_find_0 22 rfl rfl)
theorem dX1_find_24 : decode cX1_find 24 = .ok (.iconst 0, 1) := dk_3 (dk_at dksX1_find_1 0 rfl rfl)
theorem dX1_find_25 : decode cX1_find 25 = .ok (.istore 5, 2) := dk_54 5 (dk_at dksX1_find_1 1 rfl rfl)
theorem dX1_find_27 : decode cX1_find 27 = .ok (.iload 5, 2) := dk_21 5 (dk_at dksX1_find_1 3 rfl rfl)
theorem dX1_find_29 : decode cX1_find 29 = .ok (.iload_n 1, 1) := dk_27 (dk_at dksX1_find_1 5 rfl rfl)
theorem dX1_find_30 : decode cX1_find 30 = .ok (.if_icmp .ge 27, 3) := dk_162 0 27 (dk_at dksX1_find_1 6 rfl rfl)
theorem dX1_find_33 : decode cX1_find 33 = .ok (.aload 4, 2) := dk_25 4 (dk_at dksX1_find_1 9 rfl rfl)
theorem dX1_find_35 : decode cX1_find 35 = .ok (.aload_n 0, 1) := dk_42 (dk_at dksX1_find_1 11 rfl rfl)
theorem dX1_find_36 : decode cX1_find 36 = .ok (.getfield 15, 3) := dk_180 0 15 (dk_at dksX1_find_1 12 rfl rfl)
theorem dX1_find_39 : decode cX1_find 39 = .ok (.iload 5, 2) := dk_21 5 (dk_at dksX1_find_1 15 rfl rfl)
theorem dX1_find_41 : decode cX1_find 41 = .ok (.baload, 1) := dk_51 (dk_at dksX1_find_1 17 rfl rfl)
theorem dX1_find_42 : decode cX1_find 42 = .ok (.sipush 255, 3) := dk_17 0 255 (dk_at dksX1_find_1 18 rfl rfl)
theorem dX1_find_45 : decode cX1_find 45 = .ok (.iand, 1) := dk_126 (dk_at dksX1_find_1 21 rfl rfl)
theorem dX1_find_46 : decode cX1_find 46 = .ok (.i2c, 1) := dk_146 (dk_at dksX1_find_1 22 rfl rfl)
theorem dX1_find_47 : decode cX1_find 47 = .ok (.invokevirtual 125, 3) := dk_182 0 125 (dk_at dksX1_find_2 0 rfl rfl)
theorem dX1_find_50 : decode cX1_find 50 = .ok (.pop, 1) := dk_87 (dk_at dksX1_find_2 3 rfl rfl)
theorem dX1_find_51 : decode cX1_find 51 = .ok (.iinc 5 1, 3) := dk_132 5 1 (dk_at dksX1_find_2 4 rfl rfl)
theorem dX1_find_54 : decode cX1_find 54 = .ok (.goto (-27), 3) := dk_167 255 229 (dk_at dksX1_find_2 7 rfl rfl)
theorem dX1_find_57 : decode cX1_find 57 = .ok (.aload_n 0, 1) := dk_42 (dk_at dksX1_find_2 10 rfl rfl)
theorem dX1_find_58 : decode cX1_find 58 = .ok (.iconst 0, 1) := dk_3 (dk_at dksX1_find_2 11 rfl rfl)
theorem dX1_find_59 : decode cX1_find 59 = .ok (.putfield 90, 3) := dk_181 0 90 (dk_at dksX1_find_2 12 rfl rfl)
theorem dX1_find_62 : decode cX1_find 62 = .ok (.iload_n 2, 1) := dk_28 (dk_at dksX1_find_2 15 rfl rfl)
theorem dX1_find_63 : decode cX1_find 63 = .ok (.ifCond .eq 13, 3) := dk_153 0 13 (dk_at dksX1_find_2 16 rfl rfl)
theorem dX1_find_66 : decode cX1_find 66 = .ok (.aload_n 3, 1) := dk_45 (dk_at dksX1_find_2 19 rfl rfl)
theorem dX1_find_67 : decode cX1_find 67 = .ok (.getfield 129, 3) := dk_180 0 129 (dk_at dksX1_find_2 20 rfl rfl)
theorem dX1_find_70 : decode cX1_find 70 = .ok (.getfield 133, 3) := dk_180 0 133 (dk_at dksX1_find_3 0 rfl rfl)
theorem dX1_find_73 : decode cX1_find 73 = .ok (.goto 10, 3) := dk_167 0 10 (dk_at dksX1_find_3 3 rfl rfl)
theorem dX1_find_76 : decode cX1_find 76 = .ok (.aload_n 3, 1) := dk_45 (dk_at dksX1_find_3 6 rfl rfl)
theorem dX1_find_77 : decode cX1_find 77 = .ok (.getfield 129, 3) := dk_180 0 129 (dk_at dksX1_find_3 7 rfl rfl)
theorem dX1_find_80 : decode cX1_find 80 = .ok (.getfield 138, 3) := dk_180 0 138 (dk_at dksX1_find_3 10 rfl rfl)
theorem dX1_find_83 : decode cX1_find 83 = .ok (.aload 4, 2) := dk_25 4 (dk_at dksX1_find_3 13 rfl rfl)
theorem dX1_find_85 : decode cX1_find 85 = .ok (.invokestatic 141, 3) := dk_184 0 141 (dk_at dksX1_find_3 15 rfl rfl)
theorem dX1_find_88 : decode cX1_find 88 = .ok (.ireturn, 1) := dk_172 (dk_at dksX1_find_3 18 rfl rfl)
abbrev cX1_loaded : ByteArray := prog_1_method_9_code
def yX1_loaded : MethodName := ⟨RX1, "loaded", "()LFlareSlopes$State;"⟩
def dkwX1_loaded_0 : List UInt8 := [42, 180, 0, 56, 198, 0, 7, 4, 167, 0, 4, 3, 184, 0, 60, 42, 180, 0, 56, 176]
abbrev dktX1_loaded_0 : List UInt8 := dkwX1_loaded_0 ++ []
theorem dksX1_loaded_0 : cX1_loaded.data.toList.drop 0 = dktX1_loaded_0 := by decide +kernel
theorem dX1_loaded_0 : decode cX1_loaded 0 = .ok (.aload_n 0, 1) := dk_42 (dk_at dksX1_loaded_0 0 rfl rfl)
theorem dX1_loaded_1 : decode cX1_loaded 1 = .ok (.getfield 56, 3) := dk_180 0 56 (dk_at dksX1_loaded_0 1 rfl rfl)
theorem dX1_loaded_4 : decode cX1_loaded 4 = .ok (.ifnull 7, 3) := dk_198 0 7 (dk_at dksX1_loaded_0 4 rfl rfl)
theorem dX1_loaded_7 : decode cX1_loaded 7 = .ok (.iconst 1, 1) := dk_4 (dk_at dksX1_loaded_0 7 rfl rfl)
theorem dX1_loaded_8 : decode cX1_loaded 8 = .ok (.goto 4, 3) := dk_167 0 4 (dk_at dksX1_loaded_0 8 rfl rfl)
theorem dX1_loaded_11 : decode cX1_loaded 11 = .ok (.iconst 0, 1) := dk_3 (dk_at dksX1_loaded_0 11 rfl rfl)
theorem dX1_loaded_12 : decode cX1_loaded 12 = .ok (.invokestatic 60, 3) := dk_184 0 60 (dk_at dksX1_loaded_0 12 rfl rfl)
theorem dX1_loaded_15 : decode cX1_loaded 15 = .ok (.aload_n 0, 1) := dk_42 (dk_at dksX1_loaded_0 15 rfl rfl)
theorem dX1_loaded_16 : decode cX1_loaded 16 = .ok (.getfield 56, 3) := dk_180 0 56 (dk_at dksX1_loaded_0 16 rfl rfl)
theorem dX1_loaded_19 : decode cX1_loaded 19 = .ok (.areturn, 1) := dk_176 (dk_at dksX1_loaded_0 19 rfl rfl)
abbrev cX1_checkState : ByteArray := prog_1_method_8_code
def yX1_checkState : MethodName := ⟨RX1, "checkState", "(Z)V"⟩
def dkwX1_checkState_0 : List UInt8 := [26, 154, 0, 11, 187, 0, 53, 89, 183, 0, 55, 191, 177]
abbrev dktX1_checkState_0 : List UInt8 := dkwX1_checkState_0 ++ []
theorem dksX1_checkState_0 : cX1_checkState.data.toList.drop 0 = dktX1_checkState_0 := by decide +kernel
theorem dX1_checkState_0 : decode cX1_checkState 0 = .ok (.iload_n 0, 1) := dk_26 (dk_at dksX1_checkState_0 0 rfl rfl)
theorem dX1_checkState_1 : decode cX1_checkState 1 = .ok (.ifCond .ne 11, 3) := dk_154 0 11 (dk_at dksX1_checkState_0 1 rfl rfl)
theorem dX1_checkState_4 : decode cX1_checkState 4 = .ok (.new 53, 3) := dk_187 0 53 (dk_at dksX1_checkState_0 4 rfl rfl)
theorem dX1_checkState_7 : decode cX1_checkState 7 = .ok (.dup, 1) := dk_89 (dk_at dksX1_checkState_0 7 rfl rfl)
theorem dX1_checkState_8 : decode cX1_checkState 8 = .ok (.invokespecial 55, 3) := dk_183 0 55 (dk_at dksX1_checkState_0 8 rfl rfl)
theorem dX1_checkState_11 : decode cX1_checkState 11 = .ok (.athrow, 1) := dk_191 (dk_at dksX1_checkState_0 11 rfl rfl)
theorem dX1_checkState_12 : decode cX1_checkState 12 = .ok (.return_, 1) := dk_177 (dk_at dksX1_checkState_0 12 rfl rfl)
abbrev cX1_number : ByteArray := prog_1_method_19_code
def yX1_number : MethodName := ⟨RX1, "number", "(LFlareSlopes$Register;Ljava/lang/CharSequence;)I"⟩
def dkwX1_number_0 : List UInt8 := [42, 43, 182, 0, 119, 172]
abbrev dktX1_number_0 : List UInt8 := dkwX1_number_0 ++ []
theorem dksX1_number_0 : cX1_number.data.toList.drop 0 = dktX1_number_0 := by decide +kernel
theorem dX1_number_0 : decode cX1_number 0 = .ok (.aload_n 0, 1) := dk_42 (dk_at dksX1_number_0 0 rfl rfl)
theorem dX1_number_1 : decode cX1_number 1 = .ok (.aload_n 1, 1) := dk_43 (dk_at dksX1_number_0 1 rfl rfl)
theorem dX1_number_2 : decode cX1_number 2 = .ok (.invokevirtual 119, 3) := dk_182 0 119 (dk_at dksX1_number_0 2 rfl rfl)
theorem dX1_number_5 : decode cX1_number 5 = .ok (.ireturn, 1) := dk_172 (dk_at dksX1_number_0 5 rfl rfl)
abbrev cX1_count : ByteArray := prog_1_method_21_code
def yX1_count : MethodName := ⟨RX1, "count", "(I)I"⟩
def dkwX1_count_7 : List UInt8 := [42, 182, 0, 191, 167, 0, 18, 42, 182, 0, 194, 167, 0, 11, 187, 0, 43, 89, 183, 0, 45, 191, 172]
abbrev dktX1_count_7 : List UInt8 := dkwX1_count_7 ++ []
def dkwX1_count_6 : List UInt8 := [44, 180, 0, 176, 167, 0, 42, 44, 180, 0, 179, 184, 0, 182, 167, 0, 32, 42, 182, 0, 188, 167, 0, 25]
abbrev dktX1_count_6 : List UInt8 := dkwX1_count_6 ++ dktX1_count_7
def dkwX1_count_5 : List UInt8 := [167, 0, 70, 44, 180, 0, 167, 167, 0, 63, 44, 180, 0, 170, 167, 0, 56, 44, 180, 0, 173, 167, 0, 49]
abbrev dktX1_count_5 : List UInt8 := dkwX1_count_5 ++ dktX1_count_6
def dkwX1_count_4 : List UInt8 := [180, 0, 155, 167, 0, 91, 44, 180, 0, 158, 167, 0, 84, 44, 182, 0, 161, 167, 0, 77, 44, 180, 0, 164]
abbrev dktX1_count_4 : List UInt8 := dkwX1_count_4 ++ dktX1_count_5
def dkwX1_count_3 : List UInt8 := [185, 0, 149, 1, 0, 167, 0, 113, 44, 180, 0, 129, 180, 0, 152, 185, 0, 149, 1, 0, 167, 0, 98, 44]
abbrev dktX1_count_3 : List UInt8 := dkwX1_count_3 ++ dktX1_count_4
def dkwX1_count_2 : List UInt8 := [44, 182, 0, 68, 167, 0, 135, 44, 182, 0, 80, 167, 0, 128, 44, 180, 0, 129, 180, 0, 145]
abbrev dktX1_count_2 : List UInt8 := dkwX1_count_2 ++ dktX1_count_3
def dkwX1_count_1 : List UInt8 := [170, 0, 0, 0, 0, 209, 0, 0, 0, 0, 0, 0, 0, 15, 0, 0, 0, 78, 0, 0, 0, 85, 0, 0, 0, 92, 0, 0, 0, 107, 0, 0, 0, 122, 0, 0, 0, 129, 0, 0, 0, 136, 0, 0, 0, 143, 0, 0, 0, 150, 0, 0, 0, 157, 0, 0, 0, 164, 0, 0, 0, 171, 0, 0, 0, 178, 0, 0, 0, 188, 0, 0, 0, 195, 0, 0, 0, 202]
abbrev dktX1_count_1 : List UInt8 := dkwX1_count_1 ++ dktX1_count_2
def dkwX1_count_0 : List UInt8 := [42, 182, 0, 64, 77, 27]
abbrev dktX1_count_0 : List UInt8 := dkwX1_count_0 ++ dktX1_count_1
theorem dksX1_count_0 : cX1_count.data.toList.drop 0 = dktX1_count_0 := by decide +kernel
theorem dksX1_count_1 : cX1_count.data.toList.drop 6 = dktX1_count_1 := dk_seg dksX1_count_0 6 rfl rfl
theorem dksX1_count_2 : cX1_count.data.toList.drop 84 = dktX1_count_2 := dk_seg dksX1_count_1 78 rfl rfl
theorem dksX1_count_3 : cX1_count.data.toList.drop 105 = dktX1_count_3 := dk_seg dksX1_count_2 21 rfl rfl
theorem dksX1_count_4 : cX1_count.data.toList.drop 129 = dktX1_count_4 := dk_seg dksX1_count_3 24 rfl rfl
theorem dksX1_count_5 : cX1_count.data.toList.drop 153 = dktX1_count_5 := dk_seg dksX1_count_4 24 rfl rfl
theorem dksX1_count_6 : cX1_count.data.toList.drop 177 = dktX1_count_6 := dk_seg dksX1_count_5 24 rfl rfl
theorem dksX1_count_7 : cX1_count.data.toList.drop 201 = dktX1_count_7 := dk_seg dksX1_count_6 24 rfl rfl
theorem dX1_count_0 : decode cX1_count 0 = .ok (.aload_n 0, 1) := dk_42 (dk_at dksX1_count_0 0 rfl rfl)
theorem dX1_count_1 : decode cX1_count 1 = .ok (.invokevirtual 64, 3) := dk_182 0 64 (dk_at dksX1_count_0 1 rfl rfl)
theorem dX1_count_4 : decode cX1_count 4 = .ok (.astore_n 2, 1) := dk_77 (dk_at dksX1_count_0 4 rfl rfl)
theorem dX1_count_5 : decode cX1_count 5 = .ok (.iload_n 1, 1) := dk_27 (dk_at dksX1_count_0 5 rfl rfl)
theorem dX1_count_6 : decode cX1_count 6 = .ok (.tableswitch 209 0 15 #[78, 85, 92, 107, 122, 129, 136, 143, 150, 157, 164, 171, 178, 188, 195, 202], 78) := by decide +kernel
theorem dX1_count_84 : decode cX1_count 84 = .ok (.aload_n 2, 1) := dk_44 (dk_at dksX1_count_2 0 rfl rfl)
theorem dX1_count_85 : decode cX1_count 85 = .ok (.invokevirtual 68, 3) := dk_182 0 68 (dk_at dksX1_count_2 1 rfl rfl)
theorem dX1_count_88 : decode cX1_count 88 = .ok (.goto 135, 3) := dk_167 0 135 (dk_at dksX1_count_2 4 rfl rfl)
theorem dX1_count_91 : decode cX1_count 91 = .ok (.aload_n 2, 1) := dk_44 (dk_at dksX1_count_2 7 rfl rfl)
theorem dX1_count_92 : decode cX1_count 92 = .ok (.invokevirtual 80, 3) := dk_182 0 80 (dk_at dksX1_count_2 8 rfl rfl)
theorem dX1_count_95 : decode cX1_count 95 = .ok (.goto 128, 3) := dk_167 0 128 (dk_at dksX1_count_2 11 rfl rfl)
theorem dX1_count_98 : decode cX1_count 98 = .ok (.aload_n 2, 1) := dk_44 (dk_at dksX1_count_2 14 rfl rfl)
theorem dX1_count_99 : decode cX1_count 99 = .ok (.getfield 129, 3) := dk_180 0 129 (dk_at dksX1_count_2 15 rfl rfl)
theorem dX1_count_102 : decode cX1_count 102 = .ok (.getfield 145, 3) := dk_180 0 145 (dk_at dksX1_count_2 18 rfl rfl)
theorem dX1_count_105 : decode cX1_count 105 = .ok (.invokeinterface 149 1, 5) := by decide +kernel
theorem dX1_count_110 : decode cX1_count 110 = .ok (.goto 113, 3) := dk_167 0 113 (dk_at dksX1_count_3 5 rfl rfl)
theorem dX1_count_113 : decode cX1_count 113 = .ok (.aload_n 2, 1) := dk_44 (dk_at dksX1_count_3 8 rfl rfl)
theorem dX1_count_114 : decode cX1_count 114 = .ok (.getfield 129, 3) := dk_180 0 129 (dk_at dksX1_count_3 9 rfl rfl)
theorem dX1_count_117 : decode cX1_count 117 = .ok (.getfield 152, 3) := dk_180 0 152 (dk_at dksX1_count_3 12 rfl rfl)
theorem dX1_count_120 : decode cX1_count 120 = .ok (.invokeinterface 149 1, 5) := by decide +kernel
theorem dX1_count_125 : decode cX1_count 125 = .ok (.goto 98, 3) := dk_167 0 98 (dk_at dksX1_count_3 20 rfl rfl)
theorem dX1_count_128 : decode cX1_count 128 = .ok (.aload_n 2, 1) := dk_44 (dk_at dksX1_count_3 23 rfl rfl)
theorem dX1_count_129 : decode cX1_count 129 = .ok (.getfield 155, 3) := dk_180 0 155 (dk_at dksX1_count_4 0 rfl rfl)
theorem dX1_count_132 : decode cX1_count 132 = .ok (.goto 91, 3) := dk_167 0 91 (dk_at dksX1_count_4 3 rfl rfl)
theorem dX1_count_135 : decode cX1_count 135 = .ok (.aload_n 2, 1) := dk_44 (dk_at dksX1_count_4 6 rfl rfl)
theorem dX1_count_136 : decode cX1_count 136 = .ok (.getfield 158, 3) := dk_180 0 158 (dk_at dksX1_count_4 7 rfl rfl)
theorem dX1_count_139 : decode cX1_count 139 = .ok (.goto 84, 3) := dk_167 0 84 (dk_at dksX1_count_4 10 rfl rfl)
theorem dX1_count_142 : decode cX1_count 142 = .ok (.aload_n 2, 1) := dk_44 (dk_at dksX1_count_4 13 rfl rfl)
theorem dX1_count_143 : decode cX1_count 143 = .ok (.invokevirtual 161, 3) := dk_182 0 161 (dk_at dksX1_count_4 14 rfl rfl)
theorem dX1_count_146 : decode cX1_count 146 = .ok (.goto 77, 3) := dk_167 0 77 (dk_at dksX1_count_4 17 rfl rfl)
theorem dX1_count_149 : decode cX1_count 149 = .ok (.aload_n 2, 1) := dk_44 (dk_at dksX1_count_4 20 rfl rfl)
theorem dX1_count_150 : decode cX1_count 150 = .ok (.getfield 164, 3) := dk_180 0 164 (dk_at dksX1_count_4 21 rfl rfl)
theorem dX1_count_153 : decode cX1_count 153 = .ok (.goto 70, 3) := dk_167 0 70 (dk_at dksX1_count_5 0 rfl rfl)
theorem dX1_count_156 : decode cX1_count 156 = .ok (.aload_n 2, 1) := dk_44 (dk_at dksX1_count_5 3 rfl rfl)
theorem dX1_count_157 : decode cX1_count 157 = .ok (.getfield 167, 3) := dk_180 0 167 (dk_at dksX1_count_5 4 rfl rfl)
theorem dX1_count_160 : decode cX1_count 160 = .ok (.goto 63, 3) := dk_167 0 63 (dk_at dksX1_count_5 7 rfl rfl)
theorem dX1_count_163 : decode cX1_count 163 = .ok (.aload_n 2, 1) := dk_44 (dk_at dksX1_count_5 10 rfl rfl)
theorem dX1_count_164 : decode cX1_count 164 = .ok (.getfield 170, 3) := dk_180 0 170 (dk_at dksX1_count_5 11 rfl rfl)
theorem dX1_count_167 : decode cX1_count 167 = .ok (.goto 56, 3) := dk_167 0 56 (dk_at dksX1_count_5 14 rfl rfl)
theorem dX1_count_170 : decode cX1_count 170 = .ok (.aload_n 2, 1) := dk_44 (dk_at dksX1_count_5 17 rfl rfl)
theorem dX1_count_171 : decode cX1_count 171 = .ok (.getfield 173, 3) := dk_180 0 173 (dk_at dksX1_count_5 18 rfl rfl)
theorem dX1_count_174 : decode cX1_count 174 = .ok (.goto 49, 3) := dk_167 0 49 (dk_at dksX1_count_5 21 rfl rfl)
theorem dX1_count_177 : decode cX1_count 177 = .ok (.aload_n 2, 1) := dk_44 (dk_at dksX1_count_6 0 rfl rfl)
theorem dX1_count_178 : decode cX1_count 178 = .ok (.getfield 176, 3) := dk_180 0 176 (dk_at dksX1_count_6 1 rfl rfl)
theorem dX1_count_181 : decode cX1_count 181 = .ok (.goto 42, 3) := dk_167 0 42 (dk_at dksX1_count_6 4 rfl rfl)
theorem dX1_count_184 : decode cX1_count 184 = .ok (.aload_n 2, 1) := dk_44 (dk_at dksX1_count_6 7 rfl rfl)
theorem dX1_count_185 : decode cX1_count 185 = .ok (.getfield 179, 3) := dk_180 0 179 (dk_at dksX1_count_6 8 rfl rfl)
theorem dX1_count_188 : decode cX1_count 188 = .ok (.invokestatic 182, 3) := dk_184 0 182 (dk_at dksX1_count_6 11 rfl rfl)
theorem dX1_count_191 : decode cX1_count 191 = .ok (.goto 32, 3) := dk_167 0 32 (dk_at dksX1_count_6 14 rfl rfl)
theorem dX1_count_194 : decode cX1_count 194 = .ok (.aload_n 0, 1) := dk_42 (dk_at dksX1_count_6 17 rfl rfl)
theorem dX1_count_195 : decode cX1_count 195 = .ok (.invokevirtual 188, 3) := dk_182 0 188 (dk_at dksX1_count_6 18 rfl rfl)
theorem dX1_count_198 : decode cX1_count 198 = .ok (.goto 25, 3) := dk_167 0 25 (dk_at dksX1_count_6 21 rfl rfl)
theorem dX1_count_201 : decode cX1_count 201 = .ok (.aload_n 0, 1) := dk_42 (dk_at dksX1_count_7 0 rfl rfl)
theorem dX1_count_202 : decode cX1_count 202 = .ok (.invokevirtual 191, 3) := dk_182 0 191 (dk_at dksX1_count_7 1 rfl rfl)
theorem dX1_count_205 : decode cX1_count 205 = .ok (.goto 18, 3) := dk_167 0 18 (dk_at dksX1_count_7 4 rfl rfl)
theorem dX1_count_208 : decode cX1_count 208 = .ok (.aload_n 0, 1) := dk_42 (dk_at dksX1_count_7 7 rfl rfl)
theorem dX1_count_209 : decode cX1_count 209 = .ok (.invokevirtual 194, 3) := dk_182 0 194 (dk_at dksX1_count_7 8 rfl rfl)
theorem dX1_count_212 : decode cX1_count 212 = .ok (.goto 11, 3) := dk_167 0 11 (dk_at dksX1_count_7 11 rfl rfl)
theorem dX1_count_215 : decode cX1_count 215 = .ok (.new 43, 3) := dk_187 0 43 (dk_at dksX1_count_7 14 rfl rfl)
theorem dX1_count_218 : decode cX1_count 218 = .ok (.dup, 1) := dk_89 (dk_at dksX1_count_7 17 rfl rfl)
theorem dX1_count_219 : decode cX1_count 219 = .ok (.invokespecial 45, 3) := dk_183 0 45 (dk_at dksX1_count_7 18 rfl rfl)
theorem dX1_count_222 : decode cX1_count 222 = .ok (.athrow, 1) := dk_191 (dk_at dksX1_count_7 21 rfl rfl)
theorem dX1_count_223 : decode cX1_count 223 = .ok (.ireturn, 1) := dk_172 (dk_at dksX1_count_7 22 rfl rfl)
abbrev cX1_pairsInSight : ByteArray := prog_1_method_22_code
def yX1_pairsInSight : MethodName := ⟨RX1, "pairsInSight", "()I"⟩
def dkwX1_pairsInSight_1 : List UInt8 := [184, 0, 182, 4, 100, 96, 60, 132, 2, 1, 167, 255, 226, 27, 5, 108, 172]
abbrev dktX1_pairsInSight_1 : List UInt8 := dkwX1_pairsInSight_1 ++ []
def dkwX1_pairsInSight_0 : List UInt8 := [3, 60, 3, 61, 28, 42, 180, 0, 56, 182, 0, 68, 162, 0, 25, 27, 42, 180, 0, 56, 28, 182, 0, 197]
abbrev dktX1_pairsInSight_0 : List UInt8 := dkwX1_pairsInSight_0 ++ dktX1_pairsInSight_1
theorem dksX1_pairsInSight_0 : cX1_pairsInSight.data.toList.drop 0 = dktX1_pairsInSight_0 := by decide +kernel
theorem dksX1_pairsInSight_1 : cX1_pairsInSight.data.toList.drop 24 = dktX1_pairsInSight_1 := dk_seg dksX1_pairsInSight_0 24 rfl rfl
theorem dX1_pairsInSight_0 : decode cX1_pairsInSight 0 = .ok (.iconst 0, 1) := dk_3 (dk_at dksX1_pairsInSight_0 0 rfl rfl)
theorem dX1_pairsInSight_1 : decode cX1_pairsInSight 1 = .ok (.istore_n 1, 1) := dk_60 (dk_at dksX1_pairsInSight_0 1 rfl rfl)
theorem dX1_pairsInSight_2 : decode cX1_pairsInSight 2 = .ok (.iconst 0, 1) := dk_3 (dk_at dksX1_pairsInSight_0 2 rfl rfl)
theorem dX1_pairsInSight_3 : decode cX1_pairsInSight 3 = .ok (.istore_n 2, 1) := dk_61 (dk_at dksX1_pairsInSight_0 3 rfl rfl)
theorem dX1_pairsInSight_4 : decode cX1_pairsInSight 4 = .ok (.iload_n 2, 1) := dk_28 (dk_at dksX1_pairsInSight_0 4 rfl rfl)
theorem dX1_pairsInSight_5 : decode cX1_pairsInSight 5 = .ok (.aload_n 0, 1) := dk_42 (dk_at dksX1_pairsInSight_0 5 rfl rfl)
theorem dX1_pairsInSight_6 : decode cX1_pairsInSight 6 = .ok (.getfield 56, 3) := dk_180 0 56 (dk_at dksX1_pairsInSight_0 6 rfl rfl)
theorem dX1_pairsInSight_9 : decode cX1_pairsInSight 9 = .ok (.invokevirtual 68, 3) := dk_182 0 68 (dk_at dksX1_pairsInSight_0 9 rfl rfl)
theorem dX1_pairsInSight_12 : decode cX1_pairsInSight 12 = .ok (.if_icmp .ge 25, 3) := dk_162 0 25 (dk_at dksX1_pairsInSight_0 12 rfl rfl)
theorem dX1_pairsInSight_15 : decode cX1_pairsInSight 15 = .ok (.iload_n 1, 1) := dk_27 (dk_at dksX1_pairsInSight_0 15 rfl rfl)
theorem dX1_pairsInSight_16 : decode cX1_pairsInSight 16 = .ok (.aload_n 0, 1) := dk_42 (dk_at dksX1_pairsInSight_0 16 rfl rfl)
theorem dX1_pairsInSight_17 : decode cX1_pairsInSight 17 = .ok (.getfield 56, 3) := dk_180 0 56 (dk_at dksX1_pairsInSight_0 17 rfl rfl)
theorem dX1_pairsInSight_20 : decode cX1_pairsInSight 20 = .ok (.iload_n 2, 1) := dk_28 (dk_at dksX1_pairsInSight_0 20 rfl rfl)
theorem dX1_pairsInSight_21 : decode cX1_pairsInSight 21 = .ok (.invokevirtual 197, 3) := dk_182 0 197 (dk_at dksX1_pairsInSight_0 21 rfl rfl)
theorem dX1_pairsInSight_24 : decode cX1_pairsInSight 24 = .ok (.invokestatic 182, 3) := dk_184 0 182 (dk_at dksX1_pairsInSight_1 0 rfl rfl)
theorem dX1_pairsInSight_27 : decode cX1_pairsInSight 27 = .ok (.iconst 1, 1) := dk_4 (dk_at dksX1_pairsInSight_1 3 rfl rfl)
theorem dX1_pairsInSight_28 : decode cX1_pairsInSight 28 = .ok (.isub, 1) := dk_100 (dk_at dksX1_pairsInSight_1 4 rfl rfl)
theorem dX1_pairsInSight_29 : decode cX1_pairsInSight 29 = .ok (.iadd, 1) := dk_96 (dk_at dksX1_pairsInSight_1 5 rfl rfl)
theorem dX1_pairsInSight_30 : decode cX1_pairsInSight 30 = .ok (.istore_n 1, 1) := dk_60 (dk_at dksX1_pairsInSight_1 6 rfl rfl)
theorem dX1_pairsInSight_31 : decode cX1_pairsInSight 31 = .ok (.iinc 2 1, 3) := dk_132 2 1 (dk_at dksX1_pairsInSight_1 7 rfl rfl)
theorem dX1_pairsInSight_34 : decode cX1_pairsInSight 34 = .ok (.goto (-30), 3) := dk_167 255 226 (dk_at dksX1_pairsInSight_1 10 rfl rfl)
theorem dX1_pairsInSight_37 : decode cX1_pairsInSight 37 = .ok (.iload_n 1, 1) := dk_27 (dk_at dksX1_pairsInSight_1 13 rfl rfl)
theorem dX1_pairsInSight_38 : decode cX1_pairsInSight 38 = .ok (.iconst 2, 1) := dk_5 (dk_at dksX1_pairsInSight_1 14 rfl rfl)
theorem dX1_pairsInSight_39 : decode cX1_pairsInSight 39 = .ok (.idiv, 1) := dk_108 (dk_at dksX1_pairsInSight_1 15 rfl rfl)
theorem dX1_pairsInSight_40 : decode cX1_pairsInSight 40 = .ok (.ireturn, 1) := dk_172 (dk_at dksX1_pairsInSight_1 16 rfl rfl)
abbrev cX1_withoutFlares : ByteArray := prog_1_method_23_code
def yX1_withoutFlares : MethodName := ⟨RX1, "withoutFlares", "()I"⟩
def dkwX1_withoutFlares_1 : List UInt8 := [180, 0, 200, 154, 0, 7, 4, 167, 0, 4, 3, 96, 60, 132, 2, 1, 167, 255, 220, 27, 172]
abbrev dktX1_withoutFlares_1 : List UInt8 := dkwX1_withoutFlares_1 ++ []
def dkwX1_withoutFlares_0 : List UInt8 := [3, 60, 3, 61, 28, 42, 180, 0, 56, 182, 0, 68, 162, 0, 31, 27, 42, 180, 0, 56, 28, 182, 0, 76]
abbrev dktX1_withoutFlares_0 : List UInt8 := dkwX1_withoutFlares_0 ++ dktX1_withoutFlares_1
theorem dksX1_withoutFlares_0 : cX1_withoutFlares.data.toList.drop 0 = dktX1_withoutFlares_0 := by decide +kernel
theorem dksX1_withoutFlares_1 : cX1_withoutFlares.data.toList.drop 24 = dktX1_withoutFlares_1 := dk_seg dksX1_withoutFlares_0 24 rfl rfl
theorem dX1_withoutFlares_0 : decode cX1_withoutFlares 0 = .ok (.iconst 0, 1) := dk_3 (dk_at dksX1_withoutFlares_0 0 rfl rfl)
theorem dX1_withoutFlares_1 : decode cX1_withoutFlares 1 = .ok (.istore_n 1, 1) := dk_60 (dk_at dksX1_withoutFlares_0 1 rfl rfl)
theorem dX1_withoutFlares_2 : decode cX1_withoutFlares 2 = .ok (.iconst 0, 1) := dk_3 (dk_at dksX1_withoutFlares_0 2 rfl rfl)
theorem dX1_withoutFlares_3 : decode cX1_withoutFlares 3 = .ok (.istore_n 2, 1) := dk_61 (dk_at dksX1_withoutFlares_0 3 rfl rfl)
theorem dX1_withoutFlares_4 : decode cX1_withoutFlares 4 = .ok (.iload_n 2, 1) := dk_28 (dk_at dksX1_withoutFlares_0 4 rfl rfl)
theorem dX1_withoutFlares_5 : decode cX1_withoutFlares 5 = .ok (.aload_n 0, 1) := dk_42 (dk_at dksX1_withoutFlares_0 5 rfl rfl)
theorem dX1_withoutFlares_6 : decode cX1_withoutFlares 6 = .ok (.getfield 56, 3) := dk_180 0 56 (dk_at dksX1_withoutFlares_0 6 rfl rfl)
theorem dX1_withoutFlares_9 : decode cX1_withoutFlares 9 = .ok (.invokevirtual 68, 3) := dk_182 0 68 (dk_at dksX1_withoutFlares_0 9 rfl rfl)
theorem dX1_withoutFlares_12 : decode cX1_withoutFlares 12 = .ok (.if_icmp .ge 31, 3) := dk_162 0 31 (dk_at dksX1_withoutFlares_0 12 rfl rfl)
theorem dX1_withoutFlares_15 : decode cX1_withoutFlares 15 = .ok (.iload_n 1, 1) := dk_27 (dk_at dksX1_withoutFlares_0 15 rfl rfl)
theorem dX1_withoutFlares_16 : decode cX1_withoutFlares 16 = .ok (.aload_n 0, 1) := dk_42 (dk_at dksX1_withoutFlares_0 16 rfl rfl)
theorem dX1_withoutFlares_17 : decode cX1_withoutFlares 17 = .ok (.getfield 56, 3) := dk_180 0 56 (dk_at dksX1_withoutFlares_0 17 rfl rfl)
theorem dX1_withoutFlares_20 : decode cX1_withoutFlares 20 = .ok (.iload_n 2, 1) := dk_28 (dk_at dksX1_withoutFlares_0 20 rfl rfl)
theorem dX1_withoutFlares_21 : decode cX1_withoutFlares 21 = .ok (.invokevirtual 76, 3) := dk_182 0 76 (dk_at dksX1_withoutFlares_0 21 rfl rfl)
theorem dX1_withoutFlares_24 : decode cX1_withoutFlares 24 = .ok (.getfield 200, 3) := dk_180 0 200 (dk_at dksX1_withoutFlares_1 0 rfl rfl)
theorem dX1_withoutFlares_27 : decode cX1_withoutFlares 27 = .ok (.ifCond .ne 7, 3) := dk_154 0 7 (dk_at dksX1_withoutFlares_1 3 rfl rfl)
theorem dX1_withoutFlares_30 : decode cX1_withoutFlares 30 = .ok (.iconst 1, 1) := dk_4 (dk_at dksX1_withoutFlares_1 6 rfl rfl)
theorem dX1_withoutFlares_31 : decode cX1_withoutFlares 31 = .ok (.goto 4, 3) := dk_167 0 4 (dk_at dksX1_withoutFlares_1 7 rfl rfl)
theorem dX1_withoutFlares_34 : decode cX1_withoutFlares 34 = .ok (.iconst 0, 1) := dk_3 (dk_at dksX1_withoutFlares_1 10 rfl rfl)
theorem dX1_withoutFlares_35 : decode cX1_withoutFlares 35 = .ok (.iadd, 1) := dk_96 (dk_at dksX1_withoutFlares_1 11 rfl rfl)
theorem dX1_withoutFlares_36 : decode cX1_withoutFlares 36 = .ok (.istore_n 1, 1) := dk_60 (dk_at dksX1_withoutFlares_1 12 rfl rfl)
theorem dX1_withoutFlares_37 : decode cX1_withoutFlares 37 = .ok (.iinc 2 1, 3) := dk_132 2 1 (dk_at dksX1_withoutFlares_1 13 rfl rfl)
theorem dX1_withoutFlares_40 : decode cX1_withoutFlares 40 = .ok (.goto (-36), 3) := dk_167 255 220 (dk_at dksX1_withoutFlares_1 16 rfl rfl)
theorem dX1_withoutFlares_43 : decode cX1_withoutFlares 43 = .ok (.iload_n 1, 1) := dk_27 (dk_at dksX1_withoutFlares_1 19 rfl rfl)
theorem dX1_withoutFlares_44 : decode cX1_withoutFlares 44 = .ok (.ireturn, 1) := dk_172 (dk_at dksX1_withoutFlares_1 20 rfl rfl)
abbrev cX1_redVotes : ByteArray := prog_1_method_24_code
def yX1_redVotes : MethodName := ⟨RX1, "redVotes", "()I"⟩
def dkwX1_redVotes_3 : List UInt8 := [96, 60, 167, 255, 220, 132, 2, 1, 167, 255, 181, 27, 172]
abbrev dktX1_redVotes_3 : List UInt8 := dkwX1_redVotes_3 ++ []
def dkwX1_redVotes_2 : List UInt8 := [185, 0, 227, 1, 0, 192, 0, 231, 58, 4, 27, 25, 4, 180, 0, 233, 153, 0, 7, 4, 167, 0, 4, 3]
abbrev dktX1_redVotes_2 : List UInt8 := dkwX1_redVotes_2 ++ dktX1_redVotes_3
def dkwX1_redVotes_1 : List UInt8 := [180, 0, 205, 185, 0, 209, 1, 0, 185, 0, 215, 1, 0, 78, 45, 185, 0, 221, 1, 0, 153, 0, 33, 45]
abbrev dktX1_redVotes_1 : List UInt8 := dkwX1_redVotes_1 ++ dktX1_redVotes_2
def dkwX1_redVotes_0 : List UInt8 := [3, 60, 3, 61, 28, 42, 180, 0, 56, 182, 0, 68, 162, 0, 70, 42, 180, 0, 56, 28, 182, 0, 76]
abbrev dktX1_redVotes_0 : List UInt8 := dkwX1_redVotes_0 ++ dktX1_redVotes_1
theorem dksX1_redVotes_0 : cX1_redVotes.data.toList.drop 0 = dktX1_redVotes_0 := by decide +kernel
theorem dksX1_redVotes_1 : cX1_redVotes.data.toList.drop 23 = dktX1_redVotes_1 := dk_seg dksX1_redVotes_0 23 rfl rfl
theorem dksX1_redVotes_2 : cX1_redVotes.data.toList.drop 47 = dktX1_redVotes_2 := dk_seg dksX1_redVotes_1 24 rfl rfl
theorem dksX1_redVotes_3 : cX1_redVotes.data.toList.drop 71 = dktX1_redVotes_3 := dk_seg dksX1_redVotes_2 24 rfl rfl
theorem dX1_redVotes_0 : decode cX1_redVotes 0 = .ok (.iconst 0, 1) := dk_3 (dk_at dksX1_redVotes_0 0 rfl rfl)
theorem dX1_redVotes_1 : decode cX1_redVotes 1 = .ok (.istore_n 1, 1) := dk_60 (dk_at dksX1_redVotes_0 1 rfl rfl)
theorem dX1_redVotes_2 : decode cX1_redVotes 2 = .ok (.iconst 0, 1) := dk_3 (dk_at dksX1_redVotes_0 2 rfl rfl)
theorem dX1_redVotes_3 : decode cX1_redVotes 3 = .ok (.istore_n 2, 1) := dk_61 (dk_at dksX1_redVotes_0 3 rfl rfl)
theorem dX1_redVotes_4 : decode cX1_redVotes 4 = .ok (.iload_n 2, 1) := dk_28 (dk_at dksX1_redVotes_0 4 rfl rfl)
theorem dX1_redVotes_5 : decode cX1_redVotes 5 = .ok (.aload_n 0, 1) := dk_42 (dk_at dksX1_redVotes_0 5 rfl rfl)
theorem dX1_redVotes_6 : decode cX1_redVotes 6 = .ok (.getfield 56, 3) := dk_180 0 56 (dk_at dksX1_redVotes_0 6 rfl rfl)
theorem dX1_redVotes_9 : decode cX1_redVotes 9 = .ok (.invokevirtual 68, 3) := dk_182 0 68 (dk_at dksX1_redVotes_0 9 rfl rfl)
theorem dX1_redVotes_12 : decode cX1_redVotes 12 = .ok (.if_icmp .ge 70, 3) := dk_162 0 70 (dk_at dksX1_redVotes_0 12 rfl rfl)
theorem dX1_redVotes_15 : decode cX1_redVotes 15 = .ok (.aload_n 0, 1) := dk_42 (dk_at dksX1_redVotes_0 15 rfl rfl)
theorem dX1_redVotes_16 : decode cX1_redVotes 16 = .ok (.getfield 56, 3) := dk_180 0 56 (dk_at dksX1_redVotes_0 16 rfl rfl)
theorem dX1_redVotes_19 : decode cX1_redVotes 19 = .ok (.iload_n 2, 1) := dk_28 (dk_at dksX1_redVotes_0 19 rfl rfl)
theorem dX1_redVotes_20 : decode cX1_redVotes 20 = .ok (.invokevirtual 76, 3) := dk_182 0 76 (dk_at dksX1_redVotes_0 20 rfl rfl)
theorem dX1_redVotes_23 : decode cX1_redVotes 23 = .ok (.getfield 205, 3) := dk_180 0 205 (dk_at dksX1_redVotes_1 0 rfl rfl)
theorem dX1_redVotes_26 : decode cX1_redVotes 26 = .ok (.invokeinterface 209 1, 5) := by decide +kernel
theorem dX1_redVotes_31 : decode cX1_redVotes 31 = .ok (.invokeinterface 215 1, 5) := by decide +kernel
theorem dX1_redVotes_36 : decode cX1_redVotes 36 = .ok (.astore_n 3, 1) := dk_78 (dk_at dksX1_redVotes_1 13 rfl rfl)
theorem dX1_redVotes_37 : decode cX1_redVotes 37 = .ok (.aload_n 3, 1) := dk_45 (dk_at dksX1_redVotes_1 14 rfl rfl)
theorem dX1_redVotes_38 : decode cX1_redVotes 38 = .ok (.invokeinterface 221 1, 5) := by decide +kernel
theorem dX1_redVotes_43 : decode cX1_redVotes 43 = .ok (.ifCond .eq 33, 3) := dk_153 0 33 (dk_at dksX1_redVotes_1 20 rfl rfl)
theorem dX1_redVotes_46 : decode cX1_redVotes 46 = .ok (.aload_n 3, 1) := dk_45 (dk_at dksX1_redVotes_1 23 rfl rfl)
theorem dX1_redVotes_47 : decode cX1_redVotes 47 = .ok (.invokeinterface 227 1, 5) := by decide +kernel
theorem dX1_redVotes_52 : decode cX1_redVotes 52 = .ok (.checkcast 231, 3) := dk_192 0 231 (dk_at dksX1_redVotes_2 5 rfl rfl)
theorem dX1_redVotes_55 : decode cX1_redVotes 55 = .ok (.astore 4, 2) := dk_58 4 (dk_at dksX1_redVotes_2 8 rfl rfl)
theorem dX1_redVotes_57 : decode cX1_redVotes 57 = .ok (.iload_n 1, 1) := dk_27 (dk_at dksX1_redVotes_2 10 rfl rfl)
theorem dX1_redVotes_58 : decode cX1_redVotes 58 = .ok (.aload 4, 2) := dk_25 4 (dk_at dksX1_redVotes_2 11 rfl rfl)
theorem dX1_redVotes_60 : decode cX1_redVotes 60 = .ok (.getfield 233, 3) := dk_180 0 233 (dk_at dksX1_redVotes_2 13 rfl rfl)
theorem dX1_redVotes_63 : decode cX1_redVotes 63 = .ok (.ifCond .eq 7, 3) := dk_153 0 7 (dk_at dksX1_redVotes_2 16 rfl rfl)
theorem dX1_redVotes_66 : decode cX1_redVotes 66 = .ok (.iconst 1, 1) := dk_4 (dk_at dksX1_redVotes_2 19 rfl rfl)
theorem dX1_redVotes_67 : decode cX1_redVotes 67 = .ok (.goto 4, 3) := dk_167 0 4 (dk_at dksX1_redVotes_2 20 rfl rfl)
theorem dX1_redVotes_70 : decode cX1_redVotes 70 = .ok (.iconst 0, 1) := dk_3 (dk_at dksX1_redVotes_2 23 rfl rfl)
theorem dX1_redVotes_71 : decode cX1_redVotes 71 = .ok (.iadd, 1) := dk_96 (dk_at dksX1_redVotes_3 0 rfl rfl)
theorem dX1_redVotes_72 : decode cX1_redVotes 72 = .ok (.istore_n 1, 1) := dk_60 (dk_at dksX1_redVotes_3 1 rfl rfl)
theorem dX1_redVotes_73 : decode cX1_redVotes 73 = .ok (.goto (-36), 3) := dk_167 255 220 (dk_at dksX1_redVotes_3 2 rfl rfl)
theorem dX1_redVotes_76 : decode cX1_redVotes 76 = .ok (.iinc 2 1, 3) := dk_132 2 1 (dk_at dksX1_redVotes_3 5 rfl rfl)
theorem dX1_redVotes_79 : decode cX1_redVotes 79 = .ok (.goto (-75), 3) := dk_167 255 181 (dk_at dksX1_redVotes_3 8 rfl rfl)
theorem dX1_redVotes_82 : decode cX1_redVotes 82 = .ok (.iload_n 1, 1) := dk_27 (dk_at dksX1_redVotes_3 11 rfl rfl)
theorem dX1_redVotes_83 : decode cX1_redVotes 83 = .ok (.ireturn, 1) := dk_172 (dk_at dksX1_redVotes_3 12 rfl rfl)
abbrev cX1_setting : ByteArray := prog_1_method_25_code
def yX1_setting : MethodName := ⟨RX1, "setting", "(I)I"⟩
def dkwX1_setting_0 : List UInt8 := [42, 182, 0, 64, 77, 27, 3, 8, 184, 0, 46, 184, 0, 237, 44, 180, 0, 240, 27, 46, 172]
abbrev dktX1_setting_0 : List UInt8 := dkwX1_setting_0 ++ []
theorem dksX1_setting_0 : cX1_setting.data.toList.drop 0 = dktX1_setting_0 := by decide +kernel
theorem dX1_setting_0 : decode cX1_setting 0 = .ok (.aload_n 0, 1) := dk_42 (dk_at dksX1_setting_0 0 rfl rfl)
theorem dX1_setting_1 : decode cX1_setting 1 = .ok (.invokevirtual 64, 3) := dk_182 0 64 (dk_at dksX1_setting_0 1 rfl rfl)
theorem dX1_setting_4 : decode cX1_setting 4 = .ok (.astore_n 2, 1) := dk_77 (dk_at dksX1_setting_0 4 rfl rfl)
theorem dX1_setting_5 : decode cX1_setting 5 = .ok (.iload_n 1, 1) := dk_27 (dk_at dksX1_setting_0 5 rfl rfl)
theorem dX1_setting_6 : decode cX1_setting 6 = .ok (.iconst 0, 1) := dk_3 (dk_at dksX1_setting_0 6 rfl rfl)
theorem dX1_setting_7 : decode cX1_setting 7 = .ok (.iconst 5, 1) := dk_8 (dk_at dksX1_setting_0 7 rfl rfl)
theorem dX1_setting_8 : decode cX1_setting 8 = .ok (.invokestatic 46, 3) := dk_184 0 46 (dk_at dksX1_setting_0 8 rfl rfl)
theorem dX1_setting_11 : decode cX1_setting 11 = .ok (.invokestatic 237, 3) := dk_184 0 237 (dk_at dksX1_setting_0 11 rfl rfl)
theorem dX1_setting_14 : decode cX1_setting 14 = .ok (.aload_n 2, 1) := dk_44 (dk_at dksX1_setting_0 14 rfl rfl)
theorem dX1_setting_15 : decode cX1_setting 15 = .ok (.getfield 240, 3) := dk_180 0 240 (dk_at dksX1_setting_0 15 rfl rfl)
theorem dX1_setting_18 : decode cX1_setting 18 = .ok (.iload_n 1, 1) := dk_27 (dk_at dksX1_setting_0 18 rfl rfl)
theorem dX1_setting_19 : decode cX1_setting 19 = .ok (.iaload, 1) := dk_46 (dk_at dksX1_setting_0 19 rfl rfl)
theorem dX1_setting_20 : decode cX1_setting 20 = .ok (.ireturn, 1) := dk_172 (dk_at dksX1_setting_0 20 rfl rfl)
abbrev cX1_checkArgument : ByteArray := prog_1_method_6_code
def yX1_checkArgument : MethodName := ⟨RX1, "checkArgument", "(Z)V"⟩
def dkwX1_checkArgument_0 : List UInt8 := [26, 154, 0, 11, 187, 0, 43, 89, 183, 0, 45, 191, 177]
abbrev dktX1_checkArgument_0 : List UInt8 := dkwX1_checkArgument_0 ++ []
theorem dksX1_checkArgument_0 : cX1_checkArgument.data.toList.drop 0 = dktX1_checkArgument_0 := by decide +kernel
theorem dX1_checkArgument_0 : decode cX1_checkArgument 0 = .ok (.iload_n 0, 1) := dk_26 (dk_at dksX1_checkArgument_0 0 rfl rfl)
theorem dX1_checkArgument_1 : decode cX1_checkArgument 1 = .ok (.ifCond .ne 11, 3) := dk_154 0 11 (dk_at dksX1_checkArgument_0 1 rfl rfl)
theorem dX1_checkArgument_4 : decode cX1_checkArgument 4 = .ok (.new 43, 3) := dk_187 0 43 (dk_at dksX1_checkArgument_0 4 rfl rfl)
theorem dX1_checkArgument_7 : decode cX1_checkArgument 7 = .ok (.dup, 1) := dk_89 (dk_at dksX1_checkArgument_0 7 rfl rfl)
theorem dX1_checkArgument_8 : decode cX1_checkArgument 8 = .ok (.invokespecial 45, 3) := dk_183 0 45 (dk_at dksX1_checkArgument_0 8 rfl rfl)
theorem dX1_checkArgument_11 : decode cX1_checkArgument 11 = .ok (.athrow, 1) := dk_191 (dk_at dksX1_checkArgument_0 11 rfl rfl)
theorem dX1_checkArgument_12 : decode cX1_checkArgument 12 = .ok (.return_, 1) := dk_177 (dk_at dksX1_checkArgument_0 12 rfl rfl)
abbrev cX1_cabin : ByteArray := prog_1_method_29_code
def yX1_cabin : MethodName := ⟨RX1, "cabin", "(II)I"⟩
def dkwX1_cabin_6 : List UInt8 := [167, 0, 11, 187, 0, 43, 89, 183, 0, 45, 191, 172]
abbrev dktX1_cabin_6 : List UInt8 := dkwX1_cabin_6 ++ []
def dkwX1_cabin_5 : List UInt8 := [184, 0, 182, 167, 0, 31, 42, 27, 182, 1, 43, 167, 0, 23, 45, 184, 1, 46, 185, 1, 50, 1, 0]
abbrev dktX1_cabin_5 : List UInt8 := dkwX1_cabin_5 ++ dktX1_cabin_6
def dkwX1_cabin_4 : List UInt8 := [182, 1, 36, 167, 0, 53, 45, 180, 0, 205, 185, 1, 39, 1, 0, 167, 0, 41, 45, 180, 1, 40]
abbrev dktX1_cabin_4 : List UInt8 := dkwX1_cabin_4 ++ dktX1_cabin_5
def dkwX1_cabin_3 : List UInt8 := [180, 0, 200, 167, 0, 75, 45, 180, 1, 32, 167, 0, 68, 45, 180, 1, 35, 167, 0, 61, 42, 27]
abbrev dktX1_cabin_3 : List UInt8 := dkwX1_cabin_3 ++ dktX1_cabin_4
def dkwX1_cabin_2 : List UInt8 := [45, 180, 1, 23, 167, 0, 96, 45, 180, 1, 26, 167, 0, 89, 45, 180, 1, 29, 167, 0, 82, 45]
abbrev dktX1_cabin_2 : List UInt8 := dkwX1_cabin_2 ++ dktX1_cabin_3
def dkwX1_cabin_1 : List UInt8 := [170, 0, 0, 0, 149, 0, 0, 0, 0, 0, 0, 0, 10, 0, 0, 0, 57, 0, 0, 0, 64, 0, 0, 0, 71, 0, 0, 0, 78, 0, 0, 0, 85, 0, 0, 0, 92, 0, 0, 0, 99, 0, 0, 0, 107, 0, 0, 0, 119, 0, 0, 0, 129, 0, 0, 0, 137]
abbrev dktX1_cabin_1 : List UInt8 := dkwX1_cabin_1 ++ dktX1_cabin_2
def dkwX1_cabin_0 : List UInt8 := [42, 27, 182, 0, 87, 78, 28]
abbrev dktX1_cabin_0 : List UInt8 := dkwX1_cabin_0 ++ dktX1_cabin_1
theorem dksX1_cabin_0 : cX1_cabin.data.toList.drop 0 = dktX1_cabin_0 := by decide +kernel
theorem dksX1_cabin_1 : cX1_cabin.data.toList.drop 7 = dktX1_cabin_1 := dk_seg dksX1_cabin_0 7 rfl rfl
theorem dksX1_cabin_2 : cX1_cabin.data.toList.drop 64 = dktX1_cabin_2 := dk_seg dksX1_cabin_1 57 rfl rfl
theorem dksX1_cabin_3 : cX1_cabin.data.toList.drop 86 = dktX1_cabin_3 := dk_seg dksX1_cabin_2 22 rfl rfl
theorem dksX1_cabin_4 : cX1_cabin.data.toList.drop 108 = dktX1_cabin_4 := dk_seg dksX1_cabin_3 22 rfl rfl
theorem dksX1_cabin_5 : cX1_cabin.data.toList.drop 130 = dktX1_cabin_5 := dk_seg dksX1_cabin_4 22 rfl rfl
theorem dksX1_cabin_6 : cX1_cabin.data.toList.drop 153 = dktX1_cabin_6 := dk_seg dksX1_cabin_5 23 rfl rfl
theorem dX1_cabin_0 : decode cX1_cabin 0 = .ok (.aload_n 0, 1) := dk_42 (dk_at dksX1_cabin_0 0 rfl rfl)
theorem dX1_cabin_1 : decode cX1_cabin 1 = .ok (.iload_n 1, 1) := dk_27 (dk_at dksX1_cabin_0 1 rfl rfl)
theorem dX1_cabin_2 : decode cX1_cabin 2 = .ok (.invokevirtual 87, 3) := dk_182 0 87 (dk_at dksX1_cabin_0 2 rfl rfl)
theorem dX1_cabin_5 : decode cX1_cabin 5 = .ok (.astore_n 3, 1) := dk_78 (dk_at dksX1_cabin_0 5 rfl rfl)
theorem dX1_cabin_6 : decode cX1_cabin 6 = .ok (.iload_n 2, 1) := dk_28 (dk_at dksX1_cabin_0 6 rfl rfl)
theorem dX1_cabin_7 : decode cX1_cabin 7 = .ok (.tableswitch 149 0 10 #[57, 64, 71, 78, 85, 92, 99, 107, 119, 129, 137], 57) := by decide +kernel
theorem dX1_cabin_64 : decode cX1_cabin 64 = .ok (.aload_n 3, 1) := dk_45 (dk_at dksX1_cabin_2 0 rfl rfl)
theorem dX1_cabin_65 : decode cX1_cabin 65 = .ok (.getfield 279, 3) := dk_180 1 23 (dk_at dksX1_cabin_2 1 rfl rfl)
theorem dX1_cabin_68 : decode cX1_cabin 68 = .ok (.goto 96, 3) := dk_167 0 96 (dk_at dksX1_cabin_2 4 rfl rfl)
theorem dX1_cabin_71 : decode cX1_cabin 71 = .ok (.aload_n 3, 1) := dk_45 (dk_at dksX1_cabin_2 7 rfl rfl)
theorem dX1_cabin_72 : decode cX1_cabin 72 = .ok (.getfield 282, 3) := dk_180 1 26 (dk_at dksX1_cabin_2 8 rfl rfl)
theorem dX1_cabin_75 : decode cX1_cabin 75 = .ok (.goto 89, 3) := dk_167 0 89 (dk_at dksX1_cabin_2 11 rfl rfl)
theorem dX1_cabin_78 : decode cX1_cabin 78 = .ok (.aload_n 3, 1) := dk_45 (dk_at dksX1_cabin_2 14 rfl rfl)
theorem dX1_cabin_79 : decode cX1_cabin 79 = .ok (.getfield 285, 3) := dk_180 1 29 (dk_at dksX1_cabin_2 15 rfl rfl)
theorem dX1_cabin_82 : decode cX1_cabin 82 = .ok (.goto 82, 3) := dk_167 0 82 (dk_at dksX1_cabin_2 18 rfl rfl)
theorem dX1_cabin_85 : decode cX1_cabin 85 = .ok (.aload_n 3, 1) := dk_45 (dk_at dksX1_cabin_2 21 rfl rfl)
theorem dX1_cabin_86 : decode cX1_cabin 86 = .ok (.getfield 200, 3) := dk_180 0 200 (dk_at dksX1_cabin_3 0 rfl rfl)
theorem dX1_cabin_89 : decode cX1_cabin 89 = .ok (.goto 75, 3) := dk_167 0 75 (dk_at dksX1_cabin_3 3 rfl rfl)
theorem dX1_cabin_92 : decode cX1_cabin 92 = .ok (.aload_n 3, 1) := dk_45 (dk_at dksX1_cabin_3 6 rfl rfl)
theorem dX1_cabin_93 : decode cX1_cabin 93 = .ok (.getfield 288, 3) := dk_180 1 32 (dk_at dksX1_cabin_3 7 rfl rfl)
theorem dX1_cabin_96 : decode cX1_cabin 96 = .ok (.goto 68, 3) := dk_167 0 68 (dk_at dksX1_cabin_3 10 rfl rfl)
theorem dX1_cabin_99 : decode cX1_cabin 99 = .ok (.aload_n 3, 1) := dk_45 (dk_at dksX1_cabin_3 13 rfl rfl)
theorem dX1_cabin_100 : decode cX1_cabin 100 = .ok (.getfield 291, 3) := dk_180 1 35 (dk_at dksX1_cabin_3 14 rfl rfl)
theorem dX1_cabin_103 : decode cX1_cabin 103 = .ok (.goto 61, 3) := dk_167 0 61 (dk_at dksX1_cabin_3 17 rfl rfl)
theorem dX1_cabin_106 : decode cX1_cabin 106 = .ok (.aload_n 0, 1) := dk_42 (dk_at dksX1_cabin_3 20 rfl rfl)
theorem dX1_cabin_107 : decode cX1_cabin 107 = .ok (.iload_n 1, 1) := dk_27 (dk_at dksX1_cabin_3 21 rfl rfl)
theorem dX1_cabin_108 : decode cX1_cabin 108 = .ok (.invokevirtual 292, 3) := dk_182 1 36 (dk_at dksX1_cabin_4 0 rfl rfl)
theorem dX1_cabin_111 : decode cX1_cabin 111 = .ok (.goto 53, 3) := dk_167 0 53 (dk_at dksX1_cabin_4 3 rfl rfl)
theorem dX1_cabin_114 : decode cX1_cabin 114 = .ok (.aload_n 3, 1) := dk_45 (dk_at dksX1_cabin_4 6 rfl rfl)
theorem dX1_cabin_115 : decode cX1_cabin 115 = .ok (.getfield 205, 3) := dk_180 0 205 (dk_at dksX1_cabin_4 7 rfl rfl)
theorem dX1_cabin_118 : decode cX1_cabin 118 = .ok (.invokeinterface 295 1, 5) := by decide +kernel
theorem dX1_cabin_123 : decode cX1_cabin 123 = .ok (.goto 41, 3) := dk_167 0 41 (dk_at dksX1_cabin_4 15 rfl rfl)
theorem dX1_cabin_126 : decode cX1_cabin 126 = .ok (.aload_n 3, 1) := dk_45 (dk_at dksX1_cabin_4 18 rfl rfl)
theorem dX1_cabin_127 : decode cX1_cabin 127 = .ok (.getfield 296, 3) := dk_180 1 40 (dk_at dksX1_cabin_4 19 rfl rfl)
theorem dX1_cabin_130 : decode cX1_cabin 130 = .ok (.invokestatic 182, 3) := dk_184 0 182 (dk_at dksX1_cabin_5 0 rfl rfl)
theorem dX1_cabin_133 : decode cX1_cabin 133 = .ok (.goto 31, 3) := dk_167 0 31 (dk_at dksX1_cabin_5 3 rfl rfl)
theorem dX1_cabin_136 : decode cX1_cabin 136 = .ok (.aload_n 0, 1) := dk_42 (dk_at dksX1_cabin_5 6 rfl rfl)
theorem dX1_cabin_137 : decode cX1_cabin 137 = .ok (.iload_n 1, 1) := dk_27 (dk_at dksX1_cabin_5 7 rfl rfl)
theorem dX1_cabin_138 : decode cX1_cabin 138 = .ok (.invokevirtual 299, 3) := dk_182 1 43 (dk_at dksX1_cabin_5 8 rfl rfl)
theorem dX1_cabin_141 : decode cX1_cabin 141 = .ok (.goto 23, 3) := dk_167 0 23 (dk_at dksX1_cabin_5 11 rfl rfl)
theorem dX1_cabin_144 : decode cX1_cabin 144 = .ok (.aload_n 3, 1) := dk_45 (dk_at dksX1_cabin_5 14 rfl rfl)
theorem dX1_cabin_145 : decode cX1_cabin 145 = .ok (.invokestatic 302, 3) := dk_184 1 46 (dk_at dksX1_cabin_5 15 rfl rfl)
theorem dX1_cabin_148 : decode cX1_cabin 148 = .ok (.invokeinterface 306 1, 5) := by decide +kernel
theorem dX1_cabin_153 : decode cX1_cabin 153 = .ok (.goto 11, 3) := dk_167 0 11 (dk_at dksX1_cabin_6 0 rfl rfl)
theorem dX1_cabin_156 : decode cX1_cabin 156 = .ok (.new 43, 3) := dk_187 0 43 (dk_at dksX1_cabin_6 3 rfl rfl)
theorem dX1_cabin_159 : decode cX1_cabin 159 = .ok (.dup, 1) := dk_89 (dk_at dksX1_cabin_6 6 rfl rfl)
theorem dX1_cabin_160 : decode cX1_cabin 160 = .ok (.invokespecial 45, 3) := dk_183 0 45 (dk_at dksX1_cabin_6 7 rfl rfl)
theorem dX1_cabin_163 : decode cX1_cabin 163 = .ok (.athrow, 1) := dk_191 (dk_at dksX1_cabin_6 10 rfl rfl)
theorem dX1_cabin_164 : decode cX1_cabin 164 = .ok (.ireturn, 1) := dk_172 (dk_at dksX1_cabin_6 11 rfl rfl)
abbrev cX1_withCabin : ByteArray := prog_1_method_10_code
def yX1_withCabin : MethodName := ⟨RX1, "withCabin", "(I)LFlareSlopes$Cabin;"⟩
def dkwX1_withCabin_0 : List UInt8 := [27, 42, 182, 0, 64, 182, 0, 68, 184, 0, 72, 42, 180, 0, 56, 27, 182, 0, 76, 176]
abbrev dktX1_withCabin_0 : List UInt8 := dkwX1_withCabin_0 ++ []
theorem dksX1_withCabin_0 : cX1_withCabin.data.toList.drop 0 = dktX1_withCabin_0 := by decide +kernel
theorem dX1_withCabin_0 : decode cX1_withCabin 0 = .ok (.iload_n 1, 1) := dk_27 (dk_at dksX1_withCabin_0 0 rfl rfl)
theorem dX1_withCabin_1 : decode cX1_withCabin 1 = .ok (.aload_n 0, 1) := dk_42 (dk_at dksX1_withCabin_0 1 rfl rfl)
theorem dX1_withCabin_2 : decode cX1_withCabin 2 = .ok (.invokevirtual 64, 3) := dk_182 0 64 (dk_at dksX1_withCabin_0 2 rfl rfl)
theorem dX1_withCabin_5 : decode cX1_withCabin 5 = .ok (.invokevirtual 68, 3) := dk_182 0 68 (dk_at dksX1_withCabin_0 5 rfl rfl)
theorem dX1_withCabin_8 : decode cX1_withCabin 8 = .ok (.invokestatic 72, 3) := dk_184 0 72 (dk_at dksX1_withCabin_0 8 rfl rfl)
theorem dX1_withCabin_11 : decode cX1_withCabin 11 = .ok (.aload_n 0, 1) := dk_42 (dk_at dksX1_withCabin_0 11 rfl rfl)
theorem dX1_withCabin_12 : decode cX1_withCabin 12 = .ok (.getfield 56, 3) := dk_180 0 56 (dk_at dksX1_withCabin_0 12 rfl rfl)
theorem dX1_withCabin_15 : decode cX1_withCabin 15 = .ok (.iload_n 1, 1) := dk_27 (dk_at dksX1_withCabin_0 15 rfl rfl)
theorem dX1_withCabin_16 : decode cX1_withCabin 16 = .ok (.invokevirtual 76, 3) := dk_182 0 76 (dk_at dksX1_withCabin_0 16 rfl rfl)
theorem dX1_withCabin_19 : decode cX1_withCabin 19 = .ok (.areturn, 1) := dk_176 (dk_at dksX1_withCabin_0 19 rfl rfl)
abbrev cX1_votesOfAll : ByteArray := prog_1_method_26_code
def yX1_votesOfAll : MethodName := ⟨RX1, "votesOfAll", "(I)I"⟩
def dkwX1_votesOfAll_0 : List UInt8 := [42, 180, 0, 56, 27, 187, 0, 244, 89, 42, 183, 0, 246, 182, 0, 249, 172]
abbrev dktX1_votesOfAll_0 : List UInt8 := dkwX1_votesOfAll_0 ++ []
theorem dksX1_votesOfAll_0 : cX1_votesOfAll.data.toList.drop 0 = dktX1_votesOfAll_0 := by decide +kernel
theorem dX1_votesOfAll_0 : decode cX1_votesOfAll 0 = .ok (.aload_n 0, 1) := dk_42 (dk_at dksX1_votesOfAll_0 0 rfl rfl)
theorem dX1_votesOfAll_1 : decode cX1_votesOfAll 1 = .ok (.getfield 56, 3) := dk_180 0 56 (dk_at dksX1_votesOfAll_0 1 rfl rfl)
theorem dX1_votesOfAll_4 : decode cX1_votesOfAll 4 = .ok (.iload_n 1, 1) := dk_27 (dk_at dksX1_votesOfAll_0 4 rfl rfl)
theorem dX1_votesOfAll_5 : decode cX1_votesOfAll 5 = .ok (.new 244, 3) := dk_187 0 244 (dk_at dksX1_votesOfAll_0 5 rfl rfl)
theorem dX1_votesOfAll_8 : decode cX1_votesOfAll 8 = .ok (.dup, 1) := dk_89 (dk_at dksX1_votesOfAll_0 8 rfl rfl)
theorem dX1_votesOfAll_9 : decode cX1_votesOfAll 9 = .ok (.aload_n 0, 1) := dk_42 (dk_at dksX1_votesOfAll_0 9 rfl rfl)
theorem dX1_votesOfAll_10 : decode cX1_votesOfAll 10 = .ok (.invokespecial 246, 3) := dk_183 0 246 (dk_at dksX1_votesOfAll_0 10 rfl rfl)
theorem dX1_votesOfAll_13 : decode cX1_votesOfAll 13 = .ok (.invokevirtual 249, 3) := dk_182 0 249 (dk_at dksX1_votesOfAll_0 13 rfl rfl)
theorem dX1_votesOfAll_16 : decode cX1_votesOfAll 16 = .ok (.ireturn, 1) := dk_172 (dk_at dksX1_votesOfAll_0 16 rfl rfl)
abbrev cX1_has : ByteArray := prog_1_method_2_code
def yX1_has : MethodName := ⟨RX1, "has", "(II)Z"⟩
def dkwX1_has_0 : List UInt8 := [26, 27, 122, 4, 126, 4, 160, 0, 7, 4, 167, 0, 4, 3, 172]
abbrev dktX1_has_0 : List UInt8 := dkwX1_has_0 ++ []
theorem dksX1_has_0 : cX1_has.data.toList.drop 0 = dktX1_has_0 := by decide +kernel
theorem dX1_has_0 : decode cX1_has 0 = .ok (.iload_n 0, 1) := dk_26 (dk_at dksX1_has_0 0 rfl rfl)
theorem dX1_has_1 : decode cX1_has 1 = .ok (.iload_n 1, 1) := dk_27 (dk_at dksX1_has_0 1 rfl rfl)
theorem dX1_has_2 : decode cX1_has 2 = .ok (.ishr, 1) := dk_122 (dk_at dksX1_has_0 2 rfl rfl)
theorem dX1_has_3 : decode cX1_has 3 = .ok (.iconst 1, 1) := dk_4 (dk_at dksX1_has_0 3 rfl rfl)
theorem dX1_has_4 : decode cX1_has 4 = .ok (.iand, 1) := dk_126 (dk_at dksX1_has_0 4 rfl rfl)
theorem dX1_has_5 : decode cX1_has 5 = .ok (.iconst 1, 1) := dk_4 (dk_at dksX1_has_0 5 rfl rfl)
theorem dX1_has_6 : decode cX1_has 6 = .ok (.if_icmp .ne 7, 3) := dk_160 0 7 (dk_at dksX1_has_0 6 rfl rfl)
theorem dX1_has_9 : decode cX1_has 9 = .ok (.iconst 1, 1) := dk_4 (dk_at dksX1_has_0 9 rfl rfl)
theorem dX1_has_10 : decode cX1_has 10 = .ok (.goto 4, 3) := dk_167 0 4 (dk_at dksX1_has_0 10 rfl rfl)
theorem dX1_has_13 : decode cX1_has 13 = .ok (.iconst 0, 1) := dk_3 (dk_at dksX1_has_0 13 rfl rfl)
theorem dX1_has_14 : decode cX1_has 14 = .ok (.ireturn, 1) := dk_172 (dk_at dksX1_has_0 14 rfl rfl)
abbrev cX1_slopesSeen : ByteArray := prog_1_method_27_code
def yX1_slopesSeen : MethodName := ⟨RX1, "slopesSeen", "(I)I"⟩
def dkwX1_slopesSeen_1 : List UInt8 := [182, 0, 253, 153, 0, 7, 4, 167, 0, 4, 3, 96, 61, 132, 3, 1, 167, 255, 222, 28, 172]
abbrev dktX1_slopesSeen_1 : List UInt8 := dkwX1_slopesSeen_1 ++ []
def dkwX1_slopesSeen_0 : List UInt8 := [3, 61, 3, 62, 29, 42, 180, 0, 56, 182, 0, 80, 162, 0, 29, 28, 42, 180, 0, 56, 27, 29]
abbrev dktX1_slopesSeen_0 : List UInt8 := dkwX1_slopesSeen_0 ++ dktX1_slopesSeen_1
theorem dksX1_slopesSeen_0 : cX1_slopesSeen.data.toList.drop 0 = dktX1_slopesSeen_0 := by decide +kernel
theorem dksX1_slopesSeen_1 : cX1_slopesSeen.data.toList.drop 22 = dktX1_slopesSeen_1 := dk_seg dksX1_slopesSeen_0 22 rfl rfl
theorem dX1_slopesSeen_0 : decode cX1_slopesSeen 0 = .ok (.iconst 0, 1) := dk_3 (dk_at dksX1_slopesSeen_0 0 rfl rfl)
theorem dX1_slopesSeen_1 : decode cX1_slopesSeen 1 = .ok (.istore_n 2, 1) := dk_61 (dk_at dksX1_slopesSeen_0 1 rfl rfl)
theorem dX1_slopesSeen_2 : decode cX1_slopesSeen 2 = .ok (.iconst 0, 1) := dk_3 (dk_at dksX1_slopesSeen_0 2 rfl rfl)
theorem dX1_slopesSeen_3 : decode cX1_slopesSeen 3 = .ok (.istore_n 3, 1) := dk_62 (dk_at dksX1_slopesSeen_0 3 rfl rfl)
theorem dX1_slopesSeen_4 : decode cX1_slopesSeen 4 = .ok (.iload_n 3, 1) := dk_29 (dk_at dksX1_slopesSeen_0 4 rfl rfl)
theorem dX1_slopesSeen_5 : decode cX1_slopesSeen 5 = .ok (.aload_n 0, 1) := dk_42 (dk_at dksX1_slopesSeen_0 5 rfl rfl)
theorem dX1_slopesSeen_6 : decode cX1_slopesSeen 6 = .ok (.getfield 56, 3) := dk_180 0 56 (dk_at dksX1_slopesSeen_0 6 rfl rfl)
theorem dX1_slopesSeen_9 : decode cX1_slopesSeen 9 = .ok (.invokevirtual 80, 3) := dk_182 0 80 (dk_at dksX1_slopesSeen_0 9 rfl rfl)
theorem dX1_slopesSeen_12 : decode cX1_slopesSeen 12 = .ok (.if_icmp .ge 29, 3) := dk_162 0 29 (dk_at dksX1_slopesSeen_0 12 rfl rfl)
theorem dX1_slopesSeen_15 : decode cX1_slopesSeen 15 = .ok (.iload_n 2, 1) := dk_28 (dk_at dksX1_slopesSeen_0 15 rfl rfl)
theorem dX1_slopesSeen_16 : decode cX1_slopesSeen 16 = .ok (.aload_n 0, 1) := dk_42 (dk_at dksX1_slopesSeen_0 16 rfl rfl)
theorem dX1_slopesSeen_17 : decode cX1_slopesSeen 17 = .ok (.getfield 56, 3) := dk_180 0 56 (dk_at dksX1_slopesSeen_0 17 rfl rfl)
theorem dX1_slopesSeen_20 : decode cX1_slopesSeen 20 = .ok (.iload_n 1, 1) := dk_27 (dk_at dksX1_slopesSeen_0 20 rfl rfl)
theorem dX1_slopesSeen_21 : decode cX1_slopesSeen 21 = .ok (.iload_n 3, 1) := dk_29 (dk_at dksX1_slopesSeen_0 21 rfl rfl)
theorem dX1_slopesSeen_22 : decode cX1_slopesSeen 22 = .ok (.invokevirtual 253, 3) := dk_182 0 253 (dk_at dksX1_slopesSeen_1 0 rfl rfl)
theorem dX1_slopesSeen_25 : decode cX1_slopesSeen 25 = .ok (.ifCond .eq 7, 3) := dk_153 0 7 (dk_at dksX1_slopesSeen_1 3 rfl rfl)
theorem dX1_slopesSeen_28 : decode cX1_slopesSeen 28 = .ok (.iconst 1, 1) := dk_4 (dk_at dksX1_slopesSeen_1 6 rfl rfl)
theorem dX1_slopesSeen_29 : decode cX1_slopesSeen 29 = .ok (.goto 4, 3) := dk_167 0 4 (dk_at dksX1_slopesSeen_1 7 rfl rfl)
theorem dX1_slopesSeen_32 : decode cX1_slopesSeen 32 = .ok (.iconst 0, 1) := dk_3 (dk_at dksX1_slopesSeen_1 10 rfl rfl)
theorem dX1_slopesSeen_33 : decode cX1_slopesSeen 33 = .ok (.iadd, 1) := dk_96 (dk_at dksX1_slopesSeen_1 11 rfl rfl)
theorem dX1_slopesSeen_34 : decode cX1_slopesSeen 34 = .ok (.istore_n 2, 1) := dk_61 (dk_at dksX1_slopesSeen_1 12 rfl rfl)
theorem dX1_slopesSeen_35 : decode cX1_slopesSeen 35 = .ok (.iinc 3 1, 3) := dk_132 3 1 (dk_at dksX1_slopesSeen_1 13 rfl rfl)
theorem dX1_slopesSeen_38 : decode cX1_slopesSeen 38 = .ok (.goto (-34), 3) := dk_167 255 222 (dk_at dksX1_slopesSeen_1 16 rfl rfl)
theorem dX1_slopesSeen_41 : decode cX1_slopesSeen 41 = .ok (.iload_n 2, 1) := dk_28 (dk_at dksX1_slopesSeen_1 19 rfl rfl)
theorem dX1_slopesSeen_42 : decode cX1_slopesSeen 42 = .ok (.ireturn, 1) := dk_172 (dk_at dksX1_slopesSeen_1 20 rfl rfl)
abbrev cX1_slopesOf : ByteArray := prog_1_method_28_code
def yX1_slopesOf : MethodName := ⟨RX1, "slopesOf", "(LFlareSlopes$Cabin;)Ljava/util/Set;"⟩
def dkwX1_slopesOf_2 : List UInt8 := [184, 1, 15, 185, 1, 19, 2, 0, 54, 4, 167, 255, 222, 43, 176]
abbrev dktX1_slopesOf_2 : List UInt8 := dkwX1_slopesOf_2 ++ []
def dkwX1_slopesOf_1 : List UInt8 := [185, 0, 221, 1, 0, 153, 0, 31, 44, 185, 0, 227, 1, 0, 192, 1, 11, 78, 43, 45, 180, 1, 13]
abbrev dktX1_slopesOf_1 : List UInt8 := dkwX1_slopesOf_1 ++ dktX1_slopesOf_2
def dkwX1_slopesOf_0 : List UInt8 := [187, 1, 1, 89, 183, 1, 3, 76, 42, 180, 0, 205, 185, 1, 4, 1, 0, 185, 1, 8, 1, 0, 77, 44]
abbrev dktX1_slopesOf_0 : List UInt8 := dkwX1_slopesOf_0 ++ dktX1_slopesOf_1
theorem dksX1_slopesOf_0 : cX1_slopesOf.data.toList.drop 0 = dktX1_slopesOf_0 := by decide +kernel
theorem dksX1_slopesOf_1 : cX1_slopesOf.data.toList.drop 24 = dktX1_slopesOf_1 := dk_seg dksX1_slopesOf_0 24 rfl rfl
theorem dksX1_slopesOf_2 : cX1_slopesOf.data.toList.drop 47 = dktX1_slopesOf_2 := dk_seg dksX1_slopesOf_1 23 rfl rfl
theorem dX1_slopesOf_0 : decode cX1_slopesOf 0 = .ok (.new 257, 3) := dk_187 1 1 (dk_at dksX1_slopesOf_0 0 rfl rfl)
theorem dX1_slopesOf_3 : decode cX1_slopesOf 3 = .ok (.dup, 1) := dk_89 (dk_at dksX1_slopesOf_0 3 rfl rfl)
theorem dX1_slopesOf_4 : decode cX1_slopesOf 4 = .ok (.invokespecial 259, 3) := dk_183 1 3 (dk_at dksX1_slopesOf_0 4 rfl rfl)
theorem dX1_slopesOf_7 : decode cX1_slopesOf 7 = .ok (.astore_n 1, 1) := dk_76 (dk_at dksX1_slopesOf_0 7 rfl rfl)
theorem dX1_slopesOf_8 : decode cX1_slopesOf 8 = .ok (.aload_n 0, 1) := dk_42 (dk_at dksX1_slopesOf_0 8 rfl rfl)
theorem dX1_slopesOf_9 : decode cX1_slopesOf 9 = .ok (.getfield 205, 3) := dk_180 0 205 (dk_at dksX1_slopesOf_0 9 rfl rfl)
theorem dX1_slopesOf_12 : decode cX1_slopesOf 12 = .ok (.invokeinterface 260 1, 5) := by decide +kernel
theorem dX1_slopesOf_17 : decode cX1_slopesOf 17 = .ok (.invokeinterface 264 1, 5) := by decide +kernel
theorem dX1_slopesOf_22 : decode cX1_slopesOf 22 = .ok (.astore_n 2, 1) := dk_77 (dk_at dksX1_slopesOf_0 22 rfl rfl)
theorem dX1_slopesOf_23 : decode cX1_slopesOf 23 = .ok (.aload_n 2, 1) := dk_44 (dk_at dksX1_slopesOf_0 23 rfl rfl)
theorem dX1_slopesOf_24 : decode cX1_slopesOf 24 = .ok (.invokeinterface 221 1, 5) := by decide +kernel
theorem dX1_slopesOf_29 : decode cX1_slopesOf 29 = .ok (.ifCond .eq 31, 3) := dk_153 0 31 (dk_at dksX1_slopesOf_1 5 rfl rfl)
theorem dX1_slopesOf_32 : decode cX1_slopesOf 32 = .ok (.aload_n 2, 1) := dk_44 (dk_at dksX1_slopesOf_1 8 rfl rfl)
theorem dX1_slopesOf_33 : decode cX1_slopesOf 33 = .ok (.invokeinterface 227 1, 5) := by decide +kernel
theorem dX1_slopesOf_38 : decode cX1_slopesOf 38 = .ok (.checkcast 267, 3) := dk_192 1 11 (dk_at dksX1_slopesOf_1 14 rfl rfl)
theorem dX1_slopesOf_41 : decode cX1_slopesOf 41 = .ok (.astore_n 3, 1) := dk_78 (dk_at dksX1_slopesOf_1 17 rfl rfl)
theorem dX1_slopesOf_42 : decode cX1_slopesOf 42 = .ok (.aload_n 1, 1) := dk_43 (dk_at dksX1_slopesOf_1 18 rfl rfl)
theorem dX1_slopesOf_43 : decode cX1_slopesOf 43 = .ok (.aload_n 3, 1) := dk_45 (dk_at dksX1_slopesOf_1 19 rfl rfl)
theorem dX1_slopesOf_44 : decode cX1_slopesOf 44 = .ok (.getfield 269, 3) := dk_180 1 13 (dk_at dksX1_slopesOf_1 20 rfl rfl)
theorem dX1_slopesOf_47 : decode cX1_slopesOf 47 = .ok (.invokestatic 271, 3) := dk_184 1 15 (dk_at dksX1_slopesOf_2 0 rfl rfl)
theorem dX1_slopesOf_50 : decode cX1_slopesOf 50 = .ok (.invokeinterface 275 2, 5) := by decide +kernel
theorem dX1_slopesOf_55 : decode cX1_slopesOf 55 = .ok (.istore 4, 2) := dk_54 4 (dk_at dksX1_slopesOf_2 8 rfl rfl)
theorem dX1_slopesOf_57 : decode cX1_slopesOf 57 = .ok (.goto (-34), 3) := dk_167 255 222 (dk_at dksX1_slopesOf_2 10 rfl rfl)
theorem dX1_slopesOf_60 : decode cX1_slopesOf 60 = .ok (.aload_n 1, 1) := dk_43 (dk_at dksX1_slopesOf_2 13 rfl rfl)
theorem dX1_slopesOf_61 : decode cX1_slopesOf 61 = .ok (.areturn, 1) := dk_176 (dk_at dksX1_slopesOf_2 14 rfl rfl)
abbrev cX1_slope : ByteArray := prog_1_method_33_code
def yX1_slope : MethodName := ⟨RX1, "slope", "(II)I"⟩
def dkwX1_slope_6 : List UInt8 := [187, 0, 43, 89, 183, 0, 45, 191, 172]
abbrev dktX1_slope_6 : List UInt8 := dkwX1_slope_6 ++ []
def dkwX1_slope_5 : List UInt8 := [167, 0, 30, 42, 27, 28, 16, 7, 160, 0, 7, 4, 167, 0, 4, 3, 182, 1, 82, 167, 0, 11]
abbrev dktX1_slope_5 : List UInt8 := dkwX1_slope_5 ++ dktX1_slope_6
def dkwX1_slope_4 : List UInt8 := [182, 1, 73, 184, 0, 182, 167, 0, 46, 42, 27, 182, 1, 76, 167, 0, 38, 42, 27, 182, 1, 79]
abbrev dktX1_slope_4 : List UInt8 := dkwX1_slope_4 ++ dktX1_slope_5
def dkwX1_slope_3 : List UInt8 := [180, 0, 56, 27, 182, 1, 69, 153, 0, 7, 4, 167, 0, 64, 3, 167, 0, 60, 42, 180, 0, 56, 27]
abbrev dktX1_slope_3 : List UInt8 := dkwX1_slope_3 ++ dktX1_slope_4
def dkwX1_slope_2 : List UInt8 := [45, 180, 1, 64, 167, 0, 93, 45, 180, 1, 67, 167, 0, 86, 45, 180, 1, 68, 167, 0, 79, 42]
abbrev dktX1_slope_2 : List UInt8 := dkwX1_slope_2 ++ dktX1_slope_3
def dkwX1_slope_1 : List UInt8 := [170, 0, 0, 0, 138, 0, 0, 0, 0, 0, 0, 0, 8, 0, 0, 0, 49, 0, 0, 0, 56, 0, 0, 0, 63, 0, 0, 0, 70, 0, 0, 0, 89, 0, 0, 0, 103, 0, 0, 0, 111, 0, 0, 0, 119, 0, 0, 0, 119]
abbrev dktX1_slope_1 : List UInt8 := dkwX1_slope_1 ++ dktX1_slope_2
def dkwX1_slope_0 : List UInt8 := [42, 27, 182, 1, 61, 78, 28]
abbrev dktX1_slope_0 : List UInt8 := dkwX1_slope_0 ++ dktX1_slope_1
theorem dksX1_slope_0 : cX1_slope.data.toList.drop 0 = dktX1_slope_0 := by decide +kernel
theorem dksX1_slope_1 : cX1_slope.data.toList.drop 7 = dktX1_slope_1 := dk_seg dksX1_slope_0 7 rfl rfl
theorem dksX1_slope_2 : cX1_slope.data.toList.drop 56 = dktX1_slope_2 := dk_seg dksX1_slope_1 49 rfl rfl
theorem dksX1_slope_3 : cX1_slope.data.toList.drop 78 = dktX1_slope_3 := dk_seg dksX1_slope_2 22 rfl rfl
theorem dksX1_slope_4 : cX1_slope.data.toList.drop 101 = dktX1_slope_4 := dk_seg dksX1_slope_3 23 rfl rfl
theorem dksX1_slope_5 : cX1_slope.data.toList.drop 123 = dktX1_slope_5 := dk_seg dksX1_slope_4 22 rfl rfl
theorem dksX1_slope_6 : cX1_slope.data.toList.drop 145 = dktX1_slope_6 := dk_seg dksX1_slope_5 22 rfl rfl
theorem dX1_slope_0 : decode cX1_slope 0 = .ok (.aload_n 0, 1) := dk_42 (dk_at dksX1_slope_0 0 rfl rfl)
theorem dX1_slope_1 : decode cX1_slope 1 = .ok (.iload_n 1, 1) := dk_27 (dk_at dksX1_slope_0 1 rfl rfl)
theorem dX1_slope_2 : decode cX1_slope 2 = .ok (.invokevirtual 317, 3) := dk_182 1 61 (dk_at dksX1_slope_0 2 rfl rfl)
theorem dX1_slope_5 : decode cX1_slope 5 = .ok (.astore_n 3, 1) := dk_78 (dk_at dksX1_slope_0 5 rfl rfl)
theorem dX1_slope_6 : decode cX1_slope 6 = .ok (.iload_n 2, 1) := dk_28 (dk_at dksX1_slope_0 6 rfl rfl)
theorem dX1_slope_7 : decode cX1_slope 7 = .ok (.tableswitch 138 0 8 #[49, 56, 63, 70, 89, 103, 111, 119, 119], 49) := by decide +kernel
theorem dX1_slope_56 : decode cX1_slope 56 = .ok (.aload_n 3, 1) := dk_45 (dk_at dksX1_slope_2 0 rfl rfl)
theorem dX1_slope_57 : decode cX1_slope 57 = .ok (.getfield 320, 3) := dk_180 1 64 (dk_at dksX1_slope_2 1 rfl rfl)
theorem dX1_slope_60 : decode cX1_slope 60 = .ok (.goto 93, 3) := dk_167 0 93 (dk_at dksX1_slope_2 4 rfl rfl)
theorem dX1_slope_63 : decode cX1_slope 63 = .ok (.aload_n 3, 1) := dk_45 (dk_at dksX1_slope_2 7 rfl rfl)
theorem dX1_slope_64 : decode cX1_slope 64 = .ok (.getfield 323, 3) := dk_180 1 67 (dk_at dksX1_slope_2 8 rfl rfl)
theorem dX1_slope_67 : decode cX1_slope 67 = .ok (.goto 86, 3) := dk_167 0 86 (dk_at dksX1_slope_2 11 rfl rfl)
theorem dX1_slope_70 : decode cX1_slope 70 = .ok (.aload_n 3, 1) := dk_45 (dk_at dksX1_slope_2 14 rfl rfl)
theorem dX1_slope_71 : decode cX1_slope 71 = .ok (.getfield 324, 3) := dk_180 1 68 (dk_at dksX1_slope_2 15 rfl rfl)
theorem dX1_slope_74 : decode cX1_slope 74 = .ok (.goto 79, 3) := dk_167 0 79 (dk_at dksX1_slope_2 18 rfl rfl)
theorem dX1_slope_77 : decode cX1_slope 77 = .ok (.aload_n 0, 1) := dk_42 (dk_at dksX1_slope_2 21 rfl rfl)
theorem dX1_slope_78 : decode cX1_slope 78 = .ok (.getfield 56, 3) := dk_180 0 56 (dk_at dksX1_slope_3 0 rfl rfl)
theorem dX1_slope_81 : decode cX1_slope 81 = .ok (.iload_n 1, 1) := dk_27 (dk_at dksX1_slope_3 3 rfl rfl)
theorem dX1_slope_82 : decode cX1_slope 82 = .ok (.invokevirtual 325, 3) := dk_182 1 69 (dk_at dksX1_slope_3 4 rfl rfl)
theorem dX1_slope_85 : decode cX1_slope 85 = .ok (.ifCond .eq 7, 3) := dk_153 0 7 (dk_at dksX1_slope_3 7 rfl rfl)
theorem dX1_slope_88 : decode cX1_slope 88 = .ok (.iconst 1, 1) := dk_4 (dk_at dksX1_slope_3 10 rfl rfl)
theorem dX1_slope_89 : decode cX1_slope 89 = .ok (.goto 64, 3) := dk_167 0 64 (dk_at dksX1_slope_3 11 rfl rfl)
theorem dX1_slope_92 : decode cX1_slope 92 = .ok (.iconst 0, 1) := dk_3 (dk_at dksX1_slope_3 14 rfl rfl)
theorem dX1_slope_93 : decode cX1_slope 93 = .ok (.goto 60, 3) := dk_167 0 60 (dk_at dksX1_slope_3 15 rfl rfl)
theorem dX1_slope_96 : decode cX1_slope 96 = .ok (.aload_n 0, 1) := dk_42 (dk_at dksX1_slope_3 18 rfl rfl)
theorem dX1_slope_97 : decode cX1_slope 97 = .ok (.getfield 56, 3) := dk_180 0 56 (dk_at dksX1_slope_3 19 rfl rfl)
theorem dX1_slope_100 : decode cX1_slope 100 = .ok (.iload_n 1, 1) := dk_27 (dk_at dksX1_slope_3 22 rfl rfl)
theorem dX1_slope_101 : decode cX1_slope 101 = .ok (.invokevirtual 329, 3) := dk_182 1 73 (dk_at dksX1_slope_4 0 rfl rfl)
theorem dX1_slope_104 : decode cX1_slope 104 = .ok (.invokestatic 182, 3) := dk_184 0 182 (dk_at dksX1_slope_4 3 rfl rfl)
theorem dX1_slope_107 : decode cX1_slope 107 = .ok (.goto 46, 3) := dk_167 0 46 (dk_at dksX1_slope_4 6 rfl rfl)
theorem dX1_slope_110 : decode cX1_slope 110 = .ok (.aload_n 0, 1) := dk_42 (dk_at dksX1_slope_4 9 rfl rfl)
theorem dX1_slope_111 : decode cX1_slope 111 = .ok (.iload_n 1, 1) := dk_27 (dk_at dksX1_slope_4 10 rfl rfl)
theorem dX1_slope_112 : decode cX1_slope 112 = .ok (.invokevirtual 332, 3) := dk_182 1 76 (dk_at dksX1_slope_4 11 rfl rfl)
theorem dX1_slope_115 : decode cX1_slope 115 = .ok (.goto 38, 3) := dk_167 0 38 (dk_at dksX1_slope_4 14 rfl rfl)
theorem dX1_slope_118 : decode cX1_slope 118 = .ok (.aload_n 0, 1) := dk_42 (dk_at dksX1_slope_4 17 rfl rfl)
theorem dX1_slope_119 : decode cX1_slope 119 = .ok (.iload_n 1, 1) := dk_27 (dk_at dksX1_slope_4 18 rfl rfl)
theorem dX1_slope_120 : decode cX1_slope 120 = .ok (.invokevirtual 335, 3) := dk_182 1 79 (dk_at dksX1_slope_4 19 rfl rfl)
theorem dX1_slope_123 : decode cX1_slope 123 = .ok (.goto 30, 3) := dk_167 0 30 (dk_at dksX1_slope_5 0 rfl rfl)
theorem dX1_slope_126 : decode cX1_slope 126 = .ok (.aload_n 0, 1) := dk_42 (dk_at dksX1_slope_5 3 rfl rfl)
theorem dX1_slope_127 : decode cX1_slope 127 = .ok (.iload_n 1, 1) := dk_27 (dk_at dksX1_slope_5 4 rfl rfl)
theorem dX1_slope_128 : decode cX1_slope 128 = .ok (.iload_n 2, 1) := dk_28 (dk_at dksX1_slope_5 5 rfl rfl)
theorem dX1_slope_129 : decode cX1_slope 129 = .ok (.bipush 7, 2) := dk_16 7 (dk_at dksX1_slope_5 6 rfl rfl)
theorem dX1_slope_131 : decode cX1_slope 131 = .ok (.if_icmp .ne 7, 3) := dk_160 0 7 (dk_at dksX1_slope_5 8 rfl rfl)
theorem dX1_slope_134 : decode cX1_slope 134 = .ok (.iconst 1, 1) := dk_4 (dk_at dksX1_slope_5 11 rfl rfl)
theorem dX1_slope_135 : decode cX1_slope 135 = .ok (.goto 4, 3) := dk_167 0 4 (dk_at dksX1_slope_5 12 rfl rfl)
theorem dX1_slope_138 : decode cX1_slope 138 = .ok (.iconst 0, 1) := dk_3 (dk_at dksX1_slope_5 15 rfl rfl)
theorem dX1_slope_139 : decode cX1_slope 139 = .ok (.invokevirtual 338, 3) := dk_182 1 82 (dk_at dksX1_slope_5 16 rfl rfl)
theorem dX1_slope_142 : decode cX1_slope 142 = .ok (.goto 11, 3) := dk_167 0 11 (dk_at dksX1_slope_5 19 rfl rfl)
theorem dX1_slope_145 : decode cX1_slope 145 = .ok (.new 43, 3) := dk_187 0 43 (dk_at dksX1_slope_6 0 rfl rfl)
theorem dX1_slope_148 : decode cX1_slope 148 = .ok (.dup, 1) := dk_89 (dk_at dksX1_slope_6 3 rfl rfl)
theorem dX1_slope_149 : decode cX1_slope 149 = .ok (.invokespecial 45, 3) := dk_183 0 45 (dk_at dksX1_slope_6 4 rfl rfl)
theorem dX1_slope_152 : decode cX1_slope 152 = .ok (.athrow, 1) := dk_191 (dk_at dksX1_slope_6 7 rfl rfl)
theorem dX1_slope_153 : decode cX1_slope 153 = .ok (.ireturn, 1) := dk_172 (dk_at dksX1_slope_6 8 rfl rfl)
abbrev cX1_withSlope : ByteArray := prog_1_method_11_code
def yX1_withSlope : MethodName := ⟨RX1, "withSlope", "(I)LFlareSlopes$Spot;"⟩
def dkwX1_withSlope_0 : List UInt8 := [27, 42, 182, 0, 64, 182, 0, 80, 184, 0, 72, 42, 180, 0, 56, 27, 182, 0, 83, 176]
abbrev dktX1_withSlope_0 : List UInt8 := dkwX1_withSlope_0 ++ []
theorem dksX1_withSlope_0 : cX1_withSlope.data.toList.drop 0 = dktX1_withSlope_0 := by decide +kernel
theorem dX1_withSlope_0 : decode cX1_withSlope 0 = .ok (.iload_n 1, 1) := dk_27 (dk_at dksX1_withSlope_0 0 rfl rfl)
theorem dX1_withSlope_1 : decode cX1_withSlope 1 = .ok (.aload_n 0, 1) := dk_42 (dk_at dksX1_withSlope_0 1 rfl rfl)
theorem dX1_withSlope_2 : decode cX1_withSlope 2 = .ok (.invokevirtual 64, 3) := dk_182 0 64 (dk_at dksX1_withSlope_0 2 rfl rfl)
theorem dX1_withSlope_5 : decode cX1_withSlope 5 = .ok (.invokevirtual 80, 3) := dk_182 0 80 (dk_at dksX1_withSlope_0 5 rfl rfl)
theorem dX1_withSlope_8 : decode cX1_withSlope 8 = .ok (.invokestatic 72, 3) := dk_184 0 72 (dk_at dksX1_withSlope_0 8 rfl rfl)
theorem dX1_withSlope_11 : decode cX1_withSlope 11 = .ok (.aload_n 0, 1) := dk_42 (dk_at dksX1_withSlope_0 11 rfl rfl)
theorem dX1_withSlope_12 : decode cX1_withSlope 12 = .ok (.getfield 56, 3) := dk_180 0 56 (dk_at dksX1_withSlope_0 12 rfl rfl)
theorem dX1_withSlope_15 : decode cX1_withSlope 15 = .ok (.iload_n 1, 1) := dk_27 (dk_at dksX1_withSlope_0 15 rfl rfl)
theorem dX1_withSlope_16 : decode cX1_withSlope 16 = .ok (.invokevirtual 83, 3) := dk_182 0 83 (dk_at dksX1_withSlope_0 16 rfl rfl)
theorem dX1_withSlope_19 : decode cX1_withSlope 19 = .ok (.areturn, 1) := dk_176 (dk_at dksX1_withSlope_0 19 rfl rfl)
abbrev cX1_seersOf : ByteArray := prog_1_method_30_code
def yX1_seersOf : MethodName := ⟨RX1, "seersOf", "(I)I"⟩
def dkwX1_seersOf_1 : List UInt8 := [182, 0, 253, 153, 0, 7, 4, 167, 0, 4, 3, 96, 61, 132, 3, 1, 167, 255, 222, 28, 172]
abbrev dktX1_seersOf_1 : List UInt8 := dkwX1_seersOf_1 ++ []
def dkwX1_seersOf_0 : List UInt8 := [3, 61, 3, 62, 29, 42, 180, 0, 56, 182, 0, 68, 162, 0, 29, 28, 42, 180, 0, 56, 29, 27]
abbrev dktX1_seersOf_0 : List UInt8 := dkwX1_seersOf_0 ++ dktX1_seersOf_1
theorem dksX1_seersOf_0 : cX1_seersOf.data.toList.drop 0 = dktX1_seersOf_0 := by decide +kernel
theorem dksX1_seersOf_1 : cX1_seersOf.data.toList.drop 22 = dktX1_seersOf_1 := dk_seg dksX1_seersOf_0 22 rfl rfl
theorem dX1_seersOf_0 : decode cX1_seersOf 0 = .ok (.iconst 0, 1) := dk_3 (dk_at dksX1_seersOf_0 0 rfl rfl)
theorem dX1_seersOf_1 : decode cX1_seersOf 1 = .ok (.istore_n 2, 1) := dk_61 (dk_at dksX1_seersOf_0 1 rfl rfl)
theorem dX1_seersOf_2 : decode cX1_seersOf 2 = .ok (.iconst 0, 1) := dk_3 (dk_at dksX1_seersOf_0 2 rfl rfl)
theorem dX1_seersOf_3 : decode cX1_seersOf 3 = .ok (.istore_n 3, 1) := dk_62 (dk_at dksX1_seersOf_0 3 rfl rfl)
theorem dX1_seersOf_4 : decode cX1_seersOf 4 = .ok (.iload_n 3, 1) := dk_29 (dk_at dksX1_seersOf_0 4 rfl rfl)
theorem dX1_seersOf_5 : decode cX1_seersOf 5 = .ok (.aload_n 0, 1) := dk_42 (dk_at dksX1_seersOf_0 5 rfl rfl)
theorem dX1_seersOf_6 : decode cX1_seersOf 6 = .ok (.getfield 56, 3) := dk_180 0 56 (dk_at dksX1_seersOf_0 6 rfl rfl)
theorem dX1_seersOf_9 : decode cX1_seersOf 9 = .ok (.invokevirtual 68, 3) := dk_182 0 68 (dk_at dksX1_seersOf_0 9 rfl rfl)
theorem dX1_seersOf_12 : decode cX1_seersOf 12 = .ok (.if_icmp .ge 29, 3) := dk_162 0 29 (dk_at dksX1_seersOf_0 12 rfl rfl)
theorem dX1_seersOf_15 : decode cX1_seersOf 15 = .ok (.iload_n 2, 1) := dk_28 (dk_at dksX1_seersOf_0 15 rfl rfl)
theorem dX1_seersOf_16 : decode cX1_seersOf 16 = .ok (.aload_n 0, 1) := dk_42 (dk_at dksX1_seersOf_0 16 rfl rfl)
theorem dX1_seersOf_17 : decode cX1_seersOf 17 = .ok (.getfield 56, 3) := dk_180 0 56 (dk_at dksX1_seersOf_0 17 rfl rfl)
theorem dX1_seersOf_20 : decode cX1_seersOf 20 = .ok (.iload_n 3, 1) := dk_29 (dk_at dksX1_seersOf_0 20 rfl rfl)
theorem dX1_seersOf_21 : decode cX1_seersOf 21 = .ok (.iload_n 1, 1) := dk_27 (dk_at dksX1_seersOf_0 21 rfl rfl)
theorem dX1_seersOf_22 : decode cX1_seersOf 22 = .ok (.invokevirtual 253, 3) := dk_182 0 253 (dk_at dksX1_seersOf_1 0 rfl rfl)
theorem dX1_seersOf_25 : decode cX1_seersOf 25 = .ok (.ifCond .eq 7, 3) := dk_153 0 7 (dk_at dksX1_seersOf_1 3 rfl rfl)
theorem dX1_seersOf_28 : decode cX1_seersOf 28 = .ok (.iconst 1, 1) := dk_4 (dk_at dksX1_seersOf_1 6 rfl rfl)
theorem dX1_seersOf_29 : decode cX1_seersOf 29 = .ok (.goto 4, 3) := dk_167 0 4 (dk_at dksX1_seersOf_1 7 rfl rfl)
theorem dX1_seersOf_32 : decode cX1_seersOf 32 = .ok (.iconst 0, 1) := dk_3 (dk_at dksX1_seersOf_1 10 rfl rfl)
theorem dX1_seersOf_33 : decode cX1_seersOf 33 = .ok (.iadd, 1) := dk_96 (dk_at dksX1_seersOf_1 11 rfl rfl)
theorem dX1_seersOf_34 : decode cX1_seersOf 34 = .ok (.istore_n 2, 1) := dk_61 (dk_at dksX1_seersOf_1 12 rfl rfl)
theorem dX1_seersOf_35 : decode cX1_seersOf 35 = .ok (.iinc 3 1, 3) := dk_132 3 1 (dk_at dksX1_seersOf_1 13 rfl rfl)
theorem dX1_seersOf_38 : decode cX1_seersOf 38 = .ok (.goto (-34), 3) := dk_167 255 222 (dk_at dksX1_seersOf_1 16 rfl rfl)
theorem dX1_seersOf_41 : decode cX1_seersOf 41 = .ok (.iload_n 2, 1) := dk_28 (dk_at dksX1_seersOf_1 19 rfl rfl)
theorem dX1_seersOf_42 : decode cX1_seersOf 42 = .ok (.ireturn, 1) := dk_172 (dk_at dksX1_seersOf_1 20 rfl rfl)
abbrev cX1_votesOn : ByteArray := prog_1_method_31_code
def yX1_votesOn : MethodName := ⟨RX1, "votesOn", "(I)I"⟩
def dkwX1_votesOn_3 : List UInt8 := [160, 0, 7, 4, 167, 0, 4, 3, 96, 61, 167, 255, 217, 132, 3, 1, 167, 255, 177, 28, 172]
abbrev dktX1_votesOn_3 : List UInt8 := dkwX1_votesOn_3 ++ []
def dkwX1_votesOn_2 : List UInt8 := [153, 0, 35, 25, 4, 185, 0, 227, 1, 0, 192, 1, 11, 58, 5, 28, 25, 5, 180, 1, 13, 27]
abbrev dktX1_votesOn_2 : List UInt8 := dkwX1_votesOn_2 ++ dktX1_votesOn_3
def dkwX1_votesOn_1 : List UInt8 := [180, 0, 205, 185, 1, 4, 1, 0, 185, 1, 8, 1, 0, 58, 4, 25, 4, 185, 0, 221, 1, 0]
abbrev dktX1_votesOn_1 : List UInt8 := dkwX1_votesOn_1 ++ dktX1_votesOn_2
def dkwX1_votesOn_0 : List UInt8 := [3, 61, 3, 62, 29, 42, 180, 0, 56, 182, 0, 68, 162, 0, 74, 42, 180, 0, 56, 29, 182, 0, 76]
abbrev dktX1_votesOn_0 : List UInt8 := dkwX1_votesOn_0 ++ dktX1_votesOn_1
theorem dksX1_votesOn_0 : cX1_votesOn.data.toList.drop 0 = dktX1_votesOn_0 := by decide +kernel
theorem dksX1_votesOn_1 : cX1_votesOn.data.toList.drop 23 = dktX1_votesOn_1 := dk_seg dksX1_votesOn_0 23 rfl rfl
theorem dksX1_votesOn_2 : cX1_votesOn.data.toList.drop 45 = dktX1_votesOn_2 := dk_seg dksX1_votesOn_1 22 rfl rfl
theorem dksX1_votesOn_3 : cX1_votesOn.data.toList.drop 67 = dktX1_votesOn_3 := dk_seg dksX1_votesOn_2 22 rfl rfl
theorem dX1_votesOn_0 : decode cX1_votesOn 0 = .ok (.iconst 0, 1) := dk_3 (dk_at dksX1_votesOn_0 0 rfl rfl)
theorem dX1_votesOn_1 : decode cX1_votesOn 1 = .ok (.istore_n 2, 1) := dk_61 (dk_at dksX1_votesOn_0 1 rfl rfl)
theorem dX1_votesOn_2 : decode cX1_votesOn 2 = .ok (.iconst 0, 1) := dk_3 (dk_at dksX1_votesOn_0 2 rfl rfl)
theorem dX1_votesOn_3 : decode cX1_votesOn 3 = .ok (.istore_n 3, 1) := dk_62 (dk_at dksX1_votesOn_0 3 rfl rfl)
theorem dX1_votesOn_4 : decode cX1_votesOn 4 = .ok (.iload_n 3, 1) := dk_29 (dk_at dksX1_votesOn_0 4 rfl rfl)
theorem dX1_votesOn_5 : decode cX1_votesOn 5 = .ok (.aload_n 0, 1) := dk_42 (dk_at dksX1_votesOn_0 5 rfl rfl)
theorem dX1_votesOn_6 : decode cX1_votesOn 6 = .ok (.getfield 56, 3) := dk_180 0 56 (dk_at dksX1_votesOn_0 6 rfl rfl)
theorem dX1_votesOn_9 : decode cX1_votesOn 9 = .ok (.invokevirtual 68, 3) := dk_182 0 68 (dk_at dksX1_votesOn_0 9 rfl rfl)
theorem dX1_votesOn_12 : decode cX1_votesOn 12 = .ok (.if_icmp .ge 74, 3) := dk_162 0 74 (dk_at dksX1_votesOn_0 12 rfl rfl)
theorem dX1_votesOn_15 : decode cX1_votesOn 15 = .ok (.aload_n 0, 1) := dk_42 (dk_at dksX1_votesOn_0 15 rfl rfl)
theorem dX1_votesOn_16 : decode cX1_votesOn 16 = .ok (.getfield 56, 3) := dk_180 0 56 (dk_at dksX1_votesOn_0 16 rfl rfl)
theorem dX1_votesOn_19 : decode cX1_votesOn 19 = .ok (.iload_n 3, 1) := dk_29 (dk_at dksX1_votesOn_0 19 rfl rfl)
theorem dX1_votesOn_20 : decode cX1_votesOn 20 = .ok (.invokevirtual 76, 3) := dk_182 0 76 (dk_at dksX1_votesOn_0 20 rfl rfl)
theorem dX1_votesOn_23 : decode cX1_votesOn 23 = .ok (.getfield 205, 3) := dk_180 0 205 (dk_at dksX1_votesOn_1 0 rfl rfl)
theorem dX1_votesOn_26 : decode cX1_votesOn 26 = .ok (.invokeinterface 260 1, 5) := by decide +kernel
theorem dX1_votesOn_31 : decode cX1_votesOn 31 = .ok (.invokeinterface 264 1, 5) := by decide +kernel
theorem dX1_votesOn_36 : decode cX1_votesOn 36 = .ok (.astore 4, 2) := dk_58 4 (dk_at dksX1_votesOn_1 13 rfl rfl)
theorem dX1_votesOn_38 : decode cX1_votesOn 38 = .ok (.aload 4, 2) := dk_25 4 (dk_at dksX1_votesOn_1 15 rfl rfl)
theorem dX1_votesOn_40 : decode cX1_votesOn 40 = .ok (.invokeinterface 221 1, 5) := by decide +kernel
theorem dX1_votesOn_45 : decode cX1_votesOn 45 = .ok (.ifCond .eq 35, 3) := dk_153 0 35 (dk_at dksX1_votesOn_2 0 rfl rfl)
theorem dX1_votesOn_48 : decode cX1_votesOn 48 = .ok (.aload 4, 2) := dk_25 4 (dk_at dksX1_votesOn_2 3 rfl rfl)
theorem dX1_votesOn_50 : decode cX1_votesOn 50 = .ok (.invokeinterface 227 1, 5) := by decide +kernel
theorem dX1_votesOn_55 : decode cX1_votesOn 55 = .ok (.checkcast 267, 3) := dk_192 1 11 (dk_at dksX1_votesOn_2 10 rfl rfl)
theorem dX1_votesOn_58 : decode cX1_votesOn 58 = .ok (.astore 5, 2) := dk_58 5 (dk_at dksX1_votesOn_2 13 rfl rfl)
theorem dX1_votesOn_60 : decode cX1_votesOn 60 = .ok (.iload_n 2, 1) := dk_28 (dk_at dksX1_votesOn_2 15 rfl rfl)
theorem dX1_votesOn_61 : decode cX1_votesOn 61 = .ok (.aload 5, 2) := dk_25 5 (dk_at dksX1_votesOn_2 16 rfl rfl)
theorem dX1_votesOn_63 : decode cX1_votesOn 63 = .ok (.getfield 269, 3) := dk_180 1 13 (dk_at dksX1_votesOn_2 18 rfl rfl)
theorem dX1_votesOn_66 : decode cX1_votesOn 66 = .ok (.iload_n 1, 1) := dk_27 (dk_at dksX1_votesOn_2 21 rfl rfl)
theorem dX1_votesOn_67 : decode cX1_votesOn 67 = .ok (.if_icmp .ne 7, 3) := dk_160 0 7 (dk_at dksX1_votesOn_3 0 rfl rfl)
theorem dX1_votesOn_70 : decode cX1_votesOn 70 = .ok (.iconst 1, 1) := dk_4 (dk_at dksX1_votesOn_3 3 rfl rfl)
theorem dX1_votesOn_71 : decode cX1_votesOn 71 = .ok (.goto 4, 3) := dk_167 0 4 (dk_at dksX1_votesOn_3 4 rfl rfl)
theorem dX1_votesOn_74 : decode cX1_votesOn 74 = .ok (.iconst 0, 1) := dk_3 (dk_at dksX1_votesOn_3 7 rfl rfl)
theorem dX1_votesOn_75 : decode cX1_votesOn 75 = .ok (.iadd, 1) := dk_96 (dk_at dksX1_votesOn_3 8 rfl rfl)
theorem dX1_votesOn_76 : decode cX1_votesOn 76 = .ok (.istore_n 2, 1) := dk_61 (dk_at dksX1_votesOn_3 9 rfl rfl)
theorem dX1_votesOn_77 : decode cX1_votesOn 77 = .ok (.goto (-39), 3) := dk_167 255 217 (dk_at dksX1_votesOn_3 10 rfl rfl)
theorem dX1_votesOn_80 : decode cX1_votesOn 80 = .ok (.iinc 3 1, 3) := dk_132 3 1 (dk_at dksX1_votesOn_3 13 rfl rfl)
theorem dX1_votesOn_83 : decode cX1_votesOn 83 = .ok (.goto (-79), 3) := dk_167 255 177 (dk_at dksX1_votesOn_3 16 rfl rfl)
theorem dX1_votesOn_86 : decode cX1_votesOn 86 = .ok (.iload_n 2, 1) := dk_28 (dk_at dksX1_votesOn_3 19 rfl rfl)
theorem dX1_votesOn_87 : decode cX1_votesOn 87 = .ok (.ireturn, 1) := dk_172 (dk_at dksX1_votesOn_3 20 rfl rfl)
abbrev cX1_weightsOn : ByteArray := prog_1_method_32_code
def yX1_weightsOn : MethodName := ⟨RX1, "weightsOn", "(IZ)I"⟩
def dkwX1_weightsOn_2 : List UInt8 := [180, 1, 58, 27, 46, 96, 62, 132, 4, 1, 167, 255, 204, 29, 172]
abbrev dktX1_weightsOn_2 : List UInt8 := dkwX1_weightsOn_2 ++ []
def dkwX1_weightsOn_1 : List UInt8 := [182, 1, 51, 29, 28, 153, 0, 15, 42, 180, 0, 56, 180, 1, 55, 27, 46, 167, 0, 12, 42, 180, 0, 56]
abbrev dktX1_weightsOn_1 : List UInt8 := dkwX1_weightsOn_1 ++ dktX1_weightsOn_2
def dkwX1_weightsOn_0 : List UInt8 := [3, 62, 3, 54, 4, 21, 4, 42, 180, 0, 56, 182, 0, 68, 162, 0, 46, 42, 180, 0, 56, 21, 4]
abbrev dktX1_weightsOn_0 : List UInt8 := dkwX1_weightsOn_0 ++ dktX1_weightsOn_1
theorem dksX1_weightsOn_0 : cX1_weightsOn.data.toList.drop 0 = dktX1_weightsOn_0 := by decide +kernel
theorem dksX1_weightsOn_1 : cX1_weightsOn.data.toList.drop 23 = dktX1_weightsOn_1 := dk_seg dksX1_weightsOn_0 23 rfl rfl
theorem dksX1_weightsOn_2 : cX1_weightsOn.data.toList.drop 47 = dktX1_weightsOn_2 := dk_seg dksX1_weightsOn_1 24 rfl rfl
theorem dX1_weightsOn_0 : decode cX1_weightsOn 0 = .ok (.iconst 0, 1) := dk_3 (dk_at dksX1_weightsOn_0 0 rfl rfl)
theorem dX1_weightsOn_1 : decode cX1_weightsOn 1 = .ok (.istore_n 3, 1) := dk_62 (dk_at dksX1_weightsOn_0 1 rfl rfl)
theorem dX1_weightsOn_2 : decode cX1_weightsOn 2 = .ok (.iconst 0, 1) := dk_3 (dk_at dksX1_weightsOn_0 2 rfl rfl)
theorem dX1_weightsOn_3 : decode cX1_weightsOn 3 = .ok (.istore 4, 2) := dk_54 4 (dk_at dksX1_weightsOn_0 3 rfl rfl)
theorem dX1_weightsOn_5 : decode cX1_weightsOn 5 = .ok (.iload 4, 2) := dk_21 4 (dk_at dksX1_weightsOn_0 5 rfl rfl)
theorem dX1_weightsOn_7 : decode cX1_weightsOn 7 = .ok (.aload_n 0, 1) := dk_42 (dk_at dksX1_weightsOn_0 7 rfl rfl)
theorem dX1_weightsOn_8 : decode cX1_weightsOn 8 = .ok (.getfield 56, 3) := dk_180 0 56 (dk_at dksX1_weightsOn_0 8 rfl rfl)
theorem dX1_weightsOn_11 : decode cX1_weightsOn 11 = .ok (.invokevirtual 68, 3) := dk_182 0 68 (dk_at dksX1_weightsOn_0 11 rfl rfl)
theorem dX1_weightsOn_14 : decode cX1_weightsOn 14 = .ok (.if_icmp .ge 46, 3) := dk_162 0 46 (dk_at dksX1_weightsOn_0 14 rfl rfl)
theorem dX1_weightsOn_17 : decode cX1_weightsOn 17 = .ok (.aload_n 0, 1) := dk_42 (dk_at dksX1_weightsOn_0 17 rfl rfl)
theorem dX1_weightsOn_18 : decode cX1_weightsOn 18 = .ok (.getfield 56, 3) := dk_180 0 56 (dk_at dksX1_weightsOn_0 18 rfl rfl)
theorem dX1_weightsOn_21 : decode cX1_weightsOn 21 = .ok (.iload 4, 2) := dk_21 4 (dk_at dksX1_weightsOn_0 21 rfl rfl)
theorem dX1_weightsOn_23 : decode cX1_weightsOn 23 = .ok (.invokevirtual 307, 3) := dk_182 1 51 (dk_at dksX1_weightsOn_1 0 rfl rfl)
theorem dX1_weightsOn_26 : decode cX1_weightsOn 26 = .ok (.iload_n 3, 1) := dk_29 (dk_at dksX1_weightsOn_1 3 rfl rfl)
theorem dX1_weightsOn_27 : decode cX1_weightsOn 27 = .ok (.iload_n 2, 1) := dk_28 (dk_at dksX1_weightsOn_1 4 rfl rfl)
theorem dX1_weightsOn_28 : decode cX1_weightsOn 28 = .ok (.ifCond .eq 15, 3) := dk_153 0 15 (dk_at dksX1_weightsOn_1 5 rfl rfl)
theorem dX1_weightsOn_31 : decode cX1_weightsOn 31 = .ok (.aload_n 0, 1) := dk_42 (dk_at dksX1_weightsOn_1 8 rfl rfl)
theorem dX1_weightsOn_32 : decode cX1_weightsOn 32 = .ok (.getfield 56, 3) := dk_180 0 56 (dk_at dksX1_weightsOn_1 9 rfl rfl)
theorem dX1_weightsOn_35 : decode cX1_weightsOn 35 = .ok (.getfield 311, 3) := dk_180 1 55 (dk_at dksX1_weightsOn_1 12 rfl rfl)
theorem dX1_weightsOn_38 : decode cX1_weightsOn 38 = .ok (.iload_n 1, 1) := dk_27 (dk_at dksX1_weightsOn_1 15 rfl rfl)
theorem dX1_weightsOn_39 : decode cX1_weightsOn 39 = .ok (.iaload, 1) := dk_46 (dk_at dksX1_weightsOn_1 16 rfl rfl)
theorem dX1_weightsOn_40 : decode cX1_weightsOn 40 = .ok (.goto 12, 3) := dk_167 0 12 (dk_at dksX1_weightsOn_1 17 rfl rfl)
theorem dX1_weightsOn_43 : decode cX1_weightsOn 43 = .ok (.aload_n 0, 1) := dk_42 (dk_at dksX1_weightsOn_1 20 rfl rfl)
theorem dX1_weightsOn_44 : decode cX1_weightsOn 44 = .ok (.getfield 56, 3) := dk_180 0 56 (dk_at dksX1_weightsOn_1 21 rfl rfl)
theorem dX1_weightsOn_47 : decode cX1_weightsOn 47 = .ok (.getfield 314, 3) := dk_180 1 58 (dk_at dksX1_weightsOn_2 0 rfl rfl)
theorem dX1_weightsOn_50 : decode cX1_weightsOn 50 = .ok (.iload_n 1, 1) := dk_27 (dk_at dksX1_weightsOn_2 3 rfl rfl)
theorem dX1_weightsOn_51 : decode cX1_weightsOn 51 = .ok (.iaload, 1) := dk_46 (dk_at dksX1_weightsOn_2 4 rfl rfl)
theorem dX1_weightsOn_52 : decode cX1_weightsOn 52 = .ok (.iadd, 1) := dk_96 (dk_at dksX1_weightsOn_2 5 rfl rfl)
theorem dX1_weightsOn_53 : decode cX1_weightsOn 53 = .ok (.istore_n 3, 1) := dk_62 (dk_at dksX1_weightsOn_2 6 rfl rfl)
theorem dX1_weightsOn_54 : decode cX1_weightsOn 54 = .ok (.iinc 4 1, 3) := dk_132 4 1 (dk_at dksX1_weightsOn_2 7 rfl rfl)
theorem dX1_weightsOn_57 : decode cX1_weightsOn 57 = .ok (.goto (-52), 3) := dk_167 255 204 (dk_at dksX1_weightsOn_2 10 rfl rfl)
theorem dX1_weightsOn_60 : decode cX1_weightsOn 60 = .ok (.iload_n 3, 1) := dk_29 (dk_at dksX1_weightsOn_2 13 rfl rfl)
theorem dX1_weightsOn_61 : decode cX1_weightsOn 61 = .ok (.ireturn, 1) := dk_172 (dk_at dksX1_weightsOn_2 14 rfl rfl)
abbrev cX1_ridge : ByteArray := prog_1_method_34_code
def yX1_ridge : MethodName := ⟨RX1, "ridge", "(II)I"⟩
def dkwX1_ridge_2 : List UInt8 := [192, 1, 90, 78, 28, 154, 0, 10, 45, 180, 1, 92, 167, 0, 7, 45, 180, 1, 95, 172]
abbrev dktX1_ridge_2 : List UInt8 := dkwX1_ridge_2 ++ []
def dkwX1_ridge_1 : List UInt8 := [184, 0, 46, 184, 0, 237, 42, 180, 0, 56, 180, 0, 129, 180, 0, 145, 27, 185, 1, 86, 2, 0]
abbrev dktX1_ridge_1 : List UInt8 := dkwX1_ridge_1 ++ dktX1_ridge_2
def dkwX1_ridge_0 : List UInt8 := [27, 42, 182, 0, 64, 180, 0, 129, 180, 0, 145, 185, 0, 149, 1, 0, 184, 0, 72, 28, 3, 4]
abbrev dktX1_ridge_0 : List UInt8 := dkwX1_ridge_0 ++ dktX1_ridge_1
theorem dksX1_ridge_0 : cX1_ridge.data.toList.drop 0 = dktX1_ridge_0 := by decide +kernel
theorem dksX1_ridge_1 : cX1_ridge.data.toList.drop 22 = dktX1_ridge_1 := dk_seg dksX1_ridge_0 22 rfl rfl
theorem dksX1_ridge_2 : cX1_ridge.data.toList.drop 44 = dktX1_ridge_2 := dk_seg dksX1_ridge_1 22 rfl rfl
theorem dX1_ridge_0 : decode cX1_ridge 0 = .ok (.iload_n 1, 1) := dk_27 (dk_at dksX1_ridge_0 0 rfl rfl)
theorem dX1_ridge_1 : decode cX1_ridge 1 = .ok (.aload_n 0, 1) := dk_42 (dk_at dksX1_ridge_0 1 rfl rfl)
theorem dX1_ridge_2 : decode cX1_ridge 2 = .ok (.invokevirtual 64, 3) := dk_182 0 64 (dk_at dksX1_ridge_0 2 rfl rfl)
theorem dX1_ridge_5 : decode cX1_ridge 5 = .ok (.getfield 129, 3) := dk_180 0 129 (dk_at dksX1_ridge_0 5 rfl rfl)
theorem dX1_ridge_8 : decode cX1_ridge 8 = .ok (.getfield 145, 3) := dk_180 0 145 (dk_at dksX1_ridge_0 8 rfl rfl)
theorem dX1_ridge_11 : decode cX1_ridge 11 = .ok (.invokeinterface 149 1, 5) := by decide +kernel
theorem dX1_ridge_16 : decode cX1_ridge 16 = .ok (.invokestatic 72, 3) := dk_184 0 72 (dk_at dksX1_ridge_0 16 rfl rfl)
theorem dX1_ridge_19 : decode cX1_ridge 19 = .ok (.iload_n 2, 1) := dk_28 (dk_at dksX1_ridge_0 19 rfl rfl)
theorem dX1_ridge_20 : decode cX1_ridge 20 = .ok (.iconst 0, 1) := dk_3 (dk_at dksX1_ridge_0 20 rfl rfl)
theorem dX1_ridge_21 : decode cX1_ridge 21 = .ok (.iconst 1, 1) := dk_4 (dk_at dksX1_ridge_0 21 rfl rfl)
theorem dX1_ridge_22 : decode cX1_ridge 22 = .ok (.invokestatic 46, 3) := dk_184 0 46 (dk_at dksX1_ridge_1 0 rfl rfl)
theorem dX1_ridge_25 : decode cX1_ridge 25 = .ok (.invokestatic 237, 3) := dk_184 0 237 (dk_at dksX1_ridge_1 3 rfl rfl)
theorem dX1_ridge_28 : decode cX1_ridge 28 = .ok (.aload_n 0, 1) := dk_42 (dk_at dksX1_ridge_1 6 rfl rfl)
theorem dX1_ridge_29 : decode cX1_ridge 29 = .ok (.getfield 56, 3) := dk_180 0 56 (dk_at dksX1_ridge_1 7 rfl rfl)
theorem dX1_ridge_32 : decode cX1_ridge 32 = .ok (.getfield 129, 3) := dk_180 0 129 (dk_at dksX1_ridge_1 10 rfl rfl)
theorem dX1_ridge_35 : decode cX1_ridge 35 = .ok (.getfield 145, 3) := dk_180 0 145 (dk_at dksX1_ridge_1 13 rfl rfl)
theorem dX1_ridge_38 : decode cX1_ridge 38 = .ok (.iload_n 1, 1) := dk_27 (dk_at dksX1_ridge_1 16 rfl rfl)
theorem dX1_ridge_39 : decode cX1_ridge 39 = .ok (.invokeinterface 342 2, 5) := by decide +kernel
theorem dX1_ridge_44 : decode cX1_ridge 44 = .ok (.checkcast 346, 3) := dk_192 1 90 (dk_at dksX1_ridge_2 0 rfl rfl)
theorem dX1_ridge_47 : decode cX1_ridge 47 = .ok (.astore_n 3, 1) := dk_78 (dk_at dksX1_ridge_2 3 rfl rfl)
theorem dX1_ridge_48 : decode cX1_ridge 48 = .ok (.iload_n 2, 1) := dk_28 (dk_at dksX1_ridge_2 4 rfl rfl)
theorem dX1_ridge_49 : decode cX1_ridge 49 = .ok (.ifCond .ne 10, 3) := dk_154 0 10 (dk_at dksX1_ridge_2 5 rfl rfl)
theorem dX1_ridge_52 : decode cX1_ridge 52 = .ok (.aload_n 3, 1) := dk_45 (dk_at dksX1_ridge_2 8 rfl rfl)
theorem dX1_ridge_53 : decode cX1_ridge 53 = .ok (.getfield 348, 3) := dk_180 1 92 (dk_at dksX1_ridge_2 9 rfl rfl)
theorem dX1_ridge_56 : decode cX1_ridge 56 = .ok (.goto 7, 3) := dk_167 0 7 (dk_at dksX1_ridge_2 12 rfl rfl)
theorem dX1_ridge_59 : decode cX1_ridge 59 = .ok (.aload_n 3, 1) := dk_45 (dk_at dksX1_ridge_2 15 rfl rfl)
theorem dX1_ridge_60 : decode cX1_ridge 60 = .ok (.getfield 351, 3) := dk_180 1 95 (dk_at dksX1_ridge_2 16 rfl rfl)
theorem dX1_ridge_63 : decode cX1_ridge 63 = .ok (.ireturn, 1) := dk_172 (dk_at dksX1_ridge_2 19 rfl rfl)
abbrev cX1_fog : ByteArray := prog_1_method_35_code
def yX1_fog : MethodName := ⟨RX1, "fog", "(II)I"⟩
def dkwX1_fog_3 : List UInt8 := [167, 0, 7, 45, 180, 1, 104, 172]
abbrev dktX1_fog_3 : List UInt8 := dkwX1_fog_3 ++ []
def dkwX1_fog_2 : List UInt8 := [192, 1, 96, 78, 28, 154, 0, 10, 45, 180, 1, 98, 167, 0, 19, 28, 4, 160, 0, 10, 45, 180, 1, 101]
abbrev dktX1_fog_2 : List UInt8 := dkwX1_fog_2 ++ dktX1_fog_3
def dkwX1_fog_1 : List UInt8 := [184, 0, 46, 184, 0, 237, 42, 180, 0, 56, 180, 0, 129, 180, 0, 152, 27, 185, 1, 86, 2, 0]
abbrev dktX1_fog_1 : List UInt8 := dkwX1_fog_1 ++ dktX1_fog_2
def dkwX1_fog_0 : List UInt8 := [27, 42, 182, 0, 64, 180, 0, 129, 180, 0, 152, 185, 0, 149, 1, 0, 184, 0, 72, 28, 3, 5]
abbrev dktX1_fog_0 : List UInt8 := dkwX1_fog_0 ++ dktX1_fog_1
theorem dksX1_fog_0 : cX1_fog.data.toList.drop 0 = dktX1_fog_0 := by decide +kernel
theorem dksX1_fog_1 : cX1_fog.data.toList.drop 22 = dktX1_fog_1 := dk_seg dksX1_fog_0 22 rfl rfl
theorem dksX1_fog_2 : cX1_fog.data.toList.drop 44 = dktX1_fog_2 := dk_seg dksX1_fog_1 22 rfl rfl
theorem dksX1_fog_3 : cX1_fog.data.toList.drop 68 = dktX1_fog_3 := dk_seg dksX1_fog_2 24 rfl rfl
theorem dX1_fog_0 : decode cX1_fog 0 = .ok (.iload_n 1, 1) := dk_27 (dk_at dksX1_fog_0 0 rfl rfl)
theorem dX1_fog_1 : decode cX1_fog 1 = .ok (.aload_n 0, 1) := dk_42 (dk_at dksX1_fog_0 1 rfl rfl)
theorem dX1_fog_2 : decode cX1_fog 2 = .ok (.invokevirtual 64, 3) := dk_182 0 64 (dk_at dksX1_fog_0 2 rfl rfl)
theorem dX1_fog_5 : decode cX1_fog 5 = .ok (.getfield 129, 3) := dk_180 0 129 (dk_at dksX1_fog_0 5 rfl rfl)
theorem dX1_fog_8 : decode cX1_fog 8 = .ok (.getfield 152, 3) := dk_180 0 152 (dk_at dksX1_fog_0 8 rfl rfl)
theorem dX1_fog_11 : decode cX1_fog 11 = .ok (.invokeinterface 149 1, 5) := by decide +kernel
theorem dX1_fog_16 : decode cX1_fog 16 = .ok (.invokestatic 72, 3) := dk_184 0 72 (dk_at dksX1_fog_0 16 rfl rfl)
theorem dX1_fog_19 : decode cX1_fog 19 = .ok (.iload_n 2, 1) := dk_28 (dk_at dksX1_fog_0 19 rfl rfl)
theorem dX1_fog_20 : decode cX1_fog 20 = .ok (.iconst 0, 1) := dk_3 (dk_at dksX1_fog_0 20 rfl rfl)
theorem dX1_fog_21 : decode cX1_fog 21 = .ok (.iconst 2, 1) := dk_5 (dk_at dksX1_fog_0 21 rfl rfl)
theorem dX1_fog_22 : decode cX1_fog 22 = .ok (.invokestatic 46, 3) := dk_184 0 46 (dk_at dksX1_fog_1 0 rfl rfl)
theorem dX1_fog_25 : decode cX1_fog 25 = .ok (.invokestatic 237, 3) := dk_184 0 237 (dk_at dksX1_fog_1 3 rfl rfl)
theorem dX1_fog_28 : decode cX1_fog 28 = .ok (.aload_n 0, 1) := dk_42 (dk_at dksX1_fog_1 6 rfl rfl)
theorem dX1_fog_29 : decode cX1_fog 29 = .ok (.getfield 56, 3) := dk_180 0 56 (dk_at dksX1_fog_1 7 rfl rfl)
theorem dX1_fog_32 : decode cX1_fog 32 = .ok (.getfield 129, 3) := dk_180 0 129 (dk_at dksX1_fog_1 10 rfl rfl)
theorem dX1_fog_35 : decode cX1_fog 35 = .ok (.getfield 152, 3) := dk_180 0 152 (dk_at dksX1_fog_1 13 rfl rfl)
theorem dX1_fog_38 : decode cX1_fog 38 = .ok (.iload_n 1, 1) := dk_27 (dk_at dksX1_fog_1 16 rfl rfl)
theorem dX1_fog_39 : decode cX1_fog 39 = .ok (.invokeinterface 342 2, 5) := by decide +kernel
theorem dX1_fog_44 : decode cX1_fog 44 = .ok (.checkcast 352, 3) := dk_192 1 96 (dk_at dksX1_fog_2 0 rfl rfl)
theorem dX1_fog_47 : decode cX1_fog 47 = .ok (.astore_n 3, 1) := dk_78 (dk_at dksX1_fog_2 3 rfl rfl)
theorem dX1_fog_48 : decode cX1_fog 48 = .ok (.iload_n 2, 1) := dk_28 (dk_at dksX1_fog_2 4 rfl rfl)
theorem dX1_fog_49 : decode cX1_fog 49 = .ok (.ifCond .ne 10, 3) := dk_154 0 10 (dk_at dksX1_fog_2 5 rfl rfl)
theorem dX1_fog_52 : decode cX1_fog 52 = .ok (.aload_n 3, 1) := dk_45 (dk_at dksX1_fog_2 8 rfl rfl)
theorem dX1_fog_53 : decode cX1_fog 53 = .ok (.getfield 354, 3) := dk_180 1 98 (dk_at dksX1_fog_2 9 rfl rfl)
theorem dX1_fog_56 : decode cX1_fog 56 = .ok (.goto 19, 3) := dk_167 0 19 (dk_at dksX1_fog_2 12 rfl rfl)
theorem dX1_fog_59 : decode cX1_fog 59 = .ok (.iload_n 2, 1) := dk_28 (dk_at dksX1_fog_2 15 rfl rfl)
theorem dX1_fog_60 : decode cX1_fog 60 = .ok (.iconst 1, 1) := dk_4 (dk_at dksX1_fog_2 16 rfl rfl)
theorem dX1_fog_61 : decode cX1_fog 61 = .ok (.if_icmp .ne 10, 3) := dk_160 0 10 (dk_at dksX1_fog_2 17 rfl rfl)
theorem dX1_fog_64 : decode cX1_fog 64 = .ok (.aload_n 3, 1) := dk_45 (dk_at dksX1_fog_2 20 rfl rfl)
theorem dX1_fog_65 : decode cX1_fog 65 = .ok (.getfield 357, 3) := dk_180 1 101 (dk_at dksX1_fog_2 21 rfl rfl)
theorem dX1_fog_68 : decode cX1_fog 68 = .ok (.goto 7, 3) := dk_167 0 7 (dk_at dksX1_fog_3 0 rfl rfl)
theorem dX1_fog_71 : decode cX1_fog 71 = .ok (.aload_n 3, 1) := dk_45 (dk_at dksX1_fog_3 3 rfl rfl)
theorem dX1_fog_72 : decode cX1_fog 72 = .ok (.getfield 360, 3) := dk_180 1 104 (dk_at dksX1_fog_3 4 rfl rfl)
theorem dX1_fog_75 : decode cX1_fog 75 = .ok (.ireturn, 1) := dk_172 (dk_at dksX1_fog_3 7 rfl rfl)
abbrev cX1_sight : ByteArray := prog_1_method_36_code
def yX1_sight : MethodName := ⟨RX1, "sight", "()I"⟩
def dkwX1_sight_0 : List UInt8 := [42, 182, 0, 64, 182, 1, 107, 172]
abbrev dktX1_sight_0 : List UInt8 := dkwX1_sight_0 ++ []
theorem dksX1_sight_0 : cX1_sight.data.toList.drop 0 = dktX1_sight_0 := by decide +kernel
theorem dX1_sight_0 : decode cX1_sight 0 = .ok (.aload_n 0, 1) := dk_42 (dk_at dksX1_sight_0 0 rfl rfl)
theorem dX1_sight_1 : decode cX1_sight 1 = .ok (.invokevirtual 64, 3) := dk_182 0 64 (dk_at dksX1_sight_0 1 rfl rfl)
theorem dX1_sight_4 : decode cX1_sight 4 = .ok (.invokevirtual 363, 3) := dk_182 1 107 (dk_at dksX1_sight_0 4 rfl rfl)
theorem dX1_sight_7 : decode cX1_sight 7 = .ok (.ireturn, 1) := dk_172 (dk_at dksX1_sight_0 7 rfl rfl)
abbrev cX1_sees : ByteArray := prog_1_method_37_code
def yX1_sees : MethodName := ⟨RX1, "sees", "(II)Z"⟩
def dkwX1_sees_0 : List UInt8 := [42, 27, 28, 182, 1, 110, 78, 42, 180, 0, 56, 27, 28, 182, 1, 114, 172]
abbrev dktX1_sees_0 : List UInt8 := dkwX1_sees_0 ++ []
theorem dksX1_sees_0 : cX1_sees.data.toList.drop 0 = dktX1_sees_0 := by decide +kernel
theorem dX1_sees_0 : decode cX1_sees 0 = .ok (.aload_n 0, 1) := dk_42 (dk_at dksX1_sees_0 0 rfl rfl)
theorem dX1_sees_1 : decode cX1_sees 1 = .ok (.iload_n 1, 1) := dk_27 (dk_at dksX1_sees_0 1 rfl rfl)
theorem dX1_sees_2 : decode cX1_sees 2 = .ok (.iload_n 2, 1) := dk_28 (dk_at dksX1_sees_0 2 rfl rfl)
theorem dX1_sees_3 : decode cX1_sees 3 = .ok (.invokevirtual 366, 3) := dk_182 1 110 (dk_at dksX1_sees_0 3 rfl rfl)
theorem dX1_sees_6 : decode cX1_sees 6 = .ok (.astore_n 3, 1) := dk_78 (dk_at dksX1_sees_0 6 rfl rfl)
theorem dX1_sees_7 : decode cX1_sees 7 = .ok (.aload_n 0, 1) := dk_42 (dk_at dksX1_sees_0 7 rfl rfl)
theorem dX1_sees_8 : decode cX1_sees 8 = .ok (.getfield 56, 3) := dk_180 0 56 (dk_at dksX1_sees_0 8 rfl rfl)
theorem dX1_sees_11 : decode cX1_sees 11 = .ok (.iload_n 1, 1) := dk_27 (dk_at dksX1_sees_0 11 rfl rfl)
theorem dX1_sees_12 : decode cX1_sees 12 = .ok (.iload_n 2, 1) := dk_28 (dk_at dksX1_sees_0 12 rfl rfl)
theorem dX1_sees_13 : decode cX1_sees 13 = .ok (.invokevirtual 370, 3) := dk_182 1 114 (dk_at dksX1_sees_0 13 rfl rfl)
theorem dX1_sees_16 : decode cX1_sees 16 = .ok (.ireturn, 1) := dk_172 (dk_at dksX1_sees_0 16 rfl rfl)
abbrev cX1_withTwo : ByteArray := prog_1_method_13_code
def yX1_withTwo : MethodName := ⟨RX1, "withTwo", "(II)LFlareSlopes$Cabin;"⟩
def dkwX1_withTwo_0 : List UInt8 := [42, 27, 182, 0, 87, 78, 28, 42, 180, 0, 56, 182, 0, 68, 184, 0, 72, 45, 176]
abbrev dktX1_withTwo_0 : List UInt8 := dkwX1_withTwo_0 ++ []
theorem dksX1_withTwo_0 : cX1_withTwo.data.toList.drop 0 = dktX1_withTwo_0 := by decide +kernel
theorem dX1_withTwo_0 : decode cX1_withTwo 0 = .ok (.aload_n 0, 1) := dk_42 (dk_at dksX1_withTwo_0 0 rfl rfl)
theorem dX1_withTwo_1 : decode cX1_withTwo 1 = .ok (.iload_n 1, 1) := dk_27 (dk_at dksX1_withTwo_0 1 rfl rfl)
theorem dX1_withTwo_2 : decode cX1_withTwo 2 = .ok (.invokevirtual 87, 3) := dk_182 0 87 (dk_at dksX1_withTwo_0 2 rfl rfl)
theorem dX1_withTwo_5 : decode cX1_withTwo 5 = .ok (.astore_n 3, 1) := dk_78 (dk_at dksX1_withTwo_0 5 rfl rfl)
theorem dX1_withTwo_6 : decode cX1_withTwo 6 = .ok (.iload_n 2, 1) := dk_28 (dk_at dksX1_withTwo_0 6 rfl rfl)
theorem dX1_withTwo_7 : decode cX1_withTwo 7 = .ok (.aload_n 0, 1) := dk_42 (dk_at dksX1_withTwo_0 7 rfl rfl)
theorem dX1_withTwo_8 : decode cX1_withTwo 8 = .ok (.getfield 56, 3) := dk_180 0 56 (dk_at dksX1_withTwo_0 8 rfl rfl)
theorem dX1_withTwo_11 : decode cX1_withTwo 11 = .ok (.invokevirtual 68, 3) := dk_182 0 68 (dk_at dksX1_withTwo_0 11 rfl rfl)
theorem dX1_withTwo_14 : decode cX1_withTwo 14 = .ok (.invokestatic 72, 3) := dk_184 0 72 (dk_at dksX1_withTwo_0 14 rfl rfl)
theorem dX1_withTwo_17 : decode cX1_withTwo 17 = .ok (.aload_n 3, 1) := dk_45 (dk_at dksX1_withTwo_0 17 rfl rfl)
theorem dX1_withTwo_18 : decode cX1_withTwo 18 = .ok (.areturn, 1) := dk_176 (dk_at dksX1_withTwo_0 18 rfl rfl)
abbrev cX1_seesSlope : ByteArray := prog_1_method_38_code
def yX1_seesSlope : MethodName := ⟨RX1, "seesSlope", "(II)Z"⟩
def dkwX1_seesSlope_0 : List UInt8 := [42, 27, 28, 182, 1, 117, 78, 42, 180, 0, 56, 27, 28, 182, 0, 253, 172]
abbrev dktX1_seesSlope_0 : List UInt8 := dkwX1_seesSlope_0 ++ []
theorem dksX1_seesSlope_0 : cX1_seesSlope.data.toList.drop 0 = dktX1_seesSlope_0 := by decide +kernel
theorem dX1_seesSlope_0 : decode cX1_seesSlope 0 = .ok (.aload_n 0, 1) := dk_42 (dk_at dksX1_seesSlope_0 0 rfl rfl)
theorem dX1_seesSlope_1 : decode cX1_seesSlope 1 = .ok (.iload_n 1, 1) := dk_27 (dk_at dksX1_seesSlope_0 1 rfl rfl)
theorem dX1_seesSlope_2 : decode cX1_seesSlope 2 = .ok (.iload_n 2, 1) := dk_28 (dk_at dksX1_seesSlope_0 2 rfl rfl)
theorem dX1_seesSlope_3 : decode cX1_seesSlope 3 = .ok (.invokevirtual 373, 3) := dk_182 1 117 (dk_at dksX1_seesSlope_0 3 rfl rfl)
theorem dX1_seesSlope_6 : decode cX1_seesSlope 6 = .ok (.astore_n 3, 1) := dk_78 (dk_at dksX1_seesSlope_0 6 rfl rfl)
theorem dX1_seesSlope_7 : decode cX1_seesSlope 7 = .ok (.aload_n 0, 1) := dk_42 (dk_at dksX1_seesSlope_0 7 rfl rfl)
theorem dX1_seesSlope_8 : decode cX1_seesSlope 8 = .ok (.getfield 56, 3) := dk_180 0 56 (dk_at dksX1_seesSlope_0 8 rfl rfl)
theorem dX1_seesSlope_11 : decode cX1_seesSlope 11 = .ok (.iload_n 1, 1) := dk_27 (dk_at dksX1_seesSlope_0 11 rfl rfl)
theorem dX1_seesSlope_12 : decode cX1_seesSlope 12 = .ok (.iload_n 2, 1) := dk_28 (dk_at dksX1_seesSlope_0 12 rfl rfl)
theorem dX1_seesSlope_13 : decode cX1_seesSlope 13 = .ok (.invokevirtual 253, 3) := dk_182 0 253 (dk_at dksX1_seesSlope_0 13 rfl rfl)
theorem dX1_seesSlope_16 : decode cX1_seesSlope 16 = .ok (.ireturn, 1) := dk_172 (dk_at dksX1_seesSlope_0 16 rfl rfl)
abbrev cX1_withBoth : ByteArray := prog_1_method_12_code
def yX1_withBoth : MethodName := ⟨RX1, "withBoth", "(II)LFlareSlopes$Cabin;"⟩
def dkwX1_withBoth_0 : List UInt8 := [42, 27, 182, 0, 87, 78, 28, 42, 180, 0, 56, 182, 0, 80, 184, 0, 72, 45, 176]
abbrev dktX1_withBoth_0 : List UInt8 := dkwX1_withBoth_0 ++ []
theorem dksX1_withBoth_0 : cX1_withBoth.data.toList.drop 0 = dktX1_withBoth_0 := by decide +kernel
theorem dX1_withBoth_0 : decode cX1_withBoth 0 = .ok (.aload_n 0, 1) := dk_42 (dk_at dksX1_withBoth_0 0 rfl rfl)
theorem dX1_withBoth_1 : decode cX1_withBoth 1 = .ok (.iload_n 1, 1) := dk_27 (dk_at dksX1_withBoth_0 1 rfl rfl)
theorem dX1_withBoth_2 : decode cX1_withBoth 2 = .ok (.invokevirtual 87, 3) := dk_182 0 87 (dk_at dksX1_withBoth_0 2 rfl rfl)
theorem dX1_withBoth_5 : decode cX1_withBoth 5 = .ok (.astore_n 3, 1) := dk_78 (dk_at dksX1_withBoth_0 5 rfl rfl)
theorem dX1_withBoth_6 : decode cX1_withBoth 6 = .ok (.iload_n 2, 1) := dk_28 (dk_at dksX1_withBoth_0 6 rfl rfl)
theorem dX1_withBoth_7 : decode cX1_withBoth 7 = .ok (.aload_n 0, 1) := dk_42 (dk_at dksX1_withBoth_0 7 rfl rfl)
theorem dX1_withBoth_8 : decode cX1_withBoth 8 = .ok (.getfield 56, 3) := dk_180 0 56 (dk_at dksX1_withBoth_0 8 rfl rfl)
theorem dX1_withBoth_11 : decode cX1_withBoth 11 = .ok (.invokevirtual 80, 3) := dk_182 0 80 (dk_at dksX1_withBoth_0 11 rfl rfl)
theorem dX1_withBoth_14 : decode cX1_withBoth 14 = .ok (.invokestatic 72, 3) := dk_184 0 72 (dk_at dksX1_withBoth_0 14 rfl rfl)
theorem dX1_withBoth_17 : decode cX1_withBoth 17 = .ok (.aload_n 3, 1) := dk_45 (dk_at dksX1_withBoth_0 17 rfl rfl)
theorem dX1_withBoth_18 : decode cX1_withBoth 18 = .ok (.areturn, 1) := dk_176 (dk_at dksX1_withBoth_0 18 rfl rfl)
abbrev cX1_seers : ByteArray := prog_1_method_39_code
def yX1_seers : MethodName := ⟨RX1, "seers", "(I)I"⟩
def dkwX1_seers_0 : List UInt8 := [42, 27, 182, 0, 87, 77, 42, 180, 0, 56, 27, 182, 0, 197, 172]
abbrev dktX1_seers_0 : List UInt8 := dkwX1_seers_0 ++ []
theorem dksX1_seers_0 : cX1_seers.data.toList.drop 0 = dktX1_seers_0 := by decide +kernel
theorem dX1_seers_0 : decode cX1_seers 0 = .ok (.aload_n 0, 1) := dk_42 (dk_at dksX1_seers_0 0 rfl rfl)
theorem dX1_seers_1 : decode cX1_seers 1 = .ok (.iload_n 1, 1) := dk_27 (dk_at dksX1_seers_0 1 rfl rfl)
theorem dX1_seers_2 : decode cX1_seers 2 = .ok (.invokevirtual 87, 3) := dk_182 0 87 (dk_at dksX1_seers_0 2 rfl rfl)
theorem dX1_seers_5 : decode cX1_seers 5 = .ok (.astore_n 2, 1) := dk_77 (dk_at dksX1_seers_0 5 rfl rfl)
theorem dX1_seers_6 : decode cX1_seers 6 = .ok (.aload_n 0, 1) := dk_42 (dk_at dksX1_seers_0 6 rfl rfl)
theorem dX1_seers_7 : decode cX1_seers 7 = .ok (.getfield 56, 3) := dk_180 0 56 (dk_at dksX1_seers_0 7 rfl rfl)
theorem dX1_seers_10 : decode cX1_seers 10 = .ok (.iload_n 1, 1) := dk_27 (dk_at dksX1_seers_0 10 rfl rfl)
theorem dX1_seers_11 : decode cX1_seers 11 = .ok (.invokevirtual 197, 3) := dk_182 0 197 (dk_at dksX1_seers_0 11 rfl rfl)
theorem dX1_seers_14 : decode cX1_seers 14 = .ok (.ireturn, 1) := dk_172 (dk_at dksX1_seers_0 14 rfl rfl)
abbrev cX1_distance : ByteArray := prog_1_method_40_code
def yX1_distance : MethodName := ⟨RX1, "distance", "(II)I"⟩
def dkwX1_distance_0 : List UInt8 := [42, 27, 28, 182, 1, 117, 42, 180, 0, 56, 28, 182, 0, 83, 182, 1, 120, 172]
abbrev dktX1_distance_0 : List UInt8 := dkwX1_distance_0 ++ []
theorem dksX1_distance_0 : cX1_distance.data.toList.drop 0 = dktX1_distance_0 := by decide +kernel
theorem dX1_distance_0 : decode cX1_distance 0 = .ok (.aload_n 0, 1) := dk_42 (dk_at dksX1_distance_0 0 rfl rfl)
theorem dX1_distance_1 : decode cX1_distance 1 = .ok (.iload_n 1, 1) := dk_27 (dk_at dksX1_distance_0 1 rfl rfl)
theorem dX1_distance_2 : decode cX1_distance 2 = .ok (.iload_n 2, 1) := dk_28 (dk_at dksX1_distance_0 2 rfl rfl)
theorem dX1_distance_3 : decode cX1_distance 3 = .ok (.invokevirtual 373, 3) := dk_182 1 117 (dk_at dksX1_distance_0 3 rfl rfl)
theorem dX1_distance_6 : decode cX1_distance 6 = .ok (.aload_n 0, 1) := dk_42 (dk_at dksX1_distance_0 6 rfl rfl)
theorem dX1_distance_7 : decode cX1_distance 7 = .ok (.getfield 56, 3) := dk_180 0 56 (dk_at dksX1_distance_0 7 rfl rfl)
theorem dX1_distance_10 : decode cX1_distance 10 = .ok (.iload_n 2, 1) := dk_28 (dk_at dksX1_distance_0 10 rfl rfl)
theorem dX1_distance_11 : decode cX1_distance 11 = .ok (.invokevirtual 83, 3) := dk_182 0 83 (dk_at dksX1_distance_0 11 rfl rfl)
theorem dX1_distance_14 : decode cX1_distance 14 = .ok (.invokevirtual 376, 3) := dk_182 1 120 (dk_at dksX1_distance_0 14 rfl rfl)
theorem dX1_distance_17 : decode cX1_distance 17 = .ok (.ireturn, 1) := dk_172 (dk_at dksX1_distance_0 17 rfl rfl)
abbrev cX1_reached : ByteArray := prog_1_method_41_code
def yX1_reached : MethodName := ⟨RX1, "reached", "(I)I"⟩
def dkwX1_reached_0 : List UInt8 := [42, 27, 182, 0, 87, 77, 42, 180, 0, 56, 27, 42, 180, 0, 56, 182, 0, 68, 182, 1, 124, 172]
abbrev dktX1_reached_0 : List UInt8 := dkwX1_reached_0 ++ []
theorem dksX1_reached_0 : cX1_reached.data.toList.drop 0 = dktX1_reached_0 := by decide +kernel
theorem dX1_reached_0 : decode cX1_reached 0 = .ok (.aload_n 0, 1) := dk_42 (dk_at dksX1_reached_0 0 rfl rfl)
theorem dX1_reached_1 : decode cX1_reached 1 = .ok (.iload_n 1, 1) := dk_27 (dk_at dksX1_reached_0 1 rfl rfl)
theorem dX1_reached_2 : decode cX1_reached 2 = .ok (.invokevirtual 87, 3) := dk_182 0 87 (dk_at dksX1_reached_0 2 rfl rfl)
theorem dX1_reached_5 : decode cX1_reached 5 = .ok (.astore_n 2, 1) := dk_77 (dk_at dksX1_reached_0 5 rfl rfl)
theorem dX1_reached_6 : decode cX1_reached 6 = .ok (.aload_n 0, 1) := dk_42 (dk_at dksX1_reached_0 6 rfl rfl)
theorem dX1_reached_7 : decode cX1_reached 7 = .ok (.getfield 56, 3) := dk_180 0 56 (dk_at dksX1_reached_0 7 rfl rfl)
theorem dX1_reached_10 : decode cX1_reached 10 = .ok (.iload_n 1, 1) := dk_27 (dk_at dksX1_reached_0 10 rfl rfl)
theorem dX1_reached_11 : decode cX1_reached 11 = .ok (.aload_n 0, 1) := dk_42 (dk_at dksX1_reached_0 11 rfl rfl)
theorem dX1_reached_12 : decode cX1_reached 12 = .ok (.getfield 56, 3) := dk_180 0 56 (dk_at dksX1_reached_0 12 rfl rfl)
theorem dX1_reached_15 : decode cX1_reached 15 = .ok (.invokevirtual 68, 3) := dk_182 0 68 (dk_at dksX1_reached_0 15 rfl rfl)
theorem dX1_reached_18 : decode cX1_reached 18 = .ok (.invokevirtual 380, 3) := dk_182 1 124 (dk_at dksX1_reached_0 18 rfl rfl)
theorem dX1_reached_21 : decode cX1_reached 21 = .ok (.ireturn, 1) := dk_172 (dk_at dksX1_reached_0 21 rfl rfl)
abbrev cX1_steps : ByteArray := prog_1_method_42_code
def yX1_steps : MethodName := ⟨RX1, "steps", "(II)I"⟩
def dkwX1_steps_0 : List UInt8 := [42, 27, 28, 182, 1, 110, 78, 42, 180, 0, 56, 27, 28, 182, 1, 127, 172]
abbrev dktX1_steps_0 : List UInt8 := dkwX1_steps_0 ++ []
theorem dksX1_steps_0 : cX1_steps.data.toList.drop 0 = dktX1_steps_0 := by decide +kernel
theorem dX1_steps_0 : decode cX1_steps 0 = .ok (.aload_n 0, 1) := dk_42 (dk_at dksX1_steps_0 0 rfl rfl)
theorem dX1_steps_1 : decode cX1_steps 1 = .ok (.iload_n 1, 1) := dk_27 (dk_at dksX1_steps_0 1 rfl rfl)
theorem dX1_steps_2 : decode cX1_steps 2 = .ok (.iload_n 2, 1) := dk_28 (dk_at dksX1_steps_0 2 rfl rfl)
theorem dX1_steps_3 : decode cX1_steps 3 = .ok (.invokevirtual 366, 3) := dk_182 1 110 (dk_at dksX1_steps_0 3 rfl rfl)
theorem dX1_steps_6 : decode cX1_steps 6 = .ok (.astore_n 3, 1) := dk_78 (dk_at dksX1_steps_0 6 rfl rfl)
theorem dX1_steps_7 : decode cX1_steps 7 = .ok (.aload_n 0, 1) := dk_42 (dk_at dksX1_steps_0 7 rfl rfl)
theorem dX1_steps_8 : decode cX1_steps 8 = .ok (.getfield 56, 3) := dk_180 0 56 (dk_at dksX1_steps_0 8 rfl rfl)
theorem dX1_steps_11 : decode cX1_steps 11 = .ok (.iload_n 1, 1) := dk_27 (dk_at dksX1_steps_0 11 rfl rfl)
theorem dX1_steps_12 : decode cX1_steps 12 = .ok (.iload_n 2, 1) := dk_28 (dk_at dksX1_steps_0 12 rfl rfl)
theorem dX1_steps_13 : decode cX1_steps 13 = .ok (.invokevirtual 383, 3) := dk_182 1 127 (dk_at dksX1_steps_0 13 rfl rfl)
theorem dX1_steps_16 : decode cX1_steps 16 = .ok (.ireturn, 1) := dk_172 (dk_at dksX1_steps_0 16 rfl rfl)
abbrev cX1_ridgesBetween : ByteArray := prog_1_method_43_code
def yX1_ridgesBetween : MethodName := ⟨RX1, "ridgesBetween", "(II)I"⟩
def dkwX1_ridgesBetween_1 : List UInt8 := [182, 1, 130, 172]
abbrev dktX1_ridgesBetween_1 : List UInt8 := dkwX1_ridgesBetween_1 ++ []
def dkwX1_ridgesBetween_0 : List UInt8 := [42, 27, 28, 182, 1, 110, 78, 42, 180, 0, 56, 180, 0, 129, 45, 42, 180, 0, 56, 28, 182, 0, 76]
abbrev dktX1_ridgesBetween_0 : List UInt8 := dkwX1_ridgesBetween_0 ++ dktX1_ridgesBetween_1
theorem dksX1_ridgesBetween_0 : cX1_ridgesBetween.data.toList.drop 0 = dktX1_ridgesBetween_0 := by decide +kernel
theorem dksX1_ridgesBetween_1 : cX1_ridgesBetween.data.toList.drop 23 = dktX1_ridgesBetween_1 := dk_seg dksX1_ridgesBetween_0 23 rfl rfl
theorem dX1_ridgesBetween_0 : decode cX1_ridgesBetween 0 = .ok (.aload_n 0, 1) := dk_42 (dk_at dksX1_ridgesBetween_0 0 rfl rfl)
theorem dX1_ridgesBetween_1 : decode cX1_ridgesBetween 1 = .ok (.iload_n 1, 1) := dk_27 (dk_at dksX1_ridgesBetween_0 1 rfl rfl)
theorem dX1_ridgesBetween_2 : decode cX1_ridgesBetween 2 = .ok (.iload_n 2, 1) := dk_28 (dk_at dksX1_ridgesBetween_0 2 rfl rfl)
theorem dX1_ridgesBetween_3 : decode cX1_ridgesBetween 3 = .ok (.invokevirtual 366, 3) := dk_182 1 110 (dk_at dksX1_ridgesBetween_0 3 rfl rfl)
theorem dX1_ridgesBetween_6 : decode cX1_ridgesBetween 6 = .ok (.astore_n 3, 1) := dk_78 (dk_at dksX1_ridgesBetween_0 6 rfl rfl)
theorem dX1_ridgesBetween_7 : decode cX1_ridgesBetween 7 = .ok (.aload_n 0, 1) := dk_42 (dk_at dksX1_ridgesBetween_0 7 rfl rfl)
theorem dX1_ridgesBetween_8 : decode cX1_ridgesBetween 8 = .ok (.getfield 56, 3) := dk_180 0 56 (dk_at dksX1_ridgesBetween_0 8 rfl rfl)
theorem dX1_ridgesBetween_11 : decode cX1_ridgesBetween 11 = .ok (.getfield 129, 3) := dk_180 0 129 (dk_at dksX1_ridgesBetween_0 11 rfl rfl)
theorem dX1_ridgesBetween_14 : decode cX1_ridgesBetween 14 = .ok (.aload_n 3, 1) := dk_45 (dk_at dksX1_ridgesBetween_0 14 rfl rfl)
theorem dX1_ridgesBetween_15 : decode cX1_ridgesBetween 15 = .ok (.aload_n 0, 1) := dk_42 (dk_at dksX1_ridgesBetween_0 15 rfl rfl)
theorem dX1_ridgesBetween_16 : decode cX1_ridgesBetween 16 = .ok (.getfield 56, 3) := dk_180 0 56 (dk_at dksX1_ridgesBetween_0 16 rfl rfl)
theorem dX1_ridgesBetween_19 : decode cX1_ridgesBetween 19 = .ok (.iload_n 2, 1) := dk_28 (dk_at dksX1_ridgesBetween_0 19 rfl rfl)
theorem dX1_ridgesBetween_20 : decode cX1_ridgesBetween 20 = .ok (.invokevirtual 76, 3) := dk_182 0 76 (dk_at dksX1_ridgesBetween_0 20 rfl rfl)
theorem dX1_ridgesBetween_23 : decode cX1_ridgesBetween 23 = .ok (.invokevirtual 386, 3) := dk_182 1 130 (dk_at dksX1_ridgesBetween_1 0 rfl rfl)
theorem dX1_ridgesBetween_26 : decode cX1_ridgesBetween 26 = .ok (.ireturn, 1) := dk_172 (dk_at dksX1_ridgesBetween_1 3 rfl rfl)
abbrev cX1_vote : ByteArray := prog_1_method_44_code
def yX1_vote : MethodName := ⟨RX1, "vote", "(IIII)I"⟩
def dkwX1_vote_4 : List UInt8 := [180, 1, 138, 167, 0, 12, 42, 180, 0, 56, 28, 29, 182, 1, 139, 172]
abbrev dktX1_vote_4 : List UInt8 := dkwX1_vote_4 ++ []
def dkwX1_vote_3 : List UInt8 := [180, 0, 233, 153, 0, 7, 4, 167, 0, 30, 3, 167, 0, 26, 21, 4, 4, 160, 0, 11, 25, 6]
abbrev dktX1_vote_3 : List UInt8 := dkwX1_vote_3 ++ dktX1_vote_4
def dkwX1_vote_2 : List UInt8 := [185, 1, 135, 2, 0, 192, 0, 231, 58, 6, 25, 6, 199, 0, 5, 2, 172, 21, 4, 154, 0, 19, 25, 6]
abbrev dktX1_vote_2 : List UInt8 := dkwX1_vote_2 ++ dktX1_vote_3
def dkwX1_vote_1 : List UInt8 := [184, 0, 46, 184, 0, 237, 25, 5, 180, 0, 205, 187, 1, 11, 89, 28, 29, 183, 1, 133]
abbrev dktX1_vote_1 : List UInt8 := dkwX1_vote_1 ++ dktX1_vote_2
def dkwX1_vote_0 : List UInt8 := [42, 27, 28, 182, 1, 110, 58, 5, 29, 42, 180, 0, 56, 182, 0, 80, 184, 0, 72, 21, 4, 3, 5]
abbrev dktX1_vote_0 : List UInt8 := dkwX1_vote_0 ++ dktX1_vote_1
theorem dksX1_vote_0 : cX1_vote.data.toList.drop 0 = dktX1_vote_0 := by decide +kernel
theorem dksX1_vote_1 : cX1_vote.data.toList.drop 23 = dktX1_vote_1 := dk_seg dksX1_vote_0 23 rfl rfl
theorem dksX1_vote_2 : cX1_vote.data.toList.drop 43 = dktX1_vote_2 := dk_seg dksX1_vote_1 20 rfl rfl
theorem dksX1_vote_3 : cX1_vote.data.toList.drop 67 = dktX1_vote_3 := dk_seg dksX1_vote_2 24 rfl rfl
theorem dksX1_vote_4 : cX1_vote.data.toList.drop 89 = dktX1_vote_4 := dk_seg dksX1_vote_3 22 rfl rfl
theorem dX1_vote_0 : decode cX1_vote 0 = .ok (.aload_n 0, 1) := dk_42 (dk_at dksX1_vote_0 0 rfl rfl)
theorem dX1_vote_1 : decode cX1_vote 1 = .ok (.iload_n 1, 1) := dk_27 (dk_at dksX1_vote_0 1 rfl rfl)
theorem dX1_vote_2 : decode cX1_vote 2 = .ok (.iload_n 2, 1) := dk_28 (dk_at dksX1_vote_0 2 rfl rfl)
theorem dX1_vote_3 : decode cX1_vote 3 = .ok (.invokevirtual 366, 3) := dk_182 1 110 (dk_at dksX1_vote_0 3 rfl rfl)
theorem dX1_vote_6 : decode cX1_vote 6 = .ok (.astore 5, 2) := dk_58 5 (dk_at dksX1_vote_0 6 rfl rfl)
theorem dX1_vote_8 : decode cX1_vote 8 = .ok (.iload_n 3, 1) := dk_29 (dk_at dksX1_vote_0 8 rfl rfl)
theorem dX1_vote_9 : decode cX1_vote 9 = .ok (.aload_n 0, 1) := dk_42 (dk_at dksX1_vote_0 9 rfl rfl)
theorem dX1_vote_10 : decode cX1_vote 10 = .ok (.getfield 56, 3) := dk_180 0 56 (dk_at dksX1_vote_0 10 rfl rfl)
theorem dX1_vote_13 : decode cX1_vote 13 = .ok (.invokevirtual 80, 3) := dk_182 0 80 (dk_at dksX1_vote_0 13 rfl rfl)
theorem dX1_vote_16 : decode cX1_vote 16 = .ok (.invokestatic 72, 3) := dk_184 0 72 (dk_at dksX1_vote_0 16 rfl rfl)
theorem dX1_vote_19 : decode cX1_vote 19 = .ok (.iload 4, 2) := dk_21 4 (dk_at dksX1_vote_0 19 rfl rfl)
theorem dX1_vote_21 : decode cX1_vote 21 = .ok (.iconst 0, 1) := dk_3 (dk_at dksX1_vote_0 21 rfl rfl)
theorem dX1_vote_22 : decode cX1_vote 22 = .ok (.iconst 2, 1) := dk_5 (dk_at dksX1_vote_0 22 rfl rfl)
theorem dX1_vote_23 : decode cX1_vote 23 = .ok (.invokestatic 46, 3) := dk_184 0 46 (dk_at dksX1_vote_1 0 rfl rfl)
theorem dX1_vote_26 : decode cX1_vote 26 = .ok (.invokestatic 237, 3) := dk_184 0 237 (dk_at dksX1_vote_1 3 rfl rfl)
theorem dX1_vote_29 : decode cX1_vote 29 = .ok (.aload 5, 2) := dk_25 5 (dk_at dksX1_vote_1 6 rfl rfl)
theorem dX1_vote_31 : decode cX1_vote 31 = .ok (.getfield 205, 3) := dk_180 0 205 (dk_at dksX1_vote_1 8 rfl rfl)
theorem dX1_vote_34 : decode cX1_vote 34 = .ok (.new 267, 3) := dk_187 1 11 (dk_at dksX1_vote_1 11 rfl rfl)
theorem dX1_vote_37 : decode cX1_vote 37 = .ok (.dup, 1) := dk_89 (dk_at dksX1_vote_1 14 rfl rfl)
theorem dX1_vote_38 : decode cX1_vote 38 = .ok (.iload_n 2, 1) := dk_28 (dk_at dksX1_vote_1 15 rfl rfl)
theorem dX1_vote_39 : decode cX1_vote 39 = .ok (.iload_n 3, 1) := dk_29 (dk_at dksX1_vote_1 16 rfl rfl)
theorem dX1_vote_40 : decode cX1_vote 40 = .ok (.invokespecial 389, 3) := dk_183 1 133 (dk_at dksX1_vote_1 17 rfl rfl)
theorem dX1_vote_43 : decode cX1_vote 43 = .ok (.invokeinterface 391 2, 5) := by decide +kernel
theorem dX1_vote_48 : decode cX1_vote 48 = .ok (.checkcast 231, 3) := dk_192 0 231 (dk_at dksX1_vote_2 5 rfl rfl)
theorem dX1_vote_51 : decode cX1_vote 51 = .ok (.astore 6, 2) := dk_58 6 (dk_at dksX1_vote_2 8 rfl rfl)
theorem dX1_vote_53 : decode cX1_vote 53 = .ok (.aload 6, 2) := dk_25 6 (dk_at dksX1_vote_2 10 rfl rfl)
theorem dX1_vote_55 : decode cX1_vote 55 = .ok (.ifnonnull 5, 3) := dk_199 0 5 (dk_at dksX1_vote_2 12 rfl rfl)
theorem dX1_vote_58 : decode cX1_vote 58 = .ok (.iconst (-1), 1) := dk_2 (dk_at dksX1_vote_2 15 rfl rfl)
theorem dX1_vote_59 : decode cX1_vote 59 = .ok (.ireturn, 1) := dk_172 (dk_at dksX1_vote_2 16 rfl rfl)
theorem dX1_vote_60 : decode cX1_vote 60 = .ok (.iload 4, 2) := dk_21 4 (dk_at dksX1_vote_2 17 rfl rfl)
theorem dX1_vote_62 : decode cX1_vote 62 = .ok (.ifCond .ne 19, 3) := dk_154 0 19 (dk_at dksX1_vote_2 19 rfl rfl)
theorem dX1_vote_65 : decode cX1_vote 65 = .ok (.aload 6, 2) := dk_25 6 (dk_at dksX1_vote_2 22 rfl rfl)
theorem dX1_vote_67 : decode cX1_vote 67 = .ok (.getfield 233, 3) := dk_180 0 233 (dk_at dksX1_vote_3 0 rfl rfl)
theorem dX1_vote_70 : decode cX1_vote 70 = .ok (.ifCond .eq 7, 3) := dk_153 0 7 (dk_at dksX1_vote_3 3 rfl rfl)
theorem dX1_vote_73 : decode cX1_vote 73 = .ok (.iconst 1, 1) := dk_4 (dk_at dksX1_vote_3 6 rfl rfl)
theorem dX1_vote_74 : decode cX1_vote 74 = .ok (.goto 30, 3) := dk_167 0 30 (dk_at dksX1_vote_3 7 rfl rfl)
theorem dX1_vote_77 : decode cX1_vote 77 = .ok (.iconst 0, 1) := dk_3 (dk_at dksX1_vote_3 10 rfl rfl)
theorem dX1_vote_78 : decode cX1_vote 78 = .ok (.goto 26, 3) := dk_167 0 26 (dk_at dksX1_vote_3 11 rfl rfl)
theorem dX1_vote_81 : decode cX1_vote 81 = .ok (.iload 4, 2) := dk_21 4 (dk_at dksX1_vote_3 14 rfl rfl)
theorem dX1_vote_83 : decode cX1_vote 83 = .ok (.iconst 1, 1) := dk_4 (dk_at dksX1_vote_3 16 rfl rfl)
theorem dX1_vote_84 : decode cX1_vote 84 = .ok (.if_icmp .ne 11, 3) := dk_160 0 11 (dk_at dksX1_vote_3 17 rfl rfl)
theorem dX1_vote_87 : decode cX1_vote 87 = .ok (.aload 6, 2) := dk_25 6 (dk_at dksX1_vote_3 20 rfl rfl)
theorem dX1_vote_89 : decode cX1_vote 89 = .ok (.getfield 394, 3) := dk_180 1 138 (dk_at dksX1_vote_4 0 rfl rfl)
theorem dX1_vote_92 : decode cX1_vote 92 = .ok (.goto 12, 3) := dk_167 0 12 (dk_at dksX1_vote_4 3 rfl rfl)
theorem dX1_vote_95 : decode cX1_vote 95 = .ok (.aload_n 0, 1) := dk_42 (dk_at dksX1_vote_4 6 rfl rfl)
theorem dX1_vote_96 : decode cX1_vote 96 = .ok (.getfield 56, 3) := dk_180 0 56 (dk_at dksX1_vote_4 7 rfl rfl)
theorem dX1_vote_99 : decode cX1_vote 99 = .ok (.iload_n 2, 1) := dk_28 (dk_at dksX1_vote_4 10 rfl rfl)
theorem dX1_vote_100 : decode cX1_vote 100 = .ok (.iload_n 3, 1) := dk_29 (dk_at dksX1_vote_4 11 rfl rfl)
theorem dX1_vote_101 : decode cX1_vote 101 = .ok (.invokevirtual 395, 3) := dk_182 1 139 (dk_at dksX1_vote_4 12 rfl rfl)
theorem dX1_vote_104 : decode cX1_vote 104 = .ok (.ireturn, 1) := dk_172 (dk_at dksX1_vote_4 15 rfl rfl)
abbrev cX1_weights : ByteArray := prog_1_method_45_code
def yX1_weights : MethodName := ⟨RX1, "weights", "(IIZ)I"⟩
def dkwX1_weights_1 : List UInt8 := [180, 1, 55, 28, 46, 167, 0, 12, 42, 180, 0, 56, 180, 1, 58, 28, 46, 172]
abbrev dktX1_weights_1 : List UInt8 := dkwX1_weights_1 ++ []
def dkwX1_weights_0 : List UInt8 := [42, 27, 28, 182, 1, 117, 58, 4, 42, 180, 0, 56, 27, 182, 1, 51, 29, 153, 0, 15, 42, 180, 0, 56]
abbrev dktX1_weights_0 : List UInt8 := dkwX1_weights_0 ++ dktX1_weights_1
theorem dksX1_weights_0 : cX1_weights.data.toList.drop 0 = dktX1_weights_0 := by decide +kernel
theorem dksX1_weights_1 : cX1_weights.data.toList.drop 24 = dktX1_weights_1 := dk_seg dksX1_weights_0 24 rfl rfl
theorem dX1_weights_0 : decode cX1_weights 0 = .ok (.aload_n 0, 1) := dk_42 (dk_at dksX1_weights_0 0 rfl rfl)
theorem dX1_weights_1 : decode cX1_weights 1 = .ok (.iload_n 1, 1) := dk_27 (dk_at dksX1_weights_0 1 rfl rfl)
theorem dX1_weights_2 : decode cX1_weights 2 = .ok (.iload_n 2, 1) := dk_28 (dk_at dksX1_weights_0 2 rfl rfl)
theorem dX1_weights_3 : decode cX1_weights 3 = .ok (.invokevirtual 373, 3) := dk_182 1 117 (dk_at dksX1_weights_0 3 rfl rfl)
theorem dX1_weights_6 : decode cX1_weights 6 = .ok (.astore 4, 2) := dk_58 4 (dk_at dksX1_weights_0 6 rfl rfl)
theorem dX1_weights_8 : decode cX1_weights 8 = .ok (.aload_n 0, 1) := dk_42 (dk_at dksX1_weights_0 8 rfl rfl)
theorem dX1_weights_9 : decode cX1_weights 9 = .ok (.getfield 56, 3) := dk_180 0 56 (dk_at dksX1_weights_0 9 rfl rfl)
theorem dX1_weights_12 : decode cX1_weights 12 = .ok (.iload_n 1, 1) := dk_27 (dk_at dksX1_weights_0 12 rfl rfl)
theorem dX1_weights_13 : decode cX1_weights 13 = .ok (.invokevirtual 307, 3) := dk_182 1 51 (dk_at dksX1_weights_0 13 rfl rfl)
theorem dX1_weights_16 : decode cX1_weights 16 = .ok (.iload_n 3, 1) := dk_29 (dk_at dksX1_weights_0 16 rfl rfl)
theorem dX1_weights_17 : decode cX1_weights 17 = .ok (.ifCond .eq 15, 3) := dk_153 0 15 (dk_at dksX1_weights_0 17 rfl rfl)
theorem dX1_weights_20 : decode cX1_weights 20 = .ok (.aload_n 0, 1) := dk_42 (dk_at dksX1_weights_0 20 rfl rfl)
theorem dX1_weights_21 : decode cX1_weights 21 = .ok (.getfield 56, 3) := dk_180 0 56 (dk_at dksX1_weights_0 21 rfl rfl)
theorem dX1_weights_24 : decode cX1_weights 24 = .ok (.getfield 311, 3) := dk_180 1 55 (dk_at dksX1_weights_1 0 rfl rfl)
theorem dX1_weights_27 : decode cX1_weights 27 = .ok (.iload_n 2, 1) := dk_28 (dk_at dksX1_weights_1 3 rfl rfl)
theorem dX1_weights_28 : decode cX1_weights 28 = .ok (.iaload, 1) := dk_46 (dk_at dksX1_weights_1 4 rfl rfl)
theorem dX1_weights_29 : decode cX1_weights 29 = .ok (.goto 12, 3) := dk_167 0 12 (dk_at dksX1_weights_1 5 rfl rfl)
theorem dX1_weights_32 : decode cX1_weights 32 = .ok (.aload_n 0, 1) := dk_42 (dk_at dksX1_weights_1 8 rfl rfl)
theorem dX1_weights_33 : decode cX1_weights 33 = .ok (.getfield 56, 3) := dk_180 0 56 (dk_at dksX1_weights_1 9 rfl rfl)
theorem dX1_weights_36 : decode cX1_weights 36 = .ok (.getfield 314, 3) := dk_180 1 58 (dk_at dksX1_weights_1 12 rfl rfl)
theorem dX1_weights_39 : decode cX1_weights 39 = .ok (.iload_n 2, 1) := dk_28 (dk_at dksX1_weights_1 15 rfl rfl)
theorem dX1_weights_40 : decode cX1_weights 40 = .ok (.iaload, 1) := dk_46 (dk_at dksX1_weights_1 16 rfl rfl)
theorem dX1_weights_41 : decode cX1_weights 41 = .ok (.ireturn, 1) := dk_172 (dk_at dksX1_weights_1 17 rfl rfl)
abbrev cX1_rules : ByteArray := prog_1_method_46_code
def yX1_rules : MethodName := ⟨RX1, "rules", "(II)I"⟩
def dkwX1_rules_0 : List UInt8 := [42, 27, 28, 182, 1, 117, 78, 42, 180, 0, 56, 27, 182, 1, 51, 42, 180, 0, 56, 28, 182, 1, 142, 172]
abbrev dktX1_rules_0 : List UInt8 := dkwX1_rules_0 ++ []
theorem dksX1_rules_0 : cX1_rules.data.toList.drop 0 = dktX1_rules_0 := by decide +kernel
theorem dX1_rules_0 : decode cX1_rules 0 = .ok (.aload_n 0, 1) := dk_42 (dk_at dksX1_rules_0 0 rfl rfl)
theorem dX1_rules_1 : decode cX1_rules 1 = .ok (.iload_n 1, 1) := dk_27 (dk_at dksX1_rules_0 1 rfl rfl)
theorem dX1_rules_2 : decode cX1_rules 2 = .ok (.iload_n 2, 1) := dk_28 (dk_at dksX1_rules_0 2 rfl rfl)
theorem dX1_rules_3 : decode cX1_rules 3 = .ok (.invokevirtual 373, 3) := dk_182 1 117 (dk_at dksX1_rules_0 3 rfl rfl)
theorem dX1_rules_6 : decode cX1_rules 6 = .ok (.astore_n 3, 1) := dk_78 (dk_at dksX1_rules_0 6 rfl rfl)
theorem dX1_rules_7 : decode cX1_rules 7 = .ok (.aload_n 0, 1) := dk_42 (dk_at dksX1_rules_0 7 rfl rfl)
theorem dX1_rules_8 : decode cX1_rules 8 = .ok (.getfield 56, 3) := dk_180 0 56 (dk_at dksX1_rules_0 8 rfl rfl)
theorem dX1_rules_11 : decode cX1_rules 11 = .ok (.iload_n 1, 1) := dk_27 (dk_at dksX1_rules_0 11 rfl rfl)
theorem dX1_rules_12 : decode cX1_rules 12 = .ok (.invokevirtual 307, 3) := dk_182 1 51 (dk_at dksX1_rules_0 12 rfl rfl)
theorem dX1_rules_15 : decode cX1_rules 15 = .ok (.aload_n 0, 1) := dk_42 (dk_at dksX1_rules_0 15 rfl rfl)
theorem dX1_rules_16 : decode cX1_rules 16 = .ok (.getfield 56, 3) := dk_180 0 56 (dk_at dksX1_rules_0 16 rfl rfl)
theorem dX1_rules_19 : decode cX1_rules 19 = .ok (.iload_n 2, 1) := dk_28 (dk_at dksX1_rules_0 19 rfl rfl)
theorem dX1_rules_20 : decode cX1_rules 20 = .ok (.invokevirtual 398, 3) := dk_182 1 142 (dk_at dksX1_rules_0 20 rfl rfl)
theorem dX1_rules_23 : decode cX1_rules 23 = .ok (.ireturn, 1) := dk_172 (dk_at dksX1_rules_0 23 rfl rfl)
abbrev cX1_run : ByteArray := prog_1_method_47_code
def yX1_run : MethodName := ⟨RX1, "run", "(II)I"⟩
def dkwX1_run_0 : List UInt8 := [42, 27, 28, 182, 1, 117, 180, 1, 145, 28, 46, 172]
abbrev dktX1_run_0 : List UInt8 := dkwX1_run_0 ++ []
theorem dksX1_run_0 : cX1_run.data.toList.drop 0 = dktX1_run_0 := by decide +kernel
theorem dX1_run_0 : decode cX1_run 0 = .ok (.aload_n 0, 1) := dk_42 (dk_at dksX1_run_0 0 rfl rfl)
theorem dX1_run_1 : decode cX1_run 1 = .ok (.iload_n 1, 1) := dk_27 (dk_at dksX1_run_0 1 rfl rfl)
theorem dX1_run_2 : decode cX1_run 2 = .ok (.iload_n 2, 1) := dk_28 (dk_at dksX1_run_0 2 rfl rfl)
theorem dX1_run_3 : decode cX1_run 3 = .ok (.invokevirtual 373, 3) := dk_182 1 117 (dk_at dksX1_run_0 3 rfl rfl)
theorem dX1_run_6 : decode cX1_run 6 = .ok (.getfield 401, 3) := dk_180 1 145 (dk_at dksX1_run_0 6 rfl rfl)
theorem dX1_run_9 : decode cX1_run 9 = .ok (.iload_n 2, 1) := dk_28 (dk_at dksX1_run_0 9 rfl rfl)
theorem dX1_run_10 : decode cX1_run 10 = .ok (.iaload, 1) := dk_46 (dk_at dksX1_run_0 10 rfl rfl)
theorem dX1_run_11 : decode cX1_run 11 = .ok (.ireturn, 1) := dk_172 (dk_at dksX1_run_0 11 rfl rfl)
abbrev cX1_isClosed : ByteArray := prog_1_method_48_code
def yX1_isClosed : MethodName := ⟨RX1, "isClosed", "(II)Z"⟩
def dkwX1_isClosed_0 : List UInt8 := [42, 27, 28, 182, 1, 117, 28, 182, 1, 148, 172]
abbrev dktX1_isClosed_0 : List UInt8 := dkwX1_isClosed_0 ++ []
theorem dksX1_isClosed_0 : cX1_isClosed.data.toList.drop 0 = dktX1_isClosed_0 := by decide +kernel
theorem dX1_isClosed_0 : decode cX1_isClosed 0 = .ok (.aload_n 0, 1) := dk_42 (dk_at dksX1_isClosed_0 0 rfl rfl)
theorem dX1_isClosed_1 : decode cX1_isClosed 1 = .ok (.iload_n 1, 1) := dk_27 (dk_at dksX1_isClosed_0 1 rfl rfl)
theorem dX1_isClosed_2 : decode cX1_isClosed 2 = .ok (.iload_n 2, 1) := dk_28 (dk_at dksX1_isClosed_0 2 rfl rfl)
theorem dX1_isClosed_3 : decode cX1_isClosed 3 = .ok (.invokevirtual 373, 3) := dk_182 1 117 (dk_at dksX1_isClosed_0 3 rfl rfl)
theorem dX1_isClosed_6 : decode cX1_isClosed 6 = .ok (.iload_n 2, 1) := dk_28 (dk_at dksX1_isClosed_0 6 rfl rfl)
theorem dX1_isClosed_7 : decode cX1_isClosed 7 = .ok (.invokevirtual 404, 3) := dk_182 1 148 (dk_at dksX1_isClosed_0 7 rfl rfl)
theorem dX1_isClosed_10 : decode cX1_isClosed 10 = .ok (.ireturn, 1) := dk_172 (dk_at dksX1_isClosed_0 10 rfl rfl)
abbrev cX1_toldClosed : ByteArray := prog_1_method_49_code
def yX1_toldClosed : MethodName := ⟨RX1, "toldClosed", "(II)Z"⟩
def dkwX1_toldClosed_0 : List UInt8 := [42, 27, 28, 182, 1, 117, 78, 42, 180, 0, 56, 27, 28, 182, 1, 151, 172]
abbrev dktX1_toldClosed_0 : List UInt8 := dkwX1_toldClosed_0 ++ []
theorem dksX1_toldClosed_0 : cX1_toldClosed.data.toList.drop 0 = dktX1_toldClosed_0 := by decide +kernel
theorem dX1_toldClosed_0 : decode cX1_toldClosed 0 = .ok (.aload_n 0, 1) := dk_42 (dk_at dksX1_toldClosed_0 0 rfl rfl)
theorem dX1_toldClosed_1 : decode cX1_toldClosed 1 = .ok (.iload_n 1, 1) := dk_27 (dk_at dksX1_toldClosed_0 1 rfl rfl)
theorem dX1_toldClosed_2 : decode cX1_toldClosed 2 = .ok (.iload_n 2, 1) := dk_28 (dk_at dksX1_toldClosed_0 2 rfl rfl)
theorem dX1_toldClosed_3 : decode cX1_toldClosed 3 = .ok (.invokevirtual 373, 3) := dk_182 1 117 (dk_at dksX1_toldClosed_0 3 rfl rfl)
theorem dX1_toldClosed_6 : decode cX1_toldClosed 6 = .ok (.astore_n 3, 1) := dk_78 (dk_at dksX1_toldClosed_0 6 rfl rfl)
theorem dX1_toldClosed_7 : decode cX1_toldClosed 7 = .ok (.aload_n 0, 1) := dk_42 (dk_at dksX1_toldClosed_0 7 rfl rfl)
theorem dX1_toldClosed_8 : decode cX1_toldClosed 8 = .ok (.getfield 56, 3) := dk_180 0 56 (dk_at dksX1_toldClosed_0 8 rfl rfl)
theorem dX1_toldClosed_11 : decode cX1_toldClosed 11 = .ok (.iload_n 1, 1) := dk_27 (dk_at dksX1_toldClosed_0 11 rfl rfl)
theorem dX1_toldClosed_12 : decode cX1_toldClosed 12 = .ok (.iload_n 2, 1) := dk_28 (dk_at dksX1_toldClosed_0 12 rfl rfl)
theorem dX1_toldClosed_13 : decode cX1_toldClosed 13 = .ok (.invokevirtual 407, 3) := dk_182 1 151 (dk_at dksX1_toldClosed_0 13 rfl rfl)
theorem dX1_toldClosed_16 : decode cX1_toldClosed 16 = .ok (.ireturn, 1) := dk_172 (dk_at dksX1_toldClosed_0 16 rfl rfl)
abbrev cX1_closers : ByteArray := prog_1_method_50_code
def yX1_closers : MethodName := ⟨RX1, "closers", "(I)I"⟩
def dkwX1_closers_0 : List UInt8 := [42, 27, 182, 1, 61, 77, 42, 180, 0, 56, 27, 182, 1, 73, 172]
abbrev dktX1_closers_0 : List UInt8 := dkwX1_closers_0 ++ []
theorem dksX1_closers_0 : cX1_closers.data.toList.drop 0 = dktX1_closers_0 := by decide +kernel
theorem dX1_closers_0 : decode cX1_closers 0 = .ok (.aload_n 0, 1) := dk_42 (dk_at dksX1_closers_0 0 rfl rfl)
theorem dX1_closers_1 : decode cX1_closers 1 = .ok (.iload_n 1, 1) := dk_27 (dk_at dksX1_closers_0 1 rfl rfl)
theorem dX1_closers_2 : decode cX1_closers 2 = .ok (.invokevirtual 317, 3) := dk_182 1 61 (dk_at dksX1_closers_0 2 rfl rfl)
theorem dX1_closers_5 : decode cX1_closers 5 = .ok (.astore_n 2, 1) := dk_77 (dk_at dksX1_closers_0 5 rfl rfl)
theorem dX1_closers_6 : decode cX1_closers 6 = .ok (.aload_n 0, 1) := dk_42 (dk_at dksX1_closers_0 6 rfl rfl)
theorem dX1_closers_7 : decode cX1_closers 7 = .ok (.getfield 56, 3) := dk_180 0 56 (dk_at dksX1_closers_0 7 rfl rfl)
theorem dX1_closers_10 : decode cX1_closers 10 = .ok (.iload_n 1, 1) := dk_27 (dk_at dksX1_closers_0 10 rfl rfl)
theorem dX1_closers_11 : decode cX1_closers 11 = .ok (.invokevirtual 329, 3) := dk_182 1 73 (dk_at dksX1_closers_0 11 rfl rfl)
theorem dX1_closers_14 : decode cX1_closers 14 = .ok (.ireturn, 1) := dk_172 (dk_at dksX1_closers_0 14 rfl rfl)
abbrev cX1_quarrels : ByteArray := prog_1_method_51_code
def yX1_quarrels : MethodName := ⟨RX1, "quarrels", "(I)I"⟩
def dkwX1_quarrels_4 : List UInt8 := [167, 255, 174, 29, 172]
abbrev dktX1_quarrels_4 : List UInt8 := dkwX1_quarrels_4 ++ []
def dkwX1_quarrels_3 : List UInt8 := [182, 1, 148, 159, 0, 7, 4, 167, 0, 4, 3, 96, 62, 132, 5, 1, 167, 255, 195, 132, 4, 1]
abbrev dktX1_quarrels_3 : List UInt8 := dkwX1_quarrels_3 ++ dktX1_quarrels_4
def dkwX1_quarrels_2 : List UInt8 := [42, 180, 0, 56, 21, 4, 182, 0, 76, 27, 182, 1, 148, 42, 180, 0, 56, 21, 5, 182, 0, 76, 27]
abbrev dktX1_quarrels_2 : List UInt8 := dkwX1_quarrels_2 ++ dktX1_quarrels_3
def dkwX1_quarrels_1 : List UInt8 := [54, 5, 21, 5, 21, 4, 162, 0, 60, 29, 42, 180, 0, 56, 21, 4, 21, 5, 182, 1, 114, 153, 0, 36]
abbrev dktX1_quarrels_1 : List UInt8 := dkwX1_quarrels_1 ++ dktX1_quarrels_2
def dkwX1_quarrels_0 : List UInt8 := [42, 27, 182, 1, 61, 77, 3, 62, 3, 54, 4, 21, 4, 42, 180, 0, 56, 182, 0, 68, 162, 0, 76, 3]
abbrev dktX1_quarrels_0 : List UInt8 := dkwX1_quarrels_0 ++ dktX1_quarrels_1
theorem dksX1_quarrels_0 : cX1_quarrels.data.toList.drop 0 = dktX1_quarrels_0 := by decide +kernel
theorem dksX1_quarrels_1 : cX1_quarrels.data.toList.drop 24 = dktX1_quarrels_1 := dk_seg dksX1_quarrels_0 24 rfl rfl
theorem dksX1_quarrels_2 : cX1_quarrels.data.toList.drop 48 = dktX1_quarrels_2 := dk_seg dksX1_quarrels_1 24 rfl rfl
theorem dksX1_quarrels_3 : cX1_quarrels.data.toList.drop 71 = dktX1_quarrels_3 := dk_seg dksX1_quarrels_2 23 rfl rfl
theorem dksX1_quarrels_4 : cX1_quarrels.data.toList.drop 93 = dktX1_quarrels_4 := dk_seg dksX1_quarrels_3 22 rfl rfl
theorem dX1_quarrels_0 : decode cX1_quarrels 0 = .ok (.aload_n 0, 1) := dk_42 (dk_at dksX1_quarrels_0 0 rfl rfl)
theorem dX1_quarrels_1 : decode cX1_quarrels 1 = .ok (.iload_n 1, 1) := dk_27 (dk_at dksX1_quarrels_0 1 rfl rfl)
theorem dX1_quarrels_2 : decode cX1_quarrels 2 = .ok (.invokevirtual 317, 3) := dk_182 1 61 (dk_at dksX1_quarrels_0 2 rfl rfl)
theorem dX1_quarrels_5 : decode cX1_quarrels 5 = .ok (.astore_n 2, 1) := dk_77 (dk_at dksX1_quarrels_0 5 rfl rfl)
theorem dX1_quarrels_6 : decode cX1_quarrels 6 = .ok (.iconst 0, 1) := dk_3 (dk_at dksX1_quarrels_0 6 rfl rfl)
theorem dX1_quarrels_7 : decode cX1_quarrels 7 = .ok (.istore_n 3, 1) := dk_62 (dk_at dksX1_quarrels_0 7 rfl rfl)
theorem dX1_quarrels_8 : decode cX1_quarrels 8 = .ok (.iconst 0, 1) := dk_3 (dk_at dksX1_quarrels_0 8 rfl rfl)
theorem dX1_quarrels_9 : decode cX1_quarrels 9 = .ok (.istore 4, 2) := dk_54 4 (dk_at dksX1_quarrels_0 9 rfl rfl)
theorem dX1_quarrels_11 : decode cX1_quarrels 11 = .ok (.iload 4, 2) := dk_21 4 (dk_at dksX1_quarrels_0 11 rfl rfl)
theorem dX1_quarrels_13 : decode cX1_quarrels 13 = .ok (.aload_n 0, 1) := dk_42 (dk_at dksX1_quarrels_0 13 rfl rfl)
theorem dX1_quarrels_14 : decode cX1_quarrels 14 = .ok (.getfield 56, 3) := dk_180 0 56 (dk_at dksX1_quarrels_0 14 rfl rfl)
theorem dX1_quarrels_17 : decode cX1_quarrels 17 = .ok (.invokevirtual 68, 3) := dk_182 0 68 (dk_at dksX1_quarrels_0 17 rfl rfl)
theorem dX1_quarrels_20 : decode cX1_quarrels 20 = .ok (.if_icmp .ge 76, 3) := dk_162 0 76 (dk_at dksX1_quarrels_0 20 rfl rfl)
theorem dX1_quarrels_23 : decode cX1_quarrels 23 = .ok (.iconst 0, 1) := dk_3 (dk_at dksX1_quarrels_0 23 rfl rfl)
theorem dX1_quarrels_24 : decode cX1_quarrels 24 = .ok (.istore 5, 2) := dk_54 5 (dk_at dksX1_quarrels_1 0 rfl rfl)
theorem dX1_quarrels_26 : decode cX1_quarrels 26 = .ok (.iload 5, 2) := dk_21 5 (dk_at dksX1_quarrels_1 2 rfl rfl)
theorem dX1_quarrels_28 : decode cX1_quarrels 28 = .ok (.iload 4, 2) := dk_21 4 (dk_at dksX1_quarrels_1 4 rfl rfl)
theorem dX1_quarrels_30 : decode cX1_quarrels 30 = .ok (.if_icmp .ge 60, 3) := dk_162 0 60 (dk_at dksX1_quarrels_1 6 rfl rfl)
theorem dX1_quarrels_33 : decode cX1_quarrels 33 = .ok (.iload_n 3, 1) := dk_29 (dk_at dksX1_quarrels_1 9 rfl rfl)
theorem dX1_quarrels_34 : decode cX1_quarrels 34 = .ok (.aload_n 0, 1) := dk_42 (dk_at dksX1_quarrels_1 10 rfl rfl)
theorem dX1_quarrels_35 : decode cX1_quarrels 35 = .ok (.getfield 56, 3) := dk_180 0 56 (dk_at dksX1_quarrels_1 11 rfl rfl)
theorem dX1_quarrels_38 : decode cX1_quarrels 38 = .ok (.iload 4, 2) := dk_21 4 (dk_at dksX1_quarrels_1 14 rfl rfl)
theorem dX1_quarrels_40 : decode cX1_quarrels 40 = .ok (.iload 5, 2) := dk_21 5 (dk_at dksX1_quarrels_1 16 rfl rfl)
theorem dX1_quarrels_42 : decode cX1_quarrels 42 = .ok (.invokevirtual 370, 3) := dk_182 1 114 (dk_at dksX1_quarrels_1 18 rfl rfl)
theorem dX1_quarrels_45 : decode cX1_quarrels 45 = .ok (.ifCond .eq 36, 3) := dk_153 0 36 (dk_at dksX1_quarrels_1 21 rfl rfl)
theorem dX1_quarrels_48 : decode cX1_quarrels 48 = .ok (.aload_n 0, 1) := dk_42 (dk_at dksX1_quarrels_2 0 rfl rfl)
theorem dX1_quarrels_49 : decode cX1_quarrels 49 = .ok (.getfield 56, 3) := dk_180 0 56 (dk_at dksX1_quarrels_2 1 rfl rfl)
theorem dX1_quarrels_52 : decode cX1_quarrels 52 = .ok (.iload 4, 2) := dk_21 4 (dk_at dksX1_quarrels_2 4 rfl rfl)
theorem dX1_quarrels_54 : decode cX1_quarrels 54 = .ok (.invokevirtual 76, 3) := dk_182 0 76 (dk_at dksX1_quarrels_2 6 rfl rfl)
theorem dX1_quarrels_57 : decode cX1_quarrels 57 = .ok (.iload_n 1, 1) := dk_27 (dk_at dksX1_quarrels_2 9 rfl rfl)
theorem dX1_quarrels_58 : decode cX1_quarrels 58 = .ok (.invokevirtual 404, 3) := dk_182 1 148 (dk_at dksX1_quarrels_2 10 rfl rfl)
theorem dX1_quarrels_61 : decode cX1_quarrels 61 = .ok (.aload_n 0, 1) := dk_42 (dk_at dksX1_quarrels_2 13 rfl rfl)
theorem dX1_quarrels_62 : decode cX1_quarrels 62 = .ok (.getfield 56, 3) := dk_180 0 56 (dk_at dksX1_quarrels_2 14 rfl rfl)
theorem dX1_quarrels_65 : decode cX1_quarrels 65 = .ok (.iload 5, 2) := dk_21 5 (dk_at dksX1_quarrels_2 17 rfl rfl)
theorem dX1_quarrels_67 : decode cX1_quarrels 67 = .ok (.invokevirtual 76, 3) := dk_182 0 76 (dk_at dksX1_quarrels_2 19 rfl rfl)
theorem dX1_quarrels_70 : decode cX1_quarrels 70 = .ok (.iload_n 1, 1) := dk_27 (dk_at dksX1_quarrels_2 22 rfl rfl)
theorem dX1_quarrels_71 : decode cX1_quarrels 71 = .ok (.invokevirtual 404, 3) := dk_182 1 148 (dk_at dksX1_quarrels_3 0 rfl rfl)
theorem dX1_quarrels_74 : decode cX1_quarrels 74 = .ok (.if_icmp .eq 7, 3) := dk_159 0 7 (dk_at dksX1_quarrels_3 3 rfl rfl)
theorem dX1_quarrels_77 : decode cX1_quarrels 77 = .ok (.iconst 1, 1) := dk_4 (dk_at dksX1_quarrels_3 6 rfl rfl)
theorem dX1_quarrels_78 : decode cX1_quarrels 78 = .ok (.goto 4, 3) := dk_167 0 4 (dk_at dksX1_quarrels_3 7 rfl rfl)
theorem dX1_quarrels_81 : decode cX1_quarrels 81 = .ok (.iconst 0, 1) := dk_3 (dk_at dksX1_quarrels_3 10 rfl rfl)
theorem dX1_quarrels_82 : decode cX1_quarrels 82 = .ok (.iadd, 1) := dk_96 (dk_at dksX1_quarrels_3 11 rfl rfl)
theorem dX1_quarrels_83 : decode cX1_quarrels 83 = .ok (.istore_n 3, 1) := dk_62 (dk_at dksX1_quarrels_3 12 rfl rfl)
theorem dX1_quarrels_84 : decode cX1_quarrels 84 = .ok (.iinc 5 1, 3) := dk_132 5 1 (dk_at dksX1_quarrels_3 13 rfl rfl)
theorem dX1_quarrels_87 : decode cX1_quarrels 87 = .ok (.goto (-61), 3) := dk_167 255 195 (dk_at dksX1_quarrels_3 16 rfl rfl)
theorem dX1_quarrels_90 : decode cX1_quarrels 90 = .ok (.iinc 4 1, 3) := dk_132 4 1 (dk_at dksX1_quarrels_3 19 rfl rfl)
theorem dX1_quarrels_93 : decode cX1_quarrels 93 = .ok (.goto (-82), 3) := dk_167 255 174 (dk_at dksX1_quarrels_4 0 rfl rfl)
theorem dX1_quarrels_96 : decode cX1_quarrels 96 = .ok (.iload_n 3, 1) := dk_29 (dk_at dksX1_quarrels_4 3 rfl rfl)
theorem dX1_quarrels_97 : decode cX1_quarrels 97 = .ok (.ireturn, 1) := dk_172 (dk_at dksX1_quarrels_4 4 rfl rfl)
abbrev cX1_disputes : ByteArray := prog_1_method_52_code
def yX1_disputes : MethodName := ⟨RX1, "disputes", "(I)I"⟩
def dkwX1_disputes_7 : List UInt8 := [167, 255, 208, 21, 4, 172]
abbrev dktX1_disputes_7 : List UInt8 := dkwX1_disputes_7 ++ []
def dkwX1_disputes_6 : List UInt8 := [21, 6, 184, 1, 15, 185, 1, 168, 2, 0, 153, 0, 12, 21, 4, 4, 21, 6, 120, 128, 54, 4]
abbrev dktX1_disputes_6 : List UInt8 := dkwX1_disputes_6 ++ dktX1_disputes_7
def dkwX1_disputes_5 : List UInt8 := [185, 0, 221, 1, 0, 153, 0, 44, 25, 5, 185, 0, 227, 1, 0, 192, 0, 183, 182, 1, 165, 54, 6, 45]
abbrev dktX1_disputes_5 : List UInt8 := dkwX1_disputes_5 ++ dktX1_disputes_6
def dkwX1_disputes_4 : List UInt8 := [185, 1, 19, 2, 0, 54, 6, 167, 255, 190, 3, 54, 4, 44, 185, 1, 8, 1, 0, 58, 5, 25, 5]
abbrev dktX1_disputes_4 : List UInt8 := dkwX1_disputes_4 ++ dktX1_disputes_5
def dkwX1_disputes_3 : List UInt8 := [153, 0, 7, 44, 167, 0, 4, 45, 25, 5, 185, 1, 162, 1, 0, 192, 1, 11, 180, 1, 13, 184, 1, 15]
abbrev dktX1_disputes_3 : List UInt8 := dkwX1_disputes_3 ++ dktX1_disputes_4
def dkwX1_disputes_2 : List UInt8 := [185, 0, 227, 1, 0, 192, 1, 157, 58, 5, 25, 5, 185, 1, 159, 1, 0, 192, 0, 231, 180, 0, 233]
abbrev dktX1_disputes_2 : List UInt8 := dkwX1_disputes_2 ++ dktX1_disputes_3
def dkwX1_disputes_1 : List UInt8 := [185, 1, 154, 1, 0, 185, 1, 8, 1, 0, 58, 4, 25, 4, 185, 0, 221, 1, 0, 153, 0, 62, 25, 4]
abbrev dktX1_disputes_1 : List UInt8 := dkwX1_disputes_1 ++ dktX1_disputes_2
def dkwX1_disputes_0 : List UInt8 := [187, 1, 1, 89, 183, 1, 3, 77, 187, 1, 1, 89, 183, 1, 3, 78, 42, 27, 182, 0, 87, 180, 0, 205]
abbrev dktX1_disputes_0 : List UInt8 := dkwX1_disputes_0 ++ dktX1_disputes_1
theorem dksX1_disputes_0 : cX1_disputes.data.toList.drop 0 = dktX1_disputes_0 := by decide +kernel
theorem dksX1_disputes_1 : cX1_disputes.data.toList.drop 24 = dktX1_disputes_1 := dk_seg dksX1_disputes_0 24 rfl rfl
theorem dksX1_disputes_2 : cX1_disputes.data.toList.drop 48 = dktX1_disputes_2 := dk_seg dksX1_disputes_1 24 rfl rfl
theorem dksX1_disputes_3 : cX1_disputes.data.toList.drop 71 = dktX1_disputes_3 := dk_seg dksX1_disputes_2 23 rfl rfl
theorem dksX1_disputes_4 : cX1_disputes.data.toList.drop 95 = dktX1_disputes_4 := dk_seg dksX1_disputes_3 24 rfl rfl
theorem dksX1_disputes_5 : cX1_disputes.data.toList.drop 118 = dktX1_disputes_5 := dk_seg dksX1_disputes_4 23 rfl rfl
theorem dksX1_disputes_6 : cX1_disputes.data.toList.drop 142 = dktX1_disputes_6 := dk_seg dksX1_disputes_5 24 rfl rfl
theorem dksX1_disputes_7 : cX1_disputes.data.toList.drop 164 = dktX1_disputes_7 := dk_seg dksX1_disputes_6 22 rfl rfl
theorem dX1_disputes_0 : decode cX1_disputes 0 = .ok (.new 257, 3) := dk_187 1 1 (dk_at dksX1_disputes_0 0 rfl rfl)
theorem dX1_disputes_3 : decode cX1_disputes 3 = .ok (.dup, 1) := dk_89 (dk_at dksX1_disputes_0 3 rfl rfl)
theorem dX1_disputes_4 : decode cX1_disputes 4 = .ok (.invokespecial 259, 3) := dk_183 1 3 (dk_at dksX1_disputes_0 4 rfl rfl)
theorem dX1_disputes_7 : decode cX1_disputes 7 = .ok (.astore_n 2, 1) := dk_77 (dk_at dksX1_disputes_0 7 rfl rfl)
theorem dX1_disputes_8 : decode cX1_disputes 8 = .ok (.new 257, 3) := dk_187 1 1 (dk_at dksX1_disputes_0 8 rfl rfl)
theorem dX1_disputes_11 : decode cX1_disputes 11 = .ok (.dup, 1) := dk_89 (dk_at dksX1_disputes_0 11 rfl rfl)
theorem dX1_disputes_12 : decode cX1_disputes 12 = .ok (.invokespecial 259, 3) := dk_183 1 3 (dk_at dksX1_disputes_0 12 rfl rfl)
theorem dX1_disputes_15 : decode cX1_disputes 15 = .ok (.astore_n 3, 1) := dk_78 (dk_at dksX1_disputes_0 15 rfl rfl)
theorem dX1_disputes_16 : decode cX1_disputes 16 = .ok (.aload_n 0, 1) := dk_42 (dk_at dksX1_disputes_0 16 rfl rfl)
theorem dX1_disputes_17 : decode cX1_disputes 17 = .ok (.iload_n 1, 1) := dk_27 (dk_at dksX1_disputes_0 17 rfl rfl)
theorem dX1_disputes_18 : decode cX1_disputes 18 = .ok (.invokevirtual 87, 3) := dk_182 0 87 (dk_at dksX1_disputes_0 18 rfl rfl)
theorem dX1_disputes_21 : decode cX1_disputes 21 = .ok (.getfield 205, 3) := dk_180 0 205 (dk_at dksX1_disputes_0 21 rfl rfl)
theorem dX1_disputes_24 : decode cX1_disputes 24 = .ok (.invokeinterface 410 1, 5) := by decide +kernel
theorem dX1_disputes_29 : decode cX1_disputes 29 = .ok (.invokeinterface 264 1, 5) := by decide +kernel
theorem dX1_disputes_34 : decode cX1_disputes 34 = .ok (.astore 4, 2) := dk_58 4 (dk_at dksX1_disputes_1 10 rfl rfl)
theorem dX1_disputes_36 : decode cX1_disputes 36 = .ok (.aload 4, 2) := dk_25 4 (dk_at dksX1_disputes_1 12 rfl rfl)
theorem dX1_disputes_38 : decode cX1_disputes 38 = .ok (.invokeinterface 221 1, 5) := by decide +kernel
theorem dX1_disputes_43 : decode cX1_disputes 43 = .ok (.ifCond .eq 62, 3) := dk_153 0 62 (dk_at dksX1_disputes_1 19 rfl rfl)
theorem dX1_disputes_46 : decode cX1_disputes 46 = .ok (.aload 4, 2) := dk_25 4 (dk_at dksX1_disputes_1 22 rfl rfl)
theorem dX1_disputes_48 : decode cX1_disputes 48 = .ok (.invokeinterface 227 1, 5) := by decide +kernel
theorem dX1_disputes_53 : decode cX1_disputes 53 = .ok (.checkcast 413, 3) := dk_192 1 157 (dk_at dksX1_disputes_2 5 rfl rfl)
theorem dX1_disputes_56 : decode cX1_disputes 56 = .ok (.astore 5, 2) := dk_58 5 (dk_at dksX1_disputes_2 8 rfl rfl)
theorem dX1_disputes_58 : decode cX1_disputes 58 = .ok (.aload 5, 2) := dk_25 5 (dk_at dksX1_disputes_2 10 rfl rfl)
theorem dX1_disputes_60 : decode cX1_disputes 60 = .ok (.invokeinterface 415 1, 5) := by decide +kernel
theorem dX1_disputes_65 : decode cX1_disputes 65 = .ok (.checkcast 231, 3) := dk_192 0 231 (dk_at dksX1_disputes_2 17 rfl rfl)
theorem dX1_disputes_68 : decode cX1_disputes 68 = .ok (.getfield 233, 3) := dk_180 0 233 (dk_at dksX1_disputes_2 20 rfl rfl)
theorem dX1_disputes_71 : decode cX1_disputes 71 = .ok (.ifCond .eq 7, 3) := dk_153 0 7 (dk_at dksX1_disputes_3 0 rfl rfl)
theorem dX1_disputes_74 : decode cX1_disputes 74 = .ok (.aload_n 2, 1) := dk_44 (dk_at dksX1_disputes_3 3 rfl rfl)
theorem dX1_disputes_75 : decode cX1_disputes 75 = .ok (.goto 4, 3) := dk_167 0 4 (dk_at dksX1_disputes_3 4 rfl rfl)
theorem dX1_disputes_78 : decode cX1_disputes 78 = .ok (.aload_n 3, 1) := dk_45 (dk_at dksX1_disputes_3 7 rfl rfl)
theorem dX1_disputes_79 : decode cX1_disputes 79 = .ok (.aload 5, 2) := dk_25 5 (dk_at dksX1_disputes_3 8 rfl rfl)
theorem dX1_disputes_81 : decode cX1_disputes 81 = .ok (.invokeinterface 418 1, 5) := by decide +kernel
theorem dX1_disputes_86 : decode cX1_disputes 86 = .ok (.checkcast 267, 3) := dk_192 1 11 (dk_at dksX1_disputes_3 15 rfl rfl)
theorem dX1_disputes_89 : decode cX1_disputes 89 = .ok (.getfield 269, 3) := dk_180 1 13 (dk_at dksX1_disputes_3 18 rfl rfl)
theorem dX1_disputes_92 : decode cX1_disputes 92 = .ok (.invokestatic 271, 3) := dk_184 1 15 (dk_at dksX1_disputes_3 21 rfl rfl)
theorem dX1_disputes_95 : decode cX1_disputes 95 = .ok (.invokeinterface 275 2, 5) := by decide +kernel
theorem dX1_disputes_100 : decode cX1_disputes 100 = .ok (.istore 6, 2) := dk_54 6 (dk_at dksX1_disputes_4 5 rfl rfl)
theorem dX1_disputes_102 : decode cX1_disputes 102 = .ok (.goto (-66), 3) := dk_167 255 190 (dk_at dksX1_disputes_4 7 rfl rfl)
theorem dX1_disputes_105 : decode cX1_disputes 105 = .ok (.iconst 0, 1) := dk_3 (dk_at dksX1_disputes_4 10 rfl rfl)
theorem dX1_disputes_106 : decode cX1_disputes 106 = .ok (.istore 4, 2) := dk_54 4 (dk_at dksX1_disputes_4 11 rfl rfl)
theorem dX1_disputes_108 : decode cX1_disputes 108 = .ok (.aload_n 2, 1) := dk_44 (dk_at dksX1_disputes_4 13 rfl rfl)
theorem dX1_disputes_109 : decode cX1_disputes 109 = .ok (.invokeinterface 264 1, 5) := by decide +kernel
theorem dX1_disputes_114 : decode cX1_disputes 114 = .ok (.astore 5, 2) := dk_58 5 (dk_at dksX1_disputes_4 19 rfl rfl)
theorem dX1_disputes_116 : decode cX1_disputes 116 = .ok (.aload 5, 2) := dk_25 5 (dk_at dksX1_disputes_4 21 rfl rfl)
theorem dX1_disputes_118 : decode cX1_disputes 118 = .ok (.invokeinterface 221 1, 5) := by decide +kernel
theorem dX1_disputes_123 : decode cX1_disputes 123 = .ok (.ifCond .eq 44, 3) := dk_153 0 44 (dk_at dksX1_disputes_5 5 rfl rfl)
theorem dX1_disputes_126 : decode cX1_disputes 126 = .ok (.aload 5, 2) := dk_25 5 (dk_at dksX1_disputes_5 8 rfl rfl)
theorem dX1_disputes_128 : decode cX1_disputes 128 = .ok (.invokeinterface 227 1, 5) := by decide +kernel
theorem dX1_disputes_133 : decode cX1_disputes 133 = .ok (.checkcast 183, 3) := dk_192 0 183 (dk_at dksX1_disputes_5 15 rfl rfl)
theorem dX1_disputes_136 : decode cX1_disputes 136 = .ok (.invokevirtual 421, 3) := dk_182 1 165 (dk_at dksX1_disputes_5 18 rfl rfl)
theorem dX1_disputes_139 : decode cX1_disputes 139 = .ok (.istore 6, 2) := dk_54 6 (dk_at dksX1_disputes_5 21 rfl rfl)
theorem dX1_disputes_141 : decode cX1_disputes 141 = .ok (.aload_n 3, 1) := dk_45 (dk_at dksX1_disputes_5 23 rfl rfl)
theorem dX1_disputes_142 : decode cX1_disputes 142 = .ok (.iload 6, 2) := dk_21 6 (dk_at dksX1_disputes_6 0 rfl rfl)
theorem dX1_disputes_144 : decode cX1_disputes 144 = .ok (.invokestatic 271, 3) := dk_184 1 15 (dk_at dksX1_disputes_6 2 rfl rfl)
theorem dX1_disputes_147 : decode cX1_disputes 147 = .ok (.invokeinterface 424 2, 5) := by decide +kernel
theorem dX1_disputes_152 : decode cX1_disputes 152 = .ok (.ifCond .eq 12, 3) := dk_153 0 12 (dk_at dksX1_disputes_6 10 rfl rfl)
theorem dX1_disputes_155 : decode cX1_disputes 155 = .ok (.iload 4, 2) := dk_21 4 (dk_at dksX1_disputes_6 13 rfl rfl)
theorem dX1_disputes_157 : decode cX1_disputes 157 = .ok (.iconst 1, 1) := dk_4 (dk_at dksX1_disputes_6 15 rfl rfl)
theorem dX1_disputes_158 : decode cX1_disputes 158 = .ok (.iload 6, 2) := dk_21 6 (dk_at dksX1_disputes_6 16 rfl rfl)
theorem dX1_disputes_160 : decode cX1_disputes 160 = .ok (.ishl, 1) := dk_120 (dk_at dksX1_disputes_6 18 rfl rfl)
theorem dX1_disputes_161 : decode cX1_disputes 161 = .ok (.ior, 1) := dk_128 (dk_at dksX1_disputes_6 19 rfl rfl)
theorem dX1_disputes_162 : decode cX1_disputes 162 = .ok (.istore 4, 2) := dk_54 4 (dk_at dksX1_disputes_6 20 rfl rfl)
theorem dX1_disputes_164 : decode cX1_disputes 164 = .ok (.goto (-48), 3) := dk_167 255 208 (dk_at dksX1_disputes_7 0 rfl rfl)
theorem dX1_disputes_167 : decode cX1_disputes 167 = .ok (.iload 4, 2) := dk_21 4 (dk_at dksX1_disputes_7 3 rfl rfl)
theorem dX1_disputes_169 : decode cX1_disputes 169 = .ok (.ireturn, 1) := dk_172 (dk_at dksX1_disputes_7 5 rfl rfl)
abbrev cX1_falseVotes : ByteArray := prog_1_method_53_code
def yX1_falseVotes : MethodName := ⟨RX1, "falseVotes", "(I)I"⟩
def dkwX1_falseVotes_0 : List UInt8 := [42, 27, 182, 0, 87, 77, 42, 180, 0, 56, 27, 187, 1, 171, 89, 42, 183, 1, 173, 182, 0, 249, 172]
abbrev dktX1_falseVotes_0 : List UInt8 := dkwX1_falseVotes_0 ++ []
theorem dksX1_falseVotes_0 : cX1_falseVotes.data.toList.drop 0 = dktX1_falseVotes_0 := by decide +kernel
theorem dX1_falseVotes_0 : decode cX1_falseVotes 0 = .ok (.aload_n 0, 1) := dk_42 (dk_at dksX1_falseVotes_0 0 rfl rfl)
theorem dX1_falseVotes_1 : decode cX1_falseVotes 1 = .ok (.iload_n 1, 1) := dk_27 (dk_at dksX1_falseVotes_0 1 rfl rfl)
theorem dX1_falseVotes_2 : decode cX1_falseVotes 2 = .ok (.invokevirtual 87, 3) := dk_182 0 87 (dk_at dksX1_falseVotes_0 2 rfl rfl)
theorem dX1_falseVotes_5 : decode cX1_falseVotes 5 = .ok (.astore_n 2, 1) := dk_77 (dk_at dksX1_falseVotes_0 5 rfl rfl)
theorem dX1_falseVotes_6 : decode cX1_falseVotes 6 = .ok (.aload_n 0, 1) := dk_42 (dk_at dksX1_falseVotes_0 6 rfl rfl)
theorem dX1_falseVotes_7 : decode cX1_falseVotes 7 = .ok (.getfield 56, 3) := dk_180 0 56 (dk_at dksX1_falseVotes_0 7 rfl rfl)
theorem dX1_falseVotes_10 : decode cX1_falseVotes 10 = .ok (.iload_n 1, 1) := dk_27 (dk_at dksX1_falseVotes_0 10 rfl rfl)
theorem dX1_falseVotes_11 : decode cX1_falseVotes 11 = .ok (.new 427, 3) := dk_187 1 171 (dk_at dksX1_falseVotes_0 11 rfl rfl)
theorem dX1_falseVotes_14 : decode cX1_falseVotes 14 = .ok (.dup, 1) := dk_89 (dk_at dksX1_falseVotes_0 14 rfl rfl)
theorem dX1_falseVotes_15 : decode cX1_falseVotes 15 = .ok (.aload_n 0, 1) := dk_42 (dk_at dksX1_falseVotes_0 15 rfl rfl)
theorem dX1_falseVotes_16 : decode cX1_falseVotes 16 = .ok (.invokespecial 429, 3) := dk_183 1 173 (dk_at dksX1_falseVotes_0 16 rfl rfl)
theorem dX1_falseVotes_19 : decode cX1_falseVotes 19 = .ok (.invokevirtual 249, 3) := dk_182 0 249 (dk_at dksX1_falseVotes_0 19 rfl rfl)
theorem dX1_falseVotes_22 : decode cX1_falseVotes 22 = .ok (.ireturn, 1) := dk_172 (dk_at dksX1_falseVotes_0 22 rfl rfl)
abbrev cX1_oldestVote : ByteArray := prog_1_method_54_code
def yX1_oldestVote : MethodName := ⟨RX1, "oldestVote", "(I)I"⟩
def dkwX1_oldestVote_2 : List UInt8 := [25, 4, 180, 1, 138, 28, 162, 0, 9, 25, 4, 180, 1, 138, 61, 167, 255, 216, 28, 172]
abbrev dktX1_oldestVote_2 : List UInt8 := dkwX1_oldestVote_2 ++ []
def dkwX1_oldestVote_1 : List UInt8 := [185, 0, 221, 1, 0, 153, 0, 37, 45, 185, 0, 227, 1, 0, 192, 0, 231, 58, 4, 28, 2, 159, 0, 12]
abbrev dktX1_oldestVote_1 : List UInt8 := dkwX1_oldestVote_1 ++ dktX1_oldestVote_2
def dkwX1_oldestVote_0 : List UInt8 := [2, 61, 42, 27, 182, 0, 87, 180, 0, 205, 185, 0, 209, 1, 0, 185, 0, 215, 1, 0, 78, 45]
abbrev dktX1_oldestVote_0 : List UInt8 := dkwX1_oldestVote_0 ++ dktX1_oldestVote_1
theorem dksX1_oldestVote_0 : cX1_oldestVote.data.toList.drop 0 = dktX1_oldestVote_0 := by decide +kernel
theorem dksX1_oldestVote_1 : cX1_oldestVote.data.toList.drop 22 = dktX1_oldestVote_1 := dk_seg dksX1_oldestVote_0 22 rfl rfl
theorem dksX1_oldestVote_2 : cX1_oldestVote.data.toList.drop 46 = dktX1_oldestVote_2 := dk_seg dksX1_oldestVote_1 24 rfl rfl
theorem dX1_oldestVote_0 : decode cX1_oldestVote 0 = .ok (.iconst (-1), 1) := dk_2 (dk_at dksX1_oldestVote_0 0 rfl rfl)
theorem dX1_oldestVote_1 : decode cX1_oldestVote 1 = .ok (.istore_n 2, 1) := dk_61 (dk_at dksX1_oldestVote_0 1 rfl rfl)
theorem dX1_oldestVote_2 : decode cX1_oldestVote 2 = .ok (.aload_n 0, 1) := dk_42 (dk_at dksX1_oldestVote_0 2 rfl rfl)
theorem dX1_oldestVote_3 : decode cX1_oldestVote 3 = .ok (.iload_n 1, 1) := dk_27 (dk_at dksX1_oldestVote_0 3 rfl rfl)
theorem dX1_oldestVote_4 : decode cX1_oldestVote 4 = .ok (.invokevirtual 87, 3) := dk_182 0 87 (dk_at dksX1_oldestVote_0 4 rfl rfl)
theorem dX1_oldestVote_7 : decode cX1_oldestVote 7 = .ok (.getfield 205, 3) := dk_180 0 205 (dk_at dksX1_oldestVote_0 7 rfl rfl)
theorem dX1_oldestVote_10 : decode cX1_oldestVote 10 = .ok (.invokeinterface 209 1, 5) := by decide +kernel
theorem dX1_oldestVote_15 : decode cX1_oldestVote 15 = .ok (.invokeinterface 215 1, 5) := by decide +kernel
theorem dX1_oldestVote_20 : decode cX1_oldestVote 20 = .ok (.astore_n 3, 1) := dk_78 (dk_at dksX1_oldestVote_0 20 rfl rfl)
theorem dX1_oldestVote_21 : decode cX1_oldestVote 21 = .ok (.aload_n 3, 1) := dk_45 (dk_at dksX1_oldestVote_0 21 rfl rfl)
theorem dX1_oldestVote_22 : decode cX1_oldestVote 22 = .ok (.invokeinterface 221 1, 5) := by decide +kernel
theorem dX1_oldestVote_27 : decode cX1_oldestVote 27 = .ok (.ifCond .eq 37, 3) := dk_153 0 37 (dk_at dksX1_oldestVote_1 5 rfl rfl)
theorem dX1_oldestVote_30 : decode cX1_oldestVote 30 = .ok (.aload_n 3, 1) := dk_45 (dk_at dksX1_oldestVote_1 8 rfl rfl)
theorem dX1_oldestVote_31 : decode cX1_oldestVote 31 = .ok (.invokeinterface 227 1, 5) := by decide +kernel
theorem dX1_oldestVote_36 : decode cX1_oldestVote 36 = .ok (.checkcast 231, 3) := dk_192 0 231 (dk_at dksX1_oldestVote_1 14 rfl rfl)
theorem dX1_oldestVote_39 : decode cX1_oldestVote 39 = .ok (.astore 4, 2) := dk_58 4 (dk_at dksX1_oldestVote_1 17 rfl rfl)
theorem dX1_oldestVote_41 : decode cX1_oldestVote 41 = .ok (.iload_n 2, 1) := dk_28 (dk_at dksX1_oldestVote_1 19 rfl rfl)
theorem dX1_oldestVote_42 : decode cX1_oldestVote 42 = .ok (.iconst (-1), 1) := dk_2 (dk_at dksX1_oldestVote_1 20 rfl rfl)
theorem dX1_oldestVote_43 : decode cX1_oldestVote 43 = .ok (.if_icmp .eq 12, 3) := dk_159 0 12 (dk_at dksX1_oldestVote_1 21 rfl rfl)
theorem dX1_oldestVote_46 : decode cX1_oldestVote 46 = .ok (.aload 4, 2) := dk_25 4 (dk_at dksX1_oldestVote_2 0 rfl rfl)
theorem dX1_oldestVote_48 : decode cX1_oldestVote 48 = .ok (.getfield 394, 3) := dk_180 1 138 (dk_at dksX1_oldestVote_2 2 rfl rfl)
theorem dX1_oldestVote_51 : decode cX1_oldestVote 51 = .ok (.iload_n 2, 1) := dk_28 (dk_at dksX1_oldestVote_2 5 rfl rfl)
theorem dX1_oldestVote_52 : decode cX1_oldestVote 52 = .ok (.if_icmp .ge 9, 3) := dk_162 0 9 (dk_at dksX1_oldestVote_2 6 rfl rfl)
theorem dX1_oldestVote_55 : decode cX1_oldestVote 55 = .ok (.aload 4, 2) := dk_25 4 (dk_at dksX1_oldestVote_2 9 rfl rfl)
theorem dX1_oldestVote_57 : decode cX1_oldestVote 57 = .ok (.getfield 394, 3) := dk_180 1 138 (dk_at dksX1_oldestVote_2 11 rfl rfl)
theorem dX1_oldestVote_60 : decode cX1_oldestVote 60 = .ok (.istore_n 2, 1) := dk_61 (dk_at dksX1_oldestVote_2 14 rfl rfl)
theorem dX1_oldestVote_61 : decode cX1_oldestVote 61 = .ok (.goto (-40), 3) := dk_167 255 216 (dk_at dksX1_oldestVote_2 15 rfl rfl)
theorem dX1_oldestVote_64 : decode cX1_oldestVote 64 = .ok (.iload_n 2, 1) := dk_28 (dk_at dksX1_oldestVote_2 18 rfl rfl)
theorem dX1_oldestVote_65 : decode cX1_oldestVote 65 = .ok (.ireturn, 1) := dk_172 (dk_at dksX1_oldestVote_2 19 rfl rfl)
abbrev cX1_risky : ByteArray := prog_1_method_55_code
def yX1_risky : MethodName := ⟨RX1, "risky", "()I"⟩
def dkwX1_risky_2 : List UInt8 := [132, 3, 1, 167, 255, 216, 28, 172]
abbrev dktX1_risky_2 : List UInt8 := dkwX1_risky_2 ++ []
def dkwX1_risky_1 : List UInt8 := [153, 0, 24, 43, 29, 182, 1, 73, 184, 0, 182, 43, 182, 0, 68, 162, 0, 9, 28, 4, 29, 120, 128, 61]
abbrev dktX1_risky_1 : List UInt8 := dkwX1_risky_1 ++ dktX1_risky_2
def dkwX1_risky_0 : List UInt8 := [42, 182, 0, 64, 76, 3, 61, 3, 62, 29, 43, 182, 0, 80, 162, 0, 38, 43, 29, 182, 1, 69]
abbrev dktX1_risky_0 : List UInt8 := dkwX1_risky_0 ++ dktX1_risky_1
theorem dksX1_risky_0 : cX1_risky.data.toList.drop 0 = dktX1_risky_0 := by decide +kernel
theorem dksX1_risky_1 : cX1_risky.data.toList.drop 22 = dktX1_risky_1 := dk_seg dksX1_risky_0 22 rfl rfl
theorem dksX1_risky_2 : cX1_risky.data.toList.drop 46 = dktX1_risky_2 := dk_seg dksX1_risky_1 24 rfl rfl
theorem dX1_risky_0 : decode cX1_risky 0 = .ok (.aload_n 0, 1) := dk_42 (dk_at dksX1_risky_0 0 rfl rfl)
theorem dX1_risky_1 : decode cX1_risky 1 = .ok (.invokevirtual 64, 3) := dk_182 0 64 (dk_at dksX1_risky_0 1 rfl rfl)
theorem dX1_risky_4 : decode cX1_risky 4 = .ok (.astore_n 1, 1) := dk_76 (dk_at dksX1_risky_0 4 rfl rfl)
theorem dX1_risky_5 : decode cX1_risky 5 = .ok (.iconst 0, 1) := dk_3 (dk_at dksX1_risky_0 5 rfl rfl)
theorem dX1_risky_6 : decode cX1_risky 6 = .ok (.istore_n 2, 1) := dk_61 (dk_at dksX1_risky_0 6 rfl rfl)
theorem dX1_risky_7 : decode cX1_risky 7 = .ok (.iconst 0, 1) := dk_3 (dk_at dksX1_risky_0 7 rfl rfl)
theorem dX1_risky_8 : decode cX1_risky 8 = .ok (.istore_n 3, 1) := dk_62 (dk_at dksX1_risky_0 8 rfl rfl)
theorem dX1_risky_9 : decode cX1_risky 9 = .ok (.iload_n 3, 1) := dk_29 (dk_at dksX1_risky_0 9 rfl rfl)
theorem dX1_risky_10 : decode cX1_risky 10 = .ok (.aload_n 1, 1) := dk_43 (dk_at dksX1_risky_0 10 rfl rfl)
theorem dX1_risky_11 : decode cX1_risky 11 = .ok (.invokevirtual 80, 3) := dk_182 0 80 (dk_at dksX1_risky_0 11 rfl rfl)
theorem dX1_risky_14 : decode cX1_risky 14 = .ok (.if_icmp .ge 38, 3) := dk_162 0 38 (dk_at dksX1_risky_0 14 rfl rfl)
theorem dX1_risky_17 : decode cX1_risky 17 = .ok (.aload_n 1, 1) := dk_43 (dk_at dksX1_risky_0 17 rfl rfl)
theorem dX1_risky_18 : decode cX1_risky 18 = .ok (.iload_n 3, 1) := dk_29 (dk_at dksX1_risky_0 18 rfl rfl)
theorem dX1_risky_19 : decode cX1_risky 19 = .ok (.invokevirtual 325, 3) := dk_182 1 69 (dk_at dksX1_risky_0 19 rfl rfl)
theorem dX1_risky_22 : decode cX1_risky 22 = .ok (.ifCond .eq 24, 3) := dk_153 0 24 (dk_at dksX1_risky_1 0 rfl rfl)
theorem dX1_risky_25 : decode cX1_risky 25 = .ok (.aload_n 1, 1) := dk_43 (dk_at dksX1_risky_1 3 rfl rfl)
theorem dX1_risky_26 : decode cX1_risky 26 = .ok (.iload_n 3, 1) := dk_29 (dk_at dksX1_risky_1 4 rfl rfl)
theorem dX1_risky_27 : decode cX1_risky 27 = .ok (.invokevirtual 329, 3) := dk_182 1 73 (dk_at dksX1_risky_1 5 rfl rfl)
theorem dX1_risky_30 : decode cX1_risky 30 = .ok (.invokestatic 182, 3) := dk_184 0 182 (dk_at dksX1_risky_1 8 rfl rfl)
theorem dX1_risky_33 : decode cX1_risky 33 = .ok (.aload_n 1, 1) := dk_43 (dk_at dksX1_risky_1 11 rfl rfl)
theorem dX1_risky_34 : decode cX1_risky 34 = .ok (.invokevirtual 68, 3) := dk_182 0 68 (dk_at dksX1_risky_1 12 rfl rfl)
theorem dX1_risky_37 : decode cX1_risky 37 = .ok (.if_icmp .ge 9, 3) := dk_162 0 9 (dk_at dksX1_risky_1 15 rfl rfl)
theorem dX1_risky_40 : decode cX1_risky 40 = .ok (.iload_n 2, 1) := dk_28 (dk_at dksX1_risky_1 18 rfl rfl)
theorem dX1_risky_41 : decode cX1_risky 41 = .ok (.iconst 1, 1) := dk_4 (dk_at dksX1_risky_1 19 rfl rfl)
theorem dX1_risky_42 : decode cX1_risky 42 = .ok (.iload_n 3, 1) := dk_29 (dk_at dksX1_risky_1 20 rfl rfl)
theorem dX1_risky_43 : decode cX1_risky 43 = .ok (.ishl, 1) := dk_120 (dk_at dksX1_risky_1 21 rfl rfl)
theorem dX1_risky_44 : decode cX1_risky 44 = .ok (.ior, 1) := dk_128 (dk_at dksX1_risky_1 22 rfl rfl)
theorem dX1_risky_45 : decode cX1_risky 45 = .ok (.istore_n 2, 1) := dk_61 (dk_at dksX1_risky_1 23 rfl rfl)
theorem dX1_risky_46 : decode cX1_risky 46 = .ok (.iinc 3 1, 3) := dk_132 3 1 (dk_at dksX1_risky_2 0 rfl rfl)
theorem dX1_risky_49 : decode cX1_risky 49 = .ok (.goto (-40), 3) := dk_167 255 216 (dk_at dksX1_risky_2 3 rfl rfl)
theorem dX1_risky_52 : decode cX1_risky 52 = .ok (.iload_n 2, 1) := dk_28 (dk_at dksX1_risky_2 6 rfl rfl)
theorem dX1_risky_53 : decode cX1_risky 53 = .ok (.ireturn, 1) := dk_172 (dk_at dksX1_risky_2 7 rfl rfl)
abbrev cX1_weightiest : ByteArray := prog_1_method_56_code
def yX1_weightiest : MethodName := ⟨RX1, "weightiest", "(I)I"⟩
def dkwX1_weightiest_2 : List UInt8 := [164, 0, 6, 21, 4, 62, 132, 4, 1, 167, 255, 211, 29, 172]
abbrev dktX1_weightiest_2 : List UInt8 := dkwX1_weightiest_2 ++ []
def dkwX1_weightiest_1 : List UInt8 := [2, 159, 0, 25, 42, 180, 0, 56, 21, 4, 27, 182, 1, 139, 42, 180, 0, 56, 29, 27, 182, 1, 139]
abbrev dktX1_weightiest_1 : List UInt8 := dkwX1_weightiest_1 ++ dktX1_weightiest_2
def dkwX1_weightiest_0 : List UInt8 := [42, 27, 182, 1, 61, 77, 2, 62, 3, 54, 4, 21, 4, 42, 180, 0, 56, 182, 0, 68, 162, 0, 39, 29]
abbrev dktX1_weightiest_0 : List UInt8 := dkwX1_weightiest_0 ++ dktX1_weightiest_1
theorem dksX1_weightiest_0 : cX1_weightiest.data.toList.drop 0 = dktX1_weightiest_0 := by decide +kernel
theorem dksX1_weightiest_1 : cX1_weightiest.data.toList.drop 24 = dktX1_weightiest_1 := dk_seg dksX1_weightiest_0 24 rfl rfl
theorem dksX1_weightiest_2 : cX1_weightiest.data.toList.drop 47 = dktX1_weightiest_2 := dk_seg dksX1_weightiest_1 23 rfl rfl
theorem dX1_weightiest_0 : decode cX1_weightiest 0 = .ok (.aload_n 0, 1) := dk_42 (dk_at dksX1_weightiest_0 0 rfl rfl)
theorem dX1_weightiest_1 : decode cX1_weightiest 1 = .ok (.iload_n 1, 1) := dk_27 (dk_at dksX1_weightiest_0 1 rfl rfl)
theorem dX1_weightiest_2 : decode cX1_weightiest 2 = .ok (.invokevirtual 317, 3) := dk_182 1 61 (dk_at dksX1_weightiest_0 2 rfl rfl)
theorem dX1_weightiest_5 : decode cX1_weightiest 5 = .ok (.astore_n 2, 1) := dk_77 (dk_at dksX1_weightiest_0 5 rfl rfl)
theorem dX1_weightiest_6 : decode cX1_weightiest 6 = .ok (.iconst (-1), 1) := dk_2 (dk_at dksX1_weightiest_0 6 rfl rfl)
theorem dX1_weightiest_7 : decode cX1_weightiest 7 = .ok (.istore_n 3, 1) := dk_62 (dk_at dksX1_weightiest_0 7 rfl rfl)
theorem dX1_weightiest_8 : decode cX1_weightiest 8 = .ok (.iconst 0, 1) := dk_3 (dk_at dksX1_weightiest_0 8 rfl rfl)
theorem dX1_weightiest_9 : decode cX1_weightiest 9 = .ok (.istore 4, 2) := dk_54 4 (dk_at dksX1_weightiest_0 9 rfl rfl)
theorem dX1_weightiest_11 : decode cX1_weightiest 11 = .ok (.iload 4, 2) := dk_21 4 (dk_at dksX1_weightiest_0 11 rfl rfl)
theorem dX1_weightiest_13 : decode cX1_weightiest 13 = .ok (.aload_n 0, 1) := dk_42 (dk_at dksX1_weightiest_0 13 rfl rfl)
theorem dX1_weightiest_14 : decode cX1_weightiest 14 = .ok (.getfield 56, 3) := dk_180 0 56 (dk_at dksX1_weightiest_0 14 rfl rfl)
theorem dX1_weightiest_17 : decode cX1_weightiest 17 = .ok (.invokevirtual 68, 3) := dk_182 0 68 (dk_at dksX1_weightiest_0 17 rfl rfl)
theorem dX1_weightiest_20 : decode cX1_weightiest 20 = .ok (.if_icmp .ge 39, 3) := dk_162 0 39 (dk_at dksX1_weightiest_0 20 rfl rfl)
theorem dX1_weightiest_23 : decode cX1_weightiest 23 = .ok (.iload_n 3, 1) := dk_29 (dk_at dksX1_weightiest_0 23 rfl rfl)
theorem dX1_weightiest_24 : decode cX1_weightiest 24 = .ok (.iconst (-1), 1) := dk_2 (dk_at dksX1_weightiest_1 0 rfl rfl)
theorem dX1_weightiest_25 : decode cX1_weightiest 25 = .ok (.if_icmp .eq 25, 3) := dk_159 0 25 (dk_at dksX1_weightiest_1 1 rfl rfl)
theorem dX1_weightiest_28 : decode cX1_weightiest 28 = .ok (.aload_n 0, 1) := dk_42 (dk_at dksX1_weightiest_1 4 rfl rfl)
theorem dX1_weightiest_29 : decode cX1_weightiest 29 = .ok (.getfield 56, 3) := dk_180 0 56 (dk_at dksX1_weightiest_1 5 rfl rfl)
theorem dX1_weightiest_32 : decode cX1_weightiest 32 = .ok (.iload 4, 2) := dk_21 4 (dk_at dksX1_weightiest_1 8 rfl rfl)
theorem dX1_weightiest_34 : decode cX1_weightiest 34 = .ok (.iload_n 1, 1) := dk_27 (dk_at dksX1_weightiest_1 10 rfl rfl)
theorem dX1_weightiest_35 : decode cX1_weightiest 35 = .ok (.invokevirtual 395, 3) := dk_182 1 139 (dk_at dksX1_weightiest_1 11 rfl rfl)
theorem dX1_weightiest_38 : decode cX1_weightiest 38 = .ok (.aload_n 0, 1) := dk_42 (dk_at dksX1_weightiest_1 14 rfl rfl)
theorem dX1_weightiest_39 : decode cX1_weightiest 39 = .ok (.getfield 56, 3) := dk_180 0 56 (dk_at dksX1_weightiest_1 15 rfl rfl)
theorem dX1_weightiest_42 : decode cX1_weightiest 42 = .ok (.iload_n 3, 1) := dk_29 (dk_at dksX1_weightiest_1 18 rfl rfl)
theorem dX1_weightiest_43 : decode cX1_weightiest 43 = .ok (.iload_n 1, 1) := dk_27 (dk_at dksX1_weightiest_1 19 rfl rfl)
theorem dX1_weightiest_44 : decode cX1_weightiest 44 = .ok (.invokevirtual 395, 3) := dk_182 1 139 (dk_at dksX1_weightiest_1 20 rfl rfl)
theorem dX1_weightiest_47 : decode cX1_weightiest 47 = .ok (.if_icmp .le 6, 3) := dk_164 0 6 (dk_at dksX1_weightiest_2 0 rfl rfl)
theorem dX1_weightiest_50 : decode cX1_weightiest 50 = .ok (.iload 4, 2) := dk_21 4 (dk_at dksX1_weightiest_2 3 rfl rfl)
theorem dX1_weightiest_52 : decode cX1_weightiest 52 = .ok (.istore_n 3, 1) := dk_62 (dk_at dksX1_weightiest_2 5 rfl rfl)
theorem dX1_weightiest_53 : decode cX1_weightiest 53 = .ok (.iinc 4 1, 3) := dk_132 4 1 (dk_at dksX1_weightiest_2 6 rfl rfl)
theorem dX1_weightiest_56 : decode cX1_weightiest 56 = .ok (.goto (-45), 3) := dk_167 255 211 (dk_at dksX1_weightiest_2 9 rfl rfl)
theorem dX1_weightiest_59 : decode cX1_weightiest 59 = .ok (.iload_n 3, 1) := dk_29 (dk_at dksX1_weightiest_2 12 rfl rfl)
theorem dX1_weightiest_60 : decode cX1_weightiest 60 = .ok (.ireturn, 1) := dk_172 (dk_at dksX1_weightiest_2 13 rfl rfl)
abbrev cX1_leastTrusted : ByteArray := prog_1_method_57_code
def yX1_leastTrusted : MethodName := ⟨RX1, "leastTrusted", "()I"⟩
def dkwX1_leastTrusted_2 : List UInt8 := [167, 255, 219, 28, 172]
abbrev dktX1_leastTrusted_2 : List UInt8 := dkwX1_leastTrusted_2 ++ []
def dkwX1_leastTrusted_1 : List UInt8 := [182, 0, 76, 180, 1, 32, 43, 28, 182, 0, 76, 180, 1, 32, 162, 0, 5, 29, 61, 132, 3, 1]
abbrev dktX1_leastTrusted_1 : List UInt8 := dkwX1_leastTrusted_1 ++ dktX1_leastTrusted_2
def dkwX1_leastTrusted_0 : List UInt8 := [42, 182, 0, 64, 76, 2, 61, 3, 62, 29, 43, 182, 0, 68, 162, 0, 35, 28, 2, 159, 0, 22, 43, 29]
abbrev dktX1_leastTrusted_0 : List UInt8 := dkwX1_leastTrusted_0 ++ dktX1_leastTrusted_1
theorem dksX1_leastTrusted_0 : cX1_leastTrusted.data.toList.drop 0 = dktX1_leastTrusted_0 := by decide +kernel
theorem dksX1_leastTrusted_1 : cX1_leastTrusted.data.toList.drop 24 = dktX1_leastTrusted_1 := dk_seg dksX1_leastTrusted_0 24 rfl rfl
theorem dksX1_leastTrusted_2 : cX1_leastTrusted.data.toList.drop 46 = dktX1_leastTrusted_2 := dk_seg dksX1_leastTrusted_1 22 rfl rfl
theorem dX1_leastTrusted_0 : decode cX1_leastTrusted 0 = .ok (.aload_n 0, 1) := dk_42 (dk_at dksX1_leastTrusted_0 0 rfl rfl)
theorem dX1_leastTrusted_1 : decode cX1_leastTrusted 1 = .ok (.invokevirtual 64, 3) := dk_182 0 64 (dk_at dksX1_leastTrusted_0 1 rfl rfl)
theorem dX1_leastTrusted_4 : decode cX1_leastTrusted 4 = .ok (.astore_n 1, 1) := dk_76 (dk_at dksX1_leastTrusted_0 4 rfl rfl)
theorem dX1_leastTrusted_5 : decode cX1_leastTrusted 5 = .ok (.iconst (-1), 1) := dk_2 (dk_at dksX1_leastTrusted_0 5 rfl rfl)
theorem dX1_leastTrusted_6 : decode cX1_leastTrusted 6 = .ok (.istore_n 2, 1) := dk_61 (dk_at dksX1_leastTrusted_0 6 rfl rfl)
theorem dX1_leastTrusted_7 : decode cX1_leastTrusted 7 = .ok (.iconst 0, 1) := dk_3 (dk_at dksX1_leastTrusted_0 7 rfl rfl)
theorem dX1_leastTrusted_8 : decode cX1_leastTrusted 8 = .ok (.istore_n 3, 1) := dk_62 (dk_at dksX1_leastTrusted_0 8 rfl rfl)
theorem dX1_leastTrusted_9 : decode cX1_leastTrusted 9 = .ok (.iload_n 3, 1) := dk_29 (dk_at dksX1_leastTrusted_0 9 rfl rfl)
theorem dX1_leastTrusted_10 : decode cX1_leastTrusted 10 = .ok (.aload_n 1, 1) := dk_43 (dk_at dksX1_leastTrusted_0 10 rfl rfl)
theorem dX1_leastTrusted_11 : decode cX1_leastTrusted 11 = .ok (.invokevirtual 68, 3) := dk_182 0 68 (dk_at dksX1_leastTrusted_0 11 rfl rfl)
theorem dX1_leastTrusted_14 : decode cX1_leastTrusted 14 = .ok (.if_icmp .ge 35, 3) := dk_162 0 35 (dk_at dksX1_leastTrusted_0 14 rfl rfl)
theorem dX1_leastTrusted_17 : decode cX1_leastTrusted 17 = .ok (.iload_n 2, 1) := dk_28 (dk_at dksX1_leastTrusted_0 17 rfl rfl)
theorem dX1_leastTrusted_18 : decode cX1_leastTrusted 18 = .ok (.iconst (-1), 1) := dk_2 (dk_at dksX1_leastTrusted_0 18 rfl rfl)
theorem dX1_leastTrusted_19 : decode cX1_leastTrusted 19 = .ok (.if_icmp .eq 22, 3) := dk_159 0 22 (dk_at dksX1_leastTrusted_0 19 rfl rfl)
theorem dX1_leastTrusted_22 : decode cX1_leastTrusted 22 = .ok (.aload_n 1, 1) := dk_43 (dk_at dksX1_leastTrusted_0 22 rfl rfl)
theorem dX1_leastTrusted_23 : decode cX1_leastTrusted 23 = .ok (.iload_n 3, 1) := dk_29 (dk_at dksX1_leastTrusted_0 23 rfl rfl)
theorem dX1_leastTrusted_24 : decode cX1_leastTrusted 24 = .ok (.invokevirtual 76, 3) := dk_182 0 76 (dk_at dksX1_leastTrusted_1 0 rfl rfl)
theorem dX1_leastTrusted_27 : decode cX1_leastTrusted 27 = .ok (.getfield 288, 3) := dk_180 1 32 (dk_at dksX1_leastTrusted_1 3 rfl rfl)
theorem dX1_leastTrusted_30 : decode cX1_leastTrusted 30 = .ok (.aload_n 1, 1) := dk_43 (dk_at dksX1_leastTrusted_1 6 rfl rfl)
theorem dX1_leastTrusted_31 : decode cX1_leastTrusted 31 = .ok (.iload_n 2, 1) := dk_28 (dk_at dksX1_leastTrusted_1 7 rfl rfl)
theorem dX1_leastTrusted_32 : decode cX1_leastTrusted 32 = .ok (.invokevirtual 76, 3) := dk_182 0 76 (dk_at dksX1_leastTrusted_1 8 rfl rfl)
theorem dX1_leastTrusted_35 : decode cX1_leastTrusted 35 = .ok (.getfield 288, 3) := dk_180 1 32 (dk_at dksX1_leastTrusted_1 11 rfl rfl)
theorem dX1_leastTrusted_38 : decode cX1_leastTrusted 38 = .ok (.if_icmp .ge 5, 3) := dk_162 0 5 (dk_at dksX1_leastTrusted_1 14 rfl rfl)
theorem dX1_leastTrusted_41 : decode cX1_leastTrusted 41 = .ok (.iload_n 3, 1) := dk_29 (dk_at dksX1_leastTrusted_1 17 rfl rfl)
theorem dX1_leastTrusted_42 : decode cX1_leastTrusted 42 = .ok (.istore_n 2, 1) := dk_61 (dk_at dksX1_leastTrusted_1 18 rfl rfl)
theorem dX1_leastTrusted_43 : decode cX1_leastTrusted 43 = .ok (.iinc 3 1, 3) := dk_132 3 1 (dk_at dksX1_leastTrusted_1 19 rfl rfl)
theorem dX1_leastTrusted_46 : decode cX1_leastTrusted 46 = .ok (.goto (-37), 3) := dk_167 255 219 (dk_at dksX1_leastTrusted_2 0 rfl rfl)
theorem dX1_leastTrusted_49 : decode cX1_leastTrusted 49 = .ok (.iload_n 2, 1) := dk_28 (dk_at dksX1_leastTrusted_2 3 rfl rfl)
theorem dX1_leastTrusted_50 : decode cX1_leastTrusted 50 = .ok (.ireturn, 1) := dk_172 (dk_at dksX1_leastTrusted_2 4 rfl rfl)
abbrev cX1_loneliest : ByteArray := prog_1_method_58_code
def yX1_loneliest : MethodName := ⟨RX1, "loneliest", "()I"⟩
def dkwX1_loneliest_2 : List UInt8 := [62, 132, 4, 1, 167, 255, 218, 28, 172]
abbrev dktX1_loneliest_2 : List UInt8 := dkwX1_loneliest_2 ++ []
def dkwX1_loneliest_1 : List UInt8 := [21, 4, 182, 0, 197, 184, 0, 182, 54, 5, 21, 5, 29, 161, 0, 6, 167, 0, 9, 21, 4, 61, 21, 5]
abbrev dktX1_loneliest_1 : List UInt8 := dkwX1_loneliest_1 ++ dktX1_loneliest_2
def dkwX1_loneliest_0 : List UInt8 := [42, 182, 0, 64, 76, 2, 61, 16, 11, 62, 3, 54, 4, 21, 4, 43, 182, 0, 68, 162, 0, 35, 43]
abbrev dktX1_loneliest_0 : List UInt8 := dkwX1_loneliest_0 ++ dktX1_loneliest_1
theorem dksX1_loneliest_0 : cX1_loneliest.data.toList.drop 0 = dktX1_loneliest_0 := by decide +kernel
theorem dksX1_loneliest_1 : cX1_loneliest.data.toList.drop 23 = dktX1_loneliest_1 := dk_seg dksX1_loneliest_0 23 rfl rfl
theorem dksX1_loneliest_2 : cX1_loneliest.data.toList.drop 47 = dktX1_loneliest_2 := dk_seg dksX1_loneliest_1 24 rfl rfl
theorem dX1_loneliest_0 : decode cX1_loneliest 0 = .ok (.aload_n 0, 1) := dk_42 (dk_at dksX1_loneliest_0 0 rfl rfl)
theorem dX1_loneliest_1 : decode cX1_loneliest 1 = .ok (.invokevirtual 64, 3) := dk_182 0 64 (dk_at dksX1_loneliest_0 1 rfl rfl)
theorem dX1_loneliest_4 : decode cX1_loneliest 4 = .ok (.astore_n 1, 1) := dk_76 (dk_at dksX1_loneliest_0 4 rfl rfl)
theorem dX1_loneliest_5 : decode cX1_loneliest 5 = .ok (.iconst (-1), 1) := dk_2 (dk_at dksX1_loneliest_0 5 rfl rfl)
theorem dX1_loneliest_6 : decode cX1_loneliest 6 = .ok (.istore_n 2, 1) := dk_61 (dk_at dksX1_loneliest_0 6 rfl rfl)
theorem dX1_loneliest_7 : decode cX1_loneliest 7 = .ok (.bipush 11, 2) := dk_16 11 (dk_at dksX1_loneliest_0 7 rfl rfl)
theorem dX1_loneliest_9 : decode cX1_loneliest 9 = .ok (.istore_n 3, 1) := dk_62 (dk_at dksX1_loneliest_0 9 rfl rfl)
theorem dX1_loneliest_10 : decode cX1_loneliest 10 = .ok (.iconst 0, 1) := dk_3 (dk_at dksX1_loneliest_0 10 rfl rfl)
theorem dX1_loneliest_11 : decode cX1_loneliest 11 = .ok (.istore 4, 2) := dk_54 4 (dk_at dksX1_loneliest_0 11 rfl rfl)
theorem dX1_loneliest_13 : decode cX1_loneliest 13 = .ok (.iload 4, 2) := dk_21 4 (dk_at dksX1_loneliest_0 13 rfl rfl)
theorem dX1_loneliest_15 : decode cX1_loneliest 15 = .ok (.aload_n 1, 1) := dk_43 (dk_at dksX1_loneliest_0 15 rfl rfl)
theorem dX1_loneliest_16 : decode cX1_loneliest 16 = .ok (.invokevirtual 68, 3) := dk_182 0 68 (dk_at dksX1_loneliest_0 16 rfl rfl)
theorem dX1_loneliest_19 : decode cX1_loneliest 19 = .ok (.if_icmp .ge 35, 3) := dk_162 0 35 (dk_at dksX1_loneliest_0 19 rfl rfl)
theorem dX1_loneliest_22 : decode cX1_loneliest 22 = .ok (.aload_n 1, 1) := dk_43 (dk_at dksX1_loneliest_0 22 rfl rfl)
theorem dX1_loneliest_23 : decode cX1_loneliest 23 = .ok (.iload 4, 2) := dk_21 4 (dk_at dksX1_loneliest_1 0 rfl rfl)
theorem dX1_loneliest_25 : decode cX1_loneliest 25 = .ok (.invokevirtual 197, 3) := dk_182 0 197 (dk_at dksX1_loneliest_1 2 rfl rfl)
theorem dX1_loneliest_28 : decode cX1_loneliest 28 = .ok (.invokestatic 182, 3) := dk_184 0 182 (dk_at dksX1_loneliest_1 5 rfl rfl)
theorem dX1_loneliest_31 : decode cX1_loneliest 31 = .ok (.istore 5, 2) := dk_54 5 (dk_at dksX1_loneliest_1 8 rfl rfl)
theorem dX1_loneliest_33 : decode cX1_loneliest 33 = .ok (.iload 5, 2) := dk_21 5 (dk_at dksX1_loneliest_1 10 rfl rfl)
theorem dX1_loneliest_35 : decode cX1_loneliest 35 = .ok (.iload_n 3, 1) := dk_29 (dk_at dksX1_loneliest_1 12 rfl rfl)
theorem dX1_loneliest_36 : decode cX1_loneliest 36 = .ok (.if_icmp .lt 6, 3) := dk_161 0 6 (dk_at dksX1_loneliest_1 13 rfl rfl)
theorem dX1_loneliest_39 : decode cX1_loneliest 39 = .ok (.goto 9, 3) := dk_167 0 9 (dk_at dksX1_loneliest_1 16 rfl rfl)
theorem dX1_loneliest_42 : decode cX1_loneliest 42 = .ok (.iload 4, 2) := dk_21 4 (dk_at dksX1_loneliest_1 19 rfl rfl)
theorem dX1_loneliest_44 : decode cX1_loneliest 44 = .ok (.istore_n 2, 1) := dk_61 (dk_at dksX1_loneliest_1 21 rfl rfl)
theorem dX1_loneliest_45 : decode cX1_loneliest 45 = .ok (.iload 5, 2) := dk_21 5 (dk_at dksX1_loneliest_1 22 rfl rfl)
theorem dX1_loneliest_47 : decode cX1_loneliest 47 = .ok (.istore_n 3, 1) := dk_62 (dk_at dksX1_loneliest_2 0 rfl rfl)
theorem dX1_loneliest_48 : decode cX1_loneliest 48 = .ok (.iinc 4 1, 3) := dk_132 4 1 (dk_at dksX1_loneliest_2 1 rfl rfl)
theorem dX1_loneliest_51 : decode cX1_loneliest 51 = .ok (.goto (-38), 3) := dk_167 255 218 (dk_at dksX1_loneliest_2 4 rfl rfl)
theorem dX1_loneliest_54 : decode cX1_loneliest 54 = .ok (.iload_n 2, 1) := dk_28 (dk_at dksX1_loneliest_2 7 rfl rfl)
theorem dX1_loneliest_55 : decode cX1_loneliest 55 = .ok (.ireturn, 1) := dk_172 (dk_at dksX1_loneliest_2 8 rfl rfl)
abbrev cX1_meanTrust : ByteArray := prog_1_method_59_code
def yX1_meanTrust : MethodName := ⟨RX1, "meanTrust", "()D"⟩
def dkwX1_meanTrust_2 : List UInt8 := [43, 182, 0, 68, 135, 111, 175]
abbrev dktX1_meanTrust_2 : List UInt8 := dkwX1_meanTrust_2 ++ []
def dkwX1_meanTrust_1 : List UInt8 := [180, 1, 32, 96, 61, 132, 3, 1, 167, 255, 234, 43, 182, 0, 68, 154, 0, 7, 14, 167, 0, 11, 28, 135]
abbrev dktX1_meanTrust_1 : List UInt8 := dkwX1_meanTrust_1 ++ dktX1_meanTrust_2
def dkwX1_meanTrust_0 : List UInt8 := [42, 182, 0, 64, 76, 3, 61, 3, 62, 29, 43, 182, 0, 68, 162, 0, 20, 28, 43, 29, 182, 0, 76]
abbrev dktX1_meanTrust_0 : List UInt8 := dkwX1_meanTrust_0 ++ dktX1_meanTrust_1
theorem dksX1_meanTrust_0 : cX1_meanTrust.data.toList.drop 0 = dktX1_meanTrust_0 := by decide +kernel
theorem dksX1_meanTrust_1 : cX1_meanTrust.data.toList.drop 23 = dktX1_meanTrust_1 := dk_seg dksX1_meanTrust_0 23 rfl rfl
theorem dksX1_meanTrust_2 : cX1_meanTrust.data.toList.drop 47 = dktX1_meanTrust_2 := dk_seg dksX1_meanTrust_1 24 rfl rfl
theorem dX1_meanTrust_0 : decode cX1_meanTrust 0 = .ok (.aload_n 0, 1) := dk_42 (dk_at dksX1_meanTrust_0 0 rfl rfl)
theorem dX1_meanTrust_1 : decode cX1_meanTrust 1 = .ok (.invokevirtual 64, 3) := dk_182 0 64 (dk_at dksX1_meanTrust_0 1 rfl rfl)
theorem dX1_meanTrust_4 : decode cX1_meanTrust 4 = .ok (.astore_n 1, 1) := dk_76 (dk_at dksX1_meanTrust_0 4 rfl rfl)
theorem dX1_meanTrust_5 : decode cX1_meanTrust 5 = .ok (.iconst 0, 1) := dk_3 (dk_at dksX1_meanTrust_0 5 rfl rfl)
theorem dX1_meanTrust_6 : decode cX1_meanTrust 6 = .ok (.istore_n 2, 1) := dk_61 (dk_at dksX1_meanTrust_0 6 rfl rfl)
theorem dX1_meanTrust_7 : decode cX1_meanTrust 7 = .ok (.iconst 0, 1) := dk_3 (dk_at dksX1_meanTrust_0 7 rfl rfl)
theorem dX1_meanTrust_8 : decode cX1_meanTrust 8 = .ok (.istore_n 3, 1) := dk_62 (dk_at dksX1_meanTrust_0 8 rfl rfl)
theorem dX1_meanTrust_9 : decode cX1_meanTrust 9 = .ok (.iload_n 3, 1) := dk_29 (dk_at dksX1_meanTrust_0 9 rfl rfl)
theorem dX1_meanTrust_10 : decode cX1_meanTrust 10 = .ok (.aload_n 1, 1) := dk_43 (dk_at dksX1_meanTrust_0 10 rfl rfl)
theorem dX1_meanTrust_11 : decode cX1_meanTrust 11 = .ok (.invokevirtual 68, 3) := dk_182 0 68 (dk_at dksX1_meanTrust_0 11 rfl rfl)
theorem dX1_meanTrust_14 : decode cX1_meanTrust 14 = .ok (.if_icmp .ge 20, 3) := dk_162 0 20 (dk_at dksX1_meanTrust_0 14 rfl rfl)
theorem dX1_meanTrust_17 : decode cX1_meanTrust 17 = .ok (.iload_n 2, 1) := dk_28 (dk_at dksX1_meanTrust_0 17 rfl rfl)
theorem dX1_meanTrust_18 : decode cX1_meanTrust 18 = .ok (.aload_n 1, 1) := dk_43 (dk_at dksX1_meanTrust_0 18 rfl rfl)
theorem dX1_meanTrust_19 : decode cX1_meanTrust 19 = .ok (.iload_n 3, 1) := dk_29 (dk_at dksX1_meanTrust_0 19 rfl rfl)
theorem dX1_meanTrust_20 : decode cX1_meanTrust 20 = .ok (.invokevirtual 76, 3) := dk_182 0 76 (dk_at dksX1_meanTrust_0 20 rfl rfl)
theorem dX1_meanTrust_23 : decode cX1_meanTrust 23 = .ok (.getfield 288, 3) := dk_180 1 32 (dk_at dksX1_meanTrust_1 0 rfl rfl)
theorem dX1_meanTrust_26 : decode cX1_meanTrust 26 = .ok (.iadd, 1) := dk_96 (dk_at dksX1_meanTrust_1 3 rfl rfl)
theorem dX1_meanTrust_27 : decode cX1_meanTrust 27 = .ok (.istore_n 2, 1) := dk_61 (dk_at dksX1_meanTrust_1 4 rfl rfl)
theorem dX1_meanTrust_28 : decode cX1_meanTrust 28 = .ok (.iinc 3 1, 3) := dk_132 3 1 (dk_at dksX1_meanTrust_1 5 rfl rfl)
theorem dX1_meanTrust_31 : decode cX1_meanTrust 31 = .ok (.goto (-22), 3) := dk_167 255 234 (dk_at dksX1_meanTrust_1 8 rfl rfl)
theorem dX1_meanTrust_34 : decode cX1_meanTrust 34 = .ok (.aload_n 1, 1) := dk_43 (dk_at dksX1_meanTrust_1 11 rfl rfl)
theorem dX1_meanTrust_35 : decode cX1_meanTrust 35 = .ok (.invokevirtual 68, 3) := dk_182 0 68 (dk_at dksX1_meanTrust_1 12 rfl rfl)
theorem dX1_meanTrust_38 : decode cX1_meanTrust 38 = .ok (.ifCond .ne 7, 3) := dk_154 0 7 (dk_at dksX1_meanTrust_1 15 rfl rfl)
theorem dX1_meanTrust_41 : decode cX1_meanTrust 41 = .ok (.dconst 0, 1) := dk_14 (dk_at dksX1_meanTrust_1 18 rfl rfl)
theorem dX1_meanTrust_42 : decode cX1_meanTrust 42 = .ok (.goto 11, 3) := dk_167 0 11 (dk_at dksX1_meanTrust_1 19 rfl rfl)
theorem dX1_meanTrust_45 : decode cX1_meanTrust 45 = .ok (.iload_n 2, 1) := dk_28 (dk_at dksX1_meanTrust_1 22 rfl rfl)
theorem dX1_meanTrust_46 : decode cX1_meanTrust 46 = .ok (.i2d, 1) := dk_135 (dk_at dksX1_meanTrust_1 23 rfl rfl)
theorem dX1_meanTrust_47 : decode cX1_meanTrust 47 = .ok (.aload_n 1, 1) := dk_43 (dk_at dksX1_meanTrust_2 0 rfl rfl)
theorem dX1_meanTrust_48 : decode cX1_meanTrust 48 = .ok (.invokevirtual 68, 3) := dk_182 0 68 (dk_at dksX1_meanTrust_2 1 rfl rfl)
theorem dX1_meanTrust_51 : decode cX1_meanTrust 51 = .ok (.i2d, 1) := dk_135 (dk_at dksX1_meanTrust_2 4 rfl rfl)
theorem dX1_meanTrust_52 : decode cX1_meanTrust 52 = .ok (.ddiv, 1) := dk_111 (dk_at dksX1_meanTrust_2 5 rfl rfl)
theorem dX1_meanTrust_53 : decode cX1_meanTrust 53 = .ok (.dreturn, 1) := dk_175 (dk_at dksX1_meanTrust_2 6 rfl rfl)
abbrev cX1_closedShare : ByteArray := prog_1_method_60_code
def yX1_closedShare : MethodName := ⟨RX1, "closedShare", "(I)F"⟩
def dkwX1_closedShare_1 : List UInt8 := [27, 182, 1, 73, 184, 0, 182, 134, 42, 180, 0, 56, 182, 0, 68, 134, 110, 174]
abbrev dktX1_closedShare_1 : List UInt8 := dkwX1_closedShare_1 ++ []
def dkwX1_closedShare_0 : List UInt8 := [42, 27, 182, 1, 61, 77, 42, 180, 0, 56, 182, 0, 68, 154, 0, 7, 11, 167, 0, 24, 42, 180, 0, 56]
abbrev dktX1_closedShare_0 : List UInt8 := dkwX1_closedShare_0 ++ dktX1_closedShare_1
theorem dksX1_closedShare_0 : cX1_closedShare.data.toList.drop 0 = dktX1_closedShare_0 := by decide +kernel
theorem dksX1_closedShare_1 : cX1_closedShare.data.toList.drop 24 = dktX1_closedShare_1 := dk_seg dksX1_closedShare_0 24 rfl rfl
theorem dX1_closedShare_0 : decode cX1_closedShare 0 = .ok (.aload_n 0, 1) := dk_42 (dk_at dksX1_closedShare_0 0 rfl rfl)
theorem dX1_closedShare_1 : decode cX1_closedShare 1 = .ok (.iload_n 1, 1) := dk_27 (dk_at dksX1_closedShare_0 1 rfl rfl)
theorem dX1_closedShare_2 : decode cX1_closedShare 2 = .ok (.invokevirtual 317, 3) := dk_182 1 61 (dk_at dksX1_closedShare_0 2 rfl rfl)
theorem dX1_closedShare_5 : decode cX1_closedShare 5 = .ok (.astore_n 2, 1) := dk_77 (dk_at dksX1_closedShare_0 5 rfl rfl)
theorem dX1_closedShare_6 : decode cX1_closedShare 6 = .ok (.aload_n 0, 1) := dk_42 (dk_at dksX1_closedShare_0 6 rfl rfl)
theorem dX1_closedShare_7 : decode cX1_closedShare 7 = .ok (.getfield 56, 3) := dk_180 0 56 (dk_at dksX1_closedShare_0 7 rfl rfl)
theorem dX1_closedShare_10 : decode cX1_closedShare 10 = .ok (.invokevirtual 68, 3) := dk_182 0 68 (dk_at dksX1_closedShare_0 10 rfl rfl)
theorem dX1_closedShare_13 : decode cX1_closedShare 13 = .ok (.ifCond .ne 7, 3) := dk_154 0 7 (dk_at dksX1_closedShare_0 13 rfl rfl)
theorem dX1_closedShare_16 : decode cX1_closedShare 16 = .ok (.fconst 0, 1) := dk_11 (dk_at dksX1_closedShare_0 16 rfl rfl)
theorem dX1_closedShare_17 : decode cX1_closedShare 17 = .ok (.goto 24, 3) := dk_167 0 24 (dk_at dksX1_closedShare_0 17 rfl rfl)
theorem dX1_closedShare_20 : decode cX1_closedShare 20 = .ok (.aload_n 0, 1) := dk_42 (dk_at dksX1_closedShare_0 20 rfl rfl)
theorem dX1_closedShare_21 : decode cX1_closedShare 21 = .ok (.getfield 56, 3) := dk_180 0 56 (dk_at dksX1_closedShare_0 21 rfl rfl)
theorem dX1_closedShare_24 : decode cX1_closedShare 24 = .ok (.iload_n 1, 1) := dk_27 (dk_at dksX1_closedShare_1 0 rfl rfl)
theorem dX1_closedShare_25 : decode cX1_closedShare 25 = .ok (.invokevirtual 329, 3) := dk_182 1 73 (dk_at dksX1_closedShare_1 1 rfl rfl)
theorem dX1_closedShare_28 : decode cX1_closedShare 28 = .ok (.invokestatic 182, 3) := dk_184 0 182 (dk_at dksX1_closedShare_1 4 rfl rfl)
theorem dX1_closedShare_31 : decode cX1_closedShare 31 = .ok (.i2f, 1) := dk_134 (dk_at dksX1_closedShare_1 7 rfl rfl)
theorem dX1_closedShare_32 : decode cX1_closedShare 32 = .ok (.aload_n 0, 1) := dk_42 (dk_at dksX1_closedShare_1 8 rfl rfl)
theorem dX1_closedShare_33 : decode cX1_closedShare 33 = .ok (.getfield 56, 3) := dk_180 0 56 (dk_at dksX1_closedShare_1 9 rfl rfl)
theorem dX1_closedShare_36 : decode cX1_closedShare 36 = .ok (.invokevirtual 68, 3) := dk_182 0 68 (dk_at dksX1_closedShare_1 12 rfl rfl)
theorem dX1_closedShare_39 : decode cX1_closedShare 39 = .ok (.i2f, 1) := dk_134 (dk_at dksX1_closedShare_1 15 rfl rfl)
theorem dX1_closedShare_40 : decode cX1_closedShare 40 = .ok (.fdiv, 1) := dk_110 (dk_at dksX1_closedShare_1 16 rfl rfl)
theorem dX1_closedShare_41 : decode cX1_closedShare 41 = .ok (.freturn, 1) := dk_174 (dk_at dksX1_closedShare_1 17 rfl rfl)
abbrev cX1_bulletin : ByteArray := prog_1_method_61_code
def yX1_bulletin : MethodName := ⟨RX1, "bulletin", "(II)I"⟩
def dkwX1_bulletin_5 : List UInt8 := [25, 4, 180, 1, 185, 172]
abbrev dktX1_bulletin_5 : List UInt8 := dkwX1_bulletin_5 ++ []
def dkwX1_bulletin_4 : List UInt8 := [25, 4, 180, 1, 181, 167, 0, 24, 25, 4, 180, 1, 182, 167, 0, 16, 25, 4, 180, 1, 184, 167, 0, 8]
abbrev dktX1_bulletin_4 : List UInt8 := dkwX1_bulletin_4 ++ dktX1_bulletin_5
def dkwX1_bulletin_3 : List UInt8 := [170, 0, 0, 0, 49, 0, 0, 0, 0, 0, 0, 0, 2, 0, 0, 0, 25, 0, 0, 0, 33, 0, 0, 0, 41]
abbrev dktX1_bulletin_3 : List UInt8 := dkwX1_bulletin_3 ++ dktX1_bulletin_4
def dkwX1_bulletin_2 : List UInt8 := [21, 5, 158, 0, 20, 45, 185, 0, 227, 1, 0, 192, 1, 179, 58, 4, 132, 5, 255, 167, 255, 237, 28]
abbrev dktX1_bulletin_2 : List UInt8 := dkwX1_bulletin_2 ++ dktX1_bulletin_3
def dkwX1_bulletin_1 : List UInt8 := [180, 0, 56, 180, 1, 174, 182, 1, 178, 78, 45, 185, 0, 227, 1, 0, 192, 1, 179, 58, 4, 27, 54, 5]
abbrev dktX1_bulletin_1 : List UInt8 := dkwX1_bulletin_1 ++ dktX1_bulletin_2
def dkwX1_bulletin_0 : List UInt8 := [27, 42, 182, 0, 64, 180, 1, 174, 182, 1, 177, 184, 0, 72, 28, 3, 6, 184, 0, 46, 184, 0, 237, 42]
abbrev dktX1_bulletin_0 : List UInt8 := dkwX1_bulletin_0 ++ dktX1_bulletin_1
theorem dksX1_bulletin_0 : cX1_bulletin.data.toList.drop 0 = dktX1_bulletin_0 := by decide +kernel
theorem dksX1_bulletin_1 : cX1_bulletin.data.toList.drop 24 = dktX1_bulletin_1 := dk_seg dksX1_bulletin_0 24 rfl rfl
theorem dksX1_bulletin_2 : cX1_bulletin.data.toList.drop 48 = dktX1_bulletin_2 := dk_seg dksX1_bulletin_1 24 rfl rfl
theorem dksX1_bulletin_3 : cX1_bulletin.data.toList.drop 71 = dktX1_bulletin_3 := dk_seg dksX1_bulletin_2 23 rfl rfl
theorem dksX1_bulletin_4 : cX1_bulletin.data.toList.drop 96 = dktX1_bulletin_4 := dk_seg dksX1_bulletin_3 25 rfl rfl
theorem dksX1_bulletin_5 : cX1_bulletin.data.toList.drop 120 = dktX1_bulletin_5 := dk_seg dksX1_bulletin_4 24 rfl rfl
theorem dX1_bulletin_0 : decode cX1_bulletin 0 = .ok (.iload_n 1, 1) := dk_27 (dk_at dksX1_bulletin_0 0 rfl rfl)
theorem dX1_bulletin_1 : decode cX1_bulletin 1 = .ok (.aload_n 0, 1) := dk_42 (dk_at dksX1_bulletin_0 1 rfl rfl)
theorem dX1_bulletin_2 : decode cX1_bulletin 2 = .ok (.invokevirtual 64, 3) := dk_182 0 64 (dk_at dksX1_bulletin_0 2 rfl rfl)
theorem dX1_bulletin_5 : decode cX1_bulletin 5 = .ok (.getfield 430, 3) := dk_180 1 174 (dk_at dksX1_bulletin_0 5 rfl rfl)
theorem dX1_bulletin_8 : decode cX1_bulletin 8 = .ok (.invokevirtual 433, 3) := dk_182 1 177 (dk_at dksX1_bulletin_0 8 rfl rfl)
theorem dX1_bulletin_11 : decode cX1_bulletin 11 = .ok (.invokestatic 72, 3) := dk_184 0 72 (dk_at dksX1_bulletin_0 11 rfl rfl)
theorem dX1_bulletin_14 : decode cX1_bulletin 14 = .ok (.iload_n 2, 1) := dk_28 (dk_at dksX1_bulletin_0 14 rfl rfl)
theorem dX1_bulletin_15 : decode cX1_bulletin 15 = .ok (.iconst 0, 1) := dk_3 (dk_at dksX1_bulletin_0 15 rfl rfl)
theorem dX1_bulletin_16 : decode cX1_bulletin 16 = .ok (.iconst 3, 1) := dk_6 (dk_at dksX1_bulletin_0 16 rfl rfl)
theorem dX1_bulletin_17 : decode cX1_bulletin 17 = .ok (.invokestatic 46, 3) := dk_184 0 46 (dk_at dksX1_bulletin_0 17 rfl rfl)
theorem dX1_bulletin_20 : decode cX1_bulletin 20 = .ok (.invokestatic 237, 3) := dk_184 0 237 (dk_at dksX1_bulletin_0 20 rfl rfl)
theorem dX1_bulletin_23 : decode cX1_bulletin 23 = .ok (.aload_n 0, 1) := dk_42 (dk_at dksX1_bulletin_0 23 rfl rfl)
theorem dX1_bulletin_24 : decode cX1_bulletin 24 = .ok (.getfield 56, 3) := dk_180 0 56 (dk_at dksX1_bulletin_1 0 rfl rfl)
theorem dX1_bulletin_27 : decode cX1_bulletin 27 = .ok (.getfield 430, 3) := dk_180 1 174 (dk_at dksX1_bulletin_1 3 rfl rfl)
theorem dX1_bulletin_30 : decode cX1_bulletin 30 = .ok (.invokevirtual 434, 3) := dk_182 1 178 (dk_at dksX1_bulletin_1 6 rfl rfl)
theorem dX1_bulletin_33 : decode cX1_bulletin 33 = .ok (.astore_n 3, 1) := dk_78 (dk_at dksX1_bulletin_1 9 rfl rfl)
theorem dX1_bulletin_34 : decode cX1_bulletin 34 = .ok (.aload_n 3, 1) := dk_45 (dk_at dksX1_bulletin_1 10 rfl rfl)
theorem dX1_bulletin_35 : decode cX1_bulletin 35 = .ok (.invokeinterface 227 1, 5) := by decide +kernel
theorem dX1_bulletin_40 : decode cX1_bulletin 40 = .ok (.checkcast 435, 3) := dk_192 1 179 (dk_at dksX1_bulletin_1 16 rfl rfl)
theorem dX1_bulletin_43 : decode cX1_bulletin 43 = .ok (.astore 4, 2) := dk_58 4 (dk_at dksX1_bulletin_1 19 rfl rfl)
theorem dX1_bulletin_45 : decode cX1_bulletin 45 = .ok (.iload_n 1, 1) := dk_27 (dk_at dksX1_bulletin_1 21 rfl rfl)
theorem dX1_bulletin_46 : decode cX1_bulletin 46 = .ok (.istore 5, 2) := dk_54 5 (dk_at dksX1_bulletin_1 22 rfl rfl)
theorem dX1_bulletin_48 : decode cX1_bulletin 48 = .ok (.iload 5, 2) := dk_21 5 (dk_at dksX1_bulletin_2 0 rfl rfl)
theorem dX1_bulletin_50 : decode cX1_bulletin 50 = .ok (.ifCond .le 20, 3) := dk_158 0 20 (dk_at dksX1_bulletin_2 2 rfl rfl)
theorem dX1_bulletin_53 : decode cX1_bulletin 53 = .ok (.aload_n 3, 1) := dk_45 (dk_at dksX1_bulletin_2 5 rfl rfl)
theorem dX1_bulletin_54 : decode cX1_bulletin 54 = .ok (.invokeinterface 227 1, 5) := by decide +kernel
theorem dX1_bulletin_59 : decode cX1_bulletin 59 = .ok (.checkcast 435, 3) := dk_192 1 179 (dk_at dksX1_bulletin_2 11 rfl rfl)
theorem dX1_bulletin_62 : decode cX1_bulletin 62 = .ok (.astore 4, 2) := dk_58 4 (dk_at dksX1_bulletin_2 14 rfl rfl)
theorem dX1_bulletin_64 : decode cX1_bulletin 64 = .ok (.iinc 5 (-1), 3) := dk_132 5 255 (dk_at dksX1_bulletin_2 16 rfl rfl)
theorem dX1_bulletin_67 : decode cX1_bulletin 67 = .ok (.goto (-19), 3) := dk_167 255 237 (dk_at dksX1_bulletin_2 19 rfl rfl)
theorem dX1_bulletin_70 : decode cX1_bulletin 70 = .ok (.iload_n 2, 1) := dk_28 (dk_at dksX1_bulletin_2 22 rfl rfl)
theorem dX1_bulletin_71 : decode cX1_bulletin 71 = .ok (.tableswitch 49 0 2 #[25, 33, 41], 25) := by decide +kernel
theorem dX1_bulletin_96 : decode cX1_bulletin 96 = .ok (.aload 4, 2) := dk_25 4 (dk_at dksX1_bulletin_4 0 rfl rfl)
theorem dX1_bulletin_98 : decode cX1_bulletin 98 = .ok (.getfield 437, 3) := dk_180 1 181 (dk_at dksX1_bulletin_4 2 rfl rfl)
theorem dX1_bulletin_101 : decode cX1_bulletin 101 = .ok (.goto 24, 3) := dk_167 0 24 (dk_at dksX1_bulletin_4 5 rfl rfl)
theorem dX1_bulletin_104 : decode cX1_bulletin 104 = .ok (.aload 4, 2) := dk_25 4 (dk_at dksX1_bulletin_4 8 rfl rfl)
theorem dX1_bulletin_106 : decode cX1_bulletin 106 = .ok (.getfield 438, 3) := dk_180 1 182 (dk_at dksX1_bulletin_4 10 rfl rfl)
theorem dX1_bulletin_109 : decode cX1_bulletin 109 = .ok (.goto 16, 3) := dk_167 0 16 (dk_at dksX1_bulletin_4 13 rfl rfl)
theorem dX1_bulletin_112 : decode cX1_bulletin 112 = .ok (.aload 4, 2) := dk_25 4 (dk_at dksX1_bulletin_4 16 rfl rfl)
theorem dX1_bulletin_114 : decode cX1_bulletin 114 = .ok (.getfield 440, 3) := dk_180 1 184 (dk_at dksX1_bulletin_4 18 rfl rfl)
theorem dX1_bulletin_117 : decode cX1_bulletin 117 = .ok (.goto 8, 3) := dk_167 0 8 (dk_at dksX1_bulletin_4 21 rfl rfl)
theorem dX1_bulletin_120 : decode cX1_bulletin 120 = .ok (.aload 4, 2) := dk_25 4 (dk_at dksX1_bulletin_5 0 rfl rfl)
theorem dX1_bulletin_122 : decode cX1_bulletin 122 = .ok (.getfield 441, 3) := dk_180 1 185 (dk_at dksX1_bulletin_5 2 rfl rfl)
theorem dX1_bulletin_125 : decode cX1_bulletin 125 = .ok (.ireturn, 1) := dk_172 (dk_at dksX1_bulletin_5 5 rfl rfl)
abbrev cX1_closesIn : ByteArray := prog_1_method_64_code
def yX1_closesIn : MethodName := ⟨RX1, "closesIn", "(II)I"⟩
def dkwX1_closesIn_0 : List UInt8 := [42, 27, 28, 4, 182, 1, 192, 172]
abbrev dktX1_closesIn_0 : List UInt8 := dkwX1_closesIn_0 ++ []
theorem dksX1_closesIn_0 : cX1_closesIn.data.toList.drop 0 = dktX1_closesIn_0 := by decide +kernel
theorem dX1_closesIn_0 : decode cX1_closesIn 0 = .ok (.aload_n 0, 1) := dk_42 (dk_at dksX1_closesIn_0 0 rfl rfl)
theorem dX1_closesIn_1 : decode cX1_closesIn 1 = .ok (.iload_n 1, 1) := dk_27 (dk_at dksX1_closesIn_0 1 rfl rfl)
theorem dX1_closesIn_2 : decode cX1_closesIn 2 = .ok (.iload_n 2, 1) := dk_28 (dk_at dksX1_closesIn_0 2 rfl rfl)
theorem dX1_closesIn_3 : decode cX1_closesIn 3 = .ok (.iconst 1, 1) := dk_4 (dk_at dksX1_closesIn_0 3 rfl rfl)
theorem dX1_closesIn_4 : decode cX1_closesIn 4 = .ok (.invokevirtual 448, 3) := dk_182 1 192 (dk_at dksX1_closesIn_0 4 rfl rfl)
theorem dX1_closesIn_7 : decode cX1_closesIn 7 = .ok (.ireturn, 1) := dk_172 (dk_at dksX1_closesIn_0 7 rfl rfl)
abbrev cX1_holdsIn : ByteArray := prog_1_method_63_code
def yX1_holdsIn : MethodName := ⟨RX1, "holdsIn", "(IIZ)I"⟩
def dkwX1_holdsIn_2 : List UInt8 := [172, 25, 5, 182, 1, 189, 132, 6, 1, 167, 255, 223, 2, 172]
abbrev dktX1_holdsIn_2 : List UInt8 := dkwX1_holdsIn_2 ++ []
def dkwX1_holdsIn_1 : List UInt8 := [21, 6, 17, 0, 200, 163, 0, 31, 25, 5, 27, 182, 0, 76, 28, 182, 1, 148, 29, 160, 0, 6, 21, 6]
abbrev dktX1_holdsIn_1 : List UInt8 := dkwX1_holdsIn_1 ++ dktX1_holdsIn_2
def dkwX1_holdsIn_0 : List UInt8 := [42, 27, 28, 182, 1, 117, 58, 4, 187, 0, 30, 89, 42, 180, 0, 56, 183, 1, 186, 58, 5, 3, 54, 6]
abbrev dktX1_holdsIn_0 : List UInt8 := dkwX1_holdsIn_0 ++ dktX1_holdsIn_1
theorem dksX1_holdsIn_0 : cX1_holdsIn.data.toList.drop 0 = dktX1_holdsIn_0 := by decide +kernel
theorem dksX1_holdsIn_1 : cX1_holdsIn.data.toList.drop 24 = dktX1_holdsIn_1 := dk_seg dksX1_holdsIn_0 24 rfl rfl
theorem dksX1_holdsIn_2 : cX1_holdsIn.data.toList.drop 48 = dktX1_holdsIn_2 := dk_seg dksX1_holdsIn_1 24 rfl rfl
theorem dX1_holdsIn_0 : decode cX1_holdsIn 0 = .ok (.aload_n 0, 1) := dk_42 (dk_at dksX1_holdsIn_0 0 rfl rfl)
theorem dX1_holdsIn_1 : decode cX1_holdsIn 1 = .ok (.iload_n 1, 1) := dk_27 (dk_at dksX1_holdsIn_0 1 rfl rfl)
theorem dX1_holdsIn_2 : decode cX1_holdsIn 2 = .ok (.iload_n 2, 1) := dk_28 (dk_at dksX1_holdsIn_0 2 rfl rfl)
theorem dX1_holdsIn_3 : decode cX1_holdsIn 3 = .ok (.invokevirtual 373, 3) := dk_182 1 117 (dk_at dksX1_holdsIn_0 3 rfl rfl)
theorem dX1_holdsIn_6 : decode cX1_holdsIn 6 = .ok (.astore 4, 2) := dk_58 4 (dk_at dksX1_holdsIn_0 6 rfl rfl)
theorem dX1_holdsIn_8 : decode cX1_holdsIn 8 = .ok (.new 30, 3) := dk_187 0 30 (dk_at dksX1_holdsIn_0 8 rfl rfl)
theorem dX1_holdsIn_11 : decode cX1_holdsIn 11 = .ok (.dup, 1) := dk_89 (dk_at dksX1_holdsIn_0 11 rfl rfl)
theorem dX1_holdsIn_12 : decode cX1_holdsIn 12 = .ok (.aload_n 0, 1) := dk_42 (dk_at dksX1_holdsIn_0 12 rfl rfl)
theorem dX1_holdsIn_13 : decode cX1_holdsIn 13 = .ok (.getfield 56, 3) := dk_180 0 56 (dk_at dksX1_holdsIn_0 13 rfl rfl)
theorem dX1_holdsIn_16 : decode cX1_holdsIn 16 = .ok (.invokespecial 442, 3) := dk_183 1 186 (dk_at dksX1_holdsIn_0 16 rfl rfl)
theorem dX1_holdsIn_19 : decode cX1_holdsIn 19 = .ok (.astore 5, 2) := dk_58 5 (dk_at dksX1_holdsIn_0 19 rfl rfl)
theorem dX1_holdsIn_21 : decode cX1_holdsIn 21 = .ok (.iconst 0, 1) := dk_3 (dk_at dksX1_holdsIn_0 21 rfl rfl)
theorem dX1_holdsIn_22 : decode cX1_holdsIn 22 = .ok (.istore 6, 2) := dk_54 6 (dk_at dksX1_holdsIn_0 22 rfl rfl)
theorem dX1_holdsIn_24 : decode cX1_holdsIn 24 = .ok (.iload 6, 2) := dk_21 6 (dk_at dksX1_holdsIn_1 0 rfl rfl)
theorem dX1_holdsIn_26 : decode cX1_holdsIn 26 = .ok (.sipush 200, 3) := dk_17 0 200 (dk_at dksX1_holdsIn_1 2 rfl rfl)
theorem dX1_holdsIn_29 : decode cX1_holdsIn 29 = .ok (.if_icmp .gt 31, 3) := dk_163 0 31 (dk_at dksX1_holdsIn_1 5 rfl rfl)
theorem dX1_holdsIn_32 : decode cX1_holdsIn 32 = .ok (.aload 5, 2) := dk_25 5 (dk_at dksX1_holdsIn_1 8 rfl rfl)
theorem dX1_holdsIn_34 : decode cX1_holdsIn 34 = .ok (.iload_n 1, 1) := dk_27 (dk_at dksX1_holdsIn_1 10 rfl rfl)
theorem dX1_holdsIn_35 : decode cX1_holdsIn 35 = .ok (.invokevirtual 76, 3) := dk_182 0 76 (dk_at dksX1_holdsIn_1 11 rfl rfl)
theorem dX1_holdsIn_38 : decode cX1_holdsIn 38 = .ok (.iload_n 2, 1) := dk_28 (dk_at dksX1_holdsIn_1 14 rfl rfl)
theorem dX1_holdsIn_39 : decode cX1_holdsIn 39 = .ok (.invokevirtual 404, 3) := dk_182 1 148 (dk_at dksX1_holdsIn_1 15 rfl rfl)
theorem dX1_holdsIn_42 : decode cX1_holdsIn 42 = .ok (.iload_n 3, 1) := dk_29 (dk_at dksX1_holdsIn_1 18 rfl rfl)
theorem dX1_holdsIn_43 : decode cX1_holdsIn 43 = .ok (.if_icmp .ne 6, 3) := dk_160 0 6 (dk_at dksX1_holdsIn_1 19 rfl rfl)
theorem dX1_holdsIn_46 : decode cX1_holdsIn 46 = .ok (.iload 6, 2) := dk_21 6 (dk_at dksX1_holdsIn_1 22 rfl rfl)
theorem dX1_holdsIn_48 : decode cX1_holdsIn 48 = .ok (.ireturn, 1) := dk_172 (dk_at dksX1_holdsIn_2 0 rfl rfl)
theorem dX1_holdsIn_49 : decode cX1_holdsIn 49 = .ok (.aload 5, 2) := dk_25 5 (dk_at dksX1_holdsIn_2 1 rfl rfl)
theorem dX1_holdsIn_51 : decode cX1_holdsIn 51 = .ok (.invokevirtual 445, 3) := dk_182 1 189 (dk_at dksX1_holdsIn_2 3 rfl rfl)
theorem dX1_holdsIn_54 : decode cX1_holdsIn 54 = .ok (.iinc 6 1, 3) := dk_132 6 1 (dk_at dksX1_holdsIn_2 6 rfl rfl)
theorem dX1_holdsIn_57 : decode cX1_holdsIn 57 = .ok (.goto (-33), 3) := dk_167 255 223 (dk_at dksX1_holdsIn_2 9 rfl rfl)
theorem dX1_holdsIn_60 : decode cX1_holdsIn 60 = .ok (.iconst (-1), 1) := dk_2 (dk_at dksX1_holdsIn_2 12 rfl rfl)
theorem dX1_holdsIn_61 : decode cX1_holdsIn 61 = .ok (.ireturn, 1) := dk_172 (dk_at dksX1_holdsIn_2 13 rfl rfl)
abbrev cX1_opensIn : ByteArray := prog_1_method_65_code
def yX1_opensIn : MethodName := ⟨RX1, "opensIn", "(II)I"⟩
def dkwX1_opensIn_0 : List UInt8 := [42, 27, 28, 3, 182, 1, 192, 172]
abbrev dktX1_opensIn_0 : List UInt8 := dkwX1_opensIn_0 ++ []
theorem dksX1_opensIn_0 : cX1_opensIn.data.toList.drop 0 = dktX1_opensIn_0 := by decide +kernel
theorem dX1_opensIn_0 : decode cX1_opensIn 0 = .ok (.aload_n 0, 1) := dk_42 (dk_at dksX1_opensIn_0 0 rfl rfl)
theorem dX1_opensIn_1 : decode cX1_opensIn 1 = .ok (.iload_n 1, 1) := dk_27 (dk_at dksX1_opensIn_0 1 rfl rfl)
theorem dX1_opensIn_2 : decode cX1_opensIn 2 = .ok (.iload_n 2, 1) := dk_28 (dk_at dksX1_opensIn_0 2 rfl rfl)
theorem dX1_opensIn_3 : decode cX1_opensIn 3 = .ok (.iconst 0, 1) := dk_3 (dk_at dksX1_opensIn_0 3 rfl rfl)
theorem dX1_opensIn_4 : decode cX1_opensIn 4 = .ok (.invokevirtual 448, 3) := dk_182 1 192 (dk_at dksX1_opensIn_0 4 rfl rfl)
theorem dX1_opensIn_7 : decode cX1_opensIn 7 = .ok (.ireturn, 1) := dk_172 (dk_at dksX1_opensIn_0 7 rfl rfl)
abbrev cX1_closersIn : ByteArray := prog_1_method_66_code
def yX1_closersIn : MethodName := ⟨RX1, "closersIn", "(II)I"⟩
def dkwX1_closersIn_1 : List UInt8 := [182, 1, 199, 27, 182, 1, 73, 172]
abbrev dktX1_closersIn_1 : List UInt8 := dkwX1_closersIn_1 ++ []
def dkwX1_closersIn_0 : List UInt8 := [42, 27, 182, 1, 61, 78, 28, 184, 1, 196, 187, 0, 30, 89, 42, 180, 0, 56, 183, 1, 186, 28]
abbrev dktX1_closersIn_0 : List UInt8 := dkwX1_closersIn_0 ++ dktX1_closersIn_1
theorem dksX1_closersIn_0 : cX1_closersIn.data.toList.drop 0 = dktX1_closersIn_0 := by decide +kernel
theorem dksX1_closersIn_1 : cX1_closersIn.data.toList.drop 22 = dktX1_closersIn_1 := dk_seg dksX1_closersIn_0 22 rfl rfl
theorem dX1_closersIn_0 : decode cX1_closersIn 0 = .ok (.aload_n 0, 1) := dk_42 (dk_at dksX1_closersIn_0 0 rfl rfl)
theorem dX1_closersIn_1 : decode cX1_closersIn 1 = .ok (.iload_n 1, 1) := dk_27 (dk_at dksX1_closersIn_0 1 rfl rfl)
theorem dX1_closersIn_2 : decode cX1_closersIn 2 = .ok (.invokevirtual 317, 3) := dk_182 1 61 (dk_at dksX1_closersIn_0 2 rfl rfl)
theorem dX1_closersIn_5 : decode cX1_closersIn 5 = .ok (.astore_n 3, 1) := dk_78 (dk_at dksX1_closersIn_0 5 rfl rfl)
theorem dX1_closersIn_6 : decode cX1_closersIn 6 = .ok (.iload_n 2, 1) := dk_28 (dk_at dksX1_closersIn_0 6 rfl rfl)
theorem dX1_closersIn_7 : decode cX1_closersIn 7 = .ok (.invokestatic 452, 3) := dk_184 1 196 (dk_at dksX1_closersIn_0 7 rfl rfl)
theorem dX1_closersIn_10 : decode cX1_closersIn 10 = .ok (.new 30, 3) := dk_187 0 30 (dk_at dksX1_closersIn_0 10 rfl rfl)
theorem dX1_closersIn_13 : decode cX1_closersIn 13 = .ok (.dup, 1) := dk_89 (dk_at dksX1_closersIn_0 13 rfl rfl)
theorem dX1_closersIn_14 : decode cX1_closersIn 14 = .ok (.aload_n 0, 1) := dk_42 (dk_at dksX1_closersIn_0 14 rfl rfl)
theorem dX1_closersIn_15 : decode cX1_closersIn 15 = .ok (.getfield 56, 3) := dk_180 0 56 (dk_at dksX1_closersIn_0 15 rfl rfl)
theorem dX1_closersIn_18 : decode cX1_closersIn 18 = .ok (.invokespecial 442, 3) := dk_183 1 186 (dk_at dksX1_closersIn_0 18 rfl rfl)
theorem dX1_closersIn_21 : decode cX1_closersIn 21 = .ok (.iload_n 2, 1) := dk_28 (dk_at dksX1_closersIn_0 21 rfl rfl)
theorem dX1_closersIn_22 : decode cX1_closersIn 22 = .ok (.invokevirtual 455, 3) := dk_182 1 199 (dk_at dksX1_closersIn_1 0 rfl rfl)
theorem dX1_closersIn_25 : decode cX1_closersIn 25 = .ok (.iload_n 1, 1) := dk_27 (dk_at dksX1_closersIn_1 3 rfl rfl)
theorem dX1_closersIn_26 : decode cX1_closersIn 26 = .ok (.invokevirtual 329, 3) := dk_182 1 73 (dk_at dksX1_closersIn_1 4 rfl rfl)
theorem dX1_closersIn_29 : decode cX1_closersIn 29 = .ok (.ireturn, 1) := dk_172 (dk_at dksX1_closersIn_1 7 rfl rfl)
abbrev cX1_checkTicks : ByteArray := prog_1_method_62_code
def yX1_checkTicks : MethodName := ⟨RX1, "checkTicks", "(I)V"⟩
def dkwX1_checkTicks_0 : List UInt8 := [26, 3, 17, 0, 200, 184, 0, 46, 184, 0, 237, 177]
abbrev dktX1_checkTicks_0 : List UInt8 := dkwX1_checkTicks_0 ++ []
theorem dksX1_checkTicks_0 : cX1_checkTicks.data.toList.drop 0 = dktX1_checkTicks_0 := by decide +kernel
theorem dX1_checkTicks_0 : decode cX1_checkTicks 0 = .ok (.iload_n 0, 1) := dk_26 (dk_at dksX1_checkTicks_0 0 rfl rfl)
theorem dX1_checkTicks_1 : decode cX1_checkTicks 1 = .ok (.iconst 0, 1) := dk_3 (dk_at dksX1_checkTicks_0 1 rfl rfl)
theorem dX1_checkTicks_2 : decode cX1_checkTicks 2 = .ok (.sipush 200, 3) := dk_17 0 200 (dk_at dksX1_checkTicks_0 2 rfl rfl)
theorem dX1_checkTicks_5 : decode cX1_checkTicks 5 = .ok (.invokestatic 46, 3) := dk_184 0 46 (dk_at dksX1_checkTicks_0 5 rfl rfl)
theorem dX1_checkTicks_8 : decode cX1_checkTicks 8 = .ok (.invokestatic 237, 3) := dk_184 0 237 (dk_at dksX1_checkTicks_0 8 rfl rfl)
theorem dX1_checkTicks_11 : decode cX1_checkTicks 11 = .ok (.return_, 1) := dk_177 (dk_at dksX1_checkTicks_0 11 rfl rfl)
abbrev cX1_votesIn : ByteArray := prog_1_method_67_code
def yX1_votesIn : MethodName := ⟨RX1, "votesIn", "(I)I"⟩
def dkwX1_votesIn_1 : List UInt8 := [172]
abbrev dktX1_votesIn_1 : List UInt8 := dkwX1_votesIn_1 ++ []
def dkwX1_votesIn_0 : List UInt8 := [42, 182, 0, 64, 77, 27, 184, 1, 196, 187, 0, 30, 89, 44, 183, 1, 186, 27, 182, 1, 199, 182, 0, 161]
abbrev dktX1_votesIn_0 : List UInt8 := dkwX1_votesIn_0 ++ dktX1_votesIn_1
theorem dksX1_votesIn_0 : cX1_votesIn.data.toList.drop 0 = dktX1_votesIn_0 := by decide +kernel
theorem dksX1_votesIn_1 : cX1_votesIn.data.toList.drop 24 = dktX1_votesIn_1 := dk_seg dksX1_votesIn_0 24 rfl rfl
theorem dX1_votesIn_0 : decode cX1_votesIn 0 = .ok (.aload_n 0, 1) := dk_42 (dk_at dksX1_votesIn_0 0 rfl rfl)
theorem dX1_votesIn_1 : decode cX1_votesIn 1 = .ok (.invokevirtual 64, 3) := dk_182 0 64 (dk_at dksX1_votesIn_0 1 rfl rfl)
theorem dX1_votesIn_4 : decode cX1_votesIn 4 = .ok (.astore_n 2, 1) := dk_77 (dk_at dksX1_votesIn_0 4 rfl rfl)
theorem dX1_votesIn_5 : decode cX1_votesIn 5 = .ok (.iload_n 1, 1) := dk_27 (dk_at dksX1_votesIn_0 5 rfl rfl)
theorem dX1_votesIn_6 : decode cX1_votesIn 6 = .ok (.invokestatic 452, 3) := dk_184 1 196 (dk_at dksX1_votesIn_0 6 rfl rfl)
theorem dX1_votesIn_9 : decode cX1_votesIn 9 = .ok (.new 30, 3) := dk_187 0 30 (dk_at dksX1_votesIn_0 9 rfl rfl)
theorem dX1_votesIn_12 : decode cX1_votesIn 12 = .ok (.dup, 1) := dk_89 (dk_at dksX1_votesIn_0 12 rfl rfl)
theorem dX1_votesIn_13 : decode cX1_votesIn 13 = .ok (.aload_n 2, 1) := dk_44 (dk_at dksX1_votesIn_0 13 rfl rfl)
theorem dX1_votesIn_14 : decode cX1_votesIn 14 = .ok (.invokespecial 442, 3) := dk_183 1 186 (dk_at dksX1_votesIn_0 14 rfl rfl)
theorem dX1_votesIn_17 : decode cX1_votesIn 17 = .ok (.iload_n 1, 1) := dk_27 (dk_at dksX1_votesIn_0 17 rfl rfl)
theorem dX1_votesIn_18 : decode cX1_votesIn 18 = .ok (.invokevirtual 455, 3) := dk_182 1 199 (dk_at dksX1_votesIn_0 18 rfl rfl)
theorem dX1_votesIn_21 : decode cX1_votesIn 21 = .ok (.invokevirtual 161, 3) := dk_182 0 161 (dk_at dksX1_votesIn_0 21 rfl rfl)
theorem dX1_votesIn_24 : decode cX1_votesIn 24 = .ok (.ireturn, 1) := dk_172 (dk_at dksX1_votesIn_1 0 rfl rfl)
abbrev cX1_seeIn : ByteArray := prog_1_method_68_code
def yX1_seeIn : MethodName := ⟨RX1, "seeIn", "(II)I"⟩
def dkwX1_seeIn_2 : List UInt8 := [180, 0, 155, 4, 96, 181, 0, 155, 132, 5, 1, 167, 255, 221, 2, 172]
abbrev dktX1_seeIn_2 : List UInt8 := dkwX1_seeIn_2 ++ []
def dkwX1_seeIn_1 : List UInt8 := [21, 5, 17, 0, 200, 163, 0, 33, 25, 4, 27, 28, 182, 1, 114, 153, 0, 6, 21, 5, 172, 25, 4, 89]
abbrev dktX1_seeIn_1 : List UInt8 := dkwX1_seeIn_1 ++ dktX1_seeIn_2
def dkwX1_seeIn_0 : List UInt8 := [42, 27, 28, 182, 1, 110, 78, 187, 0, 30, 89, 42, 180, 0, 56, 183, 1, 186, 58, 4, 3, 54, 5]
abbrev dktX1_seeIn_0 : List UInt8 := dkwX1_seeIn_0 ++ dktX1_seeIn_1
theorem dksX1_seeIn_0 : cX1_seeIn.data.toList.drop 0 = dktX1_seeIn_0 := by decide +kernel
theorem dksX1_seeIn_1 : cX1_seeIn.data.toList.drop 23 = dktX1_seeIn_1 := dk_seg dksX1_seeIn_0 23 rfl rfl
theorem dksX1_seeIn_2 : cX1_seeIn.data.toList.drop 47 = dktX1_seeIn_2 := dk_seg dksX1_seeIn_1 24 rfl rfl
theorem dX1_seeIn_0 : decode cX1_seeIn 0 = .ok (.aload_n 0, 1) := dk_42 (dk_at dksX1_seeIn_0 0 rfl rfl)
theorem dX1_seeIn_1 : decode cX1_seeIn 1 = .ok (.iload_n 1, 1) := dk_27 (dk_at dksX1_seeIn_0 1 rfl rfl)
theorem dX1_seeIn_2 : decode cX1_seeIn 2 = .ok (.iload_n 2, 1) := dk_28 (dk_at dksX1_seeIn_0 2 rfl rfl)
theorem dX1_seeIn_3 : decode cX1_seeIn 3 = .ok (.invokevirtual 366, 3) := dk_182 1 110 (dk_at dksX1_seeIn_0 3 rfl rfl)
theorem dX1_seeIn_6 : decode cX1_seeIn 6 = .ok (.astore_n 3, 1) := dk_78 (dk_at dksX1_seeIn_0 6 rfl rfl)
theorem dX1_seeIn_7 : decode cX1_seeIn 7 = .ok (.new 30, 3) := dk_187 0 30 (dk_at dksX1_seeIn_0 7 rfl rfl)
theorem dX1_seeIn_10 : decode cX1_seeIn 10 = .ok (.dup, 1) := dk_89 (dk_at dksX1_seeIn_0 10 rfl rfl)
theorem dX1_seeIn_11 : decode cX1_seeIn 11 = .ok (.aload_n 0, 1) := dk_42 (dk_at dksX1_seeIn_0 11 rfl rfl)
theorem dX1_seeIn_12 : decode cX1_seeIn 12 = .ok (.getfield 56, 3) := dk_180 0 56 (dk_at dksX1_seeIn_0 12 rfl rfl)
theorem dX1_seeIn_15 : decode cX1_seeIn 15 = .ok (.invokespecial 442, 3) := dk_183 1 186 (dk_at dksX1_seeIn_0 15 rfl rfl)
theorem dX1_seeIn_18 : decode cX1_seeIn 18 = .ok (.astore 4, 2) := dk_58 4 (dk_at dksX1_seeIn_0 18 rfl rfl)
theorem dX1_seeIn_20 : decode cX1_seeIn 20 = .ok (.iconst 0, 1) := dk_3 (dk_at dksX1_seeIn_0 20 rfl rfl)
theorem dX1_seeIn_21 : decode cX1_seeIn 21 = .ok (.istore 5, 2) := dk_54 5 (dk_at dksX1_seeIn_0 21 rfl rfl)
theorem dX1_seeIn_23 : decode cX1_seeIn 23 = .ok (.iload 5, 2) := dk_21 5 (dk_at dksX1_seeIn_1 0 rfl rfl)
theorem dX1_seeIn_25 : decode cX1_seeIn 25 = .ok (.sipush 200, 3) := dk_17 0 200 (dk_at dksX1_seeIn_1 2 rfl rfl)
theorem dX1_seeIn_28 : decode cX1_seeIn 28 = .ok (.if_icmp .gt 33, 3) := dk_163 0 33 (dk_at dksX1_seeIn_1 5 rfl rfl)
theorem dX1_seeIn_31 : decode cX1_seeIn 31 = .ok (.aload 4, 2) := dk_25 4 (dk_at dksX1_seeIn_1 8 rfl rfl)
theorem dX1_seeIn_33 : decode cX1_seeIn 33 = .ok (.iload_n 1, 1) := dk_27 (dk_at dksX1_seeIn_1 10 rfl rfl)
theorem dX1_seeIn_34 : decode cX1_seeIn 34 = .ok (.iload_n 2, 1) := dk_28 (dk_at dksX1_seeIn_1 11 rfl rfl)
theorem dX1_seeIn_35 : decode cX1_seeIn 35 = .ok (.invokevirtual 370, 3) := dk_182 1 114 (dk_at dksX1_seeIn_1 12 rfl rfl)
theorem dX1_seeIn_38 : decode cX1_seeIn 38 = .ok (.ifCond .eq 6, 3) := dk_153 0 6 (dk_at dksX1_seeIn_1 15 rfl rfl)
theorem dX1_seeIn_41 : decode cX1_seeIn 41 = .ok (.iload 5, 2) := dk_21 5 (dk_at dksX1_seeIn_1 18 rfl rfl)
theorem dX1_seeIn_43 : decode cX1_seeIn 43 = .ok (.ireturn, 1) := dk_172 (dk_at dksX1_seeIn_1 20 rfl rfl)
theorem dX1_seeIn_44 : decode cX1_seeIn 44 = .ok (.aload 4, 2) := dk_25 4 (dk_at dksX1_seeIn_1 21 rfl rfl)
theorem dX1_seeIn_46 : decode cX1_seeIn 46 = .ok (.dup, 1) := dk_89 (dk_at dksX1_seeIn_1 23 rfl rfl)
theorem dX1_seeIn_47 : decode cX1_seeIn 47 = .ok (.getfield 155, 3) := dk_180 0 155 (dk_at dksX1_seeIn_2 0 rfl rfl)
theorem dX1_seeIn_50 : decode cX1_seeIn 50 = .ok (.iconst 1, 1) := dk_4 (dk_at dksX1_seeIn_2 3 rfl rfl)
theorem dX1_seeIn_51 : decode cX1_seeIn 51 = .ok (.iadd, 1) := dk_96 (dk_at dksX1_seeIn_2 4 rfl rfl)
theorem dX1_seeIn_52 : decode cX1_seeIn 52 = .ok (.putfield 155, 3) := dk_181 0 155 (dk_at dksX1_seeIn_2 5 rfl rfl)
theorem dX1_seeIn_55 : decode cX1_seeIn 55 = .ok (.iinc 5 1, 3) := dk_132 5 1 (dk_at dksX1_seeIn_2 8 rfl rfl)
theorem dX1_seeIn_58 : decode cX1_seeIn 58 = .ok (.goto (-35), 3) := dk_167 255 221 (dk_at dksX1_seeIn_2 11 rfl rfl)
theorem dX1_seeIn_61 : decode cX1_seeIn 61 = .ok (.iconst (-1), 1) := dk_2 (dk_at dksX1_seeIn_2 14 rfl rfl)
theorem dX1_seeIn_62 : decode cX1_seeIn 62 = .ok (.ireturn, 1) := dk_172 (dk_at dksX1_seeIn_2 15 rfl rfl)
abbrev cX1_closersIf : ByteArray := prog_1_method_70_code
def yX1_closersIf : MethodName := ⟨RX1, "closersIf", "(III)I"⟩
def dkwX1_closersIf_0 : List UInt8 := [42, 27, 28, 182, 1, 117, 58, 4, 29, 184, 1, 196, 42, 27, 28, 29, 182, 1, 206, 172]
abbrev dktX1_closersIf_0 : List UInt8 := dkwX1_closersIf_0 ++ []
theorem dksX1_closersIf_0 : cX1_closersIf.data.toList.drop 0 = dktX1_closersIf_0 := by decide +kernel
theorem dX1_closersIf_0 : decode cX1_closersIf 0 = .ok (.aload_n 0, 1) := dk_42 (dk_at dksX1_closersIf_0 0 rfl rfl)
theorem dX1_closersIf_1 : decode cX1_closersIf 1 = .ok (.iload_n 1, 1) := dk_27 (dk_at dksX1_closersIf_0 1 rfl rfl)
theorem dX1_closersIf_2 : decode cX1_closersIf 2 = .ok (.iload_n 2, 1) := dk_28 (dk_at dksX1_closersIf_0 2 rfl rfl)
theorem dX1_closersIf_3 : decode cX1_closersIf 3 = .ok (.invokevirtual 373, 3) := dk_182 1 117 (dk_at dksX1_closersIf_0 3 rfl rfl)
theorem dX1_closersIf_6 : decode cX1_closersIf 6 = .ok (.astore 4, 2) := dk_58 4 (dk_at dksX1_closersIf_0 6 rfl rfl)
theorem dX1_closersIf_8 : decode cX1_closersIf 8 = .ok (.iload_n 3, 1) := dk_29 (dk_at dksX1_closersIf_0 8 rfl rfl)
theorem dX1_closersIf_9 : decode cX1_closersIf 9 = .ok (.invokestatic 452, 3) := dk_184 1 196 (dk_at dksX1_closersIf_0 9 rfl rfl)
theorem dX1_closersIf_12 : decode cX1_closersIf 12 = .ok (.aload_n 0, 1) := dk_42 (dk_at dksX1_closersIf_0 12 rfl rfl)
theorem dX1_closersIf_13 : decode cX1_closersIf 13 = .ok (.iload_n 1, 1) := dk_27 (dk_at dksX1_closersIf_0 13 rfl rfl)
theorem dX1_closersIf_14 : decode cX1_closersIf 14 = .ok (.iload_n 2, 1) := dk_28 (dk_at dksX1_closersIf_0 14 rfl rfl)
theorem dX1_closersIf_15 : decode cX1_closersIf 15 = .ok (.iload_n 3, 1) := dk_29 (dk_at dksX1_closersIf_0 15 rfl rfl)
theorem dX1_closersIf_16 : decode cX1_closersIf 16 = .ok (.invokevirtual 462, 3) := dk_182 1 206 (dk_at dksX1_closersIf_0 16 rfl rfl)
theorem dX1_closersIf_19 : decode cX1_closersIf 19 = .ok (.ireturn, 1) := dk_172 (dk_at dksX1_closersIf_0 19 rfl rfl)
abbrev cX1_closersBy : ByteArray := prog_1_method_69_code
def yX1_closersBy : MethodName := ⟨RX1, "closersBy", "(III)I"⟩
def dkwX1_closersBy_1 : List UInt8 := [25, 4, 29, 182, 1, 199, 28, 182, 1, 73, 172]
abbrev dktX1_closersBy_1 : List UInt8 := dkwX1_closersBy_1 ++ []
def dkwX1_closersBy_0 : List UInt8 := [187, 0, 30, 89, 42, 180, 0, 56, 183, 1, 186, 58, 4, 25, 4, 27, 28, 4, 182, 1, 203, 54, 5]
abbrev dktX1_closersBy_0 : List UInt8 := dkwX1_closersBy_0 ++ dktX1_closersBy_1
theorem dksX1_closersBy_0 : cX1_closersBy.data.toList.drop 0 = dktX1_closersBy_0 := by decide +kernel
theorem dksX1_closersBy_1 : cX1_closersBy.data.toList.drop 23 = dktX1_closersBy_1 := dk_seg dksX1_closersBy_0 23 rfl rfl
theorem dX1_closersBy_0 : decode cX1_closersBy 0 = .ok (.new 30, 3) := dk_187 0 30 (dk_at dksX1_closersBy_0 0 rfl rfl)
theorem dX1_closersBy_3 : decode cX1_closersBy 3 = .ok (.dup, 1) := dk_89 (dk_at dksX1_closersBy_0 3 rfl rfl)
theorem dX1_closersBy_4 : decode cX1_closersBy 4 = .ok (.aload_n 0, 1) := dk_42 (dk_at dksX1_closersBy_0 4 rfl rfl)
theorem dX1_closersBy_5 : decode cX1_closersBy 5 = .ok (.getfield 56, 3) := dk_180 0 56 (dk_at dksX1_closersBy_0 5 rfl rfl)
theorem dX1_closersBy_8 : decode cX1_closersBy 8 = .ok (.invokespecial 442, 3) := dk_183 1 186 (dk_at dksX1_closersBy_0 8 rfl rfl)
theorem dX1_closersBy_11 : decode cX1_closersBy 11 = .ok (.astore 4, 2) := dk_58 4 (dk_at dksX1_closersBy_0 11 rfl rfl)
theorem dX1_closersBy_13 : decode cX1_closersBy 13 = .ok (.aload 4, 2) := dk_25 4 (dk_at dksX1_closersBy_0 13 rfl rfl)
theorem dX1_closersBy_15 : decode cX1_closersBy 15 = .ok (.iload_n 1, 1) := dk_27 (dk_at dksX1_closersBy_0 15 rfl rfl)
theorem dX1_closersBy_16 : decode cX1_closersBy 16 = .ok (.iload_n 2, 1) := dk_28 (dk_at dksX1_closersBy_0 16 rfl rfl)
theorem dX1_closersBy_17 : decode cX1_closersBy 17 = .ok (.iconst 1, 1) := dk_4 (dk_at dksX1_closersBy_0 17 rfl rfl)
theorem dX1_closersBy_18 : decode cX1_closersBy 18 = .ok (.invokevirtual 459, 3) := dk_182 1 203 (dk_at dksX1_closersBy_0 18 rfl rfl)
theorem dX1_closersBy_21 : decode cX1_closersBy 21 = .ok (.istore 5, 2) := dk_54 5 (dk_at dksX1_closersBy_0 21 rfl rfl)
theorem dX1_closersBy_23 : decode cX1_closersBy 23 = .ok (.aload 4, 2) := dk_25 4 (dk_at dksX1_closersBy_1 0 rfl rfl)
theorem dX1_closersBy_25 : decode cX1_closersBy 25 = .ok (.iload_n 3, 1) := dk_29 (dk_at dksX1_closersBy_1 2 rfl rfl)
theorem dX1_closersBy_26 : decode cX1_closersBy 26 = .ok (.invokevirtual 455, 3) := dk_182 1 199 (dk_at dksX1_closersBy_1 3 rfl rfl)
theorem dX1_closersBy_29 : decode cX1_closersBy 29 = .ok (.iload_n 2, 1) := dk_28 (dk_at dksX1_closersBy_1 6 rfl rfl)
theorem dX1_closersBy_30 : decode cX1_closersBy 30 = .ok (.invokevirtual 329, 3) := dk_182 1 73 (dk_at dksX1_closersBy_1 7 rfl rfl)
theorem dX1_closersBy_33 : decode cX1_closersBy 33 = .ok (.ireturn, 1) := dk_172 (dk_at dksX1_closersBy_1 10 rfl rfl)
abbrev cX1_bestCaller : ByteArray := prog_1_method_71_code
def yX1_bestCaller : MethodName := ⟨RX1, "bestCaller", "(II)I"⟩
def dkwX1_bestCaller_3 : List UInt8 := [172]
abbrev dktX1_bestCaller_3 : List UInt8 := dkwX1_bestCaller_3 ++ []
def dkwX1_bestCaller_2 : List UInt8 := [21, 5, 163, 0, 6, 167, 0, 11, 21, 6, 54, 4, 21, 7, 54, 5, 132, 6, 1, 167, 255, 210, 21, 4]
abbrev dktX1_bestCaller_2 : List UInt8 := dkwX1_bestCaller_2 ++ dktX1_bestCaller_3
def dkwX1_bestCaller_1 : List UInt8 := [180, 0, 56, 182, 0, 68, 162, 0, 40, 42, 21, 6, 27, 28, 182, 1, 206, 184, 0, 182, 54, 7, 21, 7]
abbrev dktX1_bestCaller_1 : List UInt8 := dkwX1_bestCaller_1 ++ dktX1_bestCaller_2
def dkwX1_bestCaller_0 : List UInt8 := [42, 27, 182, 1, 61, 78, 28, 184, 1, 196, 2, 54, 4, 2, 54, 5, 3, 54, 6, 21, 6, 42]
abbrev dktX1_bestCaller_0 : List UInt8 := dkwX1_bestCaller_0 ++ dktX1_bestCaller_1
theorem dksX1_bestCaller_0 : cX1_bestCaller.data.toList.drop 0 = dktX1_bestCaller_0 := by decide +kernel
theorem dksX1_bestCaller_1 : cX1_bestCaller.data.toList.drop 22 = dktX1_bestCaller_1 := dk_seg dksX1_bestCaller_0 22 rfl rfl
theorem dksX1_bestCaller_2 : cX1_bestCaller.data.toList.drop 46 = dktX1_bestCaller_2 := dk_seg dksX1_bestCaller_1 24 rfl rfl
theorem dksX1_bestCaller_3 : cX1_bestCaller.data.toList.drop 70 = dktX1_bestCaller_3 := dk_seg dksX1_bestCaller_2 24 rfl rfl
theorem dX1_bestCaller_0 : decode cX1_bestCaller 0 = .ok (.aload_n 0, 1) := dk_42 (dk_at dksX1_bestCaller_0 0 rfl rfl)
theorem dX1_bestCaller_1 : decode cX1_bestCaller 1 = .ok (.iload_n 1, 1) := dk_27 (dk_at dksX1_bestCaller_0 1 rfl rfl)
theorem dX1_bestCaller_2 : decode cX1_bestCaller 2 = .ok (.invokevirtual 317, 3) := dk_182 1 61 (dk_at dksX1_bestCaller_0 2 rfl rfl)
theorem dX1_bestCaller_5 : decode cX1_bestCaller 5 = .ok (.astore_n 3, 1) := dk_78 (dk_at dksX1_bestCaller_0 5 rfl rfl)
theorem dX1_bestCaller_6 : decode cX1_bestCaller 6 = .ok (.iload_n 2, 1) := dk_28 (dk_at dksX1_bestCaller_0 6 rfl rfl)
theorem dX1_bestCaller_7 : decode cX1_bestCaller 7 = .ok (.invokestatic 452, 3) := dk_184 1 196 (dk_at dksX1_bestCaller_0 7 rfl rfl)
theorem dX1_bestCaller_10 : decode cX1_bestCaller 10 = .ok (.iconst (-1), 1) := dk_2 (dk_at dksX1_bestCaller_0 10 rfl rfl)
theorem dX1_bestCaller_11 : decode cX1_bestCaller 11 = .ok (.istore 4, 2) := dk_54 4 (dk_at dksX1_bestCaller_0 11 rfl rfl)
theorem dX1_bestCaller_13 : decode cX1_bestCaller 13 = .ok (.iconst (-1), 1) := dk_2 (dk_at dksX1_bestCaller_0 13 rfl rfl)
theorem dX1_bestCaller_14 : decode cX1_bestCaller 14 = .ok (.istore 5, 2) := dk_54 5 (dk_at dksX1_bestCaller_0 14 rfl rfl)
theorem dX1_bestCaller_16 : decode cX1_bestCaller 16 = .ok (.iconst 0, 1) := dk_3 (dk_at dksX1_bestCaller_0 16 rfl rfl)
theorem dX1_bestCaller_17 : decode cX1_bestCaller 17 = .ok (.istore 6, 2) := dk_54 6 (dk_at dksX1_bestCaller_0 17 rfl rfl)
theorem dX1_bestCaller_19 : decode cX1_bestCaller 19 = .ok (.iload 6, 2) := dk_21 6 (dk_at dksX1_bestCaller_0 19 rfl rfl)
theorem dX1_bestCaller_21 : decode cX1_bestCaller 21 = .ok (.aload_n 0, 1) := dk_42 (dk_at dksX1_bestCaller_0 21 rfl rfl)
theorem dX1_bestCaller_22 : decode cX1_bestCaller 22 = .ok (.getfield 56, 3) := dk_180 0 56 (dk_at dksX1_bestCaller_1 0 rfl rfl)
theorem dX1_bestCaller_25 : decode cX1_bestCaller 25 = .ok (.invokevirtual 68, 3) := dk_182 0 68 (dk_at dksX1_bestCaller_1 3 rfl rfl)
theorem dX1_bestCaller_28 : decode cX1_bestCaller 28 = .ok (.if_icmp .ge 40, 3) := dk_162 0 40 (dk_at dksX1_bestCaller_1 6 rfl rfl)
theorem dX1_bestCaller_31 : decode cX1_bestCaller 31 = .ok (.aload_n 0, 1) := dk_42 (dk_at dksX1_bestCaller_1 9 rfl rfl)
theorem dX1_bestCaller_32 : decode cX1_bestCaller 32 = .ok (.iload 6, 2) := dk_21 6 (dk_at dksX1_bestCaller_1 10 rfl rfl)
theorem dX1_bestCaller_34 : decode cX1_bestCaller 34 = .ok (.iload_n 1, 1) := dk_27 (dk_at dksX1_bestCaller_1 12 rfl rfl)
theorem dX1_bestCaller_35 : decode cX1_bestCaller 35 = .ok (.iload_n 2, 1) := dk_28 (dk_at dksX1_bestCaller_1 13 rfl rfl)
theorem dX1_bestCaller_36 : decode cX1_bestCaller 36 = .ok (.invokevirtual 462, 3) := dk_182 1 206 (dk_at dksX1_bestCaller_1 14 rfl rfl)
theorem dX1_bestCaller_39 : decode cX1_bestCaller 39 = .ok (.invokestatic 182, 3) := dk_184 0 182 (dk_at dksX1_bestCaller_1 17 rfl rfl)
theorem dX1_bestCaller_42 : decode cX1_bestCaller 42 = .ok (.istore 7, 2) := dk_54 7 (dk_at dksX1_bestCaller_1 20 rfl rfl)
theorem dX1_bestCaller_44 : decode cX1_bestCaller 44 = .ok (.iload 7, 2) := dk_21 7 (dk_at dksX1_bestCaller_1 22 rfl rfl)
theorem dX1_bestCaller_46 : decode cX1_bestCaller 46 = .ok (.iload 5, 2) := dk_21 5 (dk_at dksX1_bestCaller_2 0 rfl rfl)
theorem dX1_bestCaller_48 : decode cX1_bestCaller 48 = .ok (.if_icmp .gt 6, 3) := dk_163 0 6 (dk_at dksX1_bestCaller_2 2 rfl rfl)
theorem dX1_bestCaller_51 : decode cX1_bestCaller 51 = .ok (.goto 11, 3) := dk_167 0 11 (dk_at dksX1_bestCaller_2 5 rfl rfl)
theorem dX1_bestCaller_54 : decode cX1_bestCaller 54 = .ok (.iload 6, 2) := dk_21 6 (dk_at dksX1_bestCaller_2 8 rfl rfl)
theorem dX1_bestCaller_56 : decode cX1_bestCaller 56 = .ok (.istore 4, 2) := dk_54 4 (dk_at dksX1_bestCaller_2 10 rfl rfl)
theorem dX1_bestCaller_58 : decode cX1_bestCaller 58 = .ok (.iload 7, 2) := dk_21 7 (dk_at dksX1_bestCaller_2 12 rfl rfl)
theorem dX1_bestCaller_60 : decode cX1_bestCaller 60 = .ok (.istore 5, 2) := dk_54 5 (dk_at dksX1_bestCaller_2 14 rfl rfl)
theorem dX1_bestCaller_62 : decode cX1_bestCaller 62 = .ok (.iinc 6 1, 3) := dk_132 6 1 (dk_at dksX1_bestCaller_2 16 rfl rfl)
theorem dX1_bestCaller_65 : decode cX1_bestCaller 65 = .ok (.goto (-46), 3) := dk_167 255 210 (dk_at dksX1_bestCaller_2 19 rfl rfl)
theorem dX1_bestCaller_68 : decode cX1_bestCaller 68 = .ok (.iload 4, 2) := dk_21 4 (dk_at dksX1_bestCaller_2 22 rfl rfl)
theorem dX1_bestCaller_70 : decode cX1_bestCaller 70 = .ok (.ireturn, 1) := dk_172 (dk_at dksX1_bestCaller_3 0 rfl rfl)
abbrev cX1_leastShare : ByteArray := prog_1_method_72_code
def yX1_leastShare : MethodName := ⟨RX1, "leastShare", "(II)I"⟩
def dkwX1_leastShare_3 : List UInt8 := [21, 4, 172]
abbrev dktX1_leastShare_3 : List UInt8 := dkwX1_leastShare_3 ++ []
def dkwX1_leastShare_2 : List UInt8 := [28, 46, 42, 180, 0, 56, 180, 1, 58, 28, 46, 96, 108, 54, 4, 21, 4, 154, 0, 7, 2, 167, 0, 5]
abbrev dktX1_leastShare_2 : List UInt8 := dkwX1_leastShare_2 ++ dktX1_leastShare_3
def dkwX1_leastShare_1 : List UInt8 := [154, 0, 5, 2, 172, 16, 100, 42, 180, 0, 56, 180, 1, 55, 28, 46, 104, 42, 180, 0, 56, 180, 1, 55]
abbrev dktX1_leastShare_1 : List UInt8 := dkwX1_leastShare_1 ++ dktX1_leastShare_2
def dkwX1_leastShare_0 : List UInt8 := [42, 27, 28, 182, 1, 117, 78, 42, 180, 0, 56, 27, 182, 1, 51, 42, 180, 0, 56, 180, 1, 55, 28, 46]
abbrev dktX1_leastShare_0 : List UInt8 := dkwX1_leastShare_0 ++ dktX1_leastShare_1
theorem dksX1_leastShare_0 : cX1_leastShare.data.toList.drop 0 = dktX1_leastShare_0 := by decide +kernel
theorem dksX1_leastShare_1 : cX1_leastShare.data.toList.drop 24 = dktX1_leastShare_1 := dk_seg dksX1_leastShare_0 24 rfl rfl
theorem dksX1_leastShare_2 : cX1_leastShare.data.toList.drop 48 = dktX1_leastShare_2 := dk_seg dksX1_leastShare_1 24 rfl rfl
theorem dksX1_leastShare_3 : cX1_leastShare.data.toList.drop 72 = dktX1_leastShare_3 := dk_seg dksX1_leastShare_2 24 rfl rfl
theorem dX1_leastShare_0 : decode cX1_leastShare 0 = .ok (.aload_n 0, 1) := dk_42 (dk_at dksX1_leastShare_0 0 rfl rfl)
theorem dX1_leastShare_1 : decode cX1_leastShare 1 = .ok (.iload_n 1, 1) := dk_27 (dk_at dksX1_leastShare_0 1 rfl rfl)
theorem dX1_leastShare_2 : decode cX1_leastShare 2 = .ok (.iload_n 2, 1) := dk_28 (dk_at dksX1_leastShare_0 2 rfl rfl)
theorem dX1_leastShare_3 : decode cX1_leastShare 3 = .ok (.invokevirtual 373, 3) := dk_182 1 117 (dk_at dksX1_leastShare_0 3 rfl rfl)
theorem dX1_leastShare_6 : decode cX1_leastShare 6 = .ok (.astore_n 3, 1) := dk_78 (dk_at dksX1_leastShare_0 6 rfl rfl)
theorem dX1_leastShare_7 : decode cX1_leastShare 7 = .ok (.aload_n 0, 1) := dk_42 (dk_at dksX1_leastShare_0 7 rfl rfl)
theorem dX1_leastShare_8 : decode cX1_leastShare 8 = .ok (.getfield 56, 3) := dk_180 0 56 (dk_at dksX1_leastShare_0 8 rfl rfl)
theorem dX1_leastShare_11 : decode cX1_leastShare 11 = .ok (.iload_n 1, 1) := dk_27 (dk_at dksX1_leastShare_0 11 rfl rfl)
theorem dX1_leastShare_12 : decode cX1_leastShare 12 = .ok (.invokevirtual 307, 3) := dk_182 1 51 (dk_at dksX1_leastShare_0 12 rfl rfl)
theorem dX1_leastShare_15 : decode cX1_leastShare 15 = .ok (.aload_n 0, 1) := dk_42 (dk_at dksX1_leastShare_0 15 rfl rfl)
theorem dX1_leastShare_16 : decode cX1_leastShare 16 = .ok (.getfield 56, 3) := dk_180 0 56 (dk_at dksX1_leastShare_0 16 rfl rfl)
theorem dX1_leastShare_19 : decode cX1_leastShare 19 = .ok (.getfield 311, 3) := dk_180 1 55 (dk_at dksX1_leastShare_0 19 rfl rfl)
theorem dX1_leastShare_22 : decode cX1_leastShare 22 = .ok (.iload_n 2, 1) := dk_28 (dk_at dksX1_leastShare_0 22 rfl rfl)
theorem dX1_leastShare_23 : decode cX1_leastShare 23 = .ok (.iaload, 1) := dk_46 (dk_at dksX1_leastShare_0 23 rfl rfl)
theorem dX1_leastShare_24 : decode cX1_leastShare 24 = .ok (.ifCond .ne 5, 3) := dk_154 0 5 (dk_at dksX1_leastShare_1 0 rfl rfl)
theorem dX1_leastShare_27 : decode cX1_leastShare 27 = .ok (.iconst (-1), 1) := dk_2 (dk_at dksX1_leastShare_1 3 rfl rfl)
theorem dX1_leastShare_28 : decode cX1_leastShare 28 = .ok (.ireturn, 1) := dk_172 (dk_at dksX1_leastShare_1 4 rfl rfl)
theorem dX1_leastShare_29 : decode cX1_leastShare 29 = .ok (.bipush 100, 2) := dk_16 100 (dk_at dksX1_leastShare_1 5 rfl rfl)
theorem dX1_leastShare_31 : decode cX1_leastShare 31 = .ok (.aload_n 0, 1) := dk_42 (dk_at dksX1_leastShare_1 7 rfl rfl)
theorem dX1_leastShare_32 : decode cX1_leastShare 32 = .ok (.getfield 56, 3) := dk_180 0 56 (dk_at dksX1_leastShare_1 8 rfl rfl)
theorem dX1_leastShare_35 : decode cX1_leastShare 35 = .ok (.getfield 311, 3) := dk_180 1 55 (dk_at dksX1_leastShare_1 11 rfl rfl)
theorem dX1_leastShare_38 : decode cX1_leastShare 38 = .ok (.iload_n 2, 1) := dk_28 (dk_at dksX1_leastShare_1 14 rfl rfl)
theorem dX1_leastShare_39 : decode cX1_leastShare 39 = .ok (.iaload, 1) := dk_46 (dk_at dksX1_leastShare_1 15 rfl rfl)
theorem dX1_leastShare_40 : decode cX1_leastShare 40 = .ok (.imul, 1) := dk_104 (dk_at dksX1_leastShare_1 16 rfl rfl)
theorem dX1_leastShare_41 : decode cX1_leastShare 41 = .ok (.aload_n 0, 1) := dk_42 (dk_at dksX1_leastShare_1 17 rfl rfl)
theorem dX1_leastShare_42 : decode cX1_leastShare 42 = .ok (.getfield 56, 3) := dk_180 0 56 (dk_at dksX1_leastShare_1 18 rfl rfl)
theorem dX1_leastShare_45 : decode cX1_leastShare 45 = .ok (.getfield 311, 3) := dk_180 1 55 (dk_at dksX1_leastShare_1 21 rfl rfl)
theorem dX1_leastShare_48 : decode cX1_leastShare 48 = .ok (.iload_n 2, 1) := dk_28 (dk_at dksX1_leastShare_2 0 rfl rfl)
theorem dX1_leastShare_49 : decode cX1_leastShare 49 = .ok (.iaload, 1) := dk_46 (dk_at dksX1_leastShare_2 1 rfl rfl)
theorem dX1_leastShare_50 : decode cX1_leastShare 50 = .ok (.aload_n 0, 1) := dk_42 (dk_at dksX1_leastShare_2 2 rfl rfl)
theorem dX1_leastShare_51 : decode cX1_leastShare 51 = .ok (.getfield 56, 3) := dk_180 0 56 (dk_at dksX1_leastShare_2 3 rfl rfl)
theorem dX1_leastShare_54 : decode cX1_leastShare 54 = .ok (.getfield 314, 3) := dk_180 1 58 (dk_at dksX1_leastShare_2 6 rfl rfl)
theorem dX1_leastShare_57 : decode cX1_leastShare 57 = .ok (.iload_n 2, 1) := dk_28 (dk_at dksX1_leastShare_2 9 rfl rfl)
theorem dX1_leastShare_58 : decode cX1_leastShare 58 = .ok (.iaload, 1) := dk_46 (dk_at dksX1_leastShare_2 10 rfl rfl)
theorem dX1_leastShare_59 : decode cX1_leastShare 59 = .ok (.iadd, 1) := dk_96 (dk_at dksX1_leastShare_2 11 rfl rfl)
theorem dX1_leastShare_60 : decode cX1_leastShare 60 = .ok (.idiv, 1) := dk_108 (dk_at dksX1_leastShare_2 12 rfl rfl)
theorem dX1_leastShare_61 : decode cX1_leastShare 61 = .ok (.istore 4, 2) := dk_54 4 (dk_at dksX1_leastShare_2 13 rfl rfl)
theorem dX1_leastShare_63 : decode cX1_leastShare 63 = .ok (.iload 4, 2) := dk_21 4 (dk_at dksX1_leastShare_2 15 rfl rfl)
theorem dX1_leastShare_65 : decode cX1_leastShare 65 = .ok (.ifCond .ne 7, 3) := dk_154 0 7 (dk_at dksX1_leastShare_2 17 rfl rfl)
theorem dX1_leastShare_68 : decode cX1_leastShare 68 = .ok (.iconst (-1), 1) := dk_2 (dk_at dksX1_leastShare_2 20 rfl rfl)
theorem dX1_leastShare_69 : decode cX1_leastShare 69 = .ok (.goto 5, 3) := dk_167 0 5 (dk_at dksX1_leastShare_2 21 rfl rfl)
theorem dX1_leastShare_72 : decode cX1_leastShare 72 = .ok (.iload 4, 2) := dk_21 4 (dk_at dksX1_leastShare_3 0 rfl rfl)
theorem dX1_leastShare_74 : decode cX1_leastShare 74 = .ok (.ireturn, 1) := dk_172 (dk_at dksX1_leastShare_3 2 rfl rfl)
abbrev cX1_writeBulletin : ByteArray := prog_1_method_73_code
def yX1_writeBulletin : MethodName := ⟨RX1, "writeBulletin", "(I)I"⟩
def dkwX1_writeBulletin_5 : List UInt8 := [167, 255, 197, 42, 180, 0, 39, 182, 1, 229, 172]
abbrev dktX1_writeBulletin_5 : List UInt8 := dkwX1_writeBulletin_5 ++ []
def dkwX1_writeBulletin_4 : List UInt8 := [29, 21, 4, 184, 1, 226, 153, 0, 8, 16, 45, 167, 0, 5, 16, 43, 182, 0, 125, 87, 132, 4, 1]
abbrev dktX1_writeBulletin_4 : List UInt8 := dkwX1_writeBulletin_4 ++ dktX1_writeBulletin_5
def dkwX1_writeBulletin_3 : List UInt8 := [42, 180, 0, 39, 16, 32, 182, 0, 125, 42, 180, 0, 56, 21, 4, 182, 0, 83, 180, 1, 219, 182, 1, 223]
abbrev dktX1_writeBulletin_3 : List UInt8 := dkwX1_writeBulletin_3 ++ dktX1_writeBulletin_4
def dkwX1_writeBulletin_2 : List UInt8 := [182, 1, 223, 16, 58, 182, 0, 125, 87, 3, 54, 4, 21, 4, 42, 180, 0, 56, 182, 0, 80, 162, 0, 53]
abbrev dktX1_writeBulletin_2 : List UInt8 := dkwX1_writeBulletin_2 ++ dktX1_writeBulletin_3
def dkwX1_writeBulletin_1 : List UInt8 := [180, 0, 39, 42, 180, 0, 56, 180, 0, 129, 180, 0, 138, 27, 182, 1, 216, 192, 1, 65, 180, 1, 219]
abbrev dktX1_writeBulletin_1 : List UInt8 := dkwX1_writeBulletin_1 ++ dktX1_writeBulletin_2
def dkwX1_writeBulletin_0 : List UInt8 := [42, 27, 182, 0, 87, 77, 42, 180, 0, 56, 27, 182, 1, 210, 62, 42, 180, 0, 39, 3, 182, 1, 213, 42]
abbrev dktX1_writeBulletin_0 : List UInt8 := dkwX1_writeBulletin_0 ++ dktX1_writeBulletin_1
theorem dksX1_writeBulletin_0 : cX1_writeBulletin.data.toList.drop 0 = dktX1_writeBulletin_0 := by decide +kernel
theorem dksX1_writeBulletin_1 : cX1_writeBulletin.data.toList.drop 24 = dktX1_writeBulletin_1 := dk_seg dksX1_writeBulletin_0 24 rfl rfl
theorem dksX1_writeBulletin_2 : cX1_writeBulletin.data.toList.drop 47 = dktX1_writeBulletin_2 := dk_seg dksX1_writeBulletin_1 23 rfl rfl
theorem dksX1_writeBulletin_3 : cX1_writeBulletin.data.toList.drop 71 = dktX1_writeBulletin_3 := dk_seg dksX1_writeBulletin_2 24 rfl rfl
theorem dksX1_writeBulletin_4 : cX1_writeBulletin.data.toList.drop 95 = dktX1_writeBulletin_4 := dk_seg dksX1_writeBulletin_3 24 rfl rfl
theorem dksX1_writeBulletin_5 : cX1_writeBulletin.data.toList.drop 118 = dktX1_writeBulletin_5 := dk_seg dksX1_writeBulletin_4 23 rfl rfl
theorem dX1_writeBulletin_0 : decode cX1_writeBulletin 0 = .ok (.aload_n 0, 1) := dk_42 (dk_at dksX1_writeBulletin_0 0 rfl rfl)
theorem dX1_writeBulletin_1 : decode cX1_writeBulletin 1 = .ok (.iload_n 1, 1) := dk_27 (dk_at dksX1_writeBulletin_0 1 rfl rfl)
theorem dX1_writeBulletin_2 : decode cX1_writeBulletin 2 = .ok (.invokevirtual 87, 3) := dk_182 0 87 (dk_at dksX1_writeBulletin_0 2 rfl rfl)
theorem dX1_writeBulletin_5 : decode cX1_writeBulletin 5 = .ok (.astore_n 2, 1) := dk_77 (dk_at dksX1_writeBulletin_0 5 rfl rfl)
theorem dX1_writeBulletin_6 : decode cX1_writeBulletin 6 = .ok (.aload_n 0, 1) := dk_42 (dk_at dksX1_writeBulletin_0 6 rfl rfl)
theorem dX1_writeBulletin_7 : decode cX1_writeBulletin 7 = .ok (.getfield 56, 3) := dk_180 0 56 (dk_at dksX1_writeBulletin_0 7 rfl rfl)
theorem dX1_writeBulletin_10 : decode cX1_writeBulletin 10 = .ok (.iload_n 1, 1) := dk_27 (dk_at dksX1_writeBulletin_0 10 rfl rfl)
theorem dX1_writeBulletin_11 : decode cX1_writeBulletin 11 = .ok (.invokevirtual 466, 3) := dk_182 1 210 (dk_at dksX1_writeBulletin_0 11 rfl rfl)
theorem dX1_writeBulletin_14 : decode cX1_writeBulletin 14 = .ok (.istore_n 3, 1) := dk_62 (dk_at dksX1_writeBulletin_0 14 rfl rfl)
theorem dX1_writeBulletin_15 : decode cX1_writeBulletin 15 = .ok (.aload_n 0, 1) := dk_42 (dk_at dksX1_writeBulletin_0 15 rfl rfl)
theorem dX1_writeBulletin_16 : decode cX1_writeBulletin 16 = .ok (.getfield 39, 3) := dk_180 0 39 (dk_at dksX1_writeBulletin_0 16 rfl rfl)
theorem dX1_writeBulletin_19 : decode cX1_writeBulletin 19 = .ok (.iconst 0, 1) := dk_3 (dk_at dksX1_writeBulletin_0 19 rfl rfl)
theorem dX1_writeBulletin_20 : decode cX1_writeBulletin 20 = .ok (.invokevirtual 469, 3) := dk_182 1 213 (dk_at dksX1_writeBulletin_0 20 rfl rfl)
theorem dX1_writeBulletin_23 : decode cX1_writeBulletin 23 = .ok (.aload_n 0, 1) := dk_42 (dk_at dksX1_writeBulletin_0 23 rfl rfl)
theorem dX1_writeBulletin_24 : decode cX1_writeBulletin 24 = .ok (.getfield 39, 3) := dk_180 0 39 (dk_at dksX1_writeBulletin_1 0 rfl rfl)
theorem dX1_writeBulletin_27 : decode cX1_writeBulletin 27 = .ok (.aload_n 0, 1) := dk_42 (dk_at dksX1_writeBulletin_1 3 rfl rfl)
theorem dX1_writeBulletin_28 : decode cX1_writeBulletin 28 = .ok (.getfield 56, 3) := dk_180 0 56 (dk_at dksX1_writeBulletin_1 4 rfl rfl)
theorem dX1_writeBulletin_31 : decode cX1_writeBulletin 31 = .ok (.getfield 129, 3) := dk_180 0 129 (dk_at dksX1_writeBulletin_1 7 rfl rfl)
theorem dX1_writeBulletin_34 : decode cX1_writeBulletin 34 = .ok (.getfield 138, 3) := dk_180 0 138 (dk_at dksX1_writeBulletin_1 10 rfl rfl)
theorem dX1_writeBulletin_37 : decode cX1_writeBulletin 37 = .ok (.iload_n 1, 1) := dk_27 (dk_at dksX1_writeBulletin_1 13 rfl rfl)
theorem dX1_writeBulletin_38 : decode cX1_writeBulletin 38 = .ok (.invokevirtual 472, 3) := dk_182 1 216 (dk_at dksX1_writeBulletin_1 14 rfl rfl)
theorem dX1_writeBulletin_41 : decode cX1_writeBulletin 41 = .ok (.checkcast 321, 3) := dk_192 1 65 (dk_at dksX1_writeBulletin_1 17 rfl rfl)
theorem dX1_writeBulletin_44 : decode cX1_writeBulletin 44 = .ok (.getfield 475, 3) := dk_180 1 219 (dk_at dksX1_writeBulletin_1 20 rfl rfl)
theorem dX1_writeBulletin_47 : decode cX1_writeBulletin 47 = .ok (.invokevirtual 479, 3) := dk_182 1 223 (dk_at dksX1_writeBulletin_2 0 rfl rfl)
theorem dX1_writeBulletin_50 : decode cX1_writeBulletin 50 = .ok (.bipush 58, 2) := dk_16 58 (dk_at dksX1_writeBulletin_2 3 rfl rfl)
theorem dX1_writeBulletin_52 : decode cX1_writeBulletin 52 = .ok (.invokevirtual 125, 3) := dk_182 0 125 (dk_at dksX1_writeBulletin_2 5 rfl rfl)
theorem dX1_writeBulletin_55 : decode cX1_writeBulletin 55 = .ok (.pop, 1) := dk_87 (dk_at dksX1_writeBulletin_2 8 rfl rfl)
theorem dX1_writeBulletin_56 : decode cX1_writeBulletin 56 = .ok (.iconst 0, 1) := dk_3 (dk_at dksX1_writeBulletin_2 9 rfl rfl)
theorem dX1_writeBulletin_57 : decode cX1_writeBulletin 57 = .ok (.istore 4, 2) := dk_54 4 (dk_at dksX1_writeBulletin_2 10 rfl rfl)
theorem dX1_writeBulletin_59 : decode cX1_writeBulletin 59 = .ok (.iload 4, 2) := dk_21 4 (dk_at dksX1_writeBulletin_2 12 rfl rfl)
theorem dX1_writeBulletin_61 : decode cX1_writeBulletin 61 = .ok (.aload_n 0, 1) := dk_42 (dk_at dksX1_writeBulletin_2 14 rfl rfl)
theorem dX1_writeBulletin_62 : decode cX1_writeBulletin 62 = .ok (.getfield 56, 3) := dk_180 0 56 (dk_at dksX1_writeBulletin_2 15 rfl rfl)
theorem dX1_writeBulletin_65 : decode cX1_writeBulletin 65 = .ok (.invokevirtual 80, 3) := dk_182 0 80 (dk_at dksX1_writeBulletin_2 18 rfl rfl)
theorem dX1_writeBulletin_68 : decode cX1_writeBulletin 68 = .ok (.if_icmp .ge 53, 3) := dk_162 0 53 (dk_at dksX1_writeBulletin_2 21 rfl rfl)
theorem dX1_writeBulletin_71 : decode cX1_writeBulletin 71 = .ok (.aload_n 0, 1) := dk_42 (dk_at dksX1_writeBulletin_3 0 rfl rfl)
theorem dX1_writeBulletin_72 : decode cX1_writeBulletin 72 = .ok (.getfield 39, 3) := dk_180 0 39 (dk_at dksX1_writeBulletin_3 1 rfl rfl)
theorem dX1_writeBulletin_75 : decode cX1_writeBulletin 75 = .ok (.bipush 32, 2) := dk_16 32 (dk_at dksX1_writeBulletin_3 4 rfl rfl)
theorem dX1_writeBulletin_77 : decode cX1_writeBulletin 77 = .ok (.invokevirtual 125, 3) := dk_182 0 125 (dk_at dksX1_writeBulletin_3 6 rfl rfl)
theorem dX1_writeBulletin_80 : decode cX1_writeBulletin 80 = .ok (.aload_n 0, 1) := dk_42 (dk_at dksX1_writeBulletin_3 9 rfl rfl)
theorem dX1_writeBulletin_81 : decode cX1_writeBulletin 81 = .ok (.getfield 56, 3) := dk_180 0 56 (dk_at dksX1_writeBulletin_3 10 rfl rfl)
theorem dX1_writeBulletin_84 : decode cX1_writeBulletin 84 = .ok (.iload 4, 2) := dk_21 4 (dk_at dksX1_writeBulletin_3 13 rfl rfl)
theorem dX1_writeBulletin_86 : decode cX1_writeBulletin 86 = .ok (.invokevirtual 83, 3) := dk_182 0 83 (dk_at dksX1_writeBulletin_3 15 rfl rfl)
theorem dX1_writeBulletin_89 : decode cX1_writeBulletin 89 = .ok (.getfield 475, 3) := dk_180 1 219 (dk_at dksX1_writeBulletin_3 18 rfl rfl)
theorem dX1_writeBulletin_92 : decode cX1_writeBulletin 92 = .ok (.invokevirtual 479, 3) := dk_182 1 223 (dk_at dksX1_writeBulletin_3 21 rfl rfl)
theorem dX1_writeBulletin_95 : decode cX1_writeBulletin 95 = .ok (.iload_n 3, 1) := dk_29 (dk_at dksX1_writeBulletin_4 0 rfl rfl)
theorem dX1_writeBulletin_96 : decode cX1_writeBulletin 96 = .ok (.iload 4, 2) := dk_21 4 (dk_at dksX1_writeBulletin_4 1 rfl rfl)
theorem dX1_writeBulletin_98 : decode cX1_writeBulletin 98 = .ok (.invokestatic 482, 3) := dk_184 1 226 (dk_at dksX1_writeBulletin_4 3 rfl rfl)
theorem dX1_writeBulletin_101 : decode cX1_writeBulletin 101 = .ok (.ifCond .eq 8, 3) := dk_153 0 8 (dk_at dksX1_writeBulletin_4 6 rfl rfl)
theorem dX1_writeBulletin_104 : decode cX1_writeBulletin 104 = .ok (.bipush 45, 2) := dk_16 45 (dk_at dksX1_writeBulletin_4 9 rfl rfl)
theorem dX1_writeBulletin_106 : decode cX1_writeBulletin 106 = .ok (.goto 5, 3) := dk_167 0 5 (dk_at dksX1_writeBulletin_4 11 rfl rfl)
theorem dX1_writeBulletin_109 : decode cX1_writeBulletin 109 = .ok (.bipush 43, 2) := dk_16 43 (dk_at dksX1_writeBulletin_4 14 rfl rfl)
theorem dX1_writeBulletin_111 : decode cX1_writeBulletin 111 = .ok (.invokevirtual 125, 3) := dk_182 0 125 (dk_at dksX1_writeBulletin_4 16 rfl rfl)
theorem dX1_writeBulletin_114 : decode cX1_writeBulletin 114 = .ok (.pop, 1) := dk_87 (dk_at dksX1_writeBulletin_4 19 rfl rfl)
theorem dX1_writeBulletin_115 : decode cX1_writeBulletin 115 = .ok (.iinc 4 1, 3) := dk_132 4 1 (dk_at dksX1_writeBulletin_4 20 rfl rfl)
theorem dX1_writeBulletin_118 : decode cX1_writeBulletin 118 = .ok (.goto (-59), 3) := dk_167 255 197 (dk_at dksX1_writeBulletin_5 0 rfl rfl)
theorem dX1_writeBulletin_121 : decode cX1_writeBulletin 121 = .ok (.aload_n 0, 1) := dk_42 (dk_at dksX1_writeBulletin_5 3 rfl rfl)
theorem dX1_writeBulletin_122 : decode cX1_writeBulletin 122 = .ok (.getfield 39, 3) := dk_180 0 39 (dk_at dksX1_writeBulletin_5 4 rfl rfl)
theorem dX1_writeBulletin_125 : decode cX1_writeBulletin 125 = .ok (.invokevirtual 485, 3) := dk_182 1 229 (dk_at dksX1_writeBulletin_5 7 rfl rfl)
theorem dX1_writeBulletin_128 : decode cX1_writeBulletin 128 = .ok (.ireturn, 1) := dk_172 (dk_at dksX1_writeBulletin_5 10 rfl rfl)
abbrev cX1_writeVotes : ByteArray := prog_1_method_74_code
def yX1_writeVotes : MethodName := ⟨RX1, "writeVotes", "(II)I"⟩
def dkwX1_writeVotes_6 : List UInt8 := [180, 1, 138, 182, 1, 232, 87, 132, 4, 1, 167, 255, 129, 42, 180, 0, 39, 182, 1, 229, 172]
abbrev dktX1_writeVotes_6 : List UInt8 := dkwX1_writeVotes_6 ++ []
def dkwX1_writeVotes_5 : List UInt8 := [180, 0, 138, 21, 4, 182, 1, 216, 192, 1, 65, 180, 1, 219, 182, 1, 223, 16, 64, 182, 0, 125, 25, 5]
abbrev dktX1_writeVotes_5 : List UInt8 := dkwX1_writeVotes_5 ++ dktX1_writeVotes_6
def dkwX1_writeVotes_4 : List UInt8 := [180, 0, 233, 153, 0, 8, 16, 114, 167, 0, 5, 16, 103, 182, 0, 125, 42, 180, 0, 56, 180, 0, 129]
abbrev dktX1_writeVotes_4 : List UInt8 := dkwX1_writeVotes_4 ++ dktX1_writeVotes_5
def dkwX1_writeVotes_3 : List UInt8 := [182, 1, 229, 158, 0, 13, 42, 180, 0, 39, 16, 32, 182, 0, 125, 87, 42, 180, 0, 39, 25, 5]
abbrev dktX1_writeVotes_3 : List UInt8 := dkwX1_writeVotes_3 ++ dktX1_writeVotes_4
def dkwX1_writeVotes_2 : List UInt8 := [185, 1, 135, 2, 0, 192, 0, 231, 58, 5, 25, 5, 199, 0, 6, 167, 0, 83, 42, 180, 0, 39]
abbrev dktX1_writeVotes_2 : List UInt8 := dkwX1_writeVotes_2 ++ dktX1_writeVotes_3
def dkwX1_writeVotes_1 : List UInt8 := [182, 0, 68, 162, 0, 121, 45, 180, 0, 205, 187, 1, 11, 89, 21, 4, 28, 183, 1, 133]
abbrev dktX1_writeVotes_1 : List UInt8 := dkwX1_writeVotes_1 ++ dktX1_writeVotes_2
def dkwX1_writeVotes_0 : List UInt8 := [42, 27, 28, 182, 1, 117, 78, 42, 180, 0, 39, 3, 182, 1, 213, 3, 54, 4, 21, 4, 42, 180, 0, 56]
abbrev dktX1_writeVotes_0 : List UInt8 := dkwX1_writeVotes_0 ++ dktX1_writeVotes_1
theorem dksX1_writeVotes_0 : cX1_writeVotes.data.toList.drop 0 = dktX1_writeVotes_0 := by decide +kernel
theorem dksX1_writeVotes_1 : cX1_writeVotes.data.toList.drop 24 = dktX1_writeVotes_1 := dk_seg dksX1_writeVotes_0 24 rfl rfl
theorem dksX1_writeVotes_2 : cX1_writeVotes.data.toList.drop 44 = dktX1_writeVotes_2 := dk_seg dksX1_writeVotes_1 20 rfl rfl
theorem dksX1_writeVotes_3 : cX1_writeVotes.data.toList.drop 66 = dktX1_writeVotes_3 := dk_seg dksX1_writeVotes_2 22 rfl rfl
theorem dksX1_writeVotes_4 : cX1_writeVotes.data.toList.drop 88 = dktX1_writeVotes_4 := dk_seg dksX1_writeVotes_3 22 rfl rfl
theorem dksX1_writeVotes_5 : cX1_writeVotes.data.toList.drop 111 = dktX1_writeVotes_5 := dk_seg dksX1_writeVotes_4 23 rfl rfl
theorem dksX1_writeVotes_6 : cX1_writeVotes.data.toList.drop 135 = dktX1_writeVotes_6 := dk_seg dksX1_writeVotes_5 24 rfl rfl
theorem dX1_writeVotes_0 : decode cX1_writeVotes 0 = .ok (.aload_n 0, 1) := dk_42 (dk_at dksX1_writeVotes_0 0 rfl rfl)
theorem dX1_writeVotes_1 : decode cX1_writeVotes 1 = .ok (.iload_n 1, 1) := dk_27 (dk_at dksX1_writeVotes_0 1 rfl rfl)
theorem dX1_writeVotes_2 : decode cX1_writeVotes 2 = .ok (.iload_n 2, 1) := dk_28 (dk_at dksX1_writeVotes_0 2 rfl rfl)
theorem dX1_writeVotes_3 : decode cX1_writeVotes 3 = .ok (.invokevirtual 373, 3) := dk_182 1 117 (dk_at dksX1_writeVotes_0 3 rfl rfl)
theorem dX1_writeVotes_6 : decode cX1_writeVotes 6 = .ok (.astore_n 3, 1) := dk_78 (dk_at dksX1_writeVotes_0 6 rfl rfl)
theorem dX1_writeVotes_7 : decode cX1_writeVotes 7 = .ok (.aload_n 0, 1) := dk_42 (dk_at dksX1_writeVotes_0 7 rfl rfl)
theorem dX1_writeVotes_8 : decode cX1_writeVotes 8 = .ok (.getfield 39, 3) := dk_180 0 39 (dk_at dksX1_writeVotes_0 8 rfl rfl)
theorem dX1_writeVotes_11 : decode cX1_writeVotes 11 = .ok (.iconst 0, 1) := dk_3 (dk_at dksX1_writeVotes_0 11 rfl rfl)
theorem dX1_writeVotes_12 : decode cX1_writeVotes 12 = .ok (.invokevirtual 469, 3) := dk_182 1 213 (dk_at dksX1_writeVotes_0 12 rfl rfl)
theorem dX1_writeVotes_15 : decode cX1_writeVotes 15 = .ok (.iconst 0, 1) := dk_3 (dk_at dksX1_writeVotes_0 15 rfl rfl)
theorem dX1_writeVotes_16 : decode cX1_writeVotes 16 = .ok (.istore 4, 2) := dk_54 4 (dk_at dksX1_writeVotes_0 16 rfl rfl)
theorem dX1_writeVotes_18 : decode cX1_writeVotes 18 = .ok (.iload 4, 2) := dk_21 4 (dk_at dksX1_writeVotes_0 18 rfl rfl)
theorem dX1_writeVotes_20 : decode cX1_writeVotes 20 = .ok (.aload_n 0, 1) := dk_42 (dk_at dksX1_writeVotes_0 20 rfl rfl)
theorem dX1_writeVotes_21 : decode cX1_writeVotes 21 = .ok (.getfield 56, 3) := dk_180 0 56 (dk_at dksX1_writeVotes_0 21 rfl rfl)
theorem dX1_writeVotes_24 : decode cX1_writeVotes 24 = .ok (.invokevirtual 68, 3) := dk_182 0 68 (dk_at dksX1_writeVotes_1 0 rfl rfl)
theorem dX1_writeVotes_27 : decode cX1_writeVotes 27 = .ok (.if_icmp .ge 121, 3) := dk_162 0 121 (dk_at dksX1_writeVotes_1 3 rfl rfl)
theorem dX1_writeVotes_30 : decode cX1_writeVotes 30 = .ok (.aload_n 3, 1) := dk_45 (dk_at dksX1_writeVotes_1 6 rfl rfl)
theorem dX1_writeVotes_31 : decode cX1_writeVotes 31 = .ok (.getfield 205, 3) := dk_180 0 205 (dk_at dksX1_writeVotes_1 7 rfl rfl)
theorem dX1_writeVotes_34 : decode cX1_writeVotes 34 = .ok (.new 267, 3) := dk_187 1 11 (dk_at dksX1_writeVotes_1 10 rfl rfl)
theorem dX1_writeVotes_37 : decode cX1_writeVotes 37 = .ok (.dup, 1) := dk_89 (dk_at dksX1_writeVotes_1 13 rfl rfl)
theorem dX1_writeVotes_38 : decode cX1_writeVotes 38 = .ok (.iload 4, 2) := dk_21 4 (dk_at dksX1_writeVotes_1 14 rfl rfl)
theorem dX1_writeVotes_40 : decode cX1_writeVotes 40 = .ok (.iload_n 2, 1) := dk_28 (dk_at dksX1_writeVotes_1 16 rfl rfl)
theorem dX1_writeVotes_41 : decode cX1_writeVotes 41 = .ok (.invokespecial 389, 3) := dk_183 1 133 (dk_at dksX1_writeVotes_1 17 rfl rfl)
theorem dX1_writeVotes_44 : decode cX1_writeVotes 44 = .ok (.invokeinterface 391 2, 5) := by decide +kernel
theorem dX1_writeVotes_49 : decode cX1_writeVotes 49 = .ok (.checkcast 231, 3) := dk_192 0 231 (dk_at dksX1_writeVotes_2 5 rfl rfl)
theorem dX1_writeVotes_52 : decode cX1_writeVotes 52 = .ok (.astore 5, 2) := dk_58 5 (dk_at dksX1_writeVotes_2 8 rfl rfl)
theorem dX1_writeVotes_54 : decode cX1_writeVotes 54 = .ok (.aload 5, 2) := dk_25 5 (dk_at dksX1_writeVotes_2 10 rfl rfl)
theorem dX1_writeVotes_56 : decode cX1_writeVotes 56 = .ok (.ifnonnull 6, 3) := dk_199 0 6 (dk_at dksX1_writeVotes_2 12 rfl rfl)
theorem dX1_writeVotes_59 : decode cX1_writeVotes 59 = .ok (.goto 83, 3) := dk_167 0 83 (dk_at dksX1_writeVotes_2 15 rfl rfl)
theorem dX1_writeVotes_62 : decode cX1_writeVotes 62 = .ok (.aload_n 0, 1) := dk_42 (dk_at dksX1_writeVotes_2 18 rfl rfl)
theorem dX1_writeVotes_63 : decode cX1_writeVotes 63 = .ok (.getfield 39, 3) := dk_180 0 39 (dk_at dksX1_writeVotes_2 19 rfl rfl)
theorem dX1_writeVotes_66 : decode cX1_writeVotes 66 = .ok (.invokevirtual 485, 3) := dk_182 1 229 (dk_at dksX1_writeVotes_3 0 rfl rfl)
theorem dX1_writeVotes_69 : decode cX1_writeVotes 69 = .ok (.ifCond .le 13, 3) := dk_158 0 13 (dk_at dksX1_writeVotes_3 3 rfl rfl)
theorem dX1_writeVotes_72 : decode cX1_writeVotes 72 = .ok (.aload_n 0, 1) := dk_42 (dk_at dksX1_writeVotes_3 6 rfl rfl)
theorem dX1_writeVotes_73 : decode cX1_writeVotes 73 = .ok (.getfield 39, 3) := dk_180 0 39 (dk_at dksX1_writeVotes_3 7 rfl rfl)
theorem dX1_writeVotes_76 : decode cX1_writeVotes 76 = .ok (.bipush 32, 2) := dk_16 32 (dk_at dksX1_writeVotes_3 10 rfl rfl)
theorem dX1_writeVotes_78 : decode cX1_writeVotes 78 = .ok (.invokevirtual 125, 3) := dk_182 0 125 (dk_at dksX1_writeVotes_3 12 rfl rfl)
theorem dX1_writeVotes_81 : decode cX1_writeVotes 81 = .ok (.pop, 1) := dk_87 (dk_at dksX1_writeVotes_3 15 rfl rfl)
theorem dX1_writeVotes_82 : decode cX1_writeVotes 82 = .ok (.aload_n 0, 1) := dk_42 (dk_at dksX1_writeVotes_3 16 rfl rfl)
theorem dX1_writeVotes_83 : decode cX1_writeVotes 83 = .ok (.getfield 39, 3) := dk_180 0 39 (dk_at dksX1_writeVotes_3 17 rfl rfl)
theorem dX1_writeVotes_86 : decode cX1_writeVotes 86 = .ok (.aload 5, 2) := dk_25 5 (dk_at dksX1_writeVotes_3 20 rfl rfl)
theorem dX1_writeVotes_88 : decode cX1_writeVotes 88 = .ok (.getfield 233, 3) := dk_180 0 233 (dk_at dksX1_writeVotes_4 0 rfl rfl)
theorem dX1_writeVotes_91 : decode cX1_writeVotes 91 = .ok (.ifCond .eq 8, 3) := dk_153 0 8 (dk_at dksX1_writeVotes_4 3 rfl rfl)
theorem dX1_writeVotes_94 : decode cX1_writeVotes 94 = .ok (.bipush 114, 2) := dk_16 114 (dk_at dksX1_writeVotes_4 6 rfl rfl)
theorem dX1_writeVotes_96 : decode cX1_writeVotes 96 = .ok (.goto 5, 3) := dk_167 0 5 (dk_at dksX1_writeVotes_4 8 rfl rfl)
theorem dX1_writeVotes_99 : decode cX1_writeVotes 99 = .ok (.bipush 103, 2) := dk_16 103 (dk_at dksX1_writeVotes_4 11 rfl rfl)
theorem dX1_writeVotes_101 : decode cX1_writeVotes 101 = .ok (.invokevirtual 125, 3) := dk_182 0 125 (dk_at dksX1_writeVotes_4 13 rfl rfl)
theorem dX1_writeVotes_104 : decode cX1_writeVotes 104 = .ok (.aload_n 0, 1) := dk_42 (dk_at dksX1_writeVotes_4 16 rfl rfl)
theorem dX1_writeVotes_105 : decode cX1_writeVotes 105 = .ok (.getfield 56, 3) := dk_180 0 56 (dk_at dksX1_writeVotes_4 17 rfl rfl)
theorem dX1_writeVotes_108 : decode cX1_writeVotes 108 = .ok (.getfield 129, 3) := dk_180 0 129 (dk_at dksX1_writeVotes_4 20 rfl rfl)
theorem dX1_writeVotes_111 : decode cX1_writeVotes 111 = .ok (.getfield 138, 3) := dk_180 0 138 (dk_at dksX1_writeVotes_5 0 rfl rfl)
theorem dX1_writeVotes_114 : decode cX1_writeVotes 114 = .ok (.iload 4, 2) := dk_21 4 (dk_at dksX1_writeVotes_5 3 rfl rfl)
theorem dX1_writeVotes_116 : decode cX1_writeVotes 116 = .ok (.invokevirtual 472, 3) := dk_182 1 216 (dk_at dksX1_writeVotes_5 5 rfl rfl)
theorem dX1_writeVotes_119 : decode cX1_writeVotes 119 = .ok (.checkcast 321, 3) := dk_192 1 65 (dk_at dksX1_writeVotes_5 8 rfl rfl)
theorem dX1_writeVotes_122 : decode cX1_writeVotes 122 = .ok (.getfield 475, 3) := dk_180 1 219 (dk_at dksX1_writeVotes_5 11 rfl rfl)
theorem dX1_writeVotes_125 : decode cX1_writeVotes 125 = .ok (.invokevirtual 479, 3) := dk_182 1 223 (dk_at dksX1_writeVotes_5 14 rfl rfl)
theorem dX1_writeVotes_128 : decode cX1_writeVotes 128 = .ok (.bipush 64, 2) := dk_16 64 (dk_at dksX1_writeVotes_5 17 rfl rfl)
theorem dX1_writeVotes_130 : decode cX1_writeVotes 130 = .ok (.invokevirtual 125, 3) := dk_182 0 125 (dk_at dksX1_writeVotes_5 19 rfl rfl)
theorem dX1_writeVotes_133 : decode cX1_writeVotes 133 = .ok (.aload 5, 2) := dk_25 5 (dk_at dksX1_writeVotes_5 22 rfl rfl)
theorem dX1_writeVotes_135 : decode cX1_writeVotes 135 = .ok (.getfield 394, 3) := dk_180 1 138 (dk_at dksX1_writeVotes_6 0 rfl rfl)
theorem dX1_writeVotes_138 : decode cX1_writeVotes 138 = .ok (.invokevirtual 488, 3) := dk_182 1 232 (dk_at dksX1_writeVotes_6 3 rfl rfl)
theorem dX1_writeVotes_141 : decode cX1_writeVotes 141 = .ok (.pop, 1) := dk_87 (dk_at dksX1_writeVotes_6 6 rfl rfl)
theorem dX1_writeVotes_142 : decode cX1_writeVotes 142 = .ok (.iinc 4 1, 3) := dk_132 4 1 (dk_at dksX1_writeVotes_6 7 rfl rfl)
theorem dX1_writeVotes_145 : decode cX1_writeVotes 145 = .ok (.goto (-127), 3) := dk_167 255 129 (dk_at dksX1_writeVotes_6 10 rfl rfl)
theorem dX1_writeVotes_148 : decode cX1_writeVotes 148 = .ok (.aload_n 0, 1) := dk_42 (dk_at dksX1_writeVotes_6 13 rfl rfl)
theorem dX1_writeVotes_149 : decode cX1_writeVotes 149 = .ok (.getfield 39, 3) := dk_180 0 39 (dk_at dksX1_writeVotes_6 14 rfl rfl)
theorem dX1_writeVotes_152 : decode cX1_writeVotes 152 = .ok (.invokevirtual 485, 3) := dk_182 1 229 (dk_at dksX1_writeVotes_6 17 rfl rfl)
theorem dX1_writeVotes_155 : decode cX1_writeVotes 155 = .ok (.ireturn, 1) := dk_172 (dk_at dksX1_writeVotes_6 20 rfl rfl)
abbrev cX1_writeView : ByteArray := prog_1_method_75_code
def yX1_writeView : MethodName := ⟨RX1, "writeView", "()I"⟩
def dkwX1_writeView_3 : List UInt8 := [184, 0, 182, 182, 1, 232, 87, 132, 2, 1, 167, 255, 190, 42, 180, 0, 39, 182, 1, 229, 172]
abbrev dktX1_writeView_3 : List UInt8 := dkwX1_writeView_3 ++ []
def dkwX1_writeView_2 : List UInt8 := [28, 182, 1, 216, 192, 1, 65, 180, 1, 219, 182, 1, 223, 16, 61, 182, 0, 125, 43, 28, 182, 0, 197]
abbrev dktX1_writeView_2 : List UInt8 := dkwX1_writeView_2 ++ dktX1_writeView_3
def dkwX1_writeView_1 : List UInt8 := [158, 0, 13, 42, 180, 0, 39, 16, 44, 182, 0, 125, 87, 42, 180, 0, 39, 43, 180, 0, 129, 180, 0, 138]
abbrev dktX1_writeView_1 : List UInt8 := dkwX1_writeView_1 ++ dktX1_writeView_2
def dkwX1_writeView_0 : List UInt8 := [42, 182, 0, 64, 76, 42, 180, 0, 39, 3, 182, 1, 213, 3, 61, 28, 43, 182, 0, 68, 162, 0, 64, 28]
abbrev dktX1_writeView_0 : List UInt8 := dkwX1_writeView_0 ++ dktX1_writeView_1
theorem dksX1_writeView_0 : cX1_writeView.data.toList.drop 0 = dktX1_writeView_0 := by decide +kernel
theorem dksX1_writeView_1 : cX1_writeView.data.toList.drop 24 = dktX1_writeView_1 := dk_seg dksX1_writeView_0 24 rfl rfl
theorem dksX1_writeView_2 : cX1_writeView.data.toList.drop 48 = dktX1_writeView_2 := dk_seg dksX1_writeView_1 24 rfl rfl
theorem dksX1_writeView_3 : cX1_writeView.data.toList.drop 71 = dktX1_writeView_3 := dk_seg dksX1_writeView_2 23 rfl rfl
theorem dX1_writeView_0 : decode cX1_writeView 0 = .ok (.aload_n 0, 1) := dk_42 (dk_at dksX1_writeView_0 0 rfl rfl)
theorem dX1_writeView_1 : decode cX1_writeView 1 = .ok (.invokevirtual 64, 3) := dk_182 0 64 (dk_at dksX1_writeView_0 1 rfl rfl)
theorem dX1_writeView_4 : decode cX1_writeView 4 = .ok (.astore_n 1, 1) := dk_76 (dk_at dksX1_writeView_0 4 rfl rfl)
theorem dX1_writeView_5 : decode cX1_writeView 5 = .ok (.aload_n 0, 1) := dk_42 (dk_at dksX1_writeView_0 5 rfl rfl)
theorem dX1_writeView_6 : decode cX1_writeView 6 = .ok (.getfield 39, 3) := dk_180 0 39 (dk_at dksX1_writeView_0 6 rfl rfl)
theorem dX1_writeView_9 : decode cX1_writeView 9 = .ok (.iconst 0, 1) := dk_3 (dk_at dksX1_writeView_0 9 rfl rfl)
theorem dX1_writeView_10 : decode cX1_writeView 10 = .ok (.invokevirtual 469, 3) := dk_182 1 213 (dk_at dksX1_writeView_0 10 rfl rfl)
theorem dX1_writeView_13 : decode cX1_writeView 13 = .ok (.iconst 0, 1) := dk_3 (dk_at dksX1_writeView_0 13 rfl rfl)
theorem dX1_writeView_14 : decode cX1_writeView 14 = .ok (.istore_n 2, 1) := dk_61 (dk_at dksX1_writeView_0 14 rfl rfl)
theorem dX1_writeView_15 : decode cX1_writeView 15 = .ok (.iload_n 2, 1) := dk_28 (dk_at dksX1_writeView_0 15 rfl rfl)
theorem dX1_writeView_16 : decode cX1_writeView 16 = .ok (.aload_n 1, 1) := dk_43 (dk_at dksX1_writeView_0 16 rfl rfl)
theorem dX1_writeView_17 : decode cX1_writeView 17 = .ok (.invokevirtual 68, 3) := dk_182 0 68 (dk_at dksX1_writeView_0 17 rfl rfl)
theorem dX1_writeView_20 : decode cX1_writeView 20 = .ok (.if_icmp .ge 64, 3) := dk_162 0 64 (dk_at dksX1_writeView_0 20 rfl rfl)
theorem dX1_writeView_23 : decode cX1_writeView 23 = .ok (.iload_n 2, 1) := dk_28 (dk_at dksX1_writeView_0 23 rfl rfl)
theorem dX1_writeView_24 : decode cX1_writeView 24 = .ok (.ifCond .le 13, 3) := dk_158 0 13 (dk_at dksX1_writeView_1 0 rfl rfl)
theorem dX1_writeView_27 : decode cX1_writeView 27 = .ok (.aload_n 0, 1) := dk_42 (dk_at dksX1_writeView_1 3 rfl rfl)
theorem dX1_writeView_28 : decode cX1_writeView 28 = .ok (.getfield 39, 3) := dk_180 0 39 (dk_at dksX1_writeView_1 4 rfl rfl)
theorem dX1_writeView_31 : decode cX1_writeView 31 = .ok (.bipush 44, 2) := dk_16 44 (dk_at dksX1_writeView_1 7 rfl rfl)
theorem dX1_writeView_33 : decode cX1_writeView 33 = .ok (.invokevirtual 125, 3) := dk_182 0 125 (dk_at dksX1_writeView_1 9 rfl rfl)
theorem dX1_writeView_36 : decode cX1_writeView 36 = .ok (.pop, 1) := dk_87 (dk_at dksX1_writeView_1 12 rfl rfl)
theorem dX1_writeView_37 : decode cX1_writeView 37 = .ok (.aload_n 0, 1) := dk_42 (dk_at dksX1_writeView_1 13 rfl rfl)
theorem dX1_writeView_38 : decode cX1_writeView 38 = .ok (.getfield 39, 3) := dk_180 0 39 (dk_at dksX1_writeView_1 14 rfl rfl)
theorem dX1_writeView_41 : decode cX1_writeView 41 = .ok (.aload_n 1, 1) := dk_43 (dk_at dksX1_writeView_1 17 rfl rfl)
theorem dX1_writeView_42 : decode cX1_writeView 42 = .ok (.getfield 129, 3) := dk_180 0 129 (dk_at dksX1_writeView_1 18 rfl rfl)
theorem dX1_writeView_45 : decode cX1_writeView 45 = .ok (.getfield 138, 3) := dk_180 0 138 (dk_at dksX1_writeView_1 21 rfl rfl)
theorem dX1_writeView_48 : decode cX1_writeView 48 = .ok (.iload_n 2, 1) := dk_28 (dk_at dksX1_writeView_2 0 rfl rfl)
theorem dX1_writeView_49 : decode cX1_writeView 49 = .ok (.invokevirtual 472, 3) := dk_182 1 216 (dk_at dksX1_writeView_2 1 rfl rfl)
theorem dX1_writeView_52 : decode cX1_writeView 52 = .ok (.checkcast 321, 3) := dk_192 1 65 (dk_at dksX1_writeView_2 4 rfl rfl)
theorem dX1_writeView_55 : decode cX1_writeView 55 = .ok (.getfield 475, 3) := dk_180 1 219 (dk_at dksX1_writeView_2 7 rfl rfl)
theorem dX1_writeView_58 : decode cX1_writeView 58 = .ok (.invokevirtual 479, 3) := dk_182 1 223 (dk_at dksX1_writeView_2 10 rfl rfl)
theorem dX1_writeView_61 : decode cX1_writeView 61 = .ok (.bipush 61, 2) := dk_16 61 (dk_at dksX1_writeView_2 13 rfl rfl)
theorem dX1_writeView_63 : decode cX1_writeView 63 = .ok (.invokevirtual 125, 3) := dk_182 0 125 (dk_at dksX1_writeView_2 15 rfl rfl)
theorem dX1_writeView_66 : decode cX1_writeView 66 = .ok (.aload_n 1, 1) := dk_43 (dk_at dksX1_writeView_2 18 rfl rfl)
theorem dX1_writeView_67 : decode cX1_writeView 67 = .ok (.iload_n 2, 1) := dk_28 (dk_at dksX1_writeView_2 19 rfl rfl)
theorem dX1_writeView_68 : decode cX1_writeView 68 = .ok (.invokevirtual 197, 3) := dk_182 0 197 (dk_at dksX1_writeView_2 20 rfl rfl)
theorem dX1_writeView_71 : decode cX1_writeView 71 = .ok (.invokestatic 182, 3) := dk_184 0 182 (dk_at dksX1_writeView_3 0 rfl rfl)
theorem dX1_writeView_74 : decode cX1_writeView 74 = .ok (.invokevirtual 488, 3) := dk_182 1 232 (dk_at dksX1_writeView_3 3 rfl rfl)
theorem dX1_writeView_77 : decode cX1_writeView 77 = .ok (.pop, 1) := dk_87 (dk_at dksX1_writeView_3 6 rfl rfl)
theorem dX1_writeView_78 : decode cX1_writeView 78 = .ok (.iinc 2 1, 3) := dk_132 2 1 (dk_at dksX1_writeView_3 7 rfl rfl)
theorem dX1_writeView_81 : decode cX1_writeView 81 = .ok (.goto (-66), 3) := dk_167 255 190 (dk_at dksX1_writeView_3 10 rfl rfl)
theorem dX1_writeView_84 : decode cX1_writeView 84 = .ok (.aload_n 0, 1) := dk_42 (dk_at dksX1_writeView_3 13 rfl rfl)
theorem dX1_writeView_85 : decode cX1_writeView 85 = .ok (.getfield 39, 3) := dk_180 0 39 (dk_at dksX1_writeView_3 14 rfl rfl)
theorem dX1_writeView_88 : decode cX1_writeView 88 = .ok (.invokevirtual 485, 3) := dk_182 1 229 (dk_at dksX1_writeView_3 17 rfl rfl)
theorem dX1_writeView_91 : decode cX1_writeView 91 = .ok (.ireturn, 1) := dk_172 (dk_at dksX1_writeView_3 20 rfl rfl)
abbrev cX1_textByte : ByteArray := prog_1_method_76_code
def yX1_textByte : MethodName := ⟨RX1, "textByte", "(I)I"⟩
def dkwX1_textByte_0 : List UInt8 := [27, 42, 180, 0, 39, 182, 1, 229, 184, 0, 72, 42, 180, 0, 39, 27, 182, 1, 235, 172]
abbrev dktX1_textByte_0 : List UInt8 := dkwX1_textByte_0 ++ []
theorem dksX1_textByte_0 : cX1_textByte.data.toList.drop 0 = dktX1_textByte_0 := by decide +kernel
theorem dX1_textByte_0 : decode cX1_textByte 0 = .ok (.iload_n 1, 1) := dk_27 (dk_at dksX1_textByte_0 0 rfl rfl)
theorem dX1_textByte_1 : decode cX1_textByte 1 = .ok (.aload_n 0, 1) := dk_42 (dk_at dksX1_textByte_0 1 rfl rfl)
theorem dX1_textByte_2 : decode cX1_textByte 2 = .ok (.getfield 39, 3) := dk_180 0 39 (dk_at dksX1_textByte_0 2 rfl rfl)
theorem dX1_textByte_5 : decode cX1_textByte 5 = .ok (.invokevirtual 485, 3) := dk_182 1 229 (dk_at dksX1_textByte_0 5 rfl rfl)
theorem dX1_textByte_8 : decode cX1_textByte 8 = .ok (.invokestatic 72, 3) := dk_184 0 72 (dk_at dksX1_textByte_0 8 rfl rfl)
theorem dX1_textByte_11 : decode cX1_textByte 11 = .ok (.aload_n 0, 1) := dk_42 (dk_at dksX1_textByte_0 11 rfl rfl)
theorem dX1_textByte_12 : decode cX1_textByte 12 = .ok (.getfield 39, 3) := dk_180 0 39 (dk_at dksX1_textByte_0 12 rfl rfl)
theorem dX1_textByte_15 : decode cX1_textByte 15 = .ok (.iload_n 1, 1) := dk_27 (dk_at dksX1_textByte_0 15 rfl rfl)
theorem dX1_textByte_16 : decode cX1_textByte 16 = .ok (.invokevirtual 491, 3) := dk_182 1 235 (dk_at dksX1_textByte_0 16 rfl rfl)
theorem dX1_textByte_19 : decode cX1_textByte 19 = .ok (.ireturn, 1) := dk_172 (dk_at dksX1_textByte_0 19 rfl rfl)
abbrev cX1_tick : ByteArray := prog_1_method_78_code
def yX1_tick : MethodName := ⟨RX1, "tick", "(I)I"⟩
def dkwX1_tick_2 : List UInt8 := [182, 1, 246, 27, 182, 1, 199, 58, 4, 25, 4, 180, 0, 164, 25, 4, 180, 0, 167, 96, 29, 100, 172]
abbrev dktX1_tick_2 : List UInt8 := dkwX1_tick_2 ++ []
def dkwX1_tick_1 : List UInt8 := [163, 0, 7, 4, 167, 0, 4, 3, 184, 0, 237, 44, 180, 0, 164, 44, 180, 0, 167, 96, 62, 42]
abbrev dktX1_tick_1 : List UInt8 := dkwX1_tick_1 ++ dktX1_tick_2
def dkwX1_tick_0 : List UInt8 := [42, 182, 0, 64, 77, 27, 4, 16, 100, 184, 0, 46, 153, 0, 19, 44, 180, 0, 155, 27, 96, 17, 19, 136]
abbrev dktX1_tick_0 : List UInt8 := dkwX1_tick_0 ++ dktX1_tick_1
theorem dksX1_tick_0 : cX1_tick.data.toList.drop 0 = dktX1_tick_0 := by decide +kernel
theorem dksX1_tick_1 : cX1_tick.data.toList.drop 24 = dktX1_tick_1 := dk_seg dksX1_tick_0 24 rfl rfl
theorem dksX1_tick_2 : cX1_tick.data.toList.drop 46 = dktX1_tick_2 := dk_seg dksX1_tick_1 22 rfl rfl
theorem dX1_tick_0 : decode cX1_tick 0 = .ok (.aload_n 0, 1) := dk_42 (dk_at dksX1_tick_0 0 rfl rfl)
theorem dX1_tick_1 : decode cX1_tick 1 = .ok (.invokevirtual 64, 3) := dk_182 0 64 (dk_at dksX1_tick_0 1 rfl rfl)
theorem dX1_tick_4 : decode cX1_tick 4 = .ok (.astore_n 2, 1) := dk_77 (dk_at dksX1_tick_0 4 rfl rfl)
theorem dX1_tick_5 : decode cX1_tick 5 = .ok (.iload_n 1, 1) := dk_27 (dk_at dksX1_tick_0 5 rfl rfl)
theorem dX1_tick_6 : decode cX1_tick 6 = .ok (.iconst 1, 1) := dk_4 (dk_at dksX1_tick_0 6 rfl rfl)
theorem dX1_tick_7 : decode cX1_tick 7 = .ok (.bipush 100, 2) := dk_16 100 (dk_at dksX1_tick_0 7 rfl rfl)
theorem dX1_tick_9 : decode cX1_tick 9 = .ok (.invokestatic 46, 3) := dk_184 0 46 (dk_at dksX1_tick_0 9 rfl rfl)
theorem dX1_tick_12 : decode cX1_tick 12 = .ok (.ifCond .eq 19, 3) := dk_153 0 19 (dk_at dksX1_tick_0 12 rfl rfl)
theorem dX1_tick_15 : decode cX1_tick 15 = .ok (.aload_n 2, 1) := dk_44 (dk_at dksX1_tick_0 15 rfl rfl)
theorem dX1_tick_16 : decode cX1_tick 16 = .ok (.getfield 155, 3) := dk_180 0 155 (dk_at dksX1_tick_0 16 rfl rfl)
theorem dX1_tick_19 : decode cX1_tick 19 = .ok (.iload_n 1, 1) := dk_27 (dk_at dksX1_tick_0 19 rfl rfl)
theorem dX1_tick_20 : decode cX1_tick 20 = .ok (.iadd, 1) := dk_96 (dk_at dksX1_tick_0 20 rfl rfl)
theorem dX1_tick_21 : decode cX1_tick 21 = .ok (.sipush 5000, 3) := dk_17 19 136 (dk_at dksX1_tick_0 21 rfl rfl)
theorem dX1_tick_24 : decode cX1_tick 24 = .ok (.if_icmp .gt 7, 3) := dk_163 0 7 (dk_at dksX1_tick_1 0 rfl rfl)
theorem dX1_tick_27 : decode cX1_tick 27 = .ok (.iconst 1, 1) := dk_4 (dk_at dksX1_tick_1 3 rfl rfl)
theorem dX1_tick_28 : decode cX1_tick 28 = .ok (.goto 4, 3) := dk_167 0 4 (dk_at dksX1_tick_1 4 rfl rfl)
theorem dX1_tick_31 : decode cX1_tick 31 = .ok (.iconst 0, 1) := dk_3 (dk_at dksX1_tick_1 7 rfl rfl)
theorem dX1_tick_32 : decode cX1_tick 32 = .ok (.invokestatic 237, 3) := dk_184 0 237 (dk_at dksX1_tick_1 8 rfl rfl)
theorem dX1_tick_35 : decode cX1_tick 35 = .ok (.aload_n 2, 1) := dk_44 (dk_at dksX1_tick_1 11 rfl rfl)
theorem dX1_tick_36 : decode cX1_tick 36 = .ok (.getfield 164, 3) := dk_180 0 164 (dk_at dksX1_tick_1 12 rfl rfl)
theorem dX1_tick_39 : decode cX1_tick 39 = .ok (.aload_n 2, 1) := dk_44 (dk_at dksX1_tick_1 15 rfl rfl)
theorem dX1_tick_40 : decode cX1_tick 40 = .ok (.getfield 167, 3) := dk_180 0 167 (dk_at dksX1_tick_1 16 rfl rfl)
theorem dX1_tick_43 : decode cX1_tick 43 = .ok (.iadd, 1) := dk_96 (dk_at dksX1_tick_1 19 rfl rfl)
theorem dX1_tick_44 : decode cX1_tick 44 = .ok (.istore_n 3, 1) := dk_62 (dk_at dksX1_tick_1 20 rfl rfl)
theorem dX1_tick_45 : decode cX1_tick 45 = .ok (.aload_n 0, 1) := dk_42 (dk_at dksX1_tick_1 21 rfl rfl)
theorem dX1_tick_46 : decode cX1_tick 46 = .ok (.invokevirtual 502, 3) := dk_182 1 246 (dk_at dksX1_tick_2 0 rfl rfl)
theorem dX1_tick_49 : decode cX1_tick 49 = .ok (.iload_n 1, 1) := dk_27 (dk_at dksX1_tick_2 3 rfl rfl)
theorem dX1_tick_50 : decode cX1_tick 50 = .ok (.invokevirtual 455, 3) := dk_182 1 199 (dk_at dksX1_tick_2 4 rfl rfl)
theorem dX1_tick_53 : decode cX1_tick 53 = .ok (.astore 4, 2) := dk_58 4 (dk_at dksX1_tick_2 7 rfl rfl)
theorem dX1_tick_55 : decode cX1_tick 55 = .ok (.aload 4, 2) := dk_25 4 (dk_at dksX1_tick_2 9 rfl rfl)
theorem dX1_tick_57 : decode cX1_tick 57 = .ok (.getfield 164, 3) := dk_180 0 164 (dk_at dksX1_tick_2 11 rfl rfl)
theorem dX1_tick_60 : decode cX1_tick 60 = .ok (.aload 4, 2) := dk_25 4 (dk_at dksX1_tick_2 14 rfl rfl)
theorem dX1_tick_62 : decode cX1_tick 62 = .ok (.getfield 167, 3) := dk_180 0 167 (dk_at dksX1_tick_2 16 rfl rfl)
theorem dX1_tick_65 : decode cX1_tick 65 = .ok (.iadd, 1) := dk_96 (dk_at dksX1_tick_2 19 rfl rfl)
theorem dX1_tick_66 : decode cX1_tick 66 = .ok (.iload_n 3, 1) := dk_29 (dk_at dksX1_tick_2 20 rfl rfl)
theorem dX1_tick_67 : decode cX1_tick 67 = .ok (.isub, 1) := dk_100 (dk_at dksX1_tick_2 21 rfl rfl)
theorem dX1_tick_68 : decode cX1_tick 68 = .ok (.ireturn, 1) := dk_172 (dk_at dksX1_tick_2 22 rfl rfl)
abbrev cX1_change : ByteArray := prog_1_method_77_code
def yX1_change : MethodName := ⟨RX1, "change", "()LFlareSlopes$State;"⟩
def dkwX1_change_2 : List UInt8 := [180, 0, 56, 176]
abbrev dktX1_change_2 : List UInt8 := dkwX1_change_2 ++ []
def dkwX1_change_1 : List UInt8 := [42, 180, 0, 56, 182, 1, 242, 42, 187, 0, 30, 89, 42, 180, 0, 56, 183, 1, 186, 181, 0, 56, 42]
abbrev dktX1_change_1 : List UInt8 := dkwX1_change_1 ++ dktX1_change_2
def dkwX1_change_0 : List UInt8 := [42, 180, 0, 26, 182, 1, 177, 16, 8, 160, 0, 11, 42, 180, 0, 26, 182, 1, 239, 87, 42, 180, 0, 26]
abbrev dktX1_change_0 : List UInt8 := dkwX1_change_0 ++ dktX1_change_1
theorem dksX1_change_0 : cX1_change.data.toList.drop 0 = dktX1_change_0 := by decide +kernel
theorem dksX1_change_1 : cX1_change.data.toList.drop 24 = dktX1_change_1 := dk_seg dksX1_change_0 24 rfl rfl
theorem dksX1_change_2 : cX1_change.data.toList.drop 47 = dktX1_change_2 := dk_seg dksX1_change_1 23 rfl rfl
theorem dX1_change_0 : decode cX1_change 0 = .ok (.aload_n 0, 1) := dk_42 (dk_at dksX1_change_0 0 rfl rfl)
theorem dX1_change_1 : decode cX1_change 1 = .ok (.getfield 26, 3) := dk_180 0 26 (dk_at dksX1_change_0 1 rfl rfl)
theorem dX1_change_4 : decode cX1_change 4 = .ok (.invokevirtual 433, 3) := dk_182 1 177 (dk_at dksX1_change_0 4 rfl rfl)
theorem dX1_change_7 : decode cX1_change 7 = .ok (.bipush 8, 2) := dk_16 8 (dk_at dksX1_change_0 7 rfl rfl)
theorem dX1_change_9 : decode cX1_change 9 = .ok (.if_icmp .ne 11, 3) := dk_160 0 11 (dk_at dksX1_change_0 9 rfl rfl)
theorem dX1_change_12 : decode cX1_change 12 = .ok (.aload_n 0, 1) := dk_42 (dk_at dksX1_change_0 12 rfl rfl)
theorem dX1_change_13 : decode cX1_change 13 = .ok (.getfield 26, 3) := dk_180 0 26 (dk_at dksX1_change_0 13 rfl rfl)
theorem dX1_change_16 : decode cX1_change 16 = .ok (.invokevirtual 495, 3) := dk_182 1 239 (dk_at dksX1_change_0 16 rfl rfl)
theorem dX1_change_19 : decode cX1_change 19 = .ok (.pop, 1) := dk_87 (dk_at dksX1_change_0 19 rfl rfl)
theorem dX1_change_20 : decode cX1_change 20 = .ok (.aload_n 0, 1) := dk_42 (dk_at dksX1_change_0 20 rfl rfl)
theorem dX1_change_21 : decode cX1_change 21 = .ok (.getfield 26, 3) := dk_180 0 26 (dk_at dksX1_change_0 21 rfl rfl)
theorem dX1_change_24 : decode cX1_change 24 = .ok (.aload_n 0, 1) := dk_42 (dk_at dksX1_change_1 0 rfl rfl)
theorem dX1_change_25 : decode cX1_change 25 = .ok (.getfield 56, 3) := dk_180 0 56 (dk_at dksX1_change_1 1 rfl rfl)
theorem dX1_change_28 : decode cX1_change 28 = .ok (.invokevirtual 498, 3) := dk_182 1 242 (dk_at dksX1_change_1 4 rfl rfl)
theorem dX1_change_31 : decode cX1_change 31 = .ok (.aload_n 0, 1) := dk_42 (dk_at dksX1_change_1 7 rfl rfl)
theorem dX1_change_32 : decode cX1_change 32 = .ok (.new 30, 3) := dk_187 0 30 (dk_at dksX1_change_1 8 rfl rfl)
theorem dX1_change_35 : decode cX1_change 35 = .ok (.dup, 1) := dk_89 (dk_at dksX1_change_1 11 rfl rfl)
theorem dX1_change_36 : decode cX1_change 36 = .ok (.aload_n 0, 1) := dk_42 (dk_at dksX1_change_1 12 rfl rfl)
theorem dX1_change_37 : decode cX1_change 37 = .ok (.getfield 56, 3) := dk_180 0 56 (dk_at dksX1_change_1 13 rfl rfl)
theorem dX1_change_40 : decode cX1_change 40 = .ok (.invokespecial 442, 3) := dk_183 1 186 (dk_at dksX1_change_1 16 rfl rfl)
theorem dX1_change_43 : decode cX1_change 43 = .ok (.putfield 56, 3) := dk_181 0 56 (dk_at dksX1_change_1 19 rfl rfl)
theorem dX1_change_46 : decode cX1_change 46 = .ok (.aload_n 0, 1) := dk_42 (dk_at dksX1_change_1 22 rfl rfl)
theorem dX1_change_47 : decode cX1_change 47 = .ok (.getfield 56, 3) := dk_180 0 56 (dk_at dksX1_change_2 0 rfl rfl)
theorem dX1_change_50 : decode cX1_change 50 = .ok (.areturn, 1) := dk_176 (dk_at dksX1_change_2 3 rfl rfl)
abbrev cX1_flare : ByteArray := prog_1_method_79_code
def yX1_flare : MethodName := ⟨RX1, "flare", "(IIZ)I"⟩
def dkwX1_flare_4 : List UInt8 := [182, 1, 203, 172]
abbrev dktX1_flare_4 : List UInt8 := dkwX1_flare_4 ++ []
def dkwX1_flare_3 : List UInt8 := [180, 0, 155, 181, 1, 35, 25, 5, 89, 180, 0, 158, 4, 96, 181, 0, 158, 25, 5, 27, 28, 29]
abbrev dktX1_flare_3 : List UInt8 := dkwX1_flare_3 ++ dktX1_flare_4
def dkwX1_flare_2 : List UInt8 := [25, 5, 27, 182, 0, 76, 89, 180, 0, 200, 4, 100, 181, 0, 200, 25, 5, 27, 182, 0, 76, 25, 5]
abbrev dktX1_flare_2 : List UInt8 := dkwX1_flare_2 ++ dktX1_flare_3
def dkwX1_flare_1 : List UInt8 := [180, 0, 56, 180, 0, 155, 159, 0, 7, 4, 167, 0, 4, 3, 184, 0, 237, 42, 182, 1, 246, 58, 5]
abbrev dktX1_flare_1 : List UInt8 := dkwX1_flare_1 ++ dktX1_flare_2
def dkwX1_flare_0 : List UInt8 := [42, 27, 28, 182, 1, 117, 58, 4, 25, 4, 180, 0, 200, 158, 0, 22, 25, 4, 180, 1, 35, 42]
abbrev dktX1_flare_0 : List UInt8 := dkwX1_flare_0 ++ dktX1_flare_1
theorem dksX1_flare_0 : cX1_flare.data.toList.drop 0 = dktX1_flare_0 := by decide +kernel
theorem dksX1_flare_1 : cX1_flare.data.toList.drop 22 = dktX1_flare_1 := dk_seg dksX1_flare_0 22 rfl rfl
theorem dksX1_flare_2 : cX1_flare.data.toList.drop 45 = dktX1_flare_2 := dk_seg dksX1_flare_1 23 rfl rfl
theorem dksX1_flare_3 : cX1_flare.data.toList.drop 68 = dktX1_flare_3 := dk_seg dksX1_flare_2 23 rfl rfl
theorem dksX1_flare_4 : cX1_flare.data.toList.drop 90 = dktX1_flare_4 := dk_seg dksX1_flare_3 22 rfl rfl
theorem dX1_flare_0 : decode cX1_flare 0 = .ok (.aload_n 0, 1) := dk_42 (dk_at dksX1_flare_0 0 rfl rfl)
theorem dX1_flare_1 : decode cX1_flare 1 = .ok (.iload_n 1, 1) := dk_27 (dk_at dksX1_flare_0 1 rfl rfl)
theorem dX1_flare_2 : decode cX1_flare 2 = .ok (.iload_n 2, 1) := dk_28 (dk_at dksX1_flare_0 2 rfl rfl)
theorem dX1_flare_3 : decode cX1_flare 3 = .ok (.invokevirtual 373, 3) := dk_182 1 117 (dk_at dksX1_flare_0 3 rfl rfl)
theorem dX1_flare_6 : decode cX1_flare 6 = .ok (.astore 4, 2) := dk_58 4 (dk_at dksX1_flare_0 6 rfl rfl)
theorem dX1_flare_8 : decode cX1_flare 8 = .ok (.aload 4, 2) := dk_25 4 (dk_at dksX1_flare_0 8 rfl rfl)
theorem dX1_flare_10 : decode cX1_flare 10 = .ok (.getfield 200, 3) := dk_180 0 200 (dk_at dksX1_flare_0 10 rfl rfl)
theorem dX1_flare_13 : decode cX1_flare 13 = .ok (.ifCond .le 22, 3) := dk_158 0 22 (dk_at dksX1_flare_0 13 rfl rfl)
theorem dX1_flare_16 : decode cX1_flare 16 = .ok (.aload 4, 2) := dk_25 4 (dk_at dksX1_flare_0 16 rfl rfl)
theorem dX1_flare_18 : decode cX1_flare 18 = .ok (.getfield 291, 3) := dk_180 1 35 (dk_at dksX1_flare_0 18 rfl rfl)
theorem dX1_flare_21 : decode cX1_flare 21 = .ok (.aload_n 0, 1) := dk_42 (dk_at dksX1_flare_0 21 rfl rfl)
theorem dX1_flare_22 : decode cX1_flare 22 = .ok (.getfield 56, 3) := dk_180 0 56 (dk_at dksX1_flare_1 0 rfl rfl)
theorem dX1_flare_25 : decode cX1_flare 25 = .ok (.getfield 155, 3) := dk_180 0 155 (dk_at dksX1_flare_1 3 rfl rfl)
theorem dX1_flare_28 : decode cX1_flare 28 = .ok (.if_icmp .eq 7, 3) := dk_159 0 7 (dk_at dksX1_flare_1 6 rfl rfl)
theorem dX1_flare_31 : decode cX1_flare 31 = .ok (.iconst 1, 1) := dk_4 (dk_at dksX1_flare_1 9 rfl rfl)
theorem dX1_flare_32 : decode cX1_flare 32 = .ok (.goto 4, 3) := dk_167 0 4 (dk_at dksX1_flare_1 10 rfl rfl)
theorem dX1_flare_35 : decode cX1_flare 35 = .ok (.iconst 0, 1) := dk_3 (dk_at dksX1_flare_1 13 rfl rfl)
theorem dX1_flare_36 : decode cX1_flare 36 = .ok (.invokestatic 237, 3) := dk_184 0 237 (dk_at dksX1_flare_1 14 rfl rfl)
theorem dX1_flare_39 : decode cX1_flare 39 = .ok (.aload_n 0, 1) := dk_42 (dk_at dksX1_flare_1 17 rfl rfl)
theorem dX1_flare_40 : decode cX1_flare 40 = .ok (.invokevirtual 502, 3) := dk_182 1 246 (dk_at dksX1_flare_1 18 rfl rfl)
theorem dX1_flare_43 : decode cX1_flare 43 = .ok (.astore 5, 2) := dk_58 5 (dk_at dksX1_flare_1 21 rfl rfl)
theorem dX1_flare_45 : decode cX1_flare 45 = .ok (.aload 5, 2) := dk_25 5 (dk_at dksX1_flare_2 0 rfl rfl)
theorem dX1_flare_47 : decode cX1_flare 47 = .ok (.iload_n 1, 1) := dk_27 (dk_at dksX1_flare_2 2 rfl rfl)
theorem dX1_flare_48 : decode cX1_flare 48 = .ok (.invokevirtual 76, 3) := dk_182 0 76 (dk_at dksX1_flare_2 3 rfl rfl)
theorem dX1_flare_51 : decode cX1_flare 51 = .ok (.dup, 1) := dk_89 (dk_at dksX1_flare_2 6 rfl rfl)
theorem dX1_flare_52 : decode cX1_flare 52 = .ok (.getfield 200, 3) := dk_180 0 200 (dk_at dksX1_flare_2 7 rfl rfl)
theorem dX1_flare_55 : decode cX1_flare 55 = .ok (.iconst 1, 1) := dk_4 (dk_at dksX1_flare_2 10 rfl rfl)
theorem dX1_flare_56 : decode cX1_flare 56 = .ok (.isub, 1) := dk_100 (dk_at dksX1_flare_2 11 rfl rfl)
theorem dX1_flare_57 : decode cX1_flare 57 = .ok (.putfield 200, 3) := dk_181 0 200 (dk_at dksX1_flare_2 12 rfl rfl)
theorem dX1_flare_60 : decode cX1_flare 60 = .ok (.aload 5, 2) := dk_25 5 (dk_at dksX1_flare_2 15 rfl rfl)
theorem dX1_flare_62 : decode cX1_flare 62 = .ok (.iload_n 1, 1) := dk_27 (dk_at dksX1_flare_2 17 rfl rfl)
theorem dX1_flare_63 : decode cX1_flare 63 = .ok (.invokevirtual 76, 3) := dk_182 0 76 (dk_at dksX1_flare_2 18 rfl rfl)
theorem dX1_flare_66 : decode cX1_flare 66 = .ok (.aload 5, 2) := dk_25 5 (dk_at dksX1_flare_2 21 rfl rfl)
theorem dX1_flare_68 : decode cX1_flare 68 = .ok (.getfield 155, 3) := dk_180 0 155 (dk_at dksX1_flare_3 0 rfl rfl)
theorem dX1_flare_71 : decode cX1_flare 71 = .ok (.putfield 291, 3) := dk_181 1 35 (dk_at dksX1_flare_3 3 rfl rfl)
theorem dX1_flare_74 : decode cX1_flare 74 = .ok (.aload 5, 2) := dk_25 5 (dk_at dksX1_flare_3 6 rfl rfl)
theorem dX1_flare_76 : decode cX1_flare 76 = .ok (.dup, 1) := dk_89 (dk_at dksX1_flare_3 8 rfl rfl)
theorem dX1_flare_77 : decode cX1_flare 77 = .ok (.getfield 158, 3) := dk_180 0 158 (dk_at dksX1_flare_3 9 rfl rfl)
theorem dX1_flare_80 : decode cX1_flare 80 = .ok (.iconst 1, 1) := dk_4 (dk_at dksX1_flare_3 12 rfl rfl)
theorem dX1_flare_81 : decode cX1_flare 81 = .ok (.iadd, 1) := dk_96 (dk_at dksX1_flare_3 13 rfl rfl)
theorem dX1_flare_82 : decode cX1_flare 82 = .ok (.putfield 158, 3) := dk_181 0 158 (dk_at dksX1_flare_3 14 rfl rfl)
theorem dX1_flare_85 : decode cX1_flare 85 = .ok (.aload 5, 2) := dk_25 5 (dk_at dksX1_flare_3 17 rfl rfl)
theorem dX1_flare_87 : decode cX1_flare 87 = .ok (.iload_n 1, 1) := dk_27 (dk_at dksX1_flare_3 19 rfl rfl)
theorem dX1_flare_88 : decode cX1_flare 88 = .ok (.iload_n 2, 1) := dk_28 (dk_at dksX1_flare_3 20 rfl rfl)
theorem dX1_flare_89 : decode cX1_flare 89 = .ok (.iload_n 3, 1) := dk_29 (dk_at dksX1_flare_3 21 rfl rfl)
theorem dX1_flare_90 : decode cX1_flare 90 = .ok (.invokevirtual 459, 3) := dk_182 1 203 (dk_at dksX1_flare_4 0 rfl rfl)
theorem dX1_flare_93 : decode cX1_flare 93 = .ok (.ireturn, 1) := dk_172 (dk_at dksX1_flare_4 3 rfl rfl)
abbrev cX1_inspect : ByteArray := prog_1_method_80_code
def yX1_inspect : MethodName := ⟨RX1, "inspect", "(II)I"⟩
def dkwX1_inspect_1 : List UInt8 := [28, 182, 1, 249, 172]
abbrev dktX1_inspect_1 : List UInt8 := dkwX1_inspect_1 ++ []
def dkwX1_inspect_0 : List UInt8 := [42, 27, 28, 182, 1, 117, 78, 42, 180, 0, 56, 27, 28, 182, 0, 253, 184, 0, 237, 42, 182, 1, 246, 27]
abbrev dktX1_inspect_0 : List UInt8 := dkwX1_inspect_0 ++ dktX1_inspect_1
theorem dksX1_inspect_0 : cX1_inspect.data.toList.drop 0 = dktX1_inspect_0 := by decide +kernel
theorem dksX1_inspect_1 : cX1_inspect.data.toList.drop 24 = dktX1_inspect_1 := dk_seg dksX1_inspect_0 24 rfl rfl
theorem dX1_inspect_0 : decode cX1_inspect 0 = .ok (.aload_n 0, 1) := dk_42 (dk_at dksX1_inspect_0 0 rfl rfl)
theorem dX1_inspect_1 : decode cX1_inspect 1 = .ok (.iload_n 1, 1) := dk_27 (dk_at dksX1_inspect_0 1 rfl rfl)
theorem dX1_inspect_2 : decode cX1_inspect 2 = .ok (.iload_n 2, 1) := dk_28 (dk_at dksX1_inspect_0 2 rfl rfl)
theorem dX1_inspect_3 : decode cX1_inspect 3 = .ok (.invokevirtual 373, 3) := dk_182 1 117 (dk_at dksX1_inspect_0 3 rfl rfl)
theorem dX1_inspect_6 : decode cX1_inspect 6 = .ok (.astore_n 3, 1) := dk_78 (dk_at dksX1_inspect_0 6 rfl rfl)
theorem dX1_inspect_7 : decode cX1_inspect 7 = .ok (.aload_n 0, 1) := dk_42 (dk_at dksX1_inspect_0 7 rfl rfl)
theorem dX1_inspect_8 : decode cX1_inspect 8 = .ok (.getfield 56, 3) := dk_180 0 56 (dk_at dksX1_inspect_0 8 rfl rfl)
theorem dX1_inspect_11 : decode cX1_inspect 11 = .ok (.iload_n 1, 1) := dk_27 (dk_at dksX1_inspect_0 11 rfl rfl)
theorem dX1_inspect_12 : decode cX1_inspect 12 = .ok (.iload_n 2, 1) := dk_28 (dk_at dksX1_inspect_0 12 rfl rfl)
theorem dX1_inspect_13 : decode cX1_inspect 13 = .ok (.invokevirtual 253, 3) := dk_182 0 253 (dk_at dksX1_inspect_0 13 rfl rfl)
theorem dX1_inspect_16 : decode cX1_inspect 16 = .ok (.invokestatic 237, 3) := dk_184 0 237 (dk_at dksX1_inspect_0 16 rfl rfl)
theorem dX1_inspect_19 : decode cX1_inspect 19 = .ok (.aload_n 0, 1) := dk_42 (dk_at dksX1_inspect_0 19 rfl rfl)
theorem dX1_inspect_20 : decode cX1_inspect 20 = .ok (.invokevirtual 502, 3) := dk_182 1 246 (dk_at dksX1_inspect_0 20 rfl rfl)
theorem dX1_inspect_23 : decode cX1_inspect 23 = .ok (.iload_n 1, 1) := dk_27 (dk_at dksX1_inspect_0 23 rfl rfl)
theorem dX1_inspect_24 : decode cX1_inspect 24 = .ok (.iload_n 2, 1) := dk_28 (dk_at dksX1_inspect_1 0 rfl rfl)
theorem dX1_inspect_25 : decode cX1_inspect 25 = .ok (.invokevirtual 505, 3) := dk_182 1 249 (dk_at dksX1_inspect_1 1 rfl rfl)
theorem dX1_inspect_28 : decode cX1_inspect 28 = .ok (.ireturn, 1) := dk_172 (dk_at dksX1_inspect_1 4 rfl rfl)
abbrev cX1_danger : ByteArray := prog_1_method_81_code
def yX1_danger : MethodName := ⟨RX1, "danger", "(IZ)Z"⟩
def dkwX1_danger_2 : List UInt8 := [2, 130, 126, 181, 0, 179, 21, 4, 172]
abbrev dktX1_danger_2 : List UInt8 := dkwX1_danger_2 ++ []
def dkwX1_danger_1 : List UInt8 := [28, 153, 0, 15, 25, 5, 180, 0, 179, 4, 27, 120, 128, 167, 0, 14, 25, 5, 180, 0, 179, 4, 27, 120]
abbrev dktX1_danger_1 : List UInt8 := dkwX1_danger_1 ++ dktX1_danger_2
def dkwX1_danger_0 : List UInt8 := [42, 27, 182, 1, 61, 78, 42, 180, 0, 56, 27, 182, 1, 69, 54, 4, 42, 182, 1, 246, 58, 5, 25, 5]
abbrev dktX1_danger_0 : List UInt8 := dkwX1_danger_0 ++ dktX1_danger_1
theorem dksX1_danger_0 : cX1_danger.data.toList.drop 0 = dktX1_danger_0 := by decide +kernel
theorem dksX1_danger_1 : cX1_danger.data.toList.drop 24 = dktX1_danger_1 := dk_seg dksX1_danger_0 24 rfl rfl
theorem dksX1_danger_2 : cX1_danger.data.toList.drop 48 = dktX1_danger_2 := dk_seg dksX1_danger_1 24 rfl rfl
theorem dX1_danger_0 : decode cX1_danger 0 = .ok (.aload_n 0, 1) := dk_42 (dk_at dksX1_danger_0 0 rfl rfl)
theorem dX1_danger_1 : decode cX1_danger 1 = .ok (.iload_n 1, 1) := dk_27 (dk_at dksX1_danger_0 1 rfl rfl)
theorem dX1_danger_2 : decode cX1_danger 2 = .ok (.invokevirtual 317, 3) := dk_182 1 61 (dk_at dksX1_danger_0 2 rfl rfl)
theorem dX1_danger_5 : decode cX1_danger 5 = .ok (.astore_n 3, 1) := dk_78 (dk_at dksX1_danger_0 5 rfl rfl)
theorem dX1_danger_6 : decode cX1_danger 6 = .ok (.aload_n 0, 1) := dk_42 (dk_at dksX1_danger_0 6 rfl rfl)
theorem dX1_danger_7 : decode cX1_danger 7 = .ok (.getfield 56, 3) := dk_180 0 56 (dk_at dksX1_danger_0 7 rfl rfl)
theorem dX1_danger_10 : decode cX1_danger 10 = .ok (.iload_n 1, 1) := dk_27 (dk_at dksX1_danger_0 10 rfl rfl)
theorem dX1_danger_11 : decode cX1_danger 11 = .ok (.invokevirtual 325, 3) := dk_182 1 69 (dk_at dksX1_danger_0 11 rfl rfl)
theorem dX1_danger_14 : decode cX1_danger 14 = .ok (.istore 4, 2) := dk_54 4 (dk_at dksX1_danger_0 14 rfl rfl)
theorem dX1_danger_16 : decode cX1_danger 16 = .ok (.aload_n 0, 1) := dk_42 (dk_at dksX1_danger_0 16 rfl rfl)
theorem dX1_danger_17 : decode cX1_danger 17 = .ok (.invokevirtual 502, 3) := dk_182 1 246 (dk_at dksX1_danger_0 17 rfl rfl)
theorem dX1_danger_20 : decode cX1_danger 20 = .ok (.astore 5, 2) := dk_58 5 (dk_at dksX1_danger_0 20 rfl rfl)
theorem dX1_danger_22 : decode cX1_danger 22 = .ok (.aload 5, 2) := dk_25 5 (dk_at dksX1_danger_0 22 rfl rfl)
theorem dX1_danger_24 : decode cX1_danger 24 = .ok (.iload_n 2, 1) := dk_28 (dk_at dksX1_danger_1 0 rfl rfl)
theorem dX1_danger_25 : decode cX1_danger 25 = .ok (.ifCond .eq 15, 3) := dk_153 0 15 (dk_at dksX1_danger_1 1 rfl rfl)
theorem dX1_danger_28 : decode cX1_danger 28 = .ok (.aload 5, 2) := dk_25 5 (dk_at dksX1_danger_1 4 rfl rfl)
theorem dX1_danger_30 : decode cX1_danger 30 = .ok (.getfield 179, 3) := dk_180 0 179 (dk_at dksX1_danger_1 6 rfl rfl)
theorem dX1_danger_33 : decode cX1_danger 33 = .ok (.iconst 1, 1) := dk_4 (dk_at dksX1_danger_1 9 rfl rfl)
theorem dX1_danger_34 : decode cX1_danger 34 = .ok (.iload_n 1, 1) := dk_27 (dk_at dksX1_danger_1 10 rfl rfl)
theorem dX1_danger_35 : decode cX1_danger 35 = .ok (.ishl, 1) := dk_120 (dk_at dksX1_danger_1 11 rfl rfl)
theorem dX1_danger_36 : decode cX1_danger 36 = .ok (.ior, 1) := dk_128 (dk_at dksX1_danger_1 12 rfl rfl)
theorem dX1_danger_37 : decode cX1_danger 37 = .ok (.goto 14, 3) := dk_167 0 14 (dk_at dksX1_danger_1 13 rfl rfl)
theorem dX1_danger_40 : decode cX1_danger 40 = .ok (.aload 5, 2) := dk_25 5 (dk_at dksX1_danger_1 16 rfl rfl)
theorem dX1_danger_42 : decode cX1_danger 42 = .ok (.getfield 179, 3) := dk_180 0 179 (dk_at dksX1_danger_1 18 rfl rfl)
theorem dX1_danger_45 : decode cX1_danger 45 = .ok (.iconst 1, 1) := dk_4 (dk_at dksX1_danger_1 21 rfl rfl)
theorem dX1_danger_46 : decode cX1_danger 46 = .ok (.iload_n 1, 1) := dk_27 (dk_at dksX1_danger_1 22 rfl rfl)
theorem dX1_danger_47 : decode cX1_danger 47 = .ok (.ishl, 1) := dk_120 (dk_at dksX1_danger_1 23 rfl rfl)
theorem dX1_danger_48 : decode cX1_danger 48 = .ok (.iconst (-1), 1) := dk_2 (dk_at dksX1_danger_2 0 rfl rfl)
theorem dX1_danger_49 : decode cX1_danger 49 = .ok (.ixor, 1) := dk_130 (dk_at dksX1_danger_2 1 rfl rfl)
theorem dX1_danger_50 : decode cX1_danger 50 = .ok (.iand, 1) := dk_126 (dk_at dksX1_danger_2 2 rfl rfl)
theorem dX1_danger_51 : decode cX1_danger 51 = .ok (.putfield 179, 3) := dk_181 0 179 (dk_at dksX1_danger_2 3 rfl rfl)
theorem dX1_danger_54 : decode cX1_danger 54 = .ok (.iload 4, 2) := dk_21 4 (dk_at dksX1_danger_2 6 rfl rfl)
theorem dX1_danger_56 : decode cX1_danger 56 = .ok (.ireturn, 1) := dk_172 (dk_at dksX1_danger_2 8 rfl rfl)
abbrev cX1_issue : ByteArray := prog_1_method_82_code
def yX1_issue : MethodName := ⟨RX1, "issue", "(I)I"⟩
def dkwX1_issue_0 : List UInt8 := [42, 27, 182, 0, 87, 77, 42, 182, 1, 246, 78, 45, 27, 182, 1, 252, 45, 27, 182, 1, 210, 172]
abbrev dktX1_issue_0 : List UInt8 := dkwX1_issue_0 ++ []
theorem dksX1_issue_0 : cX1_issue.data.toList.drop 0 = dktX1_issue_0 := by decide +kernel
theorem dX1_issue_0 : decode cX1_issue 0 = .ok (.aload_n 0, 1) := dk_42 (dk_at dksX1_issue_0 0 rfl rfl)
theorem dX1_issue_1 : decode cX1_issue 1 = .ok (.iload_n 1, 1) := dk_27 (dk_at dksX1_issue_0 1 rfl rfl)
theorem dX1_issue_2 : decode cX1_issue 2 = .ok (.invokevirtual 87, 3) := dk_182 0 87 (dk_at dksX1_issue_0 2 rfl rfl)
theorem dX1_issue_5 : decode cX1_issue 5 = .ok (.astore_n 2, 1) := dk_77 (dk_at dksX1_issue_0 5 rfl rfl)
theorem dX1_issue_6 : decode cX1_issue 6 = .ok (.aload_n 0, 1) := dk_42 (dk_at dksX1_issue_0 6 rfl rfl)
theorem dX1_issue_7 : decode cX1_issue 7 = .ok (.invokevirtual 502, 3) := dk_182 1 246 (dk_at dksX1_issue_0 7 rfl rfl)
theorem dX1_issue_10 : decode cX1_issue 10 = .ok (.astore_n 3, 1) := dk_78 (dk_at dksX1_issue_0 10 rfl rfl)
theorem dX1_issue_11 : decode cX1_issue 11 = .ok (.aload_n 3, 1) := dk_45 (dk_at dksX1_issue_0 11 rfl rfl)
theorem dX1_issue_12 : decode cX1_issue 12 = .ok (.iload_n 1, 1) := dk_27 (dk_at dksX1_issue_0 12 rfl rfl)
theorem dX1_issue_13 : decode cX1_issue 13 = .ok (.invokevirtual 508, 3) := dk_182 1 252 (dk_at dksX1_issue_0 13 rfl rfl)
theorem dX1_issue_16 : decode cX1_issue 16 = .ok (.aload_n 3, 1) := dk_45 (dk_at dksX1_issue_0 16 rfl rfl)
theorem dX1_issue_17 : decode cX1_issue 17 = .ok (.iload_n 1, 1) := dk_27 (dk_at dksX1_issue_0 17 rfl rfl)
theorem dX1_issue_18 : decode cX1_issue 18 = .ok (.invokevirtual 466, 3) := dk_182 1 210 (dk_at dksX1_issue_0 18 rfl rfl)
theorem dX1_issue_21 : decode cX1_issue 21 = .ok (.ireturn, 1) := dk_172 (dk_at dksX1_issue_0 21 rfl rfl)
abbrev cX1_give : ByteArray := prog_1_method_83_code
def yX1_give : MethodName := ⟨RX1, "give", "(II)I"⟩
def dkwX1_give_2 : List UInt8 := [180, 0, 200, 28, 96, 181, 0, 200, 25, 4, 180, 0, 200, 172]
abbrev dktX1_give_2 : List UInt8 := dkwX1_give_2 ++ []
def dkwX1_give_1 : List UInt8 := [163, 0, 7, 4, 167, 0, 4, 3, 184, 0, 237, 42, 182, 1, 246, 27, 182, 0, 76, 58, 4, 25, 4, 89]
abbrev dktX1_give_1 : List UInt8 := dkwX1_give_1 ++ dktX1_give_2
def dkwX1_give_0 : List UInt8 := [42, 27, 182, 0, 87, 78, 28, 4, 16, 99, 184, 0, 46, 153, 0, 18, 45, 180, 0, 200, 28, 96, 16, 99]
abbrev dktX1_give_0 : List UInt8 := dkwX1_give_0 ++ dktX1_give_1
theorem dksX1_give_0 : cX1_give.data.toList.drop 0 = dktX1_give_0 := by decide +kernel
theorem dksX1_give_1 : cX1_give.data.toList.drop 24 = dktX1_give_1 := dk_seg dksX1_give_0 24 rfl rfl
theorem dksX1_give_2 : cX1_give.data.toList.drop 48 = dktX1_give_2 := dk_seg dksX1_give_1 24 rfl rfl
theorem dX1_give_0 : decode cX1_give 0 = .ok (.aload_n 0, 1) := dk_42 (dk_at dksX1_give_0 0 rfl rfl)
theorem dX1_give_1 : decode cX1_give 1 = .ok (.iload_n 1, 1) := dk_27 (dk_at dksX1_give_0 1 rfl rfl)
theorem dX1_give_2 : decode cX1_give 2 = .ok (.invokevirtual 87, 3) := dk_182 0 87 (dk_at dksX1_give_0 2 rfl rfl)
theorem dX1_give_5 : decode cX1_give 5 = .ok (.astore_n 3, 1) := dk_78 (dk_at dksX1_give_0 5 rfl rfl)
theorem dX1_give_6 : decode cX1_give 6 = .ok (.iload_n 2, 1) := dk_28 (dk_at dksX1_give_0 6 rfl rfl)
theorem dX1_give_7 : decode cX1_give 7 = .ok (.iconst 1, 1) := dk_4 (dk_at dksX1_give_0 7 rfl rfl)
theorem dX1_give_8 : decode cX1_give 8 = .ok (.bipush 99, 2) := dk_16 99 (dk_at dksX1_give_0 8 rfl rfl)
theorem dX1_give_10 : decode cX1_give 10 = .ok (.invokestatic 46, 3) := dk_184 0 46 (dk_at dksX1_give_0 10 rfl rfl)
theorem dX1_give_13 : decode cX1_give 13 = .ok (.ifCond .eq 18, 3) := dk_153 0 18 (dk_at dksX1_give_0 13 rfl rfl)
theorem dX1_give_16 : decode cX1_give 16 = .ok (.aload_n 3, 1) := dk_45 (dk_at dksX1_give_0 16 rfl rfl)
theorem dX1_give_17 : decode cX1_give 17 = .ok (.getfield 200, 3) := dk_180 0 200 (dk_at dksX1_give_0 17 rfl rfl)
theorem dX1_give_20 : decode cX1_give 20 = .ok (.iload_n 2, 1) := dk_28 (dk_at dksX1_give_0 20 rfl rfl)
theorem dX1_give_21 : decode cX1_give 21 = .ok (.iadd, 1) := dk_96 (dk_at dksX1_give_0 21 rfl rfl)
theorem dX1_give_22 : decode cX1_give 22 = .ok (.bipush 99, 2) := dk_16 99 (dk_at dksX1_give_0 22 rfl rfl)
theorem dX1_give_24 : decode cX1_give 24 = .ok (.if_icmp .gt 7, 3) := dk_163 0 7 (dk_at dksX1_give_1 0 rfl rfl)
theorem dX1_give_27 : decode cX1_give 27 = .ok (.iconst 1, 1) := dk_4 (dk_at dksX1_give_1 3 rfl rfl)
theorem dX1_give_28 : decode cX1_give 28 = .ok (.goto 4, 3) := dk_167 0 4 (dk_at dksX1_give_1 4 rfl rfl)
theorem dX1_give_31 : decode cX1_give 31 = .ok (.iconst 0, 1) := dk_3 (dk_at dksX1_give_1 7 rfl rfl)
theorem dX1_give_32 : decode cX1_give 32 = .ok (.invokestatic 237, 3) := dk_184 0 237 (dk_at dksX1_give_1 8 rfl rfl)
theorem dX1_give_35 : decode cX1_give 35 = .ok (.aload_n 0, 1) := dk_42 (dk_at dksX1_give_1 11 rfl rfl)
theorem dX1_give_36 : decode cX1_give 36 = .ok (.invokevirtual 502, 3) := dk_182 1 246 (dk_at dksX1_give_1 12 rfl rfl)
theorem dX1_give_39 : decode cX1_give 39 = .ok (.iload_n 1, 1) := dk_27 (dk_at dksX1_give_1 15 rfl rfl)
theorem dX1_give_40 : decode cX1_give 40 = .ok (.invokevirtual 76, 3) := dk_182 0 76 (dk_at dksX1_give_1 16 rfl rfl)
theorem dX1_give_43 : decode cX1_give 43 = .ok (.astore 4, 2) := dk_58 4 (dk_at dksX1_give_1 19 rfl rfl)
theorem dX1_give_45 : decode cX1_give 45 = .ok (.aload 4, 2) := dk_25 4 (dk_at dksX1_give_1 21 rfl rfl)
theorem dX1_give_47 : decode cX1_give 47 = .ok (.dup, 1) := dk_89 (dk_at dksX1_give_1 23 rfl rfl)
theorem dX1_give_48 : decode cX1_give 48 = .ok (.getfield 200, 3) := dk_180 0 200 (dk_at dksX1_give_2 0 rfl rfl)
theorem dX1_give_51 : decode cX1_give 51 = .ok (.iload_n 2, 1) := dk_28 (dk_at dksX1_give_2 3 rfl rfl)
theorem dX1_give_52 : decode cX1_give 52 = .ok (.iadd, 1) := dk_96 (dk_at dksX1_give_2 4 rfl rfl)
theorem dX1_give_53 : decode cX1_give 53 = .ok (.putfield 200, 3) := dk_181 0 200 (dk_at dksX1_give_2 5 rfl rfl)
theorem dX1_give_56 : decode cX1_give 56 = .ok (.aload 4, 2) := dk_25 4 (dk_at dksX1_give_2 8 rfl rfl)
theorem dX1_give_58 : decode cX1_give 58 = .ok (.getfield 200, 3) := dk_180 0 200 (dk_at dksX1_give_2 10 rfl rfl)
theorem dX1_give_61 : decode cX1_give 61 = .ok (.ireturn, 1) := dk_172 (dk_at dksX1_give_2 13 rfl rfl)
abbrev cX1_move : ByteArray := prog_1_method_84_code
def yX1_move : MethodName := ⟨RX1, "move", "(III)I"⟩
def dkwX1_move_2 : List UInt8 := [181, 1, 23, 25, 5, 29, 181, 1, 26, 16, 100, 25, 4, 180, 1, 23, 104, 25, 4, 180, 1, 26, 96, 172]
abbrev dktX1_move_2 : List UInt8 := dkwX1_move_2 ++ []
def dkwX1_move_1 : List UInt8 := [153, 0, 7, 4, 167, 0, 4, 3, 184, 0, 237, 42, 182, 1, 246, 27, 182, 0, 76, 58, 5, 25, 5, 28]
abbrev dktX1_move_1 : List UInt8 := dkwX1_move_1 ++ dktX1_move_2
def dkwX1_move_0 : List UInt8 := [42, 27, 182, 0, 87, 58, 4, 28, 3, 16, 99, 184, 0, 46, 153, 0, 17, 29, 3, 16, 99, 184, 0, 46]
abbrev dktX1_move_0 : List UInt8 := dkwX1_move_0 ++ dktX1_move_1
theorem dksX1_move_0 : cX1_move.data.toList.drop 0 = dktX1_move_0 := by decide +kernel
theorem dksX1_move_1 : cX1_move.data.toList.drop 24 = dktX1_move_1 := dk_seg dksX1_move_0 24 rfl rfl
theorem dksX1_move_2 : cX1_move.data.toList.drop 48 = dktX1_move_2 := dk_seg dksX1_move_1 24 rfl rfl
theorem dX1_move_0 : decode cX1_move 0 = .ok (.aload_n 0, 1) := dk_42 (dk_at dksX1_move_0 0 rfl rfl)
theorem dX1_move_1 : decode cX1_move 1 = .ok (.iload_n 1, 1) := dk_27 (dk_at dksX1_move_0 1 rfl rfl)
theorem dX1_move_2 : decode cX1_move 2 = .ok (.invokevirtual 87, 3) := dk_182 0 87 (dk_at dksX1_move_0 2 rfl rfl)
theorem dX1_move_5 : decode cX1_move 5 = .ok (.astore 4, 2) := dk_58 4 (dk_at dksX1_move_0 5 rfl rfl)
theorem dX1_move_7 : decode cX1_move 7 = .ok (.iload_n 2, 1) := dk_28 (dk_at dksX1_move_0 7 rfl rfl)
theorem dX1_move_8 : decode cX1_move 8 = .ok (.iconst 0, 1) := dk_3 (dk_at dksX1_move_0 8 rfl rfl)
theorem dX1_move_9 : decode cX1_move 9 = .ok (.bipush 99, 2) := dk_16 99 (dk_at dksX1_move_0 9 rfl rfl)
theorem dX1_move_11 : decode cX1_move 11 = .ok (.invokestatic 46, 3) := dk_184 0 46 (dk_at dksX1_move_0 11 rfl rfl)
theorem dX1_move_14 : decode cX1_move 14 = .ok (.ifCond .eq 17, 3) := dk_153 0 17 (dk_at dksX1_move_0 14 rfl rfl)
theorem dX1_move_17 : decode cX1_move 17 = .ok (.iload_n 3, 1) := dk_29 (dk_at dksX1_move_0 17 rfl rfl)
theorem dX1_move_18 : decode cX1_move 18 = .ok (.iconst 0, 1) := dk_3 (dk_at dksX1_move_0 18 rfl rfl)
theorem dX1_move_19 : decode cX1_move 19 = .ok (.bipush 99, 2) := dk_16 99 (dk_at dksX1_move_0 19 rfl rfl)
theorem dX1_move_21 : decode cX1_move 21 = .ok (.invokestatic 46, 3) := dk_184 0 46 (dk_at dksX1_move_0 21 rfl rfl)
theorem dX1_move_24 : decode cX1_move 24 = .ok (.ifCond .eq 7, 3) := dk_153 0 7 (dk_at dksX1_move_1 0 rfl rfl)
theorem dX1_move_27 : decode cX1_move 27 = .ok (.iconst 1, 1) := dk_4 (dk_at dksX1_move_1 3 rfl rfl)
theorem dX1_move_28 : decode cX1_move 28 = .ok (.goto 4, 3) := dk_167 0 4 (dk_at dksX1_move_1 4 rfl rfl)
theorem dX1_move_31 : decode cX1_move 31 = .ok (.iconst 0, 1) := dk_3 (dk_at dksX1_move_1 7 rfl rfl)
theorem dX1_move_32 : decode cX1_move 32 = .ok (.invokestatic 237, 3) := dk_184 0 237 (dk_at dksX1_move_1 8 rfl rfl)
theorem dX1_move_35 : decode cX1_move 35 = .ok (.aload_n 0, 1) := dk_42 (dk_at dksX1_move_1 11 rfl rfl)
theorem dX1_move_36 : decode cX1_move 36 = .ok (.invokevirtual 502, 3) := dk_182 1 246 (dk_at dksX1_move_1 12 rfl rfl)
theorem dX1_move_39 : decode cX1_move 39 = .ok (.iload_n 1, 1) := dk_27 (dk_at dksX1_move_1 15 rfl rfl)
theorem dX1_move_40 : decode cX1_move 40 = .ok (.invokevirtual 76, 3) := dk_182 0 76 (dk_at dksX1_move_1 16 rfl rfl)
theorem dX1_move_43 : decode cX1_move 43 = .ok (.astore 5, 2) := dk_58 5 (dk_at dksX1_move_1 19 rfl rfl)
theorem dX1_move_45 : decode cX1_move 45 = .ok (.aload 5, 2) := dk_25 5 (dk_at dksX1_move_1 21 rfl rfl)
theorem dX1_move_47 : decode cX1_move 47 = .ok (.iload_n 2, 1) := dk_28 (dk_at dksX1_move_1 23 rfl rfl)
theorem dX1_move_48 : decode cX1_move 48 = .ok (.putfield 279, 3) := dk_181 1 23 (dk_at dksX1_move_2 0 rfl rfl)
theorem dX1_move_51 : decode cX1_move 51 = .ok (.aload 5, 2) := dk_25 5 (dk_at dksX1_move_2 3 rfl rfl)
theorem dX1_move_53 : decode cX1_move 53 = .ok (.iload_n 3, 1) := dk_29 (dk_at dksX1_move_2 5 rfl rfl)
theorem dX1_move_54 : decode cX1_move 54 = .ok (.putfield 282, 3) := dk_181 1 26 (dk_at dksX1_move_2 6 rfl rfl)
theorem dX1_move_57 : decode cX1_move 57 = .ok (.bipush 100, 2) := dk_16 100 (dk_at dksX1_move_2 9 rfl rfl)
theorem dX1_move_59 : decode cX1_move 59 = .ok (.aload 4, 2) := dk_25 4 (dk_at dksX1_move_2 11 rfl rfl)
theorem dX1_move_61 : decode cX1_move 61 = .ok (.getfield 279, 3) := dk_180 1 23 (dk_at dksX1_move_2 13 rfl rfl)
theorem dX1_move_64 : decode cX1_move 64 = .ok (.imul, 1) := dk_104 (dk_at dksX1_move_2 16 rfl rfl)
theorem dX1_move_65 : decode cX1_move 65 = .ok (.aload 4, 2) := dk_25 4 (dk_at dksX1_move_2 17 rfl rfl)
theorem dX1_move_67 : decode cX1_move 67 = .ok (.getfield 282, 3) := dk_180 1 26 (dk_at dksX1_move_2 19 rfl rfl)
theorem dX1_move_70 : decode cX1_move 70 = .ok (.iadd, 1) := dk_96 (dk_at dksX1_move_2 22 rfl rfl)
theorem dX1_move_71 : decode cX1_move 71 = .ok (.ireturn, 1) := dk_172 (dk_at dksX1_move_2 23 rfl rfl)
abbrev cX1_trust : ByteArray := prog_1_method_85_code
def yX1_trust : MethodName := ⟨RX1, "trust", "(II)I"⟩
def dkwX1_trust_1 : List UInt8 := [182, 0, 76, 58, 4, 25, 4, 28, 182, 1, 255, 25, 4, 180, 1, 32, 172]
abbrev dktX1_trust_1 : List UInt8 := dkwX1_trust_1 ++ []
def dkwX1_trust_0 : List UInt8 := [42, 27, 182, 0, 87, 78, 28, 16, 156, 16, 100, 184, 0, 46, 184, 0, 237, 42, 182, 1, 246, 27]
abbrev dktX1_trust_0 : List UInt8 := dkwX1_trust_0 ++ dktX1_trust_1
theorem dksX1_trust_0 : cX1_trust.data.toList.drop 0 = dktX1_trust_0 := by decide +kernel
theorem dksX1_trust_1 : cX1_trust.data.toList.drop 22 = dktX1_trust_1 := dk_seg dksX1_trust_0 22 rfl rfl
theorem dX1_trust_0 : decode cX1_trust 0 = .ok (.aload_n 0, 1) := dk_42 (dk_at dksX1_trust_0 0 rfl rfl)
theorem dX1_trust_1 : decode cX1_trust 1 = .ok (.iload_n 1, 1) := dk_27 (dk_at dksX1_trust_0 1 rfl rfl)
theorem dX1_trust_2 : decode cX1_trust 2 = .ok (.invokevirtual 87, 3) := dk_182 0 87 (dk_at dksX1_trust_0 2 rfl rfl)
theorem dX1_trust_5 : decode cX1_trust 5 = .ok (.astore_n 3, 1) := dk_78 (dk_at dksX1_trust_0 5 rfl rfl)
theorem dX1_trust_6 : decode cX1_trust 6 = .ok (.iload_n 2, 1) := dk_28 (dk_at dksX1_trust_0 6 rfl rfl)
theorem dX1_trust_7 : decode cX1_trust 7 = .ok (.bipush (-100), 2) := dk_16 156 (dk_at dksX1_trust_0 7 rfl rfl)
theorem dX1_trust_9 : decode cX1_trust 9 = .ok (.bipush 100, 2) := dk_16 100 (dk_at dksX1_trust_0 9 rfl rfl)
theorem dX1_trust_11 : decode cX1_trust 11 = .ok (.invokestatic 46, 3) := dk_184 0 46 (dk_at dksX1_trust_0 11 rfl rfl)
theorem dX1_trust_14 : decode cX1_trust 14 = .ok (.invokestatic 237, 3) := dk_184 0 237 (dk_at dksX1_trust_0 14 rfl rfl)
theorem dX1_trust_17 : decode cX1_trust 17 = .ok (.aload_n 0, 1) := dk_42 (dk_at dksX1_trust_0 17 rfl rfl)
theorem dX1_trust_18 : decode cX1_trust 18 = .ok (.invokevirtual 502, 3) := dk_182 1 246 (dk_at dksX1_trust_0 18 rfl rfl)
theorem dX1_trust_21 : decode cX1_trust 21 = .ok (.iload_n 1, 1) := dk_27 (dk_at dksX1_trust_0 21 rfl rfl)
theorem dX1_trust_22 : decode cX1_trust 22 = .ok (.invokevirtual 76, 3) := dk_182 0 76 (dk_at dksX1_trust_1 0 rfl rfl)
theorem dX1_trust_25 : decode cX1_trust 25 = .ok (.astore 4, 2) := dk_58 4 (dk_at dksX1_trust_1 3 rfl rfl)
theorem dX1_trust_27 : decode cX1_trust 27 = .ok (.aload 4, 2) := dk_25 4 (dk_at dksX1_trust_1 5 rfl rfl)
theorem dX1_trust_29 : decode cX1_trust 29 = .ok (.iload_n 2, 1) := dk_28 (dk_at dksX1_trust_1 7 rfl rfl)
theorem dX1_trust_30 : decode cX1_trust 30 = .ok (.invokevirtual 511, 3) := dk_182 1 255 (dk_at dksX1_trust_1 8 rfl rfl)
theorem dX1_trust_33 : decode cX1_trust 33 = .ok (.aload 4, 2) := dk_25 4 (dk_at dksX1_trust_1 11 rfl rfl)
theorem dX1_trust_35 : decode cX1_trust 35 = .ok (.getfield 288, 3) := dk_180 1 32 (dk_at dksX1_trust_1 13 rfl rfl)
theorem dX1_trust_38 : decode cX1_trust 38 = .ok (.ireturn, 1) := dk_172 (dk_at dksX1_trust_1 16 rfl rfl)
abbrev cX1_forget : ByteArray := prog_1_method_86_code
def yX1_forget : MethodName := ⟨RX1, "forget", "(I)I"⟩
def dkwX1_forget_1 : List UInt8 := [44, 180, 0, 205, 185, 1, 39, 1, 0, 172]
abbrev dktX1_forget_1 : List UInt8 := dkwX1_forget_1 ++ []
def dkwX1_forget_0 : List UInt8 := [42, 27, 182, 0, 87, 77, 42, 182, 1, 246, 27, 182, 0, 76, 78, 45, 180, 0, 205, 185, 2, 2, 1, 0]
abbrev dktX1_forget_0 : List UInt8 := dkwX1_forget_0 ++ dktX1_forget_1
theorem dksX1_forget_0 : cX1_forget.data.toList.drop 0 = dktX1_forget_0 := by decide +kernel
theorem dksX1_forget_1 : cX1_forget.data.toList.drop 24 = dktX1_forget_1 := dk_seg dksX1_forget_0 24 rfl rfl
theorem dX1_forget_0 : decode cX1_forget 0 = .ok (.aload_n 0, 1) := dk_42 (dk_at dksX1_forget_0 0 rfl rfl)
theorem dX1_forget_1 : decode cX1_forget 1 = .ok (.iload_n 1, 1) := dk_27 (dk_at dksX1_forget_0 1 rfl rfl)
theorem dX1_forget_2 : decode cX1_forget 2 = .ok (.invokevirtual 87, 3) := dk_182 0 87 (dk_at dksX1_forget_0 2 rfl rfl)
theorem dX1_forget_5 : decode cX1_forget 5 = .ok (.astore_n 2, 1) := dk_77 (dk_at dksX1_forget_0 5 rfl rfl)
theorem dX1_forget_6 : decode cX1_forget 6 = .ok (.aload_n 0, 1) := dk_42 (dk_at dksX1_forget_0 6 rfl rfl)
theorem dX1_forget_7 : decode cX1_forget 7 = .ok (.invokevirtual 502, 3) := dk_182 1 246 (dk_at dksX1_forget_0 7 rfl rfl)
theorem dX1_forget_10 : decode cX1_forget 10 = .ok (.iload_n 1, 1) := dk_27 (dk_at dksX1_forget_0 10 rfl rfl)
theorem dX1_forget_11 : decode cX1_forget 11 = .ok (.invokevirtual 76, 3) := dk_182 0 76 (dk_at dksX1_forget_0 11 rfl rfl)
theorem dX1_forget_14 : decode cX1_forget 14 = .ok (.astore_n 3, 1) := dk_78 (dk_at dksX1_forget_0 14 rfl rfl)
theorem dX1_forget_15 : decode cX1_forget 15 = .ok (.aload_n 3, 1) := dk_45 (dk_at dksX1_forget_0 15 rfl rfl)
theorem dX1_forget_16 : decode cX1_forget 16 = .ok (.getfield 205, 3) := dk_180 0 205 (dk_at dksX1_forget_0 16 rfl rfl)
theorem dX1_forget_19 : decode cX1_forget 19 = .ok (.invokeinterface 514 1, 5) := by decide +kernel
theorem dX1_forget_24 : decode cX1_forget 24 = .ok (.aload_n 2, 1) := dk_44 (dk_at dksX1_forget_1 0 rfl rfl)
theorem dX1_forget_25 : decode cX1_forget 25 = .ok (.getfield 205, 3) := dk_180 0 205 (dk_at dksX1_forget_1 1 rfl rfl)
theorem dX1_forget_28 : decode cX1_forget 28 = .ok (.invokeinterface 295 1, 5) := by decide +kernel
theorem dX1_forget_33 : decode cX1_forget 33 = .ok (.ireturn, 1) := dk_172 (dk_at dksX1_forget_1 9 rfl rfl)
abbrev cX1_set : ByteArray := prog_1_method_87_code
def yX1_set : MethodName := ⟨RX1, "set", "(II)I"⟩
def dkwX1_set_2 : List UInt8 := [27, 28, 79, 45, 180, 0, 240, 27, 46, 172]
abbrev dktX1_set_2 : List UInt8 := dkwX1_set_2 ++ []
def dkwX1_set_1 : List UInt8 := [45, 180, 0, 240, 184, 2, 7, 184, 0, 46, 184, 0, 237, 42, 182, 1, 246, 58, 4, 25, 4, 180, 0, 240]
abbrev dktX1_set_1 : List UInt8 := dkwX1_set_1 ++ dktX1_set_2
def dkwX1_set_0 : List UInt8 := [42, 182, 0, 64, 78, 27, 3, 8, 184, 0, 46, 184, 0, 237, 28, 27, 45, 180, 0, 240, 184, 2, 3, 27]
abbrev dktX1_set_0 : List UInt8 := dkwX1_set_0 ++ dktX1_set_1
theorem dksX1_set_0 : cX1_set.data.toList.drop 0 = dktX1_set_0 := by decide +kernel
theorem dksX1_set_1 : cX1_set.data.toList.drop 24 = dktX1_set_1 := dk_seg dksX1_set_0 24 rfl rfl
theorem dksX1_set_2 : cX1_set.data.toList.drop 48 = dktX1_set_2 := dk_seg dksX1_set_1 24 rfl rfl
theorem dX1_set_0 : decode cX1_set 0 = .ok (.aload_n 0, 1) := dk_42 (dk_at dksX1_set_0 0 rfl rfl)
theorem dX1_set_1 : decode cX1_set 1 = .ok (.invokevirtual 64, 3) := dk_182 0 64 (dk_at dksX1_set_0 1 rfl rfl)
theorem dX1_set_4 : decode cX1_set 4 = .ok (.astore_n 3, 1) := dk_78 (dk_at dksX1_set_0 4 rfl rfl)
theorem dX1_set_5 : decode cX1_set 5 = .ok (.iload_n 1, 1) := dk_27 (dk_at dksX1_set_0 5 rfl rfl)
theorem dX1_set_6 : decode cX1_set 6 = .ok (.iconst 0, 1) := dk_3 (dk_at dksX1_set_0 6 rfl rfl)
theorem dX1_set_7 : decode cX1_set 7 = .ok (.iconst 5, 1) := dk_8 (dk_at dksX1_set_0 7 rfl rfl)
theorem dX1_set_8 : decode cX1_set 8 = .ok (.invokestatic 46, 3) := dk_184 0 46 (dk_at dksX1_set_0 8 rfl rfl)
theorem dX1_set_11 : decode cX1_set 11 = .ok (.invokestatic 237, 3) := dk_184 0 237 (dk_at dksX1_set_0 11 rfl rfl)
theorem dX1_set_14 : decode cX1_set 14 = .ok (.iload_n 2, 1) := dk_28 (dk_at dksX1_set_0 14 rfl rfl)
theorem dX1_set_15 : decode cX1_set 15 = .ok (.iload_n 1, 1) := dk_27 (dk_at dksX1_set_0 15 rfl rfl)
theorem dX1_set_16 : decode cX1_set 16 = .ok (.aload_n 3, 1) := dk_45 (dk_at dksX1_set_0 16 rfl rfl)
theorem dX1_set_17 : decode cX1_set 17 = .ok (.getfield 240, 3) := dk_180 0 240 (dk_at dksX1_set_0 17 rfl rfl)
theorem dX1_set_20 : decode cX1_set 20 = .ok (.invokestatic 515, 3) := dk_184 2 3 (dk_at dksX1_set_0 20 rfl rfl)
theorem dX1_set_23 : decode cX1_set 23 = .ok (.iload_n 1, 1) := dk_27 (dk_at dksX1_set_0 23 rfl rfl)
theorem dX1_set_24 : decode cX1_set 24 = .ok (.aload_n 3, 1) := dk_45 (dk_at dksX1_set_1 0 rfl rfl)
theorem dX1_set_25 : decode cX1_set 25 = .ok (.getfield 240, 3) := dk_180 0 240 (dk_at dksX1_set_1 1 rfl rfl)
theorem dX1_set_28 : decode cX1_set 28 = .ok (.invokestatic 519, 3) := dk_184 2 7 (dk_at dksX1_set_1 4 rfl rfl)
theorem dX1_set_31 : decode cX1_set 31 = .ok (.invokestatic 46, 3) := dk_184 0 46 (dk_at dksX1_set_1 7 rfl rfl)
theorem dX1_set_34 : decode cX1_set 34 = .ok (.invokestatic 237, 3) := dk_184 0 237 (dk_at dksX1_set_1 10 rfl rfl)
theorem dX1_set_37 : decode cX1_set 37 = .ok (.aload_n 0, 1) := dk_42 (dk_at dksX1_set_1 13 rfl rfl)
theorem dX1_set_38 : decode cX1_set 38 = .ok (.invokevirtual 502, 3) := dk_182 1 246 (dk_at dksX1_set_1 14 rfl rfl)
theorem dX1_set_41 : decode cX1_set 41 = .ok (.astore 4, 2) := dk_58 4 (dk_at dksX1_set_1 17 rfl rfl)
theorem dX1_set_43 : decode cX1_set 43 = .ok (.aload 4, 2) := dk_25 4 (dk_at dksX1_set_1 19 rfl rfl)
theorem dX1_set_45 : decode cX1_set 45 = .ok (.getfield 240, 3) := dk_180 0 240 (dk_at dksX1_set_1 21 rfl rfl)
theorem dX1_set_48 : decode cX1_set 48 = .ok (.iload_n 1, 1) := dk_27 (dk_at dksX1_set_2 0 rfl rfl)
theorem dX1_set_49 : decode cX1_set 49 = .ok (.iload_n 2, 1) := dk_28 (dk_at dksX1_set_2 1 rfl rfl)
theorem dX1_set_50 : decode cX1_set 50 = .ok (.iastore, 1) := dk_79 (dk_at dksX1_set_2 2 rfl rfl)
theorem dX1_set_51 : decode cX1_set 51 = .ok (.aload_n 3, 1) := dk_45 (dk_at dksX1_set_2 3 rfl rfl)
theorem dX1_set_52 : decode cX1_set 52 = .ok (.getfield 240, 3) := dk_180 0 240 (dk_at dksX1_set_2 4 rfl rfl)
theorem dX1_set_55 : decode cX1_set 55 = .ok (.iload_n 1, 1) := dk_27 (dk_at dksX1_set_2 7 rfl rfl)
theorem dX1_set_56 : decode cX1_set 56 = .ok (.iaload, 1) := dk_46 (dk_at dksX1_set_2 8 rfl rfl)
theorem dX1_set_57 : decode cX1_set 57 = .ok (.ireturn, 1) := dk_172 (dk_at dksX1_set_2 9 rfl rfl)
abbrev cX1_undo : ByteArray := prog_1_method_88_code
def yX1_undo : MethodName := ⟨RX1, "undo", "()I"⟩
def dkwX1_undo_1 : List UInt8 := [182, 2, 13, 192, 0, 30, 181, 0, 56, 42, 180, 0, 26, 182, 1, 177, 172]
abbrev dktX1_undo_1 : List UInt8 := dkwX1_undo_1 ++ []
def dkwX1_undo_0 : List UInt8 := [42, 180, 0, 26, 182, 2, 10, 154, 0, 7, 4, 167, 0, 4, 3, 184, 0, 60, 42, 42, 180, 0, 26]
abbrev dktX1_undo_0 : List UInt8 := dkwX1_undo_0 ++ dktX1_undo_1
theorem dksX1_undo_0 : cX1_undo.data.toList.drop 0 = dktX1_undo_0 := by decide +kernel
theorem dksX1_undo_1 : cX1_undo.data.toList.drop 23 = dktX1_undo_1 := dk_seg dksX1_undo_0 23 rfl rfl
theorem dX1_undo_0 : decode cX1_undo 0 = .ok (.aload_n 0, 1) := dk_42 (dk_at dksX1_undo_0 0 rfl rfl)
theorem dX1_undo_1 : decode cX1_undo 1 = .ok (.getfield 26, 3) := dk_180 0 26 (dk_at dksX1_undo_0 1 rfl rfl)
theorem dX1_undo_4 : decode cX1_undo 4 = .ok (.invokevirtual 522, 3) := dk_182 2 10 (dk_at dksX1_undo_0 4 rfl rfl)
theorem dX1_undo_7 : decode cX1_undo 7 = .ok (.ifCond .ne 7, 3) := dk_154 0 7 (dk_at dksX1_undo_0 7 rfl rfl)
theorem dX1_undo_10 : decode cX1_undo 10 = .ok (.iconst 1, 1) := dk_4 (dk_at dksX1_undo_0 10 rfl rfl)
theorem dX1_undo_11 : decode cX1_undo 11 = .ok (.goto 4, 3) := dk_167 0 4 (dk_at dksX1_undo_0 11 rfl rfl)
theorem dX1_undo_14 : decode cX1_undo 14 = .ok (.iconst 0, 1) := dk_3 (dk_at dksX1_undo_0 14 rfl rfl)
theorem dX1_undo_15 : decode cX1_undo 15 = .ok (.invokestatic 60, 3) := dk_184 0 60 (dk_at dksX1_undo_0 15 rfl rfl)
theorem dX1_undo_18 : decode cX1_undo 18 = .ok (.aload_n 0, 1) := dk_42 (dk_at dksX1_undo_0 18 rfl rfl)
theorem dX1_undo_19 : decode cX1_undo 19 = .ok (.aload_n 0, 1) := dk_42 (dk_at dksX1_undo_0 19 rfl rfl)
theorem dX1_undo_20 : decode cX1_undo 20 = .ok (.getfield 26, 3) := dk_180 0 26 (dk_at dksX1_undo_0 20 rfl rfl)
theorem dX1_undo_23 : decode cX1_undo 23 = .ok (.invokevirtual 525, 3) := dk_182 2 13 (dk_at dksX1_undo_1 0 rfl rfl)
theorem dX1_undo_26 : decode cX1_undo 26 = .ok (.checkcast 30, 3) := dk_192 0 30 (dk_at dksX1_undo_1 3 rfl rfl)
theorem dX1_undo_29 : decode cX1_undo 29 = .ok (.putfield 56, 3) := dk_181 0 56 (dk_at dksX1_undo_1 6 rfl rfl)
theorem dX1_undo_32 : decode cX1_undo 32 = .ok (.aload_n 0, 1) := dk_42 (dk_at dksX1_undo_1 9 rfl rfl)
theorem dX1_undo_33 : decode cX1_undo 33 = .ok (.getfield 26, 3) := dk_180 0 26 (dk_at dksX1_undo_1 10 rfl rfl)
theorem dX1_undo_36 : decode cX1_undo 36 = .ok (.invokevirtual 433, 3) := dk_182 1 177 (dk_at dksX1_undo_1 13 rfl rfl)
theorem dX1_undo_39 : decode cX1_undo 39 = .ok (.ireturn, 1) := dk_172 (dk_at dksX1_undo_1 16 rfl rfl)
abbrev cX1_save : ByteArray := prog_1_method_90_code
def yX1_save : MethodName := ⟨RX1, "save", "(I)I"⟩
def dkwX1_save_1 : List UInt8 := [44, 180, 0, 155, 172]
abbrev dktX1_save_1 : List UInt8 := dkwX1_save_1 ++ []
def dkwX1_save_0 : List UInt8 := [42, 182, 0, 64, 77, 27, 5, 184, 0, 72, 42, 180, 0, 32, 27, 187, 0, 30, 89, 44, 183, 1, 186, 83]
abbrev dktX1_save_0 : List UInt8 := dkwX1_save_0 ++ dktX1_save_1
theorem dksX1_save_0 : cX1_save.data.toList.drop 0 = dktX1_save_0 := by decide +kernel
theorem dksX1_save_1 : cX1_save.data.toList.drop 24 = dktX1_save_1 := dk_seg dksX1_save_0 24 rfl rfl
theorem dX1_save_0 : decode cX1_save 0 = .ok (.aload_n 0, 1) := dk_42 (dk_at dksX1_save_0 0 rfl rfl)
theorem dX1_save_1 : decode cX1_save 1 = .ok (.invokevirtual 64, 3) := dk_182 0 64 (dk_at dksX1_save_0 1 rfl rfl)
theorem dX1_save_4 : decode cX1_save 4 = .ok (.astore_n 2, 1) := dk_77 (dk_at dksX1_save_0 4 rfl rfl)
theorem dX1_save_5 : decode cX1_save 5 = .ok (.iload_n 1, 1) := dk_27 (dk_at dksX1_save_0 5 rfl rfl)
theorem dX1_save_6 : decode cX1_save 6 = .ok (.iconst 2, 1) := dk_5 (dk_at dksX1_save_0 6 rfl rfl)
theorem dX1_save_7 : decode cX1_save 7 = .ok (.invokestatic 72, 3) := dk_184 0 72 (dk_at dksX1_save_0 7 rfl rfl)
theorem dX1_save_10 : decode cX1_save 10 = .ok (.aload_n 0, 1) := dk_42 (dk_at dksX1_save_0 10 rfl rfl)
theorem dX1_save_11 : decode cX1_save 11 = .ok (.getfield 32, 3) := dk_180 0 32 (dk_at dksX1_save_0 11 rfl rfl)
theorem dX1_save_14 : decode cX1_save 14 = .ok (.iload_n 1, 1) := dk_27 (dk_at dksX1_save_0 14 rfl rfl)
theorem dX1_save_15 : decode cX1_save 15 = .ok (.new 30, 3) := dk_187 0 30 (dk_at dksX1_save_0 15 rfl rfl)
theorem dX1_save_18 : decode cX1_save 18 = .ok (.dup, 1) := dk_89 (dk_at dksX1_save_0 18 rfl rfl)
theorem dX1_save_19 : decode cX1_save 19 = .ok (.aload_n 2, 1) := dk_44 (dk_at dksX1_save_0 19 rfl rfl)
theorem dX1_save_20 : decode cX1_save 20 = .ok (.invokespecial 442, 3) := dk_183 1 186 (dk_at dksX1_save_0 20 rfl rfl)
theorem dX1_save_23 : decode cX1_save 23 = .ok (.aastore, 1) := dk_83 (dk_at dksX1_save_0 23 rfl rfl)
theorem dX1_save_24 : decode cX1_save 24 = .ok (.aload_n 2, 1) := dk_44 (dk_at dksX1_save_1 0 rfl rfl)
theorem dX1_save_25 : decode cX1_save 25 = .ok (.getfield 155, 3) := dk_180 0 155 (dk_at dksX1_save_1 1 rfl rfl)
theorem dX1_save_28 : decode cX1_save 28 = .ok (.ireturn, 1) := dk_172 (dk_at dksX1_save_1 4 rfl rfl)
abbrev cX1_restore : ByteArray := prog_1_method_91_code
def yX1_restore : MethodName := ⟨RX1, "restore", "(I)I"⟩
def dkwX1_restore_2 : List UInt8 := [180, 0, 56, 180, 0, 155, 172]
abbrev dktX1_restore_2 : List UInt8 := dkwX1_restore_2 ++ []
def dkwX1_restore_1 : List UInt8 := [187, 0, 30, 89, 42, 180, 0, 32, 27, 50, 183, 1, 186, 181, 0, 56, 42, 180, 0, 26, 182, 0, 108, 42]
abbrev dktX1_restore_1 : List UInt8 := dkwX1_restore_1 ++ dktX1_restore_2
def dkwX1_restore_0 : List UInt8 := [27, 5, 184, 0, 72, 42, 180, 0, 32, 27, 50, 198, 0, 7, 4, 167, 0, 4, 3, 184, 0, 60, 42]
abbrev dktX1_restore_0 : List UInt8 := dkwX1_restore_0 ++ dktX1_restore_1
theorem dksX1_restore_0 : cX1_restore.data.toList.drop 0 = dktX1_restore_0 := by decide +kernel
theorem dksX1_restore_1 : cX1_restore.data.toList.drop 23 = dktX1_restore_1 := dk_seg dksX1_restore_0 23 rfl rfl
theorem dksX1_restore_2 : cX1_restore.data.toList.drop 47 = dktX1_restore_2 := dk_seg dksX1_restore_1 24 rfl rfl
theorem dX1_restore_0 : decode cX1_restore 0 = .ok (.iload_n 1, 1) := dk_27 (dk_at dksX1_restore_0 0 rfl rfl)
theorem dX1_restore_1 : decode cX1_restore 1 = .ok (.iconst 2, 1) := dk_5 (dk_at dksX1_restore_0 1 rfl rfl)
theorem dX1_restore_2 : decode cX1_restore 2 = .ok (.invokestatic 72, 3) := dk_184 0 72 (dk_at dksX1_restore_0 2 rfl rfl)
theorem dX1_restore_5 : decode cX1_restore 5 = .ok (.aload_n 0, 1) := dk_42 (dk_at dksX1_restore_0 5 rfl rfl)
theorem dX1_restore_6 : decode cX1_restore 6 = .ok (.getfield 32, 3) := dk_180 0 32 (dk_at dksX1_restore_0 6 rfl rfl)
theorem dX1_restore_9 : decode cX1_restore 9 = .ok (.iload_n 1, 1) := dk_27 (dk_at dksX1_restore_0 9 rfl rfl)
theorem dX1_restore_10 : decode cX1_restore 10 = .ok (.aaload, 1) := dk_50 (dk_at dksX1_restore_0 10 rfl rfl)
theorem dX1_restore_11 : decode cX1_restore 11 = .ok (.ifnull 7, 3) := dk_198 0 7 (dk_at dksX1_restore_0 11 rfl rfl)
theorem dX1_restore_14 : decode cX1_restore 14 = .ok (.iconst 1, 1) := dk_4 (dk_at dksX1_restore_0 14 rfl rfl)
theorem dX1_restore_15 : decode cX1_restore 15 = .ok (.goto 4, 3) := dk_167 0 4 (dk_at dksX1_restore_0 15 rfl rfl)
theorem dX1_restore_18 : decode cX1_restore 18 = .ok (.iconst 0, 1) := dk_3 (dk_at dksX1_restore_0 18 rfl rfl)
theorem dX1_restore_19 : decode cX1_restore 19 = .ok (.invokestatic 60, 3) := dk_184 0 60 (dk_at dksX1_restore_0 19 rfl rfl)
theorem dX1_restore_22 : decode cX1_restore 22 = .ok (.aload_n 0, 1) := dk_42 (dk_at dksX1_restore_0 22 rfl rfl)
theorem dX1_restore_23 : decode cX1_restore 23 = .ok (.new 30, 3) := dk_187 0 30 (dk_at dksX1_restore_1 0 rfl rfl)
theorem dX1_restore_26 : decode cX1_restore 26 = .ok (.dup, 1) := dk_89 (dk_at dksX1_restore_1 3 rfl rfl)
theorem dX1_restore_27 : decode cX1_restore 27 = .ok (.aload_n 0, 1) := dk_42 (dk_at dksX1_restore_1 4 rfl rfl)
theorem dX1_restore_28 : decode cX1_restore 28 = .ok (.getfield 32, 3) := dk_180 0 32 (dk_at dksX1_restore_1 5 rfl rfl)
theorem dX1_restore_31 : decode cX1_restore 31 = .ok (.iload_n 1, 1) := dk_27 (dk_at dksX1_restore_1 8 rfl rfl)
theorem dX1_restore_32 : decode cX1_restore 32 = .ok (.aaload, 1) := dk_50 (dk_at dksX1_restore_1 9 rfl rfl)
theorem dX1_restore_33 : decode cX1_restore 33 = .ok (.invokespecial 442, 3) := dk_183 1 186 (dk_at dksX1_restore_1 10 rfl rfl)
theorem dX1_restore_36 : decode cX1_restore 36 = .ok (.putfield 56, 3) := dk_181 0 56 (dk_at dksX1_restore_1 13 rfl rfl)
theorem dX1_restore_39 : decode cX1_restore 39 = .ok (.aload_n 0, 1) := dk_42 (dk_at dksX1_restore_1 16 rfl rfl)
theorem dX1_restore_40 : decode cX1_restore 40 = .ok (.getfield 26, 3) := dk_180 0 26 (dk_at dksX1_restore_1 17 rfl rfl)
theorem dX1_restore_43 : decode cX1_restore 43 = .ok (.invokevirtual 108, 3) := dk_182 0 108 (dk_at dksX1_restore_1 20 rfl rfl)
theorem dX1_restore_46 : decode cX1_restore 46 = .ok (.aload_n 0, 1) := dk_42 (dk_at dksX1_restore_1 23 rfl rfl)
theorem dX1_restore_47 : decode cX1_restore 47 = .ok (.getfield 56, 3) := dk_180 0 56 (dk_at dksX1_restore_2 0 rfl rfl)
theorem dX1_restore_50 : decode cX1_restore 50 = .ok (.getfield 155, 3) := dk_180 0 155 (dk_at dksX1_restore_2 3 rfl rfl)
theorem dX1_restore_53 : decode cX1_restore 53 = .ok (.ireturn, 1) := dk_172 (dk_at dksX1_restore_2 6 rfl rfl)
theorem q128 : (Jvm.Cond.initialized "FlareSlopes") ∈ lw_all := lw_g (lw_at lw_m1 1 rfl) rfl
theorem q202 : (Jvm.Cond.instantiable "FlareSlopes" (8 : Nat)) ∈ lw_all := lw_g (lw_at lw_m1 75 rfl) rfl
theorem q204 : (Jvm.Cond.instanceMethod ({ cls := "FlareSlopes", name := "<init>", desc := "()V" } : Jvm.MethodName)) ∈ lw_all := lw_g (lw_at lw_m1 77 rfl) rfl
theorem q205 : (Jvm.Cond.code ({ cls := "FlareSlopes", name := "<init>", desc := "()V" } : Jvm.MethodName) prog_1_method_5_code (1 : Nat) (Option.none : Option Jvm.ClassFile.FieldType)) ∈ lw_all := lw_g (lw_at lw_m1 78 rfl) rfl
theorem q206 : (Jvm.Cond.methodLink "FlareSlopes" (9 : Nat) ({ cls := "java/lang/Object", name := "<init>", desc := "()V" } : Jvm.MethodName)) ∈ lw_all := lw_g (lw_at lw_m1 79 rfl) rfl
theorem q209 : (Jvm.Cond.classLink "FlareSlopes" (23 : Nat) "java/util/ArrayDeque") ∈ lw_all := lw_g (lw_at lw_m1 82 rfl) rfl
theorem q211 : (Jvm.Cond.methodLink "FlareSlopes" (25 : Nat) ({ cls := "java/util/ArrayDeque", name := "<init>", desc := "()V" } : Jvm.MethodName)) ∈ lw_all := lw_g (lw_at lw_m1 84 rfl) rfl
theorem q233 : (Jvm.Cond.classLink "FlareSlopes" (30 : Nat) "FlareSlopes$State") ∈ lw_all := lw_g (lw_at lw_m1 106 rfl) rfl
theorem q235 : (Jvm.Cond.classLink "FlareSlopes" (36 : Nat) "java/lang/StringBuilder") ∈ lw_all := lw_g (lw_at lw_m1 108 rfl) rfl
theorem q237 : (Jvm.Cond.methodLink "FlareSlopes" (38 : Nat) ({ cls := "java/lang/StringBuilder", name := "<init>", desc := "()V" } : Jvm.MethodName)) ∈ lw_all := lw_g (lw_at lw_m1 110 rfl) rfl
theorem q268 : (Jvm.Cond.fieldLink "FlareSlopes" (15 : Nat) "FlareSlopes" "buffer" "[B") ∈ lw_all := lw_g (lw_at lw_m1 141 rfl) rfl
theorem q269 : (Jvm.Cond.fieldLink "FlareSlopes" (90 : Nat) "FlareSlopes" "buffered" "I") ∈ lw_all := lw_g (lw_at lw_m1 142 rfl) rfl
theorem q270 : (Jvm.Cond.fieldLink "FlareSlopes" (93 : Nat) "FlareSlopes" "parseError" "I") ∈ lw_all := lw_g (lw_at lw_m1 143 rfl) rfl
theorem q271 : (Jvm.Cond.fieldLink "FlareSlopes" (19 : Nat) "FlareSlopes" "errorPosition" "I") ∈ lw_all := lw_g (lw_at lw_m1 144 rfl) rfl
theorem q273 : (Jvm.Cond.fieldLink "FlareSlopes" (56 : Nat) "FlareSlopes" "now" "LFlareSlopes$State;") ∈ lw_all := lw_g (lw_at lw_m1 146 rfl) rfl
theorem q274 : (Jvm.Cond.fieldLink "FlareSlopes" (26 : Nat) "FlareSlopes" "past" "Ljava/util/ArrayDeque;") ∈ lw_all := lw_g (lw_at lw_m1 147 rfl) rfl
theorem q275 : (Jvm.Cond.fieldLink "FlareSlopes" (32 : Nat) "FlareSlopes" "saved" "[LFlareSlopes$State;") ∈ lw_all := lw_g (lw_at lw_m1 148 rfl) rfl
theorem q276 : (Jvm.Cond.fieldLink "FlareSlopes" (39 : Nat) "FlareSlopes" "output" "Ljava/lang/StringBuilder;") ∈ lw_all := lw_g (lw_at lw_m1 149 rfl) rfl
theorem q295 : (Jvm.Cond.instanceMethod ({ cls := "FlareSlopes", name := "append", desc := "(IIIII)I" } : Jvm.MethodName)) ∈ lw_all := lw_g (lw_at lw_m1 168 rfl) rfl
theorem q296 : (Jvm.Cond.selects "FlareSlopes" ({ cls := "FlareSlopes", name := "append", desc := "(IIIII)I" } : Jvm.MethodName) ({ cls := "FlareSlopes", name := "append", desc := "(IIIII)I" } : Jvm.MethodName)) ∈ lw_all := lw_g (lw_at lw_m1 169 rfl) rfl
theorem q297 : (Jvm.Cond.code ({ cls := "FlareSlopes", name := "append", desc := "(IIIII)I" } : Jvm.MethodName) prog_1_method_14_code (11 : Nat) (Option.some Jvm.ClassFile.FieldType.int)) ∈ lw_all := lw_g (lw_at lw_m1 170 rfl) rfl
theorem q300 : (Jvm.Cond.instanceMethod ({ cls := "FlareSlopes", name := "parseError", desc := "()I" } : Jvm.MethodName)) ∈ lw_all := lw_g (lw_at lw_m1 173 rfl) rfl
theorem q301 : (Jvm.Cond.selects "FlareSlopes" ({ cls := "FlareSlopes", name := "parseError", desc := "()I" } : Jvm.MethodName) ({ cls := "FlareSlopes", name := "parseError", desc := "()I" } : Jvm.MethodName)) ∈ lw_all := lw_g (lw_at lw_m1 174 rfl) rfl
theorem q302 : (Jvm.Cond.code ({ cls := "FlareSlopes", name := "parseError", desc := "()I" } : Jvm.MethodName) prog_1_method_16_code (1 : Nat) (Option.some Jvm.ClassFile.FieldType.int)) ∈ lw_all := lw_g (lw_at lw_m1 175 rfl) rfl
theorem q304 : (Jvm.Cond.instanceMethod ({ cls := "FlareSlopes", name := "errorPosition", desc := "()I" } : Jvm.MethodName)) ∈ lw_all := lw_g (lw_at lw_m1 177 rfl) rfl
theorem q305 : (Jvm.Cond.selects "FlareSlopes" ({ cls := "FlareSlopes", name := "errorPosition", desc := "()I" } : Jvm.MethodName) ({ cls := "FlareSlopes", name := "errorPosition", desc := "()I" } : Jvm.MethodName)) ∈ lw_all := lw_g (lw_at lw_m1 178 rfl) rfl
theorem q306 : (Jvm.Cond.code ({ cls := "FlareSlopes", name := "errorPosition", desc := "()I" } : Jvm.MethodName) prog_1_method_17_code (1 : Nat) (Option.some Jvm.ClassFile.FieldType.int)) ∈ lw_all := lw_g (lw_at lw_m1 179 rfl) rfl
theorem q308 : (Jvm.Cond.instanceMethod ({ cls := "FlareSlopes", name := "buffered", desc := "()I" } : Jvm.MethodName)) ∈ lw_all := lw_g (lw_at lw_m1 181 rfl) rfl
theorem q309 : (Jvm.Cond.selects "FlareSlopes" ({ cls := "FlareSlopes", name := "buffered", desc := "()I" } : Jvm.MethodName) ({ cls := "FlareSlopes", name := "buffered", desc := "()I" } : Jvm.MethodName)) ∈ lw_all := lw_g (lw_at lw_m1 182 rfl) rfl
theorem q310 : (Jvm.Cond.code ({ cls := "FlareSlopes", name := "buffered", desc := "()I" } : Jvm.MethodName) prog_1_method_18_code (1 : Nat) (Option.some Jvm.ClassFile.FieldType.int)) ∈ lw_all := lw_g (lw_at lw_m1 183 rfl) rfl
theorem q312 : (Jvm.Cond.instanceMethod ({ cls := "FlareSlopes", name := "undoable", desc := "()I" } : Jvm.MethodName)) ∈ lw_all := lw_g (lw_at lw_m1 185 rfl) rfl
theorem q313 : (Jvm.Cond.selects "FlareSlopes" ({ cls := "FlareSlopes", name := "undoable", desc := "()I" } : Jvm.MethodName) ({ cls := "FlareSlopes", name := "undoable", desc := "()I" } : Jvm.MethodName)) ∈ lw_all := lw_g (lw_at lw_m1 186 rfl) rfl
theorem q314 : (Jvm.Cond.code ({ cls := "FlareSlopes", name := "undoable", desc := "()I" } : Jvm.MethodName) prog_1_method_89_code (1 : Nat) (Option.some Jvm.ClassFile.FieldType.int)) ∈ lw_all := lw_g (lw_at lw_m1 187 rfl) rfl
theorem q315 : (Jvm.Cond.methodLink "FlareSlopes" (433 : Nat) ({ cls := "java/util/ArrayDeque", name := "size", desc := "()I" } : Jvm.MethodName)) ∈ lw_all := lw_g (lw_at lw_m1 188 rfl) rfl
theorem q406 : (Jvm.Cond.instanceMethod ({ cls := "FlareSlopes", name := "load", desc := "(I)I" } : Jvm.MethodName)) ∈ lw_all := lw_g (lw_at lw_m2 39 rfl) rfl
theorem q407 : (Jvm.Cond.selects "FlareSlopes" ({ cls := "FlareSlopes", name := "load", desc := "(I)I" } : Jvm.MethodName) ({ cls := "FlareSlopes", name := "load", desc := "(I)I" } : Jvm.MethodName)) ∈ lw_all := lw_g (lw_at lw_m2 40 rfl) rfl
theorem q408 : (Jvm.Cond.codeWith ({ cls := "FlareSlopes", name := "load", desc := "(I)I" } : Jvm.MethodName) prog_1_method_15_code (3 : Nat) (Option.some Jvm.ClassFile.FieldType.int) [((25 : Nat), (82 : Nat), (83 : Nat), (111 : Nat))]) ∈ lw_all := lw_g (lw_at lw_m2 41 rfl) rfl
theorem q409 : (Jvm.Cond.classLink "FlareSlopes" (111 : Nat) "FlareSlopes$Flaw") ∈ lw_all := lw_g (lw_at lw_m2 42 rfl) rfl
theorem q410 : (Jvm.Cond.methodLink "FlareSlopes" (72 : Nat) ({ cls := "FlareSlopes", name := "checkIndex", desc := "(II)V" } : Jvm.MethodName)) ∈ lw_all := lw_g (lw_at lw_m2 43 rfl) rfl
theorem q411 : (Jvm.Cond.static ({ cls := "FlareSlopes", name := "checkIndex", desc := "(II)V" } : Jvm.MethodName)) ∈ lw_all := lw_g (lw_at lw_m2 44 rfl) rfl
theorem q412 : (Jvm.Cond.code ({ cls := "FlareSlopes", name := "checkIndex", desc := "(II)V" } : Jvm.MethodName) prog_1_method_7_code (2 : Nat) (Option.none : Option Jvm.ClassFile.FieldType)) ∈ lw_all := lw_g (lw_at lw_m2 45 rfl) rfl
theorem q413 : (Jvm.Cond.methodLink "FlareSlopes" (46 : Nat) ({ cls := "FlareSlopes", name := "in", desc := "(III)Z" } : Jvm.MethodName)) ∈ lw_all := lw_g (lw_at lw_m2 46 rfl) rfl
theorem q414 : (Jvm.Cond.static ({ cls := "FlareSlopes", name := "in", desc := "(III)Z" } : Jvm.MethodName)) ∈ lw_all := lw_g (lw_at lw_m2 47 rfl) rfl
theorem q415 : (Jvm.Cond.code ({ cls := "FlareSlopes", name := "in", desc := "(III)Z" } : Jvm.MethodName) prog_1_method_1_code (3 : Nat) (Option.some Jvm.ClassFile.FieldType.boolean)) ∈ lw_all := lw_g (lw_at lw_m2 48 rfl) rfl
theorem q416 : (Jvm.Cond.classLink "FlareSlopes" (50 : Nat) "java/lang/IndexOutOfBoundsException") ∈ lw_all := lw_g (lw_at lw_m2 49 rfl) rfl
theorem q438 : (Jvm.Cond.classLink "FlareSlopes" (96 : Nat) "FlareSlopes$Parser") ∈ lw_all := lw_g (lw_at lw_m2 71 rfl) rfl
theorem q440 : (Jvm.Cond.methodLink "FlareSlopes" (98 : Nat) ({ cls := "FlareSlopes$Parser", name := "<init>", desc := "(LFlareSlopes;I)V" } : Jvm.MethodName)) ∈ lw_all := lw_g (lw_at lw_m2 73 rfl) rfl
theorem q500 : (Jvm.Cond.fieldLinkNest "FlareSlopes" (269 : Nat) "FlareSlopes$Key" "slope" "I" "FlareSlopes") ∈ lw_tbl := lw_at lw_m2 133 rfl
theorem q509 : (Jvm.Cond.fieldLinkNest "FlareSlopes" (138 : Nat) "FlareSlopes$Mountain" "cabins" "LFlareSlopes$Register;" "FlareSlopes") ∈ lw_tbl := lw_at lw_m2 142 rfl
theorem q513 : (Jvm.Cond.fieldLinkNest "FlareSlopes" (133 : Nat) "FlareSlopes$Mountain" "slopes" "LFlareSlopes$Register;" "FlareSlopes") ∈ lw_tbl := lw_at lw_m2 146 rfl
theorem q516 : (Jvm.Cond.fieldLinkNest "FlareSlopes" (145 : Nat) "FlareSlopes$Mountain" "ridges" "Ljava/util/List;" "FlareSlopes") ∈ lw_tbl := lw_at lw_m2 149 rfl
theorem q519 : (Jvm.Cond.fieldLinkNest "FlareSlopes" (152 : Nat) "FlareSlopes$Mountain" "fogs" "Ljava/util/List;" "FlareSlopes") ∈ lw_tbl := lw_at lw_m2 152 rfl
theorem q572 : (Jvm.Cond.methodLink "FlareSlopes" (101 : Nat) ({ cls := "FlareSlopes$Parser", name := "parse", desc := "()LFlareSlopes$Mountain;" } : Jvm.MethodName)) ∈ lw_all := lw_g (lw_at lw_m2 205 rfl) rfl
theorem q608 : (Jvm.Cond.fieldLinkNest "FlareSlopes" (113 : Nat) "FlareSlopes$Flaw" "code" "I" "FlareSlopes") ∈ lw_tbl := lw_at lw_m3 1 rfl
theorem q610 : (Jvm.Cond.fieldLinkNest "FlareSlopes" (116 : Nat) "FlareSlopes$Flaw" "position" "I" "FlareSlopes") ∈ lw_tbl := lw_at lw_m3 3 rfl
theorem q875 : (Jvm.Cond.static ({ cls := "FlareSlopes", name := "leastOf", desc := "(I[I)I" } : Jvm.MethodName)) ∈ lw_all := lw_g (lw_at lw_m4 28 rfl) rfl
theorem q876 : (Jvm.Cond.code ({ cls := "FlareSlopes", name := "leastOf", desc := "(I[I)I" } : Jvm.MethodName) prog_1_method_3_code (2 : Nat) (Option.some Jvm.ClassFile.FieldType.int)) ∈ lw_all := lw_g (lw_at lw_m4 29 rfl) rfl
theorem q878 : (Jvm.Cond.static ({ cls := "FlareSlopes", name := "mostOf", desc := "(I[I)I" } : Jvm.MethodName)) ∈ lw_all := lw_g (lw_at lw_m4 31 rfl) rfl
theorem q879 : (Jvm.Cond.code ({ cls := "FlareSlopes", name := "mostOf", desc := "(I[I)I" } : Jvm.MethodName) prog_1_method_4_code (2 : Nat) (Option.some Jvm.ClassFile.FieldType.int)) ∈ lw_all := lw_g (lw_at lw_m4 32 rfl) rfl
theorem q880 : (Jvm.Cond.methodLink "FlareSlopes" (3 : Nat) ({ cls := "java/lang/Math", name := "min", desc := "(II)I" } : Jvm.MethodName)) ∈ lw_all := lw_g (lw_at lw_m4 33 rfl) rfl
theorem q1066 : (Jvm.Cond.fieldLinkNest "FlareSlopes" (475 : Nat) "FlareSlopes$Spot" "name" "Ljava/lang/String;" "FlareSlopes") ∈ lw_tbl := lw_at lw_m4 219 rfl
theorem q1069 : (Jvm.Cond.fieldLinkNest "FlareSlopes" (320 : Nat) "FlareSlopes$Spot" "x" "I" "FlareSlopes") ∈ lw_tbl := lw_at lw_m4 222 rfl
theorem q1072 : (Jvm.Cond.fieldLinkNest "FlareSlopes" (323 : Nat) "FlareSlopes$Spot" "y" "I" "FlareSlopes") ∈ lw_tbl := lw_at lw_m4 225 rfl
theorem q1075 : (Jvm.Cond.fieldLinkNest "FlareSlopes" (324 : Nat) "FlareSlopes$Spot" "high" "I" "FlareSlopes") ∈ lw_tbl := lw_at lw_m4 228 rfl
theorem q1187 : (Jvm.Cond.fieldLinkNest "FlareSlopes" (348 : Nat) "FlareSlopes$Ridge" "column" "I" "FlareSlopes") ∈ lw_tbl := lw_at lw_m5 100 rfl
theorem q1189 : (Jvm.Cond.fieldLinkNest "FlareSlopes" (351 : Nat) "FlareSlopes$Ridge" "high" "I" "FlareSlopes") ∈ lw_tbl := lw_at lw_m5 102 rfl
theorem q1208 : (Jvm.Cond.fieldLinkNest "FlareSlopes" (354 : Nat) "FlareSlopes$Fog" "from" "I" "FlareSlopes") ∈ lw_tbl := lw_at lw_m5 121 rfl
theorem q1210 : (Jvm.Cond.fieldLinkNest "FlareSlopes" (357 : Nat) "FlareSlopes$Fog" "to" "I" "FlareSlopes") ∈ lw_tbl := lw_at lw_m5 123 rfl
theorem q1212 : (Jvm.Cond.fieldLinkNest "FlareSlopes" (360 : Nat) "FlareSlopes$Fog" "by" "I" "FlareSlopes") ∈ lw_tbl := lw_at lw_m5 125 rfl
theorem q1220 : (Jvm.Cond.methodLink "FlareSlopes" (105 : Nat) ({ cls := "FlareSlopes$State", name := "<init>", desc := "(LFlareSlopes$Mountain;)V" } : Jvm.MethodName)) ∈ lw_all := lw_g (lw_at lw_m5 133 rfl) rfl
theorem q1306 : (Jvm.Cond.fieldLinkNest "FlareSlopes" (279 : Nat) "FlareSlopes$Cabin" "x" "I" "FlareSlopes") ∈ lw_tbl := lw_at lw_m5 219 rfl
theorem q1308 : (Jvm.Cond.fieldLinkNest "FlareSlopes" (282 : Nat) "FlareSlopes$Cabin" "y" "I" "FlareSlopes") ∈ lw_tbl := lw_at lw_m5 221 rfl
theorem q1310 : (Jvm.Cond.fieldLinkNest "FlareSlopes" (200 : Nat) "FlareSlopes$Cabin" "flares" "I" "FlareSlopes") ∈ lw_tbl := lw_at lw_m5 223 rfl
theorem q1313 : (Jvm.Cond.fieldLinkNest "FlareSlopes" (288 : Nat) "FlareSlopes$Cabin" "trust" "I" "FlareSlopes") ∈ lw_tbl := lw_at lw_m5 226 rfl
theorem q1315 : (Jvm.Cond.fieldLinkNest "FlareSlopes" (291 : Nat) "FlareSlopes$Cabin" "fired" "I" "FlareSlopes") ∈ lw_tbl := lw_at lw_m5 228 rfl
theorem q1318 : (Jvm.Cond.fieldLinkNest "FlareSlopes" (296 : Nat) "FlareSlopes$Cabin" "closed" "I" "FlareSlopes") ∈ lw_tbl := lw_at lw_m5 231 rfl
theorem q1320 : (Jvm.Cond.fieldLinkNest "FlareSlopes" (285 : Nat) "FlareSlopes$Cabin" "high" "I" "FlareSlopes") ∈ lw_tbl := lw_at lw_m5 233 rfl
theorem q1323 : (Jvm.Cond.fieldLinkNest "FlareSlopes" (401 : Nat) "FlareSlopes$Cabin" "runs" "[I" "FlareSlopes") ∈ lw_tbl := lw_at lw_m5 236 rfl
theorem q1326 : (Jvm.Cond.fieldLinkNest "FlareSlopes" (205 : Nat) "FlareSlopes$Cabin" "votes" "Ljava/util/Map;" "FlareSlopes") ∈ lw_tbl := lw_at lw_m5 239 rfl
theorem q1349 : (Jvm.Cond.fieldLinkNest "FlareSlopes" (129 : Nat) "FlareSlopes$State" "mountain" "LFlareSlopes$Mountain;" "FlareSlopes") ∈ lw_tbl := lw_at lw_m6 22 rfl
theorem q1352 : (Jvm.Cond.fieldLinkNest "FlareSlopes" (240 : Nat) "FlareSlopes$State" "settings" "[I" "FlareSlopes") ∈ lw_tbl := lw_at lw_m6 25 rfl
theorem q1354 : (Jvm.Cond.fieldLinkNest "FlareSlopes" (430 : Nat) "FlareSlopes$State" "bulletins" "Ljava/util/ArrayDeque;" "FlareSlopes") ∈ lw_tbl := lw_at lw_m6 27 rfl
theorem q1356 : (Jvm.Cond.fieldLinkNest "FlareSlopes" (155 : Nat) "FlareSlopes$State" "time" "I" "FlareSlopes") ∈ lw_tbl := lw_at lw_m6 29 rfl
theorem q1358 : (Jvm.Cond.fieldLinkNest "FlareSlopes" (158 : Nat) "FlareSlopes$State" "fired" "I" "FlareSlopes") ∈ lw_tbl := lw_at lw_m6 31 rfl
theorem q1360 : (Jvm.Cond.fieldLinkNest "FlareSlopes" (164 : Nat) "FlareSlopes$State" "closings" "I" "FlareSlopes") ∈ lw_tbl := lw_at lw_m6 33 rfl
theorem q1362 : (Jvm.Cond.fieldLinkNest "FlareSlopes" (167 : Nat) "FlareSlopes$State" "openings" "I" "FlareSlopes") ∈ lw_tbl := lw_at lw_m6 35 rfl
theorem q1364 : (Jvm.Cond.fieldLinkNest "FlareSlopes" (170 : Nat) "FlareSlopes$State" "falses" "I" "FlareSlopes") ∈ lw_tbl := lw_at lw_m6 37 rfl
theorem q1366 : (Jvm.Cond.fieldLinkNest "FlareSlopes" (173 : Nat) "FlareSlopes$State" "issued" "I" "FlareSlopes") ∈ lw_tbl := lw_at lw_m6 39 rfl
theorem q1368 : (Jvm.Cond.fieldLinkNest "FlareSlopes" (176 : Nat) "FlareSlopes$State" "wrongs" "I" "FlareSlopes") ∈ lw_tbl := lw_at lw_m6 41 rfl
theorem q1370 : (Jvm.Cond.fieldLinkNest "FlareSlopes" (179 : Nat) "FlareSlopes$State" "dangers" "I" "FlareSlopes") ∈ lw_tbl := lw_at lw_m6 43 rfl
theorem q1372 : (Jvm.Cond.fieldLinkNest "FlareSlopes" (311 : Nat) "FlareSlopes$State" "reds" "[I" "FlareSlopes") ∈ lw_tbl := lw_at lw_m6 45 rfl
theorem q1374 : (Jvm.Cond.fieldLinkNest "FlareSlopes" (314 : Nat) "FlareSlopes$State" "greens" "[I" "FlareSlopes") ∈ lw_tbl := lw_at lw_m6 47 rfl
theorem q1404 : (Jvm.Cond.methodLink "FlareSlopes" (108 : Nat) ({ cls := "java/util/ArrayDeque", name := "clear", desc := "()V" } : Jvm.MethodName)) ∈ lw_all := lw_g (lw_at lw_m6 77 rfl) rfl
theorem q1411 : (Jvm.Cond.methodLink "FlareSlopes" (68 : Nat) ({ cls := "FlareSlopes$State", name := "size", desc := "()I" } : Jvm.MethodName)) ∈ lw_all := lw_g (lw_at lw_m6 84 rfl) rfl
theorem q1417 : (Jvm.Cond.classLink "FlareSlopes" (43 : Nat) "java/lang/IllegalArgumentException") ∈ lw_all := lw_g (lw_at lw_m6 90 rfl) rfl
theorem q1427 : (Jvm.Cond.instanceMethod ({ cls := "FlareSlopes", name := "find", desc := "(IZ)I" } : Jvm.MethodName)) ∈ lw_all := lw_g (lw_at lw_m6 100 rfl) rfl
theorem q1428 : (Jvm.Cond.selects "FlareSlopes" ({ cls := "FlareSlopes", name := "find", desc := "(IZ)I" } : Jvm.MethodName) ({ cls := "FlareSlopes", name := "find", desc := "(IZ)I" } : Jvm.MethodName)) ∈ lw_all := lw_g (lw_at lw_m6 101 rfl) rfl
theorem q1429 : (Jvm.Cond.code ({ cls := "FlareSlopes", name := "find", desc := "(IZ)I" } : Jvm.MethodName) prog_1_method_20_code (6 : Nat) (Option.some Jvm.ClassFile.FieldType.int)) ∈ lw_all := lw_g (lw_at lw_m6 102 rfl) rfl
theorem q1430 : (Jvm.Cond.methodLink "FlareSlopes" (64 : Nat) ({ cls := "FlareSlopes", name := "loaded", desc := "()LFlareSlopes$State;" } : Jvm.MethodName)) ∈ lw_all := lw_g (lw_at lw_m6 103 rfl) rfl
theorem q1432 : (Jvm.Cond.instanceMethod ({ cls := "FlareSlopes", name := "loaded", desc := "()LFlareSlopes$State;" } : Jvm.MethodName)) ∈ lw_all := lw_g (lw_at lw_m6 105 rfl) rfl
theorem q1433 : (Jvm.Cond.code ({ cls := "FlareSlopes", name := "loaded", desc := "()LFlareSlopes$State;" } : Jvm.MethodName) prog_1_method_9_code (1 : Nat) (Option.some (Jvm.ClassFile.FieldType.object "FlareSlopes$State"))) ∈ lw_all := lw_g (lw_at lw_m6 106 rfl) rfl
theorem q1434 : (Jvm.Cond.methodLink "FlareSlopes" (60 : Nat) ({ cls := "FlareSlopes", name := "checkState", desc := "(Z)V" } : Jvm.MethodName)) ∈ lw_all := lw_g (lw_at lw_m6 107 rfl) rfl
theorem q1435 : (Jvm.Cond.static ({ cls := "FlareSlopes", name := "checkState", desc := "(Z)V" } : Jvm.MethodName)) ∈ lw_all := lw_g (lw_at lw_m6 108 rfl) rfl
theorem q1436 : (Jvm.Cond.code ({ cls := "FlareSlopes", name := "checkState", desc := "(Z)V" } : Jvm.MethodName) prog_1_method_8_code (1 : Nat) (Option.none : Option Jvm.ClassFile.FieldType)) ∈ lw_all := lw_g (lw_at lw_m6 109 rfl) rfl
theorem q1437 : (Jvm.Cond.classLink "FlareSlopes" (53 : Nat) "java/lang/IllegalStateException") ∈ lw_all := lw_g (lw_at lw_m6 110 rfl) rfl
theorem q1452 : (Jvm.Cond.methodLink "FlareSlopes" (125 : Nat) ({ cls := "java/lang/StringBuilder", name := "append", desc := "(C)Ljava/lang/StringBuilder;" } : Jvm.MethodName)) ∈ lw_all := lw_g (lw_at lw_m6 125 rfl) rfl
theorem q1453 : (Jvm.Cond.methodLink "FlareSlopes" (141 : Nat) ({ cls := "FlareSlopes", name := "number", desc := "(LFlareSlopes$Register;Ljava/lang/CharSequence;)I" } : Jvm.MethodName)) ∈ lw_all := lw_g (lw_at lw_m6 126 rfl) rfl
theorem q1454 : (Jvm.Cond.static ({ cls := "FlareSlopes", name := "number", desc := "(LFlareSlopes$Register;Ljava/lang/CharSequence;)I" } : Jvm.MethodName)) ∈ lw_all := lw_g (lw_at lw_m6 127 rfl) rfl
theorem q1455 : (Jvm.Cond.code ({ cls := "FlareSlopes", name := "number", desc := "(LFlareSlopes$Register;Ljava/lang/CharSequence;)I" } : Jvm.MethodName) prog_1_method_19_code (2 : Nat) (Option.some Jvm.ClassFile.FieldType.int)) ∈ lw_all := lw_g (lw_at lw_m6 128 rfl) rfl
theorem q1456 : (Jvm.Cond.methodLink "FlareSlopes" (119 : Nat) ({ cls := "FlareSlopes$Register", name := "find", desc := "(Ljava/lang/CharSequence;)I" } : Jvm.MethodName)) ∈ lw_all := lw_g (lw_at lw_m6 129 rfl) rfl
theorem q1461 : (Jvm.Cond.instanceMethod ({ cls := "FlareSlopes", name := "count", desc := "(I)I" } : Jvm.MethodName)) ∈ lw_all := lw_g (lw_at lw_m6 134 rfl) rfl
theorem q1462 : (Jvm.Cond.selects "FlareSlopes" ({ cls := "FlareSlopes", name := "count", desc := "(I)I" } : Jvm.MethodName) ({ cls := "FlareSlopes", name := "count", desc := "(I)I" } : Jvm.MethodName)) ∈ lw_all := lw_g (lw_at lw_m6 135 rfl) rfl
theorem q1463 : (Jvm.Cond.code ({ cls := "FlareSlopes", name := "count", desc := "(I)I" } : Jvm.MethodName) prog_1_method_21_code (3 : Nat) (Option.some Jvm.ClassFile.FieldType.int)) ∈ lw_all := lw_g (lw_at lw_m6 136 rfl) rfl
theorem q1464 : (Jvm.Cond.methodLink "FlareSlopes" (80 : Nat) ({ cls := "FlareSlopes$State", name := "slopes", desc := "()I" } : Jvm.MethodName)) ∈ lw_all := lw_g (lw_at lw_m6 137 rfl) rfl
theorem q1469 : (Jvm.Cond.methodLink "FlareSlopes" (149 : Nat) ({ cls := "java/util/List", name := "size", desc := "()I" } : Jvm.MethodName)) ∈ lw_all := lw_g (lw_at lw_m6 142 rfl) rfl
theorem q1470 : (Jvm.Cond.methodLink "FlareSlopes" (161 : Nat) ({ cls := "FlareSlopes$State", name := "remembered", desc := "()I" } : Jvm.MethodName)) ∈ lw_all := lw_g (lw_at lw_m6 143 rfl) rfl
theorem q1619 : (Jvm.Cond.methodLink "FlareSlopes" (182 : Nat) ({ cls := "java/lang/Integer", name := "bitCount", desc := "(I)I" } : Jvm.MethodName)) ∈ lw_all := lw_g (lw_at lw_m7 52 rfl) rfl
theorem q1625 : (Jvm.Cond.methodLink "FlareSlopes" (188 : Nat) ({ cls := "FlareSlopes", name := "pairsInSight", desc := "()I" } : Jvm.MethodName)) ∈ lw_all := lw_g (lw_at lw_m7 58 rfl) rfl
theorem q1627 : (Jvm.Cond.instanceMethod ({ cls := "FlareSlopes", name := "pairsInSight", desc := "()I" } : Jvm.MethodName)) ∈ lw_all := lw_g (lw_at lw_m7 60 rfl) rfl
theorem q1628 : (Jvm.Cond.code ({ cls := "FlareSlopes", name := "pairsInSight", desc := "()I" } : Jvm.MethodName) prog_1_method_22_code (3 : Nat) (Option.some Jvm.ClassFile.FieldType.int)) ∈ lw_all := lw_g (lw_at lw_m7 61 rfl) rfl
theorem q1629 : (Jvm.Cond.methodLink "FlareSlopes" (197 : Nat) ({ cls := "FlareSlopes$State", name := "seers", desc := "(I)I" } : Jvm.MethodName)) ∈ lw_all := lw_g (lw_at lw_m7 62 rfl) rfl
theorem q1734 : (Jvm.Cond.methodLink "FlareSlopes" (191 : Nat) ({ cls := "FlareSlopes", name := "withoutFlares", desc := "()I" } : Jvm.MethodName)) ∈ lw_all := lw_g (lw_at lw_m7 167 rfl) rfl
theorem q1736 : (Jvm.Cond.instanceMethod ({ cls := "FlareSlopes", name := "withoutFlares", desc := "()I" } : Jvm.MethodName)) ∈ lw_all := lw_g (lw_at lw_m7 169 rfl) rfl
theorem q1737 : (Jvm.Cond.code ({ cls := "FlareSlopes", name := "withoutFlares", desc := "()I" } : Jvm.MethodName) prog_1_method_23_code (3 : Nat) (Option.some Jvm.ClassFile.FieldType.int)) ∈ lw_all := lw_g (lw_at lw_m7 170 rfl) rfl
theorem q1738 : (Jvm.Cond.methodLink "FlareSlopes" (76 : Nat) ({ cls := "FlareSlopes$State", name := "cabin", desc := "(I)LFlareSlopes$Cabin;" } : Jvm.MethodName)) ∈ lw_all := lw_g (lw_at lw_m7 171 rfl) rfl
theorem q1739 : (Jvm.Cond.methodLink "FlareSlopes" (194 : Nat) ({ cls := "FlareSlopes", name := "redVotes", desc := "()I" } : Jvm.MethodName)) ∈ lw_all := lw_g (lw_at lw_m7 172 rfl) rfl
theorem q1741 : (Jvm.Cond.instanceMethod ({ cls := "FlareSlopes", name := "redVotes", desc := "()I" } : Jvm.MethodName)) ∈ lw_all := lw_g (lw_at lw_m7 174 rfl) rfl
theorem q1742 : (Jvm.Cond.code ({ cls := "FlareSlopes", name := "redVotes", desc := "()I" } : Jvm.MethodName) prog_1_method_24_code (5 : Nat) (Option.some Jvm.ClassFile.FieldType.int)) ∈ lw_all := lw_g (lw_at lw_m7 175 rfl) rfl
theorem q1744 : (Jvm.Cond.methodLink "FlareSlopes" (209 : Nat) ({ cls := "java/util/Map", name := "values", desc := "()Ljava/util/Collection;" } : Jvm.MethodName)) ∈ lw_all := lw_g (lw_at lw_m7 177 rfl) rfl
theorem q1771 : (Jvm.Cond.methodLink "FlareSlopes" (215 : Nat) ({ cls := "java/util/Collection", name := "iterator", desc := "()Ljava/util/Iterator;" } : Jvm.MethodName)) ∈ lw_all := lw_g (lw_at lw_m7 204 rfl) rfl
theorem q1947 : (Jvm.Cond.methodLink "FlareSlopes" (221 : Nat) ({ cls := "java/util/Iterator", name := "hasNext", desc := "()Z" } : Jvm.MethodName)) ∈ lw_all := lw_g (lw_at lw_m8 140 rfl) rfl
theorem q1949 : (Jvm.Cond.methodLink "FlareSlopes" (227 : Nat) ({ cls := "java/util/Iterator", name := "next", desc := "()Ljava/lang/Object;" } : Jvm.MethodName)) ∈ lw_all := lw_g (lw_at lw_m8 142 rfl) rfl
theorem q1950 : (Jvm.Cond.classLink "FlareSlopes" (231 : Nat) "FlareSlopes$Vote") ∈ lw_all := lw_g (lw_at lw_m8 143 rfl) rfl
theorem q1955 : (Jvm.Cond.instanceMethod ({ cls := "FlareSlopes", name := "setting", desc := "(I)I" } : Jvm.MethodName)) ∈ lw_all := lw_g (lw_at lw_m8 148 rfl) rfl
theorem q1956 : (Jvm.Cond.selects "FlareSlopes" ({ cls := "FlareSlopes", name := "setting", desc := "(I)I" } : Jvm.MethodName) ({ cls := "FlareSlopes", name := "setting", desc := "(I)I" } : Jvm.MethodName)) ∈ lw_all := lw_g (lw_at lw_m8 149 rfl) rfl
theorem q1957 : (Jvm.Cond.code ({ cls := "FlareSlopes", name := "setting", desc := "(I)I" } : Jvm.MethodName) prog_1_method_25_code (3 : Nat) (Option.some Jvm.ClassFile.FieldType.int)) ∈ lw_all := lw_g (lw_at lw_m8 150 rfl) rfl
theorem q1958 : (Jvm.Cond.methodLink "FlareSlopes" (237 : Nat) ({ cls := "FlareSlopes", name := "checkArgument", desc := "(Z)V" } : Jvm.MethodName)) ∈ lw_all := lw_g (lw_at lw_m8 151 rfl) rfl
theorem q1959 : (Jvm.Cond.static ({ cls := "FlareSlopes", name := "checkArgument", desc := "(Z)V" } : Jvm.MethodName)) ∈ lw_all := lw_g (lw_at lw_m8 152 rfl) rfl
theorem q1960 : (Jvm.Cond.code ({ cls := "FlareSlopes", name := "checkArgument", desc := "(Z)V" } : Jvm.MethodName) prog_1_method_6_code (1 : Nat) (Option.none : Option Jvm.ClassFile.FieldType)) ∈ lw_all := lw_g (lw_at lw_m8 153 rfl) rfl
theorem q1965 : (Jvm.Cond.instanceMethod ({ cls := "FlareSlopes", name := "cabin", desc := "(II)I" } : Jvm.MethodName)) ∈ lw_all := lw_g (lw_at lw_m8 158 rfl) rfl
theorem q1966 : (Jvm.Cond.selects "FlareSlopes" ({ cls := "FlareSlopes", name := "cabin", desc := "(II)I" } : Jvm.MethodName) ({ cls := "FlareSlopes", name := "cabin", desc := "(II)I" } : Jvm.MethodName)) ∈ lw_all := lw_g (lw_at lw_m8 159 rfl) rfl
theorem q1967 : (Jvm.Cond.code ({ cls := "FlareSlopes", name := "cabin", desc := "(II)I" } : Jvm.MethodName) prog_1_method_29_code (4 : Nat) (Option.some Jvm.ClassFile.FieldType.int)) ∈ lw_all := lw_g (lw_at lw_m8 160 rfl) rfl
theorem q1968 : (Jvm.Cond.methodLink "FlareSlopes" (87 : Nat) ({ cls := "FlareSlopes", name := "withCabin", desc := "(I)LFlareSlopes$Cabin;" } : Jvm.MethodName)) ∈ lw_all := lw_g (lw_at lw_m8 161 rfl) rfl
theorem q1970 : (Jvm.Cond.instanceMethod ({ cls := "FlareSlopes", name := "withCabin", desc := "(I)LFlareSlopes$Cabin;" } : Jvm.MethodName)) ∈ lw_all := lw_g (lw_at lw_m8 163 rfl) rfl
theorem q1971 : (Jvm.Cond.code ({ cls := "FlareSlopes", name := "withCabin", desc := "(I)LFlareSlopes$Cabin;" } : Jvm.MethodName) prog_1_method_10_code (2 : Nat) (Option.some (Jvm.ClassFile.FieldType.object "FlareSlopes$Cabin"))) ∈ lw_all := lw_g (lw_at lw_m8 164 rfl) rfl
theorem q1972 : (Jvm.Cond.methodLink "FlareSlopes" (292 : Nat) ({ cls := "FlareSlopes", name := "votesOfAll", desc := "(I)I" } : Jvm.MethodName)) ∈ lw_all := lw_g (lw_at lw_m8 165 rfl) rfl
theorem q1974 : (Jvm.Cond.instanceMethod ({ cls := "FlareSlopes", name := "votesOfAll", desc := "(I)I" } : Jvm.MethodName)) ∈ lw_all := lw_g (lw_at lw_m8 167 rfl) rfl
theorem q1975 : (Jvm.Cond.code ({ cls := "FlareSlopes", name := "votesOfAll", desc := "(I)I" } : Jvm.MethodName) prog_1_method_26_code (2 : Nat) (Option.some Jvm.ClassFile.FieldType.int)) ∈ lw_all := lw_g (lw_at lw_m8 168 rfl) rfl
theorem q1976 : (Jvm.Cond.classLink "FlareSlopes" (244 : Nat) "FlareSlopes$1") ∈ lw_all := lw_g (lw_at lw_m8 169 rfl) rfl
theorem q1978 : (Jvm.Cond.methodLink "FlareSlopes" (246 : Nat) ({ cls := "FlareSlopes$1", name := "<init>", desc := "(LFlareSlopes;)V" } : Jvm.MethodName)) ∈ lw_all := lw_g (lw_at lw_m8 171 rfl) rfl
theorem q1989 : (Jvm.Cond.methodLink "FlareSlopes" (249 : Nat) ({ cls := "FlareSlopes$State", name := "votesOf", desc := "(ILFlareSlopes$Judge;)I" } : Jvm.MethodName)) ∈ lw_all := lw_g (lw_at lw_m8 182 rfl) rfl
theorem q2337 : (Jvm.Cond.static ({ cls := "FlareSlopes", name := "has", desc := "(II)Z" } : Jvm.MethodName)) ∈ lw_all := lw_g (lw_at lw_m10 50 rfl) rfl
theorem q2338 : (Jvm.Cond.code ({ cls := "FlareSlopes", name := "has", desc := "(II)Z" } : Jvm.MethodName) prog_1_method_2_code (2 : Nat) (Option.some Jvm.ClassFile.FieldType.boolean)) ∈ lw_all := lw_g (lw_at lw_m10 51 rfl) rfl
theorem q2344 : (Jvm.Cond.methodLink "FlareSlopes" (295 : Nat) ({ cls := "java/util/Map", name := "size", desc := "()I" } : Jvm.MethodName)) ∈ lw_all := lw_g (lw_at lw_m10 57 rfl) rfl
theorem q2345 : (Jvm.Cond.methodLink "FlareSlopes" (299 : Nat) ({ cls := "FlareSlopes", name := "slopesSeen", desc := "(I)I" } : Jvm.MethodName)) ∈ lw_all := lw_g (lw_at lw_m10 58 rfl) rfl
theorem q2347 : (Jvm.Cond.instanceMethod ({ cls := "FlareSlopes", name := "slopesSeen", desc := "(I)I" } : Jvm.MethodName)) ∈ lw_all := lw_g (lw_at lw_m10 60 rfl) rfl
theorem q2348 : (Jvm.Cond.code ({ cls := "FlareSlopes", name := "slopesSeen", desc := "(I)I" } : Jvm.MethodName) prog_1_method_27_code (4 : Nat) (Option.some Jvm.ClassFile.FieldType.int)) ∈ lw_all := lw_g (lw_at lw_m10 61 rfl) rfl
theorem q2349 : (Jvm.Cond.methodLink "FlareSlopes" (253 : Nat) ({ cls := "FlareSlopes$State", name := "seesSlope", desc := "(II)Z" } : Jvm.MethodName)) ∈ lw_all := lw_g (lw_at lw_m10 62 rfl) rfl
theorem q2357 : (Jvm.Cond.methodLink "FlareSlopes" (302 : Nat) ({ cls := "FlareSlopes", name := "slopesOf", desc := "(LFlareSlopes$Cabin;)Ljava/util/Set;" } : Jvm.MethodName)) ∈ lw_all := lw_g (lw_at lw_m10 70 rfl) rfl
theorem q2358 : (Jvm.Cond.static ({ cls := "FlareSlopes", name := "slopesOf", desc := "(LFlareSlopes$Cabin;)Ljava/util/Set;" } : Jvm.MethodName)) ∈ lw_all := lw_g (lw_at lw_m10 71 rfl) rfl
theorem q2359 : (Jvm.Cond.code ({ cls := "FlareSlopes", name := "slopesOf", desc := "(LFlareSlopes$Cabin;)Ljava/util/Set;" } : Jvm.MethodName) prog_1_method_28_code (5 : Nat) (Option.some (Jvm.ClassFile.FieldType.object "java/util/Set"))) ∈ lw_all := lw_g (lw_at lw_m10 72 rfl) rfl
theorem q2360 : (Jvm.Cond.classLink "FlareSlopes" (257 : Nat) "java/util/LinkedHashSet") ∈ lw_all := lw_g (lw_at lw_m10 73 rfl) rfl
theorem q2362 : (Jvm.Cond.methodLink "FlareSlopes" (259 : Nat) ({ cls := "java/util/LinkedHashSet", name := "<init>", desc := "()V" } : Jvm.MethodName)) ∈ lw_all := lw_g (lw_at lw_m10 75 rfl) rfl
theorem q2776 : (Jvm.Cond.methodLink "FlareSlopes" (260 : Nat) ({ cls := "java/util/Map", name := "keySet", desc := "()Ljava/util/Set;" } : Jvm.MethodName)) ∈ lw_all := lw_g (lw_at lw_m12 9 rfl) rfl
theorem q2783 : (Jvm.Cond.methodLink "FlareSlopes" (264 : Nat) ({ cls := "java/util/Set", name := "iterator", desc := "()Ljava/util/Iterator;" } : Jvm.MethodName)) ∈ lw_all := lw_g (lw_at lw_m12 16 rfl) rfl
theorem q2784 : (Jvm.Cond.classLink "FlareSlopes" (267 : Nat) "FlareSlopes$Key") ∈ lw_all := lw_g (lw_at lw_m12 17 rfl) rfl
theorem q2785 : (Jvm.Cond.methodLink "FlareSlopes" (271 : Nat) ({ cls := "java/lang/Integer", name := "valueOf", desc := "(I)Ljava/lang/Integer;" } : Jvm.MethodName)) ∈ lw_all := lw_g (lw_at lw_m12 18 rfl) rfl
theorem q2805 : (Jvm.Cond.methodLink "FlareSlopes" (275 : Nat) ({ cls := "java/util/Set", name := "add", desc := "(Ljava/lang/Object;)Z" } : Jvm.MethodName)) ∈ lw_all := lw_g (lw_at lw_m12 38 rfl) rfl
theorem q3013 : (Jvm.Cond.methodLink "FlareSlopes" (306 : Nat) ({ cls := "java/util/Set", name := "size", desc := "()I" } : Jvm.MethodName)) ∈ lw_all := lw_g (lw_at lw_m13 6 rfl) rfl
theorem q3041 : (Jvm.Cond.instanceMethod ({ cls := "FlareSlopes", name := "slope", desc := "(II)I" } : Jvm.MethodName)) ∈ lw_all := lw_g (lw_at lw_m13 34 rfl) rfl
theorem q3042 : (Jvm.Cond.selects "FlareSlopes" ({ cls := "FlareSlopes", name := "slope", desc := "(II)I" } : Jvm.MethodName) ({ cls := "FlareSlopes", name := "slope", desc := "(II)I" } : Jvm.MethodName)) ∈ lw_all := lw_g (lw_at lw_m13 35 rfl) rfl
theorem q3043 : (Jvm.Cond.code ({ cls := "FlareSlopes", name := "slope", desc := "(II)I" } : Jvm.MethodName) prog_1_method_33_code (4 : Nat) (Option.some Jvm.ClassFile.FieldType.int)) ∈ lw_all := lw_g (lw_at lw_m13 36 rfl) rfl
theorem q3044 : (Jvm.Cond.methodLink "FlareSlopes" (317 : Nat) ({ cls := "FlareSlopes", name := "withSlope", desc := "(I)LFlareSlopes$Spot;" } : Jvm.MethodName)) ∈ lw_all := lw_g (lw_at lw_m13 37 rfl) rfl
theorem q3046 : (Jvm.Cond.instanceMethod ({ cls := "FlareSlopes", name := "withSlope", desc := "(I)LFlareSlopes$Spot;" } : Jvm.MethodName)) ∈ lw_all := lw_g (lw_at lw_m13 39 rfl) rfl
theorem q3047 : (Jvm.Cond.code ({ cls := "FlareSlopes", name := "withSlope", desc := "(I)LFlareSlopes$Spot;" } : Jvm.MethodName) prog_1_method_11_code (2 : Nat) (Option.some (Jvm.ClassFile.FieldType.object "FlareSlopes$Spot"))) ∈ lw_all := lw_g (lw_at lw_m13 40 rfl) rfl
theorem q3048 : (Jvm.Cond.methodLink "FlareSlopes" (83 : Nat) ({ cls := "FlareSlopes$State", name := "slope", desc := "(I)LFlareSlopes$Spot;" } : Jvm.MethodName)) ∈ lw_all := lw_g (lw_at lw_m13 41 rfl) rfl
theorem q3049 : (Jvm.Cond.methodLink "FlareSlopes" (325 : Nat) ({ cls := "FlareSlopes$State", name := "isDangerous", desc := "(I)Z" } : Jvm.MethodName)) ∈ lw_all := lw_g (lw_at lw_m13 42 rfl) rfl
theorem q3050 : (Jvm.Cond.methodLink "FlareSlopes" (329 : Nat) ({ cls := "FlareSlopes$State", name := "closers", desc := "(I)I" } : Jvm.MethodName)) ∈ lw_all := lw_g (lw_at lw_m13 43 rfl) rfl
theorem q3059 : (Jvm.Cond.methodLink "FlareSlopes" (332 : Nat) ({ cls := "FlareSlopes", name := "seersOf", desc := "(I)I" } : Jvm.MethodName)) ∈ lw_all := lw_g (lw_at lw_m13 52 rfl) rfl
theorem q3061 : (Jvm.Cond.instanceMethod ({ cls := "FlareSlopes", name := "seersOf", desc := "(I)I" } : Jvm.MethodName)) ∈ lw_all := lw_g (lw_at lw_m13 54 rfl) rfl
theorem q3062 : (Jvm.Cond.code ({ cls := "FlareSlopes", name := "seersOf", desc := "(I)I" } : Jvm.MethodName) prog_1_method_30_code (4 : Nat) (Option.some Jvm.ClassFile.FieldType.int)) ∈ lw_all := lw_g (lw_at lw_m13 55 rfl) rfl
theorem q3063 : (Jvm.Cond.methodLink "FlareSlopes" (335 : Nat) ({ cls := "FlareSlopes", name := "votesOn", desc := "(I)I" } : Jvm.MethodName)) ∈ lw_all := lw_g (lw_at lw_m13 56 rfl) rfl
theorem q3065 : (Jvm.Cond.instanceMethod ({ cls := "FlareSlopes", name := "votesOn", desc := "(I)I" } : Jvm.MethodName)) ∈ lw_all := lw_g (lw_at lw_m13 58 rfl) rfl
theorem q3066 : (Jvm.Cond.code ({ cls := "FlareSlopes", name := "votesOn", desc := "(I)I" } : Jvm.MethodName) prog_1_method_31_code (6 : Nat) (Option.some Jvm.ClassFile.FieldType.int)) ∈ lw_all := lw_g (lw_at lw_m13 59 rfl) rfl
theorem q3067 : (Jvm.Cond.methodLink "FlareSlopes" (338 : Nat) ({ cls := "FlareSlopes", name := "weightsOn", desc := "(IZ)I" } : Jvm.MethodName)) ∈ lw_all := lw_g (lw_at lw_m13 60 rfl) rfl
theorem q3069 : (Jvm.Cond.instanceMethod ({ cls := "FlareSlopes", name := "weightsOn", desc := "(IZ)I" } : Jvm.MethodName)) ∈ lw_all := lw_g (lw_at lw_m13 62 rfl) rfl
theorem q3070 : (Jvm.Cond.code ({ cls := "FlareSlopes", name := "weightsOn", desc := "(IZ)I" } : Jvm.MethodName) prog_1_method_32_code (5 : Nat) (Option.some Jvm.ClassFile.FieldType.int)) ∈ lw_all := lw_g (lw_at lw_m13 63 rfl) rfl
theorem q3071 : (Jvm.Cond.methodLink "FlareSlopes" (307 : Nat) ({ cls := "FlareSlopes$State", name := "laySums", desc := "(I)V" } : Jvm.MethodName)) ∈ lw_all := lw_g (lw_at lw_m13 64 rfl) rfl
theorem q3100 : (Jvm.Cond.instanceMethod ({ cls := "FlareSlopes", name := "ridge", desc := "(II)I" } : Jvm.MethodName)) ∈ lw_all := lw_g (lw_at lw_m13 93 rfl) rfl
theorem q3101 : (Jvm.Cond.selects "FlareSlopes" ({ cls := "FlareSlopes", name := "ridge", desc := "(II)I" } : Jvm.MethodName) ({ cls := "FlareSlopes", name := "ridge", desc := "(II)I" } : Jvm.MethodName)) ∈ lw_all := lw_g (lw_at lw_m13 94 rfl) rfl
theorem q3102 : (Jvm.Cond.code ({ cls := "FlareSlopes", name := "ridge", desc := "(II)I" } : Jvm.MethodName) prog_1_method_34_code (4 : Nat) (Option.some Jvm.ClassFile.FieldType.int)) ∈ lw_all := lw_g (lw_at lw_m13 95 rfl) rfl
theorem q3104 : (Jvm.Cond.methodLink "FlareSlopes" (342 : Nat) ({ cls := "java/util/List", name := "get", desc := "(I)Ljava/lang/Object;" } : Jvm.MethodName)) ∈ lw_all := lw_g (lw_at lw_m13 97 rfl) rfl
theorem q3105 : (Jvm.Cond.classLink "FlareSlopes" (346 : Nat) "FlareSlopes$Ridge") ∈ lw_all := lw_g (lw_at lw_m13 98 rfl) rfl
theorem q3110 : (Jvm.Cond.instanceMethod ({ cls := "FlareSlopes", name := "fog", desc := "(II)I" } : Jvm.MethodName)) ∈ lw_all := lw_g (lw_at lw_m13 103 rfl) rfl
theorem q3111 : (Jvm.Cond.selects "FlareSlopes" ({ cls := "FlareSlopes", name := "fog", desc := "(II)I" } : Jvm.MethodName) ({ cls := "FlareSlopes", name := "fog", desc := "(II)I" } : Jvm.MethodName)) ∈ lw_all := lw_g (lw_at lw_m13 104 rfl) rfl
theorem q3112 : (Jvm.Cond.code ({ cls := "FlareSlopes", name := "fog", desc := "(II)I" } : Jvm.MethodName) prog_1_method_35_code (4 : Nat) (Option.some Jvm.ClassFile.FieldType.int)) ∈ lw_all := lw_g (lw_at lw_m13 105 rfl) rfl
theorem q3113 : (Jvm.Cond.classLink "FlareSlopes" (352 : Nat) "FlareSlopes$Fog") ∈ lw_all := lw_g (lw_at lw_m13 106 rfl) rfl
theorem q3118 : (Jvm.Cond.instanceMethod ({ cls := "FlareSlopes", name := "sight", desc := "()I" } : Jvm.MethodName)) ∈ lw_all := lw_g (lw_at lw_m13 111 rfl) rfl
theorem q3119 : (Jvm.Cond.selects "FlareSlopes" ({ cls := "FlareSlopes", name := "sight", desc := "()I" } : Jvm.MethodName) ({ cls := "FlareSlopes", name := "sight", desc := "()I" } : Jvm.MethodName)) ∈ lw_all := lw_g (lw_at lw_m13 112 rfl) rfl
theorem q3120 : (Jvm.Cond.code ({ cls := "FlareSlopes", name := "sight", desc := "()I" } : Jvm.MethodName) prog_1_method_36_code (1 : Nat) (Option.some Jvm.ClassFile.FieldType.int)) ∈ lw_all := lw_g (lw_at lw_m13 113 rfl) rfl
theorem q3121 : (Jvm.Cond.methodLink "FlareSlopes" (363 : Nat) ({ cls := "FlareSlopes$State", name := "sight", desc := "()I" } : Jvm.MethodName)) ∈ lw_all := lw_g (lw_at lw_m13 114 rfl) rfl
theorem q3126 : (Jvm.Cond.instanceMethod ({ cls := "FlareSlopes", name := "sees", desc := "(II)Z" } : Jvm.MethodName)) ∈ lw_all := lw_g (lw_at lw_m13 119 rfl) rfl
theorem q3127 : (Jvm.Cond.selects "FlareSlopes" ({ cls := "FlareSlopes", name := "sees", desc := "(II)Z" } : Jvm.MethodName) ({ cls := "FlareSlopes", name := "sees", desc := "(II)Z" } : Jvm.MethodName)) ∈ lw_all := lw_g (lw_at lw_m13 120 rfl) rfl
theorem q3128 : (Jvm.Cond.code ({ cls := "FlareSlopes", name := "sees", desc := "(II)Z" } : Jvm.MethodName) prog_1_method_37_code (4 : Nat) (Option.some Jvm.ClassFile.FieldType.boolean)) ∈ lw_all := lw_g (lw_at lw_m13 121 rfl) rfl
theorem q3129 : (Jvm.Cond.methodLink "FlareSlopes" (366 : Nat) ({ cls := "FlareSlopes", name := "withTwo", desc := "(II)LFlareSlopes$Cabin;" } : Jvm.MethodName)) ∈ lw_all := lw_g (lw_at lw_m13 122 rfl) rfl
theorem q3131 : (Jvm.Cond.instanceMethod ({ cls := "FlareSlopes", name := "withTwo", desc := "(II)LFlareSlopes$Cabin;" } : Jvm.MethodName)) ∈ lw_all := lw_g (lw_at lw_m13 124 rfl) rfl
theorem q3132 : (Jvm.Cond.code ({ cls := "FlareSlopes", name := "withTwo", desc := "(II)LFlareSlopes$Cabin;" } : Jvm.MethodName) prog_1_method_13_code (4 : Nat) (Option.some (Jvm.ClassFile.FieldType.object "FlareSlopes$Cabin"))) ∈ lw_all := lw_g (lw_at lw_m13 125 rfl) rfl
theorem q3133 : (Jvm.Cond.methodLink "FlareSlopes" (370 : Nat) ({ cls := "FlareSlopes$State", name := "sees", desc := "(II)Z" } : Jvm.MethodName)) ∈ lw_all := lw_g (lw_at lw_m13 126 rfl) rfl
theorem q3138 : (Jvm.Cond.instanceMethod ({ cls := "FlareSlopes", name := "seesSlope", desc := "(II)Z" } : Jvm.MethodName)) ∈ lw_all := lw_g (lw_at lw_m13 131 rfl) rfl
theorem q3139 : (Jvm.Cond.selects "FlareSlopes" ({ cls := "FlareSlopes", name := "seesSlope", desc := "(II)Z" } : Jvm.MethodName) ({ cls := "FlareSlopes", name := "seesSlope", desc := "(II)Z" } : Jvm.MethodName)) ∈ lw_all := lw_g (lw_at lw_m13 132 rfl) rfl
theorem q3140 : (Jvm.Cond.code ({ cls := "FlareSlopes", name := "seesSlope", desc := "(II)Z" } : Jvm.MethodName) prog_1_method_38_code (4 : Nat) (Option.some Jvm.ClassFile.FieldType.boolean)) ∈ lw_all := lw_g (lw_at lw_m13 133 rfl) rfl
theorem q3141 : (Jvm.Cond.methodLink "FlareSlopes" (373 : Nat) ({ cls := "FlareSlopes", name := "withBoth", desc := "(II)LFlareSlopes$Cabin;" } : Jvm.MethodName)) ∈ lw_all := lw_g (lw_at lw_m13 134 rfl) rfl
theorem q3143 : (Jvm.Cond.instanceMethod ({ cls := "FlareSlopes", name := "withBoth", desc := "(II)LFlareSlopes$Cabin;" } : Jvm.MethodName)) ∈ lw_all := lw_g (lw_at lw_m13 136 rfl) rfl
theorem q3144 : (Jvm.Cond.code ({ cls := "FlareSlopes", name := "withBoth", desc := "(II)LFlareSlopes$Cabin;" } : Jvm.MethodName) prog_1_method_12_code (4 : Nat) (Option.some (Jvm.ClassFile.FieldType.object "FlareSlopes$Cabin"))) ∈ lw_all := lw_g (lw_at lw_m13 137 rfl) rfl
theorem q3149 : (Jvm.Cond.instanceMethod ({ cls := "FlareSlopes", name := "seers", desc := "(I)I" } : Jvm.MethodName)) ∈ lw_all := lw_g (lw_at lw_m13 142 rfl) rfl
theorem q3150 : (Jvm.Cond.selects "FlareSlopes" ({ cls := "FlareSlopes", name := "seers", desc := "(I)I" } : Jvm.MethodName) ({ cls := "FlareSlopes", name := "seers", desc := "(I)I" } : Jvm.MethodName)) ∈ lw_all := lw_g (lw_at lw_m13 143 rfl) rfl
theorem q3151 : (Jvm.Cond.code ({ cls := "FlareSlopes", name := "seers", desc := "(I)I" } : Jvm.MethodName) prog_1_method_39_code (3 : Nat) (Option.some Jvm.ClassFile.FieldType.int)) ∈ lw_all := lw_g (lw_at lw_m13 144 rfl) rfl
theorem q3156 : (Jvm.Cond.instanceMethod ({ cls := "FlareSlopes", name := "distance", desc := "(II)I" } : Jvm.MethodName)) ∈ lw_all := lw_g (lw_at lw_m13 149 rfl) rfl
theorem q3157 : (Jvm.Cond.selects "FlareSlopes" ({ cls := "FlareSlopes", name := "distance", desc := "(II)I" } : Jvm.MethodName) ({ cls := "FlareSlopes", name := "distance", desc := "(II)I" } : Jvm.MethodName)) ∈ lw_all := lw_g (lw_at lw_m13 150 rfl) rfl
theorem q3158 : (Jvm.Cond.code ({ cls := "FlareSlopes", name := "distance", desc := "(II)I" } : Jvm.MethodName) prog_1_method_40_code (3 : Nat) (Option.some Jvm.ClassFile.FieldType.int)) ∈ lw_all := lw_g (lw_at lw_m13 151 rfl) rfl
theorem q3163 : (Jvm.Cond.instanceMethod ({ cls := "FlareSlopes", name := "reached", desc := "(I)I" } : Jvm.MethodName)) ∈ lw_all := lw_g (lw_at lw_m13 156 rfl) rfl
theorem q3164 : (Jvm.Cond.selects "FlareSlopes" ({ cls := "FlareSlopes", name := "reached", desc := "(I)I" } : Jvm.MethodName) ({ cls := "FlareSlopes", name := "reached", desc := "(I)I" } : Jvm.MethodName)) ∈ lw_all := lw_g (lw_at lw_m13 157 rfl) rfl
theorem q3165 : (Jvm.Cond.code ({ cls := "FlareSlopes", name := "reached", desc := "(I)I" } : Jvm.MethodName) prog_1_method_41_code (3 : Nat) (Option.some Jvm.ClassFile.FieldType.int)) ∈ lw_all := lw_g (lw_at lw_m13 158 rfl) rfl
theorem q3166 : (Jvm.Cond.methodLink "FlareSlopes" (380 : Nat) ({ cls := "FlareSlopes$State", name := "reached", desc := "(II)I" } : Jvm.MethodName)) ∈ lw_all := lw_g (lw_at lw_m13 159 rfl) rfl
theorem q3175 : (Jvm.Cond.instanceMethod ({ cls := "FlareSlopes", name := "steps", desc := "(II)I" } : Jvm.MethodName)) ∈ lw_all := lw_g (lw_at lw_m13 168 rfl) rfl
theorem q3176 : (Jvm.Cond.selects "FlareSlopes" ({ cls := "FlareSlopes", name := "steps", desc := "(II)I" } : Jvm.MethodName) ({ cls := "FlareSlopes", name := "steps", desc := "(II)I" } : Jvm.MethodName)) ∈ lw_all := lw_g (lw_at lw_m13 169 rfl) rfl
theorem q3177 : (Jvm.Cond.code ({ cls := "FlareSlopes", name := "steps", desc := "(II)I" } : Jvm.MethodName) prog_1_method_42_code (4 : Nat) (Option.some Jvm.ClassFile.FieldType.int)) ∈ lw_all := lw_g (lw_at lw_m13 170 rfl) rfl
theorem q3178 : (Jvm.Cond.methodLink "FlareSlopes" (383 : Nat) ({ cls := "FlareSlopes$State", name := "steps", desc := "(II)I" } : Jvm.MethodName)) ∈ lw_all := lw_g (lw_at lw_m13 171 rfl) rfl
theorem q3187 : (Jvm.Cond.instanceMethod ({ cls := "FlareSlopes", name := "ridgesBetween", desc := "(II)I" } : Jvm.MethodName)) ∈ lw_all := lw_g (lw_at lw_m13 180 rfl) rfl
theorem q3188 : (Jvm.Cond.selects "FlareSlopes" ({ cls := "FlareSlopes", name := "ridgesBetween", desc := "(II)I" } : Jvm.MethodName) ({ cls := "FlareSlopes", name := "ridgesBetween", desc := "(II)I" } : Jvm.MethodName)) ∈ lw_all := lw_g (lw_at lw_m13 181 rfl) rfl
theorem q3189 : (Jvm.Cond.code ({ cls := "FlareSlopes", name := "ridgesBetween", desc := "(II)I" } : Jvm.MethodName) prog_1_method_43_code (4 : Nat) (Option.some Jvm.ClassFile.FieldType.int)) ∈ lw_all := lw_g (lw_at lw_m13 182 rfl) rfl
theorem q3190 : (Jvm.Cond.methodLink "FlareSlopes" (386 : Nat) ({ cls := "FlareSlopes$Mountain", name := "ridges", desc := "(LFlareSlopes$Located;LFlareSlopes$Located;)I" } : Jvm.MethodName)) ∈ lw_all := lw_g (lw_at lw_m13 183 rfl) rfl
theorem q3195 : (Jvm.Cond.instanceMethod ({ cls := "FlareSlopes", name := "vote", desc := "(IIII)I" } : Jvm.MethodName)) ∈ lw_all := lw_g (lw_at lw_m13 188 rfl) rfl
theorem q3196 : (Jvm.Cond.selects "FlareSlopes" ({ cls := "FlareSlopes", name := "vote", desc := "(IIII)I" } : Jvm.MethodName) ({ cls := "FlareSlopes", name := "vote", desc := "(IIII)I" } : Jvm.MethodName)) ∈ lw_all := lw_g (lw_at lw_m13 189 rfl) rfl
theorem q3197 : (Jvm.Cond.code ({ cls := "FlareSlopes", name := "vote", desc := "(IIII)I" } : Jvm.MethodName) prog_1_method_44_code (7 : Nat) (Option.some Jvm.ClassFile.FieldType.int)) ∈ lw_all := lw_g (lw_at lw_m13 190 rfl) rfl
theorem q3198 : (Jvm.Cond.methodLink "FlareSlopes" (389 : Nat) ({ cls := "FlareSlopes$Key", name := "<init>", desc := "(II)V" } : Jvm.MethodName)) ∈ lw_all := lw_g (lw_at lw_m13 191 rfl) rfl
theorem q3200 : (Jvm.Cond.methodLink "FlareSlopes" (391 : Nat) ({ cls := "java/util/Map", name := "get", desc := "(Ljava/lang/Object;)Ljava/lang/Object;" } : Jvm.MethodName)) ∈ lw_all := lw_g (lw_at lw_m13 193 rfl) rfl
theorem q3201 : (Jvm.Cond.methodLink "FlareSlopes" (395 : Nat) ({ cls := "FlareSlopes$State", name := "weight", desc := "(II)I" } : Jvm.MethodName)) ∈ lw_all := lw_g (lw_at lw_m13 194 rfl) rfl
theorem q3206 : (Jvm.Cond.instanceMethod ({ cls := "FlareSlopes", name := "weights", desc := "(IIZ)I" } : Jvm.MethodName)) ∈ lw_all := lw_g (lw_at lw_m13 199 rfl) rfl
theorem q3207 : (Jvm.Cond.selects "FlareSlopes" ({ cls := "FlareSlopes", name := "weights", desc := "(IIZ)I" } : Jvm.MethodName) ({ cls := "FlareSlopes", name := "weights", desc := "(IIZ)I" } : Jvm.MethodName)) ∈ lw_all := lw_g (lw_at lw_m13 200 rfl) rfl
theorem q3208 : (Jvm.Cond.code ({ cls := "FlareSlopes", name := "weights", desc := "(IIZ)I" } : Jvm.MethodName) prog_1_method_45_code (5 : Nat) (Option.some Jvm.ClassFile.FieldType.int)) ∈ lw_all := lw_g (lw_at lw_m13 201 rfl) rfl
theorem q3213 : (Jvm.Cond.instanceMethod ({ cls := "FlareSlopes", name := "rules", desc := "(II)I" } : Jvm.MethodName)) ∈ lw_all := lw_g (lw_at lw_m13 206 rfl) rfl
theorem q3214 : (Jvm.Cond.selects "FlareSlopes" ({ cls := "FlareSlopes", name := "rules", desc := "(II)I" } : Jvm.MethodName) ({ cls := "FlareSlopes", name := "rules", desc := "(II)I" } : Jvm.MethodName)) ∈ lw_all := lw_g (lw_at lw_m13 207 rfl) rfl
theorem q3215 : (Jvm.Cond.code ({ cls := "FlareSlopes", name := "rules", desc := "(II)I" } : Jvm.MethodName) prog_1_method_46_code (4 : Nat) (Option.some Jvm.ClassFile.FieldType.int)) ∈ lw_all := lw_g (lw_at lw_m13 208 rfl) rfl
theorem q3216 : (Jvm.Cond.methodLink "FlareSlopes" (398 : Nat) ({ cls := "FlareSlopes$State", name := "rules", desc := "(I)I" } : Jvm.MethodName)) ∈ lw_all := lw_g (lw_at lw_m13 209 rfl) rfl
theorem q3224 : (Jvm.Cond.instanceMethod ({ cls := "FlareSlopes", name := "run", desc := "(II)I" } : Jvm.MethodName)) ∈ lw_all := lw_g (lw_at lw_m13 217 rfl) rfl
theorem q3225 : (Jvm.Cond.selects "FlareSlopes" ({ cls := "FlareSlopes", name := "run", desc := "(II)I" } : Jvm.MethodName) ({ cls := "FlareSlopes", name := "run", desc := "(II)I" } : Jvm.MethodName)) ∈ lw_all := lw_g (lw_at lw_m13 218 rfl) rfl
theorem q3226 : (Jvm.Cond.code ({ cls := "FlareSlopes", name := "run", desc := "(II)I" } : Jvm.MethodName) prog_1_method_47_code (3 : Nat) (Option.some Jvm.ClassFile.FieldType.int)) ∈ lw_all := lw_g (lw_at lw_m13 219 rfl) rfl
theorem q3231 : (Jvm.Cond.instanceMethod ({ cls := "FlareSlopes", name := "isClosed", desc := "(II)Z" } : Jvm.MethodName)) ∈ lw_all := lw_g (lw_at lw_m13 224 rfl) rfl
theorem q3232 : (Jvm.Cond.selects "FlareSlopes" ({ cls := "FlareSlopes", name := "isClosed", desc := "(II)Z" } : Jvm.MethodName) ({ cls := "FlareSlopes", name := "isClosed", desc := "(II)Z" } : Jvm.MethodName)) ∈ lw_all := lw_g (lw_at lw_m13 225 rfl) rfl
theorem q3233 : (Jvm.Cond.code ({ cls := "FlareSlopes", name := "isClosed", desc := "(II)Z" } : Jvm.MethodName) prog_1_method_48_code (3 : Nat) (Option.some Jvm.ClassFile.FieldType.boolean)) ∈ lw_all := lw_g (lw_at lw_m13 226 rfl) rfl
theorem q3234 : (Jvm.Cond.methodLink "FlareSlopes" (404 : Nat) ({ cls := "FlareSlopes$Cabin", name := "holdsClosed", desc := "(I)Z" } : Jvm.MethodName)) ∈ lw_all := lw_g (lw_at lw_m13 227 rfl) rfl
theorem q3239 : (Jvm.Cond.instanceMethod ({ cls := "FlareSlopes", name := "toldClosed", desc := "(II)Z" } : Jvm.MethodName)) ∈ lw_all := lw_g (lw_at lw_m13 232 rfl) rfl
theorem q3240 : (Jvm.Cond.selects "FlareSlopes" ({ cls := "FlareSlopes", name := "toldClosed", desc := "(II)Z" } : Jvm.MethodName) ({ cls := "FlareSlopes", name := "toldClosed", desc := "(II)Z" } : Jvm.MethodName)) ∈ lw_all := lw_g (lw_at lw_m13 233 rfl) rfl
theorem q3241 : (Jvm.Cond.code ({ cls := "FlareSlopes", name := "toldClosed", desc := "(II)Z" } : Jvm.MethodName) prog_1_method_49_code (4 : Nat) (Option.some Jvm.ClassFile.FieldType.boolean)) ∈ lw_all := lw_g (lw_at lw_m13 234 rfl) rfl
theorem q3242 : (Jvm.Cond.methodLink "FlareSlopes" (407 : Nat) ({ cls := "FlareSlopes$State", name := "tellsClosed", desc := "(II)Z" } : Jvm.MethodName)) ∈ lw_all := lw_g (lw_at lw_m13 235 rfl) rfl
theorem q3252 : (Jvm.Cond.instanceMethod ({ cls := "FlareSlopes", name := "closers", desc := "(I)I" } : Jvm.MethodName)) ∈ lw_all := lw_g (lw_at lw_m14 5 rfl) rfl
theorem q3253 : (Jvm.Cond.selects "FlareSlopes" ({ cls := "FlareSlopes", name := "closers", desc := "(I)I" } : Jvm.MethodName) ({ cls := "FlareSlopes", name := "closers", desc := "(I)I" } : Jvm.MethodName)) ∈ lw_all := lw_g (lw_at lw_m14 6 rfl) rfl
theorem q3254 : (Jvm.Cond.code ({ cls := "FlareSlopes", name := "closers", desc := "(I)I" } : Jvm.MethodName) prog_1_method_50_code (3 : Nat) (Option.some Jvm.ClassFile.FieldType.int)) ∈ lw_all := lw_g (lw_at lw_m14 7 rfl) rfl
theorem q3259 : (Jvm.Cond.instanceMethod ({ cls := "FlareSlopes", name := "quarrels", desc := "(I)I" } : Jvm.MethodName)) ∈ lw_all := lw_g (lw_at lw_m14 12 rfl) rfl
theorem q3260 : (Jvm.Cond.selects "FlareSlopes" ({ cls := "FlareSlopes", name := "quarrels", desc := "(I)I" } : Jvm.MethodName) ({ cls := "FlareSlopes", name := "quarrels", desc := "(I)I" } : Jvm.MethodName)) ∈ lw_all := lw_g (lw_at lw_m14 13 rfl) rfl
theorem q3261 : (Jvm.Cond.code ({ cls := "FlareSlopes", name := "quarrels", desc := "(I)I" } : Jvm.MethodName) prog_1_method_51_code (6 : Nat) (Option.some Jvm.ClassFile.FieldType.int)) ∈ lw_all := lw_g (lw_at lw_m14 14 rfl) rfl
theorem q3266 : (Jvm.Cond.instanceMethod ({ cls := "FlareSlopes", name := "disputes", desc := "(I)I" } : Jvm.MethodName)) ∈ lw_all := lw_g (lw_at lw_m14 19 rfl) rfl
theorem q3267 : (Jvm.Cond.selects "FlareSlopes" ({ cls := "FlareSlopes", name := "disputes", desc := "(I)I" } : Jvm.MethodName) ({ cls := "FlareSlopes", name := "disputes", desc := "(I)I" } : Jvm.MethodName)) ∈ lw_all := lw_g (lw_at lw_m14 20 rfl) rfl
theorem q3268 : (Jvm.Cond.code ({ cls := "FlareSlopes", name := "disputes", desc := "(I)I" } : Jvm.MethodName) prog_1_method_52_code (7 : Nat) (Option.some Jvm.ClassFile.FieldType.int)) ∈ lw_all := lw_g (lw_at lw_m14 21 rfl) rfl
theorem q3270 : (Jvm.Cond.methodLink "FlareSlopes" (410 : Nat) ({ cls := "java/util/Map", name := "entrySet", desc := "()Ljava/util/Set;" } : Jvm.MethodName)) ∈ lw_all := lw_g (lw_at lw_m14 23 rfl) rfl
theorem q3295 : (Jvm.Cond.classLink "FlareSlopes" (413 : Nat) "java/util/Map$Entry") ∈ lw_all := lw_g (lw_at lw_m14 48 rfl) rfl
theorem q3297 : (Jvm.Cond.methodLink "FlareSlopes" (415 : Nat) ({ cls := "java/util/Map$Entry", name := "getValue", desc := "()Ljava/lang/Object;" } : Jvm.MethodName)) ∈ lw_all := lw_g (lw_at lw_m14 50 rfl) rfl
theorem q3313 : (Jvm.Cond.methodLink "FlareSlopes" (418 : Nat) ({ cls := "java/util/Map$Entry", name := "getKey", desc := "()Ljava/lang/Object;" } : Jvm.MethodName)) ∈ lw_all := lw_g (lw_at lw_m14 66 rfl) rfl
theorem q3323 : (Jvm.Cond.classLink "FlareSlopes" (183 : Nat) "java/lang/Integer") ∈ lw_all := lw_g (lw_at lw_m14 76 rfl) rfl
theorem q3324 : (Jvm.Cond.methodLink "FlareSlopes" (421 : Nat) ({ cls := "java/lang/Integer", name := "intValue", desc := "()I" } : Jvm.MethodName)) ∈ lw_all := lw_g (lw_at lw_m14 77 rfl) rfl
theorem q3326 : (Jvm.Cond.methodLink "FlareSlopes" (424 : Nat) ({ cls := "java/util/Set", name := "contains", desc := "(Ljava/lang/Object;)Z" } : Jvm.MethodName)) ∈ lw_all := lw_g (lw_at lw_m14 79 rfl) rfl
theorem q3384 : (Jvm.Cond.instanceMethod ({ cls := "FlareSlopes", name := "falseVotes", desc := "(I)I" } : Jvm.MethodName)) ∈ lw_all := lw_g (lw_at lw_m14 137 rfl) rfl
theorem q3385 : (Jvm.Cond.selects "FlareSlopes" ({ cls := "FlareSlopes", name := "falseVotes", desc := "(I)I" } : Jvm.MethodName) ({ cls := "FlareSlopes", name := "falseVotes", desc := "(I)I" } : Jvm.MethodName)) ∈ lw_all := lw_g (lw_at lw_m14 138 rfl) rfl
theorem q3386 : (Jvm.Cond.code ({ cls := "FlareSlopes", name := "falseVotes", desc := "(I)I" } : Jvm.MethodName) prog_1_method_53_code (3 : Nat) (Option.some Jvm.ClassFile.FieldType.int)) ∈ lw_all := lw_g (lw_at lw_m14 139 rfl) rfl
theorem q3387 : (Jvm.Cond.classLink "FlareSlopes" (427 : Nat) "FlareSlopes$2") ∈ lw_all := lw_g (lw_at lw_m14 140 rfl) rfl
theorem q3389 : (Jvm.Cond.methodLink "FlareSlopes" (429 : Nat) ({ cls := "FlareSlopes$2", name := "<init>", desc := "(LFlareSlopes;)V" } : Jvm.MethodName)) ∈ lw_all := lw_g (lw_at lw_m14 142 rfl) rfl
theorem q3401 : (Jvm.Cond.instanceMethod ({ cls := "FlareSlopes", name := "oldestVote", desc := "(I)I" } : Jvm.MethodName)) ∈ lw_all := lw_g (lw_at lw_m14 154 rfl) rfl
theorem q3402 : (Jvm.Cond.selects "FlareSlopes" ({ cls := "FlareSlopes", name := "oldestVote", desc := "(I)I" } : Jvm.MethodName) ({ cls := "FlareSlopes", name := "oldestVote", desc := "(I)I" } : Jvm.MethodName)) ∈ lw_all := lw_g (lw_at lw_m14 155 rfl) rfl
theorem q3403 : (Jvm.Cond.code ({ cls := "FlareSlopes", name := "oldestVote", desc := "(I)I" } : Jvm.MethodName) prog_1_method_54_code (5 : Nat) (Option.some Jvm.ClassFile.FieldType.int)) ∈ lw_all := lw_g (lw_at lw_m14 156 rfl) rfl
theorem q3408 : (Jvm.Cond.instanceMethod ({ cls := "FlareSlopes", name := "risky", desc := "()I" } : Jvm.MethodName)) ∈ lw_all := lw_g (lw_at lw_m14 161 rfl) rfl
theorem q3409 : (Jvm.Cond.selects "FlareSlopes" ({ cls := "FlareSlopes", name := "risky", desc := "()I" } : Jvm.MethodName) ({ cls := "FlareSlopes", name := "risky", desc := "()I" } : Jvm.MethodName)) ∈ lw_all := lw_g (lw_at lw_m14 162 rfl) rfl
theorem q3410 : (Jvm.Cond.code ({ cls := "FlareSlopes", name := "risky", desc := "()I" } : Jvm.MethodName) prog_1_method_55_code (4 : Nat) (Option.some Jvm.ClassFile.FieldType.int)) ∈ lw_all := lw_g (lw_at lw_m14 163 rfl) rfl
theorem q3415 : (Jvm.Cond.instanceMethod ({ cls := "FlareSlopes", name := "weightiest", desc := "(I)I" } : Jvm.MethodName)) ∈ lw_all := lw_g (lw_at lw_m14 168 rfl) rfl
theorem q3416 : (Jvm.Cond.selects "FlareSlopes" ({ cls := "FlareSlopes", name := "weightiest", desc := "(I)I" } : Jvm.MethodName) ({ cls := "FlareSlopes", name := "weightiest", desc := "(I)I" } : Jvm.MethodName)) ∈ lw_all := lw_g (lw_at lw_m14 169 rfl) rfl
theorem q3417 : (Jvm.Cond.code ({ cls := "FlareSlopes", name := "weightiest", desc := "(I)I" } : Jvm.MethodName) prog_1_method_56_code (5 : Nat) (Option.some Jvm.ClassFile.FieldType.int)) ∈ lw_all := lw_g (lw_at lw_m14 170 rfl) rfl
theorem q3422 : (Jvm.Cond.instanceMethod ({ cls := "FlareSlopes", name := "leastTrusted", desc := "()I" } : Jvm.MethodName)) ∈ lw_all := lw_g (lw_at lw_m14 175 rfl) rfl
theorem q3423 : (Jvm.Cond.selects "FlareSlopes" ({ cls := "FlareSlopes", name := "leastTrusted", desc := "()I" } : Jvm.MethodName) ({ cls := "FlareSlopes", name := "leastTrusted", desc := "()I" } : Jvm.MethodName)) ∈ lw_all := lw_g (lw_at lw_m14 176 rfl) rfl
theorem q3424 : (Jvm.Cond.code ({ cls := "FlareSlopes", name := "leastTrusted", desc := "()I" } : Jvm.MethodName) prog_1_method_57_code (4 : Nat) (Option.some Jvm.ClassFile.FieldType.int)) ∈ lw_all := lw_g (lw_at lw_m14 177 rfl) rfl
theorem q3429 : (Jvm.Cond.instanceMethod ({ cls := "FlareSlopes", name := "loneliest", desc := "()I" } : Jvm.MethodName)) ∈ lw_all := lw_g (lw_at lw_m14 182 rfl) rfl
theorem q3430 : (Jvm.Cond.selects "FlareSlopes" ({ cls := "FlareSlopes", name := "loneliest", desc := "()I" } : Jvm.MethodName) ({ cls := "FlareSlopes", name := "loneliest", desc := "()I" } : Jvm.MethodName)) ∈ lw_all := lw_g (lw_at lw_m14 183 rfl) rfl
theorem q3431 : (Jvm.Cond.code ({ cls := "FlareSlopes", name := "loneliest", desc := "()I" } : Jvm.MethodName) prog_1_method_58_code (6 : Nat) (Option.some Jvm.ClassFile.FieldType.int)) ∈ lw_all := lw_g (lw_at lw_m14 184 rfl) rfl
theorem q3436 : (Jvm.Cond.instanceMethod ({ cls := "FlareSlopes", name := "meanTrust", desc := "()D" } : Jvm.MethodName)) ∈ lw_all := lw_g (lw_at lw_m14 189 rfl) rfl
theorem q3437 : (Jvm.Cond.selects "FlareSlopes" ({ cls := "FlareSlopes", name := "meanTrust", desc := "()D" } : Jvm.MethodName) ({ cls := "FlareSlopes", name := "meanTrust", desc := "()D" } : Jvm.MethodName)) ∈ lw_all := lw_g (lw_at lw_m14 190 rfl) rfl
theorem q3438 : (Jvm.Cond.code ({ cls := "FlareSlopes", name := "meanTrust", desc := "()D" } : Jvm.MethodName) prog_1_method_59_code (4 : Nat) (Option.some Jvm.ClassFile.FieldType.double)) ∈ lw_all := lw_g (lw_at lw_m14 191 rfl) rfl
theorem q3443 : (Jvm.Cond.instanceMethod ({ cls := "FlareSlopes", name := "closedShare", desc := "(I)F" } : Jvm.MethodName)) ∈ lw_all := lw_g (lw_at lw_m14 196 rfl) rfl
theorem q3444 : (Jvm.Cond.selects "FlareSlopes" ({ cls := "FlareSlopes", name := "closedShare", desc := "(I)F" } : Jvm.MethodName) ({ cls := "FlareSlopes", name := "closedShare", desc := "(I)F" } : Jvm.MethodName)) ∈ lw_all := lw_g (lw_at lw_m14 197 rfl) rfl
theorem q3445 : (Jvm.Cond.code ({ cls := "FlareSlopes", name := "closedShare", desc := "(I)F" } : Jvm.MethodName) prog_1_method_60_code (3 : Nat) (Option.some Jvm.ClassFile.FieldType.float)) ∈ lw_all := lw_g (lw_at lw_m14 198 rfl) rfl
theorem q3450 : (Jvm.Cond.instanceMethod ({ cls := "FlareSlopes", name := "bulletin", desc := "(II)I" } : Jvm.MethodName)) ∈ lw_all := lw_g (lw_at lw_m14 203 rfl) rfl
theorem q3451 : (Jvm.Cond.selects "FlareSlopes" ({ cls := "FlareSlopes", name := "bulletin", desc := "(II)I" } : Jvm.MethodName) ({ cls := "FlareSlopes", name := "bulletin", desc := "(II)I" } : Jvm.MethodName)) ∈ lw_all := lw_g (lw_at lw_m14 204 rfl) rfl
theorem q3452 : (Jvm.Cond.code ({ cls := "FlareSlopes", name := "bulletin", desc := "(II)I" } : Jvm.MethodName) prog_1_method_61_code (6 : Nat) (Option.some Jvm.ClassFile.FieldType.int)) ∈ lw_all := lw_g (lw_at lw_m14 205 rfl) rfl
theorem q3453 : (Jvm.Cond.methodLink "FlareSlopes" (434 : Nat) ({ cls := "java/util/ArrayDeque", name := "iterator", desc := "()Ljava/util/Iterator;" } : Jvm.MethodName)) ∈ lw_all := lw_g (lw_at lw_m14 206 rfl) rfl
theorem q3454 : (Jvm.Cond.classLink "FlareSlopes" (435 : Nat) "FlareSlopes$Bulletin") ∈ lw_all := lw_g (lw_at lw_m14 207 rfl) rfl
theorem q3459 : (Jvm.Cond.instanceMethod ({ cls := "FlareSlopes", name := "closesIn", desc := "(II)I" } : Jvm.MethodName)) ∈ lw_all := lw_g (lw_at lw_m14 212 rfl) rfl
theorem q3460 : (Jvm.Cond.selects "FlareSlopes" ({ cls := "FlareSlopes", name := "closesIn", desc := "(II)I" } : Jvm.MethodName) ({ cls := "FlareSlopes", name := "closesIn", desc := "(II)I" } : Jvm.MethodName)) ∈ lw_all := lw_g (lw_at lw_m14 213 rfl) rfl
theorem q3461 : (Jvm.Cond.code ({ cls := "FlareSlopes", name := "closesIn", desc := "(II)I" } : Jvm.MethodName) prog_1_method_64_code (3 : Nat) (Option.some Jvm.ClassFile.FieldType.int)) ∈ lw_all := lw_g (lw_at lw_m14 214 rfl) rfl
theorem q3462 : (Jvm.Cond.methodLink "FlareSlopes" (448 : Nat) ({ cls := "FlareSlopes", name := "holdsIn", desc := "(IIZ)I" } : Jvm.MethodName)) ∈ lw_all := lw_g (lw_at lw_m14 215 rfl) rfl
theorem q3464 : (Jvm.Cond.instanceMethod ({ cls := "FlareSlopes", name := "holdsIn", desc := "(IIZ)I" } : Jvm.MethodName)) ∈ lw_all := lw_g (lw_at lw_m14 217 rfl) rfl
theorem q3465 : (Jvm.Cond.code ({ cls := "FlareSlopes", name := "holdsIn", desc := "(IIZ)I" } : Jvm.MethodName) prog_1_method_63_code (7 : Nat) (Option.some Jvm.ClassFile.FieldType.int)) ∈ lw_all := lw_g (lw_at lw_m14 218 rfl) rfl
theorem q3466 : (Jvm.Cond.methodLink "FlareSlopes" (442 : Nat) ({ cls := "FlareSlopes$State", name := "<init>", desc := "(LFlareSlopes$State;)V" } : Jvm.MethodName)) ∈ lw_all := lw_g (lw_at lw_m14 219 rfl) rfl
theorem q3520 : (Jvm.Cond.methodLink "FlareSlopes" (445 : Nat) ({ cls := "FlareSlopes$State", name := "tick", desc := "()V" } : Jvm.MethodName)) ∈ lw_all := lw_g (lw_at lw_m15 33 rfl) rfl
theorem q3572 : (Jvm.Cond.instanceMethod ({ cls := "FlareSlopes", name := "opensIn", desc := "(II)I" } : Jvm.MethodName)) ∈ lw_all := lw_g (lw_at lw_m15 85 rfl) rfl
theorem q3573 : (Jvm.Cond.selects "FlareSlopes" ({ cls := "FlareSlopes", name := "opensIn", desc := "(II)I" } : Jvm.MethodName) ({ cls := "FlareSlopes", name := "opensIn", desc := "(II)I" } : Jvm.MethodName)) ∈ lw_all := lw_g (lw_at lw_m15 86 rfl) rfl
theorem q3574 : (Jvm.Cond.code ({ cls := "FlareSlopes", name := "opensIn", desc := "(II)I" } : Jvm.MethodName) prog_1_method_65_code (3 : Nat) (Option.some Jvm.ClassFile.FieldType.int)) ∈ lw_all := lw_g (lw_at lw_m15 87 rfl) rfl
theorem q3579 : (Jvm.Cond.instanceMethod ({ cls := "FlareSlopes", name := "closersIn", desc := "(II)I" } : Jvm.MethodName)) ∈ lw_all := lw_g (lw_at lw_m15 92 rfl) rfl
theorem q3580 : (Jvm.Cond.selects "FlareSlopes" ({ cls := "FlareSlopes", name := "closersIn", desc := "(II)I" } : Jvm.MethodName) ({ cls := "FlareSlopes", name := "closersIn", desc := "(II)I" } : Jvm.MethodName)) ∈ lw_all := lw_g (lw_at lw_m15 93 rfl) rfl
theorem q3581 : (Jvm.Cond.code ({ cls := "FlareSlopes", name := "closersIn", desc := "(II)I" } : Jvm.MethodName) prog_1_method_66_code (4 : Nat) (Option.some Jvm.ClassFile.FieldType.int)) ∈ lw_all := lw_g (lw_at lw_m15 94 rfl) rfl
theorem q3582 : (Jvm.Cond.methodLink "FlareSlopes" (452 : Nat) ({ cls := "FlareSlopes", name := "checkTicks", desc := "(I)V" } : Jvm.MethodName)) ∈ lw_all := lw_g (lw_at lw_m15 95 rfl) rfl
theorem q3583 : (Jvm.Cond.static ({ cls := "FlareSlopes", name := "checkTicks", desc := "(I)V" } : Jvm.MethodName)) ∈ lw_all := lw_g (lw_at lw_m15 96 rfl) rfl
theorem q3584 : (Jvm.Cond.code ({ cls := "FlareSlopes", name := "checkTicks", desc := "(I)V" } : Jvm.MethodName) prog_1_method_62_code (1 : Nat) (Option.none : Option Jvm.ClassFile.FieldType)) ∈ lw_all := lw_g (lw_at lw_m15 97 rfl) rfl
theorem q3585 : (Jvm.Cond.methodLink "FlareSlopes" (455 : Nat) ({ cls := "FlareSlopes$State", name := "ticks", desc := "(I)LFlareSlopes$State;" } : Jvm.MethodName)) ∈ lw_all := lw_g (lw_at lw_m15 98 rfl) rfl
theorem q3594 : (Jvm.Cond.instanceMethod ({ cls := "FlareSlopes", name := "votesIn", desc := "(I)I" } : Jvm.MethodName)) ∈ lw_all := lw_g (lw_at lw_m15 107 rfl) rfl
theorem q3595 : (Jvm.Cond.selects "FlareSlopes" ({ cls := "FlareSlopes", name := "votesIn", desc := "(I)I" } : Jvm.MethodName) ({ cls := "FlareSlopes", name := "votesIn", desc := "(I)I" } : Jvm.MethodName)) ∈ lw_all := lw_g (lw_at lw_m15 108 rfl) rfl
theorem q3596 : (Jvm.Cond.code ({ cls := "FlareSlopes", name := "votesIn", desc := "(I)I" } : Jvm.MethodName) prog_1_method_67_code (3 : Nat) (Option.some Jvm.ClassFile.FieldType.int)) ∈ lw_all := lw_g (lw_at lw_m15 109 rfl) rfl
theorem q3601 : (Jvm.Cond.instanceMethod ({ cls := "FlareSlopes", name := "seeIn", desc := "(II)I" } : Jvm.MethodName)) ∈ lw_all := lw_g (lw_at lw_m15 114 rfl) rfl
theorem q3602 : (Jvm.Cond.selects "FlareSlopes" ({ cls := "FlareSlopes", name := "seeIn", desc := "(II)I" } : Jvm.MethodName) ({ cls := "FlareSlopes", name := "seeIn", desc := "(II)I" } : Jvm.MethodName)) ∈ lw_all := lw_g (lw_at lw_m15 115 rfl) rfl
theorem q3603 : (Jvm.Cond.code ({ cls := "FlareSlopes", name := "seeIn", desc := "(II)I" } : Jvm.MethodName) prog_1_method_68_code (6 : Nat) (Option.some Jvm.ClassFile.FieldType.int)) ∈ lw_all := lw_g (lw_at lw_m15 116 rfl) rfl
theorem q3608 : (Jvm.Cond.instanceMethod ({ cls := "FlareSlopes", name := "closersIf", desc := "(III)I" } : Jvm.MethodName)) ∈ lw_all := lw_g (lw_at lw_m15 121 rfl) rfl
theorem q3609 : (Jvm.Cond.selects "FlareSlopes" ({ cls := "FlareSlopes", name := "closersIf", desc := "(III)I" } : Jvm.MethodName) ({ cls := "FlareSlopes", name := "closersIf", desc := "(III)I" } : Jvm.MethodName)) ∈ lw_all := lw_g (lw_at lw_m15 122 rfl) rfl
theorem q3610 : (Jvm.Cond.code ({ cls := "FlareSlopes", name := "closersIf", desc := "(III)I" } : Jvm.MethodName) prog_1_method_70_code (5 : Nat) (Option.some Jvm.ClassFile.FieldType.int)) ∈ lw_all := lw_g (lw_at lw_m15 123 rfl) rfl
theorem q3611 : (Jvm.Cond.methodLink "FlareSlopes" (462 : Nat) ({ cls := "FlareSlopes", name := "closersBy", desc := "(III)I" } : Jvm.MethodName)) ∈ lw_all := lw_g (lw_at lw_m15 124 rfl) rfl
theorem q3613 : (Jvm.Cond.instanceMethod ({ cls := "FlareSlopes", name := "closersBy", desc := "(III)I" } : Jvm.MethodName)) ∈ lw_all := lw_g (lw_at lw_m15 126 rfl) rfl
theorem q3614 : (Jvm.Cond.code ({ cls := "FlareSlopes", name := "closersBy", desc := "(III)I" } : Jvm.MethodName) prog_1_method_69_code (6 : Nat) (Option.some Jvm.ClassFile.FieldType.int)) ∈ lw_all := lw_g (lw_at lw_m15 127 rfl) rfl
theorem q3615 : (Jvm.Cond.methodLink "FlareSlopes" (459 : Nat) ({ cls := "FlareSlopes$State", name := "fires", desc := "(IIZ)I" } : Jvm.MethodName)) ∈ lw_all := lw_g (lw_at lw_m15 128 rfl) rfl
theorem q3628 : (Jvm.Cond.fieldLinkNest "FlareSlopes" (233 : Nat) "FlareSlopes$Vote" "red" "Z" "FlareSlopes") ∈ lw_tbl := lw_at lw_m15 141 rfl
theorem q3631 : (Jvm.Cond.fieldLinkNest "FlareSlopes" (394 : Nat) "FlareSlopes$Vote" "time" "I" "FlareSlopes") ∈ lw_tbl := lw_at lw_m15 144 rfl
theorem q3643 : (Jvm.Cond.instanceMethod ({ cls := "FlareSlopes", name := "bestCaller", desc := "(II)I" } : Jvm.MethodName)) ∈ lw_all := lw_g (lw_at lw_m15 156 rfl) rfl
theorem q3644 : (Jvm.Cond.selects "FlareSlopes" ({ cls := "FlareSlopes", name := "bestCaller", desc := "(II)I" } : Jvm.MethodName) ({ cls := "FlareSlopes", name := "bestCaller", desc := "(II)I" } : Jvm.MethodName)) ∈ lw_all := lw_g (lw_at lw_m15 157 rfl) rfl
theorem q3645 : (Jvm.Cond.code ({ cls := "FlareSlopes", name := "bestCaller", desc := "(II)I" } : Jvm.MethodName) prog_1_method_71_code (8 : Nat) (Option.some Jvm.ClassFile.FieldType.int)) ∈ lw_all := lw_g (lw_at lw_m15 158 rfl) rfl
theorem q3650 : (Jvm.Cond.instanceMethod ({ cls := "FlareSlopes", name := "leastShare", desc := "(II)I" } : Jvm.MethodName)) ∈ lw_all := lw_g (lw_at lw_m15 163 rfl) rfl
theorem q3651 : (Jvm.Cond.selects "FlareSlopes" ({ cls := "FlareSlopes", name := "leastShare", desc := "(II)I" } : Jvm.MethodName) ({ cls := "FlareSlopes", name := "leastShare", desc := "(II)I" } : Jvm.MethodName)) ∈ lw_all := lw_g (lw_at lw_m15 164 rfl) rfl
theorem q3652 : (Jvm.Cond.code ({ cls := "FlareSlopes", name := "leastShare", desc := "(II)I" } : Jvm.MethodName) prog_1_method_72_code (5 : Nat) (Option.some Jvm.ClassFile.FieldType.int)) ∈ lw_all := lw_g (lw_at lw_m15 165 rfl) rfl
theorem q3657 : (Jvm.Cond.instanceMethod ({ cls := "FlareSlopes", name := "writeBulletin", desc := "(I)I" } : Jvm.MethodName)) ∈ lw_all := lw_g (lw_at lw_m15 170 rfl) rfl
theorem q3658 : (Jvm.Cond.selects "FlareSlopes" ({ cls := "FlareSlopes", name := "writeBulletin", desc := "(I)I" } : Jvm.MethodName) ({ cls := "FlareSlopes", name := "writeBulletin", desc := "(I)I" } : Jvm.MethodName)) ∈ lw_all := lw_g (lw_at lw_m15 171 rfl) rfl
theorem q3659 : (Jvm.Cond.code ({ cls := "FlareSlopes", name := "writeBulletin", desc := "(I)I" } : Jvm.MethodName) prog_1_method_73_code (5 : Nat) (Option.some Jvm.ClassFile.FieldType.int)) ∈ lw_all := lw_g (lw_at lw_m15 172 rfl) rfl
theorem q3660 : (Jvm.Cond.methodLink "FlareSlopes" (466 : Nat) ({ cls := "FlareSlopes$State", name := "tells", desc := "(I)I" } : Jvm.MethodName)) ∈ lw_all := lw_g (lw_at lw_m15 173 rfl) rfl
theorem q3665 : (Jvm.Cond.methodLink "FlareSlopes" (469 : Nat) ({ cls := "java/lang/StringBuilder", name := "setLength", desc := "(I)V" } : Jvm.MethodName)) ∈ lw_all := lw_g (lw_at lw_m15 178 rfl) rfl
theorem q3717 : (Jvm.Cond.methodLink "FlareSlopes" (472 : Nat) ({ cls := "FlareSlopes$Register", name := "get", desc := "(I)LFlareSlopes$Named;" } : Jvm.MethodName)) ∈ lw_all := lw_g (lw_at lw_m15 230 rfl) rfl
theorem q3718 : (Jvm.Cond.classLink "FlareSlopes" (321 : Nat) "FlareSlopes$Spot") ∈ lw_all := lw_g (lw_at lw_m15 231 rfl) rfl
theorem q3719 : (Jvm.Cond.methodLink "FlareSlopes" (479 : Nat) ({ cls := "java/lang/StringBuilder", name := "append", desc := "(Ljava/lang/String;)Ljava/lang/StringBuilder;" } : Jvm.MethodName)) ∈ lw_all := lw_g (lw_at lw_m15 232 rfl) rfl
theorem q3720 : (Jvm.Cond.methodLink "FlareSlopes" (482 : Nat) ({ cls := "FlareSlopes", name := "has", desc := "(II)Z" } : Jvm.MethodName)) ∈ lw_all := lw_g (lw_at lw_m15 233 rfl) rfl
theorem q3721 : (Jvm.Cond.methodLink "FlareSlopes" (485 : Nat) ({ cls := "java/lang/StringBuilder", name := "length", desc := "()I" } : Jvm.MethodName)) ∈ lw_all := lw_g (lw_at lw_m15 234 rfl) rfl
theorem q3726 : (Jvm.Cond.instanceMethod ({ cls := "FlareSlopes", name := "writeVotes", desc := "(II)I" } : Jvm.MethodName)) ∈ lw_all := lw_g (lw_at lw_m15 239 rfl) rfl
theorem q3727 : (Jvm.Cond.selects "FlareSlopes" ({ cls := "FlareSlopes", name := "writeVotes", desc := "(II)I" } : Jvm.MethodName) ({ cls := "FlareSlopes", name := "writeVotes", desc := "(II)I" } : Jvm.MethodName)) ∈ lw_all := lw_g (lw_at lw_m16 0 rfl) rfl
theorem q3728 : (Jvm.Cond.code ({ cls := "FlareSlopes", name := "writeVotes", desc := "(II)I" } : Jvm.MethodName) prog_1_method_74_code (6 : Nat) (Option.some Jvm.ClassFile.FieldType.int)) ∈ lw_all := lw_g (lw_at lw_m16 1 rfl) rfl
theorem q3729 : (Jvm.Cond.methodLink "FlareSlopes" (488 : Nat) ({ cls := "java/lang/StringBuilder", name := "append", desc := "(I)Ljava/lang/StringBuilder;" } : Jvm.MethodName)) ∈ lw_all := lw_g (lw_at lw_m16 2 rfl) rfl
theorem q3734 : (Jvm.Cond.instanceMethod ({ cls := "FlareSlopes", name := "writeView", desc := "()I" } : Jvm.MethodName)) ∈ lw_all := lw_g (lw_at lw_m16 7 rfl) rfl
theorem q3735 : (Jvm.Cond.selects "FlareSlopes" ({ cls := "FlareSlopes", name := "writeView", desc := "()I" } : Jvm.MethodName) ({ cls := "FlareSlopes", name := "writeView", desc := "()I" } : Jvm.MethodName)) ∈ lw_all := lw_g (lw_at lw_m16 8 rfl) rfl
theorem q3736 : (Jvm.Cond.code ({ cls := "FlareSlopes", name := "writeView", desc := "()I" } : Jvm.MethodName) prog_1_method_75_code (3 : Nat) (Option.some Jvm.ClassFile.FieldType.int)) ∈ lw_all := lw_g (lw_at lw_m16 9 rfl) rfl
theorem q3741 : (Jvm.Cond.instanceMethod ({ cls := "FlareSlopes", name := "textByte", desc := "(I)I" } : Jvm.MethodName)) ∈ lw_all := lw_g (lw_at lw_m16 14 rfl) rfl
theorem q3742 : (Jvm.Cond.selects "FlareSlopes" ({ cls := "FlareSlopes", name := "textByte", desc := "(I)I" } : Jvm.MethodName) ({ cls := "FlareSlopes", name := "textByte", desc := "(I)I" } : Jvm.MethodName)) ∈ lw_all := lw_g (lw_at lw_m16 15 rfl) rfl
theorem q3743 : (Jvm.Cond.code ({ cls := "FlareSlopes", name := "textByte", desc := "(I)I" } : Jvm.MethodName) prog_1_method_76_code (2 : Nat) (Option.some Jvm.ClassFile.FieldType.int)) ∈ lw_all := lw_g (lw_at lw_m16 16 rfl) rfl
theorem q3744 : (Jvm.Cond.methodLink "FlareSlopes" (491 : Nat) ({ cls := "java/lang/StringBuilder", name := "charAt", desc := "(I)C" } : Jvm.MethodName)) ∈ lw_all := lw_g (lw_at lw_m16 17 rfl) rfl
theorem q3749 : (Jvm.Cond.instanceMethod ({ cls := "FlareSlopes", name := "tick", desc := "(I)I" } : Jvm.MethodName)) ∈ lw_all := lw_g (lw_at lw_m16 22 rfl) rfl
theorem q3750 : (Jvm.Cond.selects "FlareSlopes" ({ cls := "FlareSlopes", name := "tick", desc := "(I)I" } : Jvm.MethodName) ({ cls := "FlareSlopes", name := "tick", desc := "(I)I" } : Jvm.MethodName)) ∈ lw_all := lw_g (lw_at lw_m16 23 rfl) rfl
theorem q3751 : (Jvm.Cond.code ({ cls := "FlareSlopes", name := "tick", desc := "(I)I" } : Jvm.MethodName) prog_1_method_78_code (5 : Nat) (Option.some Jvm.ClassFile.FieldType.int)) ∈ lw_all := lw_g (lw_at lw_m16 24 rfl) rfl
theorem q3752 : (Jvm.Cond.methodLink "FlareSlopes" (502 : Nat) ({ cls := "FlareSlopes", name := "change", desc := "()LFlareSlopes$State;" } : Jvm.MethodName)) ∈ lw_all := lw_g (lw_at lw_m16 25 rfl) rfl
theorem q3754 : (Jvm.Cond.instanceMethod ({ cls := "FlareSlopes", name := "change", desc := "()LFlareSlopes$State;" } : Jvm.MethodName)) ∈ lw_all := lw_g (lw_at lw_m16 27 rfl) rfl
theorem q3755 : (Jvm.Cond.code ({ cls := "FlareSlopes", name := "change", desc := "()LFlareSlopes$State;" } : Jvm.MethodName) prog_1_method_77_code (1 : Nat) (Option.some (Jvm.ClassFile.FieldType.object "FlareSlopes$State"))) ∈ lw_all := lw_g (lw_at lw_m16 28 rfl) rfl
theorem q3756 : (Jvm.Cond.methodLink "FlareSlopes" (495 : Nat) ({ cls := "java/util/ArrayDeque", name := "removeFirst", desc := "()Ljava/lang/Object;" } : Jvm.MethodName)) ∈ lw_all := lw_g (lw_at lw_m16 29 rfl) rfl
theorem q3767 : (Jvm.Cond.methodLink "FlareSlopes" (498 : Nat) ({ cls := "java/util/ArrayDeque", name := "addLast", desc := "(Ljava/lang/Object;)V" } : Jvm.MethodName)) ∈ lw_all := lw_g (lw_at lw_m16 40 rfl) rfl
theorem q3772 : (Jvm.Cond.instanceMethod ({ cls := "FlareSlopes", name := "flare", desc := "(IIZ)I" } : Jvm.MethodName)) ∈ lw_all := lw_g (lw_at lw_m16 45 rfl) rfl
theorem q3773 : (Jvm.Cond.selects "FlareSlopes" ({ cls := "FlareSlopes", name := "flare", desc := "(IIZ)I" } : Jvm.MethodName) ({ cls := "FlareSlopes", name := "flare", desc := "(IIZ)I" } : Jvm.MethodName)) ∈ lw_all := lw_g (lw_at lw_m16 46 rfl) rfl
theorem q3774 : (Jvm.Cond.code ({ cls := "FlareSlopes", name := "flare", desc := "(IIZ)I" } : Jvm.MethodName) prog_1_method_79_code (6 : Nat) (Option.some Jvm.ClassFile.FieldType.int)) ∈ lw_all := lw_g (lw_at lw_m16 47 rfl) rfl
theorem q3779 : (Jvm.Cond.instanceMethod ({ cls := "FlareSlopes", name := "inspect", desc := "(II)I" } : Jvm.MethodName)) ∈ lw_all := lw_g (lw_at lw_m16 52 rfl) rfl
theorem q3780 : (Jvm.Cond.selects "FlareSlopes" ({ cls := "FlareSlopes", name := "inspect", desc := "(II)I" } : Jvm.MethodName) ({ cls := "FlareSlopes", name := "inspect", desc := "(II)I" } : Jvm.MethodName)) ∈ lw_all := lw_g (lw_at lw_m16 53 rfl) rfl
theorem q3781 : (Jvm.Cond.code ({ cls := "FlareSlopes", name := "inspect", desc := "(II)I" } : Jvm.MethodName) prog_1_method_80_code (4 : Nat) (Option.some Jvm.ClassFile.FieldType.int)) ∈ lw_all := lw_g (lw_at lw_m16 54 rfl) rfl
theorem q3782 : (Jvm.Cond.methodLink "FlareSlopes" (505 : Nat) ({ cls := "FlareSlopes$State", name := "inspects", desc := "(II)I" } : Jvm.MethodName)) ∈ lw_all := lw_g (lw_at lw_m16 55 rfl) rfl
theorem q3800 : (Jvm.Cond.instanceMethod ({ cls := "FlareSlopes", name := "danger", desc := "(IZ)Z" } : Jvm.MethodName)) ∈ lw_all := lw_g (lw_at lw_m16 73 rfl) rfl
theorem q3801 : (Jvm.Cond.selects "FlareSlopes" ({ cls := "FlareSlopes", name := "danger", desc := "(IZ)Z" } : Jvm.MethodName) ({ cls := "FlareSlopes", name := "danger", desc := "(IZ)Z" } : Jvm.MethodName)) ∈ lw_all := lw_g (lw_at lw_m16 74 rfl) rfl
theorem q3802 : (Jvm.Cond.code ({ cls := "FlareSlopes", name := "danger", desc := "(IZ)Z" } : Jvm.MethodName) prog_1_method_81_code (6 : Nat) (Option.some Jvm.ClassFile.FieldType.boolean)) ∈ lw_all := lw_g (lw_at lw_m16 75 rfl) rfl
theorem q3807 : (Jvm.Cond.instanceMethod ({ cls := "FlareSlopes", name := "issue", desc := "(I)I" } : Jvm.MethodName)) ∈ lw_all := lw_g (lw_at lw_m16 80 rfl) rfl
theorem q3808 : (Jvm.Cond.selects "FlareSlopes" ({ cls := "FlareSlopes", name := "issue", desc := "(I)I" } : Jvm.MethodName) ({ cls := "FlareSlopes", name := "issue", desc := "(I)I" } : Jvm.MethodName)) ∈ lw_all := lw_g (lw_at lw_m16 81 rfl) rfl
theorem q3809 : (Jvm.Cond.code ({ cls := "FlareSlopes", name := "issue", desc := "(I)I" } : Jvm.MethodName) prog_1_method_82_code (4 : Nat) (Option.some Jvm.ClassFile.FieldType.int)) ∈ lw_all := lw_g (lw_at lw_m16 82 rfl) rfl
theorem q3810 : (Jvm.Cond.methodLink "FlareSlopes" (508 : Nat) ({ cls := "FlareSlopes$State", name := "issues", desc := "(I)V" } : Jvm.MethodName)) ∈ lw_all := lw_g (lw_at lw_m16 83 rfl) rfl
theorem q3821 : (Jvm.Cond.fieldLinkNest "FlareSlopes" (437 : Nat) "FlareSlopes$Bulletin" "time" "I" "FlareSlopes") ∈ lw_tbl := lw_at lw_m16 94 rfl
theorem q3823 : (Jvm.Cond.fieldLinkNest "FlareSlopes" (438 : Nat) "FlareSlopes$Bulletin" "cabin" "I" "FlareSlopes") ∈ lw_tbl := lw_at lw_m16 96 rfl
theorem q3825 : (Jvm.Cond.fieldLinkNest "FlareSlopes" (440 : Nat) "FlareSlopes$Bulletin" "closed" "I" "FlareSlopes") ∈ lw_tbl := lw_at lw_m16 98 rfl
theorem q3827 : (Jvm.Cond.fieldLinkNest "FlareSlopes" (441 : Nat) "FlareSlopes$Bulletin" "dangers" "I" "FlareSlopes") ∈ lw_tbl := lw_at lw_m16 100 rfl
theorem q3862 : (Jvm.Cond.instanceMethod ({ cls := "FlareSlopes", name := "give", desc := "(II)I" } : Jvm.MethodName)) ∈ lw_all := lw_g (lw_at lw_m16 135 rfl) rfl
theorem q3863 : (Jvm.Cond.selects "FlareSlopes" ({ cls := "FlareSlopes", name := "give", desc := "(II)I" } : Jvm.MethodName) ({ cls := "FlareSlopes", name := "give", desc := "(II)I" } : Jvm.MethodName)) ∈ lw_all := lw_g (lw_at lw_m16 136 rfl) rfl
theorem q3864 : (Jvm.Cond.code ({ cls := "FlareSlopes", name := "give", desc := "(II)I" } : Jvm.MethodName) prog_1_method_83_code (5 : Nat) (Option.some Jvm.ClassFile.FieldType.int)) ∈ lw_all := lw_g (lw_at lw_m16 137 rfl) rfl
theorem q3869 : (Jvm.Cond.instanceMethod ({ cls := "FlareSlopes", name := "move", desc := "(III)I" } : Jvm.MethodName)) ∈ lw_all := lw_g (lw_at lw_m16 142 rfl) rfl
theorem q3870 : (Jvm.Cond.selects "FlareSlopes" ({ cls := "FlareSlopes", name := "move", desc := "(III)I" } : Jvm.MethodName) ({ cls := "FlareSlopes", name := "move", desc := "(III)I" } : Jvm.MethodName)) ∈ lw_all := lw_g (lw_at lw_m16 143 rfl) rfl
theorem q3871 : (Jvm.Cond.code ({ cls := "FlareSlopes", name := "move", desc := "(III)I" } : Jvm.MethodName) prog_1_method_84_code (6 : Nat) (Option.some Jvm.ClassFile.FieldType.int)) ∈ lw_all := lw_g (lw_at lw_m16 144 rfl) rfl
theorem q3876 : (Jvm.Cond.instanceMethod ({ cls := "FlareSlopes", name := "trust", desc := "(II)I" } : Jvm.MethodName)) ∈ lw_all := lw_g (lw_at lw_m16 149 rfl) rfl
theorem q3877 : (Jvm.Cond.selects "FlareSlopes" ({ cls := "FlareSlopes", name := "trust", desc := "(II)I" } : Jvm.MethodName) ({ cls := "FlareSlopes", name := "trust", desc := "(II)I" } : Jvm.MethodName)) ∈ lw_all := lw_g (lw_at lw_m16 150 rfl) rfl
theorem q3878 : (Jvm.Cond.code ({ cls := "FlareSlopes", name := "trust", desc := "(II)I" } : Jvm.MethodName) prog_1_method_85_code (5 : Nat) (Option.some Jvm.ClassFile.FieldType.int)) ∈ lw_all := lw_g (lw_at lw_m16 151 rfl) rfl
theorem q3879 : (Jvm.Cond.methodLink "FlareSlopes" (511 : Nat) ({ cls := "FlareSlopes$Cabin", name := "trusts", desc := "(I)V" } : Jvm.MethodName)) ∈ lw_all := lw_g (lw_at lw_m16 152 rfl) rfl
theorem q3884 : (Jvm.Cond.instanceMethod ({ cls := "FlareSlopes", name := "forget", desc := "(I)I" } : Jvm.MethodName)) ∈ lw_all := lw_g (lw_at lw_m16 157 rfl) rfl
theorem q3885 : (Jvm.Cond.selects "FlareSlopes" ({ cls := "FlareSlopes", name := "forget", desc := "(I)I" } : Jvm.MethodName) ({ cls := "FlareSlopes", name := "forget", desc := "(I)I" } : Jvm.MethodName)) ∈ lw_all := lw_g (lw_at lw_m16 158 rfl) rfl
theorem q3886 : (Jvm.Cond.code ({ cls := "FlareSlopes", name := "forget", desc := "(I)I" } : Jvm.MethodName) prog_1_method_86_code (4 : Nat) (Option.some Jvm.ClassFile.FieldType.int)) ∈ lw_all := lw_g (lw_at lw_m16 159 rfl) rfl
theorem q3888 : (Jvm.Cond.methodLink "FlareSlopes" (514 : Nat) ({ cls := "java/util/Map", name := "clear", desc := "()V" } : Jvm.MethodName)) ∈ lw_all := lw_g (lw_at lw_m16 161 rfl) rfl
theorem q3903 : (Jvm.Cond.instanceMethod ({ cls := "FlareSlopes", name := "set", desc := "(II)I" } : Jvm.MethodName)) ∈ lw_all := lw_g (lw_at lw_m16 176 rfl) rfl
theorem q3904 : (Jvm.Cond.selects "FlareSlopes" ({ cls := "FlareSlopes", name := "set", desc := "(II)I" } : Jvm.MethodName) ({ cls := "FlareSlopes", name := "set", desc := "(II)I" } : Jvm.MethodName)) ∈ lw_all := lw_g (lw_at lw_m16 177 rfl) rfl
theorem q3905 : (Jvm.Cond.code ({ cls := "FlareSlopes", name := "set", desc := "(II)I" } : Jvm.MethodName) prog_1_method_87_code (5 : Nat) (Option.some Jvm.ClassFile.FieldType.int)) ∈ lw_all := lw_g (lw_at lw_m16 178 rfl) rfl
theorem q3906 : (Jvm.Cond.methodLink "FlareSlopes" (515 : Nat) ({ cls := "FlareSlopes", name := "leastOf", desc := "(I[I)I" } : Jvm.MethodName)) ∈ lw_all := lw_g (lw_at lw_m16 179 rfl) rfl
theorem q3907 : (Jvm.Cond.methodLink "FlareSlopes" (519 : Nat) ({ cls := "FlareSlopes", name := "mostOf", desc := "(I[I)I" } : Jvm.MethodName)) ∈ lw_all := lw_g (lw_at lw_m16 180 rfl) rfl
theorem q3912 : (Jvm.Cond.instanceMethod ({ cls := "FlareSlopes", name := "undo", desc := "()I" } : Jvm.MethodName)) ∈ lw_all := lw_g (lw_at lw_m16 185 rfl) rfl
theorem q3913 : (Jvm.Cond.selects "FlareSlopes" ({ cls := "FlareSlopes", name := "undo", desc := "()I" } : Jvm.MethodName) ({ cls := "FlareSlopes", name := "undo", desc := "()I" } : Jvm.MethodName)) ∈ lw_all := lw_g (lw_at lw_m16 186 rfl) rfl
theorem q3914 : (Jvm.Cond.code ({ cls := "FlareSlopes", name := "undo", desc := "()I" } : Jvm.MethodName) prog_1_method_88_code (1 : Nat) (Option.some Jvm.ClassFile.FieldType.int)) ∈ lw_all := lw_g (lw_at lw_m16 187 rfl) rfl
theorem q3915 : (Jvm.Cond.methodLink "FlareSlopes" (522 : Nat) ({ cls := "java/util/ArrayDeque", name := "isEmpty", desc := "()Z" } : Jvm.MethodName)) ∈ lw_all := lw_g (lw_at lw_m16 188 rfl) rfl
theorem q3919 : (Jvm.Cond.methodLink "FlareSlopes" (525 : Nat) ({ cls := "java/util/ArrayDeque", name := "removeLast", desc := "()Ljava/lang/Object;" } : Jvm.MethodName)) ∈ lw_all := lw_g (lw_at lw_m16 192 rfl) rfl
theorem q3924 : (Jvm.Cond.instanceMethod ({ cls := "FlareSlopes", name := "save", desc := "(I)I" } : Jvm.MethodName)) ∈ lw_all := lw_g (lw_at lw_m16 197 rfl) rfl
theorem q3925 : (Jvm.Cond.selects "FlareSlopes" ({ cls := "FlareSlopes", name := "save", desc := "(I)I" } : Jvm.MethodName) ({ cls := "FlareSlopes", name := "save", desc := "(I)I" } : Jvm.MethodName)) ∈ lw_all := lw_g (lw_at lw_m16 198 rfl) rfl
theorem q3926 : (Jvm.Cond.code ({ cls := "FlareSlopes", name := "save", desc := "(I)I" } : Jvm.MethodName) prog_1_method_90_code (3 : Nat) (Option.some Jvm.ClassFile.FieldType.int)) ∈ lw_all := lw_g (lw_at lw_m16 199 rfl) rfl
theorem q3931 : (Jvm.Cond.instanceMethod ({ cls := "FlareSlopes", name := "restore", desc := "(I)I" } : Jvm.MethodName)) ∈ lw_all := lw_g (lw_at lw_m16 204 rfl) rfl
theorem q3932 : (Jvm.Cond.selects "FlareSlopes" ({ cls := "FlareSlopes", name := "restore", desc := "(I)I" } : Jvm.MethodName) ({ cls := "FlareSlopes", name := "restore", desc := "(I)I" } : Jvm.MethodName)) ∈ lw_all := lw_g (lw_at lw_m16 205 rfl) rfl
theorem q3933 : (Jvm.Cond.code ({ cls := "FlareSlopes", name := "restore", desc := "(I)I" } : Jvm.MethodName) prog_1_method_91_code (2 : Nat) (Option.some Jvm.ClassFile.FieldType.int)) ∈ lw_all := lw_g (lw_at lw_m16 206 rfl) rfl
theorem q4670 : (Jvm.Cond.castable "FlareSlopes" "java/lang/Object") ∈ lw_tbl := lw_at lw_m19 223 rfl
theorem in_X1 : ∀ w ∈ wsX10, w ∈ lw_all := lw_in wsX10 [277, 279, 281, 283, 285, 287, 289, 291] (by decide +kernel) (by decide +kernel)
