set_option maxRecDepth 100000
/-! J0.java_util_AbstractCollection.lean.txt -/
def RJ0 : String := "java/util/AbstractCollection"
abbrev cJ0_init : ByteArray := prog_53_method_1_code
def yJ0_init : MethodName := ⟨RJ0, "<init>", "()V"⟩
theorem dJ0_init_0 : decode cJ0_init 0 = .ok (.aload_n 0, 1) := by decide +kernel
theorem dJ0_init_1 : decode cJ0_init 1 = .ok (.invokespecial 1, 3) := by decide +kernel
theorem dJ0_init_4 : decode cJ0_init 4 = .ok (.return_, 1) := by decide +kernel
theorem q129 : (Jvm.Cond.initialized "java/util/AbstractCollection") ∈ lw_all := lw_g (lw_at lw_m1 2 rfl) rfl
theorem q215 : (Jvm.Cond.instanceMethod ({ cls := "java/util/AbstractCollection", name := "<init>", desc := "()V" } : Jvm.MethodName)) ∈ lw_all := lw_g (lw_at lw_m1 88 rfl) rfl
theorem q216 : (Jvm.Cond.code ({ cls := "java/util/AbstractCollection", name := "<init>", desc := "()V" } : Jvm.MethodName) prog_53_method_1_code (1 : Nat) (Option.none : Option Jvm.ClassFile.FieldType)) ∈ lw_all := lw_g (lw_at lw_m1 89 rfl) rfl
theorem q217 : (Jvm.Cond.methodLink "java/util/AbstractCollection" (1 : Nat) ({ cls := "java/lang/Object", name := "<init>", desc := "()V" } : Jvm.MethodName)) ∈ lw_all := lw_g (lw_at lw_m1 90 rfl) rfl
/-! J1.java_util_ArrayDeque.lean.txt -/
def RJ1 : String := "java/util/ArrayDeque"
def TJ1 : u_T := fun k => match k with
  | 0 => ("java/util/ArrayDeque", "elements", "[Ljava/lang/Object;", false)
  | 1 => ("java/util/ArrayDeque", "head", "I", false)
  | _ => ("java/util/ArrayDeque", "tail", "I", false)
def tyJ1 : Nat → FieldType := fun k => match k with
  | 0 => .array (.object "java/lang/Object")
  | 1 => .int
  | _ => .int
abbrev wsJ10 : List Cond := u_ws RJ1 TJ1 3
theorem nmJ1 : ∀ a, a < 3 → ∀ b, b < 3 → a ≠ b → (TJ1 a).2.1 ≠ (TJ1 b).2.1 := by decide +kernel
theorem tyJ1_ok : ∀ k, k < 3 → parseFieldDescriptor (TJ1 k).2.2.1 = some (tyJ1 k) := by decide +kernel
abbrev cJ1_init : ByteArray := prog_57_method_3_code
def yJ1_init : MethodName := ⟨RJ1, "<init>", "()V"⟩
def dkwJ1_init_0 : List UInt8 := [42, 183, 0, 42, 42, 16, 17, 189, 0, 47, 181, 0, 3, 177]
abbrev dktJ1_init_0 : List UInt8 := dkwJ1_init_0 ++ []
theorem dksJ1_init_0 : cJ1_init.data.toList.drop 0 = dktJ1_init_0 := by decide +kernel
theorem dJ1_init_0 : decode cJ1_init 0 = .ok (.aload_n 0, 1) := dk_42 (dk_at dksJ1_init_0 0 rfl rfl)
theorem dJ1_init_1 : decode cJ1_init 1 = .ok (.invokespecial 42, 3) := dk_183 0 42 (dk_at dksJ1_init_0 1 rfl rfl)
theorem dJ1_init_4 : decode cJ1_init 4 = .ok (.aload_n 0, 1) := dk_42 (dk_at dksJ1_init_0 4 rfl rfl)
theorem dJ1_init_5 : decode cJ1_init 5 = .ok (.bipush 17, 2) := dk_16 17 (dk_at dksJ1_init_0 5 rfl rfl)
theorem dJ1_init_7 : decode cJ1_init 7 = .ok (.anewarray 47, 3) := dk_189 0 47 (dk_at dksJ1_init_0 7 rfl rfl)
theorem dJ1_init_10 : decode cJ1_init 10 = .ok (.putfield 3, 3) := dk_181 0 3 (dk_at dksJ1_init_0 10 rfl rfl)
theorem dJ1_init_13 : decode cJ1_init 13 = .ok (.return_, 1) := dk_177 (dk_at dksJ1_init_0 13 rfl rfl)
abbrev cJ1_size : ByteArray := prog_57_method_37_code
def yJ1_size : MethodName := ⟨RJ1, "size", "()I"⟩
def dkwJ1_size_0 : List UInt8 := [42, 180, 0, 20, 42, 180, 0, 24, 42, 180, 0, 3, 190, 184, 0, 127, 172]
abbrev dktJ1_size_0 : List UInt8 := dkwJ1_size_0 ++ []
theorem dksJ1_size_0 : cJ1_size.data.toList.drop 0 = dktJ1_size_0 := by decide +kernel
theorem dJ1_size_0 : decode cJ1_size 0 = .ok (.aload_n 0, 1) := dk_42 (dk_at dksJ1_size_0 0 rfl rfl)
theorem dJ1_size_1 : decode cJ1_size 1 = .ok (.getfield 20, 3) := dk_180 0 20 (dk_at dksJ1_size_0 1 rfl rfl)
theorem dJ1_size_4 : decode cJ1_size 4 = .ok (.aload_n 0, 1) := dk_42 (dk_at dksJ1_size_0 4 rfl rfl)
theorem dJ1_size_5 : decode cJ1_size 5 = .ok (.getfield 24, 3) := dk_180 0 24 (dk_at dksJ1_size_0 5 rfl rfl)
theorem dJ1_size_8 : decode cJ1_size 8 = .ok (.aload_n 0, 1) := dk_42 (dk_at dksJ1_size_0 8 rfl rfl)
theorem dJ1_size_9 : decode cJ1_size 9 = .ok (.getfield 3, 3) := dk_180 0 3 (dk_at dksJ1_size_0 9 rfl rfl)
theorem dJ1_size_12 : decode cJ1_size 12 = .ok (.arraylength, 1) := dk_190 (dk_at dksJ1_size_0 12 rfl rfl)
theorem dJ1_size_13 : decode cJ1_size 13 = .ok (.invokestatic 127, 3) := dk_184 0 127 (dk_at dksJ1_size_0 13 rfl rfl)
theorem dJ1_size_16 : decode cJ1_size 16 = .ok (.ireturn, 1) := dk_172 (dk_at dksJ1_size_0 16 rfl rfl)
abbrev cJ1_sub : ByteArray := prog_57_method_9_code
def yJ1_sub : MethodName := ⟨RJ1, "sub", "(III)I"⟩
def dkwJ1_sub_0 : List UInt8 := [26, 27, 100, 89, 59, 156, 0, 7, 26, 28, 96, 59, 26, 172]
abbrev dktJ1_sub_0 : List UInt8 := dkwJ1_sub_0 ++ []
theorem dksJ1_sub_0 : cJ1_sub.data.toList.drop 0 = dktJ1_sub_0 := by decide +kernel
theorem dJ1_sub_0 : decode cJ1_sub 0 = .ok (.iload_n 0, 1) := dk_26 (dk_at dksJ1_sub_0 0 rfl rfl)
theorem dJ1_sub_1 : decode cJ1_sub 1 = .ok (.iload_n 1, 1) := dk_27 (dk_at dksJ1_sub_0 1 rfl rfl)
theorem dJ1_sub_2 : decode cJ1_sub 2 = .ok (.isub, 1) := dk_100 (dk_at dksJ1_sub_0 2 rfl rfl)
theorem dJ1_sub_3 : decode cJ1_sub 3 = .ok (.dup, 1) := dk_89 (dk_at dksJ1_sub_0 3 rfl rfl)
theorem dJ1_sub_4 : decode cJ1_sub 4 = .ok (.istore_n 0, 1) := dk_59 (dk_at dksJ1_sub_0 4 rfl rfl)
theorem dJ1_sub_5 : decode cJ1_sub 5 = .ok (.ifCond .ge 7, 3) := dk_156 0 7 (dk_at dksJ1_sub_0 5 rfl rfl)
theorem dJ1_sub_8 : decode cJ1_sub 8 = .ok (.iload_n 0, 1) := dk_26 (dk_at dksJ1_sub_0 8 rfl rfl)
theorem dJ1_sub_9 : decode cJ1_sub 9 = .ok (.iload_n 2, 1) := dk_28 (dk_at dksJ1_sub_0 9 rfl rfl)
theorem dJ1_sub_10 : decode cJ1_sub 10 = .ok (.iadd, 1) := dk_96 (dk_at dksJ1_sub_0 10 rfl rfl)
theorem dJ1_sub_11 : decode cJ1_sub 11 = .ok (.istore_n 0, 1) := dk_59 (dk_at dksJ1_sub_0 11 rfl rfl)
theorem dJ1_sub_12 : decode cJ1_sub 12 = .ok (.iload_n 0, 1) := dk_26 (dk_at dksJ1_sub_0 12 rfl rfl)
theorem dJ1_sub_13 : decode cJ1_sub 13 = .ok (.ireturn, 1) := dk_172 (dk_at dksJ1_sub_0 13 rfl rfl)
abbrev cJ1_clear : ByteArray := prog_57_method_53_code
def yJ1_clear : MethodName := ⟨RJ1, "clear", "()V"⟩
def dkwJ1_clear_1 : List UInt8 := [181, 0, 24, 177]
abbrev dktJ1_clear_1 : List UInt8 := dkwJ1_clear_1 ++ []
def dkwJ1_clear_0 : List UInt8 := [42, 180, 0, 3, 42, 180, 0, 24, 42, 180, 0, 20, 184, 0, 181, 42, 42, 3, 90, 181, 0, 20]
abbrev dktJ1_clear_0 : List UInt8 := dkwJ1_clear_0 ++ dktJ1_clear_1
theorem dksJ1_clear_0 : cJ1_clear.data.toList.drop 0 = dktJ1_clear_0 := by decide +kernel
theorem dksJ1_clear_1 : cJ1_clear.data.toList.drop 22 = dktJ1_clear_1 := dk_seg dksJ1_clear_0 22 rfl rfl
theorem dJ1_clear_0 : decode cJ1_clear 0 = .ok (.aload_n 0, 1) := dk_42 (dk_at dksJ1_clear_0 0 rfl rfl)
theorem dJ1_clear_1 : decode cJ1_clear 1 = .ok (.getfield 3, 3) := dk_180 0 3 (dk_at dksJ1_clear_0 1 rfl rfl)
theorem dJ1_clear_4 : decode cJ1_clear 4 = .ok (.aload_n 0, 1) := dk_42 (dk_at dksJ1_clear_0 4 rfl rfl)
theorem dJ1_clear_5 : decode cJ1_clear 5 = .ok (.getfield 24, 3) := dk_180 0 24 (dk_at dksJ1_clear_0 5 rfl rfl)
theorem dJ1_clear_8 : decode cJ1_clear 8 = .ok (.aload_n 0, 1) := dk_42 (dk_at dksJ1_clear_0 8 rfl rfl)
theorem dJ1_clear_9 : decode cJ1_clear 9 = .ok (.getfield 20, 3) := dk_180 0 20 (dk_at dksJ1_clear_0 9 rfl rfl)
theorem dJ1_clear_12 : decode cJ1_clear 12 = .ok (.invokestatic 181, 3) := dk_184 0 181 (dk_at dksJ1_clear_0 12 rfl rfl)
theorem dJ1_clear_15 : decode cJ1_clear 15 = .ok (.aload_n 0, 1) := dk_42 (dk_at dksJ1_clear_0 15 rfl rfl)
theorem dJ1_clear_16 : decode cJ1_clear 16 = .ok (.aload_n 0, 1) := dk_42 (dk_at dksJ1_clear_0 16 rfl rfl)
theorem dJ1_clear_17 : decode cJ1_clear 17 = .ok (.iconst 0, 1) := dk_3 (dk_at dksJ1_clear_0 17 rfl rfl)
theorem dJ1_clear_18 : decode cJ1_clear 18 = .ok (.dup_x1, 1) := dk_90 (dk_at dksJ1_clear_0 18 rfl rfl)
theorem dJ1_clear_19 : decode cJ1_clear 19 = .ok (.putfield 20, 3) := dk_181 0 20 (dk_at dksJ1_clear_0 19 rfl rfl)
theorem dJ1_clear_22 : decode cJ1_clear 22 = .ok (.putfield 24, 3) := dk_181 0 24 (dk_at dksJ1_clear_1 0 rfl rfl)
theorem dJ1_clear_25 : decode cJ1_clear 25 = .ok (.return_, 1) := dk_177 (dk_at dksJ1_clear_1 3 rfl rfl)
abbrev cJ1_circularClear : ByteArray := prog_57_method_54_code
def yJ1_circularClear : MethodName := ⟨RJ1, "circularClear", "([Ljava/lang/Object;II)V"⟩
def dkwJ1_circularClear_1 : List UInt8 := [167, 255, 244, 29, 28, 160, 0, 6, 167, 0, 10, 3, 60, 28, 62, 167, 255, 229, 177]
abbrev dktJ1_circularClear_1 : List UInt8 := dkwJ1_circularClear_1 ++ []
def dkwJ1_circularClear_0 : List UInt8 := [27, 28, 163, 0, 7, 28, 167, 0, 5, 42, 190, 62, 27, 29, 162, 0, 13, 42, 27, 1, 83, 132, 1, 1]
abbrev dktJ1_circularClear_0 : List UInt8 := dkwJ1_circularClear_0 ++ dktJ1_circularClear_1
theorem dksJ1_circularClear_0 : cJ1_circularClear.data.toList.drop 0 = dktJ1_circularClear_0 := by decide +kernel
theorem dksJ1_circularClear_1 : cJ1_circularClear.data.toList.drop 24 = dktJ1_circularClear_1 := dk_seg dksJ1_circularClear_0 24 rfl rfl
theorem dJ1_circularClear_0 : decode cJ1_circularClear 0 = .ok (.iload_n 1, 1) := dk_27 (dk_at dksJ1_circularClear_0 0 rfl rfl)
theorem dJ1_circularClear_1 : decode cJ1_circularClear 1 = .ok (.iload_n 2, 1) := dk_28 (dk_at dksJ1_circularClear_0 1 rfl rfl)
theorem dJ1_circularClear_2 : decode cJ1_circularClear 2 = .ok (.if_icmp .gt 7, 3) := dk_163 0 7 (dk_at dksJ1_circularClear_0 2 rfl rfl)
theorem dJ1_circularClear_5 : decode cJ1_circularClear 5 = .ok (.iload_n 2, 1) := dk_28 (dk_at dksJ1_circularClear_0 5 rfl rfl)
theorem dJ1_circularClear_6 : decode cJ1_circularClear 6 = .ok (.goto 5, 3) := dk_167 0 5 (dk_at dksJ1_circularClear_0 6 rfl rfl)
theorem dJ1_circularClear_9 : decode cJ1_circularClear 9 = .ok (.aload_n 0, 1) := dk_42 (dk_at dksJ1_circularClear_0 9 rfl rfl)
theorem dJ1_circularClear_10 : decode cJ1_circularClear 10 = .ok (.arraylength, 1) := dk_190 (dk_at dksJ1_circularClear_0 10 rfl rfl)
theorem dJ1_circularClear_11 : decode cJ1_circularClear 11 = .ok (.istore_n 3, 1) := dk_62 (dk_at dksJ1_circularClear_0 11 rfl rfl)
theorem dJ1_circularClear_12 : decode cJ1_circularClear 12 = .ok (.iload_n 1, 1) := dk_27 (dk_at dksJ1_circularClear_0 12 rfl rfl)
theorem dJ1_circularClear_13 : decode cJ1_circularClear 13 = .ok (.iload_n 3, 1) := dk_29 (dk_at dksJ1_circularClear_0 13 rfl rfl)
theorem dJ1_circularClear_14 : decode cJ1_circularClear 14 = .ok (.if_icmp .ge 13, 3) := dk_162 0 13 (dk_at dksJ1_circularClear_0 14 rfl rfl)
theorem dJ1_circularClear_17 : decode cJ1_circularClear 17 = .ok (.aload_n 0, 1) := dk_42 (dk_at dksJ1_circularClear_0 17 rfl rfl)
theorem dJ1_circularClear_18 : decode cJ1_circularClear 18 = .ok (.iload_n 1, 1) := dk_27 (dk_at dksJ1_circularClear_0 18 rfl rfl)
theorem dJ1_circularClear_19 : decode cJ1_circularClear 19 = .ok (.aconst_null, 1) := dk_1 (dk_at dksJ1_circularClear_0 19 rfl rfl)
theorem dJ1_circularClear_20 : decode cJ1_circularClear 20 = .ok (.aastore, 1) := dk_83 (dk_at dksJ1_circularClear_0 20 rfl rfl)
theorem dJ1_circularClear_21 : decode cJ1_circularClear 21 = .ok (.iinc 1 1, 3) := dk_132 1 1 (dk_at dksJ1_circularClear_0 21 rfl rfl)
theorem dJ1_circularClear_24 : decode cJ1_circularClear 24 = .ok (.goto (-12), 3) := dk_167 255 244 (dk_at dksJ1_circularClear_1 0 rfl rfl)
theorem dJ1_circularClear_27 : decode cJ1_circularClear 27 = .ok (.iload_n 3, 1) := dk_29 (dk_at dksJ1_circularClear_1 3 rfl rfl)
theorem dJ1_circularClear_28 : decode cJ1_circularClear 28 = .ok (.iload_n 2, 1) := dk_28 (dk_at dksJ1_circularClear_1 4 rfl rfl)
theorem dJ1_circularClear_29 : decode cJ1_circularClear 29 = .ok (.if_icmp .ne 6, 3) := dk_160 0 6 (dk_at dksJ1_circularClear_1 5 rfl rfl)
theorem dJ1_circularClear_32 : decode cJ1_circularClear 32 = .ok (.goto 10, 3) := dk_167 0 10 (dk_at dksJ1_circularClear_1 8 rfl rfl)
theorem dJ1_circularClear_35 : decode cJ1_circularClear 35 = .ok (.iconst 0, 1) := dk_3 (dk_at dksJ1_circularClear_1 11 rfl rfl)
theorem dJ1_circularClear_36 : decode cJ1_circularClear 36 = .ok (.istore_n 1, 1) := dk_60 (dk_at dksJ1_circularClear_1 12 rfl rfl)
theorem dJ1_circularClear_37 : decode cJ1_circularClear 37 = .ok (.iload_n 2, 1) := dk_28 (dk_at dksJ1_circularClear_1 13 rfl rfl)
theorem dJ1_circularClear_38 : decode cJ1_circularClear 38 = .ok (.istore_n 3, 1) := dk_62 (dk_at dksJ1_circularClear_1 14 rfl rfl)
theorem dJ1_circularClear_39 : decode cJ1_circularClear 39 = .ok (.goto (-27), 3) := dk_167 255 229 (dk_at dksJ1_circularClear_1 15 rfl rfl)
theorem dJ1_circularClear_42 : decode cJ1_circularClear 42 = .ok (.return_, 1) := dk_177 (dk_at dksJ1_circularClear_1 18 rfl rfl)
abbrev cJ1_nonNullElementAt : ByteArray := prog_57_method_11_code
def yJ1_nonNullElementAt : MethodName := ⟨RJ1, "nonNullElementAt", "([Ljava/lang/Object;I)Ljava/lang/Object;"⟩
def dkwJ1_nonNullElementAt_0 : List UInt8 := [42, 27, 50, 77, 44, 199, 0, 11, 187, 0, 62, 89, 183, 0, 64, 191, 44, 176]
abbrev dktJ1_nonNullElementAt_0 : List UInt8 := dkwJ1_nonNullElementAt_0 ++ []
theorem dksJ1_nonNullElementAt_0 : cJ1_nonNullElementAt.data.toList.drop 0 = dktJ1_nonNullElementAt_0 := by decide +kernel
theorem dJ1_nonNullElementAt_0 : decode cJ1_nonNullElementAt 0 = .ok (.aload_n 0, 1) := dk_42 (dk_at dksJ1_nonNullElementAt_0 0 rfl rfl)
theorem dJ1_nonNullElementAt_1 : decode cJ1_nonNullElementAt 1 = .ok (.iload_n 1, 1) := dk_27 (dk_at dksJ1_nonNullElementAt_0 1 rfl rfl)
theorem dJ1_nonNullElementAt_2 : decode cJ1_nonNullElementAt 2 = .ok (.aaload, 1) := dk_50 (dk_at dksJ1_nonNullElementAt_0 2 rfl rfl)
theorem dJ1_nonNullElementAt_3 : decode cJ1_nonNullElementAt 3 = .ok (.astore_n 2, 1) := dk_77 (dk_at dksJ1_nonNullElementAt_0 3 rfl rfl)
theorem dJ1_nonNullElementAt_4 : decode cJ1_nonNullElementAt 4 = .ok (.aload_n 2, 1) := dk_44 (dk_at dksJ1_nonNullElementAt_0 4 rfl rfl)
theorem dJ1_nonNullElementAt_5 : decode cJ1_nonNullElementAt 5 = .ok (.ifnonnull 11, 3) := dk_199 0 11 (dk_at dksJ1_nonNullElementAt_0 5 rfl rfl)
theorem dJ1_nonNullElementAt_8 : decode cJ1_nonNullElementAt 8 = .ok (.new 62, 3) := dk_187 0 62 (dk_at dksJ1_nonNullElementAt_0 8 rfl rfl)
theorem dJ1_nonNullElementAt_16 : decode cJ1_nonNullElementAt 16 = .ok (.aload_n 2, 1) := dk_44 (dk_at dksJ1_nonNullElementAt_0 16 rfl rfl)
theorem dJ1_nonNullElementAt_17 : decode cJ1_nonNullElementAt 17 = .ok (.areturn, 1) := dk_176 (dk_at dksJ1_nonNullElementAt_0 17 rfl rfl)
abbrev cJ1_inc : ByteArray := prog_57_method_6_code
def yJ1_inc : MethodName := ⟨RJ1, "inc", "(II)I"⟩
def dkwJ1_inc_0 : List UInt8 := [132, 0, 1, 26, 27, 161, 0, 5, 3, 59, 26, 172]
abbrev dktJ1_inc_0 : List UInt8 := dkwJ1_inc_0 ++ []
theorem dksJ1_inc_0 : cJ1_inc.data.toList.drop 0 = dktJ1_inc_0 := by decide +kernel
theorem dJ1_inc_0 : decode cJ1_inc 0 = .ok (.iinc 0 1, 3) := dk_132 0 1 (dk_at dksJ1_inc_0 0 rfl rfl)
theorem dJ1_inc_3 : decode cJ1_inc 3 = .ok (.iload_n 0, 1) := dk_26 (dk_at dksJ1_inc_0 3 rfl rfl)
theorem dJ1_inc_4 : decode cJ1_inc 4 = .ok (.iload_n 1, 1) := dk_27 (dk_at dksJ1_inc_0 4 rfl rfl)
theorem dJ1_inc_5 : decode cJ1_inc 5 = .ok (.if_icmp .lt 5, 3) := dk_161 0 5 (dk_at dksJ1_inc_0 5 rfl rfl)
theorem dJ1_inc_8 : decode cJ1_inc 8 = .ok (.iconst 0, 1) := dk_3 (dk_at dksJ1_inc_0 8 rfl rfl)
theorem dJ1_inc_9 : decode cJ1_inc 9 = .ok (.istore_n 0, 1) := dk_59 (dk_at dksJ1_inc_0 9 rfl rfl)
theorem dJ1_inc_10 : decode cJ1_inc 10 = .ok (.iload_n 0, 1) := dk_26 (dk_at dksJ1_inc_0 10 rfl rfl)
theorem dJ1_inc_11 : decode cJ1_inc 11 = .ok (.ireturn, 1) := dk_172 (dk_at dksJ1_inc_0 11 rfl rfl)
abbrev cJ1_iterator : ByteArray := prog_57_method_39_code
def yJ1_iterator : MethodName := ⟨RJ1, "iterator", "()Ljava/util/Iterator;"⟩
def dkwJ1_iterator_0 : List UInt8 := [187, 0, 131, 89, 42, 183, 0, 133, 176]
abbrev dktJ1_iterator_0 : List UInt8 := dkwJ1_iterator_0 ++ []
theorem dksJ1_iterator_0 : cJ1_iterator.data.toList.drop 0 = dktJ1_iterator_0 := by decide +kernel
theorem dJ1_iterator_0 : decode cJ1_iterator 0 = .ok (.new 131, 3) := dk_187 0 131 (dk_at dksJ1_iterator_0 0 rfl rfl)
theorem dJ1_iterator_3 : decode cJ1_iterator 3 = .ok (.dup, 1) := dk_89 (dk_at dksJ1_iterator_0 3 rfl rfl)
theorem dJ1_iterator_4 : decode cJ1_iterator 4 = .ok (.aload_n 0, 1) := dk_42 (dk_at dksJ1_iterator_0 4 rfl rfl)
theorem dJ1_iterator_5 : decode cJ1_iterator 5 = .ok (.invokespecial 133, 3) := dk_183 0 133 (dk_at dksJ1_iterator_0 5 rfl rfl)
theorem dJ1_iterator_8 : decode cJ1_iterator 8 = .ok (.areturn, 1) := dk_176 (dk_at dksJ1_iterator_0 8 rfl rfl)
abbrev cJ1_addLast : ByteArray := prog_57_method_13_code
def yJ1_addLast : MethodName := ⟨RJ1, "addLast", "(Ljava/lang/Object;)V"⟩
def dkwJ1_addLast_2 : List UInt8 := [182, 0, 71, 177]
abbrev dktJ1_addLast_2 : List UInt8 := dkwJ1_addLast_2 ++ []
def dkwJ1_addLast_1 : List UInt8 := [42, 180, 0, 24, 42, 42, 180, 0, 20, 44, 190, 184, 0, 74, 90, 181, 0, 20, 160, 0, 8, 42, 4]
abbrev dktJ1_addLast_1 : List UInt8 := dkwJ1_addLast_1 ++ dktJ1_addLast_2
def dkwJ1_addLast_0 : List UInt8 := [43, 199, 0, 11, 187, 0, 65, 89, 183, 0, 67, 191, 42, 180, 0, 3, 77, 44, 42, 180, 0, 20, 43, 83]
abbrev dktJ1_addLast_0 : List UInt8 := dkwJ1_addLast_0 ++ dktJ1_addLast_1
theorem dksJ1_addLast_0 : cJ1_addLast.data.toList.drop 0 = dktJ1_addLast_0 := by decide +kernel
theorem dksJ1_addLast_1 : cJ1_addLast.data.toList.drop 24 = dktJ1_addLast_1 := dk_seg dksJ1_addLast_0 24 rfl rfl
theorem dksJ1_addLast_2 : cJ1_addLast.data.toList.drop 47 = dktJ1_addLast_2 := dk_seg dksJ1_addLast_1 23 rfl rfl
theorem dJ1_addLast_0 : decode cJ1_addLast 0 = .ok (.aload_n 1, 1) := dk_43 (dk_at dksJ1_addLast_0 0 rfl rfl)
theorem dJ1_addLast_1 : decode cJ1_addLast 1 = .ok (.ifnonnull 11, 3) := dk_199 0 11 (dk_at dksJ1_addLast_0 1 rfl rfl)
theorem dJ1_addLast_4 : decode cJ1_addLast 4 = .ok (.new 65, 3) := dk_187 0 65 (dk_at dksJ1_addLast_0 4 rfl rfl)
theorem dJ1_addLast_12 : decode cJ1_addLast 12 = .ok (.aload_n 0, 1) := dk_42 (dk_at dksJ1_addLast_0 12 rfl rfl)
theorem dJ1_addLast_13 : decode cJ1_addLast 13 = .ok (.getfield 3, 3) := dk_180 0 3 (dk_at dksJ1_addLast_0 13 rfl rfl)
theorem dJ1_addLast_16 : decode cJ1_addLast 16 = .ok (.astore_n 2, 1) := dk_77 (dk_at dksJ1_addLast_0 16 rfl rfl)
theorem dJ1_addLast_17 : decode cJ1_addLast 17 = .ok (.aload_n 2, 1) := dk_44 (dk_at dksJ1_addLast_0 17 rfl rfl)
theorem dJ1_addLast_18 : decode cJ1_addLast 18 = .ok (.aload_n 0, 1) := dk_42 (dk_at dksJ1_addLast_0 18 rfl rfl)
theorem dJ1_addLast_19 : decode cJ1_addLast 19 = .ok (.getfield 20, 3) := dk_180 0 20 (dk_at dksJ1_addLast_0 19 rfl rfl)
theorem dJ1_addLast_22 : decode cJ1_addLast 22 = .ok (.aload_n 1, 1) := dk_43 (dk_at dksJ1_addLast_0 22 rfl rfl)
theorem dJ1_addLast_23 : decode cJ1_addLast 23 = .ok (.aastore, 1) := dk_83 (dk_at dksJ1_addLast_0 23 rfl rfl)
theorem dJ1_addLast_24 : decode cJ1_addLast 24 = .ok (.aload_n 0, 1) := dk_42 (dk_at dksJ1_addLast_1 0 rfl rfl)
theorem dJ1_addLast_25 : decode cJ1_addLast 25 = .ok (.getfield 24, 3) := dk_180 0 24 (dk_at dksJ1_addLast_1 1 rfl rfl)
theorem dJ1_addLast_28 : decode cJ1_addLast 28 = .ok (.aload_n 0, 1) := dk_42 (dk_at dksJ1_addLast_1 4 rfl rfl)
theorem dJ1_addLast_29 : decode cJ1_addLast 29 = .ok (.aload_n 0, 1) := dk_42 (dk_at dksJ1_addLast_1 5 rfl rfl)
theorem dJ1_addLast_30 : decode cJ1_addLast 30 = .ok (.getfield 20, 3) := dk_180 0 20 (dk_at dksJ1_addLast_1 6 rfl rfl)
theorem dJ1_addLast_33 : decode cJ1_addLast 33 = .ok (.aload_n 2, 1) := dk_44 (dk_at dksJ1_addLast_1 9 rfl rfl)
theorem dJ1_addLast_34 : decode cJ1_addLast 34 = .ok (.arraylength, 1) := dk_190 (dk_at dksJ1_addLast_1 10 rfl rfl)
theorem dJ1_addLast_35 : decode cJ1_addLast 35 = .ok (.invokestatic 74, 3) := dk_184 0 74 (dk_at dksJ1_addLast_1 11 rfl rfl)
theorem dJ1_addLast_38 : decode cJ1_addLast 38 = .ok (.dup_x1, 1) := dk_90 (dk_at dksJ1_addLast_1 14 rfl rfl)
theorem dJ1_addLast_39 : decode cJ1_addLast 39 = .ok (.putfield 20, 3) := dk_181 0 20 (dk_at dksJ1_addLast_1 15 rfl rfl)
theorem dJ1_addLast_42 : decode cJ1_addLast 42 = .ok (.if_icmp .ne 8, 3) := dk_160 0 8 (dk_at dksJ1_addLast_1 18 rfl rfl)
theorem dJ1_addLast_45 : decode cJ1_addLast 45 = .ok (.aload_n 0, 1) := dk_42 (dk_at dksJ1_addLast_1 21 rfl rfl)
theorem dJ1_addLast_50 : decode cJ1_addLast 50 = .ok (.return_, 1) := dk_177 (dk_at dksJ1_addLast_2 3 rfl rfl)
abbrev cJ1_removeFirst : ByteArray := prog_57_method_18_code
def yJ1_removeFirst : MethodName := ⟨RJ1, "removeFirst", "()Ljava/lang/Object;"⟩
def dkwJ1_removeFirst_0 : List UInt8 := [42, 182, 0, 93, 76, 43, 199, 0, 11, 187, 0, 97, 89, 183, 0, 99, 191, 43, 176]
abbrev dktJ1_removeFirst_0 : List UInt8 := dkwJ1_removeFirst_0 ++ []
theorem dksJ1_removeFirst_0 : cJ1_removeFirst.data.toList.drop 0 = dktJ1_removeFirst_0 := by decide +kernel
theorem dJ1_removeFirst_0 : decode cJ1_removeFirst 0 = .ok (.aload_n 0, 1) := dk_42 (dk_at dksJ1_removeFirst_0 0 rfl rfl)
theorem dJ1_removeFirst_1 : decode cJ1_removeFirst 1 = .ok (.invokevirtual 93, 3) := dk_182 0 93 (dk_at dksJ1_removeFirst_0 1 rfl rfl)
theorem dJ1_removeFirst_4 : decode cJ1_removeFirst 4 = .ok (.astore_n 1, 1) := dk_76 (dk_at dksJ1_removeFirst_0 4 rfl rfl)
theorem dJ1_removeFirst_5 : decode cJ1_removeFirst 5 = .ok (.aload_n 1, 1) := dk_43 (dk_at dksJ1_removeFirst_0 5 rfl rfl)
theorem dJ1_removeFirst_6 : decode cJ1_removeFirst 6 = .ok (.ifnonnull 11, 3) := dk_199 0 11 (dk_at dksJ1_removeFirst_0 6 rfl rfl)
theorem dJ1_removeFirst_9 : decode cJ1_removeFirst 9 = .ok (.new 97, 3) := dk_187 0 97 (dk_at dksJ1_removeFirst_0 9 rfl rfl)
theorem dJ1_removeFirst_17 : decode cJ1_removeFirst 17 = .ok (.aload_n 1, 1) := dk_43 (dk_at dksJ1_removeFirst_0 17 rfl rfl)
theorem dJ1_removeFirst_18 : decode cJ1_removeFirst 18 = .ok (.areturn, 1) := dk_176 (dk_at dksJ1_removeFirst_0 18 rfl rfl)
abbrev cJ1_pollFirst : ByteArray := prog_57_method_20_code
def yJ1_pollFirst : MethodName := ⟨RJ1, "pollFirst", "()Ljava/lang/Object;"⟩
def dkwJ1_pollFirst_1 : List UInt8 := [42, 28, 43, 190, 184, 0, 74, 181, 0, 24, 45, 176]
abbrev dktJ1_pollFirst_1 : List UInt8 := dkwJ1_pollFirst_1 ++ []
def dkwJ1_pollFirst_0 : List UInt8 := [42, 180, 0, 3, 89, 76, 42, 180, 0, 24, 89, 61, 184, 0, 103, 78, 45, 198, 0, 17, 43, 28, 1, 83]
abbrev dktJ1_pollFirst_0 : List UInt8 := dkwJ1_pollFirst_0 ++ dktJ1_pollFirst_1
theorem dksJ1_pollFirst_0 : cJ1_pollFirst.data.toList.drop 0 = dktJ1_pollFirst_0 := by decide +kernel
theorem dksJ1_pollFirst_1 : cJ1_pollFirst.data.toList.drop 24 = dktJ1_pollFirst_1 := dk_seg dksJ1_pollFirst_0 24 rfl rfl
theorem dJ1_pollFirst_0 : decode cJ1_pollFirst 0 = .ok (.aload_n 0, 1) := dk_42 (dk_at dksJ1_pollFirst_0 0 rfl rfl)
theorem dJ1_pollFirst_1 : decode cJ1_pollFirst 1 = .ok (.getfield 3, 3) := dk_180 0 3 (dk_at dksJ1_pollFirst_0 1 rfl rfl)
theorem dJ1_pollFirst_4 : decode cJ1_pollFirst 4 = .ok (.dup, 1) := dk_89 (dk_at dksJ1_pollFirst_0 4 rfl rfl)
theorem dJ1_pollFirst_5 : decode cJ1_pollFirst 5 = .ok (.astore_n 1, 1) := dk_76 (dk_at dksJ1_pollFirst_0 5 rfl rfl)
theorem dJ1_pollFirst_6 : decode cJ1_pollFirst 6 = .ok (.aload_n 0, 1) := dk_42 (dk_at dksJ1_pollFirst_0 6 rfl rfl)
theorem dJ1_pollFirst_7 : decode cJ1_pollFirst 7 = .ok (.getfield 24, 3) := dk_180 0 24 (dk_at dksJ1_pollFirst_0 7 rfl rfl)
theorem dJ1_pollFirst_10 : decode cJ1_pollFirst 10 = .ok (.dup, 1) := dk_89 (dk_at dksJ1_pollFirst_0 10 rfl rfl)
theorem dJ1_pollFirst_11 : decode cJ1_pollFirst 11 = .ok (.istore_n 2, 1) := dk_61 (dk_at dksJ1_pollFirst_0 11 rfl rfl)
theorem dJ1_pollFirst_12 : decode cJ1_pollFirst 12 = .ok (.invokestatic 103, 3) := dk_184 0 103 (dk_at dksJ1_pollFirst_0 12 rfl rfl)
theorem dJ1_pollFirst_15 : decode cJ1_pollFirst 15 = .ok (.astore_n 3, 1) := dk_78 (dk_at dksJ1_pollFirst_0 15 rfl rfl)
theorem dJ1_pollFirst_16 : decode cJ1_pollFirst 16 = .ok (.aload_n 3, 1) := dk_45 (dk_at dksJ1_pollFirst_0 16 rfl rfl)
theorem dJ1_pollFirst_17 : decode cJ1_pollFirst 17 = .ok (.ifnull 17, 3) := dk_198 0 17 (dk_at dksJ1_pollFirst_0 17 rfl rfl)
theorem dJ1_pollFirst_20 : decode cJ1_pollFirst 20 = .ok (.aload_n 1, 1) := dk_43 (dk_at dksJ1_pollFirst_0 20 rfl rfl)
theorem dJ1_pollFirst_21 : decode cJ1_pollFirst 21 = .ok (.iload_n 2, 1) := dk_28 (dk_at dksJ1_pollFirst_0 21 rfl rfl)
theorem dJ1_pollFirst_22 : decode cJ1_pollFirst 22 = .ok (.aconst_null, 1) := dk_1 (dk_at dksJ1_pollFirst_0 22 rfl rfl)
theorem dJ1_pollFirst_23 : decode cJ1_pollFirst 23 = .ok (.aastore, 1) := dk_83 (dk_at dksJ1_pollFirst_0 23 rfl rfl)
theorem dJ1_pollFirst_24 : decode cJ1_pollFirst 24 = .ok (.aload_n 0, 1) := dk_42 (dk_at dksJ1_pollFirst_1 0 rfl rfl)
theorem dJ1_pollFirst_25 : decode cJ1_pollFirst 25 = .ok (.iload_n 2, 1) := dk_28 (dk_at dksJ1_pollFirst_1 1 rfl rfl)
theorem dJ1_pollFirst_26 : decode cJ1_pollFirst 26 = .ok (.aload_n 1, 1) := dk_43 (dk_at dksJ1_pollFirst_1 2 rfl rfl)
theorem dJ1_pollFirst_27 : decode cJ1_pollFirst 27 = .ok (.arraylength, 1) := dk_190 (dk_at dksJ1_pollFirst_1 3 rfl rfl)
theorem dJ1_pollFirst_28 : decode cJ1_pollFirst 28 = .ok (.invokestatic 74, 3) := dk_184 0 74 (dk_at dksJ1_pollFirst_1 4 rfl rfl)
theorem dJ1_pollFirst_31 : decode cJ1_pollFirst 31 = .ok (.putfield 24, 3) := dk_181 0 24 (dk_at dksJ1_pollFirst_1 7 rfl rfl)
theorem dJ1_pollFirst_34 : decode cJ1_pollFirst 34 = .ok (.aload_n 3, 1) := dk_45 (dk_at dksJ1_pollFirst_1 10 rfl rfl)
theorem dJ1_pollFirst_35 : decode cJ1_pollFirst 35 = .ok (.areturn, 1) := dk_176 (dk_at dksJ1_pollFirst_1 11 rfl rfl)
abbrev cJ1_elementAt : ByteArray := prog_57_method_10_code
def yJ1_elementAt : MethodName := ⟨RJ1, "elementAt", "([Ljava/lang/Object;I)Ljava/lang/Object;"⟩
def dkwJ1_elementAt_0 : List UInt8 := [42, 27, 50, 176]
abbrev dktJ1_elementAt_0 : List UInt8 := dkwJ1_elementAt_0 ++ []
theorem dksJ1_elementAt_0 : cJ1_elementAt.data.toList.drop 0 = dktJ1_elementAt_0 := by decide +kernel
theorem dJ1_elementAt_0 : decode cJ1_elementAt 0 = .ok (.aload_n 0, 1) := dk_42 (dk_at dksJ1_elementAt_0 0 rfl rfl)
theorem dJ1_elementAt_1 : decode cJ1_elementAt 1 = .ok (.iload_n 1, 1) := dk_27 (dk_at dksJ1_elementAt_0 1 rfl rfl)
theorem dJ1_elementAt_2 : decode cJ1_elementAt 2 = .ok (.aaload, 1) := dk_50 (dk_at dksJ1_elementAt_0 2 rfl rfl)
theorem dJ1_elementAt_3 : decode cJ1_elementAt 3 = .ok (.areturn, 1) := dk_176 (dk_at dksJ1_elementAt_0 3 rfl rfl)
abbrev cJ1_addFirst : ByteArray := prog_57_method_12_code
def yJ1_addFirst : MethodName := ⟨RJ1, "addFirst", "(Ljava/lang/Object;)V"⟩
def dkwJ1_addFirst_2 : List UInt8 := [182, 0, 71, 177]
abbrev dktJ1_addFirst_2 : List UInt8 := dkwJ1_addFirst_2 ++ []
def dkwJ1_addFirst_1 : List UInt8 := [190, 184, 0, 68, 90, 181, 0, 24, 43, 83, 42, 180, 0, 24, 42, 180, 0, 20, 160, 0, 8, 42, 4]
abbrev dktJ1_addFirst_1 : List UInt8 := dkwJ1_addFirst_1 ++ dktJ1_addFirst_2
def dkwJ1_addFirst_0 : List UInt8 := [43, 199, 0, 11, 187, 0, 65, 89, 183, 0, 67, 191, 42, 180, 0, 3, 77, 44, 42, 42, 180, 0, 24, 44]
abbrev dktJ1_addFirst_0 : List UInt8 := dkwJ1_addFirst_0 ++ dktJ1_addFirst_1
theorem dksJ1_addFirst_0 : cJ1_addFirst.data.toList.drop 0 = dktJ1_addFirst_0 := by decide +kernel
theorem dksJ1_addFirst_1 : cJ1_addFirst.data.toList.drop 24 = dktJ1_addFirst_1 := dk_seg dksJ1_addFirst_0 24 rfl rfl
theorem dksJ1_addFirst_2 : cJ1_addFirst.data.toList.drop 47 = dktJ1_addFirst_2 := dk_seg dksJ1_addFirst_1 23 rfl rfl
theorem dJ1_addFirst_0 : decode cJ1_addFirst 0 = .ok (.aload_n 1, 1) := dk_43 (dk_at dksJ1_addFirst_0 0 rfl rfl)
theorem dJ1_addFirst_1 : decode cJ1_addFirst 1 = .ok (.ifnonnull 11, 3) := dk_199 0 11 (dk_at dksJ1_addFirst_0 1 rfl rfl)
theorem dJ1_addFirst_4 : decode cJ1_addFirst 4 = .ok (.new 65, 3) := dk_187 0 65 (dk_at dksJ1_addFirst_0 4 rfl rfl)
theorem dJ1_addFirst_12 : decode cJ1_addFirst 12 = .ok (.aload_n 0, 1) := dk_42 (dk_at dksJ1_addFirst_0 12 rfl rfl)
theorem dJ1_addFirst_13 : decode cJ1_addFirst 13 = .ok (.getfield 3, 3) := dk_180 0 3 (dk_at dksJ1_addFirst_0 13 rfl rfl)
theorem dJ1_addFirst_16 : decode cJ1_addFirst 16 = .ok (.astore_n 2, 1) := dk_77 (dk_at dksJ1_addFirst_0 16 rfl rfl)
theorem dJ1_addFirst_17 : decode cJ1_addFirst 17 = .ok (.aload_n 2, 1) := dk_44 (dk_at dksJ1_addFirst_0 17 rfl rfl)
theorem dJ1_addFirst_18 : decode cJ1_addFirst 18 = .ok (.aload_n 0, 1) := dk_42 (dk_at dksJ1_addFirst_0 18 rfl rfl)
theorem dJ1_addFirst_19 : decode cJ1_addFirst 19 = .ok (.aload_n 0, 1) := dk_42 (dk_at dksJ1_addFirst_0 19 rfl rfl)
theorem dJ1_addFirst_20 : decode cJ1_addFirst 20 = .ok (.getfield 24, 3) := dk_180 0 24 (dk_at dksJ1_addFirst_0 20 rfl rfl)
theorem dJ1_addFirst_23 : decode cJ1_addFirst 23 = .ok (.aload_n 2, 1) := dk_44 (dk_at dksJ1_addFirst_0 23 rfl rfl)
theorem dJ1_addFirst_24 : decode cJ1_addFirst 24 = .ok (.arraylength, 1) := dk_190 (dk_at dksJ1_addFirst_1 0 rfl rfl)
theorem dJ1_addFirst_25 : decode cJ1_addFirst 25 = .ok (.invokestatic 68, 3) := dk_184 0 68 (dk_at dksJ1_addFirst_1 1 rfl rfl)
theorem dJ1_addFirst_28 : decode cJ1_addFirst 28 = .ok (.dup_x1, 1) := dk_90 (dk_at dksJ1_addFirst_1 4 rfl rfl)
theorem dJ1_addFirst_29 : decode cJ1_addFirst 29 = .ok (.putfield 24, 3) := dk_181 0 24 (dk_at dksJ1_addFirst_1 5 rfl rfl)
theorem dJ1_addFirst_32 : decode cJ1_addFirst 32 = .ok (.aload_n 1, 1) := dk_43 (dk_at dksJ1_addFirst_1 8 rfl rfl)
theorem dJ1_addFirst_33 : decode cJ1_addFirst 33 = .ok (.aastore, 1) := dk_83 (dk_at dksJ1_addFirst_1 9 rfl rfl)
theorem dJ1_addFirst_34 : decode cJ1_addFirst 34 = .ok (.aload_n 0, 1) := dk_42 (dk_at dksJ1_addFirst_1 10 rfl rfl)
theorem dJ1_addFirst_35 : decode cJ1_addFirst 35 = .ok (.getfield 24, 3) := dk_180 0 24 (dk_at dksJ1_addFirst_1 11 rfl rfl)
theorem dJ1_addFirst_38 : decode cJ1_addFirst 38 = .ok (.aload_n 0, 1) := dk_42 (dk_at dksJ1_addFirst_1 14 rfl rfl)
theorem dJ1_addFirst_39 : decode cJ1_addFirst 39 = .ok (.getfield 20, 3) := dk_180 0 20 (dk_at dksJ1_addFirst_1 15 rfl rfl)
theorem dJ1_addFirst_42 : decode cJ1_addFirst 42 = .ok (.if_icmp .ne 8, 3) := dk_160 0 8 (dk_at dksJ1_addFirst_1 18 rfl rfl)
theorem dJ1_addFirst_45 : decode cJ1_addFirst 45 = .ok (.aload_n 0, 1) := dk_42 (dk_at dksJ1_addFirst_1 21 rfl rfl)
theorem dJ1_addFirst_50 : decode cJ1_addFirst 50 = .ok (.return_, 1) := dk_177 (dk_at dksJ1_addFirst_2 3 rfl rfl)
abbrev cJ1_dec : ByteArray := prog_57_method_7_code
def yJ1_dec : MethodName := ⟨RJ1, "dec", "(II)I"⟩
def dkwJ1_dec_0 : List UInt8 := [132, 0, 255, 26, 156, 0, 7, 27, 4, 100, 59, 26, 172]
abbrev dktJ1_dec_0 : List UInt8 := dkwJ1_dec_0 ++ []
theorem dksJ1_dec_0 : cJ1_dec.data.toList.drop 0 = dktJ1_dec_0 := by decide +kernel
theorem dJ1_dec_0 : decode cJ1_dec 0 = .ok (.iinc 0 (-1), 3) := dk_132 0 255 (dk_at dksJ1_dec_0 0 rfl rfl)
theorem dJ1_dec_3 : decode cJ1_dec 3 = .ok (.iload_n 0, 1) := dk_26 (dk_at dksJ1_dec_0 3 rfl rfl)
theorem dJ1_dec_4 : decode cJ1_dec 4 = .ok (.ifCond .ge 7, 3) := dk_156 0 7 (dk_at dksJ1_dec_0 4 rfl rfl)
theorem dJ1_dec_7 : decode cJ1_dec 7 = .ok (.iload_n 1, 1) := dk_27 (dk_at dksJ1_dec_0 7 rfl rfl)
theorem dJ1_dec_8 : decode cJ1_dec 8 = .ok (.iconst 1, 1) := dk_4 (dk_at dksJ1_dec_0 8 rfl rfl)
theorem dJ1_dec_9 : decode cJ1_dec 9 = .ok (.isub, 1) := dk_100 (dk_at dksJ1_dec_0 9 rfl rfl)
theorem dJ1_dec_10 : decode cJ1_dec 10 = .ok (.istore_n 0, 1) := dk_59 (dk_at dksJ1_dec_0 10 rfl rfl)
theorem dJ1_dec_11 : decode cJ1_dec 11 = .ok (.iload_n 0, 1) := dk_26 (dk_at dksJ1_dec_0 11 rfl rfl)
theorem dJ1_dec_12 : decode cJ1_dec 12 = .ok (.ireturn, 1) := dk_172 (dk_at dksJ1_dec_0 12 rfl rfl)
abbrev cJ1_removeLast : ByteArray := prog_57_method_19_code
def yJ1_removeLast : MethodName := ⟨RJ1, "removeLast", "()Ljava/lang/Object;"⟩
def dkwJ1_removeLast_0 : List UInt8 := [42, 182, 0, 100, 76, 43, 199, 0, 11, 187, 0, 97, 89, 183, 0, 99, 191, 43, 176]
abbrev dktJ1_removeLast_0 : List UInt8 := dkwJ1_removeLast_0 ++ []
theorem dksJ1_removeLast_0 : cJ1_removeLast.data.toList.drop 0 = dktJ1_removeLast_0 := by decide +kernel
theorem dJ1_removeLast_0 : decode cJ1_removeLast 0 = .ok (.aload_n 0, 1) := dk_42 (dk_at dksJ1_removeLast_0 0 rfl rfl)
theorem dJ1_removeLast_1 : decode cJ1_removeLast 1 = .ok (.invokevirtual 100, 3) := dk_182 0 100 (dk_at dksJ1_removeLast_0 1 rfl rfl)
theorem dJ1_removeLast_4 : decode cJ1_removeLast 4 = .ok (.astore_n 1, 1) := dk_76 (dk_at dksJ1_removeLast_0 4 rfl rfl)
theorem dJ1_removeLast_5 : decode cJ1_removeLast 5 = .ok (.aload_n 1, 1) := dk_43 (dk_at dksJ1_removeLast_0 5 rfl rfl)
theorem dJ1_removeLast_6 : decode cJ1_removeLast 6 = .ok (.ifnonnull 11, 3) := dk_199 0 11 (dk_at dksJ1_removeLast_0 6 rfl rfl)
theorem dJ1_removeLast_9 : decode cJ1_removeLast 9 = .ok (.new 97, 3) := dk_187 0 97 (dk_at dksJ1_removeLast_0 9 rfl rfl)
theorem dJ1_removeLast_17 : decode cJ1_removeLast 17 = .ok (.aload_n 1, 1) := dk_43 (dk_at dksJ1_removeLast_0 17 rfl rfl)
theorem dJ1_removeLast_18 : decode cJ1_removeLast 18 = .ok (.areturn, 1) := dk_176 (dk_at dksJ1_removeLast_0 18 rfl rfl)
abbrev cJ1_pollLast : ByteArray := prog_57_method_21_code
def yJ1_pollLast : MethodName := ⟨RJ1, "pollLast", "()Ljava/lang/Object;"⟩
def dkwJ1_pollLast_1 : List UInt8 := [198, 0, 12, 43, 42, 28, 90, 181, 0, 20, 1, 83, 45, 176]
abbrev dktJ1_pollLast_1 : List UInt8 := dkwJ1_pollLast_1 ++ []
def dkwJ1_pollLast_0 : List UInt8 := [42, 180, 0, 3, 89, 76, 42, 180, 0, 20, 43, 190, 184, 0, 68, 89, 61, 184, 0, 103, 78, 45]
abbrev dktJ1_pollLast_0 : List UInt8 := dkwJ1_pollLast_0 ++ dktJ1_pollLast_1
theorem dksJ1_pollLast_0 : cJ1_pollLast.data.toList.drop 0 = dktJ1_pollLast_0 := by decide +kernel
theorem dksJ1_pollLast_1 : cJ1_pollLast.data.toList.drop 22 = dktJ1_pollLast_1 := dk_seg dksJ1_pollLast_0 22 rfl rfl
theorem dJ1_pollLast_0 : decode cJ1_pollLast 0 = .ok (.aload_n 0, 1) := dk_42 (dk_at dksJ1_pollLast_0 0 rfl rfl)
theorem dJ1_pollLast_1 : decode cJ1_pollLast 1 = .ok (.getfield 3, 3) := dk_180 0 3 (dk_at dksJ1_pollLast_0 1 rfl rfl)
theorem dJ1_pollLast_4 : decode cJ1_pollLast 4 = .ok (.dup, 1) := dk_89 (dk_at dksJ1_pollLast_0 4 rfl rfl)
theorem dJ1_pollLast_5 : decode cJ1_pollLast 5 = .ok (.astore_n 1, 1) := dk_76 (dk_at dksJ1_pollLast_0 5 rfl rfl)
theorem dJ1_pollLast_6 : decode cJ1_pollLast 6 = .ok (.aload_n 0, 1) := dk_42 (dk_at dksJ1_pollLast_0 6 rfl rfl)
theorem dJ1_pollLast_7 : decode cJ1_pollLast 7 = .ok (.getfield 20, 3) := dk_180 0 20 (dk_at dksJ1_pollLast_0 7 rfl rfl)
theorem dJ1_pollLast_10 : decode cJ1_pollLast 10 = .ok (.aload_n 1, 1) := dk_43 (dk_at dksJ1_pollLast_0 10 rfl rfl)
theorem dJ1_pollLast_11 : decode cJ1_pollLast 11 = .ok (.arraylength, 1) := dk_190 (dk_at dksJ1_pollLast_0 11 rfl rfl)
theorem dJ1_pollLast_12 : decode cJ1_pollLast 12 = .ok (.invokestatic 68, 3) := dk_184 0 68 (dk_at dksJ1_pollLast_0 12 rfl rfl)
theorem dJ1_pollLast_15 : decode cJ1_pollLast 15 = .ok (.dup, 1) := dk_89 (dk_at dksJ1_pollLast_0 15 rfl rfl)
theorem dJ1_pollLast_16 : decode cJ1_pollLast 16 = .ok (.istore_n 2, 1) := dk_61 (dk_at dksJ1_pollLast_0 16 rfl rfl)
theorem dJ1_pollLast_17 : decode cJ1_pollLast 17 = .ok (.invokestatic 103, 3) := dk_184 0 103 (dk_at dksJ1_pollLast_0 17 rfl rfl)
theorem dJ1_pollLast_20 : decode cJ1_pollLast 20 = .ok (.astore_n 3, 1) := dk_78 (dk_at dksJ1_pollLast_0 20 rfl rfl)
theorem dJ1_pollLast_21 : decode cJ1_pollLast 21 = .ok (.aload_n 3, 1) := dk_45 (dk_at dksJ1_pollLast_0 21 rfl rfl)
theorem dJ1_pollLast_22 : decode cJ1_pollLast 22 = .ok (.ifnull 12, 3) := dk_198 0 12 (dk_at dksJ1_pollLast_1 0 rfl rfl)
theorem dJ1_pollLast_25 : decode cJ1_pollLast 25 = .ok (.aload_n 1, 1) := dk_43 (dk_at dksJ1_pollLast_1 3 rfl rfl)
theorem dJ1_pollLast_26 : decode cJ1_pollLast 26 = .ok (.aload_n 0, 1) := dk_42 (dk_at dksJ1_pollLast_1 4 rfl rfl)
theorem dJ1_pollLast_27 : decode cJ1_pollLast 27 = .ok (.iload_n 2, 1) := dk_28 (dk_at dksJ1_pollLast_1 5 rfl rfl)
theorem dJ1_pollLast_28 : decode cJ1_pollLast 28 = .ok (.dup_x1, 1) := dk_90 (dk_at dksJ1_pollLast_1 6 rfl rfl)
theorem dJ1_pollLast_29 : decode cJ1_pollLast 29 = .ok (.putfield 20, 3) := dk_181 0 20 (dk_at dksJ1_pollLast_1 7 rfl rfl)
theorem dJ1_pollLast_32 : decode cJ1_pollLast 32 = .ok (.aconst_null, 1) := dk_1 (dk_at dksJ1_pollLast_1 10 rfl rfl)
theorem dJ1_pollLast_33 : decode cJ1_pollLast 33 = .ok (.aastore, 1) := dk_83 (dk_at dksJ1_pollLast_1 11 rfl rfl)
theorem dJ1_pollLast_34 : decode cJ1_pollLast 34 = .ok (.aload_n 3, 1) := dk_45 (dk_at dksJ1_pollLast_1 12 rfl rfl)
theorem dJ1_pollLast_35 : decode cJ1_pollLast 35 = .ok (.areturn, 1) := dk_176 (dk_at dksJ1_pollLast_1 13 rfl rfl)
abbrev cJ1_isEmpty : ByteArray := prog_57_method_38_code
def yJ1_isEmpty : MethodName := ⟨RJ1, "isEmpty", "()Z"⟩
def dkwJ1_isEmpty_0 : List UInt8 := [42, 180, 0, 24, 42, 180, 0, 20, 160, 0, 7, 4, 167, 0, 4, 3, 172]
abbrev dktJ1_isEmpty_0 : List UInt8 := dkwJ1_isEmpty_0 ++ []
theorem dksJ1_isEmpty_0 : cJ1_isEmpty.data.toList.drop 0 = dktJ1_isEmpty_0 := by decide +kernel
theorem dJ1_isEmpty_0 : decode cJ1_isEmpty 0 = .ok (.aload_n 0, 1) := dk_42 (dk_at dksJ1_isEmpty_0 0 rfl rfl)
theorem dJ1_isEmpty_1 : decode cJ1_isEmpty 1 = .ok (.getfield 24, 3) := dk_180 0 24 (dk_at dksJ1_isEmpty_0 1 rfl rfl)
theorem dJ1_isEmpty_4 : decode cJ1_isEmpty 4 = .ok (.aload_n 0, 1) := dk_42 (dk_at dksJ1_isEmpty_0 4 rfl rfl)
theorem dJ1_isEmpty_5 : decode cJ1_isEmpty 5 = .ok (.getfield 20, 3) := dk_180 0 20 (dk_at dksJ1_isEmpty_0 5 rfl rfl)
theorem dJ1_isEmpty_8 : decode cJ1_isEmpty 8 = .ok (.if_icmp .ne 7, 3) := dk_160 0 7 (dk_at dksJ1_isEmpty_0 8 rfl rfl)
theorem dJ1_isEmpty_11 : decode cJ1_isEmpty 11 = .ok (.iconst 1, 1) := dk_4 (dk_at dksJ1_isEmpty_0 11 rfl rfl)
theorem dJ1_isEmpty_12 : decode cJ1_isEmpty 12 = .ok (.goto 4, 3) := dk_167 0 4 (dk_at dksJ1_isEmpty_0 12 rfl rfl)
theorem dJ1_isEmpty_15 : decode cJ1_isEmpty 15 = .ok (.iconst 0, 1) := dk_3 (dk_at dksJ1_isEmpty_0 15 rfl rfl)
theorem dJ1_isEmpty_16 : decode cJ1_isEmpty 16 = .ok (.ireturn, 1) := dk_172 (dk_at dksJ1_isEmpty_0 16 rfl rfl)
theorem q130 : (Jvm.Cond.initialized "java/util/ArrayDeque") ∈ lw_all := lw_g (lw_at lw_m1 3 rfl) rfl
theorem q210 : (Jvm.Cond.instantiable "java/util/ArrayDeque" (3 : Nat)) ∈ lw_all := lw_g (lw_at lw_m1 83 rfl) rfl
theorem q212 : (Jvm.Cond.instanceMethod ({ cls := "java/util/ArrayDeque", name := "<init>", desc := "()V" } : Jvm.MethodName)) ∈ lw_all := lw_g (lw_at lw_m1 85 rfl) rfl
theorem q213 : (Jvm.Cond.code ({ cls := "java/util/ArrayDeque", name := "<init>", desc := "()V" } : Jvm.MethodName) prog_57_method_3_code (1 : Nat) (Option.none : Option Jvm.ClassFile.FieldType)) ∈ lw_all := lw_g (lw_at lw_m1 86 rfl) rfl
theorem q214 : (Jvm.Cond.methodLink "java/util/ArrayDeque" (42 : Nat) ({ cls := "java/util/AbstractCollection", name := "<init>", desc := "()V" } : Jvm.MethodName)) ∈ lw_all := lw_g (lw_at lw_m1 87 rfl) rfl
theorem q218 : (Jvm.Cond.classLink "java/util/ArrayDeque" (47 : Nat) "java/lang/Object") ∈ lw_all := lw_g (lw_at lw_m1 91 rfl) rfl
theorem q220 : (Jvm.Cond.fieldLink "java/util/ArrayDeque" (3 : Nat) "java/util/ArrayDeque" "elements" "[Ljava/lang/Object;") ∈ lw_all := lw_g (lw_at lw_m1 93 rfl) rfl
theorem q223 : (Jvm.Cond.fieldLink "java/util/ArrayDeque" (24 : Nat) "java/util/ArrayDeque" "head" "I") ∈ lw_all := lw_g (lw_at lw_m1 96 rfl) rfl
theorem q224 : (Jvm.Cond.fieldLink "java/util/ArrayDeque" (20 : Nat) "java/util/ArrayDeque" "tail" "I") ∈ lw_all := lw_g (lw_at lw_m1 97 rfl) rfl
theorem q316 : (Jvm.Cond.instanceMethod ({ cls := "java/util/ArrayDeque", name := "size", desc := "()I" } : Jvm.MethodName)) ∈ lw_all := lw_g (lw_at lw_m1 189 rfl) rfl
theorem q317 : (Jvm.Cond.selects "java/util/ArrayDeque" ({ cls := "java/util/ArrayDeque", name := "size", desc := "()I" } : Jvm.MethodName) ({ cls := "java/util/ArrayDeque", name := "size", desc := "()I" } : Jvm.MethodName)) ∈ lw_all := lw_g (lw_at lw_m1 190 rfl) rfl
theorem q318 : (Jvm.Cond.code ({ cls := "java/util/ArrayDeque", name := "size", desc := "()I" } : Jvm.MethodName) prog_57_method_37_code (1 : Nat) (Option.some Jvm.ClassFile.FieldType.int)) ∈ lw_all := lw_g (lw_at lw_m1 191 rfl) rfl
theorem q319 : (Jvm.Cond.methodLink "java/util/ArrayDeque" (127 : Nat) ({ cls := "java/util/ArrayDeque", name := "sub", desc := "(III)I" } : Jvm.MethodName)) ∈ lw_all := lw_g (lw_at lw_m1 192 rfl) rfl
theorem q320 : (Jvm.Cond.static ({ cls := "java/util/ArrayDeque", name := "sub", desc := "(III)I" } : Jvm.MethodName)) ∈ lw_all := lw_g (lw_at lw_m1 193 rfl) rfl
theorem q321 : (Jvm.Cond.code ({ cls := "java/util/ArrayDeque", name := "sub", desc := "(III)I" } : Jvm.MethodName) prog_57_method_9_code (3 : Nat) (Option.some Jvm.ClassFile.FieldType.int)) ∈ lw_all := lw_g (lw_at lw_m1 194 rfl) rfl
theorem q1405 : (Jvm.Cond.instanceMethod ({ cls := "java/util/ArrayDeque", name := "clear", desc := "()V" } : Jvm.MethodName)) ∈ lw_all := lw_g (lw_at lw_m6 78 rfl) rfl
theorem q1406 : (Jvm.Cond.selects "java/util/ArrayDeque" ({ cls := "java/util/ArrayDeque", name := "clear", desc := "()V" } : Jvm.MethodName) ({ cls := "java/util/ArrayDeque", name := "clear", desc := "()V" } : Jvm.MethodName)) ∈ lw_all := lw_g (lw_at lw_m6 79 rfl) rfl
theorem q1407 : (Jvm.Cond.code ({ cls := "java/util/ArrayDeque", name := "clear", desc := "()V" } : Jvm.MethodName) prog_57_method_53_code (1 : Nat) (Option.none : Option Jvm.ClassFile.FieldType)) ∈ lw_all := lw_g (lw_at lw_m6 80 rfl) rfl
theorem q1408 : (Jvm.Cond.methodLink "java/util/ArrayDeque" (181 : Nat) ({ cls := "java/util/ArrayDeque", name := "circularClear", desc := "([Ljava/lang/Object;II)V" } : Jvm.MethodName)) ∈ lw_all := lw_g (lw_at lw_m6 81 rfl) rfl
theorem q1409 : (Jvm.Cond.static ({ cls := "java/util/ArrayDeque", name := "circularClear", desc := "([Ljava/lang/Object;II)V" } : Jvm.MethodName)) ∈ lw_all := lw_g (lw_at lw_m6 82 rfl) rfl
theorem q1410 : (Jvm.Cond.code ({ cls := "java/util/ArrayDeque", name := "circularClear", desc := "([Ljava/lang/Object;II)V" } : Jvm.MethodName) prog_57_method_54_code (4 : Nat) (Option.none : Option Jvm.ClassFile.FieldType)) ∈ lw_all := lw_g (lw_at lw_m6 83 rfl) rfl
theorem q1546 : (Jvm.Cond.static ({ cls := "java/util/ArrayDeque", name := "nonNullElementAt", desc := "([Ljava/lang/Object;I)Ljava/lang/Object;" } : Jvm.MethodName)) ∈ lw_all := lw_g (lw_at lw_m6 219 rfl) rfl
theorem q1547 : (Jvm.Cond.code ({ cls := "java/util/ArrayDeque", name := "nonNullElementAt", desc := "([Ljava/lang/Object;I)Ljava/lang/Object;" } : Jvm.MethodName) prog_57_method_11_code (3 : Nat) (Option.some (Jvm.ClassFile.FieldType.object "java/lang/Object"))) ∈ lw_all := lw_g (lw_at lw_m6 220 rfl) rfl
theorem q1549 : (Jvm.Cond.static ({ cls := "java/util/ArrayDeque", name := "inc", desc := "(II)I" } : Jvm.MethodName)) ∈ lw_all := lw_g (lw_at lw_m6 222 rfl) rfl
theorem q1550 : (Jvm.Cond.code ({ cls := "java/util/ArrayDeque", name := "inc", desc := "(II)I" } : Jvm.MethodName) prog_57_method_6_code (2 : Nat) (Option.some Jvm.ClassFile.FieldType.int)) ∈ lw_all := lw_g (lw_at lw_m6 223 rfl) rfl
theorem q1777 : (Jvm.Cond.instanceMethod ({ cls := "java/util/ArrayDeque", name := "iterator", desc := "()Ljava/util/Iterator;" } : Jvm.MethodName)) ∈ lw_all := lw_g (lw_at lw_m7 210 rfl) rfl
theorem q1779 : (Jvm.Cond.code ({ cls := "java/util/ArrayDeque", name := "iterator", desc := "()Ljava/util/Iterator;" } : Jvm.MethodName) prog_57_method_39_code (1 : Nat) (Option.some (Jvm.ClassFile.FieldType.object "java/util/Iterator"))) ∈ lw_all := lw_g (lw_at lw_m7 212 rfl) rfl
theorem q1780 : (Jvm.Cond.classLink "java/util/ArrayDeque" (131 : Nat) "java/util/ArrayDeque$DeqIterator") ∈ lw_all := lw_g (lw_at lw_m7 213 rfl) rfl
theorem q1782 : (Jvm.Cond.methodLink "java/util/ArrayDeque" (133 : Nat) ({ cls := "java/util/ArrayDeque$DeqIterator", name := "<init>", desc := "(Ljava/util/ArrayDeque;)V" } : Jvm.MethodName)) ∈ lw_all := lw_g (lw_at lw_m7 215 rfl) rfl
theorem q3498 : (Jvm.Cond.instanceMethod ({ cls := "java/util/ArrayDeque", name := "addLast", desc := "(Ljava/lang/Object;)V" } : Jvm.MethodName)) ∈ lw_all := lw_g (lw_at lw_m15 11 rfl) rfl
theorem q3499 : (Jvm.Cond.selects "java/util/ArrayDeque" ({ cls := "java/util/ArrayDeque", name := "addLast", desc := "(Ljava/lang/Object;)V" } : Jvm.MethodName) ({ cls := "java/util/ArrayDeque", name := "addLast", desc := "(Ljava/lang/Object;)V" } : Jvm.MethodName)) ∈ lw_all := lw_g (lw_at lw_m15 12 rfl) rfl
theorem q3500 : (Jvm.Cond.code ({ cls := "java/util/ArrayDeque", name := "addLast", desc := "(Ljava/lang/Object;)V" } : Jvm.MethodName) prog_57_method_13_code (3 : Nat) (Option.none : Option Jvm.ClassFile.FieldType)) ∈ lw_all := lw_g (lw_at lw_m15 13 rfl) rfl
theorem q3501 : (Jvm.Cond.methodLink "java/util/ArrayDeque" (74 : Nat) ({ cls := "java/util/ArrayDeque", name := "inc", desc := "(II)I" } : Jvm.MethodName)) ∈ lw_all := lw_g (lw_at lw_m15 14 rfl) rfl
theorem q3757 : (Jvm.Cond.instanceMethod ({ cls := "java/util/ArrayDeque", name := "removeFirst", desc := "()Ljava/lang/Object;" } : Jvm.MethodName)) ∈ lw_all := lw_g (lw_at lw_m16 30 rfl) rfl
theorem q3758 : (Jvm.Cond.selects "java/util/ArrayDeque" ({ cls := "java/util/ArrayDeque", name := "removeFirst", desc := "()Ljava/lang/Object;" } : Jvm.MethodName) ({ cls := "java/util/ArrayDeque", name := "removeFirst", desc := "()Ljava/lang/Object;" } : Jvm.MethodName)) ∈ lw_all := lw_g (lw_at lw_m16 31 rfl) rfl
theorem q3759 : (Jvm.Cond.code ({ cls := "java/util/ArrayDeque", name := "removeFirst", desc := "()Ljava/lang/Object;" } : Jvm.MethodName) prog_57_method_18_code (2 : Nat) (Option.some (Jvm.ClassFile.FieldType.object "java/lang/Object"))) ∈ lw_all := lw_g (lw_at lw_m16 32 rfl) rfl
theorem q3760 : (Jvm.Cond.methodLink "java/util/ArrayDeque" (93 : Nat) ({ cls := "java/util/ArrayDeque", name := "pollFirst", desc := "()Ljava/lang/Object;" } : Jvm.MethodName)) ∈ lw_all := lw_g (lw_at lw_m16 33 rfl) rfl
theorem q3761 : (Jvm.Cond.instanceMethod ({ cls := "java/util/ArrayDeque", name := "pollFirst", desc := "()Ljava/lang/Object;" } : Jvm.MethodName)) ∈ lw_all := lw_g (lw_at lw_m16 34 rfl) rfl
theorem q3762 : (Jvm.Cond.selects "java/util/ArrayDeque" ({ cls := "java/util/ArrayDeque", name := "pollFirst", desc := "()Ljava/lang/Object;" } : Jvm.MethodName) ({ cls := "java/util/ArrayDeque", name := "pollFirst", desc := "()Ljava/lang/Object;" } : Jvm.MethodName)) ∈ lw_all := lw_g (lw_at lw_m16 35 rfl) rfl
theorem q3763 : (Jvm.Cond.code ({ cls := "java/util/ArrayDeque", name := "pollFirst", desc := "()Ljava/lang/Object;" } : Jvm.MethodName) prog_57_method_20_code (4 : Nat) (Option.some (Jvm.ClassFile.FieldType.object "java/lang/Object"))) ∈ lw_all := lw_g (lw_at lw_m16 36 rfl) rfl
theorem q3764 : (Jvm.Cond.methodLink "java/util/ArrayDeque" (103 : Nat) ({ cls := "java/util/ArrayDeque", name := "elementAt", desc := "([Ljava/lang/Object;I)Ljava/lang/Object;" } : Jvm.MethodName)) ∈ lw_all := lw_g (lw_at lw_m16 37 rfl) rfl
theorem q3765 : (Jvm.Cond.static ({ cls := "java/util/ArrayDeque", name := "elementAt", desc := "([Ljava/lang/Object;I)Ljava/lang/Object;" } : Jvm.MethodName)) ∈ lw_all := lw_g (lw_at lw_m16 38 rfl) rfl
theorem q3766 : (Jvm.Cond.code ({ cls := "java/util/ArrayDeque", name := "elementAt", desc := "([Ljava/lang/Object;I)Ljava/lang/Object;" } : Jvm.MethodName) prog_57_method_10_code (2 : Nat) (Option.some (Jvm.ClassFile.FieldType.object "java/lang/Object"))) ∈ lw_all := lw_g (lw_at lw_m16 39 rfl) rfl
theorem q3838 : (Jvm.Cond.instanceMethod ({ cls := "java/util/ArrayDeque", name := "addFirst", desc := "(Ljava/lang/Object;)V" } : Jvm.MethodName)) ∈ lw_all := lw_g (lw_at lw_m16 111 rfl) rfl
theorem q3839 : (Jvm.Cond.selects "java/util/ArrayDeque" ({ cls := "java/util/ArrayDeque", name := "addFirst", desc := "(Ljava/lang/Object;)V" } : Jvm.MethodName) ({ cls := "java/util/ArrayDeque", name := "addFirst", desc := "(Ljava/lang/Object;)V" } : Jvm.MethodName)) ∈ lw_all := lw_g (lw_at lw_m16 112 rfl) rfl
theorem q3840 : (Jvm.Cond.code ({ cls := "java/util/ArrayDeque", name := "addFirst", desc := "(Ljava/lang/Object;)V" } : Jvm.MethodName) prog_57_method_12_code (3 : Nat) (Option.none : Option Jvm.ClassFile.FieldType)) ∈ lw_all := lw_g (lw_at lw_m16 113 rfl) rfl
theorem q3841 : (Jvm.Cond.methodLink "java/util/ArrayDeque" (68 : Nat) ({ cls := "java/util/ArrayDeque", name := "dec", desc := "(II)I" } : Jvm.MethodName)) ∈ lw_all := lw_g (lw_at lw_m16 114 rfl) rfl
theorem q3842 : (Jvm.Cond.static ({ cls := "java/util/ArrayDeque", name := "dec", desc := "(II)I" } : Jvm.MethodName)) ∈ lw_all := lw_g (lw_at lw_m16 115 rfl) rfl
theorem q3843 : (Jvm.Cond.code ({ cls := "java/util/ArrayDeque", name := "dec", desc := "(II)I" } : Jvm.MethodName) prog_57_method_7_code (2 : Nat) (Option.some Jvm.ClassFile.FieldType.int)) ∈ lw_all := lw_g (lw_at lw_m16 116 rfl) rfl
theorem q3846 : (Jvm.Cond.instanceMethod ({ cls := "java/util/ArrayDeque", name := "removeLast", desc := "()Ljava/lang/Object;" } : Jvm.MethodName)) ∈ lw_all := lw_g (lw_at lw_m16 119 rfl) rfl
theorem q3847 : (Jvm.Cond.selects "java/util/ArrayDeque" ({ cls := "java/util/ArrayDeque", name := "removeLast", desc := "()Ljava/lang/Object;" } : Jvm.MethodName) ({ cls := "java/util/ArrayDeque", name := "removeLast", desc := "()Ljava/lang/Object;" } : Jvm.MethodName)) ∈ lw_all := lw_g (lw_at lw_m16 120 rfl) rfl
theorem q3848 : (Jvm.Cond.code ({ cls := "java/util/ArrayDeque", name := "removeLast", desc := "()Ljava/lang/Object;" } : Jvm.MethodName) prog_57_method_19_code (2 : Nat) (Option.some (Jvm.ClassFile.FieldType.object "java/lang/Object"))) ∈ lw_all := lw_g (lw_at lw_m16 121 rfl) rfl
theorem q3849 : (Jvm.Cond.methodLink "java/util/ArrayDeque" (100 : Nat) ({ cls := "java/util/ArrayDeque", name := "pollLast", desc := "()Ljava/lang/Object;" } : Jvm.MethodName)) ∈ lw_all := lw_g (lw_at lw_m16 122 rfl) rfl
theorem q3850 : (Jvm.Cond.instanceMethod ({ cls := "java/util/ArrayDeque", name := "pollLast", desc := "()Ljava/lang/Object;" } : Jvm.MethodName)) ∈ lw_all := lw_g (lw_at lw_m16 123 rfl) rfl
theorem q3851 : (Jvm.Cond.selects "java/util/ArrayDeque" ({ cls := "java/util/ArrayDeque", name := "pollLast", desc := "()Ljava/lang/Object;" } : Jvm.MethodName) ({ cls := "java/util/ArrayDeque", name := "pollLast", desc := "()Ljava/lang/Object;" } : Jvm.MethodName)) ∈ lw_all := lw_g (lw_at lw_m16 124 rfl) rfl
theorem q3852 : (Jvm.Cond.code ({ cls := "java/util/ArrayDeque", name := "pollLast", desc := "()Ljava/lang/Object;" } : Jvm.MethodName) prog_57_method_21_code (4 : Nat) (Option.some (Jvm.ClassFile.FieldType.object "java/lang/Object"))) ∈ lw_all := lw_g (lw_at lw_m16 125 rfl) rfl
theorem q3916 : (Jvm.Cond.instanceMethod ({ cls := "java/util/ArrayDeque", name := "isEmpty", desc := "()Z" } : Jvm.MethodName)) ∈ lw_all := lw_g (lw_at lw_m16 189 rfl) rfl
theorem q3917 : (Jvm.Cond.selects "java/util/ArrayDeque" ({ cls := "java/util/ArrayDeque", name := "isEmpty", desc := "()Z" } : Jvm.MethodName) ({ cls := "java/util/ArrayDeque", name := "isEmpty", desc := "()Z" } : Jvm.MethodName)) ∈ lw_all := lw_g (lw_at lw_m16 190 rfl) rfl
theorem q3918 : (Jvm.Cond.code ({ cls := "java/util/ArrayDeque", name := "isEmpty", desc := "()Z" } : Jvm.MethodName) prog_57_method_38_code (1 : Nat) (Option.some Jvm.ClassFile.FieldType.boolean)) ∈ lw_all := lw_g (lw_at lw_m16 191 rfl) rfl
theorem q4641 : (Jvm.Cond.selects "java/util/ArrayDeque" ({ cls := "java/util/ArrayDeque", name := "iterator", desc := "()Ljava/util/Iterator;" } : Jvm.MethodName) ({ cls := "java/util/ArrayDeque", name := "iterator", desc := "()Ljava/util/Iterator;" } : Jvm.MethodName)) ∈ lw_all := lw_g (lw_at lw_m19 194 rfl) rfl
theorem q4671 : (Jvm.Cond.castable "java/util/ArrayDeque" "java/lang/Object") ∈ lw_tbl := lw_at lw_m19 224 rfl
theorem in_J1 : ∀ w ∈ wsJ10, w ∈ lw_all := lw_in wsJ10 [225, 227, 229] (by decide +kernel) (by decide +kernel)
/-! J10.java_lang_ArrayIndexOutOfBoundsException.lean.txt -/
def RJ10 : String := "java/lang/ArrayIndexOutOfBoundsException"
def TJ10 : u_T := fun k => match k with
  | 0 => ("java/lang/Throwable", "backtrace", "Ljava/lang/Object;", false)
  | 1 => ("java/lang/Throwable", "detailMessage", "Ljava/lang/String;", false)
  | 2 => ("java/lang/Throwable", "cause", "Ljava/lang/Throwable;", false)
  | 3 => ("java/lang/Throwable", "stackTrace", "[Ljava/lang/StackTraceElement;", false)
  | 4 => ("java/lang/Throwable", "depth", "I", false)
  | _ => ("java/lang/Throwable", "suppressedExceptions", "Ljava/util/List;", false)
def tyJ10 : Nat → FieldType := fun k => match k with
  | 0 => .object "java/lang/Object"
  | 1 => .object "java/lang/String"
  | 2 => .object "java/lang/Throwable"
  | 3 => .array (.object "java/lang/StackTraceElement")
  | 4 => .int
  | _ => .object "java/util/List"
abbrev wsJ100 : List Cond := u_ws RJ10 TJ10 6
theorem nmJ10 : ∀ a, a < 6 → ∀ b, b < 6 → a ≠ b → (TJ10 a).2.1 ≠ (TJ10 b).2.1 := by decide +kernel
theorem tyJ10_ok : ∀ k, k < 6 → parseFieldDescriptor (TJ10 k).2.2.1 = some (tyJ10 k) := by decide +kernel
theorem in_J10 : ∀ w ∈ wsJ100, w ∈ lw_all := lw_in wsJ100 [367, 369, 371, 373, 375, 377] (by decide +kernel) (by decide +kernel)
/-! J11.java_util_AbstractList.lean.txt -/
def RJ11 : String := "java/util/AbstractList"
abbrev cJ11_init : ByteArray := prog_54_method_1_code
def yJ11_init : MethodName := ⟨RJ11, "<init>", "()V"⟩
def dkwJ11_init_0 : List UInt8 := [42, 183, 0, 1, 42, 3, 181, 0, 7, 177]
abbrev dktJ11_init_0 : List UInt8 := dkwJ11_init_0 ++ []
theorem dksJ11_init_0 : cJ11_init.data.toList.drop 0 = dktJ11_init_0 := by decide +kernel
theorem dJ11_init_0 : decode cJ11_init 0 = .ok (.aload_n 0, 1) := dk_42 (dk_at dksJ11_init_0 0 rfl rfl)
theorem dJ11_init_1 : decode cJ11_init 1 = .ok (.invokespecial 1, 3) := dk_183 0 1 (dk_at dksJ11_init_0 1 rfl rfl)
theorem dJ11_init_4 : decode cJ11_init 4 = .ok (.aload_n 0, 1) := dk_42 (dk_at dksJ11_init_0 4 rfl rfl)
theorem dJ11_init_5 : decode cJ11_init 5 = .ok (.iconst 0, 1) := dk_3 (dk_at dksJ11_init_0 5 rfl rfl)
theorem dJ11_init_6 : decode cJ11_init 6 = .ok (.putfield 7, 3) := dk_181 0 7 (dk_at dksJ11_init_0 6 rfl rfl)
theorem dJ11_init_9 : decode cJ11_init 9 = .ok (.return_, 1) := dk_177 (dk_at dksJ11_init_0 9 rfl rfl)
theorem q145 : (Jvm.Cond.initialized "java/util/AbstractList") ∈ lw_all := lw_g (lw_at lw_m1 18 rfl) rfl
theorem q462 : (Jvm.Cond.instanceMethod ({ cls := "java/util/AbstractList", name := "<init>", desc := "()V" } : Jvm.MethodName)) ∈ lw_all := lw_g (lw_at lw_m2 95 rfl) rfl
theorem q463 : (Jvm.Cond.code ({ cls := "java/util/AbstractList", name := "<init>", desc := "()V" } : Jvm.MethodName) prog_54_method_1_code (1 : Nat) (Option.none : Option Jvm.ClassFile.FieldType)) ∈ lw_all := lw_g (lw_at lw_m2 96 rfl) rfl
theorem q464 : (Jvm.Cond.methodLink "java/util/AbstractList" (1 : Nat) ({ cls := "java/util/AbstractCollection", name := "<init>", desc := "()V" } : Jvm.MethodName)) ∈ lw_all := lw_g (lw_at lw_m2 97 rfl) rfl
theorem q471 : (Jvm.Cond.fieldLink "java/util/AbstractList" (7 : Nat) "java/util/AbstractList" "modCount" "I") ∈ lw_all := lw_g (lw_at lw_m2 104 rfl) rfl
/-! J12.java_util_ArrayList.lean.txt -/
def RJ12 : String := "java/util/ArrayList"
def TJ12 : u_T := fun k => match k with
  | 0 => ("java/util/AbstractList", "modCount", "I", false)
  | 1 => ("java/util/ArrayList", "elementData", "[Ljava/lang/Object;", false)
  | _ => ("java/util/ArrayList", "size", "I", false)
def tyJ12 : Nat → FieldType := fun k => match k with
  | 0 => .int
  | 1 => .array (.object "java/lang/Object")
  | _ => .int
abbrev wsJ120 : List Cond := u_ws RJ12 TJ12 3
theorem nmJ12 : ∀ a, a < 3 → ∀ b, b < 3 → a ≠ b → (TJ12 a).2.1 ≠ (TJ12 b).2.1 := by decide +kernel
theorem tyJ12_ok : ∀ k, k < 3 → parseFieldDescriptor (TJ12 k).2.2.1 = some (tyJ12 k) := by decide +kernel
abbrev cJ12_init : ByteArray := prog_59_method_2_code
def yJ12_init : MethodName := ⟨RJ12, "<init>", "()V"⟩
def dkwJ12_init_0 : List UInt8 := [42, 183, 0, 1, 42, 178, 0, 39, 181, 0, 9, 177]
abbrev dktJ12_init_0 : List UInt8 := dkwJ12_init_0 ++ []
theorem dksJ12_init_0 : cJ12_init.data.toList.drop 0 = dktJ12_init_0 := by decide +kernel
theorem dJ12_init_0 : decode cJ12_init 0 = .ok (.aload_n 0, 1) := dk_42 (dk_at dksJ12_init_0 0 rfl rfl)
theorem dJ12_init_1 : decode cJ12_init 1 = .ok (.invokespecial 1, 3) := dk_183 0 1 (dk_at dksJ12_init_0 1 rfl rfl)
theorem dJ12_init_4 : decode cJ12_init 4 = .ok (.aload_n 0, 1) := dk_42 (dk_at dksJ12_init_0 4 rfl rfl)
theorem dJ12_init_5 : decode cJ12_init 5 = .ok (.getstatic 39, 3) := dk_178 0 39 (dk_at dksJ12_init_0 5 rfl rfl)
theorem dJ12_init_8 : decode cJ12_init 8 = .ok (.putfield 9, 3) := dk_181 0 9 (dk_at dksJ12_init_0 8 rfl rfl)
theorem dJ12_init_11 : decode cJ12_init 11 = .ok (.return_, 1) := dk_177 (dk_at dksJ12_init_0 11 rfl rfl)
abbrev cJ12_size : ByteArray := prog_59_method_8_code
def yJ12_size : MethodName := ⟨RJ12, "size", "()I"⟩
theorem dJ12_size_0 : decode cJ12_size 0 = .ok (.aload_n 0, 1) := by decide +kernel
theorem dJ12_size_1 : decode cJ12_size 1 = .ok (.getfield 48, 3) := by decide +kernel
theorem dJ12_size_4 : decode cJ12_size 4 = .ok (.ireturn, 1) := by decide +kernel
abbrev cJ12_get : ByteArray := prog_59_method_20_code
def yJ12_get : MethodName := ⟨RJ12, "get", "(I)Ljava/lang/Object;"⟩
def dkwJ12_get_0 : List UInt8 := [27, 42, 180, 0, 48, 184, 0, 118, 87, 42, 27, 182, 0, 123, 176]
abbrev dktJ12_get_0 : List UInt8 := dkwJ12_get_0 ++ []
theorem dksJ12_get_0 : cJ12_get.data.toList.drop 0 = dktJ12_get_0 := by decide +kernel
theorem dJ12_get_0 : decode cJ12_get 0 = .ok (.iload_n 1, 1) := dk_27 (dk_at dksJ12_get_0 0 rfl rfl)
theorem dJ12_get_1 : decode cJ12_get 1 = .ok (.aload_n 0, 1) := dk_42 (dk_at dksJ12_get_0 1 rfl rfl)
theorem dJ12_get_2 : decode cJ12_get 2 = .ok (.getfield 48, 3) := dk_180 0 48 (dk_at dksJ12_get_0 2 rfl rfl)
theorem dJ12_get_5 : decode cJ12_get 5 = .ok (.invokestatic 118, 3) := dk_184 0 118 (dk_at dksJ12_get_0 5 rfl rfl)
theorem dJ12_get_8 : decode cJ12_get 8 = .ok (.pop, 1) := dk_87 (dk_at dksJ12_get_0 8 rfl rfl)
theorem dJ12_get_9 : decode cJ12_get 9 = .ok (.aload_n 0, 1) := dk_42 (dk_at dksJ12_get_0 9 rfl rfl)
theorem dJ12_get_10 : decode cJ12_get 10 = .ok (.iload_n 1, 1) := dk_27 (dk_at dksJ12_get_0 10 rfl rfl)
theorem dJ12_get_11 : decode cJ12_get 11 = .ok (.invokevirtual 123, 3) := dk_182 0 123 (dk_at dksJ12_get_0 11 rfl rfl)
theorem dJ12_get_14 : decode cJ12_get 14 = .ok (.areturn, 1) := dk_176 (dk_at dksJ12_get_0 14 rfl rfl)
abbrev cJ12_elementData : ByteArray := prog_59_method_18_code
def yJ12_elementData : MethodName := ⟨RJ12, "elementData", "(I)Ljava/lang/Object;"⟩
def dkwJ12_elementData_0 : List UInt8 := [42, 180, 0, 9, 27, 50, 176]
abbrev dktJ12_elementData_0 : List UInt8 := dkwJ12_elementData_0 ++ []
theorem dksJ12_elementData_0 : cJ12_elementData.data.toList.drop 0 = dktJ12_elementData_0 := by decide +kernel
theorem dJ12_elementData_0 : decode cJ12_elementData 0 = .ok (.aload_n 0, 1) := dk_42 (dk_at dksJ12_elementData_0 0 rfl rfl)
theorem dJ12_elementData_1 : decode cJ12_elementData 1 = .ok (.getfield 9, 3) := dk_180 0 9 (dk_at dksJ12_elementData_0 1 rfl rfl)
theorem dJ12_elementData_4 : decode cJ12_elementData 4 = .ok (.iload_n 1, 1) := dk_27 (dk_at dksJ12_elementData_0 4 rfl rfl)
theorem dJ12_elementData_5 : decode cJ12_elementData 5 = .ok (.aaload, 1) := dk_50 (dk_at dksJ12_elementData_0 5 rfl rfl)
theorem dJ12_elementData_6 : decode cJ12_elementData 6 = .ok (.areturn, 1) := dk_176 (dk_at dksJ12_elementData_0 6 rfl rfl)
abbrev cJ12_add : ByteArray := prog_59_method_25_code
def yJ12_add : MethodName := ⟨RJ12, "add", "(Ljava/lang/Object;)Z"⟩
def dkwJ12_add_1 : List UInt8 := [172]
abbrev dktJ12_add_1 : List UInt8 := dkwJ12_add_1 ++ []
def dkwJ12_add_0 : List UInt8 := [42, 89, 180, 0, 63, 4, 96, 181, 0, 63, 42, 43, 42, 180, 0, 9, 42, 180, 0, 48, 182, 0, 131, 4]
abbrev dktJ12_add_0 : List UInt8 := dkwJ12_add_0 ++ dktJ12_add_1
theorem dksJ12_add_0 : cJ12_add.data.toList.drop 0 = dktJ12_add_0 := by decide +kernel
theorem dksJ12_add_1 : cJ12_add.data.toList.drop 24 = dktJ12_add_1 := dk_seg dksJ12_add_0 24 rfl rfl
theorem dJ12_add_0 : decode cJ12_add 0 = .ok (.aload_n 0, 1) := dk_42 (dk_at dksJ12_add_0 0 rfl rfl)
theorem dJ12_add_1 : decode cJ12_add 1 = .ok (.dup, 1) := dk_89 (dk_at dksJ12_add_0 1 rfl rfl)
theorem dJ12_add_2 : decode cJ12_add 2 = .ok (.getfield 63, 3) := dk_180 0 63 (dk_at dksJ12_add_0 2 rfl rfl)
theorem dJ12_add_5 : decode cJ12_add 5 = .ok (.iconst 1, 1) := dk_4 (dk_at dksJ12_add_0 5 rfl rfl)
theorem dJ12_add_6 : decode cJ12_add 6 = .ok (.iadd, 1) := dk_96 (dk_at dksJ12_add_0 6 rfl rfl)
theorem dJ12_add_7 : decode cJ12_add 7 = .ok (.putfield 63, 3) := dk_181 0 63 (dk_at dksJ12_add_0 7 rfl rfl)
theorem dJ12_add_10 : decode cJ12_add 10 = .ok (.aload_n 0, 1) := dk_42 (dk_at dksJ12_add_0 10 rfl rfl)
theorem dJ12_add_11 : decode cJ12_add 11 = .ok (.aload_n 1, 1) := dk_43 (dk_at dksJ12_add_0 11 rfl rfl)
theorem dJ12_add_12 : decode cJ12_add 12 = .ok (.aload_n 0, 1) := dk_42 (dk_at dksJ12_add_0 12 rfl rfl)
theorem dJ12_add_13 : decode cJ12_add 13 = .ok (.getfield 9, 3) := dk_180 0 9 (dk_at dksJ12_add_0 13 rfl rfl)
theorem dJ12_add_16 : decode cJ12_add 16 = .ok (.aload_n 0, 1) := dk_42 (dk_at dksJ12_add_0 16 rfl rfl)
theorem dJ12_add_17 : decode cJ12_add 17 = .ok (.getfield 48, 3) := dk_180 0 48 (dk_at dksJ12_add_0 17 rfl rfl)
theorem dJ12_add_20 : decode cJ12_add 20 = .ok (.invokevirtual 131, 3) := dk_182 0 131 (dk_at dksJ12_add_0 20 rfl rfl)
theorem dJ12_add_23 : decode cJ12_add 23 = .ok (.iconst 1, 1) := dk_4 (dk_at dksJ12_add_0 23 rfl rfl)
theorem dJ12_add_24 : decode cJ12_add 24 = .ok (.ireturn, 1) := dk_172 (dk_at dksJ12_add_1 0 rfl rfl)
abbrev cJ12_add_2 : ByteArray := prog_59_method_24_code
def yJ12_add_2 : MethodName := ⟨RJ12, "add", "(Ljava/lang/Object;[Ljava/lang/Object;I)V"⟩
def dkwJ12_add_2_0 : List UInt8 := [29, 44, 190, 160, 0, 8, 42, 182, 0, 129, 77, 44, 29, 43, 83, 42, 29, 4, 96, 181, 0, 48, 177]
abbrev dktJ12_add_2_0 : List UInt8 := dkwJ12_add_2_0 ++ []
theorem dksJ12_add_2_0 : cJ12_add_2.data.toList.drop 0 = dktJ12_add_2_0 := by decide +kernel
theorem dJ12_add_2_0 : decode cJ12_add_2 0 = .ok (.iload_n 3, 1) := dk_29 (dk_at dksJ12_add_2_0 0 rfl rfl)
theorem dJ12_add_2_1 : decode cJ12_add_2 1 = .ok (.aload_n 2, 1) := dk_44 (dk_at dksJ12_add_2_0 1 rfl rfl)
theorem dJ12_add_2_2 : decode cJ12_add_2 2 = .ok (.arraylength, 1) := dk_190 (dk_at dksJ12_add_2_0 2 rfl rfl)
theorem dJ12_add_2_3 : decode cJ12_add_2 3 = .ok (.if_icmp .ne 8, 3) := dk_160 0 8 (dk_at dksJ12_add_2_0 3 rfl rfl)
theorem dJ12_add_2_6 : decode cJ12_add_2 6 = .ok (.aload_n 0, 1) := dk_42 (dk_at dksJ12_add_2_0 6 rfl rfl)
theorem dJ12_add_2_7 : decode cJ12_add_2 7 = .ok (.invokevirtual 129, 3) := dk_182 0 129 (dk_at dksJ12_add_2_0 7 rfl rfl)
theorem dJ12_add_2_10 : decode cJ12_add_2 10 = .ok (.astore_n 2, 1) := dk_77 (dk_at dksJ12_add_2_0 10 rfl rfl)
theorem dJ12_add_2_11 : decode cJ12_add_2 11 = .ok (.aload_n 2, 1) := dk_44 (dk_at dksJ12_add_2_0 11 rfl rfl)
theorem dJ12_add_2_12 : decode cJ12_add_2 12 = .ok (.iload_n 3, 1) := dk_29 (dk_at dksJ12_add_2_0 12 rfl rfl)
theorem dJ12_add_2_13 : decode cJ12_add_2 13 = .ok (.aload_n 1, 1) := dk_43 (dk_at dksJ12_add_2_0 13 rfl rfl)
theorem dJ12_add_2_14 : decode cJ12_add_2 14 = .ok (.aastore, 1) := dk_83 (dk_at dksJ12_add_2_0 14 rfl rfl)
theorem dJ12_add_2_15 : decode cJ12_add_2 15 = .ok (.aload_n 0, 1) := dk_42 (dk_at dksJ12_add_2_0 15 rfl rfl)
theorem dJ12_add_2_16 : decode cJ12_add_2 16 = .ok (.iload_n 3, 1) := dk_29 (dk_at dksJ12_add_2_0 16 rfl rfl)
theorem dJ12_add_2_17 : decode cJ12_add_2 17 = .ok (.iconst 1, 1) := dk_4 (dk_at dksJ12_add_2_0 17 rfl rfl)
theorem dJ12_add_2_18 : decode cJ12_add_2 18 = .ok (.iadd, 1) := dk_96 (dk_at dksJ12_add_2_0 18 rfl rfl)
theorem dJ12_add_2_19 : decode cJ12_add_2 19 = .ok (.putfield 48, 3) := dk_181 0 48 (dk_at dksJ12_add_2_0 19 rfl rfl)
theorem dJ12_add_2_22 : decode cJ12_add_2 22 = .ok (.return_, 1) := dk_177 (dk_at dksJ12_add_2_0 22 rfl rfl)
abbrev cJ12_grow : ByteArray := prog_59_method_7_code
def yJ12_grow : MethodName := ⟨RJ12, "grow", "()[Ljava/lang/Object;"⟩
def dkwJ12_grow_0 : List UInt8 := [42, 42, 180, 0, 48, 4, 96, 182, 0, 69, 176]
abbrev dktJ12_grow_0 : List UInt8 := dkwJ12_grow_0 ++ []
theorem dksJ12_grow_0 : cJ12_grow.data.toList.drop 0 = dktJ12_grow_0 := by decide +kernel
theorem dJ12_grow_0 : decode cJ12_grow 0 = .ok (.aload_n 0, 1) := dk_42 (dk_at dksJ12_grow_0 0 rfl rfl)
theorem dJ12_grow_1 : decode cJ12_grow 1 = .ok (.aload_n 0, 1) := dk_42 (dk_at dksJ12_grow_0 1 rfl rfl)
theorem dJ12_grow_2 : decode cJ12_grow 2 = .ok (.getfield 48, 3) := dk_180 0 48 (dk_at dksJ12_grow_0 2 rfl rfl)
theorem dJ12_grow_5 : decode cJ12_grow 5 = .ok (.iconst 1, 1) := dk_4 (dk_at dksJ12_grow_0 5 rfl rfl)
theorem dJ12_grow_6 : decode cJ12_grow 6 = .ok (.iadd, 1) := dk_96 (dk_at dksJ12_grow_0 6 rfl rfl)
theorem dJ12_grow_7 : decode cJ12_grow 7 = .ok (.invokevirtual 69, 3) := dk_182 0 69 (dk_at dksJ12_grow_0 7 rfl rfl)
theorem dJ12_grow_10 : decode cJ12_grow 10 = .ok (.areturn, 1) := dk_176 (dk_at dksJ12_grow_0 10 rfl rfl)
abbrev cJ12_grow_2 : ByteArray := prog_59_method_6_code
def yJ12_grow_2 : MethodName := ⟨RJ12, "grow", "(I)[Ljava/lang/Object;"⟩
def dkwJ12_grow_2_2 : List UInt8 := [27, 184, 0, 79, 189, 0, 7, 90, 181, 0, 9, 176]
abbrev dktJ12_grow_2_2 : List UInt8 := dkwJ12_grow_2_2 ++ []
def dkwJ12_grow_2_1 : List UInt8 := [28, 4, 122, 184, 0, 73, 62, 42, 42, 180, 0, 9, 29, 184, 0, 66, 90, 181, 0, 9, 176, 42, 16, 10]
abbrev dktJ12_grow_2_1 : List UInt8 := dkwJ12_grow_2_1 ++ dktJ12_grow_2_2
def dkwJ12_grow_2_0 : List UInt8 := [42, 180, 0, 9, 190, 61, 28, 157, 0, 13, 42, 180, 0, 9, 178, 0, 39, 165, 0, 28, 28, 27, 28, 100]
abbrev dktJ12_grow_2_0 : List UInt8 := dkwJ12_grow_2_0 ++ dktJ12_grow_2_1
theorem dksJ12_grow_2_0 : cJ12_grow_2.data.toList.drop 0 = dktJ12_grow_2_0 := by decide +kernel
theorem dksJ12_grow_2_1 : cJ12_grow_2.data.toList.drop 24 = dktJ12_grow_2_1 := dk_seg dksJ12_grow_2_0 24 rfl rfl
theorem dksJ12_grow_2_2 : cJ12_grow_2.data.toList.drop 48 = dktJ12_grow_2_2 := dk_seg dksJ12_grow_2_1 24 rfl rfl
theorem dJ12_grow_2_0 : decode cJ12_grow_2 0 = .ok (.aload_n 0, 1) := dk_42 (dk_at dksJ12_grow_2_0 0 rfl rfl)
theorem dJ12_grow_2_1 : decode cJ12_grow_2 1 = .ok (.getfield 9, 3) := dk_180 0 9 (dk_at dksJ12_grow_2_0 1 rfl rfl)
theorem dJ12_grow_2_4 : decode cJ12_grow_2 4 = .ok (.arraylength, 1) := dk_190 (dk_at dksJ12_grow_2_0 4 rfl rfl)
theorem dJ12_grow_2_5 : decode cJ12_grow_2 5 = .ok (.istore_n 2, 1) := dk_61 (dk_at dksJ12_grow_2_0 5 rfl rfl)
theorem dJ12_grow_2_6 : decode cJ12_grow_2 6 = .ok (.iload_n 2, 1) := dk_28 (dk_at dksJ12_grow_2_0 6 rfl rfl)
theorem dJ12_grow_2_7 : decode cJ12_grow_2 7 = .ok (.ifCond .gt 13, 3) := dk_157 0 13 (dk_at dksJ12_grow_2_0 7 rfl rfl)
theorem dJ12_grow_2_10 : decode cJ12_grow_2 10 = .ok (.aload_n 0, 1) := dk_42 (dk_at dksJ12_grow_2_0 10 rfl rfl)
theorem dJ12_grow_2_11 : decode cJ12_grow_2 11 = .ok (.getfield 9, 3) := dk_180 0 9 (dk_at dksJ12_grow_2_0 11 rfl rfl)
theorem dJ12_grow_2_14 : decode cJ12_grow_2 14 = .ok (.getstatic 39, 3) := dk_178 0 39 (dk_at dksJ12_grow_2_0 14 rfl rfl)
theorem dJ12_grow_2_17 : decode cJ12_grow_2 17 = .ok (.if_acmp .eq 28, 3) := dk_165 0 28 (dk_at dksJ12_grow_2_0 17 rfl rfl)
theorem dJ12_grow_2_20 : decode cJ12_grow_2 20 = .ok (.iload_n 2, 1) := dk_28 (dk_at dksJ12_grow_2_0 20 rfl rfl)
theorem dJ12_grow_2_45 : decode cJ12_grow_2 45 = .ok (.aload_n 0, 1) := dk_42 (dk_at dksJ12_grow_2_1 21 rfl rfl)
theorem dJ12_grow_2_46 : decode cJ12_grow_2 46 = .ok (.bipush 10, 2) := dk_16 10 (dk_at dksJ12_grow_2_1 22 rfl rfl)
theorem dJ12_grow_2_48 : decode cJ12_grow_2 48 = .ok (.iload_n 1, 1) := dk_27 (dk_at dksJ12_grow_2_2 0 rfl rfl)
theorem dJ12_grow_2_49 : decode cJ12_grow_2 49 = .ok (.invokestatic 79, 3) := dk_184 0 79 (dk_at dksJ12_grow_2_2 1 rfl rfl)
theorem dJ12_grow_2_52 : decode cJ12_grow_2 52 = .ok (.anewarray 7, 3) := dk_189 0 7 (dk_at dksJ12_grow_2_2 4 rfl rfl)
theorem dJ12_grow_2_55 : decode cJ12_grow_2 55 = .ok (.dup_x1, 1) := dk_90 (dk_at dksJ12_grow_2_2 7 rfl rfl)
theorem dJ12_grow_2_56 : decode cJ12_grow_2 56 = .ok (.putfield 9, 3) := dk_181 0 9 (dk_at dksJ12_grow_2_2 8 rfl rfl)
theorem dJ12_grow_2_59 : decode cJ12_grow_2 59 = .ok (.areturn, 1) := dk_176 (dk_at dksJ12_grow_2_2 11 rfl rfl)
abbrev cJ12_iterator : ByteArray := prog_59_method_55_code
def yJ12_iterator : MethodName := ⟨RJ12, "iterator", "()Ljava/util/Iterator;"⟩
def dkwJ12_iterator_0 : List UInt8 := [187, 1, 11, 89, 42, 183, 1, 13, 176]
abbrev dktJ12_iterator_0 : List UInt8 := dkwJ12_iterator_0 ++ []
theorem dksJ12_iterator_0 : cJ12_iterator.data.toList.drop 0 = dktJ12_iterator_0 := by decide +kernel
theorem dJ12_iterator_0 : decode cJ12_iterator 0 = .ok (.new 267, 3) := dk_187 1 11 (dk_at dksJ12_iterator_0 0 rfl rfl)
theorem dJ12_iterator_3 : decode cJ12_iterator 3 = .ok (.dup, 1) := dk_89 (dk_at dksJ12_iterator_0 3 rfl rfl)
theorem dJ12_iterator_4 : decode cJ12_iterator 4 = .ok (.aload_n 0, 1) := dk_42 (dk_at dksJ12_iterator_0 4 rfl rfl)
theorem dJ12_iterator_5 : decode cJ12_iterator 5 = .ok (.invokespecial 269, 3) := dk_183 1 13 (dk_at dksJ12_iterator_0 5 rfl rfl)
theorem dJ12_iterator_8 : decode cJ12_iterator 8 = .ok (.areturn, 1) := dk_176 (dk_at dksJ12_iterator_0 8 rfl rfl)
theorem q146 : (Jvm.Cond.initialized "java/util/ArrayList") ∈ lw_all := lw_g (lw_at lw_m1 19 rfl) rfl
theorem q457 : (Jvm.Cond.instantiable "java/util/ArrayList" (3 : Nat)) ∈ lw_all := lw_g (lw_at lw_m2 90 rfl) rfl
theorem q459 : (Jvm.Cond.instanceMethod ({ cls := "java/util/ArrayList", name := "<init>", desc := "()V" } : Jvm.MethodName)) ∈ lw_all := lw_g (lw_at lw_m2 92 rfl) rfl
theorem q460 : (Jvm.Cond.code ({ cls := "java/util/ArrayList", name := "<init>", desc := "()V" } : Jvm.MethodName) prog_59_method_2_code (1 : Nat) (Option.none : Option Jvm.ClassFile.FieldType)) ∈ lw_all := lw_g (lw_at lw_m2 93 rfl) rfl
theorem q461 : (Jvm.Cond.methodLink "java/util/ArrayList" (1 : Nat) ({ cls := "java/util/AbstractList", name := "<init>", desc := "()V" } : Jvm.MethodName)) ∈ lw_all := lw_g (lw_at lw_m2 94 rfl) rfl
theorem q465 : (Jvm.Cond.fieldLink "java/util/ArrayList" (39 : Nat) "java/util/ArrayList" "DEFAULTCAPACITY_EMPTY_ELEMENTDATA" "[Ljava/lang/Object;") ∈ lw_all := lw_g (lw_at lw_m2 98 rfl) rfl
theorem q467 : (Jvm.Cond.fieldLink "java/util/ArrayList" (9 : Nat) "java/util/ArrayList" "elementData" "[Ljava/lang/Object;") ∈ lw_all := lw_g (lw_at lw_m2 100 rfl) rfl
theorem q470 : (Jvm.Cond.fieldLink "java/util/ArrayList" (48 : Nat) "java/util/ArrayList" "size" "I") ∈ lw_all := lw_g (lw_at lw_m2 103 rfl) rfl
theorem q473 : (Jvm.Cond.sameField "java/util/ArrayList" "java/util/AbstractList" "modCount" "I") ∈ lw_all := lw_g (lw_at lw_m2 106 rfl) rfl
theorem q474 : (Jvm.Cond.fieldLink "java/util/ArrayList" (63 : Nat) "java/util/ArrayList" "modCount" "I") ∈ lw_all := lw_g (lw_at lw_m2 107 rfl) rfl
theorem q971 : (Jvm.Cond.castable "java/util/ArrayList" "java/util/List") ∈ lw_tbl := lw_at lw_m4 124 rfl
theorem q972 : (Jvm.Cond.selects "java/util/ArrayList" ({ cls := "java/util/List", name := "size", desc := "()I" } : Jvm.MethodName) ({ cls := "java/util/ArrayList", name := "size", desc := "()I" } : Jvm.MethodName)) ∈ lw_all := lw_g (lw_at lw_m4 125 rfl) rfl
theorem q973 : (Jvm.Cond.unhidden "java/util/ArrayList" "size" "()I") ∈ lw_tbl := lw_at lw_m4 126 rfl
theorem q974 : (Jvm.Cond.instanceMethod ({ cls := "java/util/ArrayList", name := "size", desc := "()I" } : Jvm.MethodName)) ∈ lw_all := lw_g (lw_at lw_m4 127 rfl) rfl
theorem q975 : (Jvm.Cond.publicMethod ({ cls := "java/util/ArrayList", name := "size", desc := "()I" } : Jvm.MethodName)) ∈ lw_tbl := lw_at lw_m4 128 rfl
theorem q976 : (Jvm.Cond.code ({ cls := "java/util/ArrayList", name := "size", desc := "()I" } : Jvm.MethodName) prog_59_method_8_code (1 : Nat) (Option.some Jvm.ClassFile.FieldType.int)) ∈ lw_all := lw_g (lw_at lw_m4 129 rfl) rfl
theorem q993 : (Jvm.Cond.selects "java/util/ArrayList" ({ cls := "java/util/List", name := "get", desc := "(I)Ljava/lang/Object;" } : Jvm.MethodName) ({ cls := "java/util/ArrayList", name := "get", desc := "(I)Ljava/lang/Object;" } : Jvm.MethodName)) ∈ lw_all := lw_g (lw_at lw_m4 146 rfl) rfl
theorem q994 : (Jvm.Cond.unhidden "java/util/ArrayList" "get" "(I)Ljava/lang/Object;") ∈ lw_tbl := lw_at lw_m4 147 rfl
theorem q995 : (Jvm.Cond.instanceMethod ({ cls := "java/util/ArrayList", name := "get", desc := "(I)Ljava/lang/Object;" } : Jvm.MethodName)) ∈ lw_all := lw_g (lw_at lw_m4 148 rfl) rfl
theorem q996 : (Jvm.Cond.publicMethod ({ cls := "java/util/ArrayList", name := "get", desc := "(I)Ljava/lang/Object;" } : Jvm.MethodName)) ∈ lw_tbl := lw_at lw_m4 149 rfl
theorem q997 : (Jvm.Cond.code ({ cls := "java/util/ArrayList", name := "get", desc := "(I)Ljava/lang/Object;" } : Jvm.MethodName) prog_59_method_20_code (2 : Nat) (Option.some (Jvm.ClassFile.FieldType.object "java/lang/Object"))) ∈ lw_all := lw_g (lw_at lw_m4 150 rfl) rfl
theorem q998 : (Jvm.Cond.methodLink "java/util/ArrayList" (118 : Nat) ({ cls := "java/util/Objects", name := "checkIndex", desc := "(II)I" } : Jvm.MethodName)) ∈ lw_all := lw_g (lw_at lw_m4 151 rfl) rfl
theorem q1002 : (Jvm.Cond.methodLink "java/util/ArrayList" (123 : Nat) ({ cls := "java/util/ArrayList", name := "elementData", desc := "(I)Ljava/lang/Object;" } : Jvm.MethodName)) ∈ lw_all := lw_g (lw_at lw_m4 155 rfl) rfl
theorem q1003 : (Jvm.Cond.instanceMethod ({ cls := "java/util/ArrayList", name := "elementData", desc := "(I)Ljava/lang/Object;" } : Jvm.MethodName)) ∈ lw_all := lw_g (lw_at lw_m4 156 rfl) rfl
theorem q1004 : (Jvm.Cond.selects "java/util/ArrayList" ({ cls := "java/util/ArrayList", name := "elementData", desc := "(I)Ljava/lang/Object;" } : Jvm.MethodName) ({ cls := "java/util/ArrayList", name := "elementData", desc := "(I)Ljava/lang/Object;" } : Jvm.MethodName)) ∈ lw_all := lw_g (lw_at lw_m4 157 rfl) rfl
theorem q1005 : (Jvm.Cond.code ({ cls := "java/util/ArrayList", name := "elementData", desc := "(I)Ljava/lang/Object;" } : Jvm.MethodName) prog_59_method_18_code (2 : Nat) (Option.some (Jvm.ClassFile.FieldType.object "java/lang/Object"))) ∈ lw_all := lw_g (lw_at lw_m4 158 rfl) rfl
theorem q1097 : (Jvm.Cond.selects "java/util/ArrayList" ({ cls := "java/util/List", name := "add", desc := "(Ljava/lang/Object;)Z" } : Jvm.MethodName) ({ cls := "java/util/ArrayList", name := "add", desc := "(Ljava/lang/Object;)Z" } : Jvm.MethodName)) ∈ lw_all := lw_g (lw_at lw_m5 10 rfl) rfl
theorem q1098 : (Jvm.Cond.unhidden "java/util/ArrayList" "add" "(Ljava/lang/Object;)Z") ∈ lw_tbl := lw_at lw_m5 11 rfl
theorem q1099 : (Jvm.Cond.instanceMethod ({ cls := "java/util/ArrayList", name := "add", desc := "(Ljava/lang/Object;)Z" } : Jvm.MethodName)) ∈ lw_all := lw_g (lw_at lw_m5 12 rfl) rfl
theorem q1100 : (Jvm.Cond.publicMethod ({ cls := "java/util/ArrayList", name := "add", desc := "(Ljava/lang/Object;)Z" } : Jvm.MethodName)) ∈ lw_tbl := lw_at lw_m5 13 rfl
theorem q1101 : (Jvm.Cond.code ({ cls := "java/util/ArrayList", name := "add", desc := "(Ljava/lang/Object;)Z" } : Jvm.MethodName) prog_59_method_25_code (2 : Nat) (Option.some Jvm.ClassFile.FieldType.boolean)) ∈ lw_all := lw_g (lw_at lw_m5 14 rfl) rfl
theorem q1102 : (Jvm.Cond.methodLink "java/util/ArrayList" (131 : Nat) ({ cls := "java/util/ArrayList", name := "add", desc := "(Ljava/lang/Object;[Ljava/lang/Object;I)V" } : Jvm.MethodName)) ∈ lw_all := lw_g (lw_at lw_m5 15 rfl) rfl
theorem q1104 : (Jvm.Cond.instanceMethod ({ cls := "java/util/ArrayList", name := "add", desc := "(Ljava/lang/Object;[Ljava/lang/Object;I)V" } : Jvm.MethodName)) ∈ lw_all := lw_g (lw_at lw_m5 17 rfl) rfl
theorem q1105 : (Jvm.Cond.code ({ cls := "java/util/ArrayList", name := "add", desc := "(Ljava/lang/Object;[Ljava/lang/Object;I)V" } : Jvm.MethodName) prog_59_method_24_code (4 : Nat) (Option.none : Option Jvm.ClassFile.FieldType)) ∈ lw_all := lw_g (lw_at lw_m5 18 rfl) rfl
theorem q1106 : (Jvm.Cond.methodLink "java/util/ArrayList" (129 : Nat) ({ cls := "java/util/ArrayList", name := "grow", desc := "()[Ljava/lang/Object;" } : Jvm.MethodName)) ∈ lw_all := lw_g (lw_at lw_m5 19 rfl) rfl
theorem q1108 : (Jvm.Cond.instanceMethod ({ cls := "java/util/ArrayList", name := "grow", desc := "()[Ljava/lang/Object;" } : Jvm.MethodName)) ∈ lw_all := lw_g (lw_at lw_m5 21 rfl) rfl
theorem q1109 : (Jvm.Cond.code ({ cls := "java/util/ArrayList", name := "grow", desc := "()[Ljava/lang/Object;" } : Jvm.MethodName) prog_59_method_7_code (1 : Nat) (Option.some (Jvm.ClassFile.FieldType.array (Jvm.ClassFile.FieldType.object "java/lang/Object")))) ∈ lw_all := lw_g (lw_at lw_m5 22 rfl) rfl
theorem q1110 : (Jvm.Cond.methodLink "java/util/ArrayList" (69 : Nat) ({ cls := "java/util/ArrayList", name := "grow", desc := "(I)[Ljava/lang/Object;" } : Jvm.MethodName)) ∈ lw_all := lw_g (lw_at lw_m5 23 rfl) rfl
theorem q1112 : (Jvm.Cond.instanceMethod ({ cls := "java/util/ArrayList", name := "grow", desc := "(I)[Ljava/lang/Object;" } : Jvm.MethodName)) ∈ lw_all := lw_g (lw_at lw_m5 25 rfl) rfl
theorem q1113 : (Jvm.Cond.code ({ cls := "java/util/ArrayList", name := "grow", desc := "(I)[Ljava/lang/Object;" } : Jvm.MethodName) prog_59_method_6_code (4 : Nat) (Option.some (Jvm.ClassFile.FieldType.array (Jvm.ClassFile.FieldType.object "java/lang/Object")))) ∈ lw_all := lw_g (lw_at lw_m5 26 rfl) rfl
theorem q1172 : (Jvm.Cond.methodLink "java/util/ArrayList" (79 : Nat) ({ cls := "java/lang/Math", name := "max", desc := "(II)I" } : Jvm.MethodName)) ∈ lw_all := lw_g (lw_at lw_m5 85 rfl) rfl
theorem q1173 : (Jvm.Cond.classLink "java/util/ArrayList" (7 : Nat) "java/lang/Object") ∈ lw_all := lw_g (lw_at lw_m5 86 rfl) rfl
theorem q1478 : (Jvm.Cond.selects "java/util/ArrayList" ({ cls := "java/util/List", name := "iterator", desc := "()Ljava/util/Iterator;" } : Jvm.MethodName) ({ cls := "java/util/ArrayList", name := "iterator", desc := "()Ljava/util/Iterator;" } : Jvm.MethodName)) ∈ lw_all := lw_g (lw_at lw_m6 151 rfl) rfl
theorem q1479 : (Jvm.Cond.unhidden "java/util/ArrayList" "iterator" "()Ljava/util/Iterator;") ∈ lw_tbl := lw_at lw_m6 152 rfl
theorem q1480 : (Jvm.Cond.instanceMethod ({ cls := "java/util/ArrayList", name := "iterator", desc := "()Ljava/util/Iterator;" } : Jvm.MethodName)) ∈ lw_all := lw_g (lw_at lw_m6 153 rfl) rfl
theorem q1481 : (Jvm.Cond.publicMethod ({ cls := "java/util/ArrayList", name := "iterator", desc := "()Ljava/util/Iterator;" } : Jvm.MethodName)) ∈ lw_tbl := lw_at lw_m6 154 rfl
theorem q1482 : (Jvm.Cond.code ({ cls := "java/util/ArrayList", name := "iterator", desc := "()Ljava/util/Iterator;" } : Jvm.MethodName) prog_59_method_55_code (1 : Nat) (Option.some (Jvm.ClassFile.FieldType.object "java/util/Iterator"))) ∈ lw_all := lw_g (lw_at lw_m6 155 rfl) rfl
theorem q1483 : (Jvm.Cond.classLink "java/util/ArrayList" (267 : Nat) "java/util/ArrayList$Itr") ∈ lw_all := lw_g (lw_at lw_m6 156 rfl) rfl
theorem q1485 : (Jvm.Cond.methodLink "java/util/ArrayList" (269 : Nat) ({ cls := "java/util/ArrayList$Itr", name := "<init>", desc := "(Ljava/util/ArrayList;)V" } : Jvm.MethodName)) ∈ lw_all := lw_g (lw_at lw_m6 158 rfl) rfl
theorem q4679 : (Jvm.Cond.castable "java/util/ArrayList" "java/lang/Object") ∈ lw_tbl := lw_at lw_m19 232 rfl
theorem in_J12 : ∀ w ∈ wsJ120, w ∈ lw_all := lw_in wsJ120 [479, 475, 477] (by decide +kernel) (by decide +kernel)
/-! J13.jdk_internal_util_ArraysSupport.lean.txt -/
def RJ13 : String := "jdk/internal/util/ArraysSupport"
abbrev cJ13_newLength : ByteArray := prog_97_method_27_code
def yJ13_newLength : MethodName := ⟨RJ13, "newLength", "(III)I"⟩
def dkwJ13_newLength_1 : List UInt8 := [184, 0, 201, 172]
abbrev dktJ13_newLength_1 : List UInt8 := dkwJ13_newLength_1 ++ []
def dkwJ13_newLength_0 : List UInt8 := [26, 27, 28, 184, 0, 194, 96, 62, 3, 29, 162, 0, 11, 29, 18, 200, 163, 0, 5, 29, 172, 26, 27]
abbrev dktJ13_newLength_0 : List UInt8 := dkwJ13_newLength_0 ++ dktJ13_newLength_1
theorem dksJ13_newLength_0 : cJ13_newLength.data.toList.drop 0 = dktJ13_newLength_0 := by decide +kernel
theorem dksJ13_newLength_1 : cJ13_newLength.data.toList.drop 23 = dktJ13_newLength_1 := dk_seg dksJ13_newLength_0 23 rfl rfl
theorem dJ13_newLength_0 : decode cJ13_newLength 0 = .ok (.iload_n 0, 1) := dk_26 (dk_at dksJ13_newLength_0 0 rfl rfl)
theorem dJ13_newLength_1 : decode cJ13_newLength 1 = .ok (.iload_n 1, 1) := dk_27 (dk_at dksJ13_newLength_0 1 rfl rfl)
theorem dJ13_newLength_2 : decode cJ13_newLength 2 = .ok (.iload_n 2, 1) := dk_28 (dk_at dksJ13_newLength_0 2 rfl rfl)
theorem dJ13_newLength_3 : decode cJ13_newLength 3 = .ok (.invokestatic 194, 3) := dk_184 0 194 (dk_at dksJ13_newLength_0 3 rfl rfl)
theorem dJ13_newLength_6 : decode cJ13_newLength 6 = .ok (.iadd, 1) := dk_96 (dk_at dksJ13_newLength_0 6 rfl rfl)
theorem dJ13_newLength_7 : decode cJ13_newLength 7 = .ok (.istore_n 3, 1) := dk_62 (dk_at dksJ13_newLength_0 7 rfl rfl)
theorem dJ13_newLength_8 : decode cJ13_newLength 8 = .ok (.iconst 0, 1) := dk_3 (dk_at dksJ13_newLength_0 8 rfl rfl)
theorem dJ13_newLength_9 : decode cJ13_newLength 9 = .ok (.iload_n 3, 1) := dk_29 (dk_at dksJ13_newLength_0 9 rfl rfl)
theorem dJ13_newLength_10 : decode cJ13_newLength 10 = .ok (.if_icmp .ge 11, 3) := dk_162 0 11 (dk_at dksJ13_newLength_0 10 rfl rfl)
theorem dJ13_newLength_13 : decode cJ13_newLength 13 = .ok (.iload_n 3, 1) := dk_29 (dk_at dksJ13_newLength_0 13 rfl rfl)
theorem dJ13_newLength_14 : decode cJ13_newLength 14 = .ok (.ldc 200, 2) := dk_18 200 (dk_at dksJ13_newLength_0 14 rfl rfl)
theorem dJ13_newLength_16 : decode cJ13_newLength 16 = .ok (.if_icmp .gt 5, 3) := dk_163 0 5 (dk_at dksJ13_newLength_0 16 rfl rfl)
theorem dJ13_newLength_19 : decode cJ13_newLength 19 = .ok (.iload_n 3, 1) := dk_29 (dk_at dksJ13_newLength_0 19 rfl rfl)
theorem dJ13_newLength_20 : decode cJ13_newLength 20 = .ok (.ireturn, 1) := dk_172 (dk_at dksJ13_newLength_0 20 rfl rfl)
theorem dJ13_newLength_21 : decode cJ13_newLength 21 = .ok (.iload_n 0, 1) := dk_26 (dk_at dksJ13_newLength_0 21 rfl rfl)
abbrev cJ13_vectorizedHashCode : ByteArray := prog_97_method_4_code
def yJ13_vectorizedHashCode : MethodName := ⟨RJ13, "vectorizedHashCode", "(Ljava/lang/Object;IIII)I"⟩
def dkwJ13_vectorizedHashCode_6 : List UInt8 := [183, 0, 91, 18, 92, 182, 0, 94, 21, 4, 182, 0, 98, 182, 0, 101, 183, 0, 105, 191, 172]
abbrev dktJ13_vectorizedHashCode_6 : List UInt8 := dkwJ13_vectorizedHashCode_6 ++ []
def dkwJ13_vectorizedHashCode_5 : List UInt8 := [167, 0, 44, 29, 42, 192, 0, 82, 27, 28, 184, 0, 84, 167, 0, 31, 187, 0, 87, 89, 187, 0, 89, 89]
abbrev dktJ13_vectorizedHashCode_5 : List UInt8 := dkwJ13_vectorizedHashCode_5 ++ dktJ13_vectorizedHashCode_6
def dkwJ13_vectorizedHashCode_4 : List UInt8 := [29, 42, 192, 0, 60, 27, 28, 184, 0, 75, 167, 0, 57, 29, 42, 192, 0, 77, 27, 28, 184, 0, 79]
abbrev dktJ13_vectorizedHashCode_4 : List UInt8 := dkwJ13_vectorizedHashCode_4 ++ dktJ13_vectorizedHashCode_5
def dkwJ13_vectorizedHashCode_3 : List UInt8 := [192, 0, 60, 27, 28, 184, 0, 66, 167, 0, 83, 29, 42, 192, 0, 69, 27, 28, 184, 0, 71, 167, 0, 70]
abbrev dktJ13_vectorizedHashCode_3 : List UInt8 := dkwJ13_vectorizedHashCode_3 ++ dktJ13_vectorizedHashCode_4
def dkwJ13_vectorizedHashCode_2 : List UInt8 := [29, 42, 192, 0, 60, 27, 28, 184, 0, 62, 167, 0, 103, 42, 193, 0, 60, 153, 0, 16, 29, 42]
abbrev dktJ13_vectorizedHashCode_2 : List UInt8 := dkwJ13_vectorizedHashCode_2 ++ dktJ13_vectorizedHashCode_3
def dkwJ13_vectorizedHashCode_1 : List UInt8 := [170, 0, 0, 0, 0, 127, 0, 0, 0, 4, 0, 0, 0, 10, 0, 0, 0, 42, 0, 0, 0, 55, 0, 0, 0, 127, 0, 0, 0, 127, 0, 0, 0, 88, 0, 0, 0, 101, 0, 0, 0, 114]
abbrev dktJ13_vectorizedHashCode_1 : List UInt8 := dkwJ13_vectorizedHashCode_1 ++ dktJ13_vectorizedHashCode_2
def dkwJ13_vectorizedHashCode_0 : List UInt8 := [21, 4]
abbrev dktJ13_vectorizedHashCode_0 : List UInt8 := dkwJ13_vectorizedHashCode_0 ++ dktJ13_vectorizedHashCode_1
theorem dksJ13_vectorizedHashCode_0 : cJ13_vectorizedHashCode.data.toList.drop 0 = dktJ13_vectorizedHashCode_0 := by decide +kernel
theorem dksJ13_vectorizedHashCode_1 : cJ13_vectorizedHashCode.data.toList.drop 2 = dktJ13_vectorizedHashCode_1 := dk_seg dksJ13_vectorizedHashCode_0 2 rfl rfl
theorem dksJ13_vectorizedHashCode_2 : cJ13_vectorizedHashCode.data.toList.drop 44 = dktJ13_vectorizedHashCode_2 := dk_seg dksJ13_vectorizedHashCode_1 42 rfl rfl
theorem dksJ13_vectorizedHashCode_3 : cJ13_vectorizedHashCode.data.toList.drop 66 = dktJ13_vectorizedHashCode_3 := dk_seg dksJ13_vectorizedHashCode_2 22 rfl rfl
theorem dksJ13_vectorizedHashCode_4 : cJ13_vectorizedHashCode.data.toList.drop 90 = dktJ13_vectorizedHashCode_4 := dk_seg dksJ13_vectorizedHashCode_3 24 rfl rfl
theorem dksJ13_vectorizedHashCode_5 : cJ13_vectorizedHashCode.data.toList.drop 113 = dktJ13_vectorizedHashCode_5 := dk_seg dksJ13_vectorizedHashCode_4 23 rfl rfl
theorem dksJ13_vectorizedHashCode_6 : cJ13_vectorizedHashCode.data.toList.drop 137 = dktJ13_vectorizedHashCode_6 := dk_seg dksJ13_vectorizedHashCode_5 24 rfl rfl
theorem dJ13_vectorizedHashCode_0 : decode cJ13_vectorizedHashCode 0 = .ok (.iload 4, 2) := dk_21 4 (dk_at dksJ13_vectorizedHashCode_0 0 rfl rfl)
theorem dJ13_vectorizedHashCode_2 : decode cJ13_vectorizedHashCode 2 = .ok (.tableswitch 127 4 10 #[42, 55, 127, 127, 88, 101, 114], 42) := by decide +kernel
theorem dJ13_vectorizedHashCode_44 : decode cJ13_vectorizedHashCode 44 = .ok (.iload_n 3, 1) := dk_29 (dk_at dksJ13_vectorizedHashCode_2 0 rfl rfl)
theorem dJ13_vectorizedHashCode_45 : decode cJ13_vectorizedHashCode 45 = .ok (.aload_n 0, 1) := dk_42 (dk_at dksJ13_vectorizedHashCode_2 1 rfl rfl)
theorem dJ13_vectorizedHashCode_46 : decode cJ13_vectorizedHashCode 46 = .ok (.checkcast 60, 3) := dk_192 0 60 (dk_at dksJ13_vectorizedHashCode_2 2 rfl rfl)
theorem dJ13_vectorizedHashCode_49 : decode cJ13_vectorizedHashCode 49 = .ok (.iload_n 1, 1) := dk_27 (dk_at dksJ13_vectorizedHashCode_2 5 rfl rfl)
theorem dJ13_vectorizedHashCode_50 : decode cJ13_vectorizedHashCode 50 = .ok (.iload_n 2, 1) := dk_28 (dk_at dksJ13_vectorizedHashCode_2 6 rfl rfl)
theorem dJ13_vectorizedHashCode_51 : decode cJ13_vectorizedHashCode 51 = .ok (.invokestatic 62, 3) := dk_184 0 62 (dk_at dksJ13_vectorizedHashCode_2 7 rfl rfl)
theorem dJ13_vectorizedHashCode_54 : decode cJ13_vectorizedHashCode 54 = .ok (.goto 103, 3) := dk_167 0 103 (dk_at dksJ13_vectorizedHashCode_2 10 rfl rfl)
theorem dJ13_vectorizedHashCode_57 : decode cJ13_vectorizedHashCode 57 = .ok (.aload_n 0, 1) := dk_42 (dk_at dksJ13_vectorizedHashCode_2 13 rfl rfl)
theorem dJ13_vectorizedHashCode_90 : decode cJ13_vectorizedHashCode 90 = .ok (.iload_n 3, 1) := dk_29 (dk_at dksJ13_vectorizedHashCode_4 0 rfl rfl)
theorem dJ13_vectorizedHashCode_103 : decode cJ13_vectorizedHashCode 103 = .ok (.iload_n 3, 1) := dk_29 (dk_at dksJ13_vectorizedHashCode_4 13 rfl rfl)
theorem dJ13_vectorizedHashCode_116 : decode cJ13_vectorizedHashCode 116 = .ok (.iload_n 3, 1) := dk_29 (dk_at dksJ13_vectorizedHashCode_5 3 rfl rfl)
theorem dJ13_vectorizedHashCode_129 : decode cJ13_vectorizedHashCode 129 = .ok (.new 87, 3) := dk_187 0 87 (dk_at dksJ13_vectorizedHashCode_5 16 rfl rfl)
theorem dJ13_vectorizedHashCode_157 : decode cJ13_vectorizedHashCode 157 = .ok (.ireturn, 1) := dk_172 (dk_at dksJ13_vectorizedHashCode_6 20 rfl rfl)
abbrev cJ13_signedHashCode : ByteArray := prog_97_method_5_code
def yJ13_signedHashCode : MethodName := ⟨RJ13, "signedHashCode", "(I[BII)I"⟩
def dkwJ13_signedHashCode_1 : List UInt8 := [17, 0, 255, 126, 96, 59, 132, 5, 1, 167, 255, 232, 26, 172]
abbrev dktJ13_signedHashCode_1 : List UInt8 := dkwJ13_signedHashCode_1 ++ []
def dkwJ13_signedHashCode_0 : List UInt8 := [28, 29, 96, 54, 4, 28, 54, 5, 21, 5, 21, 4, 162, 0, 23, 16, 31, 26, 104, 43, 21, 5, 51]
abbrev dktJ13_signedHashCode_0 : List UInt8 := dkwJ13_signedHashCode_0 ++ dktJ13_signedHashCode_1
theorem dksJ13_signedHashCode_0 : cJ13_signedHashCode.data.toList.drop 0 = dktJ13_signedHashCode_0 := by decide +kernel
theorem dksJ13_signedHashCode_1 : cJ13_signedHashCode.data.toList.drop 23 = dktJ13_signedHashCode_1 := dk_seg dksJ13_signedHashCode_0 23 rfl rfl
theorem dJ13_signedHashCode_0 : decode cJ13_signedHashCode 0 = .ok (.iload_n 2, 1) := dk_28 (dk_at dksJ13_signedHashCode_0 0 rfl rfl)
theorem dJ13_signedHashCode_1 : decode cJ13_signedHashCode 1 = .ok (.iload_n 3, 1) := dk_29 (dk_at dksJ13_signedHashCode_0 1 rfl rfl)
theorem dJ13_signedHashCode_2 : decode cJ13_signedHashCode 2 = .ok (.iadd, 1) := dk_96 (dk_at dksJ13_signedHashCode_0 2 rfl rfl)
theorem dJ13_signedHashCode_3 : decode cJ13_signedHashCode 3 = .ok (.istore 4, 2) := dk_54 4 (dk_at dksJ13_signedHashCode_0 3 rfl rfl)
theorem dJ13_signedHashCode_5 : decode cJ13_signedHashCode 5 = .ok (.iload_n 2, 1) := dk_28 (dk_at dksJ13_signedHashCode_0 5 rfl rfl)
theorem dJ13_signedHashCode_6 : decode cJ13_signedHashCode 6 = .ok (.istore 5, 2) := dk_54 5 (dk_at dksJ13_signedHashCode_0 6 rfl rfl)
theorem dJ13_signedHashCode_8 : decode cJ13_signedHashCode 8 = .ok (.iload 5, 2) := dk_21 5 (dk_at dksJ13_signedHashCode_0 8 rfl rfl)
theorem dJ13_signedHashCode_10 : decode cJ13_signedHashCode 10 = .ok (.iload 4, 2) := dk_21 4 (dk_at dksJ13_signedHashCode_0 10 rfl rfl)
theorem dJ13_signedHashCode_12 : decode cJ13_signedHashCode 12 = .ok (.if_icmp .ge 23, 3) := dk_162 0 23 (dk_at dksJ13_signedHashCode_0 12 rfl rfl)
theorem dJ13_signedHashCode_15 : decode cJ13_signedHashCode 15 = .ok (.bipush 31, 2) := dk_16 31 (dk_at dksJ13_signedHashCode_0 15 rfl rfl)
theorem dJ13_signedHashCode_17 : decode cJ13_signedHashCode 17 = .ok (.iload_n 0, 1) := dk_26 (dk_at dksJ13_signedHashCode_0 17 rfl rfl)
theorem dJ13_signedHashCode_18 : decode cJ13_signedHashCode 18 = .ok (.imul, 1) := dk_104 (dk_at dksJ13_signedHashCode_0 18 rfl rfl)
theorem dJ13_signedHashCode_19 : decode cJ13_signedHashCode 19 = .ok (.aload_n 1, 1) := dk_43 (dk_at dksJ13_signedHashCode_0 19 rfl rfl)
theorem dJ13_signedHashCode_20 : decode cJ13_signedHashCode 20 = .ok (.iload 5, 2) := dk_21 5 (dk_at dksJ13_signedHashCode_0 20 rfl rfl)
theorem dJ13_signedHashCode_22 : decode cJ13_signedHashCode 22 = .ok (.baload, 1) := dk_51 (dk_at dksJ13_signedHashCode_0 22 rfl rfl)
theorem dJ13_signedHashCode_23 : decode cJ13_signedHashCode 23 = .ok (.sipush 255, 3) := dk_17 0 255 (dk_at dksJ13_signedHashCode_1 0 rfl rfl)
theorem dJ13_signedHashCode_26 : decode cJ13_signedHashCode 26 = .ok (.iand, 1) := dk_126 (dk_at dksJ13_signedHashCode_1 3 rfl rfl)
theorem dJ13_signedHashCode_27 : decode cJ13_signedHashCode 27 = .ok (.iadd, 1) := dk_96 (dk_at dksJ13_signedHashCode_1 4 rfl rfl)
theorem dJ13_signedHashCode_28 : decode cJ13_signedHashCode 28 = .ok (.istore_n 0, 1) := dk_59 (dk_at dksJ13_signedHashCode_1 5 rfl rfl)
theorem dJ13_signedHashCode_29 : decode cJ13_signedHashCode 29 = .ok (.iinc 5 1, 3) := dk_132 5 1 (dk_at dksJ13_signedHashCode_1 6 rfl rfl)
theorem dJ13_signedHashCode_32 : decode cJ13_signedHashCode 32 = .ok (.goto (-24), 3) := dk_167 255 232 (dk_at dksJ13_signedHashCode_1 9 rfl rfl)
theorem dJ13_signedHashCode_35 : decode cJ13_signedHashCode 35 = .ok (.iload_n 0, 1) := dk_26 (dk_at dksJ13_signedHashCode_1 12 rfl rfl)
theorem dJ13_signedHashCode_36 : decode cJ13_signedHashCode 36 = .ok (.ireturn, 1) := dk_172 (dk_at dksJ13_signedHashCode_1 13 rfl rfl)
theorem q149 : (Jvm.Cond.initialized "jdk/internal/util/ArraysSupport") ∈ lw_all := lw_g (lw_at lw_m1 22 rfl) rfl
theorem q635 : (Jvm.Cond.static ({ cls := "jdk/internal/util/ArraysSupport", name := "newLength", desc := "(III)I" } : Jvm.MethodName)) ∈ lw_all := lw_g (lw_at lw_m3 28 rfl) rfl
theorem q636 : (Jvm.Cond.code ({ cls := "jdk/internal/util/ArraysSupport", name := "newLength", desc := "(III)I" } : Jvm.MethodName) prog_97_method_27_code (4 : Nat) (Option.some Jvm.ClassFile.FieldType.int)) ∈ lw_all := lw_g (lw_at lw_m3 29 rfl) rfl
theorem q637 : (Jvm.Cond.methodLink "jdk/internal/util/ArraysSupport" (194 : Nat) ({ cls := "java/lang/Math", name := "max", desc := "(II)I" } : Jvm.MethodName)) ∈ lw_all := lw_g (lw_at lw_m3 30 rfl) rfl
theorem q640 : (Jvm.Cond.constant "jdk/internal/util/ArraysSupport" (200 : Nat) (2147483639 : Int32)) ∈ lw_all := lw_g (lw_at lw_m3 33 rfl) rfl
theorem q902 : (Jvm.Cond.static ({ cls := "jdk/internal/util/ArraysSupport", name := "vectorizedHashCode", desc := "(Ljava/lang/Object;IIII)I" } : Jvm.MethodName)) ∈ lw_all := lw_g (lw_at lw_m4 55 rfl) rfl
theorem q903 : (Jvm.Cond.code ({ cls := "jdk/internal/util/ArraysSupport", name := "vectorizedHashCode", desc := "(Ljava/lang/Object;IIII)I" } : Jvm.MethodName) prog_97_method_4_code (5 : Nat) (Option.some Jvm.ClassFile.FieldType.int)) ∈ lw_all := lw_g (lw_at lw_m4 56 rfl) rfl
theorem q904 : (Jvm.Cond.classLink "jdk/internal/util/ArraysSupport" (60 : Nat) "[B") ∈ lw_all := lw_g (lw_at lw_m4 57 rfl) rfl
theorem q905 : (Jvm.Cond.methodLink "jdk/internal/util/ArraysSupport" (62 : Nat) ({ cls := "jdk/internal/util/ArraysSupport", name := "signedHashCode", desc := "(I[BII)I" } : Jvm.MethodName)) ∈ lw_all := lw_g (lw_at lw_m4 58 rfl) rfl
theorem q906 : (Jvm.Cond.static ({ cls := "jdk/internal/util/ArraysSupport", name := "signedHashCode", desc := "(I[BII)I" } : Jvm.MethodName)) ∈ lw_all := lw_g (lw_at lw_m4 59 rfl) rfl
theorem q907 : (Jvm.Cond.code ({ cls := "jdk/internal/util/ArraysSupport", name := "signedHashCode", desc := "(I[BII)I" } : Jvm.MethodName) prog_97_method_5_code (6 : Nat) (Option.some Jvm.ClassFile.FieldType.int)) ∈ lw_all := lw_g (lw_at lw_m4 60 rfl) rfl
/-! J14.java_lang_Math.lean.txt -/
def RJ14 : String := "java/lang/Math"
abbrev cJ14_max : ByteArray := prog_39_method_65_code
def yJ14_max : MethodName := ⟨RJ14, "max", "(II)I"⟩
def dkwJ14_max_0 : List UInt8 := [26, 27, 161, 0, 7, 26, 167, 0, 4, 27, 172]
abbrev dktJ14_max_0 : List UInt8 := dkwJ14_max_0 ++ []
theorem dksJ14_max_0 : cJ14_max.data.toList.drop 0 = dktJ14_max_0 := by decide +kernel
theorem dJ14_max_0 : decode cJ14_max 0 = .ok (.iload_n 0, 1) := dk_26 (dk_at dksJ14_max_0 0 rfl rfl)
theorem dJ14_max_1 : decode cJ14_max 1 = .ok (.iload_n 1, 1) := dk_27 (dk_at dksJ14_max_0 1 rfl rfl)
theorem dJ14_max_2 : decode cJ14_max 2 = .ok (.if_icmp .lt 7, 3) := dk_161 0 7 (dk_at dksJ14_max_0 2 rfl rfl)
theorem dJ14_max_5 : decode cJ14_max 5 = .ok (.iload_n 0, 1) := dk_26 (dk_at dksJ14_max_0 5 rfl rfl)
theorem dJ14_max_6 : decode cJ14_max 6 = .ok (.goto 4, 3) := dk_167 0 4 (dk_at dksJ14_max_0 6 rfl rfl)
theorem dJ14_max_9 : decode cJ14_max 9 = .ok (.iload_n 1, 1) := dk_27 (dk_at dksJ14_max_0 9 rfl rfl)
theorem dJ14_max_10 : decode cJ14_max 10 = .ok (.ireturn, 1) := dk_172 (dk_at dksJ14_max_0 10 rfl rfl)
abbrev cJ14_min : ByteArray := prog_39_method_69_code
def yJ14_min : MethodName := ⟨RJ14, "min", "(II)I"⟩
def dkwJ14_min_0 : List UInt8 := [26, 27, 163, 0, 7, 26, 167, 0, 4, 27, 172]
abbrev dktJ14_min_0 : List UInt8 := dkwJ14_min_0 ++ []
theorem dksJ14_min_0 : cJ14_min.data.toList.drop 0 = dktJ14_min_0 := by decide +kernel
theorem dJ14_min_0 : decode cJ14_min 0 = .ok (.iload_n 0, 1) := dk_26 (dk_at dksJ14_min_0 0 rfl rfl)
theorem dJ14_min_1 : decode cJ14_min 1 = .ok (.iload_n 1, 1) := dk_27 (dk_at dksJ14_min_0 1 rfl rfl)
theorem dJ14_min_2 : decode cJ14_min 2 = .ok (.if_icmp .gt 7, 3) := dk_163 0 7 (dk_at dksJ14_min_0 2 rfl rfl)
theorem dJ14_min_5 : decode cJ14_min 5 = .ok (.iload_n 0, 1) := dk_26 (dk_at dksJ14_min_0 5 rfl rfl)
theorem dJ14_min_6 : decode cJ14_min 6 = .ok (.goto 4, 3) := dk_167 0 4 (dk_at dksJ14_min_0 6 rfl rfl)
theorem dJ14_min_9 : decode cJ14_min 9 = .ok (.iload_n 1, 1) := dk_27 (dk_at dksJ14_min_0 9 rfl rfl)
theorem dJ14_min_10 : decode cJ14_min 10 = .ok (.ireturn, 1) := dk_172 (dk_at dksJ14_min_0 10 rfl rfl)
abbrev cJ14_abs : ByteArray := prog_39_method_59_code
def yJ14_abs : MethodName := ⟨RJ14, "abs", "(I)I"⟩
def dkwJ14_abs_0 : List UInt8 := [26, 156, 0, 8, 26, 116, 167, 0, 4, 26, 172]
abbrev dktJ14_abs_0 : List UInt8 := dkwJ14_abs_0 ++ []
theorem dksJ14_abs_0 : cJ14_abs.data.toList.drop 0 = dktJ14_abs_0 := by decide +kernel
theorem dJ14_abs_0 : decode cJ14_abs 0 = .ok (.iload_n 0, 1) := dk_26 (dk_at dksJ14_abs_0 0 rfl rfl)
theorem dJ14_abs_1 : decode cJ14_abs 1 = .ok (.ifCond .ge 8, 3) := dk_156 0 8 (dk_at dksJ14_abs_0 1 rfl rfl)
theorem dJ14_abs_4 : decode cJ14_abs 4 = .ok (.iload_n 0, 1) := dk_26 (dk_at dksJ14_abs_0 4 rfl rfl)
theorem dJ14_abs_5 : decode cJ14_abs 5 = .ok (.ineg, 1) := dk_116 (dk_at dksJ14_abs_0 5 rfl rfl)
theorem dJ14_abs_6 : decode cJ14_abs 6 = .ok (.goto 4, 3) := dk_167 0 4 (dk_at dksJ14_abs_0 6 rfl rfl)
theorem dJ14_abs_9 : decode cJ14_abs 9 = .ok (.iload_n 0, 1) := dk_26 (dk_at dksJ14_abs_0 9 rfl rfl)
theorem dJ14_abs_10 : decode cJ14_abs 10 = .ok (.ireturn, 1) := dk_172 (dk_at dksJ14_abs_0 10 rfl rfl)
theorem q150 : (Jvm.Cond.initialized "java/lang/Math") ∈ lw_all := lw_g (lw_at lw_m1 23 rfl) rfl
theorem q638 : (Jvm.Cond.static ({ cls := "java/lang/Math", name := "max", desc := "(II)I" } : Jvm.MethodName)) ∈ lw_all := lw_g (lw_at lw_m3 31 rfl) rfl
theorem q639 : (Jvm.Cond.code ({ cls := "java/lang/Math", name := "max", desc := "(II)I" } : Jvm.MethodName) prog_39_method_65_code (2 : Nat) (Option.some Jvm.ClassFile.FieldType.int)) ∈ lw_all := lw_g (lw_at lw_m3 32 rfl) rfl
theorem q656 : (Jvm.Cond.static ({ cls := "java/lang/Math", name := "min", desc := "(II)I" } : Jvm.MethodName)) ∈ lw_all := lw_g (lw_at lw_m3 49 rfl) rfl
theorem q657 : (Jvm.Cond.code ({ cls := "java/lang/Math", name := "min", desc := "(II)I" } : Jvm.MethodName) prog_39_method_69_code (2 : Nat) (Option.some Jvm.ClassFile.FieldType.int)) ∈ lw_all := lw_g (lw_at lw_m3 50 rfl) rfl
theorem q3094 : (Jvm.Cond.static ({ cls := "java/lang/Math", name := "abs", desc := "(I)I" } : Jvm.MethodName)) ∈ lw_all := lw_g (lw_at lw_m13 87 rfl) rfl
theorem q3095 : (Jvm.Cond.code ({ cls := "java/lang/Math", name := "abs", desc := "(I)I" } : Jvm.MethodName) prog_39_method_59_code (1 : Nat) (Option.some Jvm.ClassFile.FieldType.int)) ∈ lw_all := lw_g (lw_at lw_m13 88 rfl) rfl
/-! J15.java_util_Arrays.lean.txt -/
def RJ15 : String := "java/util/Arrays"
abbrev cJ15_copyOf : ByteArray := prog_61_method_121_code
def yJ15_copyOf : MethodName := ⟨RJ15, "copyOf", "([BI)[B"⟩
def dkwJ15_copyOf_1 : List UInt8 := [27, 184, 1, 48, 184, 0, 150, 44, 176]
abbrev dktJ15_copyOf_1 : List UInt8 := dkwJ15_copyOf_1 ++ []
def dkwJ15_copyOf_0 : List UInt8 := [27, 42, 190, 160, 0, 11, 42, 182, 1, 54, 192, 1, 55, 176, 27, 188, 8, 77, 42, 3, 44, 3, 42, 190]
abbrev dktJ15_copyOf_0 : List UInt8 := dkwJ15_copyOf_0 ++ dktJ15_copyOf_1
theorem dksJ15_copyOf_0 : cJ15_copyOf.data.toList.drop 0 = dktJ15_copyOf_0 := by decide +kernel
theorem dksJ15_copyOf_1 : cJ15_copyOf.data.toList.drop 24 = dktJ15_copyOf_1 := dk_seg dksJ15_copyOf_0 24 rfl rfl
theorem dJ15_copyOf_0 : decode cJ15_copyOf 0 = .ok (.iload_n 1, 1) := dk_27 (dk_at dksJ15_copyOf_0 0 rfl rfl)
theorem dJ15_copyOf_1 : decode cJ15_copyOf 1 = .ok (.aload_n 0, 1) := dk_42 (dk_at dksJ15_copyOf_0 1 rfl rfl)
theorem dJ15_copyOf_2 : decode cJ15_copyOf 2 = .ok (.arraylength, 1) := dk_190 (dk_at dksJ15_copyOf_0 2 rfl rfl)
theorem dJ15_copyOf_3 : decode cJ15_copyOf 3 = .ok (.if_icmp .ne 11, 3) := dk_160 0 11 (dk_at dksJ15_copyOf_0 3 rfl rfl)
theorem dJ15_copyOf_6 : decode cJ15_copyOf 6 = .ok (.aload_n 0, 1) := dk_42 (dk_at dksJ15_copyOf_0 6 rfl rfl)
theorem dJ15_copyOf_14 : decode cJ15_copyOf 14 = .ok (.iload_n 1, 1) := dk_27 (dk_at dksJ15_copyOf_0 14 rfl rfl)
theorem dJ15_copyOf_15 : decode cJ15_copyOf 15 = .ok (.newarray .byte, 2) := dk_188_8 (dk_at dksJ15_copyOf_0 15 rfl rfl)
theorem dJ15_copyOf_17 : decode cJ15_copyOf 17 = .ok (.astore_n 2, 1) := dk_77 (dk_at dksJ15_copyOf_0 17 rfl rfl)
theorem dJ15_copyOf_18 : decode cJ15_copyOf 18 = .ok (.aload_n 0, 1) := dk_42 (dk_at dksJ15_copyOf_0 18 rfl rfl)
theorem dJ15_copyOf_19 : decode cJ15_copyOf 19 = .ok (.iconst 0, 1) := dk_3 (dk_at dksJ15_copyOf_0 19 rfl rfl)
theorem dJ15_copyOf_20 : decode cJ15_copyOf 20 = .ok (.aload_n 2, 1) := dk_44 (dk_at dksJ15_copyOf_0 20 rfl rfl)
theorem dJ15_copyOf_21 : decode cJ15_copyOf 21 = .ok (.iconst 0, 1) := dk_3 (dk_at dksJ15_copyOf_0 21 rfl rfl)
theorem dJ15_copyOf_22 : decode cJ15_copyOf 22 = .ok (.aload_n 0, 1) := dk_42 (dk_at dksJ15_copyOf_0 22 rfl rfl)
theorem dJ15_copyOf_23 : decode cJ15_copyOf 23 = .ok (.arraylength, 1) := dk_190 (dk_at dksJ15_copyOf_0 23 rfl rfl)
theorem dJ15_copyOf_24 : decode cJ15_copyOf 24 = .ok (.iload_n 1, 1) := dk_27 (dk_at dksJ15_copyOf_1 0 rfl rfl)
theorem dJ15_copyOf_25 : decode cJ15_copyOf 25 = .ok (.invokestatic 304, 3) := dk_184 1 48 (dk_at dksJ15_copyOf_1 1 rfl rfl)
theorem dJ15_copyOf_28 : decode cJ15_copyOf 28 = .ok (.invokestatic 150, 3) := dk_184 0 150 (dk_at dksJ15_copyOf_1 4 rfl rfl)
theorem dJ15_copyOf_31 : decode cJ15_copyOf 31 = .ok (.aload_n 2, 1) := dk_44 (dk_at dksJ15_copyOf_1 7 rfl rfl)
theorem dJ15_copyOf_32 : decode cJ15_copyOf 32 = .ok (.areturn, 1) := dk_176 (dk_at dksJ15_copyOf_1 8 rfl rfl)
abbrev cJ15_copyOfRange : ByteArray := prog_61_method_132_code
def yJ15_copyOfRange : MethodName := ⟨RJ15, "copyOfRange", "([BII)[B"⟩
def dkwJ15_copyOfRange_1 : List UInt8 := [176]
abbrev dktJ15_copyOfRange_1 : List UInt8 := dkwJ15_copyOfRange_1 ++ []
def dkwJ15_copyOfRange_0 : List UInt8 := [27, 154, 0, 9, 28, 42, 190, 159, 0, 10, 42, 27, 28, 184, 1, 83, 176, 42, 182, 1, 54, 192, 1, 55]
abbrev dktJ15_copyOfRange_0 : List UInt8 := dkwJ15_copyOfRange_0 ++ dktJ15_copyOfRange_1
theorem dksJ15_copyOfRange_0 : cJ15_copyOfRange.data.toList.drop 0 = dktJ15_copyOfRange_0 := by decide +kernel
theorem dksJ15_copyOfRange_1 : cJ15_copyOfRange.data.toList.drop 24 = dktJ15_copyOfRange_1 := dk_seg dksJ15_copyOfRange_0 24 rfl rfl
theorem dJ15_copyOfRange_0 : decode cJ15_copyOfRange 0 = .ok (.iload_n 1, 1) := dk_27 (dk_at dksJ15_copyOfRange_0 0 rfl rfl)
theorem dJ15_copyOfRange_1 : decode cJ15_copyOfRange 1 = .ok (.ifCond .ne 9, 3) := dk_154 0 9 (dk_at dksJ15_copyOfRange_0 1 rfl rfl)
theorem dJ15_copyOfRange_4 : decode cJ15_copyOfRange 4 = .ok (.iload_n 2, 1) := dk_28 (dk_at dksJ15_copyOfRange_0 4 rfl rfl)
theorem dJ15_copyOfRange_5 : decode cJ15_copyOfRange 5 = .ok (.aload_n 0, 1) := dk_42 (dk_at dksJ15_copyOfRange_0 5 rfl rfl)
theorem dJ15_copyOfRange_6 : decode cJ15_copyOfRange 6 = .ok (.arraylength, 1) := dk_190 (dk_at dksJ15_copyOfRange_0 6 rfl rfl)
theorem dJ15_copyOfRange_7 : decode cJ15_copyOfRange 7 = .ok (.if_icmp .eq 10, 3) := dk_159 0 10 (dk_at dksJ15_copyOfRange_0 7 rfl rfl)
theorem dJ15_copyOfRange_10 : decode cJ15_copyOfRange 10 = .ok (.aload_n 0, 1) := dk_42 (dk_at dksJ15_copyOfRange_0 10 rfl rfl)
theorem dJ15_copyOfRange_11 : decode cJ15_copyOfRange 11 = .ok (.iload_n 1, 1) := dk_27 (dk_at dksJ15_copyOfRange_0 11 rfl rfl)
theorem dJ15_copyOfRange_12 : decode cJ15_copyOfRange 12 = .ok (.iload_n 2, 1) := dk_28 (dk_at dksJ15_copyOfRange_0 12 rfl rfl)
theorem dJ15_copyOfRange_13 : decode cJ15_copyOfRange 13 = .ok (.invokestatic 339, 3) := dk_184 1 83 (dk_at dksJ15_copyOfRange_0 13 rfl rfl)
theorem dJ15_copyOfRange_16 : decode cJ15_copyOfRange 16 = .ok (.areturn, 1) := dk_176 (dk_at dksJ15_copyOfRange_0 16 rfl rfl)
theorem dJ15_copyOfRange_17 : decode cJ15_copyOfRange 17 = .ok (.aload_n 0, 1) := dk_42 (dk_at dksJ15_copyOfRange_0 17 rfl rfl)
abbrev cJ15_copyOfRangeByte : ByteArray := prog_61_method_133_code
def yJ15_copyOfRangeByte : MethodName := ⟨RJ15, "copyOfRangeByte", "([BII)[B"⟩
def dkwJ15_copyOfRangeByte_1 : List UInt8 := [184, 1, 48, 184, 0, 150, 25, 4, 176]
abbrev dktJ15_copyOfRangeByte_1 : List UInt8 := dkwJ15_copyOfRangeByte_1 ++ []
def dkwJ15_copyOfRangeByte_0 : List UInt8 := [27, 28, 184, 1, 87, 28, 27, 100, 62, 29, 188, 8, 58, 4, 42, 27, 25, 4, 3, 42, 190, 27, 100, 29]
abbrev dktJ15_copyOfRangeByte_0 : List UInt8 := dkwJ15_copyOfRangeByte_0 ++ dktJ15_copyOfRangeByte_1
theorem dksJ15_copyOfRangeByte_0 : cJ15_copyOfRangeByte.data.toList.drop 0 = dktJ15_copyOfRangeByte_0 := by decide +kernel
theorem dksJ15_copyOfRangeByte_1 : cJ15_copyOfRangeByte.data.toList.drop 24 = dktJ15_copyOfRangeByte_1 := dk_seg dksJ15_copyOfRangeByte_0 24 rfl rfl
theorem dJ15_copyOfRangeByte_0 : decode cJ15_copyOfRangeByte 0 = .ok (.iload_n 1, 1) := dk_27 (dk_at dksJ15_copyOfRangeByte_0 0 rfl rfl)
theorem dJ15_copyOfRangeByte_1 : decode cJ15_copyOfRangeByte 1 = .ok (.iload_n 2, 1) := dk_28 (dk_at dksJ15_copyOfRangeByte_0 1 rfl rfl)
theorem dJ15_copyOfRangeByte_2 : decode cJ15_copyOfRangeByte 2 = .ok (.invokestatic 343, 3) := dk_184 1 87 (dk_at dksJ15_copyOfRangeByte_0 2 rfl rfl)
theorem dJ15_copyOfRangeByte_5 : decode cJ15_copyOfRangeByte 5 = .ok (.iload_n 2, 1) := dk_28 (dk_at dksJ15_copyOfRangeByte_0 5 rfl rfl)
theorem dJ15_copyOfRangeByte_6 : decode cJ15_copyOfRangeByte 6 = .ok (.iload_n 1, 1) := dk_27 (dk_at dksJ15_copyOfRangeByte_0 6 rfl rfl)
theorem dJ15_copyOfRangeByte_7 : decode cJ15_copyOfRangeByte 7 = .ok (.isub, 1) := dk_100 (dk_at dksJ15_copyOfRangeByte_0 7 rfl rfl)
theorem dJ15_copyOfRangeByte_8 : decode cJ15_copyOfRangeByte 8 = .ok (.istore_n 3, 1) := dk_62 (dk_at dksJ15_copyOfRangeByte_0 8 rfl rfl)
theorem dJ15_copyOfRangeByte_9 : decode cJ15_copyOfRangeByte 9 = .ok (.iload_n 3, 1) := dk_29 (dk_at dksJ15_copyOfRangeByte_0 9 rfl rfl)
theorem dJ15_copyOfRangeByte_10 : decode cJ15_copyOfRangeByte 10 = .ok (.newarray .byte, 2) := dk_188_8 (dk_at dksJ15_copyOfRangeByte_0 10 rfl rfl)
theorem dJ15_copyOfRangeByte_12 : decode cJ15_copyOfRangeByte 12 = .ok (.astore 4, 2) := dk_58 4 (dk_at dksJ15_copyOfRangeByte_0 12 rfl rfl)
theorem dJ15_copyOfRangeByte_14 : decode cJ15_copyOfRangeByte 14 = .ok (.aload_n 0, 1) := dk_42 (dk_at dksJ15_copyOfRangeByte_0 14 rfl rfl)
theorem dJ15_copyOfRangeByte_15 : decode cJ15_copyOfRangeByte 15 = .ok (.iload_n 1, 1) := dk_27 (dk_at dksJ15_copyOfRangeByte_0 15 rfl rfl)
theorem dJ15_copyOfRangeByte_16 : decode cJ15_copyOfRangeByte 16 = .ok (.aload 4, 2) := dk_25 4 (dk_at dksJ15_copyOfRangeByte_0 16 rfl rfl)
theorem dJ15_copyOfRangeByte_18 : decode cJ15_copyOfRangeByte 18 = .ok (.iconst 0, 1) := dk_3 (dk_at dksJ15_copyOfRangeByte_0 18 rfl rfl)
theorem dJ15_copyOfRangeByte_19 : decode cJ15_copyOfRangeByte 19 = .ok (.aload_n 0, 1) := dk_42 (dk_at dksJ15_copyOfRangeByte_0 19 rfl rfl)
theorem dJ15_copyOfRangeByte_20 : decode cJ15_copyOfRangeByte 20 = .ok (.arraylength, 1) := dk_190 (dk_at dksJ15_copyOfRangeByte_0 20 rfl rfl)
theorem dJ15_copyOfRangeByte_21 : decode cJ15_copyOfRangeByte 21 = .ok (.iload_n 1, 1) := dk_27 (dk_at dksJ15_copyOfRangeByte_0 21 rfl rfl)
theorem dJ15_copyOfRangeByte_22 : decode cJ15_copyOfRangeByte 22 = .ok (.isub, 1) := dk_100 (dk_at dksJ15_copyOfRangeByte_0 22 rfl rfl)
theorem dJ15_copyOfRangeByte_23 : decode cJ15_copyOfRangeByte 23 = .ok (.iload_n 3, 1) := dk_29 (dk_at dksJ15_copyOfRangeByte_0 23 rfl rfl)
theorem dJ15_copyOfRangeByte_24 : decode cJ15_copyOfRangeByte 24 = .ok (.invokestatic 304, 3) := dk_184 1 48 (dk_at dksJ15_copyOfRangeByte_1 0 rfl rfl)
theorem dJ15_copyOfRangeByte_27 : decode cJ15_copyOfRangeByte 27 = .ok (.invokestatic 150, 3) := dk_184 0 150 (dk_at dksJ15_copyOfRangeByte_1 3 rfl rfl)
theorem dJ15_copyOfRangeByte_30 : decode cJ15_copyOfRangeByte 30 = .ok (.aload 4, 2) := dk_25 4 (dk_at dksJ15_copyOfRangeByte_1 6 rfl rfl)
theorem dJ15_copyOfRangeByte_32 : decode cJ15_copyOfRangeByte 32 = .ok (.areturn, 1) := dk_176 (dk_at dksJ15_copyOfRangeByte_1 8 rfl rfl)
abbrev cJ15_checkLength : ByteArray := prog_61_method_131_code
def yJ15_checkLength : MethodName := ⟨RJ15, "checkLength", "(II)V"⟩
def dkwJ15_checkLength_1 : List UInt8 := [182, 0, 50, 27, 182, 0, 54, 182, 0, 61, 183, 0, 65, 191, 177]
abbrev dktJ15_checkLength_1 : List UInt8 := dkwJ15_checkLength_1 ++ []
def dkwJ15_checkLength_0 : List UInt8 := [27, 26, 162, 0, 35, 187, 0, 43, 89, 187, 0, 45, 89, 183, 0, 47, 26, 182, 0, 54, 19, 1, 81]
abbrev dktJ15_checkLength_0 : List UInt8 := dkwJ15_checkLength_0 ++ dktJ15_checkLength_1
theorem dksJ15_checkLength_0 : cJ15_checkLength.data.toList.drop 0 = dktJ15_checkLength_0 := by decide +kernel
theorem dksJ15_checkLength_1 : cJ15_checkLength.data.toList.drop 23 = dktJ15_checkLength_1 := dk_seg dksJ15_checkLength_0 23 rfl rfl
theorem dJ15_checkLength_0 : decode cJ15_checkLength 0 = .ok (.iload_n 1, 1) := dk_27 (dk_at dksJ15_checkLength_0 0 rfl rfl)
theorem dJ15_checkLength_1 : decode cJ15_checkLength 1 = .ok (.iload_n 0, 1) := dk_26 (dk_at dksJ15_checkLength_0 1 rfl rfl)
theorem dJ15_checkLength_2 : decode cJ15_checkLength 2 = .ok (.if_icmp .ge 35, 3) := dk_162 0 35 (dk_at dksJ15_checkLength_0 2 rfl rfl)
theorem dJ15_checkLength_5 : decode cJ15_checkLength 5 = .ok (.new 43, 3) := dk_187 0 43 (dk_at dksJ15_checkLength_0 5 rfl rfl)
theorem dJ15_checkLength_37 : decode cJ15_checkLength 37 = .ok (.return_, 1) := dk_177 (dk_at dksJ15_checkLength_1 14 rfl rfl)
abbrev cJ15_fill : ByteArray := prog_61_method_110_code
def yJ15_fill : MethodName := ⟨RJ15, "fill", "([BIIB)V"⟩
def dkwJ15_fill_1 : List UInt8 := [167, 255, 242, 177]
abbrev dktJ15_fill_1 : List UInt8 := dkwJ15_fill_1 ++ []
def dkwJ15_fill_0 : List UInt8 := [42, 190, 27, 28, 184, 0, 13, 27, 54, 4, 21, 4, 28, 162, 0, 14, 42, 21, 4, 29, 84, 132, 4, 1]
abbrev dktJ15_fill_0 : List UInt8 := dkwJ15_fill_0 ++ dktJ15_fill_1
theorem dksJ15_fill_0 : cJ15_fill.data.toList.drop 0 = dktJ15_fill_0 := by decide +kernel
theorem dksJ15_fill_1 : cJ15_fill.data.toList.drop 24 = dktJ15_fill_1 := dk_seg dksJ15_fill_0 24 rfl rfl
theorem dJ15_fill_0 : decode cJ15_fill 0 = .ok (.aload_n 0, 1) := dk_42 (dk_at dksJ15_fill_0 0 rfl rfl)
theorem dJ15_fill_1 : decode cJ15_fill 1 = .ok (.arraylength, 1) := dk_190 (dk_at dksJ15_fill_0 1 rfl rfl)
theorem dJ15_fill_2 : decode cJ15_fill 2 = .ok (.iload_n 1, 1) := dk_27 (dk_at dksJ15_fill_0 2 rfl rfl)
theorem dJ15_fill_3 : decode cJ15_fill 3 = .ok (.iload_n 2, 1) := dk_28 (dk_at dksJ15_fill_0 3 rfl rfl)
theorem dJ15_fill_4 : decode cJ15_fill 4 = .ok (.invokestatic 13, 3) := dk_184 0 13 (dk_at dksJ15_fill_0 4 rfl rfl)
theorem dJ15_fill_7 : decode cJ15_fill 7 = .ok (.iload_n 1, 1) := dk_27 (dk_at dksJ15_fill_0 7 rfl rfl)
theorem dJ15_fill_8 : decode cJ15_fill 8 = .ok (.istore 4, 2) := dk_54 4 (dk_at dksJ15_fill_0 8 rfl rfl)
theorem dJ15_fill_10 : decode cJ15_fill 10 = .ok (.iload 4, 2) := dk_21 4 (dk_at dksJ15_fill_0 10 rfl rfl)
theorem dJ15_fill_12 : decode cJ15_fill 12 = .ok (.iload_n 2, 1) := dk_28 (dk_at dksJ15_fill_0 12 rfl rfl)
theorem dJ15_fill_13 : decode cJ15_fill 13 = .ok (.if_icmp .ge 14, 3) := dk_162 0 14 (dk_at dksJ15_fill_0 13 rfl rfl)
theorem dJ15_fill_16 : decode cJ15_fill 16 = .ok (.aload_n 0, 1) := dk_42 (dk_at dksJ15_fill_0 16 rfl rfl)
theorem dJ15_fill_17 : decode cJ15_fill 17 = .ok (.iload 4, 2) := dk_21 4 (dk_at dksJ15_fill_0 17 rfl rfl)
theorem dJ15_fill_19 : decode cJ15_fill 19 = .ok (.iload_n 3, 1) := dk_29 (dk_at dksJ15_fill_0 19 rfl rfl)
theorem dJ15_fill_20 : decode cJ15_fill 20 = .ok (.bastore, 1) := dk_84 (dk_at dksJ15_fill_0 20 rfl rfl)
theorem dJ15_fill_21 : decode cJ15_fill 21 = .ok (.iinc 4 1, 3) := dk_132 4 1 (dk_at dksJ15_fill_0 21 rfl rfl)
theorem dJ15_fill_24 : decode cJ15_fill 24 = .ok (.goto (-14), 3) := dk_167 255 242 (dk_at dksJ15_fill_1 0 rfl rfl)
theorem dJ15_fill_27 : decode cJ15_fill 27 = .ok (.return_, 1) := dk_177 (dk_at dksJ15_fill_1 3 rfl rfl)
abbrev cJ15_rangeCheck : ByteArray := prog_61_method_30_code
def yJ15_rangeCheck : MethodName := ⟨RJ15, "rangeCheck", "(III)V"⟩
def dkwJ15_rangeCheck_3 : List UInt8 := [183, 0, 70, 191, 177]
abbrev dktJ15_rangeCheck_3 : List UInt8 := dkwJ15_rangeCheck_3 ++ []
def dkwJ15_rangeCheck_2 : List UInt8 := [27, 156, 0, 12, 187, 0, 68, 89, 27, 183, 0, 70, 191, 28, 26, 164, 0, 12, 187, 0, 68, 89, 28]
abbrev dktJ15_rangeCheck_2 : List UInt8 := dkwJ15_rangeCheck_2 ++ dktJ15_rangeCheck_3
def dkwJ15_rangeCheck_1 : List UInt8 := [182, 0, 54, 18, 57, 182, 0, 50, 28, 182, 0, 54, 18, 59, 182, 0, 50, 182, 0, 61, 183, 0, 65, 191]
abbrev dktJ15_rangeCheck_1 : List UInt8 := dkwJ15_rangeCheck_1 ++ dktJ15_rangeCheck_2
def dkwJ15_rangeCheck_0 : List UInt8 := [27, 28, 164, 0, 44, 187, 0, 43, 89, 187, 0, 45, 89, 183, 0, 47, 18, 48, 182, 0, 50, 27]
abbrev dktJ15_rangeCheck_0 : List UInt8 := dkwJ15_rangeCheck_0 ++ dktJ15_rangeCheck_1
theorem dksJ15_rangeCheck_0 : cJ15_rangeCheck.data.toList.drop 0 = dktJ15_rangeCheck_0 := by decide +kernel
theorem dksJ15_rangeCheck_1 : cJ15_rangeCheck.data.toList.drop 22 = dktJ15_rangeCheck_1 := dk_seg dksJ15_rangeCheck_0 22 rfl rfl
theorem dksJ15_rangeCheck_2 : cJ15_rangeCheck.data.toList.drop 46 = dktJ15_rangeCheck_2 := dk_seg dksJ15_rangeCheck_1 24 rfl rfl
theorem dksJ15_rangeCheck_3 : cJ15_rangeCheck.data.toList.drop 69 = dktJ15_rangeCheck_3 := dk_seg dksJ15_rangeCheck_2 23 rfl rfl
theorem dJ15_rangeCheck_0 : decode cJ15_rangeCheck 0 = .ok (.iload_n 1, 1) := dk_27 (dk_at dksJ15_rangeCheck_0 0 rfl rfl)
theorem dJ15_rangeCheck_1 : decode cJ15_rangeCheck 1 = .ok (.iload_n 2, 1) := dk_28 (dk_at dksJ15_rangeCheck_0 1 rfl rfl)
theorem dJ15_rangeCheck_2 : decode cJ15_rangeCheck 2 = .ok (.if_icmp .le 44, 3) := dk_164 0 44 (dk_at dksJ15_rangeCheck_0 2 rfl rfl)
theorem dJ15_rangeCheck_5 : decode cJ15_rangeCheck 5 = .ok (.new 43, 3) := dk_187 0 43 (dk_at dksJ15_rangeCheck_0 5 rfl rfl)
theorem dJ15_rangeCheck_46 : decode cJ15_rangeCheck 46 = .ok (.iload_n 1, 1) := dk_27 (dk_at dksJ15_rangeCheck_2 0 rfl rfl)
theorem dJ15_rangeCheck_47 : decode cJ15_rangeCheck 47 = .ok (.ifCond .ge 12, 3) := dk_156 0 12 (dk_at dksJ15_rangeCheck_2 1 rfl rfl)
theorem dJ15_rangeCheck_50 : decode cJ15_rangeCheck 50 = .ok (.new 68, 3) := dk_187 0 68 (dk_at dksJ15_rangeCheck_2 4 rfl rfl)
theorem dJ15_rangeCheck_59 : decode cJ15_rangeCheck 59 = .ok (.iload_n 2, 1) := dk_28 (dk_at dksJ15_rangeCheck_2 13 rfl rfl)
theorem dJ15_rangeCheck_60 : decode cJ15_rangeCheck 60 = .ok (.iload_n 0, 1) := dk_26 (dk_at dksJ15_rangeCheck_2 14 rfl rfl)
theorem dJ15_rangeCheck_61 : decode cJ15_rangeCheck 61 = .ok (.if_icmp .le 12, 3) := dk_164 0 12 (dk_at dksJ15_rangeCheck_2 15 rfl rfl)
theorem dJ15_rangeCheck_64 : decode cJ15_rangeCheck 64 = .ok (.new 68, 3) := dk_187 0 68 (dk_at dksJ15_rangeCheck_2 18 rfl rfl)
theorem dJ15_rangeCheck_73 : decode cJ15_rangeCheck 73 = .ok (.return_, 1) := dk_177 (dk_at dksJ15_rangeCheck_3 4 rfl rfl)
theorem q151 : (Jvm.Cond.initialized "java/util/Arrays") ∈ lw_all := lw_g (lw_at lw_m1 24 rfl) rfl
theorem q646 : (Jvm.Cond.static ({ cls := "java/util/Arrays", name := "copyOf", desc := "([BI)[B" } : Jvm.MethodName)) ∈ lw_all := lw_g (lw_at lw_m3 39 rfl) rfl
theorem q647 : (Jvm.Cond.code ({ cls := "java/util/Arrays", name := "copyOf", desc := "([BI)[B" } : Jvm.MethodName) prog_61_method_121_code (3 : Nat) (Option.some (Jvm.ClassFile.FieldType.array Jvm.ClassFile.FieldType.byte))) ∈ lw_all := lw_g (lw_at lw_m3 40 rfl) rfl
theorem q655 : (Jvm.Cond.methodLink "java/util/Arrays" (304 : Nat) ({ cls := "java/lang/Math", name := "min", desc := "(II)I" } : Jvm.MethodName)) ∈ lw_all := lw_g (lw_at lw_m3 48 rfl) rfl
theorem q658 : (Jvm.Cond.methodLink "java/util/Arrays" (150 : Nat) ({ cls := "java/lang/System", name := "arraycopy", desc := "(Ljava/lang/Object;ILjava/lang/Object;II)V" } : Jvm.MethodName)) ∈ lw_all := lw_g (lw_at lw_m3 51 rfl) rfl
theorem q741 : (Jvm.Cond.static ({ cls := "java/util/Arrays", name := "copyOfRange", desc := "([BII)[B" } : Jvm.MethodName)) ∈ lw_all := lw_g (lw_at lw_m3 134 rfl) rfl
theorem q742 : (Jvm.Cond.code ({ cls := "java/util/Arrays", name := "copyOfRange", desc := "([BII)[B" } : Jvm.MethodName) prog_61_method_132_code (3 : Nat) (Option.some (Jvm.ClassFile.FieldType.array Jvm.ClassFile.FieldType.byte))) ∈ lw_all := lw_g (lw_at lw_m3 135 rfl) rfl
theorem q743 : (Jvm.Cond.methodLink "java/util/Arrays" (339 : Nat) ({ cls := "java/util/Arrays", name := "copyOfRangeByte", desc := "([BII)[B" } : Jvm.MethodName)) ∈ lw_all := lw_g (lw_at lw_m3 136 rfl) rfl
theorem q744 : (Jvm.Cond.static ({ cls := "java/util/Arrays", name := "copyOfRangeByte", desc := "([BII)[B" } : Jvm.MethodName)) ∈ lw_all := lw_g (lw_at lw_m3 137 rfl) rfl
theorem q745 : (Jvm.Cond.code ({ cls := "java/util/Arrays", name := "copyOfRangeByte", desc := "([BII)[B" } : Jvm.MethodName) prog_61_method_133_code (5 : Nat) (Option.some (Jvm.ClassFile.FieldType.array Jvm.ClassFile.FieldType.byte))) ∈ lw_all := lw_g (lw_at lw_m3 138 rfl) rfl
theorem q746 : (Jvm.Cond.methodLink "java/util/Arrays" (343 : Nat) ({ cls := "java/util/Arrays", name := "checkLength", desc := "(II)V" } : Jvm.MethodName)) ∈ lw_all := lw_g (lw_at lw_m3 139 rfl) rfl
theorem q747 : (Jvm.Cond.static ({ cls := "java/util/Arrays", name := "checkLength", desc := "(II)V" } : Jvm.MethodName)) ∈ lw_all := lw_g (lw_at lw_m3 140 rfl) rfl
theorem q748 : (Jvm.Cond.code ({ cls := "java/util/Arrays", name := "checkLength", desc := "(II)V" } : Jvm.MethodName) prog_61_method_131_code (2 : Nat) (Option.none : Option Jvm.ClassFile.FieldType)) ∈ lw_all := lw_g (lw_at lw_m3 141 rfl) rfl
theorem q3695 : (Jvm.Cond.static ({ cls := "java/util/Arrays", name := "fill", desc := "([BIIB)V" } : Jvm.MethodName)) ∈ lw_all := lw_g (lw_at lw_m15 208 rfl) rfl
theorem q3696 : (Jvm.Cond.code ({ cls := "java/util/Arrays", name := "fill", desc := "([BIIB)V" } : Jvm.MethodName) prog_61_method_110_code (5 : Nat) (Option.none : Option Jvm.ClassFile.FieldType)) ∈ lw_all := lw_g (lw_at lw_m15 209 rfl) rfl
theorem q3697 : (Jvm.Cond.methodLink "java/util/Arrays" (13 : Nat) ({ cls := "java/util/Arrays", name := "rangeCheck", desc := "(III)V" } : Jvm.MethodName)) ∈ lw_all := lw_g (lw_at lw_m15 210 rfl) rfl
theorem q3698 : (Jvm.Cond.static ({ cls := "java/util/Arrays", name := "rangeCheck", desc := "(III)V" } : Jvm.MethodName)) ∈ lw_all := lw_g (lw_at lw_m15 211 rfl) rfl
theorem q3699 : (Jvm.Cond.code ({ cls := "java/util/Arrays", name := "rangeCheck", desc := "(III)V" } : Jvm.MethodName) prog_61_method_30_code (3 : Nat) (Option.none : Option Jvm.ClassFile.FieldType)) ∈ lw_all := lw_g (lw_at lw_m15 212 rfl) rfl
/-! J16.java_lang_StringLatin1.lean.txt -/
def RJ16 : String := "java/lang/StringLatin1"
abbrev cJ16_canEncode : ByteArray := prog_46_method_3_code
def yJ16_canEncode : MethodName := ⟨RJ16, "canEncode", "(C)Z"⟩
def dkwJ16_canEncode_0 : List UInt8 := [26, 17, 0, 255, 163, 0, 7, 4, 167, 0, 4, 3, 172]
abbrev dktJ16_canEncode_0 : List UInt8 := dkwJ16_canEncode_0 ++ []
theorem dksJ16_canEncode_0 : cJ16_canEncode.data.toList.drop 0 = dktJ16_canEncode_0 := by decide +kernel
theorem dJ16_canEncode_0 : decode cJ16_canEncode 0 = .ok (.iload_n 0, 1) := dk_26 (dk_at dksJ16_canEncode_0 0 rfl rfl)
theorem dJ16_canEncode_1 : decode cJ16_canEncode 1 = .ok (.sipush 255, 3) := dk_17 0 255 (dk_at dksJ16_canEncode_0 1 rfl rfl)
theorem dJ16_canEncode_4 : decode cJ16_canEncode 4 = .ok (.if_icmp .gt 7, 3) := dk_163 0 7 (dk_at dksJ16_canEncode_0 4 rfl rfl)
theorem dJ16_canEncode_7 : decode cJ16_canEncode 7 = .ok (.iconst 1, 1) := dk_4 (dk_at dksJ16_canEncode_0 7 rfl rfl)
theorem dJ16_canEncode_8 : decode cJ16_canEncode 8 = .ok (.goto 4, 3) := dk_167 0 4 (dk_at dksJ16_canEncode_0 8 rfl rfl)
theorem dJ16_canEncode_11 : decode cJ16_canEncode 11 = .ok (.iconst 0, 1) := dk_3 (dk_at dksJ16_canEncode_0 11 rfl rfl)
theorem dJ16_canEncode_12 : decode cJ16_canEncode 12 = .ok (.ireturn, 1) := dk_172 (dk_at dksJ16_canEncode_0 12 rfl rfl)
abbrev cJ16_equals : ByteArray := prog_46_method_13_code
def yJ16_equals : MethodName := ⟨RJ16, "equals", "([B[B)Z"⟩
def dkwJ16_equals_1 : List UInt8 := [3, 172, 132, 2, 1, 167, 255, 236, 4, 172, 3, 172]
abbrev dktJ16_equals_1 : List UInt8 := dkwJ16_equals_1 ++ []
def dkwJ16_equals_0 : List UInt8 := [42, 190, 43, 190, 160, 0, 30, 3, 61, 28, 42, 190, 162, 0, 20, 42, 28, 51, 43, 28, 51, 159, 0, 5]
abbrev dktJ16_equals_0 : List UInt8 := dkwJ16_equals_0 ++ dktJ16_equals_1
theorem dksJ16_equals_0 : cJ16_equals.data.toList.drop 0 = dktJ16_equals_0 := by decide +kernel
theorem dksJ16_equals_1 : cJ16_equals.data.toList.drop 24 = dktJ16_equals_1 := dk_seg dksJ16_equals_0 24 rfl rfl
theorem dJ16_equals_0 : decode cJ16_equals 0 = .ok (.aload_n 0, 1) := dk_42 (dk_at dksJ16_equals_0 0 rfl rfl)
theorem dJ16_equals_1 : decode cJ16_equals 1 = .ok (.arraylength, 1) := dk_190 (dk_at dksJ16_equals_0 1 rfl rfl)
theorem dJ16_equals_2 : decode cJ16_equals 2 = .ok (.aload_n 1, 1) := dk_43 (dk_at dksJ16_equals_0 2 rfl rfl)
theorem dJ16_equals_3 : decode cJ16_equals 3 = .ok (.arraylength, 1) := dk_190 (dk_at dksJ16_equals_0 3 rfl rfl)
theorem dJ16_equals_4 : decode cJ16_equals 4 = .ok (.if_icmp .ne 30, 3) := dk_160 0 30 (dk_at dksJ16_equals_0 4 rfl rfl)
theorem dJ16_equals_7 : decode cJ16_equals 7 = .ok (.iconst 0, 1) := dk_3 (dk_at dksJ16_equals_0 7 rfl rfl)
theorem dJ16_equals_8 : decode cJ16_equals 8 = .ok (.istore_n 2, 1) := dk_61 (dk_at dksJ16_equals_0 8 rfl rfl)
theorem dJ16_equals_9 : decode cJ16_equals 9 = .ok (.iload_n 2, 1) := dk_28 (dk_at dksJ16_equals_0 9 rfl rfl)
theorem dJ16_equals_10 : decode cJ16_equals 10 = .ok (.aload_n 0, 1) := dk_42 (dk_at dksJ16_equals_0 10 rfl rfl)
theorem dJ16_equals_11 : decode cJ16_equals 11 = .ok (.arraylength, 1) := dk_190 (dk_at dksJ16_equals_0 11 rfl rfl)
theorem dJ16_equals_12 : decode cJ16_equals 12 = .ok (.if_icmp .ge 20, 3) := dk_162 0 20 (dk_at dksJ16_equals_0 12 rfl rfl)
theorem dJ16_equals_15 : decode cJ16_equals 15 = .ok (.aload_n 0, 1) := dk_42 (dk_at dksJ16_equals_0 15 rfl rfl)
theorem dJ16_equals_16 : decode cJ16_equals 16 = .ok (.iload_n 2, 1) := dk_28 (dk_at dksJ16_equals_0 16 rfl rfl)
theorem dJ16_equals_17 : decode cJ16_equals 17 = .ok (.baload, 1) := dk_51 (dk_at dksJ16_equals_0 17 rfl rfl)
theorem dJ16_equals_18 : decode cJ16_equals 18 = .ok (.aload_n 1, 1) := dk_43 (dk_at dksJ16_equals_0 18 rfl rfl)
theorem dJ16_equals_19 : decode cJ16_equals 19 = .ok (.iload_n 2, 1) := dk_28 (dk_at dksJ16_equals_0 19 rfl rfl)
theorem dJ16_equals_20 : decode cJ16_equals 20 = .ok (.baload, 1) := dk_51 (dk_at dksJ16_equals_0 20 rfl rfl)
theorem dJ16_equals_21 : decode cJ16_equals 21 = .ok (.if_icmp .eq 5, 3) := dk_159 0 5 (dk_at dksJ16_equals_0 21 rfl rfl)
theorem dJ16_equals_24 : decode cJ16_equals 24 = .ok (.iconst 0, 1) := dk_3 (dk_at dksJ16_equals_1 0 rfl rfl)
theorem dJ16_equals_25 : decode cJ16_equals 25 = .ok (.ireturn, 1) := dk_172 (dk_at dksJ16_equals_1 1 rfl rfl)
theorem dJ16_equals_26 : decode cJ16_equals 26 = .ok (.iinc 2 1, 3) := dk_132 2 1 (dk_at dksJ16_equals_1 2 rfl rfl)
theorem dJ16_equals_29 : decode cJ16_equals 29 = .ok (.goto (-20), 3) := dk_167 255 236 (dk_at dksJ16_equals_1 5 rfl rfl)
theorem dJ16_equals_32 : decode cJ16_equals 32 = .ok (.iconst 1, 1) := dk_4 (dk_at dksJ16_equals_1 8 rfl rfl)
theorem dJ16_equals_33 : decode cJ16_equals 33 = .ok (.ireturn, 1) := dk_172 (dk_at dksJ16_equals_1 9 rfl rfl)
theorem dJ16_equals_34 : decode cJ16_equals 34 = .ok (.iconst 0, 1) := dk_3 (dk_at dksJ16_equals_1 10 rfl rfl)
theorem dJ16_equals_35 : decode cJ16_equals 35 = .ok (.ireturn, 1) := dk_172 (dk_at dksJ16_equals_1 11 rfl rfl)
abbrev cJ16_hashCode : ByteArray := prog_46_method_21_code
def yJ16_hashCode : MethodName := ⟨RJ16, "hashCode", "([B)I"⟩
def dkwJ16_hashCode_2 : List UInt8 := [3, 167, 0, 22, 42, 3, 51, 17, 0, 255, 126, 167, 0, 12, 42, 3, 42, 190, 3, 7, 184, 0, 84, 172]
abbrev dktJ16_hashCode_2 : List UInt8 := dkwJ16_hashCode_2 ++ []
def dkwJ16_hashCode_1 : List UInt8 := [171, 0, 0, 0, 0, 40, 0, 0, 0, 2, 0, 0, 0, 0, 0, 0, 0, 26, 0, 0, 0, 1, 0, 0, 0, 30]
abbrev dktJ16_hashCode_1 : List UInt8 := dkwJ16_hashCode_1 ++ dktJ16_hashCode_2
def dkwJ16_hashCode_0 : List UInt8 := [42, 190]
abbrev dktJ16_hashCode_0 : List UInt8 := dkwJ16_hashCode_0 ++ dktJ16_hashCode_1
theorem dksJ16_hashCode_0 : cJ16_hashCode.data.toList.drop 0 = dktJ16_hashCode_0 := by decide +kernel
theorem dksJ16_hashCode_1 : cJ16_hashCode.data.toList.drop 2 = dktJ16_hashCode_1 := dk_seg dksJ16_hashCode_0 2 rfl rfl
theorem dksJ16_hashCode_2 : cJ16_hashCode.data.toList.drop 28 = dktJ16_hashCode_2 := dk_seg dksJ16_hashCode_1 26 rfl rfl
theorem dJ16_hashCode_0 : decode cJ16_hashCode 0 = .ok (.aload_n 0, 1) := dk_42 (dk_at dksJ16_hashCode_0 0 rfl rfl)
theorem dJ16_hashCode_1 : decode cJ16_hashCode 1 = .ok (.arraylength, 1) := dk_190 (dk_at dksJ16_hashCode_0 1 rfl rfl)
theorem dJ16_hashCode_2 : decode cJ16_hashCode 2 = .ok (.lookupswitch 40 #[(0, 26), (1, 30)], 26) := by decide +kernel
theorem dJ16_hashCode_28 : decode cJ16_hashCode 28 = .ok (.iconst 0, 1) := dk_3 (dk_at dksJ16_hashCode_2 0 rfl rfl)
theorem dJ16_hashCode_29 : decode cJ16_hashCode 29 = .ok (.goto 22, 3) := dk_167 0 22 (dk_at dksJ16_hashCode_2 1 rfl rfl)
theorem dJ16_hashCode_32 : decode cJ16_hashCode 32 = .ok (.aload_n 0, 1) := dk_42 (dk_at dksJ16_hashCode_2 4 rfl rfl)
theorem dJ16_hashCode_33 : decode cJ16_hashCode 33 = .ok (.iconst 0, 1) := dk_3 (dk_at dksJ16_hashCode_2 5 rfl rfl)
theorem dJ16_hashCode_34 : decode cJ16_hashCode 34 = .ok (.baload, 1) := dk_51 (dk_at dksJ16_hashCode_2 6 rfl rfl)
theorem dJ16_hashCode_35 : decode cJ16_hashCode 35 = .ok (.sipush 255, 3) := dk_17 0 255 (dk_at dksJ16_hashCode_2 7 rfl rfl)
theorem dJ16_hashCode_38 : decode cJ16_hashCode 38 = .ok (.iand, 1) := dk_126 (dk_at dksJ16_hashCode_2 10 rfl rfl)
theorem dJ16_hashCode_39 : decode cJ16_hashCode 39 = .ok (.goto 12, 3) := dk_167 0 12 (dk_at dksJ16_hashCode_2 11 rfl rfl)
theorem dJ16_hashCode_42 : decode cJ16_hashCode 42 = .ok (.aload_n 0, 1) := dk_42 (dk_at dksJ16_hashCode_2 14 rfl rfl)
theorem dJ16_hashCode_43 : decode cJ16_hashCode 43 = .ok (.iconst 0, 1) := dk_3 (dk_at dksJ16_hashCode_2 15 rfl rfl)
theorem dJ16_hashCode_44 : decode cJ16_hashCode 44 = .ok (.aload_n 0, 1) := dk_42 (dk_at dksJ16_hashCode_2 16 rfl rfl)
theorem dJ16_hashCode_45 : decode cJ16_hashCode 45 = .ok (.arraylength, 1) := dk_190 (dk_at dksJ16_hashCode_2 17 rfl rfl)
theorem dJ16_hashCode_46 : decode cJ16_hashCode 46 = .ok (.iconst 0, 1) := dk_3 (dk_at dksJ16_hashCode_2 18 rfl rfl)
theorem dJ16_hashCode_47 : decode cJ16_hashCode 47 = .ok (.iconst 4, 1) := dk_7 (dk_at dksJ16_hashCode_2 19 rfl rfl)
theorem dJ16_hashCode_48 : decode cJ16_hashCode 48 = .ok (.invokestatic 84, 3) := dk_184 0 84 (dk_at dksJ16_hashCode_2 20 rfl rfl)
theorem dJ16_hashCode_51 : decode cJ16_hashCode 51 = .ok (.ireturn, 1) := dk_172 (dk_at dksJ16_hashCode_2 23 rfl rfl)
abbrev cJ16_charAt : ByteArray := prog_46_method_2_code
def yJ16_charAt : MethodName := ⟨RJ16, "charAt", "([BI)C"⟩
def dkwJ16_charAt_0 : List UInt8 := [27, 42, 190, 184, 0, 9, 42, 27, 51, 17, 0, 255, 126, 146, 172]
abbrev dktJ16_charAt_0 : List UInt8 := dkwJ16_charAt_0 ++ []
theorem dksJ16_charAt_0 : cJ16_charAt.data.toList.drop 0 = dktJ16_charAt_0 := by decide +kernel
theorem dJ16_charAt_0 : decode cJ16_charAt 0 = .ok (.iload_n 1, 1) := dk_27 (dk_at dksJ16_charAt_0 0 rfl rfl)
theorem dJ16_charAt_1 : decode cJ16_charAt 1 = .ok (.aload_n 0, 1) := dk_42 (dk_at dksJ16_charAt_0 1 rfl rfl)
theorem dJ16_charAt_2 : decode cJ16_charAt 2 = .ok (.arraylength, 1) := dk_190 (dk_at dksJ16_charAt_0 2 rfl rfl)
theorem dJ16_charAt_3 : decode cJ16_charAt 3 = .ok (.invokestatic 9, 3) := dk_184 0 9 (dk_at dksJ16_charAt_0 3 rfl rfl)
theorem dJ16_charAt_6 : decode cJ16_charAt 6 = .ok (.aload_n 0, 1) := dk_42 (dk_at dksJ16_charAt_0 6 rfl rfl)
theorem dJ16_charAt_7 : decode cJ16_charAt 7 = .ok (.iload_n 1, 1) := dk_27 (dk_at dksJ16_charAt_0 7 rfl rfl)
theorem dJ16_charAt_8 : decode cJ16_charAt 8 = .ok (.baload, 1) := dk_51 (dk_at dksJ16_charAt_0 8 rfl rfl)
theorem dJ16_charAt_9 : decode cJ16_charAt 9 = .ok (.sipush 255, 3) := dk_17 0 255 (dk_at dksJ16_charAt_0 9 rfl rfl)
theorem dJ16_charAt_12 : decode cJ16_charAt 12 = .ok (.iand, 1) := dk_126 (dk_at dksJ16_charAt_0 12 rfl rfl)
theorem dJ16_charAt_13 : decode cJ16_charAt 13 = .ok (.i2c, 1) := dk_146 (dk_at dksJ16_charAt_0 13 rfl rfl)
theorem dJ16_charAt_14 : decode cJ16_charAt 14 = .ok (.ireturn, 1) := dk_172 (dk_at dksJ16_charAt_0 14 rfl rfl)
abbrev cJ16_fillNull : ByteArray := prog_46_method_48_code
def yJ16_fillNull : MethodName := ⟨RJ16, "fillNull", "([BII)V"⟩
def dkwJ16_fillNull_0 : List UInt8 := [42, 27, 28, 3, 184, 0, 236, 177]
abbrev dktJ16_fillNull_0 : List UInt8 := dkwJ16_fillNull_0 ++ []
theorem dksJ16_fillNull_0 : cJ16_fillNull.data.toList.drop 0 = dktJ16_fillNull_0 := by decide +kernel
theorem dJ16_fillNull_0 : decode cJ16_fillNull 0 = .ok (.aload_n 0, 1) := dk_42 (dk_at dksJ16_fillNull_0 0 rfl rfl)
theorem dJ16_fillNull_1 : decode cJ16_fillNull 1 = .ok (.iload_n 1, 1) := dk_27 (dk_at dksJ16_fillNull_0 1 rfl rfl)
theorem dJ16_fillNull_2 : decode cJ16_fillNull 2 = .ok (.iload_n 2, 1) := dk_28 (dk_at dksJ16_fillNull_0 2 rfl rfl)
theorem dJ16_fillNull_3 : decode cJ16_fillNull 3 = .ok (.iconst 0, 1) := dk_3 (dk_at dksJ16_fillNull_0 3 rfl rfl)
theorem dJ16_fillNull_4 : decode cJ16_fillNull 4 = .ok (.invokestatic 236, 3) := dk_184 0 236 (dk_at dksJ16_fillNull_0 4 rfl rfl)
theorem dJ16_fillNull_7 : decode cJ16_fillNull 7 = .ok (.return_, 1) := dk_177 (dk_at dksJ16_fillNull_0 7 rfl rfl)
theorem q153 : (Jvm.Cond.initialized "java/lang/StringLatin1") ∈ lw_all := lw_g (lw_at lw_m1 26 rfl) rfl
theorem q667 : (Jvm.Cond.static ({ cls := "java/lang/StringLatin1", name := "canEncode", desc := "(C)Z" } : Jvm.MethodName)) ∈ lw_all := lw_g (lw_at lw_m3 60 rfl) rfl
theorem q668 : (Jvm.Cond.code ({ cls := "java/lang/StringLatin1", name := "canEncode", desc := "(C)Z" } : Jvm.MethodName) prog_46_method_3_code (1 : Nat) (Option.some Jvm.ClassFile.FieldType.boolean)) ∈ lw_all := lw_g (lw_at lw_m3 61 rfl) rfl
theorem q868 : (Jvm.Cond.static ({ cls := "java/lang/StringLatin1", name := "equals", desc := "([B[B)Z" } : Jvm.MethodName)) ∈ lw_all := lw_g (lw_at lw_m4 21 rfl) rfl
theorem q869 : (Jvm.Cond.code ({ cls := "java/lang/StringLatin1", name := "equals", desc := "([B[B)Z" } : Jvm.MethodName) prog_46_method_13_code (3 : Nat) (Option.some Jvm.ClassFile.FieldType.boolean)) ∈ lw_all := lw_g (lw_at lw_m4 22 rfl) rfl
theorem q899 : (Jvm.Cond.static ({ cls := "java/lang/StringLatin1", name := "hashCode", desc := "([B)I" } : Jvm.MethodName)) ∈ lw_all := lw_g (lw_at lw_m4 52 rfl) rfl
theorem q900 : (Jvm.Cond.code ({ cls := "java/lang/StringLatin1", name := "hashCode", desc := "([B)I" } : Jvm.MethodName) prog_46_method_21_code (1 : Nat) (Option.some Jvm.ClassFile.FieldType.int)) ∈ lw_all := lw_g (lw_at lw_m4 53 rfl) rfl
theorem q901 : (Jvm.Cond.methodLink "java/lang/StringLatin1" (84 : Nat) ({ cls := "jdk/internal/util/ArraysSupport", name := "vectorizedHashCode", desc := "(Ljava/lang/Object;IIII)I" } : Jvm.MethodName)) ∈ lw_all := lw_g (lw_at lw_m4 54 rfl) rfl
theorem q1042 : (Jvm.Cond.static ({ cls := "java/lang/StringLatin1", name := "charAt", desc := "([BI)C" } : Jvm.MethodName)) ∈ lw_all := lw_g (lw_at lw_m4 195 rfl) rfl
theorem q1043 : (Jvm.Cond.code ({ cls := "java/lang/StringLatin1", name := "charAt", desc := "([BI)C" } : Jvm.MethodName) prog_46_method_2_code (2 : Nat) (Option.some Jvm.ClassFile.FieldType.char)) ∈ lw_all := lw_g (lw_at lw_m4 196 rfl) rfl
theorem q1044 : (Jvm.Cond.methodLink "java/lang/StringLatin1" (9 : Nat) ({ cls := "java/lang/String", name := "checkIndex", desc := "(II)V" } : Jvm.MethodName)) ∈ lw_all := lw_g (lw_at lw_m4 197 rfl) rfl
theorem q3692 : (Jvm.Cond.static ({ cls := "java/lang/StringLatin1", name := "fillNull", desc := "([BII)V" } : Jvm.MethodName)) ∈ lw_all := lw_g (lw_at lw_m15 205 rfl) rfl
theorem q3693 : (Jvm.Cond.code ({ cls := "java/lang/StringLatin1", name := "fillNull", desc := "([BII)V" } : Jvm.MethodName) prog_46_method_48_code (3 : Nat) (Option.none : Option Jvm.ClassFile.FieldType)) ∈ lw_all := lw_g (lw_at lw_m15 206 rfl) rfl
theorem q3694 : (Jvm.Cond.methodLink "java/lang/StringLatin1" (236 : Nat) ({ cls := "java/util/Arrays", name := "fill", desc := "([BIIB)V" } : Jvm.MethodName)) ∈ lw_all := lw_g (lw_at lw_m15 207 rfl) rfl
/-! J17.jdk_internal_util_Preconditions.lean.txt -/
def RJ17 : String := "jdk/internal/util/Preconditions"
abbrev cJ17_checkIndex : ByteArray := prog_98_method_11_code
def yJ17_checkIndex : MethodName := ⟨RJ17, "checkIndex", "(IILjava/util/function/BiFunction;)I"⟩
def dkwJ17_checkIndex_0 : List UInt8 := [26, 155, 0, 8, 26, 27, 161, 0, 10, 44, 26, 27, 184, 0, 95, 191, 26, 172]
abbrev dktJ17_checkIndex_0 : List UInt8 := dkwJ17_checkIndex_0 ++ []
theorem dksJ17_checkIndex_0 : cJ17_checkIndex.data.toList.drop 0 = dktJ17_checkIndex_0 := by decide +kernel
theorem dJ17_checkIndex_0 : decode cJ17_checkIndex 0 = .ok (.iload_n 0, 1) := dk_26 (dk_at dksJ17_checkIndex_0 0 rfl rfl)
theorem dJ17_checkIndex_1 : decode cJ17_checkIndex 1 = .ok (.ifCond .lt 8, 3) := dk_155 0 8 (dk_at dksJ17_checkIndex_0 1 rfl rfl)
theorem dJ17_checkIndex_4 : decode cJ17_checkIndex 4 = .ok (.iload_n 0, 1) := dk_26 (dk_at dksJ17_checkIndex_0 4 rfl rfl)
theorem dJ17_checkIndex_5 : decode cJ17_checkIndex 5 = .ok (.iload_n 1, 1) := dk_27 (dk_at dksJ17_checkIndex_0 5 rfl rfl)
theorem dJ17_checkIndex_6 : decode cJ17_checkIndex 6 = .ok (.if_icmp .lt 10, 3) := dk_161 0 10 (dk_at dksJ17_checkIndex_0 6 rfl rfl)
theorem dJ17_checkIndex_9 : decode cJ17_checkIndex 9 = .ok (.aload_n 2, 1) := dk_44 (dk_at dksJ17_checkIndex_0 9 rfl rfl)
theorem dJ17_checkIndex_16 : decode cJ17_checkIndex 16 = .ok (.iload_n 0, 1) := dk_26 (dk_at dksJ17_checkIndex_0 16 rfl rfl)
theorem dJ17_checkIndex_17 : decode cJ17_checkIndex 17 = .ok (.ireturn, 1) := dk_172 (dk_at dksJ17_checkIndex_0 17 rfl rfl)
theorem q154 : (Jvm.Cond.initialized "jdk/internal/util/Preconditions") ∈ lw_all := lw_g (lw_at lw_m1 27 rfl) rfl
theorem q712 : (Jvm.Cond.static ({ cls := "jdk/internal/util/Preconditions", name := "checkIndex", desc := "(IILjava/util/function/BiFunction;)I" } : Jvm.MethodName)) ∈ lw_all := lw_g (lw_at lw_m3 105 rfl) rfl
theorem q713 : (Jvm.Cond.code ({ cls := "jdk/internal/util/Preconditions", name := "checkIndex", desc := "(IILjava/util/function/BiFunction;)I" } : Jvm.MethodName) prog_98_method_11_code (3 : Nat) (Option.some Jvm.ClassFile.FieldType.int)) ∈ lw_all := lw_g (lw_at lw_m3 106 rfl) rfl
/-! J18.java_lang_IllegalArgumentException.lean.txt -/
def RJ18 : String := "java/lang/IllegalArgumentException"
def TJ18 : u_T := fun k => match k with
  | 0 => ("java/lang/Throwable", "cause", "Ljava/lang/Throwable;", false)
  | 1 => ("java/lang/Throwable", "stackTrace", "[Ljava/lang/StackTraceElement;", false)
  | 2 => ("java/lang/Throwable", "suppressedExceptions", "Ljava/util/List;", false)
  | 3 => ("java/lang/Throwable", "detailMessage", "Ljava/lang/String;", false)
  | 4 => ("java/lang/Throwable", "backtrace", "Ljava/lang/Object;", false)
  | _ => ("java/lang/Throwable", "depth", "I", false)
def tyJ18 : Nat → FieldType := fun k => match k with
  | 0 => .object "java/lang/Throwable"
  | 1 => .array (.object "java/lang/StackTraceElement")
  | 2 => .object "java/util/List"
  | 3 => .object "java/lang/String"
  | 4 => .object "java/lang/Object"
  | _ => .int
abbrev wsJ180 : List Cond := u_ws RJ18 TJ18 6
theorem nmJ18 : ∀ a, a < 6 → ∀ b, b < 6 → a ≠ b → (TJ18 a).2.1 ≠ (TJ18 b).2.1 := by decide +kernel
theorem tyJ18_ok : ∀ k, k < 6 → parseFieldDescriptor (TJ18 k).2.2.1 = some (tyJ18 k) := by decide +kernel
theorem q155 : (Jvm.Cond.initialized "java/lang/IllegalArgumentException") ∈ lw_all := lw_g (lw_at lw_m1 28 rfl) rfl
theorem q751 : (Jvm.Cond.castable "java/lang/IllegalArgumentException" "java/lang/IllegalArgumentException") ∈ lw_tbl := lw_at lw_m3 144 rfl
theorem q4682 : (Jvm.Cond.castable "java/lang/IllegalArgumentException" "java/lang/Object") ∈ lw_tbl := lw_at lw_m19 235 rfl
theorem in_J18 : ∀ w ∈ wsJ180, w ∈ lw_all := lw_in wsJ180 [753, 754, 755, 756, 757, 838] (by decide +kernel) (by decide +kernel)
/-! J19.java_lang_Number.lean.txt -/
def RJ19 : String := "java/lang/Number"
abbrev cJ19_init : ByteArray := prog_40_method_1_code
def yJ19_init : MethodName := ⟨RJ19, "<init>", "()V"⟩
theorem dJ19_init_0 : decode cJ19_init 0 = .ok (.aload_n 0, 1) := by decide +kernel
theorem dJ19_init_1 : decode cJ19_init 1 = .ok (.invokespecial 1, 3) := by decide +kernel
theorem dJ19_init_4 : decode cJ19_init 4 = .ok (.return_, 1) := by decide +kernel
theorem q156 : (Jvm.Cond.initialized "java/lang/Number") ∈ lw_all := lw_g (lw_at lw_m1 29 rfl) rfl
theorem q2797 : (Jvm.Cond.instanceMethod ({ cls := "java/lang/Number", name := "<init>", desc := "()V" } : Jvm.MethodName)) ∈ lw_all := lw_g (lw_at lw_m12 30 rfl) rfl
theorem q2798 : (Jvm.Cond.code ({ cls := "java/lang/Number", name := "<init>", desc := "()V" } : Jvm.MethodName) prog_40_method_1_code (1 : Nat) (Option.none : Option Jvm.ClassFile.FieldType)) ∈ lw_all := lw_g (lw_at lw_m12 31 rfl) rfl
theorem q2799 : (Jvm.Cond.methodLink "java/lang/Number" (1 : Nat) ({ cls := "java/lang/Object", name := "<init>", desc := "()V" } : Jvm.MethodName)) ∈ lw_all := lw_g (lw_at lw_m12 32 rfl) rfl
/-! J2.java_lang_AbstractStringBuilder.lean.txt -/
def RJ2 : String := "java/lang/AbstractStringBuilder"
abbrev cJ2_init : ByteArray := prog_22_method_2_code
def yJ2_init : MethodName := ⟨RJ2, "<init>", "(I)V"⟩
def dkwJ2_init_1 : List UInt8 := [167, 0, 16, 42, 27, 184, 0, 26, 181, 0, 15, 42, 4, 181, 0, 22, 177]
abbrev dktJ2_init_1 : List UInt8 := dkwJ2_init_1 ++ []
def dkwJ2_init_0 : List UInt8 := [42, 183, 0, 3, 178, 0, 18, 153, 0, 18, 42, 27, 188, 8, 181, 0, 15, 42, 3, 181, 0, 22]
abbrev dktJ2_init_0 : List UInt8 := dkwJ2_init_0 ++ dktJ2_init_1
theorem dksJ2_init_0 : cJ2_init.data.toList.drop 0 = dktJ2_init_0 := by decide +kernel
theorem dksJ2_init_1 : cJ2_init.data.toList.drop 22 = dktJ2_init_1 := dk_seg dksJ2_init_0 22 rfl rfl
theorem dJ2_init_0 : decode cJ2_init 0 = .ok (.aload_n 0, 1) := dk_42 (dk_at dksJ2_init_0 0 rfl rfl)
theorem dJ2_init_1 : decode cJ2_init 1 = .ok (.invokespecial 3, 3) := dk_183 0 3 (dk_at dksJ2_init_0 1 rfl rfl)
theorem dJ2_init_4 : decode cJ2_init 4 = .ok (.getstatic 18, 3) := dk_178 0 18 (dk_at dksJ2_init_0 4 rfl rfl)
theorem dJ2_init_7 : decode cJ2_init 7 = .ok (.ifCond .eq 18, 3) := dk_153 0 18 (dk_at dksJ2_init_0 7 rfl rfl)
theorem dJ2_init_10 : decode cJ2_init 10 = .ok (.aload_n 0, 1) := dk_42 (dk_at dksJ2_init_0 10 rfl rfl)
theorem dJ2_init_11 : decode cJ2_init 11 = .ok (.iload_n 1, 1) := dk_27 (dk_at dksJ2_init_0 11 rfl rfl)
theorem dJ2_init_12 : decode cJ2_init 12 = .ok (.newarray .byte, 2) := dk_188_8 (dk_at dksJ2_init_0 12 rfl rfl)
theorem dJ2_init_14 : decode cJ2_init 14 = .ok (.putfield 15, 3) := dk_181 0 15 (dk_at dksJ2_init_0 14 rfl rfl)
theorem dJ2_init_17 : decode cJ2_init 17 = .ok (.aload_n 0, 1) := dk_42 (dk_at dksJ2_init_0 17 rfl rfl)
theorem dJ2_init_18 : decode cJ2_init 18 = .ok (.iconst 0, 1) := dk_3 (dk_at dksJ2_init_0 18 rfl rfl)
theorem dJ2_init_19 : decode cJ2_init 19 = .ok (.putfield 22, 3) := dk_181 0 22 (dk_at dksJ2_init_0 19 rfl rfl)
theorem dJ2_init_22 : decode cJ2_init 22 = .ok (.goto 16, 3) := dk_167 0 16 (dk_at dksJ2_init_1 0 rfl rfl)
theorem dJ2_init_25 : decode cJ2_init 25 = .ok (.aload_n 0, 1) := dk_42 (dk_at dksJ2_init_1 3 rfl rfl)
theorem dJ2_init_38 : decode cJ2_init 38 = .ok (.return_, 1) := dk_177 (dk_at dksJ2_init_1 16 rfl rfl)
abbrev cJ2_append : ByteArray := prog_22_method_31_code
def yJ2_append : MethodName := ⟨RJ2, "append", "(C)Ljava/lang/AbstractStringBuilder;"⟩
def dkwJ2_append_3 : List UInt8 := [181, 0, 79, 27, 184, 0, 197, 42, 176]
abbrev dktJ2_append_3 : List UInt8 := dkwJ2_append_3 ++ []
def dkwJ2_append_2 : List UInt8 := [182, 0, 83, 153, 0, 7, 42, 182, 0, 195, 42, 180, 0, 15, 42, 89, 180, 0, 79, 90, 4, 96]
abbrev dktJ2_append_2 : List UInt8 := dkwJ2_append_2 ++ dktJ2_append_3
def dkwJ2_append_1 : List UInt8 := [42, 180, 0, 15, 42, 89, 180, 0, 79, 90, 4, 96, 181, 0, 79, 27, 145, 84, 167, 0, 33, 42]
abbrev dktJ2_append_1 : List UInt8 := dkwJ2_append_1 ++ dktJ2_append_2
def dkwJ2_append_0 : List UInt8 := [42, 42, 180, 0, 79, 4, 96, 182, 0, 100, 42, 182, 0, 83, 153, 0, 31, 27, 184, 0, 191, 153, 0, 24]
abbrev dktJ2_append_0 : List UInt8 := dkwJ2_append_0 ++ dktJ2_append_1
theorem dksJ2_append_0 : cJ2_append.data.toList.drop 0 = dktJ2_append_0 := by decide +kernel
theorem dksJ2_append_1 : cJ2_append.data.toList.drop 24 = dktJ2_append_1 := dk_seg dksJ2_append_0 24 rfl rfl
theorem dksJ2_append_2 : cJ2_append.data.toList.drop 46 = dktJ2_append_2 := dk_seg dksJ2_append_1 22 rfl rfl
theorem dksJ2_append_3 : cJ2_append.data.toList.drop 68 = dktJ2_append_3 := dk_seg dksJ2_append_2 22 rfl rfl
theorem dJ2_append_0 : decode cJ2_append 0 = .ok (.aload_n 0, 1) := dk_42 (dk_at dksJ2_append_0 0 rfl rfl)
theorem dJ2_append_1 : decode cJ2_append 1 = .ok (.aload_n 0, 1) := dk_42 (dk_at dksJ2_append_0 1 rfl rfl)
theorem dJ2_append_2 : decode cJ2_append 2 = .ok (.getfield 79, 3) := dk_180 0 79 (dk_at dksJ2_append_0 2 rfl rfl)
theorem dJ2_append_5 : decode cJ2_append 5 = .ok (.iconst 1, 1) := dk_4 (dk_at dksJ2_append_0 5 rfl rfl)
theorem dJ2_append_6 : decode cJ2_append 6 = .ok (.iadd, 1) := dk_96 (dk_at dksJ2_append_0 6 rfl rfl)
theorem dJ2_append_7 : decode cJ2_append 7 = .ok (.invokevirtual 100, 3) := dk_182 0 100 (dk_at dksJ2_append_0 7 rfl rfl)
theorem dJ2_append_10 : decode cJ2_append 10 = .ok (.aload_n 0, 1) := dk_42 (dk_at dksJ2_append_0 10 rfl rfl)
theorem dJ2_append_11 : decode cJ2_append 11 = .ok (.invokevirtual 83, 3) := dk_182 0 83 (dk_at dksJ2_append_0 11 rfl rfl)
theorem dJ2_append_14 : decode cJ2_append 14 = .ok (.ifCond .eq 31, 3) := dk_153 0 31 (dk_at dksJ2_append_0 14 rfl rfl)
theorem dJ2_append_17 : decode cJ2_append 17 = .ok (.iload_n 1, 1) := dk_27 (dk_at dksJ2_append_0 17 rfl rfl)
theorem dJ2_append_18 : decode cJ2_append 18 = .ok (.invokestatic 191, 3) := dk_184 0 191 (dk_at dksJ2_append_0 18 rfl rfl)
theorem dJ2_append_21 : decode cJ2_append 21 = .ok (.ifCond .eq 24, 3) := dk_153 0 24 (dk_at dksJ2_append_0 21 rfl rfl)
theorem dJ2_append_24 : decode cJ2_append 24 = .ok (.aload_n 0, 1) := dk_42 (dk_at dksJ2_append_1 0 rfl rfl)
theorem dJ2_append_25 : decode cJ2_append 25 = .ok (.getfield 15, 3) := dk_180 0 15 (dk_at dksJ2_append_1 1 rfl rfl)
theorem dJ2_append_28 : decode cJ2_append 28 = .ok (.aload_n 0, 1) := dk_42 (dk_at dksJ2_append_1 4 rfl rfl)
theorem dJ2_append_29 : decode cJ2_append 29 = .ok (.dup, 1) := dk_89 (dk_at dksJ2_append_1 5 rfl rfl)
theorem dJ2_append_30 : decode cJ2_append 30 = .ok (.getfield 79, 3) := dk_180 0 79 (dk_at dksJ2_append_1 6 rfl rfl)
theorem dJ2_append_33 : decode cJ2_append 33 = .ok (.dup_x1, 1) := dk_90 (dk_at dksJ2_append_1 9 rfl rfl)
theorem dJ2_append_34 : decode cJ2_append 34 = .ok (.iconst 1, 1) := dk_4 (dk_at dksJ2_append_1 10 rfl rfl)
theorem dJ2_append_35 : decode cJ2_append 35 = .ok (.iadd, 1) := dk_96 (dk_at dksJ2_append_1 11 rfl rfl)
theorem dJ2_append_36 : decode cJ2_append 36 = .ok (.putfield 79, 3) := dk_181 0 79 (dk_at dksJ2_append_1 12 rfl rfl)
theorem dJ2_append_39 : decode cJ2_append 39 = .ok (.iload_n 1, 1) := dk_27 (dk_at dksJ2_append_1 15 rfl rfl)
theorem dJ2_append_40 : decode cJ2_append 40 = .ok (.i2b, 1) := dk_145 (dk_at dksJ2_append_1 16 rfl rfl)
theorem dJ2_append_41 : decode cJ2_append 41 = .ok (.bastore, 1) := dk_84 (dk_at dksJ2_append_1 17 rfl rfl)
theorem dJ2_append_42 : decode cJ2_append 42 = .ok (.goto 33, 3) := dk_167 0 33 (dk_at dksJ2_append_1 18 rfl rfl)
theorem dJ2_append_45 : decode cJ2_append 45 = .ok (.aload_n 0, 1) := dk_42 (dk_at dksJ2_append_1 21 rfl rfl)
theorem dJ2_append_75 : decode cJ2_append 75 = .ok (.aload_n 0, 1) := dk_42 (dk_at dksJ2_append_3 7 rfl rfl)
theorem dJ2_append_76 : decode cJ2_append 76 = .ok (.areturn, 1) := dk_176 (dk_at dksJ2_append_3 8 rfl rfl)
abbrev cJ2_ensureCapacityInternal : ByteArray := prog_22_method_9_code
def yJ2_ensureCapacityInternal : MethodName := ⟨RJ2, "ensureCapacityInternal", "(I)V"⟩
def dkwJ2_ensureCapacityInternal_1 : List UInt8 := [182, 0, 104, 42, 180, 0, 22, 120, 184, 0, 108, 181, 0, 15, 177]
abbrev dktJ2_ensureCapacityInternal_1 : List UInt8 := dkwJ2_ensureCapacityInternal_1 ++ []
def dkwJ2_ensureCapacityInternal_0 : List UInt8 := [42, 180, 0, 15, 190, 42, 180, 0, 22, 122, 61, 27, 28, 100, 158, 0, 24, 42, 42, 180, 0, 15, 42, 27]
abbrev dktJ2_ensureCapacityInternal_0 : List UInt8 := dkwJ2_ensureCapacityInternal_0 ++ dktJ2_ensureCapacityInternal_1
theorem dksJ2_ensureCapacityInternal_0 : cJ2_ensureCapacityInternal.data.toList.drop 0 = dktJ2_ensureCapacityInternal_0 := by decide +kernel
theorem dksJ2_ensureCapacityInternal_1 : cJ2_ensureCapacityInternal.data.toList.drop 24 = dktJ2_ensureCapacityInternal_1 := dk_seg dksJ2_ensureCapacityInternal_0 24 rfl rfl
theorem dJ2_ensureCapacityInternal_0 : decode cJ2_ensureCapacityInternal 0 = .ok (.aload_n 0, 1) := dk_42 (dk_at dksJ2_ensureCapacityInternal_0 0 rfl rfl)
theorem dJ2_ensureCapacityInternal_1 : decode cJ2_ensureCapacityInternal 1 = .ok (.getfield 15, 3) := dk_180 0 15 (dk_at dksJ2_ensureCapacityInternal_0 1 rfl rfl)
theorem dJ2_ensureCapacityInternal_4 : decode cJ2_ensureCapacityInternal 4 = .ok (.arraylength, 1) := dk_190 (dk_at dksJ2_ensureCapacityInternal_0 4 rfl rfl)
theorem dJ2_ensureCapacityInternal_5 : decode cJ2_ensureCapacityInternal 5 = .ok (.aload_n 0, 1) := dk_42 (dk_at dksJ2_ensureCapacityInternal_0 5 rfl rfl)
theorem dJ2_ensureCapacityInternal_6 : decode cJ2_ensureCapacityInternal 6 = .ok (.getfield 22, 3) := dk_180 0 22 (dk_at dksJ2_ensureCapacityInternal_0 6 rfl rfl)
theorem dJ2_ensureCapacityInternal_9 : decode cJ2_ensureCapacityInternal 9 = .ok (.ishr, 1) := dk_122 (dk_at dksJ2_ensureCapacityInternal_0 9 rfl rfl)
theorem dJ2_ensureCapacityInternal_10 : decode cJ2_ensureCapacityInternal 10 = .ok (.istore_n 2, 1) := dk_61 (dk_at dksJ2_ensureCapacityInternal_0 10 rfl rfl)
theorem dJ2_ensureCapacityInternal_11 : decode cJ2_ensureCapacityInternal 11 = .ok (.iload_n 1, 1) := dk_27 (dk_at dksJ2_ensureCapacityInternal_0 11 rfl rfl)
theorem dJ2_ensureCapacityInternal_12 : decode cJ2_ensureCapacityInternal 12 = .ok (.iload_n 2, 1) := dk_28 (dk_at dksJ2_ensureCapacityInternal_0 12 rfl rfl)
theorem dJ2_ensureCapacityInternal_13 : decode cJ2_ensureCapacityInternal 13 = .ok (.isub, 1) := dk_100 (dk_at dksJ2_ensureCapacityInternal_0 13 rfl rfl)
theorem dJ2_ensureCapacityInternal_14 : decode cJ2_ensureCapacityInternal 14 = .ok (.ifCond .le 24, 3) := dk_158 0 24 (dk_at dksJ2_ensureCapacityInternal_0 14 rfl rfl)
theorem dJ2_ensureCapacityInternal_17 : decode cJ2_ensureCapacityInternal 17 = .ok (.aload_n 0, 1) := dk_42 (dk_at dksJ2_ensureCapacityInternal_0 17 rfl rfl)
theorem dJ2_ensureCapacityInternal_18 : decode cJ2_ensureCapacityInternal 18 = .ok (.aload_n 0, 1) := dk_42 (dk_at dksJ2_ensureCapacityInternal_0 18 rfl rfl)
theorem dJ2_ensureCapacityInternal_19 : decode cJ2_ensureCapacityInternal 19 = .ok (.getfield 15, 3) := dk_180 0 15 (dk_at dksJ2_ensureCapacityInternal_0 19 rfl rfl)
theorem dJ2_ensureCapacityInternal_22 : decode cJ2_ensureCapacityInternal 22 = .ok (.aload_n 0, 1) := dk_42 (dk_at dksJ2_ensureCapacityInternal_0 22 rfl rfl)
theorem dJ2_ensureCapacityInternal_23 : decode cJ2_ensureCapacityInternal 23 = .ok (.iload_n 1, 1) := dk_27 (dk_at dksJ2_ensureCapacityInternal_0 23 rfl rfl)
theorem dJ2_ensureCapacityInternal_24 : decode cJ2_ensureCapacityInternal 24 = .ok (.invokevirtual 104, 3) := dk_182 0 104 (dk_at dksJ2_ensureCapacityInternal_1 0 rfl rfl)
theorem dJ2_ensureCapacityInternal_27 : decode cJ2_ensureCapacityInternal 27 = .ok (.aload_n 0, 1) := dk_42 (dk_at dksJ2_ensureCapacityInternal_1 3 rfl rfl)
theorem dJ2_ensureCapacityInternal_28 : decode cJ2_ensureCapacityInternal 28 = .ok (.getfield 22, 3) := dk_180 0 22 (dk_at dksJ2_ensureCapacityInternal_1 4 rfl rfl)
theorem dJ2_ensureCapacityInternal_31 : decode cJ2_ensureCapacityInternal 31 = .ok (.ishl, 1) := dk_120 (dk_at dksJ2_ensureCapacityInternal_1 7 rfl rfl)
theorem dJ2_ensureCapacityInternal_32 : decode cJ2_ensureCapacityInternal 32 = .ok (.invokestatic 108, 3) := dk_184 0 108 (dk_at dksJ2_ensureCapacityInternal_1 8 rfl rfl)
theorem dJ2_ensureCapacityInternal_35 : decode cJ2_ensureCapacityInternal 35 = .ok (.putfield 15, 3) := dk_181 0 15 (dk_at dksJ2_ensureCapacityInternal_1 11 rfl rfl)
theorem dJ2_ensureCapacityInternal_38 : decode cJ2_ensureCapacityInternal 38 = .ok (.return_, 1) := dk_177 (dk_at dksJ2_ensureCapacityInternal_1 14 rfl rfl)
abbrev cJ2_newCapacity : ByteArray := prog_22_method_10_code
def yJ2_newCapacity : MethodName := ⟨RJ2, "newCapacity", "(I)I"⟩
def dkwJ2_newCapacity_2 : List UInt8 := [183, 0, 124, 191, 21, 5, 42, 180, 0, 22, 122, 172]
abbrev dktJ2_newCapacity_2 : List UInt8 := dkwJ2_newCapacity_2 ++ []
def dkwJ2_newCapacity_1 : List UInt8 := [180, 0, 22, 120, 96, 184, 0, 114, 54, 5, 21, 5, 18, 39, 160, 0, 13, 187, 0, 120, 89, 18, 122]
abbrev dktJ2_newCapacity_1 : List UInt8 := dkwJ2_newCapacity_1 ++ dktJ2_newCapacity_2
def dkwJ2_newCapacity_0 : List UInt8 := [42, 180, 0, 15, 190, 61, 27, 42, 180, 0, 22, 120, 62, 29, 28, 100, 54, 4, 28, 21, 4, 28, 5, 42]
abbrev dktJ2_newCapacity_0 : List UInt8 := dkwJ2_newCapacity_0 ++ dktJ2_newCapacity_1
theorem dksJ2_newCapacity_0 : cJ2_newCapacity.data.toList.drop 0 = dktJ2_newCapacity_0 := by decide +kernel
theorem dksJ2_newCapacity_1 : cJ2_newCapacity.data.toList.drop 24 = dktJ2_newCapacity_1 := dk_seg dksJ2_newCapacity_0 24 rfl rfl
theorem dksJ2_newCapacity_2 : cJ2_newCapacity.data.toList.drop 47 = dktJ2_newCapacity_2 := dk_seg dksJ2_newCapacity_1 23 rfl rfl
theorem dJ2_newCapacity_0 : decode cJ2_newCapacity 0 = .ok (.aload_n 0, 1) := dk_42 (dk_at dksJ2_newCapacity_0 0 rfl rfl)
theorem dJ2_newCapacity_1 : decode cJ2_newCapacity 1 = .ok (.getfield 15, 3) := dk_180 0 15 (dk_at dksJ2_newCapacity_0 1 rfl rfl)
theorem dJ2_newCapacity_4 : decode cJ2_newCapacity 4 = .ok (.arraylength, 1) := dk_190 (dk_at dksJ2_newCapacity_0 4 rfl rfl)
theorem dJ2_newCapacity_5 : decode cJ2_newCapacity 5 = .ok (.istore_n 2, 1) := dk_61 (dk_at dksJ2_newCapacity_0 5 rfl rfl)
theorem dJ2_newCapacity_6 : decode cJ2_newCapacity 6 = .ok (.iload_n 1, 1) := dk_27 (dk_at dksJ2_newCapacity_0 6 rfl rfl)
theorem dJ2_newCapacity_7 : decode cJ2_newCapacity 7 = .ok (.aload_n 0, 1) := dk_42 (dk_at dksJ2_newCapacity_0 7 rfl rfl)
theorem dJ2_newCapacity_8 : decode cJ2_newCapacity 8 = .ok (.getfield 22, 3) := dk_180 0 22 (dk_at dksJ2_newCapacity_0 8 rfl rfl)
theorem dJ2_newCapacity_11 : decode cJ2_newCapacity 11 = .ok (.ishl, 1) := dk_120 (dk_at dksJ2_newCapacity_0 11 rfl rfl)
theorem dJ2_newCapacity_12 : decode cJ2_newCapacity 12 = .ok (.istore_n 3, 1) := dk_62 (dk_at dksJ2_newCapacity_0 12 rfl rfl)
theorem dJ2_newCapacity_13 : decode cJ2_newCapacity 13 = .ok (.iload_n 3, 1) := dk_29 (dk_at dksJ2_newCapacity_0 13 rfl rfl)
theorem dJ2_newCapacity_14 : decode cJ2_newCapacity 14 = .ok (.iload_n 2, 1) := dk_28 (dk_at dksJ2_newCapacity_0 14 rfl rfl)
theorem dJ2_newCapacity_15 : decode cJ2_newCapacity 15 = .ok (.isub, 1) := dk_100 (dk_at dksJ2_newCapacity_0 15 rfl rfl)
theorem dJ2_newCapacity_16 : decode cJ2_newCapacity 16 = .ok (.istore 4, 2) := dk_54 4 (dk_at dksJ2_newCapacity_0 16 rfl rfl)
theorem dJ2_newCapacity_18 : decode cJ2_newCapacity 18 = .ok (.iload_n 2, 1) := dk_28 (dk_at dksJ2_newCapacity_0 18 rfl rfl)
theorem dJ2_newCapacity_19 : decode cJ2_newCapacity 19 = .ok (.iload 4, 2) := dk_21 4 (dk_at dksJ2_newCapacity_0 19 rfl rfl)
theorem dJ2_newCapacity_21 : decode cJ2_newCapacity 21 = .ok (.iload_n 2, 1) := dk_28 (dk_at dksJ2_newCapacity_0 21 rfl rfl)
theorem dJ2_newCapacity_22 : decode cJ2_newCapacity 22 = .ok (.iconst 2, 1) := dk_5 (dk_at dksJ2_newCapacity_0 22 rfl rfl)
theorem dJ2_newCapacity_23 : decode cJ2_newCapacity 23 = .ok (.aload_n 0, 1) := dk_42 (dk_at dksJ2_newCapacity_0 23 rfl rfl)
theorem dJ2_newCapacity_24 : decode cJ2_newCapacity 24 = .ok (.getfield 22, 3) := dk_180 0 22 (dk_at dksJ2_newCapacity_1 0 rfl rfl)
theorem dJ2_newCapacity_27 : decode cJ2_newCapacity 27 = .ok (.ishl, 1) := dk_120 (dk_at dksJ2_newCapacity_1 3 rfl rfl)
theorem dJ2_newCapacity_28 : decode cJ2_newCapacity 28 = .ok (.iadd, 1) := dk_96 (dk_at dksJ2_newCapacity_1 4 rfl rfl)
theorem dJ2_newCapacity_29 : decode cJ2_newCapacity 29 = .ok (.invokestatic 114, 3) := dk_184 0 114 (dk_at dksJ2_newCapacity_1 5 rfl rfl)
theorem dJ2_newCapacity_32 : decode cJ2_newCapacity 32 = .ok (.istore 5, 2) := dk_54 5 (dk_at dksJ2_newCapacity_1 8 rfl rfl)
theorem dJ2_newCapacity_34 : decode cJ2_newCapacity 34 = .ok (.iload 5, 2) := dk_21 5 (dk_at dksJ2_newCapacity_1 10 rfl rfl)
theorem dJ2_newCapacity_36 : decode cJ2_newCapacity 36 = .ok (.ldc 39, 2) := dk_18 39 (dk_at dksJ2_newCapacity_1 12 rfl rfl)
theorem dJ2_newCapacity_38 : decode cJ2_newCapacity 38 = .ok (.if_icmp .ne 13, 3) := dk_160 0 13 (dk_at dksJ2_newCapacity_1 14 rfl rfl)
theorem dJ2_newCapacity_41 : decode cJ2_newCapacity 41 = .ok (.new 120, 3) := dk_187 0 120 (dk_at dksJ2_newCapacity_1 17 rfl rfl)
theorem dJ2_newCapacity_51 : decode cJ2_newCapacity 51 = .ok (.iload 5, 2) := dk_21 5 (dk_at dksJ2_newCapacity_2 4 rfl rfl)
theorem dJ2_newCapacity_53 : decode cJ2_newCapacity 53 = .ok (.aload_n 0, 1) := dk_42 (dk_at dksJ2_newCapacity_2 6 rfl rfl)
theorem dJ2_newCapacity_54 : decode cJ2_newCapacity 54 = .ok (.getfield 22, 3) := dk_180 0 22 (dk_at dksJ2_newCapacity_2 7 rfl rfl)
theorem dJ2_newCapacity_57 : decode cJ2_newCapacity 57 = .ok (.ishr, 1) := dk_122 (dk_at dksJ2_newCapacity_2 10 rfl rfl)
theorem dJ2_newCapacity_58 : decode cJ2_newCapacity 58 = .ok (.ireturn, 1) := dk_172 (dk_at dksJ2_newCapacity_2 11 rfl rfl)
abbrev cJ2_isLatin1 : ByteArray := prog_22_method_68_code
def yJ2_isLatin1 : MethodName := ⟨RJ2, "isLatin1", "()Z"⟩
def dkwJ2_isLatin1_0 : List UInt8 := [178, 0, 18, 153, 0, 14, 42, 180, 0, 22, 154, 0, 7, 4, 167, 0, 4, 3, 172]
abbrev dktJ2_isLatin1_0 : List UInt8 := dkwJ2_isLatin1_0 ++ []
theorem dksJ2_isLatin1_0 : cJ2_isLatin1.data.toList.drop 0 = dktJ2_isLatin1_0 := by decide +kernel
theorem dJ2_isLatin1_0 : decode cJ2_isLatin1 0 = .ok (.getstatic 18, 3) := dk_178 0 18 (dk_at dksJ2_isLatin1_0 0 rfl rfl)
theorem dJ2_isLatin1_3 : decode cJ2_isLatin1 3 = .ok (.ifCond .eq 14, 3) := dk_153 0 14 (dk_at dksJ2_isLatin1_0 3 rfl rfl)
theorem dJ2_isLatin1_6 : decode cJ2_isLatin1 6 = .ok (.aload_n 0, 1) := dk_42 (dk_at dksJ2_isLatin1_0 6 rfl rfl)
theorem dJ2_isLatin1_7 : decode cJ2_isLatin1 7 = .ok (.getfield 22, 3) := dk_180 0 22 (dk_at dksJ2_isLatin1_0 7 rfl rfl)
theorem dJ2_isLatin1_10 : decode cJ2_isLatin1 10 = .ok (.ifCond .ne 7, 3) := dk_154 0 7 (dk_at dksJ2_isLatin1_0 10 rfl rfl)
theorem dJ2_isLatin1_13 : decode cJ2_isLatin1 13 = .ok (.iconst 1, 1) := dk_4 (dk_at dksJ2_isLatin1_0 13 rfl rfl)
theorem dJ2_isLatin1_14 : decode cJ2_isLatin1 14 = .ok (.goto 4, 3) := dk_167 0 4 (dk_at dksJ2_isLatin1_0 14 rfl rfl)
theorem dJ2_isLatin1_17 : decode cJ2_isLatin1 17 = .ok (.iconst 0, 1) := dk_3 (dk_at dksJ2_isLatin1_0 17 rfl rfl)
theorem dJ2_isLatin1_18 : decode cJ2_isLatin1 18 = .ok (.ireturn, 1) := dk_172 (dk_at dksJ2_isLatin1_0 18 rfl rfl)
abbrev cJ2_getValue : ByteArray := prog_22_method_64_code
def yJ2_getValue : MethodName := ⟨RJ2, "getValue", "()[B"⟩
theorem dJ2_getValue_0 : decode cJ2_getValue 0 = .ok (.aload_n 0, 1) := by decide +kernel
theorem dJ2_getValue_1 : decode cJ2_getValue 1 = .ok (.getfield 15, 3) := by decide +kernel
theorem dJ2_getValue_4 : decode cJ2_getValue 4 = .ok (.areturn, 1) := by decide +kernel
abbrev cJ2_length : ByteArray := prog_22_method_6_code
def yJ2_length : MethodName := ⟨RJ2, "length", "()I"⟩
theorem dJ2_length_0 : decode cJ2_length 0 = .ok (.aload_n 0, 1) := by decide +kernel
theorem dJ2_length_1 : decode cJ2_length 1 = .ok (.getfield 79, 3) := by decide +kernel
theorem dJ2_length_4 : decode cJ2_length 4 = .ok (.ireturn, 1) := by decide +kernel
abbrev cJ2_append_2 : ByteArray := prog_22_method_32_code
def yJ2_append_2 : MethodName := ⟨RJ2, "append", "(I)Ljava/lang/AbstractStringBuilder;"⟩
def dkwJ2_append_2_2 : List UInt8 := [42, 29, 181, 0, 79, 42, 176]
abbrev dktJ2_append_2_2 : List UInt8 := dkwJ2_append_2_2 ++ []
def dkwJ2_append_2_1 : List UInt8 := [27, 29, 42, 180, 0, 15, 184, 0, 248, 87, 167, 0, 14, 27, 28, 29, 42, 180, 0, 15, 184, 0, 251, 87]
abbrev dktJ2_append_2_1 : List UInt8 := dkwJ2_append_2_1 ++ dktJ2_append_2_2
def dkwJ2_append_2_0 : List UInt8 := [42, 180, 0, 79, 61, 28, 27, 184, 0, 245, 96, 62, 42, 29, 182, 0, 100, 42, 182, 0, 83, 153, 0, 16]
abbrev dktJ2_append_2_0 : List UInt8 := dkwJ2_append_2_0 ++ dktJ2_append_2_1
theorem dksJ2_append_2_0 : cJ2_append_2.data.toList.drop 0 = dktJ2_append_2_0 := by decide +kernel
theorem dksJ2_append_2_1 : cJ2_append_2.data.toList.drop 24 = dktJ2_append_2_1 := dk_seg dksJ2_append_2_0 24 rfl rfl
theorem dksJ2_append_2_2 : cJ2_append_2.data.toList.drop 48 = dktJ2_append_2_2 := dk_seg dksJ2_append_2_1 24 rfl rfl
theorem dJ2_append_2_0 : decode cJ2_append_2 0 = .ok (.aload_n 0, 1) := dk_42 (dk_at dksJ2_append_2_0 0 rfl rfl)
theorem dJ2_append_2_1 : decode cJ2_append_2 1 = .ok (.getfield 79, 3) := dk_180 0 79 (dk_at dksJ2_append_2_0 1 rfl rfl)
theorem dJ2_append_2_4 : decode cJ2_append_2 4 = .ok (.istore_n 2, 1) := dk_61 (dk_at dksJ2_append_2_0 4 rfl rfl)
theorem dJ2_append_2_5 : decode cJ2_append_2 5 = .ok (.iload_n 2, 1) := dk_28 (dk_at dksJ2_append_2_0 5 rfl rfl)
theorem dJ2_append_2_6 : decode cJ2_append_2 6 = .ok (.iload_n 1, 1) := dk_27 (dk_at dksJ2_append_2_0 6 rfl rfl)
theorem dJ2_append_2_7 : decode cJ2_append_2 7 = .ok (.invokestatic 245, 3) := dk_184 0 245 (dk_at dksJ2_append_2_0 7 rfl rfl)
theorem dJ2_append_2_10 : decode cJ2_append_2 10 = .ok (.iadd, 1) := dk_96 (dk_at dksJ2_append_2_0 10 rfl rfl)
theorem dJ2_append_2_11 : decode cJ2_append_2 11 = .ok (.istore_n 3, 1) := dk_62 (dk_at dksJ2_append_2_0 11 rfl rfl)
theorem dJ2_append_2_12 : decode cJ2_append_2 12 = .ok (.aload_n 0, 1) := dk_42 (dk_at dksJ2_append_2_0 12 rfl rfl)
theorem dJ2_append_2_13 : decode cJ2_append_2 13 = .ok (.iload_n 3, 1) := dk_29 (dk_at dksJ2_append_2_0 13 rfl rfl)
theorem dJ2_append_2_14 : decode cJ2_append_2 14 = .ok (.invokevirtual 100, 3) := dk_182 0 100 (dk_at dksJ2_append_2_0 14 rfl rfl)
theorem dJ2_append_2_17 : decode cJ2_append_2 17 = .ok (.aload_n 0, 1) := dk_42 (dk_at dksJ2_append_2_0 17 rfl rfl)
theorem dJ2_append_2_18 : decode cJ2_append_2 18 = .ok (.invokevirtual 83, 3) := dk_182 0 83 (dk_at dksJ2_append_2_0 18 rfl rfl)
theorem dJ2_append_2_21 : decode cJ2_append_2 21 = .ok (.ifCond .eq 16, 3) := dk_153 0 16 (dk_at dksJ2_append_2_0 21 rfl rfl)
theorem dJ2_append_2_24 : decode cJ2_append_2 24 = .ok (.iload_n 1, 1) := dk_27 (dk_at dksJ2_append_2_1 0 rfl rfl)
theorem dJ2_append_2_25 : decode cJ2_append_2 25 = .ok (.iload_n 3, 1) := dk_29 (dk_at dksJ2_append_2_1 1 rfl rfl)
theorem dJ2_append_2_26 : decode cJ2_append_2 26 = .ok (.aload_n 0, 1) := dk_42 (dk_at dksJ2_append_2_1 2 rfl rfl)
theorem dJ2_append_2_27 : decode cJ2_append_2 27 = .ok (.getfield 15, 3) := dk_180 0 15 (dk_at dksJ2_append_2_1 3 rfl rfl)
theorem dJ2_append_2_30 : decode cJ2_append_2 30 = .ok (.invokestatic 248, 3) := dk_184 0 248 (dk_at dksJ2_append_2_1 6 rfl rfl)
theorem dJ2_append_2_33 : decode cJ2_append_2 33 = .ok (.pop, 1) := dk_87 (dk_at dksJ2_append_2_1 9 rfl rfl)
theorem dJ2_append_2_34 : decode cJ2_append_2 34 = .ok (.goto 14, 3) := dk_167 0 14 (dk_at dksJ2_append_2_1 10 rfl rfl)
theorem dJ2_append_2_37 : decode cJ2_append_2 37 = .ok (.iload_n 1, 1) := dk_27 (dk_at dksJ2_append_2_1 13 rfl rfl)
theorem dJ2_append_2_48 : decode cJ2_append_2 48 = .ok (.aload_n 0, 1) := dk_42 (dk_at dksJ2_append_2_2 0 rfl rfl)
theorem dJ2_append_2_49 : decode cJ2_append_2 49 = .ok (.iload_n 3, 1) := dk_29 (dk_at dksJ2_append_2_2 1 rfl rfl)
theorem dJ2_append_2_50 : decode cJ2_append_2 50 = .ok (.putfield 79, 3) := dk_181 0 79 (dk_at dksJ2_append_2_2 2 rfl rfl)
theorem dJ2_append_2_53 : decode cJ2_append_2 53 = .ok (.aload_n 0, 1) := dk_42 (dk_at dksJ2_append_2_2 5 rfl rfl)
theorem dJ2_append_2_54 : decode cJ2_append_2 54 = .ok (.areturn, 1) := dk_176 (dk_at dksJ2_append_2_2 6 rfl rfl)
abbrev cJ2_append_3 : ByteArray := prog_22_method_22_code
def yJ2_append_3 : MethodName := ⟨RJ2, "append", "(Ljava/lang/String;)Ljava/lang/AbstractStringBuilder;"⟩
def dkwJ2_append_3_1 : List UInt8 := [42, 42, 180, 0, 79, 43, 182, 0, 208, 42, 89, 180, 0, 79, 28, 96, 181, 0, 79, 42, 176]
abbrev dktJ2_append_3_1 : List UInt8 := dkwJ2_append_3_1 ++ []
def dkwJ2_append_3_0 : List UInt8 := [43, 199, 0, 8, 42, 182, 0, 204, 176, 43, 182, 0, 32, 61, 42, 42, 180, 0, 79, 28, 96, 182, 0, 100]
abbrev dktJ2_append_3_0 : List UInt8 := dkwJ2_append_3_0 ++ dktJ2_append_3_1
theorem dksJ2_append_3_0 : cJ2_append_3.data.toList.drop 0 = dktJ2_append_3_0 := by decide +kernel
theorem dksJ2_append_3_1 : cJ2_append_3.data.toList.drop 24 = dktJ2_append_3_1 := dk_seg dksJ2_append_3_0 24 rfl rfl
theorem dJ2_append_3_0 : decode cJ2_append_3 0 = .ok (.aload_n 1, 1) := dk_43 (dk_at dksJ2_append_3_0 0 rfl rfl)
theorem dJ2_append_3_1 : decode cJ2_append_3 1 = .ok (.ifnonnull 8, 3) := dk_199 0 8 (dk_at dksJ2_append_3_0 1 rfl rfl)
theorem dJ2_append_3_4 : decode cJ2_append_3 4 = .ok (.aload_n 0, 1) := dk_42 (dk_at dksJ2_append_3_0 4 rfl rfl)
theorem dJ2_append_3_9 : decode cJ2_append_3 9 = .ok (.aload_n 1, 1) := dk_43 (dk_at dksJ2_append_3_0 9 rfl rfl)
theorem dJ2_append_3_10 : decode cJ2_append_3 10 = .ok (.invokevirtual 32, 3) := dk_182 0 32 (dk_at dksJ2_append_3_0 10 rfl rfl)
theorem dJ2_append_3_13 : decode cJ2_append_3 13 = .ok (.istore_n 2, 1) := dk_61 (dk_at dksJ2_append_3_0 13 rfl rfl)
theorem dJ2_append_3_14 : decode cJ2_append_3 14 = .ok (.aload_n 0, 1) := dk_42 (dk_at dksJ2_append_3_0 14 rfl rfl)
theorem dJ2_append_3_15 : decode cJ2_append_3 15 = .ok (.aload_n 0, 1) := dk_42 (dk_at dksJ2_append_3_0 15 rfl rfl)
theorem dJ2_append_3_16 : decode cJ2_append_3 16 = .ok (.getfield 79, 3) := dk_180 0 79 (dk_at dksJ2_append_3_0 16 rfl rfl)
theorem dJ2_append_3_19 : decode cJ2_append_3 19 = .ok (.iload_n 2, 1) := dk_28 (dk_at dksJ2_append_3_0 19 rfl rfl)
theorem dJ2_append_3_20 : decode cJ2_append_3 20 = .ok (.iadd, 1) := dk_96 (dk_at dksJ2_append_3_0 20 rfl rfl)
theorem dJ2_append_3_21 : decode cJ2_append_3 21 = .ok (.invokevirtual 100, 3) := dk_182 0 100 (dk_at dksJ2_append_3_0 21 rfl rfl)
theorem dJ2_append_3_24 : decode cJ2_append_3 24 = .ok (.aload_n 0, 1) := dk_42 (dk_at dksJ2_append_3_1 0 rfl rfl)
theorem dJ2_append_3_25 : decode cJ2_append_3 25 = .ok (.aload_n 0, 1) := dk_42 (dk_at dksJ2_append_3_1 1 rfl rfl)
theorem dJ2_append_3_26 : decode cJ2_append_3 26 = .ok (.getfield 79, 3) := dk_180 0 79 (dk_at dksJ2_append_3_1 2 rfl rfl)
theorem dJ2_append_3_29 : decode cJ2_append_3 29 = .ok (.aload_n 1, 1) := dk_43 (dk_at dksJ2_append_3_1 5 rfl rfl)
theorem dJ2_append_3_30 : decode cJ2_append_3 30 = .ok (.invokevirtual 208, 3) := dk_182 0 208 (dk_at dksJ2_append_3_1 6 rfl rfl)
theorem dJ2_append_3_33 : decode cJ2_append_3 33 = .ok (.aload_n 0, 1) := dk_42 (dk_at dksJ2_append_3_1 9 rfl rfl)
theorem dJ2_append_3_34 : decode cJ2_append_3 34 = .ok (.dup, 1) := dk_89 (dk_at dksJ2_append_3_1 10 rfl rfl)
theorem dJ2_append_3_35 : decode cJ2_append_3 35 = .ok (.getfield 79, 3) := dk_180 0 79 (dk_at dksJ2_append_3_1 11 rfl rfl)
theorem dJ2_append_3_38 : decode cJ2_append_3 38 = .ok (.iload_n 2, 1) := dk_28 (dk_at dksJ2_append_3_1 14 rfl rfl)
theorem dJ2_append_3_39 : decode cJ2_append_3 39 = .ok (.iadd, 1) := dk_96 (dk_at dksJ2_append_3_1 15 rfl rfl)
theorem dJ2_append_3_40 : decode cJ2_append_3 40 = .ok (.putfield 79, 3) := dk_181 0 79 (dk_at dksJ2_append_3_1 16 rfl rfl)
theorem dJ2_append_3_43 : decode cJ2_append_3 43 = .ok (.aload_n 0, 1) := dk_42 (dk_at dksJ2_append_3_1 19 rfl rfl)
theorem dJ2_append_3_44 : decode cJ2_append_3 44 = .ok (.areturn, 1) := dk_176 (dk_at dksJ2_append_3_1 20 rfl rfl)
abbrev cJ2_putStringAt : ByteArray := prog_22_method_73_code
def yJ2_putStringAt : MethodName := ⟨RJ2, "putStringAt", "(ILjava/lang/String;)V"⟩
def dkwJ2_putStringAt_0 : List UInt8 := [42, 44, 182, 1, 141, 44, 42, 180, 0, 15, 27, 42, 180, 0, 22, 182, 1, 143, 177]
abbrev dktJ2_putStringAt_0 : List UInt8 := dkwJ2_putStringAt_0 ++ []
theorem dksJ2_putStringAt_0 : cJ2_putStringAt.data.toList.drop 0 = dktJ2_putStringAt_0 := by decide +kernel
theorem dJ2_putStringAt_0 : decode cJ2_putStringAt 0 = .ok (.aload_n 0, 1) := dk_42 (dk_at dksJ2_putStringAt_0 0 rfl rfl)
theorem dJ2_putStringAt_1 : decode cJ2_putStringAt 1 = .ok (.aload_n 2, 1) := dk_44 (dk_at dksJ2_putStringAt_0 1 rfl rfl)
theorem dJ2_putStringAt_2 : decode cJ2_putStringAt 2 = .ok (.invokevirtual 397, 3) := dk_182 1 141 (dk_at dksJ2_putStringAt_0 2 rfl rfl)
theorem dJ2_putStringAt_5 : decode cJ2_putStringAt 5 = .ok (.aload_n 2, 1) := dk_44 (dk_at dksJ2_putStringAt_0 5 rfl rfl)
theorem dJ2_putStringAt_6 : decode cJ2_putStringAt 6 = .ok (.aload_n 0, 1) := dk_42 (dk_at dksJ2_putStringAt_0 6 rfl rfl)
theorem dJ2_putStringAt_7 : decode cJ2_putStringAt 7 = .ok (.getfield 15, 3) := dk_180 0 15 (dk_at dksJ2_putStringAt_0 7 rfl rfl)
theorem dJ2_putStringAt_10 : decode cJ2_putStringAt 10 = .ok (.iload_n 1, 1) := dk_27 (dk_at dksJ2_putStringAt_0 10 rfl rfl)
theorem dJ2_putStringAt_11 : decode cJ2_putStringAt 11 = .ok (.aload_n 0, 1) := dk_42 (dk_at dksJ2_putStringAt_0 11 rfl rfl)
theorem dJ2_putStringAt_12 : decode cJ2_putStringAt 12 = .ok (.getfield 22, 3) := dk_180 0 22 (dk_at dksJ2_putStringAt_0 12 rfl rfl)
theorem dJ2_putStringAt_15 : decode cJ2_putStringAt 15 = .ok (.invokevirtual 399, 3) := dk_182 1 143 (dk_at dksJ2_putStringAt_0 15 rfl rfl)
theorem dJ2_putStringAt_18 : decode cJ2_putStringAt 18 = .ok (.return_, 1) := dk_177 (dk_at dksJ2_putStringAt_0 18 rfl rfl)
abbrev cJ2_inflateIfNeededFor : ByteArray := prog_22_method_71_code
def yJ2_inflateIfNeededFor : MethodName := ⟨RJ2, "inflateIfNeededFor", "(Ljava/lang/String;)V"⟩
def dkwJ2_inflateIfNeededFor_0 : List UInt8 := [178, 0, 18, 153, 0, 18, 42, 180, 0, 22, 43, 182, 0, 40, 159, 0, 7, 42, 182, 0, 195, 177]
abbrev dktJ2_inflateIfNeededFor_0 : List UInt8 := dkwJ2_inflateIfNeededFor_0 ++ []
theorem dksJ2_inflateIfNeededFor_0 : cJ2_inflateIfNeededFor.data.toList.drop 0 = dktJ2_inflateIfNeededFor_0 := by decide +kernel
theorem dJ2_inflateIfNeededFor_0 : decode cJ2_inflateIfNeededFor 0 = .ok (.getstatic 18, 3) := dk_178 0 18 (dk_at dksJ2_inflateIfNeededFor_0 0 rfl rfl)
theorem dJ2_inflateIfNeededFor_3 : decode cJ2_inflateIfNeededFor 3 = .ok (.ifCond .eq 18, 3) := dk_153 0 18 (dk_at dksJ2_inflateIfNeededFor_0 3 rfl rfl)
theorem dJ2_inflateIfNeededFor_6 : decode cJ2_inflateIfNeededFor 6 = .ok (.aload_n 0, 1) := dk_42 (dk_at dksJ2_inflateIfNeededFor_0 6 rfl rfl)
theorem dJ2_inflateIfNeededFor_7 : decode cJ2_inflateIfNeededFor 7 = .ok (.getfield 22, 3) := dk_180 0 22 (dk_at dksJ2_inflateIfNeededFor_0 7 rfl rfl)
theorem dJ2_inflateIfNeededFor_10 : decode cJ2_inflateIfNeededFor 10 = .ok (.aload_n 1, 1) := dk_43 (dk_at dksJ2_inflateIfNeededFor_0 10 rfl rfl)
theorem dJ2_inflateIfNeededFor_11 : decode cJ2_inflateIfNeededFor 11 = .ok (.invokevirtual 40, 3) := dk_182 0 40 (dk_at dksJ2_inflateIfNeededFor_0 11 rfl rfl)
theorem dJ2_inflateIfNeededFor_14 : decode cJ2_inflateIfNeededFor 14 = .ok (.if_icmp .eq 7, 3) := dk_159 0 7 (dk_at dksJ2_inflateIfNeededFor_0 14 rfl rfl)
theorem dJ2_inflateIfNeededFor_17 : decode cJ2_inflateIfNeededFor 17 = .ok (.aload_n 0, 1) := dk_42 (dk_at dksJ2_inflateIfNeededFor_0 17 rfl rfl)
theorem dJ2_inflateIfNeededFor_21 : decode cJ2_inflateIfNeededFor 21 = .ok (.return_, 1) := dk_177 (dk_at dksJ2_inflateIfNeededFor_0 21 rfl rfl)
abbrev cJ2_charAt : ByteArray := prog_22_method_14_code
def yJ2_charAt : MethodName := ⟨RJ2, "charAt", "(I)C"⟩
def dkwJ2_charAt_1 : List UInt8 := [21, 4, 184, 0, 144, 28, 154, 0, 12, 45, 27, 51, 17, 0, 255, 126, 146, 172, 45, 27, 184, 0, 148, 172]
abbrev dktJ2_charAt_1 : List UInt8 := dkwJ2_charAt_1 ++ []
def dkwJ2_charAt_0 : List UInt8 := [42, 180, 0, 22, 61, 42, 180, 0, 15, 78, 42, 180, 0, 79, 45, 190, 28, 122, 184, 0, 138, 54, 4, 27]
abbrev dktJ2_charAt_0 : List UInt8 := dkwJ2_charAt_0 ++ dktJ2_charAt_1
theorem dksJ2_charAt_0 : cJ2_charAt.data.toList.drop 0 = dktJ2_charAt_0 := by decide +kernel
theorem dksJ2_charAt_1 : cJ2_charAt.data.toList.drop 24 = dktJ2_charAt_1 := dk_seg dksJ2_charAt_0 24 rfl rfl
theorem dJ2_charAt_0 : decode cJ2_charAt 0 = .ok (.aload_n 0, 1) := dk_42 (dk_at dksJ2_charAt_0 0 rfl rfl)
theorem dJ2_charAt_1 : decode cJ2_charAt 1 = .ok (.getfield 22, 3) := dk_180 0 22 (dk_at dksJ2_charAt_0 1 rfl rfl)
theorem dJ2_charAt_4 : decode cJ2_charAt 4 = .ok (.istore_n 2, 1) := dk_61 (dk_at dksJ2_charAt_0 4 rfl rfl)
theorem dJ2_charAt_5 : decode cJ2_charAt 5 = .ok (.aload_n 0, 1) := dk_42 (dk_at dksJ2_charAt_0 5 rfl rfl)
theorem dJ2_charAt_6 : decode cJ2_charAt 6 = .ok (.getfield 15, 3) := dk_180 0 15 (dk_at dksJ2_charAt_0 6 rfl rfl)
theorem dJ2_charAt_9 : decode cJ2_charAt 9 = .ok (.astore_n 3, 1) := dk_78 (dk_at dksJ2_charAt_0 9 rfl rfl)
theorem dJ2_charAt_10 : decode cJ2_charAt 10 = .ok (.aload_n 0, 1) := dk_42 (dk_at dksJ2_charAt_0 10 rfl rfl)
theorem dJ2_charAt_11 : decode cJ2_charAt 11 = .ok (.getfield 79, 3) := dk_180 0 79 (dk_at dksJ2_charAt_0 11 rfl rfl)
theorem dJ2_charAt_14 : decode cJ2_charAt 14 = .ok (.aload_n 3, 1) := dk_45 (dk_at dksJ2_charAt_0 14 rfl rfl)
theorem dJ2_charAt_15 : decode cJ2_charAt 15 = .ok (.arraylength, 1) := dk_190 (dk_at dksJ2_charAt_0 15 rfl rfl)
theorem dJ2_charAt_16 : decode cJ2_charAt 16 = .ok (.iload_n 2, 1) := dk_28 (dk_at dksJ2_charAt_0 16 rfl rfl)
theorem dJ2_charAt_17 : decode cJ2_charAt 17 = .ok (.ishr, 1) := dk_122 (dk_at dksJ2_charAt_0 17 rfl rfl)
theorem dJ2_charAt_18 : decode cJ2_charAt 18 = .ok (.invokestatic 138, 3) := dk_184 0 138 (dk_at dksJ2_charAt_0 18 rfl rfl)
theorem dJ2_charAt_21 : decode cJ2_charAt 21 = .ok (.istore 4, 2) := dk_54 4 (dk_at dksJ2_charAt_0 21 rfl rfl)
theorem dJ2_charAt_23 : decode cJ2_charAt 23 = .ok (.iload_n 1, 1) := dk_27 (dk_at dksJ2_charAt_0 23 rfl rfl)
theorem dJ2_charAt_24 : decode cJ2_charAt 24 = .ok (.iload 4, 2) := dk_21 4 (dk_at dksJ2_charAt_1 0 rfl rfl)
theorem dJ2_charAt_26 : decode cJ2_charAt 26 = .ok (.invokestatic 144, 3) := dk_184 0 144 (dk_at dksJ2_charAt_1 2 rfl rfl)
theorem dJ2_charAt_29 : decode cJ2_charAt 29 = .ok (.iload_n 2, 1) := dk_28 (dk_at dksJ2_charAt_1 5 rfl rfl)
theorem dJ2_charAt_30 : decode cJ2_charAt 30 = .ok (.ifCond .ne 12, 3) := dk_154 0 12 (dk_at dksJ2_charAt_1 6 rfl rfl)
theorem dJ2_charAt_33 : decode cJ2_charAt 33 = .ok (.aload_n 3, 1) := dk_45 (dk_at dksJ2_charAt_1 9 rfl rfl)
theorem dJ2_charAt_34 : decode cJ2_charAt 34 = .ok (.iload_n 1, 1) := dk_27 (dk_at dksJ2_charAt_1 10 rfl rfl)
theorem dJ2_charAt_35 : decode cJ2_charAt 35 = .ok (.baload, 1) := dk_51 (dk_at dksJ2_charAt_1 11 rfl rfl)
theorem dJ2_charAt_36 : decode cJ2_charAt 36 = .ok (.sipush 255, 3) := dk_17 0 255 (dk_at dksJ2_charAt_1 12 rfl rfl)
theorem dJ2_charAt_39 : decode cJ2_charAt 39 = .ok (.iand, 1) := dk_126 (dk_at dksJ2_charAt_1 15 rfl rfl)
theorem dJ2_charAt_40 : decode cJ2_charAt 40 = .ok (.i2c, 1) := dk_146 (dk_at dksJ2_charAt_1 16 rfl rfl)
theorem dJ2_charAt_41 : decode cJ2_charAt 41 = .ok (.ireturn, 1) := dk_172 (dk_at dksJ2_charAt_1 17 rfl rfl)
theorem dJ2_charAt_42 : decode cJ2_charAt 42 = .ok (.aload_n 3, 1) := dk_45 (dk_at dksJ2_charAt_1 18 rfl rfl)
abbrev cJ2_setLength : ByteArray := prog_22_method_13_code
def yJ2_setLength : MethodName := ⟨RJ2, "setLength", "(I)V"⟩
def dkwJ2_setLength_3 : List UInt8 := [164, 0, 8, 42, 4, 181, 0, 73, 42, 27, 181, 0, 79, 177]
abbrev dktJ2_setLength_3 : List UInt8 := dkwJ2_setLength_3 ++ []
def dkwJ2_setLength_2 : List UInt8 := [167, 0, 31, 42, 180, 0, 15, 42, 180, 0, 79, 27, 184, 0, 137, 167, 0, 16, 42, 180, 0, 79, 27]
abbrev dktJ2_setLength_2 : List UInt8 := dkwJ2_setLength_2 ++ dktJ2_setLength_3
def dkwJ2_setLength_1 : List UInt8 := [162, 0, 40, 42, 182, 0, 83, 153, 0, 18, 42, 180, 0, 15, 42, 180, 0, 79, 27, 184, 0, 133]
abbrev dktJ2_setLength_1 : List UInt8 := dkwJ2_setLength_1 ++ dktJ2_setLength_2
def dkwJ2_setLength_0 : List UInt8 := [27, 156, 0, 12, 187, 0, 129, 89, 27, 183, 0, 131, 191, 42, 27, 182, 0, 100, 42, 180, 0, 79, 27]
abbrev dktJ2_setLength_0 : List UInt8 := dkwJ2_setLength_0 ++ dktJ2_setLength_1
theorem dksJ2_setLength_0 : cJ2_setLength.data.toList.drop 0 = dktJ2_setLength_0 := by decide +kernel
theorem dksJ2_setLength_1 : cJ2_setLength.data.toList.drop 23 = dktJ2_setLength_1 := dk_seg dksJ2_setLength_0 23 rfl rfl
theorem dksJ2_setLength_2 : cJ2_setLength.data.toList.drop 45 = dktJ2_setLength_2 := dk_seg dksJ2_setLength_1 22 rfl rfl
theorem dksJ2_setLength_3 : cJ2_setLength.data.toList.drop 68 = dktJ2_setLength_3 := dk_seg dksJ2_setLength_2 23 rfl rfl
theorem dJ2_setLength_0 : decode cJ2_setLength 0 = .ok (.iload_n 1, 1) := dk_27 (dk_at dksJ2_setLength_0 0 rfl rfl)
theorem dJ2_setLength_1 : decode cJ2_setLength 1 = .ok (.ifCond .ge 12, 3) := dk_156 0 12 (dk_at dksJ2_setLength_0 1 rfl rfl)
theorem dJ2_setLength_4 : decode cJ2_setLength 4 = .ok (.new 129, 3) := dk_187 0 129 (dk_at dksJ2_setLength_0 4 rfl rfl)
theorem dJ2_setLength_13 : decode cJ2_setLength 13 = .ok (.aload_n 0, 1) := dk_42 (dk_at dksJ2_setLength_0 13 rfl rfl)
theorem dJ2_setLength_14 : decode cJ2_setLength 14 = .ok (.iload_n 1, 1) := dk_27 (dk_at dksJ2_setLength_0 14 rfl rfl)
theorem dJ2_setLength_15 : decode cJ2_setLength 15 = .ok (.invokevirtual 100, 3) := dk_182 0 100 (dk_at dksJ2_setLength_0 15 rfl rfl)
theorem dJ2_setLength_18 : decode cJ2_setLength 18 = .ok (.aload_n 0, 1) := dk_42 (dk_at dksJ2_setLength_0 18 rfl rfl)
theorem dJ2_setLength_19 : decode cJ2_setLength 19 = .ok (.getfield 79, 3) := dk_180 0 79 (dk_at dksJ2_setLength_0 19 rfl rfl)
theorem dJ2_setLength_22 : decode cJ2_setLength 22 = .ok (.iload_n 1, 1) := dk_27 (dk_at dksJ2_setLength_0 22 rfl rfl)
theorem dJ2_setLength_23 : decode cJ2_setLength 23 = .ok (.if_icmp .ge 40, 3) := dk_162 0 40 (dk_at dksJ2_setLength_1 0 rfl rfl)
theorem dJ2_setLength_26 : decode cJ2_setLength 26 = .ok (.aload_n 0, 1) := dk_42 (dk_at dksJ2_setLength_1 3 rfl rfl)
theorem dJ2_setLength_27 : decode cJ2_setLength 27 = .ok (.invokevirtual 83, 3) := dk_182 0 83 (dk_at dksJ2_setLength_1 4 rfl rfl)
theorem dJ2_setLength_30 : decode cJ2_setLength 30 = .ok (.ifCond .eq 18, 3) := dk_153 0 18 (dk_at dksJ2_setLength_1 7 rfl rfl)
theorem dJ2_setLength_33 : decode cJ2_setLength 33 = .ok (.aload_n 0, 1) := dk_42 (dk_at dksJ2_setLength_1 10 rfl rfl)
theorem dJ2_setLength_34 : decode cJ2_setLength 34 = .ok (.getfield 15, 3) := dk_180 0 15 (dk_at dksJ2_setLength_1 11 rfl rfl)
theorem dJ2_setLength_37 : decode cJ2_setLength 37 = .ok (.aload_n 0, 1) := dk_42 (dk_at dksJ2_setLength_1 14 rfl rfl)
theorem dJ2_setLength_38 : decode cJ2_setLength 38 = .ok (.getfield 79, 3) := dk_180 0 79 (dk_at dksJ2_setLength_1 15 rfl rfl)
theorem dJ2_setLength_41 : decode cJ2_setLength 41 = .ok (.iload_n 1, 1) := dk_27 (dk_at dksJ2_setLength_1 18 rfl rfl)
theorem dJ2_setLength_42 : decode cJ2_setLength 42 = .ok (.invokestatic 133, 3) := dk_184 0 133 (dk_at dksJ2_setLength_1 19 rfl rfl)
theorem dJ2_setLength_45 : decode cJ2_setLength 45 = .ok (.goto 31, 3) := dk_167 0 31 (dk_at dksJ2_setLength_2 0 rfl rfl)
theorem dJ2_setLength_48 : decode cJ2_setLength 48 = .ok (.aload_n 0, 1) := dk_42 (dk_at dksJ2_setLength_2 3 rfl rfl)
theorem dJ2_setLength_63 : decode cJ2_setLength 63 = .ok (.aload_n 0, 1) := dk_42 (dk_at dksJ2_setLength_2 18 rfl rfl)
theorem dJ2_setLength_64 : decode cJ2_setLength 64 = .ok (.getfield 79, 3) := dk_180 0 79 (dk_at dksJ2_setLength_2 19 rfl rfl)
theorem dJ2_setLength_67 : decode cJ2_setLength 67 = .ok (.iload_n 1, 1) := dk_27 (dk_at dksJ2_setLength_2 22 rfl rfl)
theorem dJ2_setLength_68 : decode cJ2_setLength 68 = .ok (.if_icmp .le 8, 3) := dk_164 0 8 (dk_at dksJ2_setLength_3 0 rfl rfl)
theorem dJ2_setLength_71 : decode cJ2_setLength 71 = .ok (.aload_n 0, 1) := dk_42 (dk_at dksJ2_setLength_3 3 rfl rfl)
theorem dJ2_setLength_72 : decode cJ2_setLength 72 = .ok (.iconst 1, 1) := dk_4 (dk_at dksJ2_setLength_3 4 rfl rfl)
theorem dJ2_setLength_73 : decode cJ2_setLength 73 = .ok (.putfield 73, 3) := dk_181 0 73 (dk_at dksJ2_setLength_3 5 rfl rfl)
theorem dJ2_setLength_76 : decode cJ2_setLength 76 = .ok (.aload_n 0, 1) := dk_42 (dk_at dksJ2_setLength_3 8 rfl rfl)
theorem dJ2_setLength_77 : decode cJ2_setLength 77 = .ok (.iload_n 1, 1) := dk_27 (dk_at dksJ2_setLength_3 9 rfl rfl)
theorem dJ2_setLength_78 : decode cJ2_setLength 78 = .ok (.putfield 79, 3) := dk_181 0 79 (dk_at dksJ2_setLength_3 10 rfl rfl)
theorem dJ2_setLength_81 : decode cJ2_setLength 81 = .ok (.return_, 1) := dk_177 (dk_at dksJ2_setLength_3 13 rfl rfl)
theorem q131 : (Jvm.Cond.initialized "java/lang/AbstractStringBuilder") ∈ lw_all := lw_g (lw_at lw_m1 4 rfl) rfl
theorem q241 : (Jvm.Cond.instanceMethod ({ cls := "java/lang/AbstractStringBuilder", name := "<init>", desc := "(I)V" } : Jvm.MethodName)) ∈ lw_all := lw_g (lw_at lw_m1 114 rfl) rfl
theorem q242 : (Jvm.Cond.code ({ cls := "java/lang/AbstractStringBuilder", name := "<init>", desc := "(I)V" } : Jvm.MethodName) prog_22_method_2_code (2 : Nat) (Option.none : Option Jvm.ClassFile.FieldType)) ∈ lw_all := lw_g (lw_at lw_m1 115 rfl) rfl
theorem q243 : (Jvm.Cond.methodLink "java/lang/AbstractStringBuilder" (3 : Nat) ({ cls := "java/lang/Object", name := "<init>", desc := "()V" } : Jvm.MethodName)) ∈ lw_all := lw_g (lw_at lw_m1 116 rfl) rfl
theorem q244 : (Jvm.Cond.fieldLink "java/lang/AbstractStringBuilder" (18 : Nat) "java/lang/String" "COMPACT_STRINGS" "Z") ∈ lw_all := lw_g (lw_at lw_m1 117 rfl) rfl
theorem q253 : (Jvm.Cond.fieldLink "java/lang/AbstractStringBuilder" (15 : Nat) "java/lang/AbstractStringBuilder" "value" "[B") ∈ lw_all := lw_g (lw_at lw_m1 126 rfl) rfl
theorem q254 : (Jvm.Cond.fieldLink "java/lang/AbstractStringBuilder" (22 : Nat) "java/lang/AbstractStringBuilder" "coder" "B") ∈ lw_all := lw_g (lw_at lw_m1 127 rfl) rfl
theorem q255 : (Jvm.Cond.fieldLink "java/lang/AbstractStringBuilder" (73 : Nat) "java/lang/AbstractStringBuilder" "maybeLatin1" "Z") ∈ lw_all := lw_g (lw_at lw_m1 128 rfl) rfl
theorem q257 : (Jvm.Cond.fieldLink "java/lang/AbstractStringBuilder" (79 : Nat) "java/lang/AbstractStringBuilder" "count" "I") ∈ lw_all := lw_g (lw_at lw_m1 130 rfl) rfl
theorem q624 : (Jvm.Cond.instanceMethod ({ cls := "java/lang/AbstractStringBuilder", name := "append", desc := "(C)Ljava/lang/AbstractStringBuilder;" } : Jvm.MethodName)) ∈ lw_all := lw_g (lw_at lw_m3 17 rfl) rfl
theorem q625 : (Jvm.Cond.code ({ cls := "java/lang/AbstractStringBuilder", name := "append", desc := "(C)Ljava/lang/AbstractStringBuilder;" } : Jvm.MethodName) prog_22_method_31_code (2 : Nat) (Option.some (Jvm.ClassFile.FieldType.object "java/lang/AbstractStringBuilder"))) ∈ lw_all := lw_g (lw_at lw_m3 18 rfl) rfl
theorem q626 : (Jvm.Cond.methodLink "java/lang/AbstractStringBuilder" (100 : Nat) ({ cls := "java/lang/AbstractStringBuilder", name := "ensureCapacityInternal", desc := "(I)V" } : Jvm.MethodName)) ∈ lw_all := lw_g (lw_at lw_m3 19 rfl) rfl
theorem q627 : (Jvm.Cond.privateMethod ({ cls := "java/lang/AbstractStringBuilder", name := "ensureCapacityInternal", desc := "(I)V" } : Jvm.MethodName)) ∈ lw_tbl := lw_at lw_m3 20 rfl
theorem q628 : (Jvm.Cond.instanceMethod ({ cls := "java/lang/AbstractStringBuilder", name := "ensureCapacityInternal", desc := "(I)V" } : Jvm.MethodName)) ∈ lw_all := lw_g (lw_at lw_m3 21 rfl) rfl
theorem q629 : (Jvm.Cond.code ({ cls := "java/lang/AbstractStringBuilder", name := "ensureCapacityInternal", desc := "(I)V" } : Jvm.MethodName) prog_22_method_9_code (3 : Nat) (Option.none : Option Jvm.ClassFile.FieldType)) ∈ lw_all := lw_g (lw_at lw_m3 22 rfl) rfl
theorem q630 : (Jvm.Cond.methodLink "java/lang/AbstractStringBuilder" (104 : Nat) ({ cls := "java/lang/AbstractStringBuilder", name := "newCapacity", desc := "(I)I" } : Jvm.MethodName)) ∈ lw_all := lw_g (lw_at lw_m3 23 rfl) rfl
theorem q631 : (Jvm.Cond.privateMethod ({ cls := "java/lang/AbstractStringBuilder", name := "newCapacity", desc := "(I)I" } : Jvm.MethodName)) ∈ lw_tbl := lw_at lw_m3 24 rfl
theorem q632 : (Jvm.Cond.instanceMethod ({ cls := "java/lang/AbstractStringBuilder", name := "newCapacity", desc := "(I)I" } : Jvm.MethodName)) ∈ lw_all := lw_g (lw_at lw_m3 25 rfl) rfl
theorem q633 : (Jvm.Cond.code ({ cls := "java/lang/AbstractStringBuilder", name := "newCapacity", desc := "(I)I" } : Jvm.MethodName) prog_22_method_10_code (6 : Nat) (Option.some Jvm.ClassFile.FieldType.int)) ∈ lw_all := lw_g (lw_at lw_m3 26 rfl) rfl
theorem q634 : (Jvm.Cond.methodLink "java/lang/AbstractStringBuilder" (114 : Nat) ({ cls := "jdk/internal/util/ArraysSupport", name := "newLength", desc := "(III)I" } : Jvm.MethodName)) ∈ lw_all := lw_g (lw_at lw_m3 27 rfl) rfl
theorem q644 : (Jvm.Cond.constant "java/lang/AbstractStringBuilder" (39 : Nat) (2147483647 : Int32)) ∈ lw_all := lw_g (lw_at lw_m3 37 rfl) rfl
theorem q645 : (Jvm.Cond.methodLink "java/lang/AbstractStringBuilder" (108 : Nat) ({ cls := "java/util/Arrays", name := "copyOf", desc := "([BI)[B" } : Jvm.MethodName)) ∈ lw_all := lw_g (lw_at lw_m3 38 rfl) rfl
theorem q661 : (Jvm.Cond.methodLink "java/lang/AbstractStringBuilder" (83 : Nat) ({ cls := "java/lang/AbstractStringBuilder", name := "isLatin1", desc := "()Z" } : Jvm.MethodName)) ∈ lw_all := lw_g (lw_at lw_m3 54 rfl) rfl
theorem q662 : (Jvm.Cond.instanceMethod ({ cls := "java/lang/AbstractStringBuilder", name := "isLatin1", desc := "()Z" } : Jvm.MethodName)) ∈ lw_all := lw_g (lw_at lw_m3 55 rfl) rfl
theorem q665 : (Jvm.Cond.code ({ cls := "java/lang/AbstractStringBuilder", name := "isLatin1", desc := "()Z" } : Jvm.MethodName) prog_22_method_68_code (1 : Nat) (Option.some Jvm.ClassFile.FieldType.boolean)) ∈ lw_all := lw_g (lw_at lw_m3 58 rfl) rfl
theorem q666 : (Jvm.Cond.methodLink "java/lang/AbstractStringBuilder" (191 : Nat) ({ cls := "java/lang/StringLatin1", name := "canEncode", desc := "(C)Z" } : Jvm.MethodName)) ∈ lw_all := lw_g (lw_at lw_m3 59 rfl) rfl
theorem q727 : (Jvm.Cond.instanceMethod ({ cls := "java/lang/AbstractStringBuilder", name := "getValue", desc := "()[B" } : Jvm.MethodName)) ∈ lw_all := lw_g (lw_at lw_m3 120 rfl) rfl
theorem q730 : (Jvm.Cond.code ({ cls := "java/lang/AbstractStringBuilder", name := "getValue", desc := "()[B" } : Jvm.MethodName) prog_22_method_64_code (1 : Nat) (Option.some (Jvm.ClassFile.FieldType.array Jvm.ClassFile.FieldType.byte))) ∈ lw_all := lw_g (lw_at lw_m3 123 rfl) rfl
theorem q732 : (Jvm.Cond.instanceMethod ({ cls := "java/lang/AbstractStringBuilder", name := "length", desc := "()I" } : Jvm.MethodName)) ∈ lw_all := lw_g (lw_at lw_m3 125 rfl) rfl
theorem q733 : (Jvm.Cond.sameMethod "java/lang/AbstractStringBuilder" "java/lang/AbstractStringBuilder" "length" "()I") ∈ lw_all := lw_g (lw_at lw_m3 126 rfl) rfl
theorem q738 : (Jvm.Cond.code ({ cls := "java/lang/AbstractStringBuilder", name := "length", desc := "()I" } : Jvm.MethodName) prog_22_method_6_code (1 : Nat) (Option.some Jvm.ClassFile.FieldType.int)) ∈ lw_all := lw_g (lw_at lw_m3 131 rfl) rfl
theorem q765 : (Jvm.Cond.instanceMethod ({ cls := "java/lang/AbstractStringBuilder", name := "append", desc := "(I)Ljava/lang/AbstractStringBuilder;" } : Jvm.MethodName)) ∈ lw_all := lw_g (lw_at lw_m3 158 rfl) rfl
theorem q766 : (Jvm.Cond.code ({ cls := "java/lang/AbstractStringBuilder", name := "append", desc := "(I)Ljava/lang/AbstractStringBuilder;" } : Jvm.MethodName) prog_22_method_32_code (4 : Nat) (Option.some (Jvm.ClassFile.FieldType.object "java/lang/AbstractStringBuilder"))) ∈ lw_all := lw_g (lw_at lw_m3 159 rfl) rfl
theorem q767 : (Jvm.Cond.methodLink "java/lang/AbstractStringBuilder" (245 : Nat) ({ cls := "java/lang/Integer", name := "stringSize", desc := "(I)I" } : Jvm.MethodName)) ∈ lw_all := lw_g (lw_at lw_m3 160 rfl) rfl
theorem q770 : (Jvm.Cond.methodLink "java/lang/AbstractStringBuilder" (248 : Nat) ({ cls := "java/lang/Integer", name := "getChars", desc := "(II[B)I" } : Jvm.MethodName)) ∈ lw_all := lw_g (lw_at lw_m3 163 rfl) rfl
theorem q800 : (Jvm.Cond.instanceMethod ({ cls := "java/lang/AbstractStringBuilder", name := "append", desc := "(Ljava/lang/String;)Ljava/lang/AbstractStringBuilder;" } : Jvm.MethodName)) ∈ lw_all := lw_g (lw_at lw_m3 193 rfl) rfl
theorem q801 : (Jvm.Cond.code ({ cls := "java/lang/AbstractStringBuilder", name := "append", desc := "(Ljava/lang/String;)Ljava/lang/AbstractStringBuilder;" } : Jvm.MethodName) prog_22_method_22_code (3 : Nat) (Option.some (Jvm.ClassFile.FieldType.object "java/lang/AbstractStringBuilder"))) ∈ lw_all := lw_g (lw_at lw_m3 194 rfl) rfl
theorem q809 : (Jvm.Cond.methodLink "java/lang/AbstractStringBuilder" (32 : Nat) ({ cls := "java/lang/String", name := "length", desc := "()I" } : Jvm.MethodName)) ∈ lw_all := lw_g (lw_at lw_m3 202 rfl) rfl
theorem q818 : (Jvm.Cond.methodLink "java/lang/AbstractStringBuilder" (208 : Nat) ({ cls := "java/lang/AbstractStringBuilder", name := "putStringAt", desc := "(ILjava/lang/String;)V" } : Jvm.MethodName)) ∈ lw_all := lw_g (lw_at lw_m3 211 rfl) rfl
theorem q819 : (Jvm.Cond.privateMethod ({ cls := "java/lang/AbstractStringBuilder", name := "putStringAt", desc := "(ILjava/lang/String;)V" } : Jvm.MethodName)) ∈ lw_tbl := lw_at lw_m3 212 rfl
theorem q820 : (Jvm.Cond.instanceMethod ({ cls := "java/lang/AbstractStringBuilder", name := "putStringAt", desc := "(ILjava/lang/String;)V" } : Jvm.MethodName)) ∈ lw_all := lw_g (lw_at lw_m3 213 rfl) rfl
theorem q821 : (Jvm.Cond.code ({ cls := "java/lang/AbstractStringBuilder", name := "putStringAt", desc := "(ILjava/lang/String;)V" } : Jvm.MethodName) prog_22_method_73_code (3 : Nat) (Option.none : Option Jvm.ClassFile.FieldType)) ∈ lw_all := lw_g (lw_at lw_m3 214 rfl) rfl
theorem q822 : (Jvm.Cond.methodLink "java/lang/AbstractStringBuilder" (397 : Nat) ({ cls := "java/lang/AbstractStringBuilder", name := "inflateIfNeededFor", desc := "(Ljava/lang/String;)V" } : Jvm.MethodName)) ∈ lw_all := lw_g (lw_at lw_m3 215 rfl) rfl
theorem q823 : (Jvm.Cond.privateMethod ({ cls := "java/lang/AbstractStringBuilder", name := "inflateIfNeededFor", desc := "(Ljava/lang/String;)V" } : Jvm.MethodName)) ∈ lw_tbl := lw_at lw_m3 216 rfl
theorem q824 : (Jvm.Cond.instanceMethod ({ cls := "java/lang/AbstractStringBuilder", name := "inflateIfNeededFor", desc := "(Ljava/lang/String;)V" } : Jvm.MethodName)) ∈ lw_all := lw_g (lw_at lw_m3 217 rfl) rfl
theorem q825 : (Jvm.Cond.code ({ cls := "java/lang/AbstractStringBuilder", name := "inflateIfNeededFor", desc := "(Ljava/lang/String;)V" } : Jvm.MethodName) prog_22_method_71_code (2 : Nat) (Option.none : Option Jvm.ClassFile.FieldType)) ∈ lw_all := lw_g (lw_at lw_m3 218 rfl) rfl
theorem q826 : (Jvm.Cond.methodLink "java/lang/AbstractStringBuilder" (40 : Nat) ({ cls := "java/lang/String", name := "coder", desc := "()B" } : Jvm.MethodName)) ∈ lw_all := lw_g (lw_at lw_m3 219 rfl) rfl
theorem q827 : (Jvm.Cond.methodLink "java/lang/AbstractStringBuilder" (399 : Nat) ({ cls := "java/lang/String", name := "getBytes", desc := "([BIB)V" } : Jvm.MethodName)) ∈ lw_all := lw_g (lw_at lw_m3 220 rfl) rfl
theorem q1054 : (Jvm.Cond.instanceMethod ({ cls := "java/lang/AbstractStringBuilder", name := "charAt", desc := "(I)C" } : Jvm.MethodName)) ∈ lw_all := lw_g (lw_at lw_m4 207 rfl) rfl
theorem q1055 : (Jvm.Cond.code ({ cls := "java/lang/AbstractStringBuilder", name := "charAt", desc := "(I)C" } : Jvm.MethodName) prog_22_method_14_code (5 : Nat) (Option.some Jvm.ClassFile.FieldType.char)) ∈ lw_all := lw_g (lw_at lw_m4 208 rfl) rfl
theorem q1056 : (Jvm.Cond.methodLink "java/lang/AbstractStringBuilder" (138 : Nat) ({ cls := "java/lang/Math", name := "min", desc := "(II)I" } : Jvm.MethodName)) ∈ lw_all := lw_g (lw_at lw_m4 209 rfl) rfl
theorem q1057 : (Jvm.Cond.methodLink "java/lang/AbstractStringBuilder" (144 : Nat) ({ cls := "java/lang/String", name := "checkIndex", desc := "(II)V" } : Jvm.MethodName)) ∈ lw_all := lw_g (lw_at lw_m4 210 rfl) rfl
theorem q3670 : (Jvm.Cond.instanceMethod ({ cls := "java/lang/AbstractStringBuilder", name := "setLength", desc := "(I)V" } : Jvm.MethodName)) ∈ lw_all := lw_g (lw_at lw_m15 183 rfl) rfl
theorem q3671 : (Jvm.Cond.code ({ cls := "java/lang/AbstractStringBuilder", name := "setLength", desc := "(I)V" } : Jvm.MethodName) prog_22_method_13_code (2 : Nat) (Option.none : Option Jvm.ClassFile.FieldType)) ∈ lw_all := lw_g (lw_at lw_m15 184 rfl) rfl
theorem q3691 : (Jvm.Cond.methodLink "java/lang/AbstractStringBuilder" (133 : Nat) ({ cls := "java/lang/StringLatin1", name := "fillNull", desc := "([BII)V" } : Jvm.MethodName)) ∈ lw_all := lw_g (lw_at lw_m15 204 rfl) rfl
theorem q4617 : (Jvm.Cond.sameMethod "java/lang/AbstractStringBuilder" "java/lang/AbstractStringBuilder" "append" "(C)Ljava/lang/AbstractStringBuilder;") ∈ lw_all := lw_g (lw_at lw_m19 170 rfl) rfl
theorem q4618 : (Jvm.Cond.sameMethod "java/lang/AbstractStringBuilder" "java/lang/AbstractStringBuilder" "ensureCapacityInternal" "(I)V") ∈ lw_all := lw_g (lw_at lw_m19 171 rfl) rfl
theorem q4619 : (Jvm.Cond.sameMethod "java/lang/AbstractStringBuilder" "java/lang/AbstractStringBuilder" "newCapacity" "(I)I") ∈ lw_all := lw_g (lw_at lw_m19 172 rfl) rfl
theorem q4621 : (Jvm.Cond.sameMethod "java/lang/AbstractStringBuilder" "java/lang/AbstractStringBuilder" "append" "(I)Ljava/lang/AbstractStringBuilder;") ∈ lw_all := lw_g (lw_at lw_m19 174 rfl) rfl
theorem q4622 : (Jvm.Cond.sameMethod "java/lang/AbstractStringBuilder" "java/lang/AbstractStringBuilder" "append" "(Ljava/lang/String;)Ljava/lang/AbstractStringBuilder;") ∈ lw_all := lw_g (lw_at lw_m19 175 rfl) rfl
theorem q4624 : (Jvm.Cond.sameMethod "java/lang/AbstractStringBuilder" "java/lang/AbstractStringBuilder" "putStringAt" "(ILjava/lang/String;)V") ∈ lw_all := lw_g (lw_at lw_m19 177 rfl) rfl
theorem q4625 : (Jvm.Cond.sameMethod "java/lang/AbstractStringBuilder" "java/lang/AbstractStringBuilder" "inflateIfNeededFor" "(Ljava/lang/String;)V") ∈ lw_all := lw_g (lw_at lw_m19 178 rfl) rfl
theorem q4626 : (Jvm.Cond.sameMethod "java/lang/AbstractStringBuilder" "java/lang/AbstractStringBuilder" "charAt" "(I)C") ∈ lw_all := lw_g (lw_at lw_m19 179 rfl) rfl
theorem q4642 : (Jvm.Cond.sameMethod "java/lang/AbstractStringBuilder" "java/lang/AbstractStringBuilder" "setLength" "(I)V") ∈ lw_all := lw_g (lw_at lw_m19 195 rfl) rfl
/-! J20.java_lang_Integer.lean.txt -/
def RJ20 : String := "java/lang/Integer"
def TJ20 : u_T := fun k => match k with
  | _ => ("java/lang/Integer", "value", "I", true)
def tyJ20 : Nat → FieldType := fun k => match k with
  | _ => .int
abbrev wsJ200 : List Cond := u_ws RJ20 TJ20 1
theorem nmJ20 : ∀ a, a < 1 → ∀ b, b < 1 → a ≠ b → (TJ20 a).2.1 ≠ (TJ20 b).2.1 := by decide +kernel
theorem tyJ20_ok : ∀ k, k < 1 → parseFieldDescriptor (TJ20 k).2.2.1 = some (tyJ20 k) := by decide +kernel
abbrev cJ20_stringSize : ByteArray := prog_35_method_13_code
def yJ20_stringSize : MethodName := ⟨RJ20, "stringSize", "(I)I"⟩
def dkwJ20_stringSize_1 : List UInt8 := [164, 0, 7, 29, 27, 96, 172, 16, 10, 28, 104, 61, 132, 3, 1, 167, 255, 233, 16, 10, 27, 96, 172]
abbrev dktJ20_stringSize_1 : List UInt8 := dkwJ20_stringSize_1 ++ []
def dkwJ20_stringSize_0 : List UInt8 := [4, 60, 26, 155, 0, 8, 3, 60, 26, 116, 59, 16, 246, 61, 4, 62, 29, 16, 10, 162, 0, 23, 26, 28]
abbrev dktJ20_stringSize_0 : List UInt8 := dkwJ20_stringSize_0 ++ dktJ20_stringSize_1
theorem dksJ20_stringSize_0 : cJ20_stringSize.data.toList.drop 0 = dktJ20_stringSize_0 := by decide +kernel
theorem dksJ20_stringSize_1 : cJ20_stringSize.data.toList.drop 24 = dktJ20_stringSize_1 := dk_seg dksJ20_stringSize_0 24 rfl rfl
theorem dJ20_stringSize_0 : decode cJ20_stringSize 0 = .ok (.iconst 1, 1) := dk_4 (dk_at dksJ20_stringSize_0 0 rfl rfl)
theorem dJ20_stringSize_1 : decode cJ20_stringSize 1 = .ok (.istore_n 1, 1) := dk_60 (dk_at dksJ20_stringSize_0 1 rfl rfl)
theorem dJ20_stringSize_2 : decode cJ20_stringSize 2 = .ok (.iload_n 0, 1) := dk_26 (dk_at dksJ20_stringSize_0 2 rfl rfl)
theorem dJ20_stringSize_3 : decode cJ20_stringSize 3 = .ok (.ifCond .lt 8, 3) := dk_155 0 8 (dk_at dksJ20_stringSize_0 3 rfl rfl)
theorem dJ20_stringSize_6 : decode cJ20_stringSize 6 = .ok (.iconst 0, 1) := dk_3 (dk_at dksJ20_stringSize_0 6 rfl rfl)
theorem dJ20_stringSize_7 : decode cJ20_stringSize 7 = .ok (.istore_n 1, 1) := dk_60 (dk_at dksJ20_stringSize_0 7 rfl rfl)
theorem dJ20_stringSize_8 : decode cJ20_stringSize 8 = .ok (.iload_n 0, 1) := dk_26 (dk_at dksJ20_stringSize_0 8 rfl rfl)
theorem dJ20_stringSize_9 : decode cJ20_stringSize 9 = .ok (.ineg, 1) := dk_116 (dk_at dksJ20_stringSize_0 9 rfl rfl)
theorem dJ20_stringSize_10 : decode cJ20_stringSize 10 = .ok (.istore_n 0, 1) := dk_59 (dk_at dksJ20_stringSize_0 10 rfl rfl)
theorem dJ20_stringSize_11 : decode cJ20_stringSize 11 = .ok (.bipush (-10), 2) := dk_16 246 (dk_at dksJ20_stringSize_0 11 rfl rfl)
theorem dJ20_stringSize_13 : decode cJ20_stringSize 13 = .ok (.istore_n 2, 1) := dk_61 (dk_at dksJ20_stringSize_0 13 rfl rfl)
theorem dJ20_stringSize_14 : decode cJ20_stringSize 14 = .ok (.iconst 1, 1) := dk_4 (dk_at dksJ20_stringSize_0 14 rfl rfl)
theorem dJ20_stringSize_15 : decode cJ20_stringSize 15 = .ok (.istore_n 3, 1) := dk_62 (dk_at dksJ20_stringSize_0 15 rfl rfl)
theorem dJ20_stringSize_16 : decode cJ20_stringSize 16 = .ok (.iload_n 3, 1) := dk_29 (dk_at dksJ20_stringSize_0 16 rfl rfl)
theorem dJ20_stringSize_17 : decode cJ20_stringSize 17 = .ok (.bipush 10, 2) := dk_16 10 (dk_at dksJ20_stringSize_0 17 rfl rfl)
theorem dJ20_stringSize_19 : decode cJ20_stringSize 19 = .ok (.if_icmp .ge 23, 3) := dk_162 0 23 (dk_at dksJ20_stringSize_0 19 rfl rfl)
theorem dJ20_stringSize_22 : decode cJ20_stringSize 22 = .ok (.iload_n 0, 1) := dk_26 (dk_at dksJ20_stringSize_0 22 rfl rfl)
theorem dJ20_stringSize_23 : decode cJ20_stringSize 23 = .ok (.iload_n 2, 1) := dk_28 (dk_at dksJ20_stringSize_0 23 rfl rfl)
theorem dJ20_stringSize_24 : decode cJ20_stringSize 24 = .ok (.if_icmp .le 7, 3) := dk_164 0 7 (dk_at dksJ20_stringSize_1 0 rfl rfl)
theorem dJ20_stringSize_27 : decode cJ20_stringSize 27 = .ok (.iload_n 3, 1) := dk_29 (dk_at dksJ20_stringSize_1 3 rfl rfl)
theorem dJ20_stringSize_28 : decode cJ20_stringSize 28 = .ok (.iload_n 1, 1) := dk_27 (dk_at dksJ20_stringSize_1 4 rfl rfl)
theorem dJ20_stringSize_29 : decode cJ20_stringSize 29 = .ok (.iadd, 1) := dk_96 (dk_at dksJ20_stringSize_1 5 rfl rfl)
theorem dJ20_stringSize_30 : decode cJ20_stringSize 30 = .ok (.ireturn, 1) := dk_172 (dk_at dksJ20_stringSize_1 6 rfl rfl)
theorem dJ20_stringSize_31 : decode cJ20_stringSize 31 = .ok (.bipush 10, 2) := dk_16 10 (dk_at dksJ20_stringSize_1 7 rfl rfl)
theorem dJ20_stringSize_33 : decode cJ20_stringSize 33 = .ok (.iload_n 2, 1) := dk_28 (dk_at dksJ20_stringSize_1 9 rfl rfl)
theorem dJ20_stringSize_34 : decode cJ20_stringSize 34 = .ok (.imul, 1) := dk_104 (dk_at dksJ20_stringSize_1 10 rfl rfl)
theorem dJ20_stringSize_35 : decode cJ20_stringSize 35 = .ok (.istore_n 2, 1) := dk_61 (dk_at dksJ20_stringSize_1 11 rfl rfl)
theorem dJ20_stringSize_36 : decode cJ20_stringSize 36 = .ok (.iinc 3 1, 3) := dk_132 3 1 (dk_at dksJ20_stringSize_1 12 rfl rfl)
theorem dJ20_stringSize_39 : decode cJ20_stringSize 39 = .ok (.goto (-23), 3) := dk_167 255 233 (dk_at dksJ20_stringSize_1 15 rfl rfl)
theorem dJ20_stringSize_42 : decode cJ20_stringSize 42 = .ok (.bipush 10, 2) := dk_16 10 (dk_at dksJ20_stringSize_1 18 rfl rfl)
theorem dJ20_stringSize_44 : decode cJ20_stringSize 44 = .ok (.iload_n 1, 1) := dk_27 (dk_at dksJ20_stringSize_1 20 rfl rfl)
theorem dJ20_stringSize_45 : decode cJ20_stringSize 45 = .ok (.iadd, 1) := dk_96 (dk_at dksJ20_stringSize_1 21 rfl rfl)
theorem dJ20_stringSize_46 : decode cJ20_stringSize 46 = .ok (.ireturn, 1) := dk_172 (dk_at dksJ20_stringSize_1 22 rfl rfl)
abbrev cJ20_getChars : ByteArray := prog_35_method_12_code
def yJ20_getChars : MethodName := ⟨RJ20, "getChars", "(II[B)I"⟩
def dkwJ20_getChars_5 : List UInt8 := [16, 45, 84, 21, 5, 172]
abbrev dktJ20_getChars_5 : List UInt8 := dkwJ20_getChars_5 ++ []
def dkwJ20_getChars_4 : List UInt8 := [132, 5, 255, 21, 5, 178, 0, 87, 26, 116, 51, 84, 21, 6, 153, 0, 12, 44, 132, 5, 255, 21, 5]
abbrev dktJ20_getChars_4 : List UInt8 := dkwJ20_getChars_4 ++ dktJ20_getChars_5
def dkwJ20_getChars_3 : List UInt8 := [167, 255, 209, 44, 132, 5, 255, 21, 5, 178, 0, 83, 26, 116, 51, 84, 26, 16, 247, 162, 0, 16, 44]
abbrev dktJ20_getChars_3 : List UInt8 := dkwJ20_getChars_3 ++ dktJ20_getChars_4
def dkwJ20_getChars_2 : List UInt8 := [21, 5, 178, 0, 83, 21, 4, 51, 84, 44, 132, 5, 255, 21, 5, 178, 0, 87, 21, 4, 51, 84]
abbrev dktJ20_getChars_2 : List UInt8 := dkwJ20_getChars_2 ++ dktJ20_getChars_3
def dkwJ20_getChars_1 : List UInt8 := [16, 156, 163, 0, 47, 26, 16, 100, 108, 62, 29, 16, 100, 104, 26, 100, 54, 4, 29, 59, 44, 132, 5, 255]
abbrev dktJ20_getChars_1 : List UInt8 := dkwJ20_getChars_1 ++ dktJ20_getChars_2
def dkwJ20_getChars_0 : List UInt8 := [27, 54, 5, 26, 156, 0, 7, 4, 167, 0, 4, 3, 54, 6, 21, 6, 154, 0, 6, 26, 116, 59, 26]
abbrev dktJ20_getChars_0 : List UInt8 := dkwJ20_getChars_0 ++ dktJ20_getChars_1
theorem dksJ20_getChars_0 : cJ20_getChars.data.toList.drop 0 = dktJ20_getChars_0 := by decide +kernel
theorem dksJ20_getChars_1 : cJ20_getChars.data.toList.drop 23 = dktJ20_getChars_1 := dk_seg dksJ20_getChars_0 23 rfl rfl
theorem dksJ20_getChars_2 : cJ20_getChars.data.toList.drop 47 = dktJ20_getChars_2 := dk_seg dksJ20_getChars_1 24 rfl rfl
theorem dksJ20_getChars_3 : cJ20_getChars.data.toList.drop 69 = dktJ20_getChars_3 := dk_seg dksJ20_getChars_2 22 rfl rfl
theorem dksJ20_getChars_4 : cJ20_getChars.data.toList.drop 92 = dktJ20_getChars_4 := dk_seg dksJ20_getChars_3 23 rfl rfl
theorem dksJ20_getChars_5 : cJ20_getChars.data.toList.drop 115 = dktJ20_getChars_5 := dk_seg dksJ20_getChars_4 23 rfl rfl
theorem dJ20_getChars_0 : decode cJ20_getChars 0 = .ok (.iload_n 1, 1) := dk_27 (dk_at dksJ20_getChars_0 0 rfl rfl)
theorem dJ20_getChars_1 : decode cJ20_getChars 1 = .ok (.istore 5, 2) := dk_54 5 (dk_at dksJ20_getChars_0 1 rfl rfl)
theorem dJ20_getChars_3 : decode cJ20_getChars 3 = .ok (.iload_n 0, 1) := dk_26 (dk_at dksJ20_getChars_0 3 rfl rfl)
theorem dJ20_getChars_4 : decode cJ20_getChars 4 = .ok (.ifCond .ge 7, 3) := dk_156 0 7 (dk_at dksJ20_getChars_0 4 rfl rfl)
theorem dJ20_getChars_7 : decode cJ20_getChars 7 = .ok (.iconst 1, 1) := dk_4 (dk_at dksJ20_getChars_0 7 rfl rfl)
theorem dJ20_getChars_8 : decode cJ20_getChars 8 = .ok (.goto 4, 3) := dk_167 0 4 (dk_at dksJ20_getChars_0 8 rfl rfl)
theorem dJ20_getChars_11 : decode cJ20_getChars 11 = .ok (.iconst 0, 1) := dk_3 (dk_at dksJ20_getChars_0 11 rfl rfl)
theorem dJ20_getChars_12 : decode cJ20_getChars 12 = .ok (.istore 6, 2) := dk_54 6 (dk_at dksJ20_getChars_0 12 rfl rfl)
theorem dJ20_getChars_14 : decode cJ20_getChars 14 = .ok (.iload 6, 2) := dk_21 6 (dk_at dksJ20_getChars_0 14 rfl rfl)
theorem dJ20_getChars_16 : decode cJ20_getChars 16 = .ok (.ifCond .ne 6, 3) := dk_154 0 6 (dk_at dksJ20_getChars_0 16 rfl rfl)
theorem dJ20_getChars_19 : decode cJ20_getChars 19 = .ok (.iload_n 0, 1) := dk_26 (dk_at dksJ20_getChars_0 19 rfl rfl)
theorem dJ20_getChars_20 : decode cJ20_getChars 20 = .ok (.ineg, 1) := dk_116 (dk_at dksJ20_getChars_0 20 rfl rfl)
theorem dJ20_getChars_21 : decode cJ20_getChars 21 = .ok (.istore_n 0, 1) := dk_59 (dk_at dksJ20_getChars_0 21 rfl rfl)
theorem dJ20_getChars_22 : decode cJ20_getChars 22 = .ok (.iload_n 0, 1) := dk_26 (dk_at dksJ20_getChars_0 22 rfl rfl)
theorem dJ20_getChars_23 : decode cJ20_getChars 23 = .ok (.bipush (-100), 2) := dk_16 156 (dk_at dksJ20_getChars_1 0 rfl rfl)
theorem dJ20_getChars_25 : decode cJ20_getChars 25 = .ok (.if_icmp .gt 47, 3) := dk_163 0 47 (dk_at dksJ20_getChars_1 2 rfl rfl)
theorem dJ20_getChars_28 : decode cJ20_getChars 28 = .ok (.iload_n 0, 1) := dk_26 (dk_at dksJ20_getChars_1 5 rfl rfl)
theorem dJ20_getChars_29 : decode cJ20_getChars 29 = .ok (.bipush 100, 2) := dk_16 100 (dk_at dksJ20_getChars_1 6 rfl rfl)
theorem dJ20_getChars_31 : decode cJ20_getChars 31 = .ok (.idiv, 1) := dk_108 (dk_at dksJ20_getChars_1 8 rfl rfl)
theorem dJ20_getChars_32 : decode cJ20_getChars 32 = .ok (.istore_n 3, 1) := dk_62 (dk_at dksJ20_getChars_1 9 rfl rfl)
theorem dJ20_getChars_33 : decode cJ20_getChars 33 = .ok (.iload_n 3, 1) := dk_29 (dk_at dksJ20_getChars_1 10 rfl rfl)
theorem dJ20_getChars_34 : decode cJ20_getChars 34 = .ok (.bipush 100, 2) := dk_16 100 (dk_at dksJ20_getChars_1 11 rfl rfl)
theorem dJ20_getChars_36 : decode cJ20_getChars 36 = .ok (.imul, 1) := dk_104 (dk_at dksJ20_getChars_1 13 rfl rfl)
theorem dJ20_getChars_37 : decode cJ20_getChars 37 = .ok (.iload_n 0, 1) := dk_26 (dk_at dksJ20_getChars_1 14 rfl rfl)
theorem dJ20_getChars_38 : decode cJ20_getChars 38 = .ok (.isub, 1) := dk_100 (dk_at dksJ20_getChars_1 15 rfl rfl)
theorem dJ20_getChars_39 : decode cJ20_getChars 39 = .ok (.istore 4, 2) := dk_54 4 (dk_at dksJ20_getChars_1 16 rfl rfl)
theorem dJ20_getChars_41 : decode cJ20_getChars 41 = .ok (.iload_n 3, 1) := dk_29 (dk_at dksJ20_getChars_1 18 rfl rfl)
theorem dJ20_getChars_42 : decode cJ20_getChars 42 = .ok (.istore_n 0, 1) := dk_59 (dk_at dksJ20_getChars_1 19 rfl rfl)
theorem dJ20_getChars_43 : decode cJ20_getChars 43 = .ok (.aload_n 2, 1) := dk_44 (dk_at dksJ20_getChars_1 20 rfl rfl)
theorem dJ20_getChars_44 : decode cJ20_getChars 44 = .ok (.iinc 5 (-1), 3) := dk_132 5 255 (dk_at dksJ20_getChars_1 21 rfl rfl)
theorem dJ20_getChars_47 : decode cJ20_getChars 47 = .ok (.iload 5, 2) := dk_21 5 (dk_at dksJ20_getChars_2 0 rfl rfl)
theorem dJ20_getChars_49 : decode cJ20_getChars 49 = .ok (.getstatic 83, 3) := dk_178 0 83 (dk_at dksJ20_getChars_2 2 rfl rfl)
theorem dJ20_getChars_52 : decode cJ20_getChars 52 = .ok (.iload 4, 2) := dk_21 4 (dk_at dksJ20_getChars_2 5 rfl rfl)
theorem dJ20_getChars_54 : decode cJ20_getChars 54 = .ok (.baload, 1) := dk_51 (dk_at dksJ20_getChars_2 7 rfl rfl)
theorem dJ20_getChars_55 : decode cJ20_getChars 55 = .ok (.bastore, 1) := dk_84 (dk_at dksJ20_getChars_2 8 rfl rfl)
theorem dJ20_getChars_56 : decode cJ20_getChars 56 = .ok (.aload_n 2, 1) := dk_44 (dk_at dksJ20_getChars_2 9 rfl rfl)
theorem dJ20_getChars_57 : decode cJ20_getChars 57 = .ok (.iinc 5 (-1), 3) := dk_132 5 255 (dk_at dksJ20_getChars_2 10 rfl rfl)
theorem dJ20_getChars_60 : decode cJ20_getChars 60 = .ok (.iload 5, 2) := dk_21 5 (dk_at dksJ20_getChars_2 13 rfl rfl)
theorem dJ20_getChars_62 : decode cJ20_getChars 62 = .ok (.getstatic 87, 3) := dk_178 0 87 (dk_at dksJ20_getChars_2 15 rfl rfl)
theorem dJ20_getChars_65 : decode cJ20_getChars 65 = .ok (.iload 4, 2) := dk_21 4 (dk_at dksJ20_getChars_2 18 rfl rfl)
theorem dJ20_getChars_67 : decode cJ20_getChars 67 = .ok (.baload, 1) := dk_51 (dk_at dksJ20_getChars_2 20 rfl rfl)
theorem dJ20_getChars_68 : decode cJ20_getChars 68 = .ok (.bastore, 1) := dk_84 (dk_at dksJ20_getChars_2 21 rfl rfl)
theorem dJ20_getChars_69 : decode cJ20_getChars 69 = .ok (.goto (-47), 3) := dk_167 255 209 (dk_at dksJ20_getChars_3 0 rfl rfl)
theorem dJ20_getChars_72 : decode cJ20_getChars 72 = .ok (.aload_n 2, 1) := dk_44 (dk_at dksJ20_getChars_3 3 rfl rfl)
theorem dJ20_getChars_73 : decode cJ20_getChars 73 = .ok (.iinc 5 (-1), 3) := dk_132 5 255 (dk_at dksJ20_getChars_3 4 rfl rfl)
theorem dJ20_getChars_76 : decode cJ20_getChars 76 = .ok (.iload 5, 2) := dk_21 5 (dk_at dksJ20_getChars_3 7 rfl rfl)
theorem dJ20_getChars_78 : decode cJ20_getChars 78 = .ok (.getstatic 83, 3) := dk_178 0 83 (dk_at dksJ20_getChars_3 9 rfl rfl)
theorem dJ20_getChars_81 : decode cJ20_getChars 81 = .ok (.iload_n 0, 1) := dk_26 (dk_at dksJ20_getChars_3 12 rfl rfl)
theorem dJ20_getChars_82 : decode cJ20_getChars 82 = .ok (.ineg, 1) := dk_116 (dk_at dksJ20_getChars_3 13 rfl rfl)
theorem dJ20_getChars_83 : decode cJ20_getChars 83 = .ok (.baload, 1) := dk_51 (dk_at dksJ20_getChars_3 14 rfl rfl)
theorem dJ20_getChars_84 : decode cJ20_getChars 84 = .ok (.bastore, 1) := dk_84 (dk_at dksJ20_getChars_3 15 rfl rfl)
theorem dJ20_getChars_85 : decode cJ20_getChars 85 = .ok (.iload_n 0, 1) := dk_26 (dk_at dksJ20_getChars_3 16 rfl rfl)
theorem dJ20_getChars_86 : decode cJ20_getChars 86 = .ok (.bipush (-9), 2) := dk_16 247 (dk_at dksJ20_getChars_3 17 rfl rfl)
theorem dJ20_getChars_88 : decode cJ20_getChars 88 = .ok (.if_icmp .ge 16, 3) := dk_162 0 16 (dk_at dksJ20_getChars_3 19 rfl rfl)
theorem dJ20_getChars_91 : decode cJ20_getChars 91 = .ok (.aload_n 2, 1) := dk_44 (dk_at dksJ20_getChars_3 22 rfl rfl)
theorem dJ20_getChars_92 : decode cJ20_getChars 92 = .ok (.iinc 5 (-1), 3) := dk_132 5 255 (dk_at dksJ20_getChars_4 0 rfl rfl)
theorem dJ20_getChars_95 : decode cJ20_getChars 95 = .ok (.iload 5, 2) := dk_21 5 (dk_at dksJ20_getChars_4 3 rfl rfl)
theorem dJ20_getChars_97 : decode cJ20_getChars 97 = .ok (.getstatic 87, 3) := dk_178 0 87 (dk_at dksJ20_getChars_4 5 rfl rfl)
theorem dJ20_getChars_100 : decode cJ20_getChars 100 = .ok (.iload_n 0, 1) := dk_26 (dk_at dksJ20_getChars_4 8 rfl rfl)
theorem dJ20_getChars_101 : decode cJ20_getChars 101 = .ok (.ineg, 1) := dk_116 (dk_at dksJ20_getChars_4 9 rfl rfl)
theorem dJ20_getChars_102 : decode cJ20_getChars 102 = .ok (.baload, 1) := dk_51 (dk_at dksJ20_getChars_4 10 rfl rfl)
theorem dJ20_getChars_103 : decode cJ20_getChars 103 = .ok (.bastore, 1) := dk_84 (dk_at dksJ20_getChars_4 11 rfl rfl)
theorem dJ20_getChars_104 : decode cJ20_getChars 104 = .ok (.iload 6, 2) := dk_21 6 (dk_at dksJ20_getChars_4 12 rfl rfl)
theorem dJ20_getChars_106 : decode cJ20_getChars 106 = .ok (.ifCond .eq 12, 3) := dk_153 0 12 (dk_at dksJ20_getChars_4 14 rfl rfl)
theorem dJ20_getChars_109 : decode cJ20_getChars 109 = .ok (.aload_n 2, 1) := dk_44 (dk_at dksJ20_getChars_4 17 rfl rfl)
theorem dJ20_getChars_110 : decode cJ20_getChars 110 = .ok (.iinc 5 (-1), 3) := dk_132 5 255 (dk_at dksJ20_getChars_4 18 rfl rfl)
theorem dJ20_getChars_113 : decode cJ20_getChars 113 = .ok (.iload 5, 2) := dk_21 5 (dk_at dksJ20_getChars_4 21 rfl rfl)
theorem dJ20_getChars_115 : decode cJ20_getChars 115 = .ok (.bipush 45, 2) := dk_16 45 (dk_at dksJ20_getChars_5 0 rfl rfl)
theorem dJ20_getChars_117 : decode cJ20_getChars 117 = .ok (.bastore, 1) := dk_84 (dk_at dksJ20_getChars_5 2 rfl rfl)
theorem dJ20_getChars_118 : decode cJ20_getChars 118 = .ok (.iload 5, 2) := dk_21 5 (dk_at dksJ20_getChars_5 3 rfl rfl)
theorem dJ20_getChars_120 : decode cJ20_getChars 120 = .ok (.ireturn, 1) := dk_172 (dk_at dksJ20_getChars_5 5 rfl rfl)
abbrev cJ20_bitCount : ByteArray := prog_35_method_49_code
def yJ20_bitCount : MethodName := ⟨RJ20, "bitCount", "(I)I"⟩
def dkwJ20_bitCount_2 : List UInt8 := [26, 16, 63, 126, 172]
abbrev dktJ20_bitCount_2 : List UInt8 := dkwJ20_bitCount_2 ++ []
def dkwJ20_bitCount_1 : List UInt8 := [26, 26, 7, 124, 96, 19, 1, 11, 126, 59, 26, 26, 16, 8, 124, 96, 59, 26, 26, 16, 16, 124, 96, 59]
abbrev dktJ20_bitCount_1 : List UInt8 := dkwJ20_bitCount_1 ++ dktJ20_bitCount_2
def dkwJ20_bitCount_0 : List UInt8 := [26, 26, 4, 124, 19, 1, 9, 126, 100, 59, 26, 19, 1, 10, 126, 26, 5, 124, 19, 1, 10, 126, 96, 59]
abbrev dktJ20_bitCount_0 : List UInt8 := dkwJ20_bitCount_0 ++ dktJ20_bitCount_1
theorem dksJ20_bitCount_0 : cJ20_bitCount.data.toList.drop 0 = dktJ20_bitCount_0 := by decide +kernel
theorem dksJ20_bitCount_1 : cJ20_bitCount.data.toList.drop 24 = dktJ20_bitCount_1 := dk_seg dksJ20_bitCount_0 24 rfl rfl
theorem dksJ20_bitCount_2 : cJ20_bitCount.data.toList.drop 48 = dktJ20_bitCount_2 := dk_seg dksJ20_bitCount_1 24 rfl rfl
theorem dJ20_bitCount_0 : decode cJ20_bitCount 0 = .ok (.iload_n 0, 1) := dk_26 (dk_at dksJ20_bitCount_0 0 rfl rfl)
theorem dJ20_bitCount_1 : decode cJ20_bitCount 1 = .ok (.iload_n 0, 1) := dk_26 (dk_at dksJ20_bitCount_0 1 rfl rfl)
theorem dJ20_bitCount_2 : decode cJ20_bitCount 2 = .ok (.iconst 1, 1) := dk_4 (dk_at dksJ20_bitCount_0 2 rfl rfl)
theorem dJ20_bitCount_3 : decode cJ20_bitCount 3 = .ok (.iushr, 1) := dk_124 (dk_at dksJ20_bitCount_0 3 rfl rfl)
theorem dJ20_bitCount_4 : decode cJ20_bitCount 4 = .ok (.ldc_w 265, 3) := dk_19 1 9 (dk_at dksJ20_bitCount_0 4 rfl rfl)
theorem dJ20_bitCount_7 : decode cJ20_bitCount 7 = .ok (.iand, 1) := dk_126 (dk_at dksJ20_bitCount_0 7 rfl rfl)
theorem dJ20_bitCount_8 : decode cJ20_bitCount 8 = .ok (.isub, 1) := dk_100 (dk_at dksJ20_bitCount_0 8 rfl rfl)
theorem dJ20_bitCount_9 : decode cJ20_bitCount 9 = .ok (.istore_n 0, 1) := dk_59 (dk_at dksJ20_bitCount_0 9 rfl rfl)
theorem dJ20_bitCount_10 : decode cJ20_bitCount 10 = .ok (.iload_n 0, 1) := dk_26 (dk_at dksJ20_bitCount_0 10 rfl rfl)
theorem dJ20_bitCount_11 : decode cJ20_bitCount 11 = .ok (.ldc_w 266, 3) := dk_19 1 10 (dk_at dksJ20_bitCount_0 11 rfl rfl)
theorem dJ20_bitCount_14 : decode cJ20_bitCount 14 = .ok (.iand, 1) := dk_126 (dk_at dksJ20_bitCount_0 14 rfl rfl)
theorem dJ20_bitCount_15 : decode cJ20_bitCount 15 = .ok (.iload_n 0, 1) := dk_26 (dk_at dksJ20_bitCount_0 15 rfl rfl)
theorem dJ20_bitCount_16 : decode cJ20_bitCount 16 = .ok (.iconst 2, 1) := dk_5 (dk_at dksJ20_bitCount_0 16 rfl rfl)
theorem dJ20_bitCount_17 : decode cJ20_bitCount 17 = .ok (.iushr, 1) := dk_124 (dk_at dksJ20_bitCount_0 17 rfl rfl)
theorem dJ20_bitCount_18 : decode cJ20_bitCount 18 = .ok (.ldc_w 266, 3) := dk_19 1 10 (dk_at dksJ20_bitCount_0 18 rfl rfl)
theorem dJ20_bitCount_21 : decode cJ20_bitCount 21 = .ok (.iand, 1) := dk_126 (dk_at dksJ20_bitCount_0 21 rfl rfl)
theorem dJ20_bitCount_22 : decode cJ20_bitCount 22 = .ok (.iadd, 1) := dk_96 (dk_at dksJ20_bitCount_0 22 rfl rfl)
theorem dJ20_bitCount_23 : decode cJ20_bitCount 23 = .ok (.istore_n 0, 1) := dk_59 (dk_at dksJ20_bitCount_0 23 rfl rfl)
theorem dJ20_bitCount_24 : decode cJ20_bitCount 24 = .ok (.iload_n 0, 1) := dk_26 (dk_at dksJ20_bitCount_1 0 rfl rfl)
theorem dJ20_bitCount_25 : decode cJ20_bitCount 25 = .ok (.iload_n 0, 1) := dk_26 (dk_at dksJ20_bitCount_1 1 rfl rfl)
theorem dJ20_bitCount_26 : decode cJ20_bitCount 26 = .ok (.iconst 4, 1) := dk_7 (dk_at dksJ20_bitCount_1 2 rfl rfl)
theorem dJ20_bitCount_27 : decode cJ20_bitCount 27 = .ok (.iushr, 1) := dk_124 (dk_at dksJ20_bitCount_1 3 rfl rfl)
theorem dJ20_bitCount_28 : decode cJ20_bitCount 28 = .ok (.iadd, 1) := dk_96 (dk_at dksJ20_bitCount_1 4 rfl rfl)
theorem dJ20_bitCount_29 : decode cJ20_bitCount 29 = .ok (.ldc_w 267, 3) := dk_19 1 11 (dk_at dksJ20_bitCount_1 5 rfl rfl)
theorem dJ20_bitCount_32 : decode cJ20_bitCount 32 = .ok (.iand, 1) := dk_126 (dk_at dksJ20_bitCount_1 8 rfl rfl)
theorem dJ20_bitCount_33 : decode cJ20_bitCount 33 = .ok (.istore_n 0, 1) := dk_59 (dk_at dksJ20_bitCount_1 9 rfl rfl)
theorem dJ20_bitCount_34 : decode cJ20_bitCount 34 = .ok (.iload_n 0, 1) := dk_26 (dk_at dksJ20_bitCount_1 10 rfl rfl)
theorem dJ20_bitCount_35 : decode cJ20_bitCount 35 = .ok (.iload_n 0, 1) := dk_26 (dk_at dksJ20_bitCount_1 11 rfl rfl)
theorem dJ20_bitCount_36 : decode cJ20_bitCount 36 = .ok (.bipush 8, 2) := dk_16 8 (dk_at dksJ20_bitCount_1 12 rfl rfl)
theorem dJ20_bitCount_38 : decode cJ20_bitCount 38 = .ok (.iushr, 1) := dk_124 (dk_at dksJ20_bitCount_1 14 rfl rfl)
theorem dJ20_bitCount_39 : decode cJ20_bitCount 39 = .ok (.iadd, 1) := dk_96 (dk_at dksJ20_bitCount_1 15 rfl rfl)
theorem dJ20_bitCount_40 : decode cJ20_bitCount 40 = .ok (.istore_n 0, 1) := dk_59 (dk_at dksJ20_bitCount_1 16 rfl rfl)
theorem dJ20_bitCount_41 : decode cJ20_bitCount 41 = .ok (.iload_n 0, 1) := dk_26 (dk_at dksJ20_bitCount_1 17 rfl rfl)
theorem dJ20_bitCount_42 : decode cJ20_bitCount 42 = .ok (.iload_n 0, 1) := dk_26 (dk_at dksJ20_bitCount_1 18 rfl rfl)
theorem dJ20_bitCount_43 : decode cJ20_bitCount 43 = .ok (.bipush 16, 2) := dk_16 16 (dk_at dksJ20_bitCount_1 19 rfl rfl)
theorem dJ20_bitCount_45 : decode cJ20_bitCount 45 = .ok (.iushr, 1) := dk_124 (dk_at dksJ20_bitCount_1 21 rfl rfl)
theorem dJ20_bitCount_46 : decode cJ20_bitCount 46 = .ok (.iadd, 1) := dk_96 (dk_at dksJ20_bitCount_1 22 rfl rfl)
theorem dJ20_bitCount_47 : decode cJ20_bitCount 47 = .ok (.istore_n 0, 1) := dk_59 (dk_at dksJ20_bitCount_1 23 rfl rfl)
theorem dJ20_bitCount_48 : decode cJ20_bitCount 48 = .ok (.iload_n 0, 1) := dk_26 (dk_at dksJ20_bitCount_2 0 rfl rfl)
theorem dJ20_bitCount_49 : decode cJ20_bitCount 49 = .ok (.bipush 63, 2) := dk_16 63 (dk_at dksJ20_bitCount_2 1 rfl rfl)
theorem dJ20_bitCount_51 : decode cJ20_bitCount 51 = .ok (.iand, 1) := dk_126 (dk_at dksJ20_bitCount_2 3 rfl rfl)
theorem dJ20_bitCount_52 : decode cJ20_bitCount 52 = .ok (.ireturn, 1) := dk_172 (dk_at dksJ20_bitCount_2 4 rfl rfl)
abbrev cJ20_hashCode : ByteArray := prog_35_method_32_code
def yJ20_hashCode : MethodName := ⟨RJ20, "hashCode", "()I"⟩
def dkwJ20_hashCode_0 : List UInt8 := [42, 180, 0, 205, 184, 0, 208, 172]
abbrev dktJ20_hashCode_0 : List UInt8 := dkwJ20_hashCode_0 ++ []
theorem dksJ20_hashCode_0 : cJ20_hashCode.data.toList.drop 0 = dktJ20_hashCode_0 := by decide +kernel
theorem dJ20_hashCode_0 : decode cJ20_hashCode 0 = .ok (.aload_n 0, 1) := dk_42 (dk_at dksJ20_hashCode_0 0 rfl rfl)
theorem dJ20_hashCode_1 : decode cJ20_hashCode 1 = .ok (.getfield 205, 3) := dk_180 0 205 (dk_at dksJ20_hashCode_0 1 rfl rfl)
theorem dJ20_hashCode_4 : decode cJ20_hashCode 4 = .ok (.invokestatic 208, 3) := dk_184 0 208 (dk_at dksJ20_hashCode_0 4 rfl rfl)
theorem dJ20_hashCode_7 : decode cJ20_hashCode 7 = .ok (.ireturn, 1) := dk_172 (dk_at dksJ20_hashCode_0 7 rfl rfl)
abbrev cJ20_hashCode_2 : ByteArray := prog_35_method_33_code
def yJ20_hashCode_2 : MethodName := ⟨RJ20, "hashCode", "(I)I"⟩
theorem dJ20_hashCode_2_0 : decode cJ20_hashCode_2 0 = .ok (.iload_n 0, 1) := by decide +kernel
theorem dJ20_hashCode_2_1 : decode cJ20_hashCode_2 1 = .ok (.ireturn, 1) := by decide +kernel
abbrev cJ20_equals : ByteArray := prog_35_method_34_code
def yJ20_equals : MethodName := ⟨RJ20, "equals", "(Ljava/lang/Object;)Z"⟩
def dkwJ20_equals_1 : List UInt8 := [167, 0, 4, 3, 172, 3, 172]
abbrev dktJ20_equals_1 : List UInt8 := dkwJ20_equals_1 ++ []
def dkwJ20_equals_0 : List UInt8 := [43, 193, 0, 1, 153, 0, 23, 42, 180, 0, 205, 43, 192, 0, 1, 182, 0, 211, 160, 0, 7, 4]
abbrev dktJ20_equals_0 : List UInt8 := dkwJ20_equals_0 ++ dktJ20_equals_1
theorem dksJ20_equals_0 : cJ20_equals.data.toList.drop 0 = dktJ20_equals_0 := by decide +kernel
theorem dksJ20_equals_1 : cJ20_equals.data.toList.drop 22 = dktJ20_equals_1 := dk_seg dksJ20_equals_0 22 rfl rfl
theorem dJ20_equals_0 : decode cJ20_equals 0 = .ok (.aload_n 1, 1) := dk_43 (dk_at dksJ20_equals_0 0 rfl rfl)
theorem dJ20_equals_1 : decode cJ20_equals 1 = .ok (.instanceof 1, 3) := dk_193 0 1 (dk_at dksJ20_equals_0 1 rfl rfl)
theorem dJ20_equals_4 : decode cJ20_equals 4 = .ok (.ifCond .eq 23, 3) := dk_153 0 23 (dk_at dksJ20_equals_0 4 rfl rfl)
theorem dJ20_equals_7 : decode cJ20_equals 7 = .ok (.aload_n 0, 1) := dk_42 (dk_at dksJ20_equals_0 7 rfl rfl)
theorem dJ20_equals_8 : decode cJ20_equals 8 = .ok (.getfield 205, 3) := dk_180 0 205 (dk_at dksJ20_equals_0 8 rfl rfl)
theorem dJ20_equals_11 : decode cJ20_equals 11 = .ok (.aload_n 1, 1) := dk_43 (dk_at dksJ20_equals_0 11 rfl rfl)
theorem dJ20_equals_12 : decode cJ20_equals 12 = .ok (.checkcast 1, 3) := dk_192 0 1 (dk_at dksJ20_equals_0 12 rfl rfl)
theorem dJ20_equals_15 : decode cJ20_equals 15 = .ok (.invokevirtual 211, 3) := dk_182 0 211 (dk_at dksJ20_equals_0 15 rfl rfl)
theorem dJ20_equals_18 : decode cJ20_equals 18 = .ok (.if_icmp .ne 7, 3) := dk_160 0 7 (dk_at dksJ20_equals_0 18 rfl rfl)
theorem dJ20_equals_21 : decode cJ20_equals 21 = .ok (.iconst 1, 1) := dk_4 (dk_at dksJ20_equals_0 21 rfl rfl)
theorem dJ20_equals_22 : decode cJ20_equals 22 = .ok (.goto 4, 3) := dk_167 0 4 (dk_at dksJ20_equals_1 0 rfl rfl)
theorem dJ20_equals_25 : decode cJ20_equals 25 = .ok (.iconst 0, 1) := dk_3 (dk_at dksJ20_equals_1 3 rfl rfl)
theorem dJ20_equals_26 : decode cJ20_equals 26 = .ok (.ireturn, 1) := dk_172 (dk_at dksJ20_equals_1 4 rfl rfl)
theorem dJ20_equals_27 : decode cJ20_equals 27 = .ok (.iconst 0, 1) := dk_3 (dk_at dksJ20_equals_1 5 rfl rfl)
theorem dJ20_equals_28 : decode cJ20_equals 28 = .ok (.ireturn, 1) := dk_172 (dk_at dksJ20_equals_1 6 rfl rfl)
abbrev cJ20_intValue : ByteArray := prog_35_method_27_code
def yJ20_intValue : MethodName := ⟨RJ20, "intValue", "()I"⟩
theorem dJ20_intValue_0 : decode cJ20_intValue 0 = .ok (.aload_n 0, 1) := by decide +kernel
theorem dJ20_intValue_1 : decode cJ20_intValue 1 = .ok (.getfield 205, 3) := by decide +kernel
theorem dJ20_intValue_4 : decode cJ20_intValue 4 = .ok (.ireturn, 1) := by decide +kernel
abbrev cJ20_numberOfLeadingZeros : ByteArray := prog_35_method_47_code
def yJ20_numberOfLeadingZeros : MethodName := ⟨RJ20, "numberOfLeadingZeros", "(I)I"⟩
def dkwJ20_numberOfLeadingZeros_3 : List UInt8 := [5, 124, 59, 27, 26, 4, 124, 100, 172]
abbrev dktJ20_numberOfLeadingZeros_3 : List UInt8 := dkwJ20_numberOfLeadingZeros_3 ++ []
def dkwJ20_numberOfLeadingZeros_2 : List UInt8 := [124, 59, 26, 16, 16, 161, 0, 10, 132, 1, 252, 26, 7, 124, 59, 26, 7, 161, 0, 10, 132, 1, 254, 26]
abbrev dktJ20_numberOfLeadingZeros_2 : List UInt8 := dkwJ20_numberOfLeadingZeros_2 ++ dktJ20_numberOfLeadingZeros_3
def dkwJ20_numberOfLeadingZeros_1 : List UInt8 := [161, 0, 11, 132, 1, 240, 26, 16, 16, 124, 59, 26, 17, 1, 0, 161, 0, 11, 132, 1, 248, 26, 16, 8]
abbrev dktJ20_numberOfLeadingZeros_1 : List UInt8 := dkwJ20_numberOfLeadingZeros_1 ++ dktJ20_numberOfLeadingZeros_2
def dkwJ20_numberOfLeadingZeros_0 : List UInt8 := [26, 157, 0, 14, 26, 154, 0, 8, 16, 32, 167, 0, 4, 3, 172, 16, 31, 60, 26, 19, 1, 8]
abbrev dktJ20_numberOfLeadingZeros_0 : List UInt8 := dkwJ20_numberOfLeadingZeros_0 ++ dktJ20_numberOfLeadingZeros_1
theorem dksJ20_numberOfLeadingZeros_0 : cJ20_numberOfLeadingZeros.data.toList.drop 0 = dktJ20_numberOfLeadingZeros_0 := by decide +kernel
theorem dksJ20_numberOfLeadingZeros_1 : cJ20_numberOfLeadingZeros.data.toList.drop 22 = dktJ20_numberOfLeadingZeros_1 := dk_seg dksJ20_numberOfLeadingZeros_0 22 rfl rfl
theorem dksJ20_numberOfLeadingZeros_2 : cJ20_numberOfLeadingZeros.data.toList.drop 46 = dktJ20_numberOfLeadingZeros_2 := dk_seg dksJ20_numberOfLeadingZeros_1 24 rfl rfl
theorem dksJ20_numberOfLeadingZeros_3 : cJ20_numberOfLeadingZeros.data.toList.drop 70 = dktJ20_numberOfLeadingZeros_3 := dk_seg dksJ20_numberOfLeadingZeros_2 24 rfl rfl
theorem dJ20_numberOfLeadingZeros_0 : decode cJ20_numberOfLeadingZeros 0 = .ok (.iload_n 0, 1) := dk_26 (dk_at dksJ20_numberOfLeadingZeros_0 0 rfl rfl)
theorem dJ20_numberOfLeadingZeros_1 : decode cJ20_numberOfLeadingZeros 1 = .ok (.ifCond .gt 14, 3) := dk_157 0 14 (dk_at dksJ20_numberOfLeadingZeros_0 1 rfl rfl)
theorem dJ20_numberOfLeadingZeros_4 : decode cJ20_numberOfLeadingZeros 4 = .ok (.iload_n 0, 1) := dk_26 (dk_at dksJ20_numberOfLeadingZeros_0 4 rfl rfl)
theorem dJ20_numberOfLeadingZeros_5 : decode cJ20_numberOfLeadingZeros 5 = .ok (.ifCond .ne 8, 3) := dk_154 0 8 (dk_at dksJ20_numberOfLeadingZeros_0 5 rfl rfl)
theorem dJ20_numberOfLeadingZeros_8 : decode cJ20_numberOfLeadingZeros 8 = .ok (.bipush 32, 2) := dk_16 32 (dk_at dksJ20_numberOfLeadingZeros_0 8 rfl rfl)
theorem dJ20_numberOfLeadingZeros_10 : decode cJ20_numberOfLeadingZeros 10 = .ok (.goto 4, 3) := dk_167 0 4 (dk_at dksJ20_numberOfLeadingZeros_0 10 rfl rfl)
theorem dJ20_numberOfLeadingZeros_13 : decode cJ20_numberOfLeadingZeros 13 = .ok (.iconst 0, 1) := dk_3 (dk_at dksJ20_numberOfLeadingZeros_0 13 rfl rfl)
theorem dJ20_numberOfLeadingZeros_14 : decode cJ20_numberOfLeadingZeros 14 = .ok (.ireturn, 1) := dk_172 (dk_at dksJ20_numberOfLeadingZeros_0 14 rfl rfl)
theorem dJ20_numberOfLeadingZeros_15 : decode cJ20_numberOfLeadingZeros 15 = .ok (.bipush 31, 2) := dk_16 31 (dk_at dksJ20_numberOfLeadingZeros_0 15 rfl rfl)
theorem dJ20_numberOfLeadingZeros_17 : decode cJ20_numberOfLeadingZeros 17 = .ok (.istore_n 1, 1) := dk_60 (dk_at dksJ20_numberOfLeadingZeros_0 17 rfl rfl)
theorem dJ20_numberOfLeadingZeros_18 : decode cJ20_numberOfLeadingZeros 18 = .ok (.iload_n 0, 1) := dk_26 (dk_at dksJ20_numberOfLeadingZeros_0 18 rfl rfl)
theorem dJ20_numberOfLeadingZeros_19 : decode cJ20_numberOfLeadingZeros 19 = .ok (.ldc_w 264, 3) := dk_19 1 8 (dk_at dksJ20_numberOfLeadingZeros_0 19 rfl rfl)
theorem dJ20_numberOfLeadingZeros_22 : decode cJ20_numberOfLeadingZeros 22 = .ok (.if_icmp .lt 11, 3) := dk_161 0 11 (dk_at dksJ20_numberOfLeadingZeros_1 0 rfl rfl)
theorem dJ20_numberOfLeadingZeros_25 : decode cJ20_numberOfLeadingZeros 25 = .ok (.iinc 1 (-16), 3) := dk_132 1 240 (dk_at dksJ20_numberOfLeadingZeros_1 3 rfl rfl)
theorem dJ20_numberOfLeadingZeros_28 : decode cJ20_numberOfLeadingZeros 28 = .ok (.iload_n 0, 1) := dk_26 (dk_at dksJ20_numberOfLeadingZeros_1 6 rfl rfl)
theorem dJ20_numberOfLeadingZeros_29 : decode cJ20_numberOfLeadingZeros 29 = .ok (.bipush 16, 2) := dk_16 16 (dk_at dksJ20_numberOfLeadingZeros_1 7 rfl rfl)
theorem dJ20_numberOfLeadingZeros_31 : decode cJ20_numberOfLeadingZeros 31 = .ok (.iushr, 1) := dk_124 (dk_at dksJ20_numberOfLeadingZeros_1 9 rfl rfl)
theorem dJ20_numberOfLeadingZeros_32 : decode cJ20_numberOfLeadingZeros 32 = .ok (.istore_n 0, 1) := dk_59 (dk_at dksJ20_numberOfLeadingZeros_1 10 rfl rfl)
theorem dJ20_numberOfLeadingZeros_33 : decode cJ20_numberOfLeadingZeros 33 = .ok (.iload_n 0, 1) := dk_26 (dk_at dksJ20_numberOfLeadingZeros_1 11 rfl rfl)
theorem dJ20_numberOfLeadingZeros_34 : decode cJ20_numberOfLeadingZeros 34 = .ok (.sipush 256, 3) := dk_17 1 0 (dk_at dksJ20_numberOfLeadingZeros_1 12 rfl rfl)
theorem dJ20_numberOfLeadingZeros_37 : decode cJ20_numberOfLeadingZeros 37 = .ok (.if_icmp .lt 11, 3) := dk_161 0 11 (dk_at dksJ20_numberOfLeadingZeros_1 15 rfl rfl)
theorem dJ20_numberOfLeadingZeros_40 : decode cJ20_numberOfLeadingZeros 40 = .ok (.iinc 1 (-8), 3) := dk_132 1 248 (dk_at dksJ20_numberOfLeadingZeros_1 18 rfl rfl)
theorem dJ20_numberOfLeadingZeros_43 : decode cJ20_numberOfLeadingZeros 43 = .ok (.iload_n 0, 1) := dk_26 (dk_at dksJ20_numberOfLeadingZeros_1 21 rfl rfl)
theorem dJ20_numberOfLeadingZeros_44 : decode cJ20_numberOfLeadingZeros 44 = .ok (.bipush 8, 2) := dk_16 8 (dk_at dksJ20_numberOfLeadingZeros_1 22 rfl rfl)
theorem dJ20_numberOfLeadingZeros_46 : decode cJ20_numberOfLeadingZeros 46 = .ok (.iushr, 1) := dk_124 (dk_at dksJ20_numberOfLeadingZeros_2 0 rfl rfl)
theorem dJ20_numberOfLeadingZeros_47 : decode cJ20_numberOfLeadingZeros 47 = .ok (.istore_n 0, 1) := dk_59 (dk_at dksJ20_numberOfLeadingZeros_2 1 rfl rfl)
theorem dJ20_numberOfLeadingZeros_48 : decode cJ20_numberOfLeadingZeros 48 = .ok (.iload_n 0, 1) := dk_26 (dk_at dksJ20_numberOfLeadingZeros_2 2 rfl rfl)
theorem dJ20_numberOfLeadingZeros_49 : decode cJ20_numberOfLeadingZeros 49 = .ok (.bipush 16, 2) := dk_16 16 (dk_at dksJ20_numberOfLeadingZeros_2 3 rfl rfl)
theorem dJ20_numberOfLeadingZeros_51 : decode cJ20_numberOfLeadingZeros 51 = .ok (.if_icmp .lt 10, 3) := dk_161 0 10 (dk_at dksJ20_numberOfLeadingZeros_2 5 rfl rfl)
theorem dJ20_numberOfLeadingZeros_54 : decode cJ20_numberOfLeadingZeros 54 = .ok (.iinc 1 (-4), 3) := dk_132 1 252 (dk_at dksJ20_numberOfLeadingZeros_2 8 rfl rfl)
theorem dJ20_numberOfLeadingZeros_57 : decode cJ20_numberOfLeadingZeros 57 = .ok (.iload_n 0, 1) := dk_26 (dk_at dksJ20_numberOfLeadingZeros_2 11 rfl rfl)
theorem dJ20_numberOfLeadingZeros_58 : decode cJ20_numberOfLeadingZeros 58 = .ok (.iconst 4, 1) := dk_7 (dk_at dksJ20_numberOfLeadingZeros_2 12 rfl rfl)
theorem dJ20_numberOfLeadingZeros_59 : decode cJ20_numberOfLeadingZeros 59 = .ok (.iushr, 1) := dk_124 (dk_at dksJ20_numberOfLeadingZeros_2 13 rfl rfl)
theorem dJ20_numberOfLeadingZeros_60 : decode cJ20_numberOfLeadingZeros 60 = .ok (.istore_n 0, 1) := dk_59 (dk_at dksJ20_numberOfLeadingZeros_2 14 rfl rfl)
theorem dJ20_numberOfLeadingZeros_61 : decode cJ20_numberOfLeadingZeros 61 = .ok (.iload_n 0, 1) := dk_26 (dk_at dksJ20_numberOfLeadingZeros_2 15 rfl rfl)
theorem dJ20_numberOfLeadingZeros_62 : decode cJ20_numberOfLeadingZeros 62 = .ok (.iconst 4, 1) := dk_7 (dk_at dksJ20_numberOfLeadingZeros_2 16 rfl rfl)
theorem dJ20_numberOfLeadingZeros_63 : decode cJ20_numberOfLeadingZeros 63 = .ok (.if_icmp .lt 10, 3) := dk_161 0 10 (dk_at dksJ20_numberOfLeadingZeros_2 17 rfl rfl)
theorem dJ20_numberOfLeadingZeros_66 : decode cJ20_numberOfLeadingZeros 66 = .ok (.iinc 1 (-2), 3) := dk_132 1 254 (dk_at dksJ20_numberOfLeadingZeros_2 20 rfl rfl)
theorem dJ20_numberOfLeadingZeros_69 : decode cJ20_numberOfLeadingZeros 69 = .ok (.iload_n 0, 1) := dk_26 (dk_at dksJ20_numberOfLeadingZeros_2 23 rfl rfl)
theorem dJ20_numberOfLeadingZeros_70 : decode cJ20_numberOfLeadingZeros 70 = .ok (.iconst 2, 1) := dk_5 (dk_at dksJ20_numberOfLeadingZeros_3 0 rfl rfl)
theorem dJ20_numberOfLeadingZeros_71 : decode cJ20_numberOfLeadingZeros 71 = .ok (.iushr, 1) := dk_124 (dk_at dksJ20_numberOfLeadingZeros_3 1 rfl rfl)
theorem dJ20_numberOfLeadingZeros_72 : decode cJ20_numberOfLeadingZeros 72 = .ok (.istore_n 0, 1) := dk_59 (dk_at dksJ20_numberOfLeadingZeros_3 2 rfl rfl)
theorem dJ20_numberOfLeadingZeros_73 : decode cJ20_numberOfLeadingZeros 73 = .ok (.iload_n 1, 1) := dk_27 (dk_at dksJ20_numberOfLeadingZeros_3 3 rfl rfl)
theorem dJ20_numberOfLeadingZeros_74 : decode cJ20_numberOfLeadingZeros 74 = .ok (.iload_n 0, 1) := dk_26 (dk_at dksJ20_numberOfLeadingZeros_3 4 rfl rfl)
theorem dJ20_numberOfLeadingZeros_75 : decode cJ20_numberOfLeadingZeros 75 = .ok (.iconst 1, 1) := dk_4 (dk_at dksJ20_numberOfLeadingZeros_3 5 rfl rfl)
theorem dJ20_numberOfLeadingZeros_76 : decode cJ20_numberOfLeadingZeros 76 = .ok (.iushr, 1) := dk_124 (dk_at dksJ20_numberOfLeadingZeros_3 6 rfl rfl)
theorem dJ20_numberOfLeadingZeros_77 : decode cJ20_numberOfLeadingZeros 77 = .ok (.isub, 1) := dk_100 (dk_at dksJ20_numberOfLeadingZeros_3 7 rfl rfl)
theorem dJ20_numberOfLeadingZeros_78 : decode cJ20_numberOfLeadingZeros 78 = .ok (.ireturn, 1) := dk_172 (dk_at dksJ20_numberOfLeadingZeros_3 8 rfl rfl)
abbrev cJ20_valueOf : ByteArray := prog_35_method_22_code
def yJ20_valueOf : MethodName := ⟨RJ20, "valueOf", "(I)Ljava/lang/Integer;"⟩
def dkwJ20_valueOf_1 : List UInt8 := [187, 0, 1, 89, 26, 183, 0, 199, 176]
abbrev dktJ20_valueOf_1 : List UInt8 := dkwJ20_valueOf_1 ++ []
def dkwJ20_valueOf_0 : List UInt8 := [26, 16, 128, 161, 0, 20, 26, 178, 0, 191, 163, 0, 13, 178, 0, 195, 26, 17, 0, 128, 96, 50, 176]
abbrev dktJ20_valueOf_0 : List UInt8 := dkwJ20_valueOf_0 ++ dktJ20_valueOf_1
theorem dksJ20_valueOf_0 : cJ20_valueOf.data.toList.drop 0 = dktJ20_valueOf_0 := by decide +kernel
theorem dksJ20_valueOf_1 : cJ20_valueOf.data.toList.drop 23 = dktJ20_valueOf_1 := dk_seg dksJ20_valueOf_0 23 rfl rfl
theorem dJ20_valueOf_0 : decode cJ20_valueOf 0 = .ok (.iload_n 0, 1) := dk_26 (dk_at dksJ20_valueOf_0 0 rfl rfl)
theorem dJ20_valueOf_1 : decode cJ20_valueOf 1 = .ok (.bipush (-128), 2) := dk_16 128 (dk_at dksJ20_valueOf_0 1 rfl rfl)
theorem dJ20_valueOf_3 : decode cJ20_valueOf 3 = .ok (.if_icmp .lt 20, 3) := dk_161 0 20 (dk_at dksJ20_valueOf_0 3 rfl rfl)
theorem dJ20_valueOf_6 : decode cJ20_valueOf 6 = .ok (.iload_n 0, 1) := dk_26 (dk_at dksJ20_valueOf_0 6 rfl rfl)
theorem dJ20_valueOf_7 : decode cJ20_valueOf 7 = .ok (.getstatic 191, 3) := dk_178 0 191 (dk_at dksJ20_valueOf_0 7 rfl rfl)
theorem dJ20_valueOf_10 : decode cJ20_valueOf 10 = .ok (.if_icmp .gt 13, 3) := dk_163 0 13 (dk_at dksJ20_valueOf_0 10 rfl rfl)
theorem dJ20_valueOf_13 : decode cJ20_valueOf 13 = .ok (.getstatic 195, 3) := dk_178 0 195 (dk_at dksJ20_valueOf_0 13 rfl rfl)
theorem dJ20_valueOf_16 : decode cJ20_valueOf 16 = .ok (.iload_n 0, 1) := dk_26 (dk_at dksJ20_valueOf_0 16 rfl rfl)
theorem dJ20_valueOf_17 : decode cJ20_valueOf 17 = .ok (.sipush 128, 3) := dk_17 0 128 (dk_at dksJ20_valueOf_0 17 rfl rfl)
theorem dJ20_valueOf_20 : decode cJ20_valueOf 20 = .ok (.iadd, 1) := dk_96 (dk_at dksJ20_valueOf_0 20 rfl rfl)
theorem dJ20_valueOf_21 : decode cJ20_valueOf 21 = .ok (.aaload, 1) := dk_50 (dk_at dksJ20_valueOf_0 21 rfl rfl)
theorem dJ20_valueOf_22 : decode cJ20_valueOf 22 = .ok (.areturn, 1) := dk_176 (dk_at dksJ20_valueOf_0 22 rfl rfl)
theorem dJ20_valueOf_23 : decode cJ20_valueOf 23 = .ok (.new 1, 3) := dk_187 0 1 (dk_at dksJ20_valueOf_1 0 rfl rfl)
theorem dJ20_valueOf_26 : decode cJ20_valueOf 26 = .ok (.dup, 1) := dk_89 (dk_at dksJ20_valueOf_1 3 rfl rfl)
theorem dJ20_valueOf_27 : decode cJ20_valueOf 27 = .ok (.iload_n 0, 1) := dk_26 (dk_at dksJ20_valueOf_1 4 rfl rfl)
theorem dJ20_valueOf_28 : decode cJ20_valueOf 28 = .ok (.invokespecial 199, 3) := dk_183 0 199 (dk_at dksJ20_valueOf_1 5 rfl rfl)
theorem dJ20_valueOf_31 : decode cJ20_valueOf 31 = .ok (.areturn, 1) := dk_176 (dk_at dksJ20_valueOf_1 8 rfl rfl)
abbrev cJ20_init : ByteArray := prog_35_method_23_code
def yJ20_init : MethodName := ⟨RJ20, "<init>", "(I)V"⟩
def dkwJ20_init_0 : List UInt8 := [42, 183, 0, 202, 42, 27, 181, 0, 205, 177]
abbrev dktJ20_init_0 : List UInt8 := dkwJ20_init_0 ++ []
theorem dksJ20_init_0 : cJ20_init.data.toList.drop 0 = dktJ20_init_0 := by decide +kernel
theorem dJ20_init_0 : decode cJ20_init 0 = .ok (.aload_n 0, 1) := dk_42 (dk_at dksJ20_init_0 0 rfl rfl)
theorem dJ20_init_1 : decode cJ20_init 1 = .ok (.invokespecial 202, 3) := dk_183 0 202 (dk_at dksJ20_init_0 1 rfl rfl)
theorem dJ20_init_4 : decode cJ20_init 4 = .ok (.aload_n 0, 1) := dk_42 (dk_at dksJ20_init_0 4 rfl rfl)
theorem dJ20_init_5 : decode cJ20_init 5 = .ok (.iload_n 1, 1) := dk_27 (dk_at dksJ20_init_0 5 rfl rfl)
theorem dJ20_init_6 : decode cJ20_init 6 = .ok (.putfield 205, 3) := dk_181 0 205 (dk_at dksJ20_init_0 6 rfl rfl)
theorem dJ20_init_9 : decode cJ20_init 9 = .ok (.return_, 1) := dk_177 (dk_at dksJ20_init_0 9 rfl rfl)
theorem q157 : (Jvm.Cond.initialized "java/lang/Integer") ∈ lw_all := lw_g (lw_at lw_m1 30 rfl) rfl
theorem q768 : (Jvm.Cond.static ({ cls := "java/lang/Integer", name := "stringSize", desc := "(I)I" } : Jvm.MethodName)) ∈ lw_all := lw_g (lw_at lw_m3 161 rfl) rfl
theorem q769 : (Jvm.Cond.code ({ cls := "java/lang/Integer", name := "stringSize", desc := "(I)I" } : Jvm.MethodName) prog_35_method_13_code (4 : Nat) (Option.some Jvm.ClassFile.FieldType.int)) ∈ lw_all := lw_g (lw_at lw_m3 162 rfl) rfl
theorem q771 : (Jvm.Cond.static ({ cls := "java/lang/Integer", name := "getChars", desc := "(II[B)I" } : Jvm.MethodName)) ∈ lw_all := lw_g (lw_at lw_m3 164 rfl) rfl
theorem q772 : (Jvm.Cond.code ({ cls := "java/lang/Integer", name := "getChars", desc := "(II[B)I" } : Jvm.MethodName) prog_35_method_12_code (7 : Nat) (Option.some Jvm.ClassFile.FieldType.int)) ∈ lw_all := lw_g (lw_at lw_m3 165 rfl) rfl
theorem q773 : (Jvm.Cond.fieldLink "java/lang/Integer" (83 : Nat) "java/lang/Integer" "DigitOnes" "[B") ∈ lw_all := lw_g (lw_at lw_m3 166 rfl) rfl
theorem q775 : (Jvm.Cond.fieldLink "java/lang/Integer" (87 : Nat) "java/lang/Integer" "DigitTens" "[B") ∈ lw_all := lw_g (lw_at lw_m3 168 rfl) rfl
theorem q1620 : (Jvm.Cond.static ({ cls := "java/lang/Integer", name := "bitCount", desc := "(I)I" } : Jvm.MethodName)) ∈ lw_all := lw_g (lw_at lw_m7 53 rfl) rfl
theorem q1621 : (Jvm.Cond.code ({ cls := "java/lang/Integer", name := "bitCount", desc := "(I)I" } : Jvm.MethodName) prog_35_method_49_code (1 : Nat) (Option.some Jvm.ClassFile.FieldType.int)) ∈ lw_all := lw_g (lw_at lw_m7 54 rfl) rfl
theorem q1622 : (Jvm.Cond.constant "java/lang/Integer" (265 : Nat) (1431655765 : Int32)) ∈ lw_all := lw_g (lw_at lw_m7 55 rfl) rfl
theorem q1623 : (Jvm.Cond.constant "java/lang/Integer" (266 : Nat) (858993459 : Int32)) ∈ lw_all := lw_g (lw_at lw_m7 56 rfl) rfl
theorem q1624 : (Jvm.Cond.constant "java/lang/Integer" (267 : Nat) (252645135 : Int32)) ∈ lw_all := lw_g (lw_at lw_m7 57 rfl) rfl
theorem q2043 : (Jvm.Cond.selects "java/lang/Integer" ({ cls := "java/lang/Object", name := "hashCode", desc := "()I" } : Jvm.MethodName) ({ cls := "java/lang/Integer", name := "hashCode", desc := "()I" } : Jvm.MethodName)) ∈ lw_all := lw_g (lw_at lw_m8 236 rfl) rfl
theorem q2044 : (Jvm.Cond.instanceMethod ({ cls := "java/lang/Integer", name := "hashCode", desc := "()I" } : Jvm.MethodName)) ∈ lw_all := lw_g (lw_at lw_m8 237 rfl) rfl
theorem q2045 : (Jvm.Cond.code ({ cls := "java/lang/Integer", name := "hashCode", desc := "()I" } : Jvm.MethodName) prog_35_method_32_code (1 : Nat) (Option.some Jvm.ClassFile.FieldType.int)) ∈ lw_all := lw_g (lw_at lw_m8 238 rfl) rfl
theorem q2046 : (Jvm.Cond.methodLink "java/lang/Integer" (208 : Nat) ({ cls := "java/lang/Integer", name := "hashCode", desc := "(I)I" } : Jvm.MethodName)) ∈ lw_all := lw_g (lw_at lw_m8 239 rfl) rfl
theorem q2047 : (Jvm.Cond.static ({ cls := "java/lang/Integer", name := "hashCode", desc := "(I)I" } : Jvm.MethodName)) ∈ lw_all := lw_g (lw_at lw_m9 0 rfl) rfl
theorem q2048 : (Jvm.Cond.code ({ cls := "java/lang/Integer", name := "hashCode", desc := "(I)I" } : Jvm.MethodName) prog_35_method_33_code (1 : Nat) (Option.some Jvm.ClassFile.FieldType.int)) ∈ lw_all := lw_g (lw_at lw_m9 1 rfl) rfl
theorem q2084 : (Jvm.Cond.selects "java/lang/Integer" ({ cls := "java/lang/Object", name := "equals", desc := "(Ljava/lang/Object;)Z" } : Jvm.MethodName) ({ cls := "java/lang/Integer", name := "equals", desc := "(Ljava/lang/Object;)Z" } : Jvm.MethodName)) ∈ lw_all := lw_g (lw_at lw_m9 37 rfl) rfl
theorem q2085 : (Jvm.Cond.instanceMethod ({ cls := "java/lang/Integer", name := "equals", desc := "(Ljava/lang/Object;)Z" } : Jvm.MethodName)) ∈ lw_all := lw_g (lw_at lw_m9 38 rfl) rfl
theorem q2086 : (Jvm.Cond.code ({ cls := "java/lang/Integer", name := "equals", desc := "(Ljava/lang/Object;)Z" } : Jvm.MethodName) prog_35_method_34_code (2 : Nat) (Option.some Jvm.ClassFile.FieldType.boolean)) ∈ lw_all := lw_g (lw_at lw_m9 39 rfl) rfl
theorem q2087 : (Jvm.Cond.classLink "java/lang/Integer" (1 : Nat) "java/lang/Integer") ∈ lw_all := lw_g (lw_at lw_m9 40 rfl) rfl
theorem q2088 : (Jvm.Cond.methodLink "java/lang/Integer" (211 : Nat) ({ cls := "java/lang/Integer", name := "intValue", desc := "()I" } : Jvm.MethodName)) ∈ lw_all := lw_g (lw_at lw_m9 41 rfl) rfl
theorem q2089 : (Jvm.Cond.instanceMethod ({ cls := "java/lang/Integer", name := "intValue", desc := "()I" } : Jvm.MethodName)) ∈ lw_all := lw_g (lw_at lw_m9 42 rfl) rfl
theorem q2090 : (Jvm.Cond.selects "java/lang/Integer" ({ cls := "java/lang/Integer", name := "intValue", desc := "()I" } : Jvm.MethodName) ({ cls := "java/lang/Integer", name := "intValue", desc := "()I" } : Jvm.MethodName)) ∈ lw_all := lw_g (lw_at lw_m9 43 rfl) rfl
theorem q2091 : (Jvm.Cond.code ({ cls := "java/lang/Integer", name := "intValue", desc := "()I" } : Jvm.MethodName) prog_35_method_27_code (1 : Nat) (Option.some Jvm.ClassFile.FieldType.int)) ∈ lw_all := lw_g (lw_at lw_m9 44 rfl) rfl
theorem q2228 : (Jvm.Cond.static ({ cls := "java/lang/Integer", name := "numberOfLeadingZeros", desc := "(I)I" } : Jvm.MethodName)) ∈ lw_all := lw_g (lw_at lw_m9 181 rfl) rfl
theorem q2229 : (Jvm.Cond.code ({ cls := "java/lang/Integer", name := "numberOfLeadingZeros", desc := "(I)I" } : Jvm.MethodName) prog_35_method_47_code (2 : Nat) (Option.some Jvm.ClassFile.FieldType.int)) ∈ lw_all := lw_g (lw_at lw_m9 182 rfl) rfl
theorem q2230 : (Jvm.Cond.constant "java/lang/Integer" (264 : Nat) (65536 : Int32)) ∈ lw_all := lw_g (lw_at lw_m9 183 rfl) rfl
theorem q2786 : (Jvm.Cond.static ({ cls := "java/lang/Integer", name := "valueOf", desc := "(I)Ljava/lang/Integer;" } : Jvm.MethodName)) ∈ lw_all := lw_g (lw_at lw_m12 19 rfl) rfl
theorem q2787 : (Jvm.Cond.code ({ cls := "java/lang/Integer", name := "valueOf", desc := "(I)Ljava/lang/Integer;" } : Jvm.MethodName) prog_35_method_22_code (1 : Nat) (Option.some (Jvm.ClassFile.FieldType.object "java/lang/Integer"))) ∈ lw_all := lw_g (lw_at lw_m12 20 rfl) rfl
theorem q2788 : (Jvm.Cond.fieldLink "java/lang/Integer" (191 : Nat) "java/lang/Integer$IntegerCache" "high" "I") ∈ lw_all := lw_g (lw_at lw_m12 21 rfl) rfl
theorem q2790 : (Jvm.Cond.fieldLink "java/lang/Integer" (195 : Nat) "java/lang/Integer$IntegerCache" "cache" "[Ljava/lang/Integer;") ∈ lw_all := lw_g (lw_at lw_m12 23 rfl) rfl
theorem q2792 : (Jvm.Cond.instantiable "java/lang/Integer" (1 : Nat)) ∈ lw_all := lw_g (lw_at lw_m12 25 rfl) rfl
theorem q2793 : (Jvm.Cond.methodLink "java/lang/Integer" (199 : Nat) ({ cls := "java/lang/Integer", name := "<init>", desc := "(I)V" } : Jvm.MethodName)) ∈ lw_all := lw_g (lw_at lw_m12 26 rfl) rfl
theorem q2794 : (Jvm.Cond.instanceMethod ({ cls := "java/lang/Integer", name := "<init>", desc := "(I)V" } : Jvm.MethodName)) ∈ lw_all := lw_g (lw_at lw_m12 27 rfl) rfl
theorem q2795 : (Jvm.Cond.code ({ cls := "java/lang/Integer", name := "<init>", desc := "(I)V" } : Jvm.MethodName) prog_35_method_23_code (2 : Nat) (Option.none : Option Jvm.ClassFile.FieldType)) ∈ lw_all := lw_g (lw_at lw_m12 28 rfl) rfl
theorem q2796 : (Jvm.Cond.methodLink "java/lang/Integer" (202 : Nat) ({ cls := "java/lang/Number", name := "<init>", desc := "()V" } : Jvm.MethodName)) ∈ lw_all := lw_g (lw_at lw_m12 29 rfl) rfl
theorem q2800 : (Jvm.Cond.fieldLink "java/lang/Integer" (205 : Nat) "java/lang/Integer" "value" "I") ∈ lw_all := lw_g (lw_at lw_m12 33 rfl) rfl
theorem q4703 : (Jvm.Cond.castable "java/lang/Integer" "java/lang/Object") ∈ lw_tbl := lw_at lw_m20 16 rfl
theorem in_J20 : ∀ w ∈ wsJ200, w ∈ lw_all := lw_in wsJ200 [2801] (by decide +kernel) (by decide +kernel)
/-! J21.java_util_Objects.lean.txt -/
def RJ21 : String := "java/util/Objects"
abbrev cJ21_checkIndex : ByteArray := prog_85_method_17_code
def yJ21_checkIndex : MethodName := ⟨RJ21, "checkIndex", "(II)I"⟩
def dkwJ21_checkIndex_0 : List UInt8 := [26, 27, 1, 184, 0, 105, 172]
abbrev dktJ21_checkIndex_0 : List UInt8 := dkwJ21_checkIndex_0 ++ []
theorem dksJ21_checkIndex_0 : cJ21_checkIndex.data.toList.drop 0 = dktJ21_checkIndex_0 := by decide +kernel
theorem dJ21_checkIndex_0 : decode cJ21_checkIndex 0 = .ok (.iload_n 0, 1) := dk_26 (dk_at dksJ21_checkIndex_0 0 rfl rfl)
theorem dJ21_checkIndex_1 : decode cJ21_checkIndex 1 = .ok (.iload_n 1, 1) := dk_27 (dk_at dksJ21_checkIndex_0 1 rfl rfl)
theorem dJ21_checkIndex_2 : decode cJ21_checkIndex 2 = .ok (.aconst_null, 1) := dk_1 (dk_at dksJ21_checkIndex_0 2 rfl rfl)
theorem dJ21_checkIndex_3 : decode cJ21_checkIndex 3 = .ok (.invokestatic 105, 3) := dk_184 0 105 (dk_at dksJ21_checkIndex_0 3 rfl rfl)
theorem dJ21_checkIndex_6 : decode cJ21_checkIndex 6 = .ok (.ireturn, 1) := dk_172 (dk_at dksJ21_checkIndex_0 6 rfl rfl)
theorem q158 : (Jvm.Cond.initialized "java/util/Objects") ∈ lw_all := lw_g (lw_at lw_m1 31 rfl) rfl
theorem q999 : (Jvm.Cond.static ({ cls := "java/util/Objects", name := "checkIndex", desc := "(II)I" } : Jvm.MethodName)) ∈ lw_all := lw_g (lw_at lw_m4 152 rfl) rfl
theorem q1000 : (Jvm.Cond.code ({ cls := "java/util/Objects", name := "checkIndex", desc := "(II)I" } : Jvm.MethodName) prog_85_method_17_code (2 : Nat) (Option.some Jvm.ClassFile.FieldType.int)) ∈ lw_all := lw_g (lw_at lw_m4 153 rfl) rfl
theorem q1001 : (Jvm.Cond.methodLink "java/util/Objects" (105 : Nat) ({ cls := "jdk/internal/util/Preconditions", name := "checkIndex", desc := "(IILjava/util/function/BiFunction;)I" } : Jvm.MethodName)) ∈ lw_all := lw_g (lw_at lw_m4 154 rfl) rfl
/-! J22.java_util_AbstractMap.lean.txt -/
def RJ22 : String := "java/util/AbstractMap"
abbrev cJ22_init : ByteArray := prog_55_method_1_code
def yJ22_init : MethodName := ⟨RJ22, "<init>", "()V"⟩
theorem dJ22_init_0 : decode cJ22_init 0 = .ok (.aload_n 0, 1) := by decide +kernel
theorem dJ22_init_1 : decode cJ22_init 1 = .ok (.invokespecial 1, 3) := by decide +kernel
theorem dJ22_init_4 : decode cJ22_init 4 = .ok (.return_, 1) := by decide +kernel
theorem q163 : (Jvm.Cond.initialized "java/util/AbstractMap") ∈ lw_all := lw_g (lw_at lw_m1 36 rfl) rfl
theorem q1247 : (Jvm.Cond.instanceMethod ({ cls := "java/util/AbstractMap", name := "<init>", desc := "()V" } : Jvm.MethodName)) ∈ lw_all := lw_g (lw_at lw_m5 160 rfl) rfl
theorem q1248 : (Jvm.Cond.code ({ cls := "java/util/AbstractMap", name := "<init>", desc := "()V" } : Jvm.MethodName) prog_55_method_1_code (1 : Nat) (Option.none : Option Jvm.ClassFile.FieldType)) ∈ lw_all := lw_g (lw_at lw_m5 161 rfl) rfl
theorem q1249 : (Jvm.Cond.methodLink "java/util/AbstractMap" (1 : Nat) ({ cls := "java/lang/Object", name := "<init>", desc := "()V" } : Jvm.MethodName)) ∈ lw_all := lw_g (lw_at lw_m5 162 rfl) rfl
/-! J23.java_util_HashMap.lean.txt -/
def RJ23 : String := "java/util/HashMap"
abbrev cJ23_init : ByteArray := prog_64_method_7_code
def yJ23_init : MethodName := ⟨RJ23, "<init>", "()V"⟩
def dkwJ23_init_0 : List UInt8 := [42, 183, 0, 43, 42, 18, 92, 181, 0, 81, 177]
abbrev dktJ23_init_0 : List UInt8 := dkwJ23_init_0 ++ []
theorem dksJ23_init_0 : cJ23_init.data.toList.drop 0 = dktJ23_init_0 := by decide +kernel
theorem dJ23_init_0 : decode cJ23_init 0 = .ok (.aload_n 0, 1) := dk_42 (dk_at dksJ23_init_0 0 rfl rfl)
theorem dJ23_init_1 : decode cJ23_init 1 = .ok (.invokespecial 43, 3) := dk_183 0 43 (dk_at dksJ23_init_0 1 rfl rfl)
theorem dJ23_init_4 : decode cJ23_init 4 = .ok (.aload_n 0, 1) := dk_42 (dk_at dksJ23_init_0 4 rfl rfl)
theorem dJ23_init_5 : decode cJ23_init 5 = .ok (.ldc 92, 2) := dk_18 92 (dk_at dksJ23_init_0 5 rfl rfl)
theorem dJ23_init_7 : decode cJ23_init 7 = .ok (.putfield 81, 3) := dk_181 0 81 (dk_at dksJ23_init_0 7 rfl rfl)
theorem dJ23_init_10 : decode cJ23_init 10 = .ok (.return_, 1) := dk_177 (dk_at dksJ23_init_0 10 rfl rfl)
abbrev cJ23_size : ByteArray := prog_64_method_10_code
def yJ23_size : MethodName := ⟨RJ23, "size", "()I"⟩
theorem dJ23_size_0 : decode cJ23_size 0 = .ok (.aload_n 0, 1) := by decide +kernel
theorem dJ23_size_1 : decode cJ23_size 1 = .ok (.getfield 156, 3) := by decide +kernel
theorem dJ23_size_4 : decode cJ23_size 4 = .ok (.ireturn, 1) := by decide +kernel
abbrev cJ23_getNode : ByteArray := prog_64_method_13_code
def yJ23_getNode : MethodName := ⟨RJ23, "getNode", "(Ljava/lang/Object;)Ljava/util/HashMap$Node;"⟩
def dkwJ23_getNode_6 : List UInt8 := [89, 58, 4, 199, 255, 210, 1, 176]
abbrev dktJ23_getNode_6 : List UInt8 := dkwJ23_getNode_6 ++ []
def dkwJ23_getNode_5 : List UInt8 := [165, 0, 16, 43, 198, 0, 15, 43, 25, 7, 182, 0, 173, 153, 0, 6, 25, 4, 176, 25, 4, 180, 0, 177]
abbrev dktJ23_getNode_5 : List UInt8 := dkwJ23_getNode_5 ++ dktJ23_getNode_6
def dkwJ23_getNode_4 : List UInt8 := [43, 182, 0, 182, 176, 25, 4, 180, 0, 168, 21, 6, 160, 0, 31, 25, 4, 180, 0, 170, 89, 58, 7, 43]
abbrev dktJ23_getNode_4 : List UInt8 := dkwJ23_getNode_4 ++ dktJ23_getNode_5
def dkwJ23_getNode_3 : List UInt8 := [176, 45, 180, 0, 177, 89, 58, 4, 198, 0, 70, 45, 193, 0, 180, 153, 0, 14, 45, 192, 0, 180, 21, 6]
abbrev dktJ23_getNode_3 : List UInt8 := dkwJ23_getNode_3 ++ dktJ23_getNode_4
def dkwJ23_getNode_2 : List UInt8 := [180, 0, 170, 89, 58, 7, 43, 165, 0, 16, 43, 198, 0, 14, 43, 25, 7, 182, 0, 173, 153, 0, 5, 45]
abbrev dktJ23_getNode_2 : List UInt8 := dkwJ23_getNode_2 ++ dktJ23_getNode_3
def dkwJ23_getNode_1 : List UInt8 := [184, 0, 149, 89, 54, 6, 126, 50, 89, 78, 198, 0, 115, 45, 180, 0, 168, 21, 6, 160, 0, 29, 45]
abbrev dktJ23_getNode_1 : List UInt8 := dkwJ23_getNode_1 ++ dktJ23_getNode_2
def dkwJ23_getNode_0 : List UInt8 := [42, 180, 0, 105, 89, 77, 198, 0, 142, 44, 190, 89, 54, 5, 158, 0, 134, 44, 21, 5, 4, 100, 43]
abbrev dktJ23_getNode_0 : List UInt8 := dkwJ23_getNode_0 ++ dktJ23_getNode_1
theorem dksJ23_getNode_0 : cJ23_getNode.data.toList.drop 0 = dktJ23_getNode_0 := by decide +kernel
theorem dksJ23_getNode_1 : cJ23_getNode.data.toList.drop 23 = dktJ23_getNode_1 := dk_seg dksJ23_getNode_0 23 rfl rfl
theorem dksJ23_getNode_2 : cJ23_getNode.data.toList.drop 46 = dktJ23_getNode_2 := dk_seg dksJ23_getNode_1 23 rfl rfl
theorem dksJ23_getNode_3 : cJ23_getNode.data.toList.drop 70 = dktJ23_getNode_3 := dk_seg dksJ23_getNode_2 24 rfl rfl
theorem dksJ23_getNode_4 : cJ23_getNode.data.toList.drop 94 = dktJ23_getNode_4 := dk_seg dksJ23_getNode_3 24 rfl rfl
theorem dksJ23_getNode_5 : cJ23_getNode.data.toList.drop 118 = dktJ23_getNode_5 := dk_seg dksJ23_getNode_4 24 rfl rfl
theorem dksJ23_getNode_6 : cJ23_getNode.data.toList.drop 142 = dktJ23_getNode_6 := dk_seg dksJ23_getNode_5 24 rfl rfl
theorem dJ23_getNode_0 : decode cJ23_getNode 0 = .ok (.aload_n 0, 1) := dk_42 (dk_at dksJ23_getNode_0 0 rfl rfl)
theorem dJ23_getNode_1 : decode cJ23_getNode 1 = .ok (.getfield 105, 3) := dk_180 0 105 (dk_at dksJ23_getNode_0 1 rfl rfl)
theorem dJ23_getNode_4 : decode cJ23_getNode 4 = .ok (.dup, 1) := dk_89 (dk_at dksJ23_getNode_0 4 rfl rfl)
theorem dJ23_getNode_5 : decode cJ23_getNode 5 = .ok (.astore_n 2, 1) := dk_77 (dk_at dksJ23_getNode_0 5 rfl rfl)
theorem dJ23_getNode_6 : decode cJ23_getNode 6 = .ok (.ifnull 142, 3) := dk_198 0 142 (dk_at dksJ23_getNode_0 6 rfl rfl)
theorem dJ23_getNode_9 : decode cJ23_getNode 9 = .ok (.aload_n 2, 1) := dk_44 (dk_at dksJ23_getNode_0 9 rfl rfl)
theorem dJ23_getNode_10 : decode cJ23_getNode 10 = .ok (.arraylength, 1) := dk_190 (dk_at dksJ23_getNode_0 10 rfl rfl)
theorem dJ23_getNode_11 : decode cJ23_getNode 11 = .ok (.dup, 1) := dk_89 (dk_at dksJ23_getNode_0 11 rfl rfl)
theorem dJ23_getNode_12 : decode cJ23_getNode 12 = .ok (.istore 5, 2) := dk_54 5 (dk_at dksJ23_getNode_0 12 rfl rfl)
theorem dJ23_getNode_14 : decode cJ23_getNode 14 = .ok (.ifCond .le 134, 3) := dk_158 0 134 (dk_at dksJ23_getNode_0 14 rfl rfl)
theorem dJ23_getNode_17 : decode cJ23_getNode 17 = .ok (.aload_n 2, 1) := dk_44 (dk_at dksJ23_getNode_0 17 rfl rfl)
theorem dJ23_getNode_18 : decode cJ23_getNode 18 = .ok (.iload 5, 2) := dk_21 5 (dk_at dksJ23_getNode_0 18 rfl rfl)
theorem dJ23_getNode_20 : decode cJ23_getNode 20 = .ok (.iconst 1, 1) := dk_4 (dk_at dksJ23_getNode_0 20 rfl rfl)
theorem dJ23_getNode_21 : decode cJ23_getNode 21 = .ok (.isub, 1) := dk_100 (dk_at dksJ23_getNode_0 21 rfl rfl)
theorem dJ23_getNode_22 : decode cJ23_getNode 22 = .ok (.aload_n 1, 1) := dk_43 (dk_at dksJ23_getNode_0 22 rfl rfl)
theorem dJ23_getNode_23 : decode cJ23_getNode 23 = .ok (.invokestatic 149, 3) := dk_184 0 149 (dk_at dksJ23_getNode_1 0 rfl rfl)
theorem dJ23_getNode_26 : decode cJ23_getNode 26 = .ok (.dup, 1) := dk_89 (dk_at dksJ23_getNode_1 3 rfl rfl)
theorem dJ23_getNode_27 : decode cJ23_getNode 27 = .ok (.istore 6, 2) := dk_54 6 (dk_at dksJ23_getNode_1 4 rfl rfl)
theorem dJ23_getNode_29 : decode cJ23_getNode 29 = .ok (.iand, 1) := dk_126 (dk_at dksJ23_getNode_1 6 rfl rfl)
theorem dJ23_getNode_30 : decode cJ23_getNode 30 = .ok (.aaload, 1) := dk_50 (dk_at dksJ23_getNode_1 7 rfl rfl)
theorem dJ23_getNode_31 : decode cJ23_getNode 31 = .ok (.dup, 1) := dk_89 (dk_at dksJ23_getNode_1 8 rfl rfl)
theorem dJ23_getNode_32 : decode cJ23_getNode 32 = .ok (.astore_n 3, 1) := dk_78 (dk_at dksJ23_getNode_1 9 rfl rfl)
theorem dJ23_getNode_33 : decode cJ23_getNode 33 = .ok (.ifnull 115, 3) := dk_198 0 115 (dk_at dksJ23_getNode_1 10 rfl rfl)
theorem dJ23_getNode_36 : decode cJ23_getNode 36 = .ok (.aload_n 3, 1) := dk_45 (dk_at dksJ23_getNode_1 13 rfl rfl)
theorem dJ23_getNode_37 : decode cJ23_getNode 37 = .ok (.getfield 168, 3) := dk_180 0 168 (dk_at dksJ23_getNode_1 14 rfl rfl)
theorem dJ23_getNode_40 : decode cJ23_getNode 40 = .ok (.iload 6, 2) := dk_21 6 (dk_at dksJ23_getNode_1 17 rfl rfl)
theorem dJ23_getNode_42 : decode cJ23_getNode 42 = .ok (.if_icmp .ne 29, 3) := dk_160 0 29 (dk_at dksJ23_getNode_1 19 rfl rfl)
theorem dJ23_getNode_45 : decode cJ23_getNode 45 = .ok (.aload_n 3, 1) := dk_45 (dk_at dksJ23_getNode_1 22 rfl rfl)
theorem dJ23_getNode_46 : decode cJ23_getNode 46 = .ok (.getfield 170, 3) := dk_180 0 170 (dk_at dksJ23_getNode_2 0 rfl rfl)
theorem dJ23_getNode_49 : decode cJ23_getNode 49 = .ok (.dup, 1) := dk_89 (dk_at dksJ23_getNode_2 3 rfl rfl)
theorem dJ23_getNode_50 : decode cJ23_getNode 50 = .ok (.astore 7, 2) := dk_58 7 (dk_at dksJ23_getNode_2 4 rfl rfl)
theorem dJ23_getNode_52 : decode cJ23_getNode 52 = .ok (.aload_n 1, 1) := dk_43 (dk_at dksJ23_getNode_2 6 rfl rfl)
theorem dJ23_getNode_53 : decode cJ23_getNode 53 = .ok (.if_acmp .eq 16, 3) := dk_165 0 16 (dk_at dksJ23_getNode_2 7 rfl rfl)
theorem dJ23_getNode_56 : decode cJ23_getNode 56 = .ok (.aload_n 1, 1) := dk_43 (dk_at dksJ23_getNode_2 10 rfl rfl)
theorem dJ23_getNode_57 : decode cJ23_getNode 57 = .ok (.ifnull 14, 3) := dk_198 0 14 (dk_at dksJ23_getNode_2 11 rfl rfl)
theorem dJ23_getNode_60 : decode cJ23_getNode 60 = .ok (.aload_n 1, 1) := dk_43 (dk_at dksJ23_getNode_2 14 rfl rfl)
theorem dJ23_getNode_61 : decode cJ23_getNode 61 = .ok (.aload 7, 2) := dk_25 7 (dk_at dksJ23_getNode_2 15 rfl rfl)
theorem dJ23_getNode_63 : decode cJ23_getNode 63 = .ok (.invokevirtual 173, 3) := dk_182 0 173 (dk_at dksJ23_getNode_2 17 rfl rfl)
theorem dJ23_getNode_66 : decode cJ23_getNode 66 = .ok (.ifCond .eq 5, 3) := dk_153 0 5 (dk_at dksJ23_getNode_2 20 rfl rfl)
theorem dJ23_getNode_69 : decode cJ23_getNode 69 = .ok (.aload_n 3, 1) := dk_45 (dk_at dksJ23_getNode_2 23 rfl rfl)
theorem dJ23_getNode_70 : decode cJ23_getNode 70 = .ok (.areturn, 1) := dk_176 (dk_at dksJ23_getNode_3 0 rfl rfl)
theorem dJ23_getNode_71 : decode cJ23_getNode 71 = .ok (.aload_n 3, 1) := dk_45 (dk_at dksJ23_getNode_3 1 rfl rfl)
theorem dJ23_getNode_72 : decode cJ23_getNode 72 = .ok (.getfield 177, 3) := dk_180 0 177 (dk_at dksJ23_getNode_3 2 rfl rfl)
theorem dJ23_getNode_75 : decode cJ23_getNode 75 = .ok (.dup, 1) := dk_89 (dk_at dksJ23_getNode_3 5 rfl rfl)
theorem dJ23_getNode_76 : decode cJ23_getNode 76 = .ok (.astore 4, 2) := dk_58 4 (dk_at dksJ23_getNode_3 6 rfl rfl)
theorem dJ23_getNode_78 : decode cJ23_getNode 78 = .ok (.ifnull 70, 3) := dk_198 0 70 (dk_at dksJ23_getNode_3 8 rfl rfl)
theorem dJ23_getNode_81 : decode cJ23_getNode 81 = .ok (.aload_n 3, 1) := dk_45 (dk_at dksJ23_getNode_3 11 rfl rfl)
theorem dJ23_getNode_82 : decode cJ23_getNode 82 = .ok (.instanceof 180, 3) := dk_193 0 180 (dk_at dksJ23_getNode_3 12 rfl rfl)
theorem dJ23_getNode_85 : decode cJ23_getNode 85 = .ok (.ifCond .eq 14, 3) := dk_153 0 14 (dk_at dksJ23_getNode_3 15 rfl rfl)
theorem dJ23_getNode_88 : decode cJ23_getNode 88 = .ok (.aload_n 3, 1) := dk_45 (dk_at dksJ23_getNode_3 18 rfl rfl)
theorem dJ23_getNode_99 : decode cJ23_getNode 99 = .ok (.aload 4, 2) := dk_25 4 (dk_at dksJ23_getNode_4 5 rfl rfl)
theorem dJ23_getNode_101 : decode cJ23_getNode 101 = .ok (.getfield 168, 3) := dk_180 0 168 (dk_at dksJ23_getNode_4 7 rfl rfl)
theorem dJ23_getNode_104 : decode cJ23_getNode 104 = .ok (.iload 6, 2) := dk_21 6 (dk_at dksJ23_getNode_4 10 rfl rfl)
theorem dJ23_getNode_106 : decode cJ23_getNode 106 = .ok (.if_icmp .ne 31, 3) := dk_160 0 31 (dk_at dksJ23_getNode_4 12 rfl rfl)
theorem dJ23_getNode_109 : decode cJ23_getNode 109 = .ok (.aload 4, 2) := dk_25 4 (dk_at dksJ23_getNode_4 15 rfl rfl)
theorem dJ23_getNode_111 : decode cJ23_getNode 111 = .ok (.getfield 170, 3) := dk_180 0 170 (dk_at dksJ23_getNode_4 17 rfl rfl)
theorem dJ23_getNode_114 : decode cJ23_getNode 114 = .ok (.dup, 1) := dk_89 (dk_at dksJ23_getNode_4 20 rfl rfl)
theorem dJ23_getNode_115 : decode cJ23_getNode 115 = .ok (.astore 7, 2) := dk_58 7 (dk_at dksJ23_getNode_4 21 rfl rfl)
theorem dJ23_getNode_117 : decode cJ23_getNode 117 = .ok (.aload_n 1, 1) := dk_43 (dk_at dksJ23_getNode_4 23 rfl rfl)
theorem dJ23_getNode_118 : decode cJ23_getNode 118 = .ok (.if_acmp .eq 16, 3) := dk_165 0 16 (dk_at dksJ23_getNode_5 0 rfl rfl)
theorem dJ23_getNode_121 : decode cJ23_getNode 121 = .ok (.aload_n 1, 1) := dk_43 (dk_at dksJ23_getNode_5 3 rfl rfl)
theorem dJ23_getNode_122 : decode cJ23_getNode 122 = .ok (.ifnull 15, 3) := dk_198 0 15 (dk_at dksJ23_getNode_5 4 rfl rfl)
theorem dJ23_getNode_125 : decode cJ23_getNode 125 = .ok (.aload_n 1, 1) := dk_43 (dk_at dksJ23_getNode_5 7 rfl rfl)
theorem dJ23_getNode_126 : decode cJ23_getNode 126 = .ok (.aload 7, 2) := dk_25 7 (dk_at dksJ23_getNode_5 8 rfl rfl)
theorem dJ23_getNode_128 : decode cJ23_getNode 128 = .ok (.invokevirtual 173, 3) := dk_182 0 173 (dk_at dksJ23_getNode_5 10 rfl rfl)
theorem dJ23_getNode_131 : decode cJ23_getNode 131 = .ok (.ifCond .eq 6, 3) := dk_153 0 6 (dk_at dksJ23_getNode_5 13 rfl rfl)
theorem dJ23_getNode_134 : decode cJ23_getNode 134 = .ok (.aload 4, 2) := dk_25 4 (dk_at dksJ23_getNode_5 16 rfl rfl)
theorem dJ23_getNode_136 : decode cJ23_getNode 136 = .ok (.areturn, 1) := dk_176 (dk_at dksJ23_getNode_5 18 rfl rfl)
theorem dJ23_getNode_137 : decode cJ23_getNode 137 = .ok (.aload 4, 2) := dk_25 4 (dk_at dksJ23_getNode_5 19 rfl rfl)
theorem dJ23_getNode_139 : decode cJ23_getNode 139 = .ok (.getfield 177, 3) := dk_180 0 177 (dk_at dksJ23_getNode_5 21 rfl rfl)
theorem dJ23_getNode_142 : decode cJ23_getNode 142 = .ok (.dup, 1) := dk_89 (dk_at dksJ23_getNode_6 0 rfl rfl)
theorem dJ23_getNode_143 : decode cJ23_getNode 143 = .ok (.astore 4, 2) := dk_58 4 (dk_at dksJ23_getNode_6 1 rfl rfl)
theorem dJ23_getNode_145 : decode cJ23_getNode 145 = .ok (.ifnonnull (-46), 3) := dk_199 255 210 (dk_at dksJ23_getNode_6 3 rfl rfl)
theorem dJ23_getNode_148 : decode cJ23_getNode 148 = .ok (.aconst_null, 1) := dk_1 (dk_at dksJ23_getNode_6 6 rfl rfl)
theorem dJ23_getNode_149 : decode cJ23_getNode 149 = .ok (.areturn, 1) := dk_176 (dk_at dksJ23_getNode_6 7 rfl rfl)
abbrev cJ23_hash : ByteArray := prog_64_method_1_code
def yJ23_hash : MethodName := ⟨RJ23, "hash", "(Ljava/lang/Object;)I"⟩
def dkwJ23_hash_0 : List UInt8 := [42, 199, 0, 7, 3, 167, 0, 14, 42, 182, 0, 1, 89, 60, 27, 16, 16, 124, 130, 172]
abbrev dktJ23_hash_0 : List UInt8 := dkwJ23_hash_0 ++ []
theorem dksJ23_hash_0 : cJ23_hash.data.toList.drop 0 = dktJ23_hash_0 := by decide +kernel
theorem dJ23_hash_0 : decode cJ23_hash 0 = .ok (.aload_n 0, 1) := dk_42 (dk_at dksJ23_hash_0 0 rfl rfl)
theorem dJ23_hash_1 : decode cJ23_hash 1 = .ok (.ifnonnull 7, 3) := dk_199 0 7 (dk_at dksJ23_hash_0 1 rfl rfl)
theorem dJ23_hash_4 : decode cJ23_hash 4 = .ok (.iconst 0, 1) := dk_3 (dk_at dksJ23_hash_0 4 rfl rfl)
theorem dJ23_hash_5 : decode cJ23_hash 5 = .ok (.goto 14, 3) := dk_167 0 14 (dk_at dksJ23_hash_0 5 rfl rfl)
theorem dJ23_hash_8 : decode cJ23_hash 8 = .ok (.aload_n 0, 1) := dk_42 (dk_at dksJ23_hash_0 8 rfl rfl)
theorem dJ23_hash_9 : decode cJ23_hash 9 = .ok (.invokevirtual 1, 3) := dk_182 0 1 (dk_at dksJ23_hash_0 9 rfl rfl)
theorem dJ23_hash_12 : decode cJ23_hash 12 = .ok (.dup, 1) := dk_89 (dk_at dksJ23_hash_0 12 rfl rfl)
theorem dJ23_hash_13 : decode cJ23_hash 13 = .ok (.istore_n 1, 1) := dk_60 (dk_at dksJ23_hash_0 13 rfl rfl)
theorem dJ23_hash_14 : decode cJ23_hash 14 = .ok (.iload_n 1, 1) := dk_27 (dk_at dksJ23_hash_0 14 rfl rfl)
theorem dJ23_hash_15 : decode cJ23_hash 15 = .ok (.bipush 16, 2) := dk_16 16 (dk_at dksJ23_hash_0 15 rfl rfl)
theorem dJ23_hash_17 : decode cJ23_hash 17 = .ok (.iushr, 1) := dk_124 (dk_at dksJ23_hash_0 17 rfl rfl)
theorem dJ23_hash_18 : decode cJ23_hash 18 = .ok (.ixor, 1) := dk_130 (dk_at dksJ23_hash_0 18 rfl rfl)
theorem dJ23_hash_19 : decode cJ23_hash 19 = .ok (.ireturn, 1) := dk_172 (dk_at dksJ23_hash_0 19 rfl rfl)
abbrev cJ23_init_2 : ByteArray := prog_64_method_5_code
def yJ23_init_2 : MethodName := ⟨RJ23, "<init>", "(IF)V"⟩
def dkwJ23_init_2_4 : List UInt8 := [181, 0, 88, 177]
abbrev dktJ23_init_2_4 : List UInt8 := dkwJ23_init_2_4 ++ []
def dkwJ23_init_2_3 : List UInt8 := [182, 0, 56, 36, 182, 0, 78, 182, 0, 63, 183, 0, 67, 191, 42, 36, 181, 0, 81, 42, 27, 184, 0, 85]
abbrev dktJ23_init_2_3 : List UInt8 := dkwJ23_init_2_3 ++ dktJ23_init_2_4
def dkwJ23_init_2_2 : List UInt8 := [158, 0, 10, 36, 184, 0, 70, 153, 0, 30, 187, 0, 49, 89, 187, 0, 51, 89, 183, 0, 53, 18, 76]
abbrev dktJ23_init_2_2 : List UInt8 := dkwJ23_init_2_2 ++ dktJ23_init_2_3
def dkwJ23_init_2_1 : List UInt8 := [27, 182, 0, 60, 182, 0, 63, 183, 0, 67, 191, 27, 18, 42, 164, 0, 6, 18, 42, 60, 36, 11, 150]
abbrev dktJ23_init_2_1 : List UInt8 := dkwJ23_init_2_1 ++ dktJ23_init_2_2
def dkwJ23_init_2_0 : List UInt8 := [42, 183, 0, 43, 27, 156, 0, 30, 187, 0, 49, 89, 187, 0, 51, 89, 183, 0, 53, 18, 54, 182, 0, 56]
abbrev dktJ23_init_2_0 : List UInt8 := dkwJ23_init_2_0 ++ dktJ23_init_2_1
theorem dksJ23_init_2_0 : cJ23_init_2.data.toList.drop 0 = dktJ23_init_2_0 := by decide +kernel
theorem dksJ23_init_2_1 : cJ23_init_2.data.toList.drop 24 = dktJ23_init_2_1 := dk_seg dksJ23_init_2_0 24 rfl rfl
theorem dksJ23_init_2_2 : cJ23_init_2.data.toList.drop 47 = dktJ23_init_2_2 := dk_seg dksJ23_init_2_1 23 rfl rfl
theorem dksJ23_init_2_3 : cJ23_init_2.data.toList.drop 70 = dktJ23_init_2_3 := dk_seg dksJ23_init_2_2 23 rfl rfl
theorem dksJ23_init_2_4 : cJ23_init_2.data.toList.drop 94 = dktJ23_init_2_4 := dk_seg dksJ23_init_2_3 24 rfl rfl
theorem dJ23_init_2_0 : decode cJ23_init_2 0 = .ok (.aload_n 0, 1) := dk_42 (dk_at dksJ23_init_2_0 0 rfl rfl)
theorem dJ23_init_2_1 : decode cJ23_init_2 1 = .ok (.invokespecial 43, 3) := dk_183 0 43 (dk_at dksJ23_init_2_0 1 rfl rfl)
theorem dJ23_init_2_4 : decode cJ23_init_2 4 = .ok (.iload_n 1, 1) := dk_27 (dk_at dksJ23_init_2_0 4 rfl rfl)
theorem dJ23_init_2_5 : decode cJ23_init_2 5 = .ok (.ifCond .ge 30, 3) := dk_156 0 30 (dk_at dksJ23_init_2_0 5 rfl rfl)
theorem dJ23_init_2_8 : decode cJ23_init_2 8 = .ok (.new 49, 3) := dk_187 0 49 (dk_at dksJ23_init_2_0 8 rfl rfl)
theorem dJ23_init_2_35 : decode cJ23_init_2 35 = .ok (.iload_n 1, 1) := dk_27 (dk_at dksJ23_init_2_1 11 rfl rfl)
theorem dJ23_init_2_36 : decode cJ23_init_2 36 = .ok (.ldc 42, 2) := dk_18 42 (dk_at dksJ23_init_2_1 12 rfl rfl)
theorem dJ23_init_2_38 : decode cJ23_init_2 38 = .ok (.if_icmp .le 6, 3) := dk_164 0 6 (dk_at dksJ23_init_2_1 14 rfl rfl)
theorem dJ23_init_2_41 : decode cJ23_init_2 41 = .ok (.ldc 42, 2) := dk_18 42 (dk_at dksJ23_init_2_1 17 rfl rfl)
theorem dJ23_init_2_43 : decode cJ23_init_2 43 = .ok (.istore_n 1, 1) := dk_60 (dk_at dksJ23_init_2_1 19 rfl rfl)
theorem dJ23_init_2_44 : decode cJ23_init_2 44 = .ok (.fload_n 2, 1) := dk_36 (dk_at dksJ23_init_2_1 20 rfl rfl)
theorem dJ23_init_2_45 : decode cJ23_init_2 45 = .ok (.fconst 0, 1) := dk_11 (dk_at dksJ23_init_2_1 21 rfl rfl)
theorem dJ23_init_2_46 : decode cJ23_init_2 46 = .ok (.fcmp .g, 1) := dk_150 (dk_at dksJ23_init_2_1 22 rfl rfl)
theorem dJ23_init_2_47 : decode cJ23_init_2 47 = .ok (.ifCond .le 10, 3) := dk_158 0 10 (dk_at dksJ23_init_2_2 0 rfl rfl)
theorem dJ23_init_2_50 : decode cJ23_init_2 50 = .ok (.fload_n 2, 1) := dk_36 (dk_at dksJ23_init_2_2 3 rfl rfl)
theorem dJ23_init_2_51 : decode cJ23_init_2 51 = .ok (.invokestatic 70, 3) := dk_184 0 70 (dk_at dksJ23_init_2_2 4 rfl rfl)
theorem dJ23_init_2_54 : decode cJ23_init_2 54 = .ok (.ifCond .eq 30, 3) := dk_153 0 30 (dk_at dksJ23_init_2_2 7 rfl rfl)
theorem dJ23_init_2_57 : decode cJ23_init_2 57 = .ok (.new 49, 3) := dk_187 0 49 (dk_at dksJ23_init_2_2 10 rfl rfl)
theorem dJ23_init_2_84 : decode cJ23_init_2 84 = .ok (.aload_n 0, 1) := dk_42 (dk_at dksJ23_init_2_3 14 rfl rfl)
theorem dJ23_init_2_85 : decode cJ23_init_2 85 = .ok (.fload_n 2, 1) := dk_36 (dk_at dksJ23_init_2_3 15 rfl rfl)
theorem dJ23_init_2_86 : decode cJ23_init_2 86 = .ok (.putfield 81, 3) := dk_181 0 81 (dk_at dksJ23_init_2_3 16 rfl rfl)
theorem dJ23_init_2_89 : decode cJ23_init_2 89 = .ok (.aload_n 0, 1) := dk_42 (dk_at dksJ23_init_2_3 19 rfl rfl)
theorem dJ23_init_2_90 : decode cJ23_init_2 90 = .ok (.iload_n 1, 1) := dk_27 (dk_at dksJ23_init_2_3 20 rfl rfl)
theorem dJ23_init_2_91 : decode cJ23_init_2 91 = .ok (.invokestatic 85, 3) := dk_184 0 85 (dk_at dksJ23_init_2_3 21 rfl rfl)
theorem dJ23_init_2_94 : decode cJ23_init_2 94 = .ok (.putfield 88, 3) := dk_181 0 88 (dk_at dksJ23_init_2_4 0 rfl rfl)
theorem dJ23_init_2_97 : decode cJ23_init_2 97 = .ok (.return_, 1) := dk_177 (dk_at dksJ23_init_2_4 3 rfl rfl)
abbrev cJ23_tableSizeFor : ByteArray := prog_64_method_4_code
def yJ23_tableSizeFor : MethodName := ⟨RJ23, "tableSizeFor", "(I)I"⟩
def dkwJ23_tableSizeFor_1 : List UInt8 := [18, 42, 167, 0, 6, 27, 4, 96, 172]
abbrev dktJ23_tableSizeFor_1 : List UInt8 := dkwJ23_tableSizeFor_1 ++ []
def dkwJ23_tableSizeFor_0 : List UInt8 := [2, 26, 4, 100, 184, 0, 34, 124, 60, 27, 156, 0, 7, 4, 167, 0, 17, 27, 18, 42, 161, 0, 8]
abbrev dktJ23_tableSizeFor_0 : List UInt8 := dkwJ23_tableSizeFor_0 ++ dktJ23_tableSizeFor_1
theorem dksJ23_tableSizeFor_0 : cJ23_tableSizeFor.data.toList.drop 0 = dktJ23_tableSizeFor_0 := by decide +kernel
theorem dksJ23_tableSizeFor_1 : cJ23_tableSizeFor.data.toList.drop 23 = dktJ23_tableSizeFor_1 := dk_seg dksJ23_tableSizeFor_0 23 rfl rfl
theorem dJ23_tableSizeFor_0 : decode cJ23_tableSizeFor 0 = .ok (.iconst (-1), 1) := dk_2 (dk_at dksJ23_tableSizeFor_0 0 rfl rfl)
theorem dJ23_tableSizeFor_1 : decode cJ23_tableSizeFor 1 = .ok (.iload_n 0, 1) := dk_26 (dk_at dksJ23_tableSizeFor_0 1 rfl rfl)
theorem dJ23_tableSizeFor_2 : decode cJ23_tableSizeFor 2 = .ok (.iconst 1, 1) := dk_4 (dk_at dksJ23_tableSizeFor_0 2 rfl rfl)
theorem dJ23_tableSizeFor_3 : decode cJ23_tableSizeFor 3 = .ok (.isub, 1) := dk_100 (dk_at dksJ23_tableSizeFor_0 3 rfl rfl)
theorem dJ23_tableSizeFor_4 : decode cJ23_tableSizeFor 4 = .ok (.invokestatic 34, 3) := dk_184 0 34 (dk_at dksJ23_tableSizeFor_0 4 rfl rfl)
theorem dJ23_tableSizeFor_7 : decode cJ23_tableSizeFor 7 = .ok (.iushr, 1) := dk_124 (dk_at dksJ23_tableSizeFor_0 7 rfl rfl)
theorem dJ23_tableSizeFor_8 : decode cJ23_tableSizeFor 8 = .ok (.istore_n 1, 1) := dk_60 (dk_at dksJ23_tableSizeFor_0 8 rfl rfl)
theorem dJ23_tableSizeFor_9 : decode cJ23_tableSizeFor 9 = .ok (.iload_n 1, 1) := dk_27 (dk_at dksJ23_tableSizeFor_0 9 rfl rfl)
theorem dJ23_tableSizeFor_10 : decode cJ23_tableSizeFor 10 = .ok (.ifCond .ge 7, 3) := dk_156 0 7 (dk_at dksJ23_tableSizeFor_0 10 rfl rfl)
theorem dJ23_tableSizeFor_13 : decode cJ23_tableSizeFor 13 = .ok (.iconst 1, 1) := dk_4 (dk_at dksJ23_tableSizeFor_0 13 rfl rfl)
theorem dJ23_tableSizeFor_14 : decode cJ23_tableSizeFor 14 = .ok (.goto 17, 3) := dk_167 0 17 (dk_at dksJ23_tableSizeFor_0 14 rfl rfl)
theorem dJ23_tableSizeFor_17 : decode cJ23_tableSizeFor 17 = .ok (.iload_n 1, 1) := dk_27 (dk_at dksJ23_tableSizeFor_0 17 rfl rfl)
theorem dJ23_tableSizeFor_18 : decode cJ23_tableSizeFor 18 = .ok (.ldc 42, 2) := dk_18 42 (dk_at dksJ23_tableSizeFor_0 18 rfl rfl)
theorem dJ23_tableSizeFor_20 : decode cJ23_tableSizeFor 20 = .ok (.if_icmp .lt 8, 3) := dk_161 0 8 (dk_at dksJ23_tableSizeFor_0 20 rfl rfl)
theorem dJ23_tableSizeFor_23 : decode cJ23_tableSizeFor 23 = .ok (.ldc 42, 2) := dk_18 42 (dk_at dksJ23_tableSizeFor_1 0 rfl rfl)
theorem dJ23_tableSizeFor_25 : decode cJ23_tableSizeFor 25 = .ok (.goto 6, 3) := dk_167 0 6 (dk_at dksJ23_tableSizeFor_1 2 rfl rfl)
theorem dJ23_tableSizeFor_28 : decode cJ23_tableSizeFor 28 = .ok (.iload_n 1, 1) := dk_27 (dk_at dksJ23_tableSizeFor_1 5 rfl rfl)
theorem dJ23_tableSizeFor_29 : decode cJ23_tableSizeFor 29 = .ok (.iconst 1, 1) := dk_4 (dk_at dksJ23_tableSizeFor_1 6 rfl rfl)
theorem dJ23_tableSizeFor_30 : decode cJ23_tableSizeFor 30 = .ok (.iadd, 1) := dk_96 (dk_at dksJ23_tableSizeFor_1 7 rfl rfl)
theorem dJ23_tableSizeFor_31 : decode cJ23_tableSizeFor 31 = .ok (.ireturn, 1) := dk_172 (dk_at dksJ23_tableSizeFor_1 8 rfl rfl)
abbrev cJ23_put : ByteArray := prog_64_method_15_code
def yJ23_put : MethodName := ⟨RJ23, "put", "(Ljava/lang/Object;Ljava/lang/Object;)Ljava/lang/Object;"⟩
def dkwJ23_put_0 : List UInt8 := [42, 43, 184, 0, 149, 43, 44, 3, 4, 182, 0, 152, 176]
abbrev dktJ23_put_0 : List UInt8 := dkwJ23_put_0 ++ []
theorem dksJ23_put_0 : cJ23_put.data.toList.drop 0 = dktJ23_put_0 := by decide +kernel
theorem dJ23_put_0 : decode cJ23_put 0 = .ok (.aload_n 0, 1) := dk_42 (dk_at dksJ23_put_0 0 rfl rfl)
theorem dJ23_put_1 : decode cJ23_put 1 = .ok (.aload_n 1, 1) := dk_43 (dk_at dksJ23_put_0 1 rfl rfl)
theorem dJ23_put_2 : decode cJ23_put 2 = .ok (.invokestatic 149, 3) := dk_184 0 149 (dk_at dksJ23_put_0 2 rfl rfl)
theorem dJ23_put_5 : decode cJ23_put 5 = .ok (.aload_n 1, 1) := dk_43 (dk_at dksJ23_put_0 5 rfl rfl)
theorem dJ23_put_6 : decode cJ23_put 6 = .ok (.aload_n 2, 1) := dk_44 (dk_at dksJ23_put_0 6 rfl rfl)
theorem dJ23_put_7 : decode cJ23_put 7 = .ok (.iconst 0, 1) := dk_3 (dk_at dksJ23_put_0 7 rfl rfl)
theorem dJ23_put_8 : decode cJ23_put 8 = .ok (.iconst 1, 1) := dk_4 (dk_at dksJ23_put_0 8 rfl rfl)
theorem dJ23_put_9 : decode cJ23_put 9 = .ok (.invokevirtual 152, 3) := dk_182 0 152 (dk_at dksJ23_put_0 9 rfl rfl)
theorem dJ23_put_12 : decode cJ23_put 12 = .ok (.areturn, 1) := dk_176 (dk_at dksJ23_put_0 12 rfl rfl)
abbrev cJ23_putVal : ByteArray := prog_64_method_16_code
def yJ23_putVal : MethodName := ⟨RJ23, "putVal", "(ILjava/lang/Object;Ljava/lang/Object;ZZ)Ljava/lang/Object;"⟩
def dkwJ23_putVal_12 : List UInt8 := [181, 0, 156, 42, 180, 0, 88, 164, 0, 8, 42, 182, 0, 117, 87, 42, 21, 5, 182, 0, 205, 1, 176]
abbrev dktJ23_putVal_12 : List UInt8 := dkwJ23_putVal_12 ++ []
def dkwJ23_putVal_11 : List UInt8 := [182, 0, 198, 25, 12, 176, 42, 89, 180, 0, 202, 4, 96, 181, 0, 202, 42, 89, 180, 0, 156, 4, 96, 90]
abbrev dktJ23_putVal_11 : List UInt8 := dkwJ23_putVal_11 ++ dktJ23_putVal_12
def dkwJ23_putVal_10 : List UInt8 := [180, 0, 162, 58, 12, 21, 4, 153, 0, 8, 25, 12, 199, 0, 9, 25, 10, 45, 181, 0, 162, 42, 25, 10]
abbrev dktJ23_putVal_10 : List UInt8 := dkwJ23_putVal_10 ++ dktJ23_putVal_11
def dkwJ23_putVal_9 : List UInt8 := [153, 0, 6, 167, 0, 13, 25, 10, 58, 7, 132, 12, 1, 167, 255, 171, 25, 10, 198, 0, 35, 25, 10]
abbrev dktJ23_putVal_9 : List UInt8 := dkwJ23_putVal_9 ++ dktJ23_putVal_10
def dkwJ23_putVal_8 : List UInt8 := [25, 10, 180, 0, 170, 89, 58, 11, 44, 165, 0, 29, 44, 198, 0, 15, 44, 25, 11, 182, 0, 173]
abbrev dktJ23_putVal_8 : List UInt8 := dkwJ23_putVal_8 ++ dktJ23_putVal_9
def dkwJ23_putVal_7 : List UInt8 := [16, 7, 161, 0, 60, 42, 25, 6, 27, 182, 0, 194, 167, 0, 50, 25, 10, 180, 0, 168, 27, 160, 0, 31]
abbrev dktJ23_putVal_7 : List UInt8 := dkwJ23_putVal_7 ++ dktJ23_putVal_8
def dkwJ23_putVal_6 : List UInt8 := [180, 0, 177, 89, 58, 10, 199, 0, 33, 25, 7, 42, 27, 44, 45, 1, 182, 0, 186, 181, 0, 177, 21, 12]
abbrev dktJ23_putVal_6 : List UInt8 := dkwJ23_putVal_6 ++ dktJ23_putVal_7
def dkwJ23_putVal_5 : List UInt8 := [192, 0, 180, 42, 25, 6, 27, 44, 45, 182, 0, 190, 58, 10, 167, 0, 94, 3, 54, 12, 25, 7]
abbrev dktJ23_putVal_5 : List UInt8 := dkwJ23_putVal_5 ++ dktJ23_putVal_6
def dkwJ23_putVal_4 : List UInt8 := [182, 0, 173, 153, 0, 10, 25, 7, 58, 10, 167, 0, 121, 25, 7, 193, 0, 180, 153, 0, 22, 25, 7]
abbrev dktJ23_putVal_4 : List UInt8 := dkwJ23_putVal_4 ++ dktJ23_putVal_5
def dkwJ23_putVal_3 : List UInt8 := [160, 0, 35, 25, 7, 180, 0, 170, 89, 58, 11, 44, 165, 0, 16, 44, 198, 0, 19, 44, 25, 11]
abbrev dktJ23_putVal_3 : List UInt8 := dkwJ23_putVal_3 ++ dktJ23_putVal_4
def dkwJ23_putVal_2 : List UInt8 := [25, 6, 21, 9, 42, 27, 44, 45, 1, 182, 0, 186, 83, 167, 0, 199, 25, 7, 180, 0, 168, 27]
abbrev dktJ23_putVal_2 : List UInt8 := dkwJ23_putVal_2 ++ dktJ23_putVal_3
def dkwJ23_putVal_1 : List UInt8 := [58, 6, 190, 54, 8, 25, 6, 21, 8, 4, 100, 27, 126, 89, 54, 9, 50, 89, 58, 7, 199, 0, 19]
abbrev dktJ23_putVal_1 : List UInt8 := dkwJ23_putVal_1 ++ dktJ23_putVal_2
def dkwJ23_putVal_0 : List UInt8 := [42, 180, 0, 105, 89, 58, 6, 198, 0, 12, 25, 6, 190, 89, 54, 8, 154, 0, 13, 42, 182, 0, 117, 89]
abbrev dktJ23_putVal_0 : List UInt8 := dkwJ23_putVal_0 ++ dktJ23_putVal_1
theorem dksJ23_putVal_0 : cJ23_putVal.data.toList.drop 0 = dktJ23_putVal_0 := by decide +kernel
theorem dksJ23_putVal_1 : cJ23_putVal.data.toList.drop 24 = dktJ23_putVal_1 := dk_seg dksJ23_putVal_0 24 rfl rfl
theorem dksJ23_putVal_2 : cJ23_putVal.data.toList.drop 47 = dktJ23_putVal_2 := dk_seg dksJ23_putVal_1 23 rfl rfl
theorem dksJ23_putVal_3 : cJ23_putVal.data.toList.drop 69 = dktJ23_putVal_3 := dk_seg dksJ23_putVal_2 22 rfl rfl
theorem dksJ23_putVal_4 : cJ23_putVal.data.toList.drop 91 = dktJ23_putVal_4 := dk_seg dksJ23_putVal_3 22 rfl rfl
theorem dksJ23_putVal_5 : cJ23_putVal.data.toList.drop 114 = dktJ23_putVal_5 := dk_seg dksJ23_putVal_4 23 rfl rfl
theorem dksJ23_putVal_6 : cJ23_putVal.data.toList.drop 136 = dktJ23_putVal_6 := dk_seg dksJ23_putVal_5 22 rfl rfl
theorem dksJ23_putVal_7 : cJ23_putVal.data.toList.drop 160 = dktJ23_putVal_7 := dk_seg dksJ23_putVal_6 24 rfl rfl
theorem dksJ23_putVal_8 : cJ23_putVal.data.toList.drop 184 = dktJ23_putVal_8 := dk_seg dksJ23_putVal_7 24 rfl rfl
theorem dksJ23_putVal_9 : cJ23_putVal.data.toList.drop 206 = dktJ23_putVal_9 := dk_seg dksJ23_putVal_8 22 rfl rfl
theorem dksJ23_putVal_10 : cJ23_putVal.data.toList.drop 229 = dktJ23_putVal_10 := dk_seg dksJ23_putVal_9 23 rfl rfl
theorem dksJ23_putVal_11 : cJ23_putVal.data.toList.drop 253 = dktJ23_putVal_11 := dk_seg dksJ23_putVal_10 24 rfl rfl
theorem dksJ23_putVal_12 : cJ23_putVal.data.toList.drop 277 = dktJ23_putVal_12 := dk_seg dksJ23_putVal_11 24 rfl rfl
theorem dJ23_putVal_0 : decode cJ23_putVal 0 = .ok (.aload_n 0, 1) := dk_42 (dk_at dksJ23_putVal_0 0 rfl rfl)
theorem dJ23_putVal_1 : decode cJ23_putVal 1 = .ok (.getfield 105, 3) := dk_180 0 105 (dk_at dksJ23_putVal_0 1 rfl rfl)
theorem dJ23_putVal_4 : decode cJ23_putVal 4 = .ok (.dup, 1) := dk_89 (dk_at dksJ23_putVal_0 4 rfl rfl)
theorem dJ23_putVal_5 : decode cJ23_putVal 5 = .ok (.astore 6, 2) := dk_58 6 (dk_at dksJ23_putVal_0 5 rfl rfl)
theorem dJ23_putVal_7 : decode cJ23_putVal 7 = .ok (.ifnull 12, 3) := dk_198 0 12 (dk_at dksJ23_putVal_0 7 rfl rfl)
theorem dJ23_putVal_10 : decode cJ23_putVal 10 = .ok (.aload 6, 2) := dk_25 6 (dk_at dksJ23_putVal_0 10 rfl rfl)
theorem dJ23_putVal_12 : decode cJ23_putVal 12 = .ok (.arraylength, 1) := dk_190 (dk_at dksJ23_putVal_0 12 rfl rfl)
theorem dJ23_putVal_13 : decode cJ23_putVal 13 = .ok (.dup, 1) := dk_89 (dk_at dksJ23_putVal_0 13 rfl rfl)
theorem dJ23_putVal_14 : decode cJ23_putVal 14 = .ok (.istore 8, 2) := dk_54 8 (dk_at dksJ23_putVal_0 14 rfl rfl)
theorem dJ23_putVal_16 : decode cJ23_putVal 16 = .ok (.ifCond .ne 13, 3) := dk_154 0 13 (dk_at dksJ23_putVal_0 16 rfl rfl)
theorem dJ23_putVal_19 : decode cJ23_putVal 19 = .ok (.aload_n 0, 1) := dk_42 (dk_at dksJ23_putVal_0 19 rfl rfl)
theorem dJ23_putVal_20 : decode cJ23_putVal 20 = .ok (.invokevirtual 117, 3) := dk_182 0 117 (dk_at dksJ23_putVal_0 20 rfl rfl)
theorem dJ23_putVal_23 : decode cJ23_putVal 23 = .ok (.dup, 1) := dk_89 (dk_at dksJ23_putVal_0 23 rfl rfl)
theorem dJ23_putVal_24 : decode cJ23_putVal 24 = .ok (.astore 6, 2) := dk_58 6 (dk_at dksJ23_putVal_1 0 rfl rfl)
theorem dJ23_putVal_26 : decode cJ23_putVal 26 = .ok (.arraylength, 1) := dk_190 (dk_at dksJ23_putVal_1 2 rfl rfl)
theorem dJ23_putVal_27 : decode cJ23_putVal 27 = .ok (.istore 8, 2) := dk_54 8 (dk_at dksJ23_putVal_1 3 rfl rfl)
theorem dJ23_putVal_29 : decode cJ23_putVal 29 = .ok (.aload 6, 2) := dk_25 6 (dk_at dksJ23_putVal_1 5 rfl rfl)
theorem dJ23_putVal_31 : decode cJ23_putVal 31 = .ok (.iload 8, 2) := dk_21 8 (dk_at dksJ23_putVal_1 7 rfl rfl)
theorem dJ23_putVal_33 : decode cJ23_putVal 33 = .ok (.iconst 1, 1) := dk_4 (dk_at dksJ23_putVal_1 9 rfl rfl)
theorem dJ23_putVal_34 : decode cJ23_putVal 34 = .ok (.isub, 1) := dk_100 (dk_at dksJ23_putVal_1 10 rfl rfl)
theorem dJ23_putVal_35 : decode cJ23_putVal 35 = .ok (.iload_n 1, 1) := dk_27 (dk_at dksJ23_putVal_1 11 rfl rfl)
theorem dJ23_putVal_36 : decode cJ23_putVal 36 = .ok (.iand, 1) := dk_126 (dk_at dksJ23_putVal_1 12 rfl rfl)
theorem dJ23_putVal_37 : decode cJ23_putVal 37 = .ok (.dup, 1) := dk_89 (dk_at dksJ23_putVal_1 13 rfl rfl)
theorem dJ23_putVal_38 : decode cJ23_putVal 38 = .ok (.istore 9, 2) := dk_54 9 (dk_at dksJ23_putVal_1 14 rfl rfl)
theorem dJ23_putVal_40 : decode cJ23_putVal 40 = .ok (.aaload, 1) := dk_50 (dk_at dksJ23_putVal_1 16 rfl rfl)
theorem dJ23_putVal_41 : decode cJ23_putVal 41 = .ok (.dup, 1) := dk_89 (dk_at dksJ23_putVal_1 17 rfl rfl)
theorem dJ23_putVal_42 : decode cJ23_putVal 42 = .ok (.astore 7, 2) := dk_58 7 (dk_at dksJ23_putVal_1 18 rfl rfl)
theorem dJ23_putVal_44 : decode cJ23_putVal 44 = .ok (.ifnonnull 19, 3) := dk_199 0 19 (dk_at dksJ23_putVal_1 20 rfl rfl)
theorem dJ23_putVal_47 : decode cJ23_putVal 47 = .ok (.aload 6, 2) := dk_25 6 (dk_at dksJ23_putVal_2 0 rfl rfl)
theorem dJ23_putVal_49 : decode cJ23_putVal 49 = .ok (.iload 9, 2) := dk_21 9 (dk_at dksJ23_putVal_2 2 rfl rfl)
theorem dJ23_putVal_51 : decode cJ23_putVal 51 = .ok (.aload_n 0, 1) := dk_42 (dk_at dksJ23_putVal_2 4 rfl rfl)
theorem dJ23_putVal_52 : decode cJ23_putVal 52 = .ok (.iload_n 1, 1) := dk_27 (dk_at dksJ23_putVal_2 5 rfl rfl)
theorem dJ23_putVal_53 : decode cJ23_putVal 53 = .ok (.aload_n 2, 1) := dk_44 (dk_at dksJ23_putVal_2 6 rfl rfl)
theorem dJ23_putVal_54 : decode cJ23_putVal 54 = .ok (.aload_n 3, 1) := dk_45 (dk_at dksJ23_putVal_2 7 rfl rfl)
theorem dJ23_putVal_55 : decode cJ23_putVal 55 = .ok (.aconst_null, 1) := dk_1 (dk_at dksJ23_putVal_2 8 rfl rfl)
theorem dJ23_putVal_56 : decode cJ23_putVal 56 = .ok (.invokevirtual 186, 3) := dk_182 0 186 (dk_at dksJ23_putVal_2 9 rfl rfl)
theorem dJ23_putVal_59 : decode cJ23_putVal 59 = .ok (.aastore, 1) := dk_83 (dk_at dksJ23_putVal_2 12 rfl rfl)
theorem dJ23_putVal_60 : decode cJ23_putVal 60 = .ok (.goto 199, 3) := dk_167 0 199 (dk_at dksJ23_putVal_2 13 rfl rfl)
theorem dJ23_putVal_63 : decode cJ23_putVal 63 = .ok (.aload 7, 2) := dk_25 7 (dk_at dksJ23_putVal_2 16 rfl rfl)
theorem dJ23_putVal_65 : decode cJ23_putVal 65 = .ok (.getfield 168, 3) := dk_180 0 168 (dk_at dksJ23_putVal_2 18 rfl rfl)
theorem dJ23_putVal_68 : decode cJ23_putVal 68 = .ok (.iload_n 1, 1) := dk_27 (dk_at dksJ23_putVal_2 21 rfl rfl)
theorem dJ23_putVal_69 : decode cJ23_putVal 69 = .ok (.if_icmp .ne 35, 3) := dk_160 0 35 (dk_at dksJ23_putVal_3 0 rfl rfl)
theorem dJ23_putVal_72 : decode cJ23_putVal 72 = .ok (.aload 7, 2) := dk_25 7 (dk_at dksJ23_putVal_3 3 rfl rfl)
theorem dJ23_putVal_74 : decode cJ23_putVal 74 = .ok (.getfield 170, 3) := dk_180 0 170 (dk_at dksJ23_putVal_3 5 rfl rfl)
theorem dJ23_putVal_77 : decode cJ23_putVal 77 = .ok (.dup, 1) := dk_89 (dk_at dksJ23_putVal_3 8 rfl rfl)
theorem dJ23_putVal_78 : decode cJ23_putVal 78 = .ok (.astore 11, 2) := dk_58 11 (dk_at dksJ23_putVal_3 9 rfl rfl)
theorem dJ23_putVal_80 : decode cJ23_putVal 80 = .ok (.aload_n 2, 1) := dk_44 (dk_at dksJ23_putVal_3 11 rfl rfl)
theorem dJ23_putVal_81 : decode cJ23_putVal 81 = .ok (.if_acmp .eq 16, 3) := dk_165 0 16 (dk_at dksJ23_putVal_3 12 rfl rfl)
theorem dJ23_putVal_84 : decode cJ23_putVal 84 = .ok (.aload_n 2, 1) := dk_44 (dk_at dksJ23_putVal_3 15 rfl rfl)
theorem dJ23_putVal_85 : decode cJ23_putVal 85 = .ok (.ifnull 19, 3) := dk_198 0 19 (dk_at dksJ23_putVal_3 16 rfl rfl)
theorem dJ23_putVal_88 : decode cJ23_putVal 88 = .ok (.aload_n 2, 1) := dk_44 (dk_at dksJ23_putVal_3 19 rfl rfl)
theorem dJ23_putVal_89 : decode cJ23_putVal 89 = .ok (.aload 11, 2) := dk_25 11 (dk_at dksJ23_putVal_3 20 rfl rfl)
theorem dJ23_putVal_91 : decode cJ23_putVal 91 = .ok (.invokevirtual 173, 3) := dk_182 0 173 (dk_at dksJ23_putVal_4 0 rfl rfl)
theorem dJ23_putVal_94 : decode cJ23_putVal 94 = .ok (.ifCond .eq 10, 3) := dk_153 0 10 (dk_at dksJ23_putVal_4 3 rfl rfl)
theorem dJ23_putVal_97 : decode cJ23_putVal 97 = .ok (.aload 7, 2) := dk_25 7 (dk_at dksJ23_putVal_4 6 rfl rfl)
theorem dJ23_putVal_99 : decode cJ23_putVal 99 = .ok (.astore 10, 2) := dk_58 10 (dk_at dksJ23_putVal_4 8 rfl rfl)
theorem dJ23_putVal_101 : decode cJ23_putVal 101 = .ok (.goto 121, 3) := dk_167 0 121 (dk_at dksJ23_putVal_4 10 rfl rfl)
theorem dJ23_putVal_104 : decode cJ23_putVal 104 = .ok (.aload 7, 2) := dk_25 7 (dk_at dksJ23_putVal_4 13 rfl rfl)
theorem dJ23_putVal_106 : decode cJ23_putVal 106 = .ok (.instanceof 180, 3) := dk_193 0 180 (dk_at dksJ23_putVal_4 15 rfl rfl)
theorem dJ23_putVal_109 : decode cJ23_putVal 109 = .ok (.ifCond .eq 22, 3) := dk_153 0 22 (dk_at dksJ23_putVal_4 18 rfl rfl)
theorem dJ23_putVal_112 : decode cJ23_putVal 112 = .ok (.aload 7, 2) := dk_25 7 (dk_at dksJ23_putVal_4 21 rfl rfl)
theorem dJ23_putVal_131 : decode cJ23_putVal 131 = .ok (.iconst 0, 1) := dk_3 (dk_at dksJ23_putVal_5 17 rfl rfl)
theorem dJ23_putVal_132 : decode cJ23_putVal 132 = .ok (.istore 12, 2) := dk_54 12 (dk_at dksJ23_putVal_5 18 rfl rfl)
theorem dJ23_putVal_134 : decode cJ23_putVal 134 = .ok (.aload 7, 2) := dk_25 7 (dk_at dksJ23_putVal_5 20 rfl rfl)
theorem dJ23_putVal_136 : decode cJ23_putVal 136 = .ok (.getfield 177, 3) := dk_180 0 177 (dk_at dksJ23_putVal_6 0 rfl rfl)
theorem dJ23_putVal_139 : decode cJ23_putVal 139 = .ok (.dup, 1) := dk_89 (dk_at dksJ23_putVal_6 3 rfl rfl)
theorem dJ23_putVal_140 : decode cJ23_putVal 140 = .ok (.astore 10, 2) := dk_58 10 (dk_at dksJ23_putVal_6 4 rfl rfl)
theorem dJ23_putVal_142 : decode cJ23_putVal 142 = .ok (.ifnonnull 33, 3) := dk_199 0 33 (dk_at dksJ23_putVal_6 6 rfl rfl)
theorem dJ23_putVal_145 : decode cJ23_putVal 145 = .ok (.aload 7, 2) := dk_25 7 (dk_at dksJ23_putVal_6 9 rfl rfl)
theorem dJ23_putVal_147 : decode cJ23_putVal 147 = .ok (.aload_n 0, 1) := dk_42 (dk_at dksJ23_putVal_6 11 rfl rfl)
theorem dJ23_putVal_148 : decode cJ23_putVal 148 = .ok (.iload_n 1, 1) := dk_27 (dk_at dksJ23_putVal_6 12 rfl rfl)
theorem dJ23_putVal_149 : decode cJ23_putVal 149 = .ok (.aload_n 2, 1) := dk_44 (dk_at dksJ23_putVal_6 13 rfl rfl)
theorem dJ23_putVal_150 : decode cJ23_putVal 150 = .ok (.aload_n 3, 1) := dk_45 (dk_at dksJ23_putVal_6 14 rfl rfl)
theorem dJ23_putVal_151 : decode cJ23_putVal 151 = .ok (.aconst_null, 1) := dk_1 (dk_at dksJ23_putVal_6 15 rfl rfl)
theorem dJ23_putVal_152 : decode cJ23_putVal 152 = .ok (.invokevirtual 186, 3) := dk_182 0 186 (dk_at dksJ23_putVal_6 16 rfl rfl)
theorem dJ23_putVal_155 : decode cJ23_putVal 155 = .ok (.putfield 177, 3) := dk_181 0 177 (dk_at dksJ23_putVal_6 19 rfl rfl)
theorem dJ23_putVal_158 : decode cJ23_putVal 158 = .ok (.iload 12, 2) := dk_21 12 (dk_at dksJ23_putVal_6 22 rfl rfl)
theorem dJ23_putVal_160 : decode cJ23_putVal 160 = .ok (.bipush 7, 2) := dk_16 7 (dk_at dksJ23_putVal_7 0 rfl rfl)
theorem dJ23_putVal_162 : decode cJ23_putVal 162 = .ok (.if_icmp .lt 60, 3) := dk_161 0 60 (dk_at dksJ23_putVal_7 2 rfl rfl)
theorem dJ23_putVal_165 : decode cJ23_putVal 165 = .ok (.aload_n 0, 1) := dk_42 (dk_at dksJ23_putVal_7 5 rfl rfl)
theorem dJ23_putVal_175 : decode cJ23_putVal 175 = .ok (.aload 10, 2) := dk_25 10 (dk_at dksJ23_putVal_7 15 rfl rfl)
theorem dJ23_putVal_177 : decode cJ23_putVal 177 = .ok (.getfield 168, 3) := dk_180 0 168 (dk_at dksJ23_putVal_7 17 rfl rfl)
theorem dJ23_putVal_180 : decode cJ23_putVal 180 = .ok (.iload_n 1, 1) := dk_27 (dk_at dksJ23_putVal_7 20 rfl rfl)
theorem dJ23_putVal_181 : decode cJ23_putVal 181 = .ok (.if_icmp .ne 31, 3) := dk_160 0 31 (dk_at dksJ23_putVal_7 21 rfl rfl)
theorem dJ23_putVal_184 : decode cJ23_putVal 184 = .ok (.aload 10, 2) := dk_25 10 (dk_at dksJ23_putVal_8 0 rfl rfl)
theorem dJ23_putVal_186 : decode cJ23_putVal 186 = .ok (.getfield 170, 3) := dk_180 0 170 (dk_at dksJ23_putVal_8 2 rfl rfl)
theorem dJ23_putVal_189 : decode cJ23_putVal 189 = .ok (.dup, 1) := dk_89 (dk_at dksJ23_putVal_8 5 rfl rfl)
theorem dJ23_putVal_190 : decode cJ23_putVal 190 = .ok (.astore 11, 2) := dk_58 11 (dk_at dksJ23_putVal_8 6 rfl rfl)
theorem dJ23_putVal_192 : decode cJ23_putVal 192 = .ok (.aload_n 2, 1) := dk_44 (dk_at dksJ23_putVal_8 8 rfl rfl)
theorem dJ23_putVal_193 : decode cJ23_putVal 193 = .ok (.if_acmp .eq 29, 3) := dk_165 0 29 (dk_at dksJ23_putVal_8 9 rfl rfl)
theorem dJ23_putVal_196 : decode cJ23_putVal 196 = .ok (.aload_n 2, 1) := dk_44 (dk_at dksJ23_putVal_8 12 rfl rfl)
theorem dJ23_putVal_197 : decode cJ23_putVal 197 = .ok (.ifnull 15, 3) := dk_198 0 15 (dk_at dksJ23_putVal_8 13 rfl rfl)
theorem dJ23_putVal_200 : decode cJ23_putVal 200 = .ok (.aload_n 2, 1) := dk_44 (dk_at dksJ23_putVal_8 16 rfl rfl)
theorem dJ23_putVal_201 : decode cJ23_putVal 201 = .ok (.aload 11, 2) := dk_25 11 (dk_at dksJ23_putVal_8 17 rfl rfl)
theorem dJ23_putVal_203 : decode cJ23_putVal 203 = .ok (.invokevirtual 173, 3) := dk_182 0 173 (dk_at dksJ23_putVal_8 19 rfl rfl)
theorem dJ23_putVal_206 : decode cJ23_putVal 206 = .ok (.ifCond .eq 6, 3) := dk_153 0 6 (dk_at dksJ23_putVal_9 0 rfl rfl)
theorem dJ23_putVal_209 : decode cJ23_putVal 209 = .ok (.goto 13, 3) := dk_167 0 13 (dk_at dksJ23_putVal_9 3 rfl rfl)
theorem dJ23_putVal_212 : decode cJ23_putVal 212 = .ok (.aload 10, 2) := dk_25 10 (dk_at dksJ23_putVal_9 6 rfl rfl)
theorem dJ23_putVal_214 : decode cJ23_putVal 214 = .ok (.astore 7, 2) := dk_58 7 (dk_at dksJ23_putVal_9 8 rfl rfl)
theorem dJ23_putVal_216 : decode cJ23_putVal 216 = .ok (.iinc 12 1, 3) := dk_132 12 1 (dk_at dksJ23_putVal_9 10 rfl rfl)
theorem dJ23_putVal_219 : decode cJ23_putVal 219 = .ok (.goto (-85), 3) := dk_167 255 171 (dk_at dksJ23_putVal_9 13 rfl rfl)
theorem dJ23_putVal_222 : decode cJ23_putVal 222 = .ok (.aload 10, 2) := dk_25 10 (dk_at dksJ23_putVal_9 16 rfl rfl)
theorem dJ23_putVal_224 : decode cJ23_putVal 224 = .ok (.ifnull 35, 3) := dk_198 0 35 (dk_at dksJ23_putVal_9 18 rfl rfl)
theorem dJ23_putVal_227 : decode cJ23_putVal 227 = .ok (.aload 10, 2) := dk_25 10 (dk_at dksJ23_putVal_9 21 rfl rfl)
theorem dJ23_putVal_229 : decode cJ23_putVal 229 = .ok (.getfield 162, 3) := dk_180 0 162 (dk_at dksJ23_putVal_10 0 rfl rfl)
theorem dJ23_putVal_232 : decode cJ23_putVal 232 = .ok (.astore 12, 2) := dk_58 12 (dk_at dksJ23_putVal_10 3 rfl rfl)
theorem dJ23_putVal_234 : decode cJ23_putVal 234 = .ok (.iload 4, 2) := dk_21 4 (dk_at dksJ23_putVal_10 5 rfl rfl)
theorem dJ23_putVal_236 : decode cJ23_putVal 236 = .ok (.ifCond .eq 8, 3) := dk_153 0 8 (dk_at dksJ23_putVal_10 7 rfl rfl)
theorem dJ23_putVal_239 : decode cJ23_putVal 239 = .ok (.aload 12, 2) := dk_25 12 (dk_at dksJ23_putVal_10 10 rfl rfl)
theorem dJ23_putVal_241 : decode cJ23_putVal 241 = .ok (.ifnonnull 9, 3) := dk_199 0 9 (dk_at dksJ23_putVal_10 12 rfl rfl)
theorem dJ23_putVal_244 : decode cJ23_putVal 244 = .ok (.aload 10, 2) := dk_25 10 (dk_at dksJ23_putVal_10 15 rfl rfl)
theorem dJ23_putVal_246 : decode cJ23_putVal 246 = .ok (.aload_n 3, 1) := dk_45 (dk_at dksJ23_putVal_10 17 rfl rfl)
theorem dJ23_putVal_247 : decode cJ23_putVal 247 = .ok (.putfield 162, 3) := dk_181 0 162 (dk_at dksJ23_putVal_10 18 rfl rfl)
theorem dJ23_putVal_250 : decode cJ23_putVal 250 = .ok (.aload_n 0, 1) := dk_42 (dk_at dksJ23_putVal_10 21 rfl rfl)
theorem dJ23_putVal_251 : decode cJ23_putVal 251 = .ok (.aload 10, 2) := dk_25 10 (dk_at dksJ23_putVal_10 22 rfl rfl)
theorem dJ23_putVal_253 : decode cJ23_putVal 253 = .ok (.invokevirtual 198, 3) := dk_182 0 198 (dk_at dksJ23_putVal_11 0 rfl rfl)
theorem dJ23_putVal_256 : decode cJ23_putVal 256 = .ok (.aload 12, 2) := dk_25 12 (dk_at dksJ23_putVal_11 3 rfl rfl)
theorem dJ23_putVal_258 : decode cJ23_putVal 258 = .ok (.areturn, 1) := dk_176 (dk_at dksJ23_putVal_11 5 rfl rfl)
theorem dJ23_putVal_259 : decode cJ23_putVal 259 = .ok (.aload_n 0, 1) := dk_42 (dk_at dksJ23_putVal_11 6 rfl rfl)
theorem dJ23_putVal_260 : decode cJ23_putVal 260 = .ok (.dup, 1) := dk_89 (dk_at dksJ23_putVal_11 7 rfl rfl)
theorem dJ23_putVal_261 : decode cJ23_putVal 261 = .ok (.getfield 202, 3) := dk_180 0 202 (dk_at dksJ23_putVal_11 8 rfl rfl)
theorem dJ23_putVal_264 : decode cJ23_putVal 264 = .ok (.iconst 1, 1) := dk_4 (dk_at dksJ23_putVal_11 11 rfl rfl)
theorem dJ23_putVal_265 : decode cJ23_putVal 265 = .ok (.iadd, 1) := dk_96 (dk_at dksJ23_putVal_11 12 rfl rfl)
theorem dJ23_putVal_266 : decode cJ23_putVal 266 = .ok (.putfield 202, 3) := dk_181 0 202 (dk_at dksJ23_putVal_11 13 rfl rfl)
theorem dJ23_putVal_269 : decode cJ23_putVal 269 = .ok (.aload_n 0, 1) := dk_42 (dk_at dksJ23_putVal_11 16 rfl rfl)
theorem dJ23_putVal_270 : decode cJ23_putVal 270 = .ok (.dup, 1) := dk_89 (dk_at dksJ23_putVal_11 17 rfl rfl)
theorem dJ23_putVal_271 : decode cJ23_putVal 271 = .ok (.getfield 156, 3) := dk_180 0 156 (dk_at dksJ23_putVal_11 18 rfl rfl)
theorem dJ23_putVal_274 : decode cJ23_putVal 274 = .ok (.iconst 1, 1) := dk_4 (dk_at dksJ23_putVal_11 21 rfl rfl)
theorem dJ23_putVal_275 : decode cJ23_putVal 275 = .ok (.iadd, 1) := dk_96 (dk_at dksJ23_putVal_11 22 rfl rfl)
theorem dJ23_putVal_276 : decode cJ23_putVal 276 = .ok (.dup_x1, 1) := dk_90 (dk_at dksJ23_putVal_11 23 rfl rfl)
theorem dJ23_putVal_277 : decode cJ23_putVal 277 = .ok (.putfield 156, 3) := dk_181 0 156 (dk_at dksJ23_putVal_12 0 rfl rfl)
theorem dJ23_putVal_280 : decode cJ23_putVal 280 = .ok (.aload_n 0, 1) := dk_42 (dk_at dksJ23_putVal_12 3 rfl rfl)
theorem dJ23_putVal_281 : decode cJ23_putVal 281 = .ok (.getfield 88, 3) := dk_180 0 88 (dk_at dksJ23_putVal_12 4 rfl rfl)
theorem dJ23_putVal_284 : decode cJ23_putVal 284 = .ok (.if_icmp .le 8, 3) := dk_164 0 8 (dk_at dksJ23_putVal_12 7 rfl rfl)
theorem dJ23_putVal_287 : decode cJ23_putVal 287 = .ok (.aload_n 0, 1) := dk_42 (dk_at dksJ23_putVal_12 10 rfl rfl)
theorem dJ23_putVal_288 : decode cJ23_putVal 288 = .ok (.invokevirtual 117, 3) := dk_182 0 117 (dk_at dksJ23_putVal_12 11 rfl rfl)
theorem dJ23_putVal_291 : decode cJ23_putVal 291 = .ok (.pop, 1) := dk_87 (dk_at dksJ23_putVal_12 14 rfl rfl)
theorem dJ23_putVal_292 : decode cJ23_putVal 292 = .ok (.aload_n 0, 1) := dk_42 (dk_at dksJ23_putVal_12 15 rfl rfl)
theorem dJ23_putVal_293 : decode cJ23_putVal 293 = .ok (.iload 5, 2) := dk_21 5 (dk_at dksJ23_putVal_12 16 rfl rfl)
theorem dJ23_putVal_295 : decode cJ23_putVal 295 = .ok (.invokevirtual 205, 3) := dk_182 0 205 (dk_at dksJ23_putVal_12 18 rfl rfl)
theorem dJ23_putVal_298 : decode cJ23_putVal 298 = .ok (.aconst_null, 1) := dk_1 (dk_at dksJ23_putVal_12 21 rfl rfl)
theorem dJ23_putVal_299 : decode cJ23_putVal 299 = .ok (.areturn, 1) := dk_176 (dk_at dksJ23_putVal_12 22 rfl rfl)
abbrev cJ23_resize : ByteArray := prog_64_method_17_code
def yJ23_resize : MethodName := ⟨RJ23, "resize", "()[Ljava/util/HashMap$Node;"⟩
def dkwJ23_resize_15 : List UInt8 := [25, 6, 176]
abbrev dktJ23_resize_15 : List UInt8 := dkwJ23_resize_15 ++ []
def dkwJ23_resize_14 : List UInt8 := [198, 0, 18, 25, 12, 1, 181, 0, 177, 25, 6, 21, 7, 28, 96, 25, 11, 83, 132, 7, 1, 167, 255, 57]
abbrev dktJ23_resize_14 : List UInt8 := dkwJ23_resize_14 ++ dktJ23_resize_15
def dkwJ23_resize_13 : List UInt8 := [199, 255, 185, 25, 10, 198, 0, 16, 25, 10, 1, 181, 0, 177, 25, 6, 21, 7, 25, 9, 83, 25, 12]
abbrev dktJ23_resize_13 : List UInt8 := dkwJ23_resize_13 ++ dktJ23_resize_14
def dkwJ23_resize_12 : List UInt8 := [25, 8, 58, 11, 167, 0, 10, 25, 12, 25, 8, 181, 0, 177, 25, 8, 58, 12, 25, 13, 89, 58, 8]
abbrev dktJ23_resize_12 : List UInt8 := dkwJ23_resize_12 ++ dktJ23_resize_13
def dkwJ23_resize_11 : List UInt8 := [58, 9, 167, 0, 10, 25, 10, 25, 8, 181, 0, 177, 25, 8, 58, 10, 167, 0, 26, 25, 12, 199, 0, 10]
abbrev dktJ23_resize_11 : List UInt8 := dkwJ23_resize_11 ++ dktJ23_resize_12
def dkwJ23_resize_10 : List UInt8 := [25, 8, 180, 0, 177, 58, 13, 25, 8, 180, 0, 168, 28, 126, 154, 0, 29, 25, 10, 199, 0, 10, 25, 8]
abbrev dktJ23_resize_10 : List UInt8 := dkwJ23_resize_10 ++ dktJ23_resize_11
def dkwJ23_resize_9 : List UInt8 := [42, 25, 6, 21, 7, 28, 182, 0, 211, 167, 0, 127, 1, 58, 9, 1, 58, 10, 1, 58, 11, 1, 58, 12]
abbrev dktJ23_resize_9 : List UInt8 := dkwJ23_resize_9 ++ dktJ23_resize_10
def dkwJ23_resize_8 : List UInt8 := [21, 4, 4, 100, 126, 25, 8, 83, 167, 0, 152, 25, 8, 193, 0, 180, 153, 0, 20, 25, 8, 192, 0, 180]
abbrev dktJ23_resize_8 : List UInt8 := dkwJ23_resize_8 ++ dktJ23_resize_9
def dkwJ23_resize_7 : List UInt8 := [198, 0, 183, 43, 21, 7, 1, 83, 25, 8, 180, 0, 177, 199, 0, 21, 25, 6, 25, 8, 180, 0, 168]
abbrev dktJ23_resize_7 : List UInt8 := dkwJ23_resize_7 ++ dktJ23_resize_8
def dkwJ23_resize_6 : List UInt8 := [181, 0, 105, 43, 198, 0, 208, 3, 54, 7, 21, 7, 28, 162, 0, 199, 43, 21, 7, 50, 89, 58, 8]
abbrev dktJ23_resize_6 : List UInt8 := dkwJ23_resize_6 ++ dktJ23_resize_7
def dkwJ23_resize_5 : List UInt8 := [167, 0, 5, 18, 209, 54, 5, 42, 21, 5, 181, 0, 88, 21, 4, 189, 0, 163, 58, 6, 42, 25, 6]
abbrev dktJ23_resize_5 : List UInt8 := dkwJ23_resize_5 ++ dktJ23_resize_6
def dkwJ23_resize_4 : List UInt8 := [180, 0, 81, 106, 56, 6, 21, 4, 18, 42, 162, 0, 17, 23, 6, 18, 210, 150, 156, 0, 9, 23, 6, 139]
abbrev dktJ23_resize_4 : List UInt8 := dkwJ23_resize_4 ++ dktJ23_resize_5
def dkwJ23_resize_3 : List UInt8 := [54, 4, 167, 0, 11, 16, 16, 54, 4, 16, 12, 54, 5, 21, 5, 154, 0, 38, 21, 4, 134, 42]
abbrev dktJ23_resize_3 : List UInt8 := dkwJ23_resize_3 ++ dktJ23_resize_4
def dkwJ23_resize_2 : List UInt8 := [18, 42, 162, 0, 35, 28, 16, 16, 161, 0, 29, 29, 4, 120, 54, 5, 167, 0, 21, 29, 158, 0, 9, 29]
abbrev dktJ23_resize_2 : List UInt8 := dkwJ23_resize_2 ++ dktJ23_resize_3
def dkwJ23_resize_1 : List UInt8 := [28, 158, 0, 42, 28, 18, 42, 161, 0, 11, 42, 18, 209, 181, 0, 88, 43, 176, 28, 4, 120, 89, 54, 4]
abbrev dktJ23_resize_1 : List UInt8 := dkwJ23_resize_1 ++ dktJ23_resize_2
def dkwJ23_resize_0 : List UInt8 := [42, 180, 0, 105, 76, 43, 199, 0, 7, 3, 167, 0, 5, 43, 190, 61, 42, 180, 0, 88, 62, 3, 54, 5]
abbrev dktJ23_resize_0 : List UInt8 := dkwJ23_resize_0 ++ dktJ23_resize_1
theorem dksJ23_resize_0 : cJ23_resize.data.toList.drop 0 = dktJ23_resize_0 := by decide +kernel
theorem dksJ23_resize_1 : cJ23_resize.data.toList.drop 24 = dktJ23_resize_1 := dk_seg dksJ23_resize_0 24 rfl rfl
theorem dksJ23_resize_2 : cJ23_resize.data.toList.drop 48 = dktJ23_resize_2 := dk_seg dksJ23_resize_1 24 rfl rfl
theorem dksJ23_resize_3 : cJ23_resize.data.toList.drop 72 = dktJ23_resize_3 := dk_seg dksJ23_resize_2 24 rfl rfl
theorem dksJ23_resize_4 : cJ23_resize.data.toList.drop 94 = dktJ23_resize_4 := dk_seg dksJ23_resize_3 22 rfl rfl
theorem dksJ23_resize_5 : cJ23_resize.data.toList.drop 118 = dktJ23_resize_5 := dk_seg dksJ23_resize_4 24 rfl rfl
theorem dksJ23_resize_6 : cJ23_resize.data.toList.drop 141 = dktJ23_resize_6 := dk_seg dksJ23_resize_5 23 rfl rfl
theorem dksJ23_resize_7 : cJ23_resize.data.toList.drop 164 = dktJ23_resize_7 := dk_seg dksJ23_resize_6 23 rfl rfl
theorem dksJ23_resize_8 : cJ23_resize.data.toList.drop 187 = dktJ23_resize_8 := dk_seg dksJ23_resize_7 23 rfl rfl
theorem dksJ23_resize_9 : cJ23_resize.data.toList.drop 211 = dktJ23_resize_9 := dk_seg dksJ23_resize_8 24 rfl rfl
theorem dksJ23_resize_10 : cJ23_resize.data.toList.drop 235 = dktJ23_resize_10 := dk_seg dksJ23_resize_9 24 rfl rfl
theorem dksJ23_resize_11 : cJ23_resize.data.toList.drop 259 = dktJ23_resize_11 := dk_seg dksJ23_resize_10 24 rfl rfl
theorem dksJ23_resize_12 : cJ23_resize.data.toList.drop 283 = dktJ23_resize_12 := dk_seg dksJ23_resize_11 24 rfl rfl
theorem dksJ23_resize_13 : cJ23_resize.data.toList.drop 306 = dktJ23_resize_13 := dk_seg dksJ23_resize_12 23 rfl rfl
theorem dksJ23_resize_14 : cJ23_resize.data.toList.drop 329 = dktJ23_resize_14 := dk_seg dksJ23_resize_13 23 rfl rfl
theorem dksJ23_resize_15 : cJ23_resize.data.toList.drop 353 = dktJ23_resize_15 := dk_seg dksJ23_resize_14 24 rfl rfl
theorem dJ23_resize_0 : decode cJ23_resize 0 = .ok (.aload_n 0, 1) := dk_42 (dk_at dksJ23_resize_0 0 rfl rfl)
theorem dJ23_resize_1 : decode cJ23_resize 1 = .ok (.getfield 105, 3) := dk_180 0 105 (dk_at dksJ23_resize_0 1 rfl rfl)
theorem dJ23_resize_4 : decode cJ23_resize 4 = .ok (.astore_n 1, 1) := dk_76 (dk_at dksJ23_resize_0 4 rfl rfl)
theorem dJ23_resize_5 : decode cJ23_resize 5 = .ok (.aload_n 1, 1) := dk_43 (dk_at dksJ23_resize_0 5 rfl rfl)
theorem dJ23_resize_6 : decode cJ23_resize 6 = .ok (.ifnonnull 7, 3) := dk_199 0 7 (dk_at dksJ23_resize_0 6 rfl rfl)
theorem dJ23_resize_9 : decode cJ23_resize 9 = .ok (.iconst 0, 1) := dk_3 (dk_at dksJ23_resize_0 9 rfl rfl)
theorem dJ23_resize_10 : decode cJ23_resize 10 = .ok (.goto 5, 3) := dk_167 0 5 (dk_at dksJ23_resize_0 10 rfl rfl)
theorem dJ23_resize_13 : decode cJ23_resize 13 = .ok (.aload_n 1, 1) := dk_43 (dk_at dksJ23_resize_0 13 rfl rfl)
theorem dJ23_resize_14 : decode cJ23_resize 14 = .ok (.arraylength, 1) := dk_190 (dk_at dksJ23_resize_0 14 rfl rfl)
theorem dJ23_resize_15 : decode cJ23_resize 15 = .ok (.istore_n 2, 1) := dk_61 (dk_at dksJ23_resize_0 15 rfl rfl)
theorem dJ23_resize_16 : decode cJ23_resize 16 = .ok (.aload_n 0, 1) := dk_42 (dk_at dksJ23_resize_0 16 rfl rfl)
theorem dJ23_resize_17 : decode cJ23_resize 17 = .ok (.getfield 88, 3) := dk_180 0 88 (dk_at dksJ23_resize_0 17 rfl rfl)
theorem dJ23_resize_20 : decode cJ23_resize 20 = .ok (.istore_n 3, 1) := dk_62 (dk_at dksJ23_resize_0 20 rfl rfl)
theorem dJ23_resize_21 : decode cJ23_resize 21 = .ok (.iconst 0, 1) := dk_3 (dk_at dksJ23_resize_0 21 rfl rfl)
theorem dJ23_resize_22 : decode cJ23_resize 22 = .ok (.istore 5, 2) := dk_54 5 (dk_at dksJ23_resize_0 22 rfl rfl)
theorem dJ23_resize_24 : decode cJ23_resize 24 = .ok (.iload_n 2, 1) := dk_28 (dk_at dksJ23_resize_1 0 rfl rfl)
theorem dJ23_resize_25 : decode cJ23_resize 25 = .ok (.ifCond .le 42, 3) := dk_158 0 42 (dk_at dksJ23_resize_1 1 rfl rfl)
theorem dJ23_resize_28 : decode cJ23_resize 28 = .ok (.iload_n 2, 1) := dk_28 (dk_at dksJ23_resize_1 4 rfl rfl)
theorem dJ23_resize_29 : decode cJ23_resize 29 = .ok (.ldc 42, 2) := dk_18 42 (dk_at dksJ23_resize_1 5 rfl rfl)
theorem dJ23_resize_31 : decode cJ23_resize 31 = .ok (.if_icmp .lt 11, 3) := dk_161 0 11 (dk_at dksJ23_resize_1 7 rfl rfl)
theorem dJ23_resize_34 : decode cJ23_resize 34 = .ok (.aload_n 0, 1) := dk_42 (dk_at dksJ23_resize_1 10 rfl rfl)
theorem dJ23_resize_35 : decode cJ23_resize 35 = .ok (.ldc 209, 2) := dk_18 209 (dk_at dksJ23_resize_1 11 rfl rfl)
theorem dJ23_resize_37 : decode cJ23_resize 37 = .ok (.putfield 88, 3) := dk_181 0 88 (dk_at dksJ23_resize_1 13 rfl rfl)
theorem dJ23_resize_40 : decode cJ23_resize 40 = .ok (.aload_n 1, 1) := dk_43 (dk_at dksJ23_resize_1 16 rfl rfl)
theorem dJ23_resize_41 : decode cJ23_resize 41 = .ok (.areturn, 1) := dk_176 (dk_at dksJ23_resize_1 17 rfl rfl)
theorem dJ23_resize_42 : decode cJ23_resize 42 = .ok (.iload_n 2, 1) := dk_28 (dk_at dksJ23_resize_1 18 rfl rfl)
theorem dJ23_resize_43 : decode cJ23_resize 43 = .ok (.iconst 1, 1) := dk_4 (dk_at dksJ23_resize_1 19 rfl rfl)
theorem dJ23_resize_44 : decode cJ23_resize 44 = .ok (.ishl, 1) := dk_120 (dk_at dksJ23_resize_1 20 rfl rfl)
theorem dJ23_resize_45 : decode cJ23_resize 45 = .ok (.dup, 1) := dk_89 (dk_at dksJ23_resize_1 21 rfl rfl)
theorem dJ23_resize_46 : decode cJ23_resize 46 = .ok (.istore 4, 2) := dk_54 4 (dk_at dksJ23_resize_1 22 rfl rfl)
theorem dJ23_resize_48 : decode cJ23_resize 48 = .ok (.ldc 42, 2) := dk_18 42 (dk_at dksJ23_resize_2 0 rfl rfl)
theorem dJ23_resize_50 : decode cJ23_resize 50 = .ok (.if_icmp .ge 35, 3) := dk_162 0 35 (dk_at dksJ23_resize_2 2 rfl rfl)
theorem dJ23_resize_53 : decode cJ23_resize 53 = .ok (.iload_n 2, 1) := dk_28 (dk_at dksJ23_resize_2 5 rfl rfl)
theorem dJ23_resize_54 : decode cJ23_resize 54 = .ok (.bipush 16, 2) := dk_16 16 (dk_at dksJ23_resize_2 6 rfl rfl)
theorem dJ23_resize_56 : decode cJ23_resize 56 = .ok (.if_icmp .lt 29, 3) := dk_161 0 29 (dk_at dksJ23_resize_2 8 rfl rfl)
theorem dJ23_resize_59 : decode cJ23_resize 59 = .ok (.iload_n 3, 1) := dk_29 (dk_at dksJ23_resize_2 11 rfl rfl)
theorem dJ23_resize_60 : decode cJ23_resize 60 = .ok (.iconst 1, 1) := dk_4 (dk_at dksJ23_resize_2 12 rfl rfl)
theorem dJ23_resize_61 : decode cJ23_resize 61 = .ok (.ishl, 1) := dk_120 (dk_at dksJ23_resize_2 13 rfl rfl)
theorem dJ23_resize_62 : decode cJ23_resize 62 = .ok (.istore 5, 2) := dk_54 5 (dk_at dksJ23_resize_2 14 rfl rfl)
theorem dJ23_resize_64 : decode cJ23_resize 64 = .ok (.goto 21, 3) := dk_167 0 21 (dk_at dksJ23_resize_2 16 rfl rfl)
theorem dJ23_resize_67 : decode cJ23_resize 67 = .ok (.iload_n 3, 1) := dk_29 (dk_at dksJ23_resize_2 19 rfl rfl)
theorem dJ23_resize_68 : decode cJ23_resize 68 = .ok (.ifCond .le 9, 3) := dk_158 0 9 (dk_at dksJ23_resize_2 20 rfl rfl)
theorem dJ23_resize_71 : decode cJ23_resize 71 = .ok (.iload_n 3, 1) := dk_29 (dk_at dksJ23_resize_2 23 rfl rfl)
theorem dJ23_resize_72 : decode cJ23_resize 72 = .ok (.istore 4, 2) := dk_54 4 (dk_at dksJ23_resize_3 0 rfl rfl)
theorem dJ23_resize_74 : decode cJ23_resize 74 = .ok (.goto 11, 3) := dk_167 0 11 (dk_at dksJ23_resize_3 2 rfl rfl)
theorem dJ23_resize_77 : decode cJ23_resize 77 = .ok (.bipush 16, 2) := dk_16 16 (dk_at dksJ23_resize_3 5 rfl rfl)
theorem dJ23_resize_79 : decode cJ23_resize 79 = .ok (.istore 4, 2) := dk_54 4 (dk_at dksJ23_resize_3 7 rfl rfl)
theorem dJ23_resize_81 : decode cJ23_resize 81 = .ok (.bipush 12, 2) := dk_16 12 (dk_at dksJ23_resize_3 9 rfl rfl)
theorem dJ23_resize_83 : decode cJ23_resize 83 = .ok (.istore 5, 2) := dk_54 5 (dk_at dksJ23_resize_3 11 rfl rfl)
theorem dJ23_resize_85 : decode cJ23_resize 85 = .ok (.iload 5, 2) := dk_21 5 (dk_at dksJ23_resize_3 13 rfl rfl)
theorem dJ23_resize_87 : decode cJ23_resize 87 = .ok (.ifCond .ne 38, 3) := dk_154 0 38 (dk_at dksJ23_resize_3 15 rfl rfl)
theorem dJ23_resize_90 : decode cJ23_resize 90 = .ok (.iload 4, 2) := dk_21 4 (dk_at dksJ23_resize_3 18 rfl rfl)
theorem dJ23_resize_92 : decode cJ23_resize 92 = .ok (.i2f, 1) := dk_134 (dk_at dksJ23_resize_3 20 rfl rfl)
theorem dJ23_resize_93 : decode cJ23_resize 93 = .ok (.aload_n 0, 1) := dk_42 (dk_at dksJ23_resize_3 21 rfl rfl)
theorem dJ23_resize_94 : decode cJ23_resize 94 = .ok (.getfield 81, 3) := dk_180 0 81 (dk_at dksJ23_resize_4 0 rfl rfl)
theorem dJ23_resize_97 : decode cJ23_resize 97 = .ok (.fmul, 1) := dk_106 (dk_at dksJ23_resize_4 3 rfl rfl)
theorem dJ23_resize_98 : decode cJ23_resize 98 = .ok (.fstore 6, 2) := dk_56 6 (dk_at dksJ23_resize_4 4 rfl rfl)
theorem dJ23_resize_100 : decode cJ23_resize 100 = .ok (.iload 4, 2) := dk_21 4 (dk_at dksJ23_resize_4 6 rfl rfl)
theorem dJ23_resize_102 : decode cJ23_resize 102 = .ok (.ldc 42, 2) := dk_18 42 (dk_at dksJ23_resize_4 8 rfl rfl)
theorem dJ23_resize_104 : decode cJ23_resize 104 = .ok (.if_icmp .ge 17, 3) := dk_162 0 17 (dk_at dksJ23_resize_4 10 rfl rfl)
theorem dJ23_resize_107 : decode cJ23_resize 107 = .ok (.fload 6, 2) := dk_23 6 (dk_at dksJ23_resize_4 13 rfl rfl)
theorem dJ23_resize_109 : decode cJ23_resize 109 = .ok (.ldc 210, 2) := dk_18 210 (dk_at dksJ23_resize_4 15 rfl rfl)
theorem dJ23_resize_111 : decode cJ23_resize 111 = .ok (.fcmp .g, 1) := dk_150 (dk_at dksJ23_resize_4 17 rfl rfl)
theorem dJ23_resize_112 : decode cJ23_resize 112 = .ok (.ifCond .ge 9, 3) := dk_156 0 9 (dk_at dksJ23_resize_4 18 rfl rfl)
theorem dJ23_resize_115 : decode cJ23_resize 115 = .ok (.fload 6, 2) := dk_23 6 (dk_at dksJ23_resize_4 21 rfl rfl)
theorem dJ23_resize_117 : decode cJ23_resize 117 = .ok (.f2i, 1) := dk_139 (dk_at dksJ23_resize_4 23 rfl rfl)
theorem dJ23_resize_118 : decode cJ23_resize 118 = .ok (.goto 5, 3) := dk_167 0 5 (dk_at dksJ23_resize_5 0 rfl rfl)
theorem dJ23_resize_121 : decode cJ23_resize 121 = .ok (.ldc 209, 2) := dk_18 209 (dk_at dksJ23_resize_5 3 rfl rfl)
theorem dJ23_resize_123 : decode cJ23_resize 123 = .ok (.istore 5, 2) := dk_54 5 (dk_at dksJ23_resize_5 5 rfl rfl)
theorem dJ23_resize_125 : decode cJ23_resize 125 = .ok (.aload_n 0, 1) := dk_42 (dk_at dksJ23_resize_5 7 rfl rfl)
theorem dJ23_resize_126 : decode cJ23_resize 126 = .ok (.iload 5, 2) := dk_21 5 (dk_at dksJ23_resize_5 8 rfl rfl)
theorem dJ23_resize_128 : decode cJ23_resize 128 = .ok (.putfield 88, 3) := dk_181 0 88 (dk_at dksJ23_resize_5 10 rfl rfl)
theorem dJ23_resize_131 : decode cJ23_resize 131 = .ok (.iload 4, 2) := dk_21 4 (dk_at dksJ23_resize_5 13 rfl rfl)
theorem dJ23_resize_133 : decode cJ23_resize 133 = .ok (.anewarray 163, 3) := dk_189 0 163 (dk_at dksJ23_resize_5 15 rfl rfl)
theorem dJ23_resize_136 : decode cJ23_resize 136 = .ok (.astore 6, 2) := dk_58 6 (dk_at dksJ23_resize_5 18 rfl rfl)
theorem dJ23_resize_138 : decode cJ23_resize 138 = .ok (.aload_n 0, 1) := dk_42 (dk_at dksJ23_resize_5 20 rfl rfl)
theorem dJ23_resize_139 : decode cJ23_resize 139 = .ok (.aload 6, 2) := dk_25 6 (dk_at dksJ23_resize_5 21 rfl rfl)
theorem dJ23_resize_141 : decode cJ23_resize 141 = .ok (.putfield 105, 3) := dk_181 0 105 (dk_at dksJ23_resize_6 0 rfl rfl)
theorem dJ23_resize_144 : decode cJ23_resize 144 = .ok (.aload_n 1, 1) := dk_43 (dk_at dksJ23_resize_6 3 rfl rfl)
theorem dJ23_resize_145 : decode cJ23_resize 145 = .ok (.ifnull 208, 3) := dk_198 0 208 (dk_at dksJ23_resize_6 4 rfl rfl)
theorem dJ23_resize_148 : decode cJ23_resize 148 = .ok (.iconst 0, 1) := dk_3 (dk_at dksJ23_resize_6 7 rfl rfl)
theorem dJ23_resize_149 : decode cJ23_resize 149 = .ok (.istore 7, 2) := dk_54 7 (dk_at dksJ23_resize_6 8 rfl rfl)
theorem dJ23_resize_151 : decode cJ23_resize 151 = .ok (.iload 7, 2) := dk_21 7 (dk_at dksJ23_resize_6 10 rfl rfl)
theorem dJ23_resize_153 : decode cJ23_resize 153 = .ok (.iload_n 2, 1) := dk_28 (dk_at dksJ23_resize_6 12 rfl rfl)
theorem dJ23_resize_154 : decode cJ23_resize 154 = .ok (.if_icmp .ge 199, 3) := dk_162 0 199 (dk_at dksJ23_resize_6 13 rfl rfl)
theorem dJ23_resize_157 : decode cJ23_resize 157 = .ok (.aload_n 1, 1) := dk_43 (dk_at dksJ23_resize_6 16 rfl rfl)
theorem dJ23_resize_158 : decode cJ23_resize 158 = .ok (.iload 7, 2) := dk_21 7 (dk_at dksJ23_resize_6 17 rfl rfl)
theorem dJ23_resize_160 : decode cJ23_resize 160 = .ok (.aaload, 1) := dk_50 (dk_at dksJ23_resize_6 19 rfl rfl)
theorem dJ23_resize_161 : decode cJ23_resize 161 = .ok (.dup, 1) := dk_89 (dk_at dksJ23_resize_6 20 rfl rfl)
theorem dJ23_resize_162 : decode cJ23_resize 162 = .ok (.astore 8, 2) := dk_58 8 (dk_at dksJ23_resize_6 21 rfl rfl)
theorem dJ23_resize_164 : decode cJ23_resize 164 = .ok (.ifnull 183, 3) := dk_198 0 183 (dk_at dksJ23_resize_7 0 rfl rfl)
theorem dJ23_resize_167 : decode cJ23_resize 167 = .ok (.aload_n 1, 1) := dk_43 (dk_at dksJ23_resize_7 3 rfl rfl)
theorem dJ23_resize_168 : decode cJ23_resize 168 = .ok (.iload 7, 2) := dk_21 7 (dk_at dksJ23_resize_7 4 rfl rfl)
theorem dJ23_resize_170 : decode cJ23_resize 170 = .ok (.aconst_null, 1) := dk_1 (dk_at dksJ23_resize_7 6 rfl rfl)
theorem dJ23_resize_171 : decode cJ23_resize 171 = .ok (.aastore, 1) := dk_83 (dk_at dksJ23_resize_7 7 rfl rfl)
theorem dJ23_resize_172 : decode cJ23_resize 172 = .ok (.aload 8, 2) := dk_25 8 (dk_at dksJ23_resize_7 8 rfl rfl)
theorem dJ23_resize_174 : decode cJ23_resize 174 = .ok (.getfield 177, 3) := dk_180 0 177 (dk_at dksJ23_resize_7 10 rfl rfl)
theorem dJ23_resize_177 : decode cJ23_resize 177 = .ok (.ifnonnull 21, 3) := dk_199 0 21 (dk_at dksJ23_resize_7 13 rfl rfl)
theorem dJ23_resize_180 : decode cJ23_resize 180 = .ok (.aload 6, 2) := dk_25 6 (dk_at dksJ23_resize_7 16 rfl rfl)
theorem dJ23_resize_182 : decode cJ23_resize 182 = .ok (.aload 8, 2) := dk_25 8 (dk_at dksJ23_resize_7 18 rfl rfl)
theorem dJ23_resize_184 : decode cJ23_resize 184 = .ok (.getfield 168, 3) := dk_180 0 168 (dk_at dksJ23_resize_7 20 rfl rfl)
theorem dJ23_resize_187 : decode cJ23_resize 187 = .ok (.iload 4, 2) := dk_21 4 (dk_at dksJ23_resize_8 0 rfl rfl)
theorem dJ23_resize_189 : decode cJ23_resize 189 = .ok (.iconst 1, 1) := dk_4 (dk_at dksJ23_resize_8 2 rfl rfl)
theorem dJ23_resize_190 : decode cJ23_resize 190 = .ok (.isub, 1) := dk_100 (dk_at dksJ23_resize_8 3 rfl rfl)
theorem dJ23_resize_191 : decode cJ23_resize 191 = .ok (.iand, 1) := dk_126 (dk_at dksJ23_resize_8 4 rfl rfl)
theorem dJ23_resize_192 : decode cJ23_resize 192 = .ok (.aload 8, 2) := dk_25 8 (dk_at dksJ23_resize_8 5 rfl rfl)
theorem dJ23_resize_194 : decode cJ23_resize 194 = .ok (.aastore, 1) := dk_83 (dk_at dksJ23_resize_8 7 rfl rfl)
theorem dJ23_resize_195 : decode cJ23_resize 195 = .ok (.goto 152, 3) := dk_167 0 152 (dk_at dksJ23_resize_8 8 rfl rfl)
theorem dJ23_resize_198 : decode cJ23_resize 198 = .ok (.aload 8, 2) := dk_25 8 (dk_at dksJ23_resize_8 11 rfl rfl)
theorem dJ23_resize_200 : decode cJ23_resize 200 = .ok (.instanceof 180, 3) := dk_193 0 180 (dk_at dksJ23_resize_8 13 rfl rfl)
theorem dJ23_resize_203 : decode cJ23_resize 203 = .ok (.ifCond .eq 20, 3) := dk_153 0 20 (dk_at dksJ23_resize_8 16 rfl rfl)
theorem dJ23_resize_206 : decode cJ23_resize 206 = .ok (.aload 8, 2) := dk_25 8 (dk_at dksJ23_resize_8 19 rfl rfl)
theorem dJ23_resize_223 : decode cJ23_resize 223 = .ok (.aconst_null, 1) := dk_1 (dk_at dksJ23_resize_9 12 rfl rfl)
theorem dJ23_resize_224 : decode cJ23_resize 224 = .ok (.astore 9, 2) := dk_58 9 (dk_at dksJ23_resize_9 13 rfl rfl)
theorem dJ23_resize_226 : decode cJ23_resize 226 = .ok (.aconst_null, 1) := dk_1 (dk_at dksJ23_resize_9 15 rfl rfl)
theorem dJ23_resize_227 : decode cJ23_resize 227 = .ok (.astore 10, 2) := dk_58 10 (dk_at dksJ23_resize_9 16 rfl rfl)
theorem dJ23_resize_229 : decode cJ23_resize 229 = .ok (.aconst_null, 1) := dk_1 (dk_at dksJ23_resize_9 18 rfl rfl)
theorem dJ23_resize_230 : decode cJ23_resize 230 = .ok (.astore 11, 2) := dk_58 11 (dk_at dksJ23_resize_9 19 rfl rfl)
theorem dJ23_resize_232 : decode cJ23_resize 232 = .ok (.aconst_null, 1) := dk_1 (dk_at dksJ23_resize_9 21 rfl rfl)
theorem dJ23_resize_233 : decode cJ23_resize 233 = .ok (.astore 12, 2) := dk_58 12 (dk_at dksJ23_resize_9 22 rfl rfl)
theorem dJ23_resize_235 : decode cJ23_resize 235 = .ok (.aload 8, 2) := dk_25 8 (dk_at dksJ23_resize_10 0 rfl rfl)
theorem dJ23_resize_237 : decode cJ23_resize 237 = .ok (.getfield 177, 3) := dk_180 0 177 (dk_at dksJ23_resize_10 2 rfl rfl)
theorem dJ23_resize_240 : decode cJ23_resize 240 = .ok (.astore 13, 2) := dk_58 13 (dk_at dksJ23_resize_10 5 rfl rfl)
theorem dJ23_resize_242 : decode cJ23_resize 242 = .ok (.aload 8, 2) := dk_25 8 (dk_at dksJ23_resize_10 7 rfl rfl)
theorem dJ23_resize_244 : decode cJ23_resize 244 = .ok (.getfield 168, 3) := dk_180 0 168 (dk_at dksJ23_resize_10 9 rfl rfl)
theorem dJ23_resize_247 : decode cJ23_resize 247 = .ok (.iload_n 2, 1) := dk_28 (dk_at dksJ23_resize_10 12 rfl rfl)
theorem dJ23_resize_248 : decode cJ23_resize 248 = .ok (.iand, 1) := dk_126 (dk_at dksJ23_resize_10 13 rfl rfl)
theorem dJ23_resize_249 : decode cJ23_resize 249 = .ok (.ifCond .ne 29, 3) := dk_154 0 29 (dk_at dksJ23_resize_10 14 rfl rfl)
theorem dJ23_resize_252 : decode cJ23_resize 252 = .ok (.aload 10, 2) := dk_25 10 (dk_at dksJ23_resize_10 17 rfl rfl)
theorem dJ23_resize_254 : decode cJ23_resize 254 = .ok (.ifnonnull 10, 3) := dk_199 0 10 (dk_at dksJ23_resize_10 19 rfl rfl)
theorem dJ23_resize_257 : decode cJ23_resize 257 = .ok (.aload 8, 2) := dk_25 8 (dk_at dksJ23_resize_10 22 rfl rfl)
theorem dJ23_resize_259 : decode cJ23_resize 259 = .ok (.astore 9, 2) := dk_58 9 (dk_at dksJ23_resize_11 0 rfl rfl)
theorem dJ23_resize_261 : decode cJ23_resize 261 = .ok (.goto 10, 3) := dk_167 0 10 (dk_at dksJ23_resize_11 2 rfl rfl)
theorem dJ23_resize_264 : decode cJ23_resize 264 = .ok (.aload 10, 2) := dk_25 10 (dk_at dksJ23_resize_11 5 rfl rfl)
theorem dJ23_resize_266 : decode cJ23_resize 266 = .ok (.aload 8, 2) := dk_25 8 (dk_at dksJ23_resize_11 7 rfl rfl)
theorem dJ23_resize_268 : decode cJ23_resize 268 = .ok (.putfield 177, 3) := dk_181 0 177 (dk_at dksJ23_resize_11 9 rfl rfl)
theorem dJ23_resize_271 : decode cJ23_resize 271 = .ok (.aload 8, 2) := dk_25 8 (dk_at dksJ23_resize_11 12 rfl rfl)
theorem dJ23_resize_273 : decode cJ23_resize 273 = .ok (.astore 10, 2) := dk_58 10 (dk_at dksJ23_resize_11 14 rfl rfl)
theorem dJ23_resize_275 : decode cJ23_resize 275 = .ok (.goto 26, 3) := dk_167 0 26 (dk_at dksJ23_resize_11 16 rfl rfl)
theorem dJ23_resize_278 : decode cJ23_resize 278 = .ok (.aload 12, 2) := dk_25 12 (dk_at dksJ23_resize_11 19 rfl rfl)
theorem dJ23_resize_280 : decode cJ23_resize 280 = .ok (.ifnonnull 10, 3) := dk_199 0 10 (dk_at dksJ23_resize_11 21 rfl rfl)
theorem dJ23_resize_283 : decode cJ23_resize 283 = .ok (.aload 8, 2) := dk_25 8 (dk_at dksJ23_resize_12 0 rfl rfl)
theorem dJ23_resize_285 : decode cJ23_resize 285 = .ok (.astore 11, 2) := dk_58 11 (dk_at dksJ23_resize_12 2 rfl rfl)
theorem dJ23_resize_287 : decode cJ23_resize 287 = .ok (.goto 10, 3) := dk_167 0 10 (dk_at dksJ23_resize_12 4 rfl rfl)
theorem dJ23_resize_290 : decode cJ23_resize 290 = .ok (.aload 12, 2) := dk_25 12 (dk_at dksJ23_resize_12 7 rfl rfl)
theorem dJ23_resize_292 : decode cJ23_resize 292 = .ok (.aload 8, 2) := dk_25 8 (dk_at dksJ23_resize_12 9 rfl rfl)
theorem dJ23_resize_294 : decode cJ23_resize 294 = .ok (.putfield 177, 3) := dk_181 0 177 (dk_at dksJ23_resize_12 11 rfl rfl)
theorem dJ23_resize_297 : decode cJ23_resize 297 = .ok (.aload 8, 2) := dk_25 8 (dk_at dksJ23_resize_12 14 rfl rfl)
theorem dJ23_resize_299 : decode cJ23_resize 299 = .ok (.astore 12, 2) := dk_58 12 (dk_at dksJ23_resize_12 16 rfl rfl)
theorem dJ23_resize_301 : decode cJ23_resize 301 = .ok (.aload 13, 2) := dk_25 13 (dk_at dksJ23_resize_12 18 rfl rfl)
theorem dJ23_resize_303 : decode cJ23_resize 303 = .ok (.dup, 1) := dk_89 (dk_at dksJ23_resize_12 20 rfl rfl)
theorem dJ23_resize_304 : decode cJ23_resize 304 = .ok (.astore 8, 2) := dk_58 8 (dk_at dksJ23_resize_12 21 rfl rfl)
theorem dJ23_resize_306 : decode cJ23_resize 306 = .ok (.ifnonnull (-71), 3) := dk_199 255 185 (dk_at dksJ23_resize_13 0 rfl rfl)
theorem dJ23_resize_309 : decode cJ23_resize 309 = .ok (.aload 10, 2) := dk_25 10 (dk_at dksJ23_resize_13 3 rfl rfl)
theorem dJ23_resize_311 : decode cJ23_resize 311 = .ok (.ifnull 16, 3) := dk_198 0 16 (dk_at dksJ23_resize_13 5 rfl rfl)
theorem dJ23_resize_314 : decode cJ23_resize 314 = .ok (.aload 10, 2) := dk_25 10 (dk_at dksJ23_resize_13 8 rfl rfl)
theorem dJ23_resize_316 : decode cJ23_resize 316 = .ok (.aconst_null, 1) := dk_1 (dk_at dksJ23_resize_13 10 rfl rfl)
theorem dJ23_resize_317 : decode cJ23_resize 317 = .ok (.putfield 177, 3) := dk_181 0 177 (dk_at dksJ23_resize_13 11 rfl rfl)
theorem dJ23_resize_320 : decode cJ23_resize 320 = .ok (.aload 6, 2) := dk_25 6 (dk_at dksJ23_resize_13 14 rfl rfl)
theorem dJ23_resize_322 : decode cJ23_resize 322 = .ok (.iload 7, 2) := dk_21 7 (dk_at dksJ23_resize_13 16 rfl rfl)
theorem dJ23_resize_324 : decode cJ23_resize 324 = .ok (.aload 9, 2) := dk_25 9 (dk_at dksJ23_resize_13 18 rfl rfl)
theorem dJ23_resize_326 : decode cJ23_resize 326 = .ok (.aastore, 1) := dk_83 (dk_at dksJ23_resize_13 20 rfl rfl)
theorem dJ23_resize_327 : decode cJ23_resize 327 = .ok (.aload 12, 2) := dk_25 12 (dk_at dksJ23_resize_13 21 rfl rfl)
theorem dJ23_resize_329 : decode cJ23_resize 329 = .ok (.ifnull 18, 3) := dk_198 0 18 (dk_at dksJ23_resize_14 0 rfl rfl)
theorem dJ23_resize_332 : decode cJ23_resize 332 = .ok (.aload 12, 2) := dk_25 12 (dk_at dksJ23_resize_14 3 rfl rfl)
theorem dJ23_resize_334 : decode cJ23_resize 334 = .ok (.aconst_null, 1) := dk_1 (dk_at dksJ23_resize_14 5 rfl rfl)
theorem dJ23_resize_335 : decode cJ23_resize 335 = .ok (.putfield 177, 3) := dk_181 0 177 (dk_at dksJ23_resize_14 6 rfl rfl)
theorem dJ23_resize_338 : decode cJ23_resize 338 = .ok (.aload 6, 2) := dk_25 6 (dk_at dksJ23_resize_14 9 rfl rfl)
theorem dJ23_resize_340 : decode cJ23_resize 340 = .ok (.iload 7, 2) := dk_21 7 (dk_at dksJ23_resize_14 11 rfl rfl)
theorem dJ23_resize_342 : decode cJ23_resize 342 = .ok (.iload_n 2, 1) := dk_28 (dk_at dksJ23_resize_14 13 rfl rfl)
theorem dJ23_resize_343 : decode cJ23_resize 343 = .ok (.iadd, 1) := dk_96 (dk_at dksJ23_resize_14 14 rfl rfl)
theorem dJ23_resize_344 : decode cJ23_resize 344 = .ok (.aload 11, 2) := dk_25 11 (dk_at dksJ23_resize_14 15 rfl rfl)
theorem dJ23_resize_346 : decode cJ23_resize 346 = .ok (.aastore, 1) := dk_83 (dk_at dksJ23_resize_14 17 rfl rfl)
theorem dJ23_resize_347 : decode cJ23_resize 347 = .ok (.iinc 7 1, 3) := dk_132 7 1 (dk_at dksJ23_resize_14 18 rfl rfl)
theorem dJ23_resize_350 : decode cJ23_resize 350 = .ok (.goto (-199), 3) := dk_167 255 57 (dk_at dksJ23_resize_14 21 rfl rfl)
theorem dJ23_resize_353 : decode cJ23_resize 353 = .ok (.aload 6, 2) := dk_25 6 (dk_at dksJ23_resize_15 0 rfl rfl)
theorem dJ23_resize_355 : decode cJ23_resize 355 = .ok (.areturn, 1) := dk_176 (dk_at dksJ23_resize_15 2 rfl rfl)
abbrev cJ23_isEmpty : ByteArray := prog_64_method_11_code
def yJ23_isEmpty : MethodName := ⟨RJ23, "isEmpty", "()Z"⟩
def dkwJ23_isEmpty_0 : List UInt8 := [42, 180, 0, 156, 154, 0, 7, 4, 167, 0, 4, 3, 172]
abbrev dktJ23_isEmpty_0 : List UInt8 := dkwJ23_isEmpty_0 ++ []
theorem dksJ23_isEmpty_0 : cJ23_isEmpty.data.toList.drop 0 = dktJ23_isEmpty_0 := by decide +kernel
theorem dJ23_isEmpty_0 : decode cJ23_isEmpty 0 = .ok (.aload_n 0, 1) := dk_42 (dk_at dksJ23_isEmpty_0 0 rfl rfl)
theorem dJ23_isEmpty_1 : decode cJ23_isEmpty 1 = .ok (.getfield 156, 3) := dk_180 0 156 (dk_at dksJ23_isEmpty_0 1 rfl rfl)
theorem dJ23_isEmpty_4 : decode cJ23_isEmpty 4 = .ok (.ifCond .ne 7, 3) := dk_154 0 7 (dk_at dksJ23_isEmpty_0 4 rfl rfl)
theorem dJ23_isEmpty_7 : decode cJ23_isEmpty 7 = .ok (.iconst 1, 1) := dk_4 (dk_at dksJ23_isEmpty_0 7 rfl rfl)
theorem dJ23_isEmpty_8 : decode cJ23_isEmpty 8 = .ok (.goto 4, 3) := dk_167 0 4 (dk_at dksJ23_isEmpty_0 8 rfl rfl)
theorem dJ23_isEmpty_11 : decode cJ23_isEmpty 11 = .ok (.iconst 0, 1) := dk_3 (dk_at dksJ23_isEmpty_0 11 rfl rfl)
theorem dJ23_isEmpty_12 : decode cJ23_isEmpty 12 = .ok (.ireturn, 1) := dk_172 (dk_at dksJ23_isEmpty_0 12 rfl rfl)
abbrev cJ23_containsKey : ByteArray := prog_64_method_14_code
def yJ23_containsKey : MethodName := ⟨RJ23, "containsKey", "(Ljava/lang/Object;)Z"⟩
def dkwJ23_containsKey_0 : List UInt8 := [42, 43, 182, 0, 158, 198, 0, 7, 4, 167, 0, 4, 3, 172]
abbrev dktJ23_containsKey_0 : List UInt8 := dkwJ23_containsKey_0 ++ []
theorem dksJ23_containsKey_0 : cJ23_containsKey.data.toList.drop 0 = dktJ23_containsKey_0 := by decide +kernel
theorem dJ23_containsKey_0 : decode cJ23_containsKey 0 = .ok (.aload_n 0, 1) := dk_42 (dk_at dksJ23_containsKey_0 0 rfl rfl)
theorem dJ23_containsKey_1 : decode cJ23_containsKey 1 = .ok (.aload_n 1, 1) := dk_43 (dk_at dksJ23_containsKey_0 1 rfl rfl)
theorem dJ23_containsKey_2 : decode cJ23_containsKey 2 = .ok (.invokevirtual 158, 3) := dk_182 0 158 (dk_at dksJ23_containsKey_0 2 rfl rfl)
theorem dJ23_containsKey_5 : decode cJ23_containsKey 5 = .ok (.ifnull 7, 3) := dk_198 0 7 (dk_at dksJ23_containsKey_0 5 rfl rfl)
theorem dJ23_containsKey_8 : decode cJ23_containsKey 8 = .ok (.iconst 1, 1) := dk_4 (dk_at dksJ23_containsKey_0 8 rfl rfl)
theorem dJ23_containsKey_9 : decode cJ23_containsKey 9 = .ok (.goto 4, 3) := dk_167 0 4 (dk_at dksJ23_containsKey_0 9 rfl rfl)
theorem dJ23_containsKey_12 : decode cJ23_containsKey 12 = .ok (.iconst 0, 1) := dk_3 (dk_at dksJ23_containsKey_0 12 rfl rfl)
theorem dJ23_containsKey_13 : decode cJ23_containsKey 13 = .ok (.ireturn, 1) := dk_172 (dk_at dksJ23_containsKey_0 13 rfl rfl)
abbrev cJ23_remove : ByteArray := prog_64_method_20_code
def yJ23_remove : MethodName := ⟨RJ23, "remove", "(Ljava/lang/Object;)Ljava/lang/Object;"⟩
def dkwJ23_remove_1 : List UInt8 := [180, 0, 162, 176]
abbrev dktJ23_remove_1 : List UInt8 := dkwJ23_remove_1 ++ []
def dkwJ23_remove_0 : List UInt8 := [42, 43, 184, 0, 149, 43, 1, 3, 4, 182, 0, 228, 89, 77, 199, 0, 7, 1, 167, 0, 7, 44]
abbrev dktJ23_remove_0 : List UInt8 := dkwJ23_remove_0 ++ dktJ23_remove_1
theorem dksJ23_remove_0 : cJ23_remove.data.toList.drop 0 = dktJ23_remove_0 := by decide +kernel
theorem dksJ23_remove_1 : cJ23_remove.data.toList.drop 22 = dktJ23_remove_1 := dk_seg dksJ23_remove_0 22 rfl rfl
theorem dJ23_remove_0 : decode cJ23_remove 0 = .ok (.aload_n 0, 1) := dk_42 (dk_at dksJ23_remove_0 0 rfl rfl)
theorem dJ23_remove_1 : decode cJ23_remove 1 = .ok (.aload_n 1, 1) := dk_43 (dk_at dksJ23_remove_0 1 rfl rfl)
theorem dJ23_remove_2 : decode cJ23_remove 2 = .ok (.invokestatic 149, 3) := dk_184 0 149 (dk_at dksJ23_remove_0 2 rfl rfl)
theorem dJ23_remove_5 : decode cJ23_remove 5 = .ok (.aload_n 1, 1) := dk_43 (dk_at dksJ23_remove_0 5 rfl rfl)
theorem dJ23_remove_6 : decode cJ23_remove 6 = .ok (.aconst_null, 1) := dk_1 (dk_at dksJ23_remove_0 6 rfl rfl)
theorem dJ23_remove_7 : decode cJ23_remove 7 = .ok (.iconst 0, 1) := dk_3 (dk_at dksJ23_remove_0 7 rfl rfl)
theorem dJ23_remove_8 : decode cJ23_remove 8 = .ok (.iconst 1, 1) := dk_4 (dk_at dksJ23_remove_0 8 rfl rfl)
theorem dJ23_remove_9 : decode cJ23_remove 9 = .ok (.invokevirtual 228, 3) := dk_182 0 228 (dk_at dksJ23_remove_0 9 rfl rfl)
theorem dJ23_remove_12 : decode cJ23_remove 12 = .ok (.dup, 1) := dk_89 (dk_at dksJ23_remove_0 12 rfl rfl)
theorem dJ23_remove_13 : decode cJ23_remove 13 = .ok (.astore_n 2, 1) := dk_77 (dk_at dksJ23_remove_0 13 rfl rfl)
theorem dJ23_remove_14 : decode cJ23_remove 14 = .ok (.ifnonnull 7, 3) := dk_199 0 7 (dk_at dksJ23_remove_0 14 rfl rfl)
theorem dJ23_remove_17 : decode cJ23_remove 17 = .ok (.aconst_null, 1) := dk_1 (dk_at dksJ23_remove_0 17 rfl rfl)
theorem dJ23_remove_18 : decode cJ23_remove 18 = .ok (.goto 7, 3) := dk_167 0 7 (dk_at dksJ23_remove_0 18 rfl rfl)
theorem dJ23_remove_21 : decode cJ23_remove 21 = .ok (.aload_n 2, 1) := dk_44 (dk_at dksJ23_remove_0 21 rfl rfl)
theorem dJ23_remove_22 : decode cJ23_remove 22 = .ok (.getfield 162, 3) := dk_180 0 162 (dk_at dksJ23_remove_1 0 rfl rfl)
theorem dJ23_remove_25 : decode cJ23_remove 25 = .ok (.areturn, 1) := dk_176 (dk_at dksJ23_remove_1 3 rfl rfl)
abbrev cJ23_removeNode : ByteArray := prog_64_method_21_code
def yJ23_removeNode : MethodName := ⟨RJ23, "removeNode", "(ILjava/lang/Object;Ljava/lang/Object;ZZ)Ljava/util/HashMap$Node;"⟩
def dkwJ23_removeNode_12 : List UInt8 := [181, 0, 156, 42, 25, 10, 182, 0, 236, 25, 10, 176, 1, 176]
abbrev dktJ23_removeNode_12 : List UInt8 := dkwJ23_removeNode_12 ++ []
def dkwJ23_removeNode_11 : List UInt8 := [180, 0, 177, 181, 0, 177, 42, 89, 180, 0, 202, 4, 96, 181, 0, 202, 42, 89, 180, 0, 156, 4, 100]
abbrev dktJ23_removeNode_11 : List UInt8 := dkwJ23_removeNode_11 ++ dktJ23_removeNode_12
def dkwJ23_removeNode_10 : List UInt8 := [25, 10, 25, 7, 166, 0, 16, 25, 6, 21, 9, 25, 10, 180, 0, 177, 83, 167, 0, 13, 25, 7, 25, 10]
abbrev dktJ23_removeNode_10 : List UInt8 := dkwJ23_removeNode_10 ++ dktJ23_removeNode_11
def dkwJ23_removeNode_9 : List UInt8 := [25, 10, 193, 0, 180, 153, 0, 19, 25, 10, 192, 0, 180, 42, 25, 6, 21, 5, 182, 0, 232, 167, 0, 33]
abbrev dktJ23_removeNode_9 : List UInt8 := dkwJ23_removeNode_9 ++ dktJ23_removeNode_10
def dkwJ23_removeNode_8 : List UInt8 := [180, 0, 162, 89, 58, 13, 45, 165, 0, 16, 45, 198, 0, 95, 45, 25, 13, 182, 0, 173, 153, 0, 86]
abbrev dktJ23_removeNode_8 : List UInt8 := dkwJ23_removeNode_8 ++ dktJ23_removeNode_9
def dkwJ23_removeNode_7 : List UInt8 := [25, 11, 180, 0, 177, 89, 58, 11, 199, 255, 203, 25, 10, 198, 0, 116, 21, 4, 153, 0, 28, 25, 10]
abbrev dktJ23_removeNode_7 : List UInt8 := dkwJ23_removeNode_7 ++ dktJ23_removeNode_8
def dkwJ23_removeNode_6 : List UInt8 := [198, 0, 19, 44, 25, 12, 182, 0, 173, 153, 0, 10, 25, 11, 58, 10, 167, 0, 18, 25, 11, 58, 7]
abbrev dktJ23_removeNode_6 : List UInt8 := dkwJ23_removeNode_6 ++ dktJ23_removeNode_7
def dkwJ23_removeNode_5 : List UInt8 := [25, 11, 180, 0, 168, 27, 160, 0, 35, 25, 11, 180, 0, 170, 89, 58, 12, 44, 165, 0, 16, 44]
abbrev dktJ23_removeNode_5 : List UInt8 := dkwJ23_removeNode_5 ++ dktJ23_removeNode_6
def dkwJ23_removeNode_4 : List UInt8 := [25, 7, 193, 0, 180, 153, 0, 18, 25, 7, 192, 0, 180, 27, 44, 182, 0, 182, 58, 10, 167, 0, 59]
abbrev dktJ23_removeNode_4 : List UInt8 := dkwJ23_removeNode_4 ++ dktJ23_removeNode_5
def dkwJ23_removeNode_3 : List UInt8 := [182, 0, 173, 153, 0, 10, 25, 7, 58, 10, 167, 0, 93, 25, 7, 180, 0, 177, 89, 58, 11, 198, 0, 82]
abbrev dktJ23_removeNode_3 : List UInt8 := dkwJ23_removeNode_3 ++ dktJ23_removeNode_4
def dkwJ23_removeNode_2 : List UInt8 := [160, 0, 35, 25, 7, 180, 0, 170, 89, 58, 12, 44, 165, 0, 16, 44, 198, 0, 19, 44, 25, 12]
abbrev dktJ23_removeNode_2 : List UInt8 := dkwJ23_removeNode_2 ++ dktJ23_removeNode_3
def dkwJ23_removeNode_1 : List UInt8 := [100, 27, 126, 89, 54, 9, 50, 89, 58, 7, 198, 0, 255, 1, 58, 10, 25, 7, 180, 0, 168, 27]
abbrev dktJ23_removeNode_1 : List UInt8 := dkwJ23_removeNode_1 ++ dktJ23_removeNode_2
def dkwJ23_removeNode_0 : List UInt8 := [42, 180, 0, 105, 89, 58, 6, 198, 1, 26, 25, 6, 190, 89, 54, 8, 158, 1, 17, 25, 6, 21, 8, 4]
abbrev dktJ23_removeNode_0 : List UInt8 := dkwJ23_removeNode_0 ++ dktJ23_removeNode_1
theorem dksJ23_removeNode_0 : cJ23_removeNode.data.toList.drop 0 = dktJ23_removeNode_0 := by decide +kernel
theorem dksJ23_removeNode_1 : cJ23_removeNode.data.toList.drop 24 = dktJ23_removeNode_1 := dk_seg dksJ23_removeNode_0 24 rfl rfl
theorem dksJ23_removeNode_2 : cJ23_removeNode.data.toList.drop 46 = dktJ23_removeNode_2 := dk_seg dksJ23_removeNode_1 22 rfl rfl
theorem dksJ23_removeNode_3 : cJ23_removeNode.data.toList.drop 68 = dktJ23_removeNode_3 := dk_seg dksJ23_removeNode_2 22 rfl rfl
theorem dksJ23_removeNode_4 : cJ23_removeNode.data.toList.drop 92 = dktJ23_removeNode_4 := dk_seg dksJ23_removeNode_3 24 rfl rfl
theorem dksJ23_removeNode_5 : cJ23_removeNode.data.toList.drop 115 = dktJ23_removeNode_5 := dk_seg dksJ23_removeNode_4 23 rfl rfl
theorem dksJ23_removeNode_6 : cJ23_removeNode.data.toList.drop 137 = dktJ23_removeNode_6 := dk_seg dksJ23_removeNode_5 22 rfl rfl
theorem dksJ23_removeNode_7 : cJ23_removeNode.data.toList.drop 160 = dktJ23_removeNode_7 := dk_seg dksJ23_removeNode_6 23 rfl rfl
theorem dksJ23_removeNode_8 : cJ23_removeNode.data.toList.drop 183 = dktJ23_removeNode_8 := dk_seg dksJ23_removeNode_7 23 rfl rfl
theorem dksJ23_removeNode_9 : cJ23_removeNode.data.toList.drop 206 = dktJ23_removeNode_9 := dk_seg dksJ23_removeNode_8 23 rfl rfl
theorem dksJ23_removeNode_10 : cJ23_removeNode.data.toList.drop 230 = dktJ23_removeNode_10 := dk_seg dksJ23_removeNode_9 24 rfl rfl
theorem dksJ23_removeNode_11 : cJ23_removeNode.data.toList.drop 254 = dktJ23_removeNode_11 := dk_seg dksJ23_removeNode_10 24 rfl rfl
theorem dksJ23_removeNode_12 : cJ23_removeNode.data.toList.drop 277 = dktJ23_removeNode_12 := dk_seg dksJ23_removeNode_11 23 rfl rfl
theorem dJ23_removeNode_0 : decode cJ23_removeNode 0 = .ok (.aload_n 0, 1) := dk_42 (dk_at dksJ23_removeNode_0 0 rfl rfl)
theorem dJ23_removeNode_1 : decode cJ23_removeNode 1 = .ok (.getfield 105, 3) := dk_180 0 105 (dk_at dksJ23_removeNode_0 1 rfl rfl)
theorem dJ23_removeNode_4 : decode cJ23_removeNode 4 = .ok (.dup, 1) := dk_89 (dk_at dksJ23_removeNode_0 4 rfl rfl)
theorem dJ23_removeNode_5 : decode cJ23_removeNode 5 = .ok (.astore 6, 2) := dk_58 6 (dk_at dksJ23_removeNode_0 5 rfl rfl)
theorem dJ23_removeNode_7 : decode cJ23_removeNode 7 = .ok (.ifnull 282, 3) := dk_198 1 26 (dk_at dksJ23_removeNode_0 7 rfl rfl)
theorem dJ23_removeNode_10 : decode cJ23_removeNode 10 = .ok (.aload 6, 2) := dk_25 6 (dk_at dksJ23_removeNode_0 10 rfl rfl)
theorem dJ23_removeNode_12 : decode cJ23_removeNode 12 = .ok (.arraylength, 1) := dk_190 (dk_at dksJ23_removeNode_0 12 rfl rfl)
theorem dJ23_removeNode_13 : decode cJ23_removeNode 13 = .ok (.dup, 1) := dk_89 (dk_at dksJ23_removeNode_0 13 rfl rfl)
theorem dJ23_removeNode_14 : decode cJ23_removeNode 14 = .ok (.istore 8, 2) := dk_54 8 (dk_at dksJ23_removeNode_0 14 rfl rfl)
theorem dJ23_removeNode_16 : decode cJ23_removeNode 16 = .ok (.ifCond .le 273, 3) := dk_158 1 17 (dk_at dksJ23_removeNode_0 16 rfl rfl)
theorem dJ23_removeNode_19 : decode cJ23_removeNode 19 = .ok (.aload 6, 2) := dk_25 6 (dk_at dksJ23_removeNode_0 19 rfl rfl)
theorem dJ23_removeNode_21 : decode cJ23_removeNode 21 = .ok (.iload 8, 2) := dk_21 8 (dk_at dksJ23_removeNode_0 21 rfl rfl)
theorem dJ23_removeNode_23 : decode cJ23_removeNode 23 = .ok (.iconst 1, 1) := dk_4 (dk_at dksJ23_removeNode_0 23 rfl rfl)
theorem dJ23_removeNode_24 : decode cJ23_removeNode 24 = .ok (.isub, 1) := dk_100 (dk_at dksJ23_removeNode_1 0 rfl rfl)
theorem dJ23_removeNode_25 : decode cJ23_removeNode 25 = .ok (.iload_n 1, 1) := dk_27 (dk_at dksJ23_removeNode_1 1 rfl rfl)
theorem dJ23_removeNode_26 : decode cJ23_removeNode 26 = .ok (.iand, 1) := dk_126 (dk_at dksJ23_removeNode_1 2 rfl rfl)
theorem dJ23_removeNode_27 : decode cJ23_removeNode 27 = .ok (.dup, 1) := dk_89 (dk_at dksJ23_removeNode_1 3 rfl rfl)
theorem dJ23_removeNode_28 : decode cJ23_removeNode 28 = .ok (.istore 9, 2) := dk_54 9 (dk_at dksJ23_removeNode_1 4 rfl rfl)
theorem dJ23_removeNode_30 : decode cJ23_removeNode 30 = .ok (.aaload, 1) := dk_50 (dk_at dksJ23_removeNode_1 6 rfl rfl)
theorem dJ23_removeNode_31 : decode cJ23_removeNode 31 = .ok (.dup, 1) := dk_89 (dk_at dksJ23_removeNode_1 7 rfl rfl)
theorem dJ23_removeNode_32 : decode cJ23_removeNode 32 = .ok (.astore 7, 2) := dk_58 7 (dk_at dksJ23_removeNode_1 8 rfl rfl)
theorem dJ23_removeNode_34 : decode cJ23_removeNode 34 = .ok (.ifnull 255, 3) := dk_198 0 255 (dk_at dksJ23_removeNode_1 10 rfl rfl)
theorem dJ23_removeNode_37 : decode cJ23_removeNode 37 = .ok (.aconst_null, 1) := dk_1 (dk_at dksJ23_removeNode_1 13 rfl rfl)
theorem dJ23_removeNode_38 : decode cJ23_removeNode 38 = .ok (.astore 10, 2) := dk_58 10 (dk_at dksJ23_removeNode_1 14 rfl rfl)
theorem dJ23_removeNode_40 : decode cJ23_removeNode 40 = .ok (.aload 7, 2) := dk_25 7 (dk_at dksJ23_removeNode_1 16 rfl rfl)
theorem dJ23_removeNode_42 : decode cJ23_removeNode 42 = .ok (.getfield 168, 3) := dk_180 0 168 (dk_at dksJ23_removeNode_1 18 rfl rfl)
theorem dJ23_removeNode_45 : decode cJ23_removeNode 45 = .ok (.iload_n 1, 1) := dk_27 (dk_at dksJ23_removeNode_1 21 rfl rfl)
theorem dJ23_removeNode_46 : decode cJ23_removeNode 46 = .ok (.if_icmp .ne 35, 3) := dk_160 0 35 (dk_at dksJ23_removeNode_2 0 rfl rfl)
theorem dJ23_removeNode_49 : decode cJ23_removeNode 49 = .ok (.aload 7, 2) := dk_25 7 (dk_at dksJ23_removeNode_2 3 rfl rfl)
theorem dJ23_removeNode_51 : decode cJ23_removeNode 51 = .ok (.getfield 170, 3) := dk_180 0 170 (dk_at dksJ23_removeNode_2 5 rfl rfl)
theorem dJ23_removeNode_54 : decode cJ23_removeNode 54 = .ok (.dup, 1) := dk_89 (dk_at dksJ23_removeNode_2 8 rfl rfl)
theorem dJ23_removeNode_55 : decode cJ23_removeNode 55 = .ok (.astore 12, 2) := dk_58 12 (dk_at dksJ23_removeNode_2 9 rfl rfl)
theorem dJ23_removeNode_57 : decode cJ23_removeNode 57 = .ok (.aload_n 2, 1) := dk_44 (dk_at dksJ23_removeNode_2 11 rfl rfl)
theorem dJ23_removeNode_58 : decode cJ23_removeNode 58 = .ok (.if_acmp .eq 16, 3) := dk_165 0 16 (dk_at dksJ23_removeNode_2 12 rfl rfl)
theorem dJ23_removeNode_61 : decode cJ23_removeNode 61 = .ok (.aload_n 2, 1) := dk_44 (dk_at dksJ23_removeNode_2 15 rfl rfl)
theorem dJ23_removeNode_62 : decode cJ23_removeNode 62 = .ok (.ifnull 19, 3) := dk_198 0 19 (dk_at dksJ23_removeNode_2 16 rfl rfl)
theorem dJ23_removeNode_65 : decode cJ23_removeNode 65 = .ok (.aload_n 2, 1) := dk_44 (dk_at dksJ23_removeNode_2 19 rfl rfl)
theorem dJ23_removeNode_66 : decode cJ23_removeNode 66 = .ok (.aload 12, 2) := dk_25 12 (dk_at dksJ23_removeNode_2 20 rfl rfl)
theorem dJ23_removeNode_68 : decode cJ23_removeNode 68 = .ok (.invokevirtual 173, 3) := dk_182 0 173 (dk_at dksJ23_removeNode_3 0 rfl rfl)
theorem dJ23_removeNode_71 : decode cJ23_removeNode 71 = .ok (.ifCond .eq 10, 3) := dk_153 0 10 (dk_at dksJ23_removeNode_3 3 rfl rfl)
theorem dJ23_removeNode_74 : decode cJ23_removeNode 74 = .ok (.aload 7, 2) := dk_25 7 (dk_at dksJ23_removeNode_3 6 rfl rfl)
theorem dJ23_removeNode_76 : decode cJ23_removeNode 76 = .ok (.astore 10, 2) := dk_58 10 (dk_at dksJ23_removeNode_3 8 rfl rfl)
theorem dJ23_removeNode_78 : decode cJ23_removeNode 78 = .ok (.goto 93, 3) := dk_167 0 93 (dk_at dksJ23_removeNode_3 10 rfl rfl)
theorem dJ23_removeNode_81 : decode cJ23_removeNode 81 = .ok (.aload 7, 2) := dk_25 7 (dk_at dksJ23_removeNode_3 13 rfl rfl)
theorem dJ23_removeNode_83 : decode cJ23_removeNode 83 = .ok (.getfield 177, 3) := dk_180 0 177 (dk_at dksJ23_removeNode_3 15 rfl rfl)
theorem dJ23_removeNode_86 : decode cJ23_removeNode 86 = .ok (.dup, 1) := dk_89 (dk_at dksJ23_removeNode_3 18 rfl rfl)
theorem dJ23_removeNode_87 : decode cJ23_removeNode 87 = .ok (.astore 11, 2) := dk_58 11 (dk_at dksJ23_removeNode_3 19 rfl rfl)
theorem dJ23_removeNode_89 : decode cJ23_removeNode 89 = .ok (.ifnull 82, 3) := dk_198 0 82 (dk_at dksJ23_removeNode_3 21 rfl rfl)
theorem dJ23_removeNode_92 : decode cJ23_removeNode 92 = .ok (.aload 7, 2) := dk_25 7 (dk_at dksJ23_removeNode_4 0 rfl rfl)
theorem dJ23_removeNode_94 : decode cJ23_removeNode 94 = .ok (.instanceof 180, 3) := dk_193 0 180 (dk_at dksJ23_removeNode_4 2 rfl rfl)
theorem dJ23_removeNode_97 : decode cJ23_removeNode 97 = .ok (.ifCond .eq 18, 3) := dk_153 0 18 (dk_at dksJ23_removeNode_4 5 rfl rfl)
theorem dJ23_removeNode_100 : decode cJ23_removeNode 100 = .ok (.aload 7, 2) := dk_25 7 (dk_at dksJ23_removeNode_4 8 rfl rfl)
theorem dJ23_removeNode_115 : decode cJ23_removeNode 115 = .ok (.aload 11, 2) := dk_25 11 (dk_at dksJ23_removeNode_5 0 rfl rfl)
theorem dJ23_removeNode_117 : decode cJ23_removeNode 117 = .ok (.getfield 168, 3) := dk_180 0 168 (dk_at dksJ23_removeNode_5 2 rfl rfl)
theorem dJ23_removeNode_120 : decode cJ23_removeNode 120 = .ok (.iload_n 1, 1) := dk_27 (dk_at dksJ23_removeNode_5 5 rfl rfl)
theorem dJ23_removeNode_121 : decode cJ23_removeNode 121 = .ok (.if_icmp .ne 35, 3) := dk_160 0 35 (dk_at dksJ23_removeNode_5 6 rfl rfl)
theorem dJ23_removeNode_124 : decode cJ23_removeNode 124 = .ok (.aload 11, 2) := dk_25 11 (dk_at dksJ23_removeNode_5 9 rfl rfl)
theorem dJ23_removeNode_126 : decode cJ23_removeNode 126 = .ok (.getfield 170, 3) := dk_180 0 170 (dk_at dksJ23_removeNode_5 11 rfl rfl)
theorem dJ23_removeNode_129 : decode cJ23_removeNode 129 = .ok (.dup, 1) := dk_89 (dk_at dksJ23_removeNode_5 14 rfl rfl)
theorem dJ23_removeNode_130 : decode cJ23_removeNode 130 = .ok (.astore 12, 2) := dk_58 12 (dk_at dksJ23_removeNode_5 15 rfl rfl)
theorem dJ23_removeNode_132 : decode cJ23_removeNode 132 = .ok (.aload_n 2, 1) := dk_44 (dk_at dksJ23_removeNode_5 17 rfl rfl)
theorem dJ23_removeNode_133 : decode cJ23_removeNode 133 = .ok (.if_acmp .eq 16, 3) := dk_165 0 16 (dk_at dksJ23_removeNode_5 18 rfl rfl)
theorem dJ23_removeNode_136 : decode cJ23_removeNode 136 = .ok (.aload_n 2, 1) := dk_44 (dk_at dksJ23_removeNode_5 21 rfl rfl)
theorem dJ23_removeNode_137 : decode cJ23_removeNode 137 = .ok (.ifnull 19, 3) := dk_198 0 19 (dk_at dksJ23_removeNode_6 0 rfl rfl)
theorem dJ23_removeNode_140 : decode cJ23_removeNode 140 = .ok (.aload_n 2, 1) := dk_44 (dk_at dksJ23_removeNode_6 3 rfl rfl)
theorem dJ23_removeNode_141 : decode cJ23_removeNode 141 = .ok (.aload 12, 2) := dk_25 12 (dk_at dksJ23_removeNode_6 4 rfl rfl)
theorem dJ23_removeNode_143 : decode cJ23_removeNode 143 = .ok (.invokevirtual 173, 3) := dk_182 0 173 (dk_at dksJ23_removeNode_6 6 rfl rfl)
theorem dJ23_removeNode_146 : decode cJ23_removeNode 146 = .ok (.ifCond .eq 10, 3) := dk_153 0 10 (dk_at dksJ23_removeNode_6 9 rfl rfl)
theorem dJ23_removeNode_149 : decode cJ23_removeNode 149 = .ok (.aload 11, 2) := dk_25 11 (dk_at dksJ23_removeNode_6 12 rfl rfl)
theorem dJ23_removeNode_151 : decode cJ23_removeNode 151 = .ok (.astore 10, 2) := dk_58 10 (dk_at dksJ23_removeNode_6 14 rfl rfl)
theorem dJ23_removeNode_153 : decode cJ23_removeNode 153 = .ok (.goto 18, 3) := dk_167 0 18 (dk_at dksJ23_removeNode_6 16 rfl rfl)
theorem dJ23_removeNode_156 : decode cJ23_removeNode 156 = .ok (.aload 11, 2) := dk_25 11 (dk_at dksJ23_removeNode_6 19 rfl rfl)
theorem dJ23_removeNode_158 : decode cJ23_removeNode 158 = .ok (.astore 7, 2) := dk_58 7 (dk_at dksJ23_removeNode_6 21 rfl rfl)
theorem dJ23_removeNode_160 : decode cJ23_removeNode 160 = .ok (.aload 11, 2) := dk_25 11 (dk_at dksJ23_removeNode_7 0 rfl rfl)
theorem dJ23_removeNode_162 : decode cJ23_removeNode 162 = .ok (.getfield 177, 3) := dk_180 0 177 (dk_at dksJ23_removeNode_7 2 rfl rfl)
theorem dJ23_removeNode_165 : decode cJ23_removeNode 165 = .ok (.dup, 1) := dk_89 (dk_at dksJ23_removeNode_7 5 rfl rfl)
theorem dJ23_removeNode_166 : decode cJ23_removeNode 166 = .ok (.astore 11, 2) := dk_58 11 (dk_at dksJ23_removeNode_7 6 rfl rfl)
theorem dJ23_removeNode_168 : decode cJ23_removeNode 168 = .ok (.ifnonnull (-53), 3) := dk_199 255 203 (dk_at dksJ23_removeNode_7 8 rfl rfl)
theorem dJ23_removeNode_171 : decode cJ23_removeNode 171 = .ok (.aload 10, 2) := dk_25 10 (dk_at dksJ23_removeNode_7 11 rfl rfl)
theorem dJ23_removeNode_173 : decode cJ23_removeNode 173 = .ok (.ifnull 116, 3) := dk_198 0 116 (dk_at dksJ23_removeNode_7 13 rfl rfl)
theorem dJ23_removeNode_176 : decode cJ23_removeNode 176 = .ok (.iload 4, 2) := dk_21 4 (dk_at dksJ23_removeNode_7 16 rfl rfl)
theorem dJ23_removeNode_178 : decode cJ23_removeNode 178 = .ok (.ifCond .eq 28, 3) := dk_153 0 28 (dk_at dksJ23_removeNode_7 18 rfl rfl)
theorem dJ23_removeNode_181 : decode cJ23_removeNode 181 = .ok (.aload 10, 2) := dk_25 10 (dk_at dksJ23_removeNode_7 21 rfl rfl)
theorem dJ23_removeNode_183 : decode cJ23_removeNode 183 = .ok (.getfield 162, 3) := dk_180 0 162 (dk_at dksJ23_removeNode_8 0 rfl rfl)
theorem dJ23_removeNode_186 : decode cJ23_removeNode 186 = .ok (.dup, 1) := dk_89 (dk_at dksJ23_removeNode_8 3 rfl rfl)
theorem dJ23_removeNode_187 : decode cJ23_removeNode 187 = .ok (.astore 13, 2) := dk_58 13 (dk_at dksJ23_removeNode_8 4 rfl rfl)
theorem dJ23_removeNode_189 : decode cJ23_removeNode 189 = .ok (.aload_n 3, 1) := dk_45 (dk_at dksJ23_removeNode_8 6 rfl rfl)
theorem dJ23_removeNode_190 : decode cJ23_removeNode 190 = .ok (.if_acmp .eq 16, 3) := dk_165 0 16 (dk_at dksJ23_removeNode_8 7 rfl rfl)
theorem dJ23_removeNode_193 : decode cJ23_removeNode 193 = .ok (.aload_n 3, 1) := dk_45 (dk_at dksJ23_removeNode_8 10 rfl rfl)
theorem dJ23_removeNode_194 : decode cJ23_removeNode 194 = .ok (.ifnull 95, 3) := dk_198 0 95 (dk_at dksJ23_removeNode_8 11 rfl rfl)
theorem dJ23_removeNode_197 : decode cJ23_removeNode 197 = .ok (.aload_n 3, 1) := dk_45 (dk_at dksJ23_removeNode_8 14 rfl rfl)
theorem dJ23_removeNode_198 : decode cJ23_removeNode 198 = .ok (.aload 13, 2) := dk_25 13 (dk_at dksJ23_removeNode_8 15 rfl rfl)
theorem dJ23_removeNode_200 : decode cJ23_removeNode 200 = .ok (.invokevirtual 173, 3) := dk_182 0 173 (dk_at dksJ23_removeNode_8 17 rfl rfl)
theorem dJ23_removeNode_203 : decode cJ23_removeNode 203 = .ok (.ifCond .eq 86, 3) := dk_153 0 86 (dk_at dksJ23_removeNode_8 20 rfl rfl)
theorem dJ23_removeNode_206 : decode cJ23_removeNode 206 = .ok (.aload 10, 2) := dk_25 10 (dk_at dksJ23_removeNode_9 0 rfl rfl)
theorem dJ23_removeNode_208 : decode cJ23_removeNode 208 = .ok (.instanceof 180, 3) := dk_193 0 180 (dk_at dksJ23_removeNode_9 2 rfl rfl)
theorem dJ23_removeNode_211 : decode cJ23_removeNode 211 = .ok (.ifCond .eq 19, 3) := dk_153 0 19 (dk_at dksJ23_removeNode_9 5 rfl rfl)
theorem dJ23_removeNode_214 : decode cJ23_removeNode 214 = .ok (.aload 10, 2) := dk_25 10 (dk_at dksJ23_removeNode_9 8 rfl rfl)
theorem dJ23_removeNode_230 : decode cJ23_removeNode 230 = .ok (.aload 10, 2) := dk_25 10 (dk_at dksJ23_removeNode_10 0 rfl rfl)
theorem dJ23_removeNode_232 : decode cJ23_removeNode 232 = .ok (.aload 7, 2) := dk_25 7 (dk_at dksJ23_removeNode_10 2 rfl rfl)
theorem dJ23_removeNode_234 : decode cJ23_removeNode 234 = .ok (.if_acmp .ne 16, 3) := dk_166 0 16 (dk_at dksJ23_removeNode_10 4 rfl rfl)
theorem dJ23_removeNode_237 : decode cJ23_removeNode 237 = .ok (.aload 6, 2) := dk_25 6 (dk_at dksJ23_removeNode_10 7 rfl rfl)
theorem dJ23_removeNode_239 : decode cJ23_removeNode 239 = .ok (.iload 9, 2) := dk_21 9 (dk_at dksJ23_removeNode_10 9 rfl rfl)
theorem dJ23_removeNode_241 : decode cJ23_removeNode 241 = .ok (.aload 10, 2) := dk_25 10 (dk_at dksJ23_removeNode_10 11 rfl rfl)
theorem dJ23_removeNode_243 : decode cJ23_removeNode 243 = .ok (.getfield 177, 3) := dk_180 0 177 (dk_at dksJ23_removeNode_10 13 rfl rfl)
theorem dJ23_removeNode_246 : decode cJ23_removeNode 246 = .ok (.aastore, 1) := dk_83 (dk_at dksJ23_removeNode_10 16 rfl rfl)
theorem dJ23_removeNode_247 : decode cJ23_removeNode 247 = .ok (.goto 13, 3) := dk_167 0 13 (dk_at dksJ23_removeNode_10 17 rfl rfl)
theorem dJ23_removeNode_250 : decode cJ23_removeNode 250 = .ok (.aload 7, 2) := dk_25 7 (dk_at dksJ23_removeNode_10 20 rfl rfl)
theorem dJ23_removeNode_252 : decode cJ23_removeNode 252 = .ok (.aload 10, 2) := dk_25 10 (dk_at dksJ23_removeNode_10 22 rfl rfl)
theorem dJ23_removeNode_254 : decode cJ23_removeNode 254 = .ok (.getfield 177, 3) := dk_180 0 177 (dk_at dksJ23_removeNode_11 0 rfl rfl)
theorem dJ23_removeNode_257 : decode cJ23_removeNode 257 = .ok (.putfield 177, 3) := dk_181 0 177 (dk_at dksJ23_removeNode_11 3 rfl rfl)
theorem dJ23_removeNode_260 : decode cJ23_removeNode 260 = .ok (.aload_n 0, 1) := dk_42 (dk_at dksJ23_removeNode_11 6 rfl rfl)
theorem dJ23_removeNode_261 : decode cJ23_removeNode 261 = .ok (.dup, 1) := dk_89 (dk_at dksJ23_removeNode_11 7 rfl rfl)
theorem dJ23_removeNode_262 : decode cJ23_removeNode 262 = .ok (.getfield 202, 3) := dk_180 0 202 (dk_at dksJ23_removeNode_11 8 rfl rfl)
theorem dJ23_removeNode_265 : decode cJ23_removeNode 265 = .ok (.iconst 1, 1) := dk_4 (dk_at dksJ23_removeNode_11 11 rfl rfl)
theorem dJ23_removeNode_266 : decode cJ23_removeNode 266 = .ok (.iadd, 1) := dk_96 (dk_at dksJ23_removeNode_11 12 rfl rfl)
theorem dJ23_removeNode_267 : decode cJ23_removeNode 267 = .ok (.putfield 202, 3) := dk_181 0 202 (dk_at dksJ23_removeNode_11 13 rfl rfl)
theorem dJ23_removeNode_270 : decode cJ23_removeNode 270 = .ok (.aload_n 0, 1) := dk_42 (dk_at dksJ23_removeNode_11 16 rfl rfl)
theorem dJ23_removeNode_271 : decode cJ23_removeNode 271 = .ok (.dup, 1) := dk_89 (dk_at dksJ23_removeNode_11 17 rfl rfl)
theorem dJ23_removeNode_272 : decode cJ23_removeNode 272 = .ok (.getfield 156, 3) := dk_180 0 156 (dk_at dksJ23_removeNode_11 18 rfl rfl)
theorem dJ23_removeNode_275 : decode cJ23_removeNode 275 = .ok (.iconst 1, 1) := dk_4 (dk_at dksJ23_removeNode_11 21 rfl rfl)
theorem dJ23_removeNode_276 : decode cJ23_removeNode 276 = .ok (.isub, 1) := dk_100 (dk_at dksJ23_removeNode_11 22 rfl rfl)
theorem dJ23_removeNode_277 : decode cJ23_removeNode 277 = .ok (.putfield 156, 3) := dk_181 0 156 (dk_at dksJ23_removeNode_12 0 rfl rfl)
theorem dJ23_removeNode_280 : decode cJ23_removeNode 280 = .ok (.aload_n 0, 1) := dk_42 (dk_at dksJ23_removeNode_12 3 rfl rfl)
theorem dJ23_removeNode_281 : decode cJ23_removeNode 281 = .ok (.aload 10, 2) := dk_25 10 (dk_at dksJ23_removeNode_12 4 rfl rfl)
theorem dJ23_removeNode_283 : decode cJ23_removeNode 283 = .ok (.invokevirtual 236, 3) := dk_182 0 236 (dk_at dksJ23_removeNode_12 6 rfl rfl)
theorem dJ23_removeNode_286 : decode cJ23_removeNode 286 = .ok (.aload 10, 2) := dk_25 10 (dk_at dksJ23_removeNode_12 9 rfl rfl)
theorem dJ23_removeNode_288 : decode cJ23_removeNode 288 = .ok (.areturn, 1) := dk_176 (dk_at dksJ23_removeNode_12 11 rfl rfl)
theorem dJ23_removeNode_289 : decode cJ23_removeNode 289 = .ok (.aconst_null, 1) := dk_1 (dk_at dksJ23_removeNode_12 12 rfl rfl)
theorem dJ23_removeNode_290 : decode cJ23_removeNode 290 = .ok (.areturn, 1) := dk_176 (dk_at dksJ23_removeNode_12 13 rfl rfl)
abbrev cJ23_clear : ByteArray := prog_64_method_22_code
def yJ23_clear : MethodName := ⟨RJ23, "clear", "()V"⟩
def dkwJ23_clear_2 : List UInt8 := [167, 255, 243, 177]
abbrev dktJ23_clear_2 : List UInt8 := dkwJ23_clear_2 ++ []
def dkwJ23_clear_1 : List UInt8 := [158, 0, 26, 42, 3, 181, 0, 156, 3, 61, 28, 43, 190, 162, 0, 13, 43, 28, 1, 83, 132, 2, 1]
abbrev dktJ23_clear_1 : List UInt8 := dkwJ23_clear_1 ++ dktJ23_clear_2
def dkwJ23_clear_0 : List UInt8 := [42, 89, 180, 0, 202, 4, 96, 181, 0, 202, 42, 180, 0, 105, 89, 76, 198, 0, 33, 42, 180, 0, 156]
abbrev dktJ23_clear_0 : List UInt8 := dkwJ23_clear_0 ++ dktJ23_clear_1
theorem dksJ23_clear_0 : cJ23_clear.data.toList.drop 0 = dktJ23_clear_0 := by decide +kernel
theorem dksJ23_clear_1 : cJ23_clear.data.toList.drop 23 = dktJ23_clear_1 := dk_seg dksJ23_clear_0 23 rfl rfl
theorem dksJ23_clear_2 : cJ23_clear.data.toList.drop 46 = dktJ23_clear_2 := dk_seg dksJ23_clear_1 23 rfl rfl
theorem dJ23_clear_0 : decode cJ23_clear 0 = .ok (.aload_n 0, 1) := dk_42 (dk_at dksJ23_clear_0 0 rfl rfl)
theorem dJ23_clear_1 : decode cJ23_clear 1 = .ok (.dup, 1) := dk_89 (dk_at dksJ23_clear_0 1 rfl rfl)
theorem dJ23_clear_2 : decode cJ23_clear 2 = .ok (.getfield 202, 3) := dk_180 0 202 (dk_at dksJ23_clear_0 2 rfl rfl)
theorem dJ23_clear_5 : decode cJ23_clear 5 = .ok (.iconst 1, 1) := dk_4 (dk_at dksJ23_clear_0 5 rfl rfl)
theorem dJ23_clear_6 : decode cJ23_clear 6 = .ok (.iadd, 1) := dk_96 (dk_at dksJ23_clear_0 6 rfl rfl)
theorem dJ23_clear_7 : decode cJ23_clear 7 = .ok (.putfield 202, 3) := dk_181 0 202 (dk_at dksJ23_clear_0 7 rfl rfl)
theorem dJ23_clear_10 : decode cJ23_clear 10 = .ok (.aload_n 0, 1) := dk_42 (dk_at dksJ23_clear_0 10 rfl rfl)
theorem dJ23_clear_11 : decode cJ23_clear 11 = .ok (.getfield 105, 3) := dk_180 0 105 (dk_at dksJ23_clear_0 11 rfl rfl)
theorem dJ23_clear_14 : decode cJ23_clear 14 = .ok (.dup, 1) := dk_89 (dk_at dksJ23_clear_0 14 rfl rfl)
theorem dJ23_clear_15 : decode cJ23_clear 15 = .ok (.astore_n 1, 1) := dk_76 (dk_at dksJ23_clear_0 15 rfl rfl)
theorem dJ23_clear_16 : decode cJ23_clear 16 = .ok (.ifnull 33, 3) := dk_198 0 33 (dk_at dksJ23_clear_0 16 rfl rfl)
theorem dJ23_clear_19 : decode cJ23_clear 19 = .ok (.aload_n 0, 1) := dk_42 (dk_at dksJ23_clear_0 19 rfl rfl)
theorem dJ23_clear_20 : decode cJ23_clear 20 = .ok (.getfield 156, 3) := dk_180 0 156 (dk_at dksJ23_clear_0 20 rfl rfl)
theorem dJ23_clear_23 : decode cJ23_clear 23 = .ok (.ifCond .le 26, 3) := dk_158 0 26 (dk_at dksJ23_clear_1 0 rfl rfl)
theorem dJ23_clear_26 : decode cJ23_clear 26 = .ok (.aload_n 0, 1) := dk_42 (dk_at dksJ23_clear_1 3 rfl rfl)
theorem dJ23_clear_27 : decode cJ23_clear 27 = .ok (.iconst 0, 1) := dk_3 (dk_at dksJ23_clear_1 4 rfl rfl)
theorem dJ23_clear_28 : decode cJ23_clear 28 = .ok (.putfield 156, 3) := dk_181 0 156 (dk_at dksJ23_clear_1 5 rfl rfl)
theorem dJ23_clear_31 : decode cJ23_clear 31 = .ok (.iconst 0, 1) := dk_3 (dk_at dksJ23_clear_1 8 rfl rfl)
theorem dJ23_clear_32 : decode cJ23_clear 32 = .ok (.istore_n 2, 1) := dk_61 (dk_at dksJ23_clear_1 9 rfl rfl)
theorem dJ23_clear_33 : decode cJ23_clear 33 = .ok (.iload_n 2, 1) := dk_28 (dk_at dksJ23_clear_1 10 rfl rfl)
theorem dJ23_clear_34 : decode cJ23_clear 34 = .ok (.aload_n 1, 1) := dk_43 (dk_at dksJ23_clear_1 11 rfl rfl)
theorem dJ23_clear_35 : decode cJ23_clear 35 = .ok (.arraylength, 1) := dk_190 (dk_at dksJ23_clear_1 12 rfl rfl)
theorem dJ23_clear_36 : decode cJ23_clear 36 = .ok (.if_icmp .ge 13, 3) := dk_162 0 13 (dk_at dksJ23_clear_1 13 rfl rfl)
theorem dJ23_clear_39 : decode cJ23_clear 39 = .ok (.aload_n 1, 1) := dk_43 (dk_at dksJ23_clear_1 16 rfl rfl)
theorem dJ23_clear_40 : decode cJ23_clear 40 = .ok (.iload_n 2, 1) := dk_28 (dk_at dksJ23_clear_1 17 rfl rfl)
theorem dJ23_clear_41 : decode cJ23_clear 41 = .ok (.aconst_null, 1) := dk_1 (dk_at dksJ23_clear_1 18 rfl rfl)
theorem dJ23_clear_42 : decode cJ23_clear 42 = .ok (.aastore, 1) := dk_83 (dk_at dksJ23_clear_1 19 rfl rfl)
theorem dJ23_clear_43 : decode cJ23_clear 43 = .ok (.iinc 2 1, 3) := dk_132 2 1 (dk_at dksJ23_clear_1 20 rfl rfl)
theorem dJ23_clear_46 : decode cJ23_clear 46 = .ok (.goto (-13), 3) := dk_167 255 243 (dk_at dksJ23_clear_2 0 rfl rfl)
theorem dJ23_clear_49 : decode cJ23_clear 49 = .ok (.return_, 1) := dk_177 (dk_at dksJ23_clear_2 3 rfl rfl)
theorem q164 : (Jvm.Cond.initialized "java/util/HashMap") ∈ lw_all := lw_g (lw_at lw_m1 37 rfl) rfl
theorem q1244 : (Jvm.Cond.instanceMethod ({ cls := "java/util/HashMap", name := "<init>", desc := "()V" } : Jvm.MethodName)) ∈ lw_all := lw_g (lw_at lw_m5 157 rfl) rfl
theorem q1245 : (Jvm.Cond.code ({ cls := "java/util/HashMap", name := "<init>", desc := "()V" } : Jvm.MethodName) prog_64_method_7_code (1 : Nat) (Option.none : Option Jvm.ClassFile.FieldType)) ∈ lw_all := lw_g (lw_at lw_m5 158 rfl) rfl
theorem q1246 : (Jvm.Cond.methodLink "java/util/HashMap" (43 : Nat) ({ cls := "java/util/AbstractMap", name := "<init>", desc := "()V" } : Jvm.MethodName)) ∈ lw_all := lw_g (lw_at lw_m5 159 rfl) rfl
theorem q1250 : (Jvm.Cond.constantFloat "java/util/HashMap" (92 : Nat) (1061158912 : UInt32)) ∈ lw_all := lw_g (lw_at lw_m5 163 rfl) rfl
theorem q1258 : (Jvm.Cond.fieldLink "java/util/HashMap" (105 : Nat) "java/util/HashMap" "table" "[Ljava/util/HashMap$Node;") ∈ lw_all := lw_g (lw_at lw_m5 171 rfl) rfl
theorem q1266 : (Jvm.Cond.fieldLink "java/util/HashMap" (156 : Nat) "java/util/HashMap" "size" "I") ∈ lw_all := lw_g (lw_at lw_m5 179 rfl) rfl
theorem q1271 : (Jvm.Cond.fieldLink "java/util/HashMap" (202 : Nat) "java/util/HashMap" "modCount" "I") ∈ lw_all := lw_g (lw_at lw_m5 184 rfl) rfl
theorem q1272 : (Jvm.Cond.fieldLink "java/util/HashMap" (88 : Nat) "java/util/HashMap" "threshold" "I") ∈ lw_all := lw_g (lw_at lw_m5 185 rfl) rfl
theorem q1273 : (Jvm.Cond.fieldLink "java/util/HashMap" (81 : Nat) "java/util/HashMap" "loadFactor" "F") ∈ lw_all := lw_g (lw_at lw_m5 186 rfl) rfl
theorem q1616 : (Jvm.Cond.instanceMethod ({ cls := "java/util/HashMap", name := "size", desc := "()I" } : Jvm.MethodName)) ∈ lw_all := lw_g (lw_at lw_m7 49 rfl) rfl
theorem q1617 : (Jvm.Cond.publicMethod ({ cls := "java/util/HashMap", name := "size", desc := "()I" } : Jvm.MethodName)) ∈ lw_tbl := lw_at lw_m7 50 rfl
theorem q1618 : (Jvm.Cond.code ({ cls := "java/util/HashMap", name := "size", desc := "()I" } : Jvm.MethodName) prog_64_method_10_code (1 : Nat) (Option.some Jvm.ClassFile.FieldType.int)) ∈ lw_all := lw_g (lw_at lw_m7 51 rfl) rfl
theorem q1908 : (Jvm.Cond.sameMethod "java/util/HashMap" "java/util/HashMap" "keySet" "()Ljava/util/Set;") ∈ lw_all := lw_g (lw_at lw_m8 101 rfl) rfl
theorem q1933 : (Jvm.Cond.declares ({ cls := "java/util/HashMap", name := "keySet", desc := "()Ljava/util/Set;" } : Jvm.MethodName)) ∈ lw_tbl := lw_at lw_m8 126 rfl
theorem q2011 : (Jvm.Cond.instanceMethod ({ cls := "java/util/HashMap", name := "getNode", desc := "(Ljava/lang/Object;)Ljava/util/HashMap$Node;" } : Jvm.MethodName)) ∈ lw_all := lw_g (lw_at lw_m8 204 rfl) rfl
theorem q2012 : (Jvm.Cond.code ({ cls := "java/util/HashMap", name := "getNode", desc := "(Ljava/lang/Object;)Ljava/util/HashMap$Node;" } : Jvm.MethodName) prog_64_method_13_code (8 : Nat) (Option.some (Jvm.ClassFile.FieldType.object "java/util/HashMap$Node"))) ∈ lw_all := lw_g (lw_at lw_m8 205 rfl) rfl
theorem q2013 : (Jvm.Cond.methodLink "java/util/HashMap" (149 : Nat) ({ cls := "java/util/HashMap", name := "hash", desc := "(Ljava/lang/Object;)I" } : Jvm.MethodName)) ∈ lw_all := lw_g (lw_at lw_m8 206 rfl) rfl
theorem q2014 : (Jvm.Cond.static ({ cls := "java/util/HashMap", name := "hash", desc := "(Ljava/lang/Object;)I" } : Jvm.MethodName)) ∈ lw_all := lw_g (lw_at lw_m8 207 rfl) rfl
theorem q2015 : (Jvm.Cond.code ({ cls := "java/util/HashMap", name := "hash", desc := "(Ljava/lang/Object;)I" } : Jvm.MethodName) prog_64_method_1_code (2 : Nat) (Option.some Jvm.ClassFile.FieldType.int)) ∈ lw_all := lw_g (lw_at lw_m8 208 rfl) rfl
theorem q2017 : (Jvm.Cond.methodLink "java/util/HashMap" (1 : Nat) ({ cls := "java/lang/Object", name := "hashCode", desc := "()I" } : Jvm.MethodName)) ∈ lw_all := lw_g (lw_at lw_m8 210 rfl) rfl
theorem q2057 : (Jvm.Cond.methodLink "java/util/HashMap" (173 : Nat) ({ cls := "java/lang/Object", name := "equals", desc := "(Ljava/lang/Object;)Z" } : Jvm.MethodName)) ∈ lw_all := lw_g (lw_at lw_m9 10 rfl) rfl
theorem q2099 : (Jvm.Cond.classLink "java/util/HashMap" (180 : Nat) "java/util/HashMap$TreeNode") ∈ lw_all := lw_g (lw_at lw_m9 52 rfl) rfl
theorem q2375 : (Jvm.Cond.instanceMethod ({ cls := "java/util/HashMap", name := "<init>", desc := "(IF)V" } : Jvm.MethodName)) ∈ lw_all := lw_g (lw_at lw_m10 88 rfl) rfl
theorem q2376 : (Jvm.Cond.code ({ cls := "java/util/HashMap", name := "<init>", desc := "(IF)V" } : Jvm.MethodName) prog_64_method_5_code (3 : Nat) (Option.none : Option Jvm.ClassFile.FieldType)) ∈ lw_all := lw_g (lw_at lw_m10 89 rfl) rfl
theorem q2385 : (Jvm.Cond.constant "java/util/HashMap" (42 : Nat) (1073741824 : Int32)) ∈ lw_all := lw_g (lw_at lw_m10 98 rfl) rfl
theorem q2386 : (Jvm.Cond.methodLink "java/util/HashMap" (70 : Nat) ({ cls := "java/lang/Float", name := "isNaN", desc := "(F)Z" } : Jvm.MethodName)) ∈ lw_all := lw_g (lw_at lw_m10 99 rfl) rfl
theorem q2767 : (Jvm.Cond.methodLink "java/util/HashMap" (85 : Nat) ({ cls := "java/util/HashMap", name := "tableSizeFor", desc := "(I)I" } : Jvm.MethodName)) ∈ lw_all := lw_g (lw_at lw_m12 0 rfl) rfl
theorem q2768 : (Jvm.Cond.static ({ cls := "java/util/HashMap", name := "tableSizeFor", desc := "(I)I" } : Jvm.MethodName)) ∈ lw_all := lw_g (lw_at lw_m12 1 rfl) rfl
theorem q2769 : (Jvm.Cond.code ({ cls := "java/util/HashMap", name := "tableSizeFor", desc := "(I)I" } : Jvm.MethodName) prog_64_method_4_code (2 : Nat) (Option.some Jvm.ClassFile.FieldType.int)) ∈ lw_all := lw_g (lw_at lw_m12 2 rfl) rfl
theorem q2770 : (Jvm.Cond.methodLink "java/util/HashMap" (34 : Nat) ({ cls := "java/lang/Integer", name := "numberOfLeadingZeros", desc := "(I)I" } : Jvm.MethodName)) ∈ lw_all := lw_g (lw_at lw_m12 3 rfl) rfl
theorem q2825 : (Jvm.Cond.instanceMethod ({ cls := "java/util/HashMap", name := "put", desc := "(Ljava/lang/Object;Ljava/lang/Object;)Ljava/lang/Object;" } : Jvm.MethodName)) ∈ lw_all := lw_g (lw_at lw_m12 58 rfl) rfl
theorem q2828 : (Jvm.Cond.code ({ cls := "java/util/HashMap", name := "put", desc := "(Ljava/lang/Object;Ljava/lang/Object;)Ljava/lang/Object;" } : Jvm.MethodName) prog_64_method_15_code (3 : Nat) (Option.some (Jvm.ClassFile.FieldType.object "java/lang/Object"))) ∈ lw_all := lw_g (lw_at lw_m12 61 rfl) rfl
theorem q2829 : (Jvm.Cond.methodLink "java/util/HashMap" (152 : Nat) ({ cls := "java/util/HashMap", name := "putVal", desc := "(ILjava/lang/Object;Ljava/lang/Object;ZZ)Ljava/lang/Object;" } : Jvm.MethodName)) ∈ lw_all := lw_g (lw_at lw_m12 62 rfl) rfl
theorem q2830 : (Jvm.Cond.instanceMethod ({ cls := "java/util/HashMap", name := "putVal", desc := "(ILjava/lang/Object;Ljava/lang/Object;ZZ)Ljava/lang/Object;" } : Jvm.MethodName)) ∈ lw_all := lw_g (lw_at lw_m12 63 rfl) rfl
theorem q2833 : (Jvm.Cond.code ({ cls := "java/util/HashMap", name := "putVal", desc := "(ILjava/lang/Object;Ljava/lang/Object;ZZ)Ljava/lang/Object;" } : Jvm.MethodName) prog_64_method_16_code (13 : Nat) (Option.some (Jvm.ClassFile.FieldType.object "java/lang/Object"))) ∈ lw_all := lw_g (lw_at lw_m12 66 rfl) rfl
theorem q2834 : (Jvm.Cond.methodLink "java/util/HashMap" (117 : Nat) ({ cls := "java/util/HashMap", name := "resize", desc := "()[Ljava/util/HashMap$Node;" } : Jvm.MethodName)) ∈ lw_all := lw_g (lw_at lw_m12 67 rfl) rfl
theorem q2835 : (Jvm.Cond.instanceMethod ({ cls := "java/util/HashMap", name := "resize", desc := "()[Ljava/util/HashMap$Node;" } : Jvm.MethodName)) ∈ lw_all := lw_g (lw_at lw_m12 68 rfl) rfl
theorem q2838 : (Jvm.Cond.code ({ cls := "java/util/HashMap", name := "resize", desc := "()[Ljava/util/HashMap$Node;" } : Jvm.MethodName) prog_64_method_17_code (14 : Nat) (Option.some (Jvm.ClassFile.FieldType.array (Jvm.ClassFile.FieldType.object "java/util/HashMap$Node")))) ∈ lw_all := lw_g (lw_at lw_m12 71 rfl) rfl
theorem q2839 : (Jvm.Cond.constant "java/util/HashMap" (209 : Nat) (2147483647 : Int32)) ∈ lw_all := lw_g (lw_at lw_m12 72 rfl) rfl
theorem q2840 : (Jvm.Cond.constantFloat "java/util/HashMap" (210 : Nat) (1317011456 : UInt32)) ∈ lw_all := lw_g (lw_at lw_m12 73 rfl) rfl
theorem q2841 : (Jvm.Cond.classLink "java/util/HashMap" (163 : Nat) "java/util/HashMap$Node") ∈ lw_all := lw_g (lw_at lw_m12 74 rfl) rfl
theorem q2875 : (Jvm.Cond.fieldLink "java/util/HashMap" (168 : Nat) "java/util/HashMap$Node" "hash" "I") ∈ lw_all := lw_g (lw_at lw_m12 108 rfl) rfl
theorem q2882 : (Jvm.Cond.fieldLink "java/util/HashMap" (170 : Nat) "java/util/HashMap$Node" "key" "Ljava/lang/Object;") ∈ lw_all := lw_g (lw_at lw_m12 115 rfl) rfl
theorem q2887 : (Jvm.Cond.fieldLink "java/util/HashMap" (162 : Nat) "java/util/HashMap$Node" "value" "Ljava/lang/Object;") ∈ lw_all := lw_g (lw_at lw_m12 120 rfl) rfl
theorem q2894 : (Jvm.Cond.fieldLink "java/util/HashMap" (177 : Nat) "java/util/HashMap$Node" "next" "Ljava/util/HashMap$Node;") ∈ lw_all := lw_g (lw_at lw_m12 127 rfl) rfl
theorem q2932 : (Jvm.Cond.methodLink "java/util/HashMap" (186 : Nat) ({ cls := "java/util/HashMap", name := "newNode", desc := "(ILjava/lang/Object;Ljava/lang/Object;Ljava/util/HashMap$Node;)Ljava/util/HashMap$Node;" } : Jvm.MethodName)) ∈ lw_all := lw_g (lw_at lw_m12 165 rfl) rfl
theorem q2934 : (Jvm.Cond.sameMethod "java/util/HashMap" "java/util/HashMap" "newNode" "(ILjava/lang/Object;Ljava/lang/Object;Ljava/util/HashMap$Node;)Ljava/util/HashMap$Node;") ∈ lw_all := lw_g (lw_at lw_m12 167 rfl) rfl
theorem q2942 : (Jvm.Cond.declares ({ cls := "java/util/HashMap", name := "newNode", desc := "(ILjava/lang/Object;Ljava/lang/Object;Ljava/util/HashMap$Node;)Ljava/util/HashMap$Node;" } : Jvm.MethodName)) ∈ lw_tbl := lw_at lw_m12 175 rfl
theorem q2996 : (Jvm.Cond.methodLink "java/util/HashMap" (198 : Nat) ({ cls := "java/util/HashMap", name := "afterNodeAccess", desc := "(Ljava/util/HashMap$Node;)V" } : Jvm.MethodName)) ∈ lw_all := lw_g (lw_at lw_m12 229 rfl) rfl
theorem q2998 : (Jvm.Cond.sameMethod "java/util/HashMap" "java/util/HashMap" "afterNodeAccess" "(Ljava/util/HashMap$Node;)V") ∈ lw_all := lw_g (lw_at lw_m12 231 rfl) rfl
theorem q3000 : (Jvm.Cond.declares ({ cls := "java/util/HashMap", name := "afterNodeAccess", desc := "(Ljava/util/HashMap$Node;)V" } : Jvm.MethodName)) ∈ lw_tbl := lw_at lw_m12 233 rfl
theorem q3001 : (Jvm.Cond.methodLink "java/util/HashMap" (205 : Nat) ({ cls := "java/util/HashMap", name := "afterNodeInsertion", desc := "(Z)V" } : Jvm.MethodName)) ∈ lw_all := lw_g (lw_at lw_m12 234 rfl) rfl
theorem q3003 : (Jvm.Cond.sameMethod "java/util/HashMap" "java/util/HashMap" "afterNodeInsertion" "(Z)V") ∈ lw_all := lw_g (lw_at lw_m12 236 rfl) rfl
theorem q3011 : (Jvm.Cond.declares ({ cls := "java/util/HashMap", name := "afterNodeInsertion", desc := "(Z)V" } : Jvm.MethodName)) ∈ lw_tbl := lw_at lw_m13 4 rfl
theorem q3081 : (Jvm.Cond.instanceMethod ({ cls := "java/util/HashMap", name := "isEmpty", desc := "()Z" } : Jvm.MethodName)) ∈ lw_all := lw_g (lw_at lw_m13 74 rfl) rfl
theorem q3082 : (Jvm.Cond.publicMethod ({ cls := "java/util/HashMap", name := "isEmpty", desc := "()Z" } : Jvm.MethodName)) ∈ lw_tbl := lw_at lw_m13 75 rfl
theorem q3083 : (Jvm.Cond.code ({ cls := "java/util/HashMap", name := "isEmpty", desc := "()Z" } : Jvm.MethodName) prog_64_method_11_code (1 : Nat) (Option.some Jvm.ClassFile.FieldType.boolean)) ∈ lw_all := lw_g (lw_at lw_m13 76 rfl) rfl
theorem q3335 : (Jvm.Cond.instanceMethod ({ cls := "java/util/HashMap", name := "containsKey", desc := "(Ljava/lang/Object;)Z" } : Jvm.MethodName)) ∈ lw_all := lw_g (lw_at lw_m14 88 rfl) rfl
theorem q3338 : (Jvm.Cond.code ({ cls := "java/util/HashMap", name := "containsKey", desc := "(Ljava/lang/Object;)Z" } : Jvm.MethodName) prog_64_method_14_code (2 : Nat) (Option.some Jvm.ClassFile.FieldType.boolean)) ∈ lw_all := lw_g (lw_at lw_m14 91 rfl) rfl
theorem q3339 : (Jvm.Cond.methodLink "java/util/HashMap" (158 : Nat) ({ cls := "java/util/HashMap", name := "getNode", desc := "(Ljava/lang/Object;)Ljava/util/HashMap$Node;" } : Jvm.MethodName)) ∈ lw_all := lw_g (lw_at lw_m14 92 rfl) rfl
theorem q3494 : (Jvm.Cond.publicMethod ({ cls := "java/util/HashMap", name := "put", desc := "(Ljava/lang/Object;Ljava/lang/Object;)Ljava/lang/Object;" } : Jvm.MethodName)) ∈ lw_tbl := lw_at lw_m15 7 rfl
theorem q3540 : (Jvm.Cond.instanceMethod ({ cls := "java/util/HashMap", name := "remove", desc := "(Ljava/lang/Object;)Ljava/lang/Object;" } : Jvm.MethodName)) ∈ lw_all := lw_g (lw_at lw_m15 53 rfl) rfl
theorem q3541 : (Jvm.Cond.publicMethod ({ cls := "java/util/HashMap", name := "remove", desc := "(Ljava/lang/Object;)Ljava/lang/Object;" } : Jvm.MethodName)) ∈ lw_tbl := lw_at lw_m15 54 rfl
theorem q3542 : (Jvm.Cond.code ({ cls := "java/util/HashMap", name := "remove", desc := "(Ljava/lang/Object;)Ljava/lang/Object;" } : Jvm.MethodName) prog_64_method_20_code (3 : Nat) (Option.some (Jvm.ClassFile.FieldType.object "java/lang/Object"))) ∈ lw_all := lw_g (lw_at lw_m15 55 rfl) rfl
theorem q3543 : (Jvm.Cond.methodLink "java/util/HashMap" (228 : Nat) ({ cls := "java/util/HashMap", name := "removeNode", desc := "(ILjava/lang/Object;Ljava/lang/Object;ZZ)Ljava/util/HashMap$Node;" } : Jvm.MethodName)) ∈ lw_all := lw_g (lw_at lw_m15 56 rfl) rfl
theorem q3544 : (Jvm.Cond.instanceMethod ({ cls := "java/util/HashMap", name := "removeNode", desc := "(ILjava/lang/Object;Ljava/lang/Object;ZZ)Ljava/util/HashMap$Node;" } : Jvm.MethodName)) ∈ lw_all := lw_g (lw_at lw_m15 57 rfl) rfl
theorem q3547 : (Jvm.Cond.code ({ cls := "java/util/HashMap", name := "removeNode", desc := "(ILjava/lang/Object;Ljava/lang/Object;ZZ)Ljava/util/HashMap$Node;" } : Jvm.MethodName) prog_64_method_21_code (14 : Nat) (Option.some (Jvm.ClassFile.FieldType.object "java/util/HashMap$Node"))) ∈ lw_all := lw_g (lw_at lw_m15 60 rfl) rfl
theorem q3555 : (Jvm.Cond.methodLink "java/util/HashMap" (236 : Nat) ({ cls := "java/util/HashMap", name := "afterNodeRemoval", desc := "(Ljava/util/HashMap$Node;)V" } : Jvm.MethodName)) ∈ lw_all := lw_g (lw_at lw_m15 68 rfl) rfl
theorem q3557 : (Jvm.Cond.sameMethod "java/util/HashMap" "java/util/HashMap" "afterNodeRemoval" "(Ljava/util/HashMap$Node;)V") ∈ lw_all := lw_g (lw_at lw_m15 70 rfl) rfl
theorem q3561 : (Jvm.Cond.declares ({ cls := "java/util/HashMap", name := "afterNodeRemoval", desc := "(Ljava/util/HashMap$Node;)V" } : Jvm.MethodName)) ∈ lw_tbl := lw_at lw_m15 74 rfl
theorem q3897 : (Jvm.Cond.instanceMethod ({ cls := "java/util/HashMap", name := "clear", desc := "()V" } : Jvm.MethodName)) ∈ lw_all := lw_g (lw_at lw_m16 170 rfl) rfl
theorem q3898 : (Jvm.Cond.code ({ cls := "java/util/HashMap", name := "clear", desc := "()V" } : Jvm.MethodName) prog_64_method_22_code (3 : Nat) (Option.none : Option Jvm.ClassFile.FieldType)) ∈ lw_all := lw_g (lw_at lw_m16 171 rfl) rfl
theorem q4645 : (Jvm.Cond.sameMethod "java/util/HashMap" "java/util/HashMap" "clear" "()V") ∈ lw_all := lw_g (lw_at lw_m19 198 rfl) rfl
/-! J24.java_util_LinkedHashMap.lean.txt -/
def RJ24 : String := "java/util/LinkedHashMap"
def TJ24 : u_T := fun k => match k with
  | 0 => ("java/util/HashMap", "table", "[Ljava/util/HashMap$Node;", false)
  | 1 => ("java/util/HashMap", "entrySet", "Ljava/util/Set;", false)
  | 2 => ("java/util/HashMap", "size", "I", false)
  | 3 => ("java/util/HashMap", "modCount", "I", false)
  | 4 => ("java/util/HashMap", "threshold", "I", false)
  | 5 => ("java/util/HashMap", "loadFactor", "F", true)
  | 6 => ("java/util/AbstractMap", "keySet", "Ljava/util/Set;", false)
  | 7 => ("java/util/AbstractMap", "values", "Ljava/util/Collection;", false)
  | 8 => ("java/util/LinkedHashMap", "head", "Ljava/util/LinkedHashMap$Entry;", false)
  | 9 => ("java/util/LinkedHashMap", "tail", "Ljava/util/LinkedHashMap$Entry;", false)
  | 10 => ("java/util/LinkedHashMap", "accessOrder", "Z", true)
  | _ => ("java/util/LinkedHashMap", "putMode", "I", false)
def tyJ24 : Nat → FieldType := fun k => match k with
  | 0 => .array (.object "java/util/HashMap$Node")
  | 1 => .object "java/util/Set"
  | 2 => .int
  | 3 => .int
  | 4 => .int
  | 5 => .float
  | 6 => .object "java/util/Set"
  | 7 => .object "java/util/Collection"
  | 8 => .object "java/util/LinkedHashMap$Entry"
  | 9 => .object "java/util/LinkedHashMap$Entry"
  | 10 => .boolean
  | _ => .int
abbrev wsJ240 : List Cond := u_ws RJ24 TJ24 12
theorem nmJ24 : ∀ a, a < 12 → ∀ b, b < 12 → a ≠ b → (TJ24 a).2.1 ≠ (TJ24 b).2.1 := by decide +kernel
theorem tyJ24_ok : ∀ k, k < 12 → parseFieldDescriptor (TJ24 k).2.2.1 = some (tyJ24 k) := by decide +kernel
abbrev cJ24_init : ByteArray := prog_72_method_16_code
def yJ24_init : MethodName := ⟨RJ24, "<init>", "()V"⟩
def dkwJ24_init_0 : List UInt8 := [42, 183, 0, 87, 42, 3, 181, 0, 1, 42, 3, 181, 0, 64, 177]
abbrev dktJ24_init_0 : List UInt8 := dkwJ24_init_0 ++ []
theorem dksJ24_init_0 : cJ24_init.data.toList.drop 0 = dktJ24_init_0 := by decide +kernel
theorem dJ24_init_0 : decode cJ24_init 0 = .ok (.aload_n 0, 1) := dk_42 (dk_at dksJ24_init_0 0 rfl rfl)
theorem dJ24_init_1 : decode cJ24_init 1 = .ok (.invokespecial 87, 3) := dk_183 0 87 (dk_at dksJ24_init_0 1 rfl rfl)
theorem dJ24_init_4 : decode cJ24_init 4 = .ok (.aload_n 0, 1) := dk_42 (dk_at dksJ24_init_0 4 rfl rfl)
theorem dJ24_init_5 : decode cJ24_init 5 = .ok (.iconst 0, 1) := dk_3 (dk_at dksJ24_init_0 5 rfl rfl)
theorem dJ24_init_6 : decode cJ24_init 6 = .ok (.putfield 1, 3) := dk_181 0 1 (dk_at dksJ24_init_0 6 rfl rfl)
theorem dJ24_init_9 : decode cJ24_init 9 = .ok (.aload_n 0, 1) := dk_42 (dk_at dksJ24_init_0 9 rfl rfl)
theorem dJ24_init_10 : decode cJ24_init 10 = .ok (.iconst 0, 1) := dk_3 (dk_at dksJ24_init_0 10 rfl rfl)
theorem dJ24_init_11 : decode cJ24_init 11 = .ok (.putfield 64, 3) := dk_181 0 64 (dk_at dksJ24_init_0 11 rfl rfl)
theorem dJ24_init_14 : decode cJ24_init 14 = .ok (.return_, 1) := dk_177 (dk_at dksJ24_init_0 14 rfl rfl)
abbrev cJ24_values : ByteArray := prog_72_method_30_code
def yJ24_values : MethodName := ⟨RJ24, "values", "()Ljava/util/Collection;"⟩
theorem dJ24_values_0 : decode cJ24_values 0 = .ok (.aload_n 0, 1) := by decide +kernel
theorem dJ24_values_1 : decode cJ24_values 1 = .ok (.invokevirtual 135, 3) := by decide +kernel
theorem dJ24_values_4 : decode cJ24_values 4 = .ok (.areturn, 1) := by decide +kernel
abbrev cJ24_sequencedValues : ByteArray := prog_72_method_31_code
def yJ24_sequencedValues : MethodName := ⟨RJ24, "sequencedValues", "()Ljava/util/SequencedCollection;"⟩
def dkwJ24_sequencedValues_1 : List UInt8 := [44, 176, 43, 192, 0, 146, 176]
abbrev dktJ24_sequencedValues_1 : List UInt8 := dkwJ24_sequencedValues_1 ++ []
def dkwJ24_sequencedValues_0 : List UInt8 := [42, 180, 0, 139, 76, 43, 199, 0, 20, 187, 0, 143, 89, 42, 3, 183, 0, 145, 77, 42, 44, 181, 0, 139]
abbrev dktJ24_sequencedValues_0 : List UInt8 := dkwJ24_sequencedValues_0 ++ dktJ24_sequencedValues_1
theorem dksJ24_sequencedValues_0 : cJ24_sequencedValues.data.toList.drop 0 = dktJ24_sequencedValues_0 := by decide +kernel
theorem dksJ24_sequencedValues_1 : cJ24_sequencedValues.data.toList.drop 24 = dktJ24_sequencedValues_1 := dk_seg dksJ24_sequencedValues_0 24 rfl rfl
theorem dJ24_sequencedValues_0 : decode cJ24_sequencedValues 0 = .ok (.aload_n 0, 1) := dk_42 (dk_at dksJ24_sequencedValues_0 0 rfl rfl)
theorem dJ24_sequencedValues_1 : decode cJ24_sequencedValues 1 = .ok (.getfield 139, 3) := dk_180 0 139 (dk_at dksJ24_sequencedValues_0 1 rfl rfl)
theorem dJ24_sequencedValues_4 : decode cJ24_sequencedValues 4 = .ok (.astore_n 1, 1) := dk_76 (dk_at dksJ24_sequencedValues_0 4 rfl rfl)
theorem dJ24_sequencedValues_5 : decode cJ24_sequencedValues 5 = .ok (.aload_n 1, 1) := dk_43 (dk_at dksJ24_sequencedValues_0 5 rfl rfl)
theorem dJ24_sequencedValues_6 : decode cJ24_sequencedValues 6 = .ok (.ifnonnull 20, 3) := dk_199 0 20 (dk_at dksJ24_sequencedValues_0 6 rfl rfl)
theorem dJ24_sequencedValues_9 : decode cJ24_sequencedValues 9 = .ok (.new 143, 3) := dk_187 0 143 (dk_at dksJ24_sequencedValues_0 9 rfl rfl)
theorem dJ24_sequencedValues_12 : decode cJ24_sequencedValues 12 = .ok (.dup, 1) := dk_89 (dk_at dksJ24_sequencedValues_0 12 rfl rfl)
theorem dJ24_sequencedValues_13 : decode cJ24_sequencedValues 13 = .ok (.aload_n 0, 1) := dk_42 (dk_at dksJ24_sequencedValues_0 13 rfl rfl)
theorem dJ24_sequencedValues_14 : decode cJ24_sequencedValues 14 = .ok (.iconst 0, 1) := dk_3 (dk_at dksJ24_sequencedValues_0 14 rfl rfl)
theorem dJ24_sequencedValues_15 : decode cJ24_sequencedValues 15 = .ok (.invokespecial 145, 3) := dk_183 0 145 (dk_at dksJ24_sequencedValues_0 15 rfl rfl)
theorem dJ24_sequencedValues_18 : decode cJ24_sequencedValues 18 = .ok (.astore_n 2, 1) := dk_77 (dk_at dksJ24_sequencedValues_0 18 rfl rfl)
theorem dJ24_sequencedValues_19 : decode cJ24_sequencedValues 19 = .ok (.aload_n 0, 1) := dk_42 (dk_at dksJ24_sequencedValues_0 19 rfl rfl)
theorem dJ24_sequencedValues_20 : decode cJ24_sequencedValues 20 = .ok (.aload_n 2, 1) := dk_44 (dk_at dksJ24_sequencedValues_0 20 rfl rfl)
theorem dJ24_sequencedValues_21 : decode cJ24_sequencedValues 21 = .ok (.putfield 139, 3) := dk_181 0 139 (dk_at dksJ24_sequencedValues_0 21 rfl rfl)
theorem dJ24_sequencedValues_24 : decode cJ24_sequencedValues 24 = .ok (.aload_n 2, 1) := dk_44 (dk_at dksJ24_sequencedValues_1 0 rfl rfl)
theorem dJ24_sequencedValues_25 : decode cJ24_sequencedValues 25 = .ok (.areturn, 1) := dk_176 (dk_at dksJ24_sequencedValues_1 1 rfl rfl)
theorem dJ24_sequencedValues_26 : decode cJ24_sequencedValues 26 = .ok (.aload_n 1, 1) := dk_43 (dk_at dksJ24_sequencedValues_1 2 rfl rfl)
theorem dJ24_sequencedValues_27 : decode cJ24_sequencedValues 27 = .ok (.checkcast 146, 3) := dk_192 0 146 (dk_at dksJ24_sequencedValues_1 3 rfl rfl)
theorem dJ24_sequencedValues_30 : decode cJ24_sequencedValues 30 = .ok (.areturn, 1) := dk_176 (dk_at dksJ24_sequencedValues_1 6 rfl rfl)
abbrev cJ24_keySet : ByteArray := prog_72_method_24_code
def yJ24_keySet : MethodName := ⟨RJ24, "keySet", "()Ljava/util/Set;"⟩
theorem dJ24_keySet_0 : decode cJ24_keySet 0 = .ok (.aload_n 0, 1) := by decide +kernel
theorem dJ24_keySet_1 : decode cJ24_keySet 1 = .ok (.invokevirtual 113, 3) := by decide +kernel
theorem dJ24_keySet_4 : decode cJ24_keySet 4 = .ok (.areturn, 1) := by decide +kernel
abbrev cJ24_sequencedKeySet : ByteArray := prog_72_method_25_code
def yJ24_sequencedKeySet : MethodName := ⟨RJ24, "sequencedKeySet", "()Ljava/util/SequencedSet;"⟩
def dkwJ24_sequencedKeySet_1 : List UInt8 := [44, 176, 43, 192, 0, 126, 176]
abbrev dktJ24_sequencedKeySet_1 : List UInt8 := dkwJ24_sequencedKeySet_1 ++ []
def dkwJ24_sequencedKeySet_0 : List UInt8 := [42, 180, 0, 117, 76, 43, 199, 0, 20, 187, 0, 121, 89, 42, 3, 183, 0, 123, 77, 42, 44, 181, 0, 117]
abbrev dktJ24_sequencedKeySet_0 : List UInt8 := dkwJ24_sequencedKeySet_0 ++ dktJ24_sequencedKeySet_1
theorem dksJ24_sequencedKeySet_0 : cJ24_sequencedKeySet.data.toList.drop 0 = dktJ24_sequencedKeySet_0 := by decide +kernel
theorem dksJ24_sequencedKeySet_1 : cJ24_sequencedKeySet.data.toList.drop 24 = dktJ24_sequencedKeySet_1 := dk_seg dksJ24_sequencedKeySet_0 24 rfl rfl
theorem dJ24_sequencedKeySet_0 : decode cJ24_sequencedKeySet 0 = .ok (.aload_n 0, 1) := dk_42 (dk_at dksJ24_sequencedKeySet_0 0 rfl rfl)
theorem dJ24_sequencedKeySet_1 : decode cJ24_sequencedKeySet 1 = .ok (.getfield 117, 3) := dk_180 0 117 (dk_at dksJ24_sequencedKeySet_0 1 rfl rfl)
theorem dJ24_sequencedKeySet_4 : decode cJ24_sequencedKeySet 4 = .ok (.astore_n 1, 1) := dk_76 (dk_at dksJ24_sequencedKeySet_0 4 rfl rfl)
theorem dJ24_sequencedKeySet_5 : decode cJ24_sequencedKeySet 5 = .ok (.aload_n 1, 1) := dk_43 (dk_at dksJ24_sequencedKeySet_0 5 rfl rfl)
theorem dJ24_sequencedKeySet_6 : decode cJ24_sequencedKeySet 6 = .ok (.ifnonnull 20, 3) := dk_199 0 20 (dk_at dksJ24_sequencedKeySet_0 6 rfl rfl)
theorem dJ24_sequencedKeySet_9 : decode cJ24_sequencedKeySet 9 = .ok (.new 121, 3) := dk_187 0 121 (dk_at dksJ24_sequencedKeySet_0 9 rfl rfl)
theorem dJ24_sequencedKeySet_12 : decode cJ24_sequencedKeySet 12 = .ok (.dup, 1) := dk_89 (dk_at dksJ24_sequencedKeySet_0 12 rfl rfl)
theorem dJ24_sequencedKeySet_13 : decode cJ24_sequencedKeySet 13 = .ok (.aload_n 0, 1) := dk_42 (dk_at dksJ24_sequencedKeySet_0 13 rfl rfl)
theorem dJ24_sequencedKeySet_14 : decode cJ24_sequencedKeySet 14 = .ok (.iconst 0, 1) := dk_3 (dk_at dksJ24_sequencedKeySet_0 14 rfl rfl)
theorem dJ24_sequencedKeySet_15 : decode cJ24_sequencedKeySet 15 = .ok (.invokespecial 123, 3) := dk_183 0 123 (dk_at dksJ24_sequencedKeySet_0 15 rfl rfl)
theorem dJ24_sequencedKeySet_18 : decode cJ24_sequencedKeySet 18 = .ok (.astore_n 2, 1) := dk_77 (dk_at dksJ24_sequencedKeySet_0 18 rfl rfl)
theorem dJ24_sequencedKeySet_19 : decode cJ24_sequencedKeySet 19 = .ok (.aload_n 0, 1) := dk_42 (dk_at dksJ24_sequencedKeySet_0 19 rfl rfl)
theorem dJ24_sequencedKeySet_20 : decode cJ24_sequencedKeySet 20 = .ok (.aload_n 2, 1) := dk_44 (dk_at dksJ24_sequencedKeySet_0 20 rfl rfl)
theorem dJ24_sequencedKeySet_21 : decode cJ24_sequencedKeySet 21 = .ok (.putfield 117, 3) := dk_181 0 117 (dk_at dksJ24_sequencedKeySet_0 21 rfl rfl)
theorem dJ24_sequencedKeySet_24 : decode cJ24_sequencedKeySet 24 = .ok (.aload_n 2, 1) := dk_44 (dk_at dksJ24_sequencedKeySet_1 0 rfl rfl)
theorem dJ24_sequencedKeySet_25 : decode cJ24_sequencedKeySet 25 = .ok (.areturn, 1) := dk_176 (dk_at dksJ24_sequencedKeySet_1 1 rfl rfl)
theorem dJ24_sequencedKeySet_26 : decode cJ24_sequencedKeySet 26 = .ok (.aload_n 1, 1) := dk_43 (dk_at dksJ24_sequencedKeySet_1 2 rfl rfl)
theorem dJ24_sequencedKeySet_27 : decode cJ24_sequencedKeySet 27 = .ok (.checkcast 126, 3) := dk_192 0 126 (dk_at dksJ24_sequencedKeySet_1 3 rfl rfl)
theorem dJ24_sequencedKeySet_30 : decode cJ24_sequencedKeySet 30 = .ok (.areturn, 1) := dk_176 (dk_at dksJ24_sequencedKeySet_1 6 rfl rfl)
abbrev cJ24_get : ByteArray := prog_72_method_20_code
def yJ24_get : MethodName := ⟨RJ24, "get", "(Ljava/lang/Object;)Ljava/lang/Object;"⟩
def dkwJ24_get_1 : List UInt8 := [44, 180, 0, 107, 176]
abbrev dktJ24_get_1 : List UInt8 := dkwJ24_get_1 ++ []
def dkwJ24_get_0 : List UInt8 := [42, 43, 182, 0, 99, 89, 77, 199, 0, 5, 1, 176, 42, 180, 0, 64, 153, 0, 8, 42, 44, 182, 0, 103]
abbrev dktJ24_get_0 : List UInt8 := dkwJ24_get_0 ++ dktJ24_get_1
theorem dksJ24_get_0 : cJ24_get.data.toList.drop 0 = dktJ24_get_0 := by decide +kernel
theorem dksJ24_get_1 : cJ24_get.data.toList.drop 24 = dktJ24_get_1 := dk_seg dksJ24_get_0 24 rfl rfl
theorem dJ24_get_0 : decode cJ24_get 0 = .ok (.aload_n 0, 1) := dk_42 (dk_at dksJ24_get_0 0 rfl rfl)
theorem dJ24_get_1 : decode cJ24_get 1 = .ok (.aload_n 1, 1) := dk_43 (dk_at dksJ24_get_0 1 rfl rfl)
theorem dJ24_get_2 : decode cJ24_get 2 = .ok (.invokevirtual 99, 3) := dk_182 0 99 (dk_at dksJ24_get_0 2 rfl rfl)
theorem dJ24_get_5 : decode cJ24_get 5 = .ok (.dup, 1) := dk_89 (dk_at dksJ24_get_0 5 rfl rfl)
theorem dJ24_get_6 : decode cJ24_get 6 = .ok (.astore_n 2, 1) := dk_77 (dk_at dksJ24_get_0 6 rfl rfl)
theorem dJ24_get_7 : decode cJ24_get 7 = .ok (.ifnonnull 5, 3) := dk_199 0 5 (dk_at dksJ24_get_0 7 rfl rfl)
theorem dJ24_get_10 : decode cJ24_get 10 = .ok (.aconst_null, 1) := dk_1 (dk_at dksJ24_get_0 10 rfl rfl)
theorem dJ24_get_11 : decode cJ24_get 11 = .ok (.areturn, 1) := dk_176 (dk_at dksJ24_get_0 11 rfl rfl)
theorem dJ24_get_12 : decode cJ24_get 12 = .ok (.aload_n 0, 1) := dk_42 (dk_at dksJ24_get_0 12 rfl rfl)
theorem dJ24_get_13 : decode cJ24_get 13 = .ok (.getfield 64, 3) := dk_180 0 64 (dk_at dksJ24_get_0 13 rfl rfl)
theorem dJ24_get_16 : decode cJ24_get 16 = .ok (.ifCond .eq 8, 3) := dk_153 0 8 (dk_at dksJ24_get_0 16 rfl rfl)
theorem dJ24_get_19 : decode cJ24_get 19 = .ok (.aload_n 0, 1) := dk_42 (dk_at dksJ24_get_0 19 rfl rfl)
theorem dJ24_get_20 : decode cJ24_get 20 = .ok (.aload_n 2, 1) := dk_44 (dk_at dksJ24_get_0 20 rfl rfl)
theorem dJ24_get_21 : decode cJ24_get 21 = .ok (.invokevirtual 103, 3) := dk_182 0 103 (dk_at dksJ24_get_0 21 rfl rfl)
theorem dJ24_get_24 : decode cJ24_get 24 = .ok (.aload_n 2, 1) := dk_44 (dk_at dksJ24_get_1 0 rfl rfl)
theorem dJ24_get_25 : decode cJ24_get 25 = .ok (.getfield 107, 3) := dk_180 0 107 (dk_at dksJ24_get_1 1 rfl rfl)
theorem dJ24_get_28 : decode cJ24_get 28 = .ok (.areturn, 1) := dk_176 (dk_at dksJ24_get_1 4 rfl rfl)
abbrev cJ24_afterNodeAccess : ByteArray := prog_72_method_10_code
def yJ24_afterNodeAccess : MethodName := ⟨RJ24, "afterNodeAccess", "(Ljava/util/HashMap$Node;)V"⟩
def dkwJ24_afterNodeAccess_11 : List UInt8 := [181, 0, 7, 42, 89, 180, 0, 68, 4, 96, 181, 0, 68, 177]
abbrev dktJ24_afterNodeAccess_11 : List UInt8 := dkwJ24_afterNodeAccess_11 ++ []
def dkwJ24_afterNodeAccess_10 : List UInt8 := [25, 4, 181, 0, 11, 167, 0, 15, 25, 4, 45, 181, 0, 14, 45, 25, 4, 181, 0, 19, 42, 25, 4]
abbrev dktJ24_afterNodeAccess_10 : List UInt8 := dkwJ24_afterNodeAccess_10 ++ dktJ24_afterNodeAccess_11
def dkwJ24_afterNodeAccess_9 : List UInt8 := [25, 5, 198, 0, 13, 25, 5, 25, 6, 181, 0, 14, 167, 0, 6, 25, 6, 78, 45, 199, 0, 12, 42]
abbrev dktJ24_afterNodeAccess_9 : List UInt8 := dkwJ24_afterNodeAccess_9 ++ dktJ24_afterNodeAccess_10
def dkwJ24_afterNodeAccess_8 : List UInt8 := [181, 0, 19, 25, 6, 199, 0, 12, 42, 25, 5, 181, 0, 11, 167, 0, 10, 25, 6, 25, 5, 181, 0, 19]
abbrev dktJ24_afterNodeAccess_8 : List UInt8 := dkwJ24_afterNodeAccess_8 ++ dktJ24_afterNodeAccess_9
def dkwJ24_afterNodeAccess_7 : List UInt8 := [43, 192, 0, 15, 58, 4, 25, 4, 180, 0, 19, 58, 5, 25, 4, 180, 0, 14, 58, 6, 25, 4, 1]
abbrev dktJ24_afterNodeAccess_7 : List UInt8 := dkwJ24_afterNodeAccess_7 ++ dktJ24_afterNodeAccess_8
def dkwJ24_afterNodeAccess_6 : List UInt8 := [181, 0, 68, 167, 0, 127, 42, 180, 0, 1, 4, 160, 0, 119, 42, 180, 0, 7, 89, 78, 43, 165, 0, 109]
abbrev dktJ24_afterNodeAccess_6 : List UInt8 := dkwJ24_afterNodeAccess_6 ++ dktJ24_afterNodeAccess_7
def dkwJ24_afterNodeAccess_5 : List UInt8 := [181, 0, 19, 44, 25, 4, 181, 0, 14, 42, 25, 4, 181, 0, 11, 42, 89, 180, 0, 68, 4, 96]
abbrev dktJ24_afterNodeAccess_5 : List UInt8 := dkwJ24_afterNodeAccess_5 ++ dktJ24_afterNodeAccess_6
def dkwJ24_afterNodeAccess_4 : List UInt8 := [167, 0, 6, 25, 5, 77, 44, 199, 0, 12, 42, 25, 4, 181, 0, 7, 167, 0, 15, 25, 4, 44]
abbrev dktJ24_afterNodeAccess_4 : List UInt8 := dkwJ24_afterNodeAccess_4 ++ dktJ24_afterNodeAccess_5
def dkwJ24_afterNodeAccess_3 : List UInt8 := [167, 0, 10, 25, 5, 25, 6, 181, 0, 14, 25, 6, 198, 0, 13, 25, 6, 25, 5, 181, 0, 19]
abbrev dktJ24_afterNodeAccess_3 : List UInt8 := dkwJ24_afterNodeAccess_3 ++ dktJ24_afterNodeAccess_4
def dkwJ24_afterNodeAccess_2 : List UInt8 := [180, 0, 14, 58, 6, 25, 4, 1, 181, 0, 14, 25, 5, 199, 0, 12, 42, 25, 6, 181, 0, 7]
abbrev dktJ24_afterNodeAccess_2 : List UInt8 := dkwJ24_afterNodeAccess_2 ++ dktJ24_afterNodeAccess_3
def dkwJ24_afterNodeAccess_1 : List UInt8 := [180, 0, 11, 89, 77, 43, 165, 0, 112, 43, 192, 0, 15, 58, 4, 25, 4, 180, 0, 19, 58, 5, 25, 4]
abbrev dktJ24_afterNodeAccess_1 : List UInt8 := dkwJ24_afterNodeAccess_1 ++ dktJ24_afterNodeAccess_2
def dkwJ24_afterNodeAccess_0 : List UInt8 := [42, 180, 0, 1, 5, 159, 0, 17, 42, 180, 0, 1, 154, 0, 129, 42, 180, 0, 64, 153, 0, 122, 42]
abbrev dktJ24_afterNodeAccess_0 : List UInt8 := dkwJ24_afterNodeAccess_0 ++ dktJ24_afterNodeAccess_1
theorem dksJ24_afterNodeAccess_0 : cJ24_afterNodeAccess.data.toList.drop 0 = dktJ24_afterNodeAccess_0 := by decide +kernel
theorem dksJ24_afterNodeAccess_1 : cJ24_afterNodeAccess.data.toList.drop 23 = dktJ24_afterNodeAccess_1 := dk_seg dksJ24_afterNodeAccess_0 23 rfl rfl
theorem dksJ24_afterNodeAccess_2 : cJ24_afterNodeAccess.data.toList.drop 47 = dktJ24_afterNodeAccess_2 := dk_seg dksJ24_afterNodeAccess_1 24 rfl rfl
theorem dksJ24_afterNodeAccess_3 : cJ24_afterNodeAccess.data.toList.drop 69 = dktJ24_afterNodeAccess_3 := dk_seg dksJ24_afterNodeAccess_2 22 rfl rfl
theorem dksJ24_afterNodeAccess_4 : cJ24_afterNodeAccess.data.toList.drop 91 = dktJ24_afterNodeAccess_4 := dk_seg dksJ24_afterNodeAccess_3 22 rfl rfl
theorem dksJ24_afterNodeAccess_5 : cJ24_afterNodeAccess.data.toList.drop 113 = dktJ24_afterNodeAccess_5 := dk_seg dksJ24_afterNodeAccess_4 22 rfl rfl
theorem dksJ24_afterNodeAccess_6 : cJ24_afterNodeAccess.data.toList.drop 135 = dktJ24_afterNodeAccess_6 := dk_seg dksJ24_afterNodeAccess_5 22 rfl rfl
theorem dksJ24_afterNodeAccess_7 : cJ24_afterNodeAccess.data.toList.drop 159 = dktJ24_afterNodeAccess_7 := dk_seg dksJ24_afterNodeAccess_6 24 rfl rfl
theorem dksJ24_afterNodeAccess_8 : cJ24_afterNodeAccess.data.toList.drop 182 = dktJ24_afterNodeAccess_8 := dk_seg dksJ24_afterNodeAccess_7 23 rfl rfl
theorem dksJ24_afterNodeAccess_9 : cJ24_afterNodeAccess.data.toList.drop 206 = dktJ24_afterNodeAccess_9 := dk_seg dksJ24_afterNodeAccess_8 24 rfl rfl
theorem dksJ24_afterNodeAccess_10 : cJ24_afterNodeAccess.data.toList.drop 229 = dktJ24_afterNodeAccess_10 := dk_seg dksJ24_afterNodeAccess_9 23 rfl rfl
theorem dksJ24_afterNodeAccess_11 : cJ24_afterNodeAccess.data.toList.drop 252 = dktJ24_afterNodeAccess_11 := dk_seg dksJ24_afterNodeAccess_10 23 rfl rfl
theorem dJ24_afterNodeAccess_0 : decode cJ24_afterNodeAccess 0 = .ok (.aload_n 0, 1) := dk_42 (dk_at dksJ24_afterNodeAccess_0 0 rfl rfl)
theorem dJ24_afterNodeAccess_1 : decode cJ24_afterNodeAccess 1 = .ok (.getfield 1, 3) := dk_180 0 1 (dk_at dksJ24_afterNodeAccess_0 1 rfl rfl)
theorem dJ24_afterNodeAccess_4 : decode cJ24_afterNodeAccess 4 = .ok (.iconst 2, 1) := dk_5 (dk_at dksJ24_afterNodeAccess_0 4 rfl rfl)
theorem dJ24_afterNodeAccess_5 : decode cJ24_afterNodeAccess 5 = .ok (.if_icmp .eq 17, 3) := dk_159 0 17 (dk_at dksJ24_afterNodeAccess_0 5 rfl rfl)
theorem dJ24_afterNodeAccess_8 : decode cJ24_afterNodeAccess 8 = .ok (.aload_n 0, 1) := dk_42 (dk_at dksJ24_afterNodeAccess_0 8 rfl rfl)
theorem dJ24_afterNodeAccess_9 : decode cJ24_afterNodeAccess 9 = .ok (.getfield 1, 3) := dk_180 0 1 (dk_at dksJ24_afterNodeAccess_0 9 rfl rfl)
theorem dJ24_afterNodeAccess_12 : decode cJ24_afterNodeAccess 12 = .ok (.ifCond .ne 129, 3) := dk_154 0 129 (dk_at dksJ24_afterNodeAccess_0 12 rfl rfl)
theorem dJ24_afterNodeAccess_15 : decode cJ24_afterNodeAccess 15 = .ok (.aload_n 0, 1) := dk_42 (dk_at dksJ24_afterNodeAccess_0 15 rfl rfl)
theorem dJ24_afterNodeAccess_16 : decode cJ24_afterNodeAccess 16 = .ok (.getfield 64, 3) := dk_180 0 64 (dk_at dksJ24_afterNodeAccess_0 16 rfl rfl)
theorem dJ24_afterNodeAccess_19 : decode cJ24_afterNodeAccess 19 = .ok (.ifCond .eq 122, 3) := dk_153 0 122 (dk_at dksJ24_afterNodeAccess_0 19 rfl rfl)
theorem dJ24_afterNodeAccess_22 : decode cJ24_afterNodeAccess 22 = .ok (.aload_n 0, 1) := dk_42 (dk_at dksJ24_afterNodeAccess_0 22 rfl rfl)
theorem dJ24_afterNodeAccess_23 : decode cJ24_afterNodeAccess 23 = .ok (.getfield 11, 3) := dk_180 0 11 (dk_at dksJ24_afterNodeAccess_1 0 rfl rfl)
theorem dJ24_afterNodeAccess_26 : decode cJ24_afterNodeAccess 26 = .ok (.dup, 1) := dk_89 (dk_at dksJ24_afterNodeAccess_1 3 rfl rfl)
theorem dJ24_afterNodeAccess_27 : decode cJ24_afterNodeAccess 27 = .ok (.astore_n 2, 1) := dk_77 (dk_at dksJ24_afterNodeAccess_1 4 rfl rfl)
theorem dJ24_afterNodeAccess_28 : decode cJ24_afterNodeAccess 28 = .ok (.aload_n 1, 1) := dk_43 (dk_at dksJ24_afterNodeAccess_1 5 rfl rfl)
theorem dJ24_afterNodeAccess_29 : decode cJ24_afterNodeAccess 29 = .ok (.if_acmp .eq 112, 3) := dk_165 0 112 (dk_at dksJ24_afterNodeAccess_1 6 rfl rfl)
theorem dJ24_afterNodeAccess_32 : decode cJ24_afterNodeAccess 32 = .ok (.aload_n 1, 1) := dk_43 (dk_at dksJ24_afterNodeAccess_1 9 rfl rfl)
theorem dJ24_afterNodeAccess_33 : decode cJ24_afterNodeAccess 33 = .ok (.checkcast 15, 3) := dk_192 0 15 (dk_at dksJ24_afterNodeAccess_1 10 rfl rfl)
theorem dJ24_afterNodeAccess_36 : decode cJ24_afterNodeAccess 36 = .ok (.astore 4, 2) := dk_58 4 (dk_at dksJ24_afterNodeAccess_1 13 rfl rfl)
theorem dJ24_afterNodeAccess_38 : decode cJ24_afterNodeAccess 38 = .ok (.aload 4, 2) := dk_25 4 (dk_at dksJ24_afterNodeAccess_1 15 rfl rfl)
theorem dJ24_afterNodeAccess_40 : decode cJ24_afterNodeAccess 40 = .ok (.getfield 19, 3) := dk_180 0 19 (dk_at dksJ24_afterNodeAccess_1 17 rfl rfl)
theorem dJ24_afterNodeAccess_43 : decode cJ24_afterNodeAccess 43 = .ok (.astore 5, 2) := dk_58 5 (dk_at dksJ24_afterNodeAccess_1 20 rfl rfl)
theorem dJ24_afterNodeAccess_45 : decode cJ24_afterNodeAccess 45 = .ok (.aload 4, 2) := dk_25 4 (dk_at dksJ24_afterNodeAccess_1 22 rfl rfl)
theorem dJ24_afterNodeAccess_47 : decode cJ24_afterNodeAccess 47 = .ok (.getfield 14, 3) := dk_180 0 14 (dk_at dksJ24_afterNodeAccess_2 0 rfl rfl)
theorem dJ24_afterNodeAccess_50 : decode cJ24_afterNodeAccess 50 = .ok (.astore 6, 2) := dk_58 6 (dk_at dksJ24_afterNodeAccess_2 3 rfl rfl)
theorem dJ24_afterNodeAccess_52 : decode cJ24_afterNodeAccess 52 = .ok (.aload 4, 2) := dk_25 4 (dk_at dksJ24_afterNodeAccess_2 5 rfl rfl)
theorem dJ24_afterNodeAccess_54 : decode cJ24_afterNodeAccess 54 = .ok (.aconst_null, 1) := dk_1 (dk_at dksJ24_afterNodeAccess_2 7 rfl rfl)
theorem dJ24_afterNodeAccess_55 : decode cJ24_afterNodeAccess 55 = .ok (.putfield 14, 3) := dk_181 0 14 (dk_at dksJ24_afterNodeAccess_2 8 rfl rfl)
theorem dJ24_afterNodeAccess_58 : decode cJ24_afterNodeAccess 58 = .ok (.aload 5, 2) := dk_25 5 (dk_at dksJ24_afterNodeAccess_2 11 rfl rfl)
theorem dJ24_afterNodeAccess_60 : decode cJ24_afterNodeAccess 60 = .ok (.ifnonnull 12, 3) := dk_199 0 12 (dk_at dksJ24_afterNodeAccess_2 13 rfl rfl)
theorem dJ24_afterNodeAccess_63 : decode cJ24_afterNodeAccess 63 = .ok (.aload_n 0, 1) := dk_42 (dk_at dksJ24_afterNodeAccess_2 16 rfl rfl)
theorem dJ24_afterNodeAccess_64 : decode cJ24_afterNodeAccess 64 = .ok (.aload 6, 2) := dk_25 6 (dk_at dksJ24_afterNodeAccess_2 17 rfl rfl)
theorem dJ24_afterNodeAccess_66 : decode cJ24_afterNodeAccess 66 = .ok (.putfield 7, 3) := dk_181 0 7 (dk_at dksJ24_afterNodeAccess_2 19 rfl rfl)
theorem dJ24_afterNodeAccess_69 : decode cJ24_afterNodeAccess 69 = .ok (.goto 10, 3) := dk_167 0 10 (dk_at dksJ24_afterNodeAccess_3 0 rfl rfl)
theorem dJ24_afterNodeAccess_72 : decode cJ24_afterNodeAccess 72 = .ok (.aload 5, 2) := dk_25 5 (dk_at dksJ24_afterNodeAccess_3 3 rfl rfl)
theorem dJ24_afterNodeAccess_74 : decode cJ24_afterNodeAccess 74 = .ok (.aload 6, 2) := dk_25 6 (dk_at dksJ24_afterNodeAccess_3 5 rfl rfl)
theorem dJ24_afterNodeAccess_76 : decode cJ24_afterNodeAccess 76 = .ok (.putfield 14, 3) := dk_181 0 14 (dk_at dksJ24_afterNodeAccess_3 7 rfl rfl)
theorem dJ24_afterNodeAccess_79 : decode cJ24_afterNodeAccess 79 = .ok (.aload 6, 2) := dk_25 6 (dk_at dksJ24_afterNodeAccess_3 10 rfl rfl)
theorem dJ24_afterNodeAccess_81 : decode cJ24_afterNodeAccess 81 = .ok (.ifnull 13, 3) := dk_198 0 13 (dk_at dksJ24_afterNodeAccess_3 12 rfl rfl)
theorem dJ24_afterNodeAccess_84 : decode cJ24_afterNodeAccess 84 = .ok (.aload 6, 2) := dk_25 6 (dk_at dksJ24_afterNodeAccess_3 15 rfl rfl)
theorem dJ24_afterNodeAccess_86 : decode cJ24_afterNodeAccess 86 = .ok (.aload 5, 2) := dk_25 5 (dk_at dksJ24_afterNodeAccess_3 17 rfl rfl)
theorem dJ24_afterNodeAccess_88 : decode cJ24_afterNodeAccess 88 = .ok (.putfield 19, 3) := dk_181 0 19 (dk_at dksJ24_afterNodeAccess_3 19 rfl rfl)
theorem dJ24_afterNodeAccess_91 : decode cJ24_afterNodeAccess 91 = .ok (.goto 6, 3) := dk_167 0 6 (dk_at dksJ24_afterNodeAccess_4 0 rfl rfl)
theorem dJ24_afterNodeAccess_94 : decode cJ24_afterNodeAccess 94 = .ok (.aload 5, 2) := dk_25 5 (dk_at dksJ24_afterNodeAccess_4 3 rfl rfl)
theorem dJ24_afterNodeAccess_96 : decode cJ24_afterNodeAccess 96 = .ok (.astore_n 2, 1) := dk_77 (dk_at dksJ24_afterNodeAccess_4 5 rfl rfl)
theorem dJ24_afterNodeAccess_97 : decode cJ24_afterNodeAccess 97 = .ok (.aload_n 2, 1) := dk_44 (dk_at dksJ24_afterNodeAccess_4 6 rfl rfl)
theorem dJ24_afterNodeAccess_98 : decode cJ24_afterNodeAccess 98 = .ok (.ifnonnull 12, 3) := dk_199 0 12 (dk_at dksJ24_afterNodeAccess_4 7 rfl rfl)
theorem dJ24_afterNodeAccess_101 : decode cJ24_afterNodeAccess 101 = .ok (.aload_n 0, 1) := dk_42 (dk_at dksJ24_afterNodeAccess_4 10 rfl rfl)
theorem dJ24_afterNodeAccess_102 : decode cJ24_afterNodeAccess 102 = .ok (.aload 4, 2) := dk_25 4 (dk_at dksJ24_afterNodeAccess_4 11 rfl rfl)
theorem dJ24_afterNodeAccess_104 : decode cJ24_afterNodeAccess 104 = .ok (.putfield 7, 3) := dk_181 0 7 (dk_at dksJ24_afterNodeAccess_4 13 rfl rfl)
theorem dJ24_afterNodeAccess_107 : decode cJ24_afterNodeAccess 107 = .ok (.goto 15, 3) := dk_167 0 15 (dk_at dksJ24_afterNodeAccess_4 16 rfl rfl)
theorem dJ24_afterNodeAccess_110 : decode cJ24_afterNodeAccess 110 = .ok (.aload 4, 2) := dk_25 4 (dk_at dksJ24_afterNodeAccess_4 19 rfl rfl)
theorem dJ24_afterNodeAccess_112 : decode cJ24_afterNodeAccess 112 = .ok (.aload_n 2, 1) := dk_44 (dk_at dksJ24_afterNodeAccess_4 21 rfl rfl)
theorem dJ24_afterNodeAccess_113 : decode cJ24_afterNodeAccess 113 = .ok (.putfield 19, 3) := dk_181 0 19 (dk_at dksJ24_afterNodeAccess_5 0 rfl rfl)
theorem dJ24_afterNodeAccess_116 : decode cJ24_afterNodeAccess 116 = .ok (.aload_n 2, 1) := dk_44 (dk_at dksJ24_afterNodeAccess_5 3 rfl rfl)
theorem dJ24_afterNodeAccess_117 : decode cJ24_afterNodeAccess 117 = .ok (.aload 4, 2) := dk_25 4 (dk_at dksJ24_afterNodeAccess_5 4 rfl rfl)
theorem dJ24_afterNodeAccess_119 : decode cJ24_afterNodeAccess 119 = .ok (.putfield 14, 3) := dk_181 0 14 (dk_at dksJ24_afterNodeAccess_5 6 rfl rfl)
theorem dJ24_afterNodeAccess_122 : decode cJ24_afterNodeAccess 122 = .ok (.aload_n 0, 1) := dk_42 (dk_at dksJ24_afterNodeAccess_5 9 rfl rfl)
theorem dJ24_afterNodeAccess_123 : decode cJ24_afterNodeAccess 123 = .ok (.aload 4, 2) := dk_25 4 (dk_at dksJ24_afterNodeAccess_5 10 rfl rfl)
theorem dJ24_afterNodeAccess_125 : decode cJ24_afterNodeAccess 125 = .ok (.putfield 11, 3) := dk_181 0 11 (dk_at dksJ24_afterNodeAccess_5 12 rfl rfl)
theorem dJ24_afterNodeAccess_128 : decode cJ24_afterNodeAccess 128 = .ok (.aload_n 0, 1) := dk_42 (dk_at dksJ24_afterNodeAccess_5 15 rfl rfl)
theorem dJ24_afterNodeAccess_129 : decode cJ24_afterNodeAccess 129 = .ok (.dup, 1) := dk_89 (dk_at dksJ24_afterNodeAccess_5 16 rfl rfl)
theorem dJ24_afterNodeAccess_130 : decode cJ24_afterNodeAccess 130 = .ok (.getfield 68, 3) := dk_180 0 68 (dk_at dksJ24_afterNodeAccess_5 17 rfl rfl)
theorem dJ24_afterNodeAccess_133 : decode cJ24_afterNodeAccess 133 = .ok (.iconst 1, 1) := dk_4 (dk_at dksJ24_afterNodeAccess_5 20 rfl rfl)
theorem dJ24_afterNodeAccess_134 : decode cJ24_afterNodeAccess 134 = .ok (.iadd, 1) := dk_96 (dk_at dksJ24_afterNodeAccess_5 21 rfl rfl)
theorem dJ24_afterNodeAccess_135 : decode cJ24_afterNodeAccess 135 = .ok (.putfield 68, 3) := dk_181 0 68 (dk_at dksJ24_afterNodeAccess_6 0 rfl rfl)
theorem dJ24_afterNodeAccess_138 : decode cJ24_afterNodeAccess 138 = .ok (.goto 127, 3) := dk_167 0 127 (dk_at dksJ24_afterNodeAccess_6 3 rfl rfl)
theorem dJ24_afterNodeAccess_141 : decode cJ24_afterNodeAccess 141 = .ok (.aload_n 0, 1) := dk_42 (dk_at dksJ24_afterNodeAccess_6 6 rfl rfl)
theorem dJ24_afterNodeAccess_142 : decode cJ24_afterNodeAccess 142 = .ok (.getfield 1, 3) := dk_180 0 1 (dk_at dksJ24_afterNodeAccess_6 7 rfl rfl)
theorem dJ24_afterNodeAccess_145 : decode cJ24_afterNodeAccess 145 = .ok (.iconst 1, 1) := dk_4 (dk_at dksJ24_afterNodeAccess_6 10 rfl rfl)
theorem dJ24_afterNodeAccess_146 : decode cJ24_afterNodeAccess 146 = .ok (.if_icmp .ne 119, 3) := dk_160 0 119 (dk_at dksJ24_afterNodeAccess_6 11 rfl rfl)
theorem dJ24_afterNodeAccess_149 : decode cJ24_afterNodeAccess 149 = .ok (.aload_n 0, 1) := dk_42 (dk_at dksJ24_afterNodeAccess_6 14 rfl rfl)
theorem dJ24_afterNodeAccess_150 : decode cJ24_afterNodeAccess 150 = .ok (.getfield 7, 3) := dk_180 0 7 (dk_at dksJ24_afterNodeAccess_6 15 rfl rfl)
theorem dJ24_afterNodeAccess_153 : decode cJ24_afterNodeAccess 153 = .ok (.dup, 1) := dk_89 (dk_at dksJ24_afterNodeAccess_6 18 rfl rfl)
theorem dJ24_afterNodeAccess_154 : decode cJ24_afterNodeAccess 154 = .ok (.astore_n 3, 1) := dk_78 (dk_at dksJ24_afterNodeAccess_6 19 rfl rfl)
theorem dJ24_afterNodeAccess_155 : decode cJ24_afterNodeAccess 155 = .ok (.aload_n 1, 1) := dk_43 (dk_at dksJ24_afterNodeAccess_6 20 rfl rfl)
theorem dJ24_afterNodeAccess_156 : decode cJ24_afterNodeAccess 156 = .ok (.if_acmp .eq 109, 3) := dk_165 0 109 (dk_at dksJ24_afterNodeAccess_6 21 rfl rfl)
theorem dJ24_afterNodeAccess_159 : decode cJ24_afterNodeAccess 159 = .ok (.aload_n 1, 1) := dk_43 (dk_at dksJ24_afterNodeAccess_7 0 rfl rfl)
theorem dJ24_afterNodeAccess_160 : decode cJ24_afterNodeAccess 160 = .ok (.checkcast 15, 3) := dk_192 0 15 (dk_at dksJ24_afterNodeAccess_7 1 rfl rfl)
theorem dJ24_afterNodeAccess_163 : decode cJ24_afterNodeAccess 163 = .ok (.astore 4, 2) := dk_58 4 (dk_at dksJ24_afterNodeAccess_7 4 rfl rfl)
theorem dJ24_afterNodeAccess_165 : decode cJ24_afterNodeAccess 165 = .ok (.aload 4, 2) := dk_25 4 (dk_at dksJ24_afterNodeAccess_7 6 rfl rfl)
theorem dJ24_afterNodeAccess_167 : decode cJ24_afterNodeAccess 167 = .ok (.getfield 19, 3) := dk_180 0 19 (dk_at dksJ24_afterNodeAccess_7 8 rfl rfl)
theorem dJ24_afterNodeAccess_170 : decode cJ24_afterNodeAccess 170 = .ok (.astore 5, 2) := dk_58 5 (dk_at dksJ24_afterNodeAccess_7 11 rfl rfl)
theorem dJ24_afterNodeAccess_172 : decode cJ24_afterNodeAccess 172 = .ok (.aload 4, 2) := dk_25 4 (dk_at dksJ24_afterNodeAccess_7 13 rfl rfl)
theorem dJ24_afterNodeAccess_174 : decode cJ24_afterNodeAccess 174 = .ok (.getfield 14, 3) := dk_180 0 14 (dk_at dksJ24_afterNodeAccess_7 15 rfl rfl)
theorem dJ24_afterNodeAccess_177 : decode cJ24_afterNodeAccess 177 = .ok (.astore 6, 2) := dk_58 6 (dk_at dksJ24_afterNodeAccess_7 18 rfl rfl)
theorem dJ24_afterNodeAccess_179 : decode cJ24_afterNodeAccess 179 = .ok (.aload 4, 2) := dk_25 4 (dk_at dksJ24_afterNodeAccess_7 20 rfl rfl)
theorem dJ24_afterNodeAccess_181 : decode cJ24_afterNodeAccess 181 = .ok (.aconst_null, 1) := dk_1 (dk_at dksJ24_afterNodeAccess_7 22 rfl rfl)
theorem dJ24_afterNodeAccess_182 : decode cJ24_afterNodeAccess 182 = .ok (.putfield 19, 3) := dk_181 0 19 (dk_at dksJ24_afterNodeAccess_8 0 rfl rfl)
theorem dJ24_afterNodeAccess_185 : decode cJ24_afterNodeAccess 185 = .ok (.aload 6, 2) := dk_25 6 (dk_at dksJ24_afterNodeAccess_8 3 rfl rfl)
theorem dJ24_afterNodeAccess_187 : decode cJ24_afterNodeAccess 187 = .ok (.ifnonnull 12, 3) := dk_199 0 12 (dk_at dksJ24_afterNodeAccess_8 5 rfl rfl)
theorem dJ24_afterNodeAccess_190 : decode cJ24_afterNodeAccess 190 = .ok (.aload_n 0, 1) := dk_42 (dk_at dksJ24_afterNodeAccess_8 8 rfl rfl)
theorem dJ24_afterNodeAccess_191 : decode cJ24_afterNodeAccess 191 = .ok (.aload 5, 2) := dk_25 5 (dk_at dksJ24_afterNodeAccess_8 9 rfl rfl)
theorem dJ24_afterNodeAccess_193 : decode cJ24_afterNodeAccess 193 = .ok (.putfield 11, 3) := dk_181 0 11 (dk_at dksJ24_afterNodeAccess_8 11 rfl rfl)
theorem dJ24_afterNodeAccess_196 : decode cJ24_afterNodeAccess 196 = .ok (.goto 10, 3) := dk_167 0 10 (dk_at dksJ24_afterNodeAccess_8 14 rfl rfl)
theorem dJ24_afterNodeAccess_199 : decode cJ24_afterNodeAccess 199 = .ok (.aload 6, 2) := dk_25 6 (dk_at dksJ24_afterNodeAccess_8 17 rfl rfl)
theorem dJ24_afterNodeAccess_201 : decode cJ24_afterNodeAccess 201 = .ok (.aload 5, 2) := dk_25 5 (dk_at dksJ24_afterNodeAccess_8 19 rfl rfl)
theorem dJ24_afterNodeAccess_203 : decode cJ24_afterNodeAccess 203 = .ok (.putfield 19, 3) := dk_181 0 19 (dk_at dksJ24_afterNodeAccess_8 21 rfl rfl)
theorem dJ24_afterNodeAccess_206 : decode cJ24_afterNodeAccess 206 = .ok (.aload 5, 2) := dk_25 5 (dk_at dksJ24_afterNodeAccess_9 0 rfl rfl)
theorem dJ24_afterNodeAccess_208 : decode cJ24_afterNodeAccess 208 = .ok (.ifnull 13, 3) := dk_198 0 13 (dk_at dksJ24_afterNodeAccess_9 2 rfl rfl)
theorem dJ24_afterNodeAccess_211 : decode cJ24_afterNodeAccess 211 = .ok (.aload 5, 2) := dk_25 5 (dk_at dksJ24_afterNodeAccess_9 5 rfl rfl)
theorem dJ24_afterNodeAccess_213 : decode cJ24_afterNodeAccess 213 = .ok (.aload 6, 2) := dk_25 6 (dk_at dksJ24_afterNodeAccess_9 7 rfl rfl)
theorem dJ24_afterNodeAccess_215 : decode cJ24_afterNodeAccess 215 = .ok (.putfield 14, 3) := dk_181 0 14 (dk_at dksJ24_afterNodeAccess_9 9 rfl rfl)
theorem dJ24_afterNodeAccess_218 : decode cJ24_afterNodeAccess 218 = .ok (.goto 6, 3) := dk_167 0 6 (dk_at dksJ24_afterNodeAccess_9 12 rfl rfl)
theorem dJ24_afterNodeAccess_221 : decode cJ24_afterNodeAccess 221 = .ok (.aload 6, 2) := dk_25 6 (dk_at dksJ24_afterNodeAccess_9 15 rfl rfl)
theorem dJ24_afterNodeAccess_223 : decode cJ24_afterNodeAccess 223 = .ok (.astore_n 3, 1) := dk_78 (dk_at dksJ24_afterNodeAccess_9 17 rfl rfl)
theorem dJ24_afterNodeAccess_224 : decode cJ24_afterNodeAccess 224 = .ok (.aload_n 3, 1) := dk_45 (dk_at dksJ24_afterNodeAccess_9 18 rfl rfl)
theorem dJ24_afterNodeAccess_225 : decode cJ24_afterNodeAccess 225 = .ok (.ifnonnull 12, 3) := dk_199 0 12 (dk_at dksJ24_afterNodeAccess_9 19 rfl rfl)
theorem dJ24_afterNodeAccess_228 : decode cJ24_afterNodeAccess 228 = .ok (.aload_n 0, 1) := dk_42 (dk_at dksJ24_afterNodeAccess_9 22 rfl rfl)
theorem dJ24_afterNodeAccess_229 : decode cJ24_afterNodeAccess 229 = .ok (.aload 4, 2) := dk_25 4 (dk_at dksJ24_afterNodeAccess_10 0 rfl rfl)
theorem dJ24_afterNodeAccess_231 : decode cJ24_afterNodeAccess 231 = .ok (.putfield 11, 3) := dk_181 0 11 (dk_at dksJ24_afterNodeAccess_10 2 rfl rfl)
theorem dJ24_afterNodeAccess_234 : decode cJ24_afterNodeAccess 234 = .ok (.goto 15, 3) := dk_167 0 15 (dk_at dksJ24_afterNodeAccess_10 5 rfl rfl)
theorem dJ24_afterNodeAccess_237 : decode cJ24_afterNodeAccess 237 = .ok (.aload 4, 2) := dk_25 4 (dk_at dksJ24_afterNodeAccess_10 8 rfl rfl)
theorem dJ24_afterNodeAccess_239 : decode cJ24_afterNodeAccess 239 = .ok (.aload_n 3, 1) := dk_45 (dk_at dksJ24_afterNodeAccess_10 10 rfl rfl)
theorem dJ24_afterNodeAccess_240 : decode cJ24_afterNodeAccess 240 = .ok (.putfield 14, 3) := dk_181 0 14 (dk_at dksJ24_afterNodeAccess_10 11 rfl rfl)
theorem dJ24_afterNodeAccess_243 : decode cJ24_afterNodeAccess 243 = .ok (.aload_n 3, 1) := dk_45 (dk_at dksJ24_afterNodeAccess_10 14 rfl rfl)
theorem dJ24_afterNodeAccess_244 : decode cJ24_afterNodeAccess 244 = .ok (.aload 4, 2) := dk_25 4 (dk_at dksJ24_afterNodeAccess_10 15 rfl rfl)
theorem dJ24_afterNodeAccess_246 : decode cJ24_afterNodeAccess 246 = .ok (.putfield 19, 3) := dk_181 0 19 (dk_at dksJ24_afterNodeAccess_10 17 rfl rfl)
theorem dJ24_afterNodeAccess_249 : decode cJ24_afterNodeAccess 249 = .ok (.aload_n 0, 1) := dk_42 (dk_at dksJ24_afterNodeAccess_10 20 rfl rfl)
theorem dJ24_afterNodeAccess_250 : decode cJ24_afterNodeAccess 250 = .ok (.aload 4, 2) := dk_25 4 (dk_at dksJ24_afterNodeAccess_10 21 rfl rfl)
theorem dJ24_afterNodeAccess_252 : decode cJ24_afterNodeAccess 252 = .ok (.putfield 7, 3) := dk_181 0 7 (dk_at dksJ24_afterNodeAccess_11 0 rfl rfl)
theorem dJ24_afterNodeAccess_255 : decode cJ24_afterNodeAccess 255 = .ok (.aload_n 0, 1) := dk_42 (dk_at dksJ24_afterNodeAccess_11 3 rfl rfl)
theorem dJ24_afterNodeAccess_256 : decode cJ24_afterNodeAccess 256 = .ok (.dup, 1) := dk_89 (dk_at dksJ24_afterNodeAccess_11 4 rfl rfl)
theorem dJ24_afterNodeAccess_257 : decode cJ24_afterNodeAccess 257 = .ok (.getfield 68, 3) := dk_180 0 68 (dk_at dksJ24_afterNodeAccess_11 5 rfl rfl)
theorem dJ24_afterNodeAccess_260 : decode cJ24_afterNodeAccess 260 = .ok (.iconst 1, 1) := dk_4 (dk_at dksJ24_afterNodeAccess_11 8 rfl rfl)
theorem dJ24_afterNodeAccess_261 : decode cJ24_afterNodeAccess 261 = .ok (.iadd, 1) := dk_96 (dk_at dksJ24_afterNodeAccess_11 9 rfl rfl)
theorem dJ24_afterNodeAccess_262 : decode cJ24_afterNodeAccess 262 = .ok (.putfield 68, 3) := dk_181 0 68 (dk_at dksJ24_afterNodeAccess_11 10 rfl rfl)
theorem dJ24_afterNodeAccess_265 : decode cJ24_afterNodeAccess 265 = .ok (.return_, 1) := dk_177 (dk_at dksJ24_afterNodeAccess_11 13 rfl rfl)
abbrev cJ24_init_2 : ByteArray := prog_72_method_14_code
def yJ24_init_2 : MethodName := ⟨RJ24, "<init>", "(IF)V"⟩
def dkwJ24_init_2_0 : List UInt8 := [42, 27, 36, 183, 0, 81, 42, 3, 181, 0, 1, 42, 3, 181, 0, 64, 177]
abbrev dktJ24_init_2_0 : List UInt8 := dkwJ24_init_2_0 ++ []
theorem dksJ24_init_2_0 : cJ24_init_2.data.toList.drop 0 = dktJ24_init_2_0 := by decide +kernel
theorem dJ24_init_2_0 : decode cJ24_init_2 0 = .ok (.aload_n 0, 1) := dk_42 (dk_at dksJ24_init_2_0 0 rfl rfl)
theorem dJ24_init_2_1 : decode cJ24_init_2 1 = .ok (.iload_n 1, 1) := dk_27 (dk_at dksJ24_init_2_0 1 rfl rfl)
theorem dJ24_init_2_2 : decode cJ24_init_2 2 = .ok (.fload_n 2, 1) := dk_36 (dk_at dksJ24_init_2_0 2 rfl rfl)
theorem dJ24_init_2_3 : decode cJ24_init_2 3 = .ok (.invokespecial 81, 3) := dk_183 0 81 (dk_at dksJ24_init_2_0 3 rfl rfl)
theorem dJ24_init_2_6 : decode cJ24_init_2 6 = .ok (.aload_n 0, 1) := dk_42 (dk_at dksJ24_init_2_0 6 rfl rfl)
theorem dJ24_init_2_7 : decode cJ24_init_2 7 = .ok (.iconst 0, 1) := dk_3 (dk_at dksJ24_init_2_0 7 rfl rfl)
theorem dJ24_init_2_8 : decode cJ24_init_2 8 = .ok (.putfield 1, 3) := dk_181 0 1 (dk_at dksJ24_init_2_0 8 rfl rfl)
theorem dJ24_init_2_11 : decode cJ24_init_2 11 = .ok (.aload_n 0, 1) := dk_42 (dk_at dksJ24_init_2_0 11 rfl rfl)
theorem dJ24_init_2_12 : decode cJ24_init_2 12 = .ok (.iconst 0, 1) := dk_3 (dk_at dksJ24_init_2_0 12 rfl rfl)
theorem dJ24_init_2_13 : decode cJ24_init_2 13 = .ok (.putfield 64, 3) := dk_181 0 64 (dk_at dksJ24_init_2_0 13 rfl rfl)
theorem dJ24_init_2_16 : decode cJ24_init_2 16 = .ok (.return_, 1) := dk_177 (dk_at dksJ24_init_2_0 16 rfl rfl)
abbrev cJ24_newNode : ByteArray := prog_72_method_4_code
def yJ24_newNode : MethodName := ⟨RJ24, "newNode", "(ILjava/lang/Object;Ljava/lang/Object;Ljava/util/HashMap$Node;)Ljava/util/HashMap$Node;"⟩
def dkwJ24_newNode_0 : List UInt8 := [187, 0, 15, 89, 27, 44, 45, 25, 4, 183, 0, 28, 58, 5, 42, 25, 5, 182, 0, 32, 25, 5, 176]
abbrev dktJ24_newNode_0 : List UInt8 := dkwJ24_newNode_0 ++ []
theorem dksJ24_newNode_0 : cJ24_newNode.data.toList.drop 0 = dktJ24_newNode_0 := by decide +kernel
theorem dJ24_newNode_0 : decode cJ24_newNode 0 = .ok (.new 15, 3) := dk_187 0 15 (dk_at dksJ24_newNode_0 0 rfl rfl)
theorem dJ24_newNode_3 : decode cJ24_newNode 3 = .ok (.dup, 1) := dk_89 (dk_at dksJ24_newNode_0 3 rfl rfl)
theorem dJ24_newNode_4 : decode cJ24_newNode 4 = .ok (.iload_n 1, 1) := dk_27 (dk_at dksJ24_newNode_0 4 rfl rfl)
theorem dJ24_newNode_5 : decode cJ24_newNode 5 = .ok (.aload_n 2, 1) := dk_44 (dk_at dksJ24_newNode_0 5 rfl rfl)
theorem dJ24_newNode_6 : decode cJ24_newNode 6 = .ok (.aload_n 3, 1) := dk_45 (dk_at dksJ24_newNode_0 6 rfl rfl)
theorem dJ24_newNode_7 : decode cJ24_newNode 7 = .ok (.aload 4, 2) := dk_25 4 (dk_at dksJ24_newNode_0 7 rfl rfl)
theorem dJ24_newNode_9 : decode cJ24_newNode 9 = .ok (.invokespecial 28, 3) := dk_183 0 28 (dk_at dksJ24_newNode_0 9 rfl rfl)
theorem dJ24_newNode_12 : decode cJ24_newNode 12 = .ok (.astore 5, 2) := dk_58 5 (dk_at dksJ24_newNode_0 12 rfl rfl)
theorem dJ24_newNode_14 : decode cJ24_newNode 14 = .ok (.aload_n 0, 1) := dk_42 (dk_at dksJ24_newNode_0 14 rfl rfl)
theorem dJ24_newNode_15 : decode cJ24_newNode 15 = .ok (.aload 5, 2) := dk_25 5 (dk_at dksJ24_newNode_0 15 rfl rfl)
theorem dJ24_newNode_17 : decode cJ24_newNode 17 = .ok (.invokevirtual 32, 3) := dk_182 0 32 (dk_at dksJ24_newNode_0 17 rfl rfl)
theorem dJ24_newNode_20 : decode cJ24_newNode 20 = .ok (.aload 5, 2) := dk_25 5 (dk_at dksJ24_newNode_0 20 rfl rfl)
theorem dJ24_newNode_22 : decode cJ24_newNode 22 = .ok (.areturn, 1) := dk_176 (dk_at dksJ24_newNode_0 22 rfl rfl)
abbrev cJ24_linkNodeAtEnd : ByteArray := prog_72_method_1_code
def yJ24_linkNodeAtEnd : MethodName := ⟨RJ24, "linkNodeAtEnd", "(Ljava/util/LinkedHashMap$Entry;)V"⟩
def dkwJ24_linkNodeAtEnd_3 : List UInt8 := [181, 0, 14, 177]
abbrev dktJ24_linkNodeAtEnd_3 : List UInt8 := dkwJ24_linkNodeAtEnd_3 ++ []
def dkwJ24_linkNodeAtEnd_2 : List UInt8 := [42, 43, 181, 0, 11, 44, 199, 0, 11, 42, 43, 181, 0, 7, 167, 0, 13, 43, 44, 181, 0, 19, 44, 43]
abbrev dktJ24_linkNodeAtEnd_2 : List UInt8 := dkwJ24_linkNodeAtEnd_2 ++ dktJ24_linkNodeAtEnd_3
def dkwJ24_linkNodeAtEnd_1 : List UInt8 := [181, 0, 11, 167, 0, 13, 43, 44, 181, 0, 14, 44, 43, 181, 0, 19, 167, 0, 35, 42, 180, 0, 11, 77]
abbrev dktJ24_linkNodeAtEnd_1 : List UInt8 := dkwJ24_linkNodeAtEnd_1 ++ dktJ24_linkNodeAtEnd_2
def dkwJ24_linkNodeAtEnd_0 : List UInt8 := [42, 180, 0, 1, 4, 160, 0, 38, 42, 180, 0, 7, 77, 42, 43, 181, 0, 7, 44, 199, 0, 11, 42, 43]
abbrev dktJ24_linkNodeAtEnd_0 : List UInt8 := dkwJ24_linkNodeAtEnd_0 ++ dktJ24_linkNodeAtEnd_1
theorem dksJ24_linkNodeAtEnd_0 : cJ24_linkNodeAtEnd.data.toList.drop 0 = dktJ24_linkNodeAtEnd_0 := by decide +kernel
theorem dksJ24_linkNodeAtEnd_1 : cJ24_linkNodeAtEnd.data.toList.drop 24 = dktJ24_linkNodeAtEnd_1 := dk_seg dksJ24_linkNodeAtEnd_0 24 rfl rfl
theorem dksJ24_linkNodeAtEnd_2 : cJ24_linkNodeAtEnd.data.toList.drop 48 = dktJ24_linkNodeAtEnd_2 := dk_seg dksJ24_linkNodeAtEnd_1 24 rfl rfl
theorem dksJ24_linkNodeAtEnd_3 : cJ24_linkNodeAtEnd.data.toList.drop 72 = dktJ24_linkNodeAtEnd_3 := dk_seg dksJ24_linkNodeAtEnd_2 24 rfl rfl
theorem dJ24_linkNodeAtEnd_0 : decode cJ24_linkNodeAtEnd 0 = .ok (.aload_n 0, 1) := dk_42 (dk_at dksJ24_linkNodeAtEnd_0 0 rfl rfl)
theorem dJ24_linkNodeAtEnd_1 : decode cJ24_linkNodeAtEnd 1 = .ok (.getfield 1, 3) := dk_180 0 1 (dk_at dksJ24_linkNodeAtEnd_0 1 rfl rfl)
theorem dJ24_linkNodeAtEnd_4 : decode cJ24_linkNodeAtEnd 4 = .ok (.iconst 1, 1) := dk_4 (dk_at dksJ24_linkNodeAtEnd_0 4 rfl rfl)
theorem dJ24_linkNodeAtEnd_5 : decode cJ24_linkNodeAtEnd 5 = .ok (.if_icmp .ne 38, 3) := dk_160 0 38 (dk_at dksJ24_linkNodeAtEnd_0 5 rfl rfl)
theorem dJ24_linkNodeAtEnd_8 : decode cJ24_linkNodeAtEnd 8 = .ok (.aload_n 0, 1) := dk_42 (dk_at dksJ24_linkNodeAtEnd_0 8 rfl rfl)
theorem dJ24_linkNodeAtEnd_9 : decode cJ24_linkNodeAtEnd 9 = .ok (.getfield 7, 3) := dk_180 0 7 (dk_at dksJ24_linkNodeAtEnd_0 9 rfl rfl)
theorem dJ24_linkNodeAtEnd_12 : decode cJ24_linkNodeAtEnd 12 = .ok (.astore_n 2, 1) := dk_77 (dk_at dksJ24_linkNodeAtEnd_0 12 rfl rfl)
theorem dJ24_linkNodeAtEnd_13 : decode cJ24_linkNodeAtEnd 13 = .ok (.aload_n 0, 1) := dk_42 (dk_at dksJ24_linkNodeAtEnd_0 13 rfl rfl)
theorem dJ24_linkNodeAtEnd_14 : decode cJ24_linkNodeAtEnd 14 = .ok (.aload_n 1, 1) := dk_43 (dk_at dksJ24_linkNodeAtEnd_0 14 rfl rfl)
theorem dJ24_linkNodeAtEnd_15 : decode cJ24_linkNodeAtEnd 15 = .ok (.putfield 7, 3) := dk_181 0 7 (dk_at dksJ24_linkNodeAtEnd_0 15 rfl rfl)
theorem dJ24_linkNodeAtEnd_18 : decode cJ24_linkNodeAtEnd 18 = .ok (.aload_n 2, 1) := dk_44 (dk_at dksJ24_linkNodeAtEnd_0 18 rfl rfl)
theorem dJ24_linkNodeAtEnd_19 : decode cJ24_linkNodeAtEnd 19 = .ok (.ifnonnull 11, 3) := dk_199 0 11 (dk_at dksJ24_linkNodeAtEnd_0 19 rfl rfl)
theorem dJ24_linkNodeAtEnd_22 : decode cJ24_linkNodeAtEnd 22 = .ok (.aload_n 0, 1) := dk_42 (dk_at dksJ24_linkNodeAtEnd_0 22 rfl rfl)
theorem dJ24_linkNodeAtEnd_23 : decode cJ24_linkNodeAtEnd 23 = .ok (.aload_n 1, 1) := dk_43 (dk_at dksJ24_linkNodeAtEnd_0 23 rfl rfl)
theorem dJ24_linkNodeAtEnd_24 : decode cJ24_linkNodeAtEnd 24 = .ok (.putfield 11, 3) := dk_181 0 11 (dk_at dksJ24_linkNodeAtEnd_1 0 rfl rfl)
theorem dJ24_linkNodeAtEnd_27 : decode cJ24_linkNodeAtEnd 27 = .ok (.goto 13, 3) := dk_167 0 13 (dk_at dksJ24_linkNodeAtEnd_1 3 rfl rfl)
theorem dJ24_linkNodeAtEnd_30 : decode cJ24_linkNodeAtEnd 30 = .ok (.aload_n 1, 1) := dk_43 (dk_at dksJ24_linkNodeAtEnd_1 6 rfl rfl)
theorem dJ24_linkNodeAtEnd_31 : decode cJ24_linkNodeAtEnd 31 = .ok (.aload_n 2, 1) := dk_44 (dk_at dksJ24_linkNodeAtEnd_1 7 rfl rfl)
theorem dJ24_linkNodeAtEnd_32 : decode cJ24_linkNodeAtEnd 32 = .ok (.putfield 14, 3) := dk_181 0 14 (dk_at dksJ24_linkNodeAtEnd_1 8 rfl rfl)
theorem dJ24_linkNodeAtEnd_35 : decode cJ24_linkNodeAtEnd 35 = .ok (.aload_n 2, 1) := dk_44 (dk_at dksJ24_linkNodeAtEnd_1 11 rfl rfl)
theorem dJ24_linkNodeAtEnd_36 : decode cJ24_linkNodeAtEnd 36 = .ok (.aload_n 1, 1) := dk_43 (dk_at dksJ24_linkNodeAtEnd_1 12 rfl rfl)
theorem dJ24_linkNodeAtEnd_37 : decode cJ24_linkNodeAtEnd 37 = .ok (.putfield 19, 3) := dk_181 0 19 (dk_at dksJ24_linkNodeAtEnd_1 13 rfl rfl)
theorem dJ24_linkNodeAtEnd_40 : decode cJ24_linkNodeAtEnd 40 = .ok (.goto 35, 3) := dk_167 0 35 (dk_at dksJ24_linkNodeAtEnd_1 16 rfl rfl)
theorem dJ24_linkNodeAtEnd_43 : decode cJ24_linkNodeAtEnd 43 = .ok (.aload_n 0, 1) := dk_42 (dk_at dksJ24_linkNodeAtEnd_1 19 rfl rfl)
theorem dJ24_linkNodeAtEnd_44 : decode cJ24_linkNodeAtEnd 44 = .ok (.getfield 11, 3) := dk_180 0 11 (dk_at dksJ24_linkNodeAtEnd_1 20 rfl rfl)
theorem dJ24_linkNodeAtEnd_47 : decode cJ24_linkNodeAtEnd 47 = .ok (.astore_n 2, 1) := dk_77 (dk_at dksJ24_linkNodeAtEnd_1 23 rfl rfl)
theorem dJ24_linkNodeAtEnd_48 : decode cJ24_linkNodeAtEnd 48 = .ok (.aload_n 0, 1) := dk_42 (dk_at dksJ24_linkNodeAtEnd_2 0 rfl rfl)
theorem dJ24_linkNodeAtEnd_49 : decode cJ24_linkNodeAtEnd 49 = .ok (.aload_n 1, 1) := dk_43 (dk_at dksJ24_linkNodeAtEnd_2 1 rfl rfl)
theorem dJ24_linkNodeAtEnd_50 : decode cJ24_linkNodeAtEnd 50 = .ok (.putfield 11, 3) := dk_181 0 11 (dk_at dksJ24_linkNodeAtEnd_2 2 rfl rfl)
theorem dJ24_linkNodeAtEnd_53 : decode cJ24_linkNodeAtEnd 53 = .ok (.aload_n 2, 1) := dk_44 (dk_at dksJ24_linkNodeAtEnd_2 5 rfl rfl)
theorem dJ24_linkNodeAtEnd_54 : decode cJ24_linkNodeAtEnd 54 = .ok (.ifnonnull 11, 3) := dk_199 0 11 (dk_at dksJ24_linkNodeAtEnd_2 6 rfl rfl)
theorem dJ24_linkNodeAtEnd_57 : decode cJ24_linkNodeAtEnd 57 = .ok (.aload_n 0, 1) := dk_42 (dk_at dksJ24_linkNodeAtEnd_2 9 rfl rfl)
theorem dJ24_linkNodeAtEnd_58 : decode cJ24_linkNodeAtEnd 58 = .ok (.aload_n 1, 1) := dk_43 (dk_at dksJ24_linkNodeAtEnd_2 10 rfl rfl)
theorem dJ24_linkNodeAtEnd_59 : decode cJ24_linkNodeAtEnd 59 = .ok (.putfield 7, 3) := dk_181 0 7 (dk_at dksJ24_linkNodeAtEnd_2 11 rfl rfl)
theorem dJ24_linkNodeAtEnd_62 : decode cJ24_linkNodeAtEnd 62 = .ok (.goto 13, 3) := dk_167 0 13 (dk_at dksJ24_linkNodeAtEnd_2 14 rfl rfl)
theorem dJ24_linkNodeAtEnd_65 : decode cJ24_linkNodeAtEnd 65 = .ok (.aload_n 1, 1) := dk_43 (dk_at dksJ24_linkNodeAtEnd_2 17 rfl rfl)
theorem dJ24_linkNodeAtEnd_66 : decode cJ24_linkNodeAtEnd 66 = .ok (.aload_n 2, 1) := dk_44 (dk_at dksJ24_linkNodeAtEnd_2 18 rfl rfl)
theorem dJ24_linkNodeAtEnd_67 : decode cJ24_linkNodeAtEnd 67 = .ok (.putfield 19, 3) := dk_181 0 19 (dk_at dksJ24_linkNodeAtEnd_2 19 rfl rfl)
theorem dJ24_linkNodeAtEnd_70 : decode cJ24_linkNodeAtEnd 70 = .ok (.aload_n 2, 1) := dk_44 (dk_at dksJ24_linkNodeAtEnd_2 22 rfl rfl)
theorem dJ24_linkNodeAtEnd_71 : decode cJ24_linkNodeAtEnd 71 = .ok (.aload_n 1, 1) := dk_43 (dk_at dksJ24_linkNodeAtEnd_2 23 rfl rfl)
theorem dJ24_linkNodeAtEnd_72 : decode cJ24_linkNodeAtEnd 72 = .ok (.putfield 14, 3) := dk_181 0 14 (dk_at dksJ24_linkNodeAtEnd_3 0 rfl rfl)
theorem dJ24_linkNodeAtEnd_75 : decode cJ24_linkNodeAtEnd 75 = .ok (.return_, 1) := dk_177 (dk_at dksJ24_linkNodeAtEnd_3 3 rfl rfl)
abbrev cJ24_afterNodeInsertion : ByteArray := prog_72_method_9_code
def yJ24_afterNodeInsertion : MethodName := ⟨RJ24, "afterNodeInsertion", "(Z)V"⟩
def dkwJ24_afterNodeInsertion_1 : List UInt8 := [180, 0, 39, 78, 42, 45, 184, 0, 57, 45, 1, 3, 4, 182, 0, 60, 87, 177]
abbrev dktJ24_afterNodeInsertion_1 : List UInt8 := dkwJ24_afterNodeInsertion_1 ++ []
def dkwJ24_afterNodeInsertion_0 : List UInt8 := [27, 153, 0, 38, 42, 180, 0, 7, 89, 77, 198, 0, 29, 42, 44, 182, 0, 53, 153, 0, 21, 44]
abbrev dktJ24_afterNodeInsertion_0 : List UInt8 := dkwJ24_afterNodeInsertion_0 ++ dktJ24_afterNodeInsertion_1
theorem dksJ24_afterNodeInsertion_0 : cJ24_afterNodeInsertion.data.toList.drop 0 = dktJ24_afterNodeInsertion_0 := by decide +kernel
theorem dksJ24_afterNodeInsertion_1 : cJ24_afterNodeInsertion.data.toList.drop 22 = dktJ24_afterNodeInsertion_1 := dk_seg dksJ24_afterNodeInsertion_0 22 rfl rfl
theorem dJ24_afterNodeInsertion_0 : decode cJ24_afterNodeInsertion 0 = .ok (.iload_n 1, 1) := dk_27 (dk_at dksJ24_afterNodeInsertion_0 0 rfl rfl)
theorem dJ24_afterNodeInsertion_1 : decode cJ24_afterNodeInsertion 1 = .ok (.ifCond .eq 38, 3) := dk_153 0 38 (dk_at dksJ24_afterNodeInsertion_0 1 rfl rfl)
theorem dJ24_afterNodeInsertion_4 : decode cJ24_afterNodeInsertion 4 = .ok (.aload_n 0, 1) := dk_42 (dk_at dksJ24_afterNodeInsertion_0 4 rfl rfl)
theorem dJ24_afterNodeInsertion_5 : decode cJ24_afterNodeInsertion 5 = .ok (.getfield 7, 3) := dk_180 0 7 (dk_at dksJ24_afterNodeInsertion_0 5 rfl rfl)
theorem dJ24_afterNodeInsertion_8 : decode cJ24_afterNodeInsertion 8 = .ok (.dup, 1) := dk_89 (dk_at dksJ24_afterNodeInsertion_0 8 rfl rfl)
theorem dJ24_afterNodeInsertion_9 : decode cJ24_afterNodeInsertion 9 = .ok (.astore_n 2, 1) := dk_77 (dk_at dksJ24_afterNodeInsertion_0 9 rfl rfl)
theorem dJ24_afterNodeInsertion_10 : decode cJ24_afterNodeInsertion 10 = .ok (.ifnull 29, 3) := dk_198 0 29 (dk_at dksJ24_afterNodeInsertion_0 10 rfl rfl)
theorem dJ24_afterNodeInsertion_13 : decode cJ24_afterNodeInsertion 13 = .ok (.aload_n 0, 1) := dk_42 (dk_at dksJ24_afterNodeInsertion_0 13 rfl rfl)
theorem dJ24_afterNodeInsertion_14 : decode cJ24_afterNodeInsertion 14 = .ok (.aload_n 2, 1) := dk_44 (dk_at dksJ24_afterNodeInsertion_0 14 rfl rfl)
theorem dJ24_afterNodeInsertion_15 : decode cJ24_afterNodeInsertion 15 = .ok (.invokevirtual 53, 3) := dk_182 0 53 (dk_at dksJ24_afterNodeInsertion_0 15 rfl rfl)
theorem dJ24_afterNodeInsertion_18 : decode cJ24_afterNodeInsertion 18 = .ok (.ifCond .eq 21, 3) := dk_153 0 21 (dk_at dksJ24_afterNodeInsertion_0 18 rfl rfl)
theorem dJ24_afterNodeInsertion_21 : decode cJ24_afterNodeInsertion 21 = .ok (.aload_n 2, 1) := dk_44 (dk_at dksJ24_afterNodeInsertion_0 21 rfl rfl)
theorem dJ24_afterNodeInsertion_39 : decode cJ24_afterNodeInsertion 39 = .ok (.return_, 1) := dk_177 (dk_at dksJ24_afterNodeInsertion_1 17 rfl rfl)
abbrev cJ24_removeEldestEntry : ByteArray := prog_72_method_23_code
def yJ24_removeEldestEntry : MethodName := ⟨RJ24, "removeEldestEntry", "(Ljava/util/Map$Entry;)Z"⟩
theorem dJ24_removeEldestEntry_0 : decode cJ24_removeEldestEntry 0 = .ok (.iconst 0, 1) := by decide +kernel
theorem dJ24_removeEldestEntry_1 : decode cJ24_removeEldestEntry 1 = .ok (.ireturn, 1) := by decide +kernel
abbrev cJ24_entrySet : ByteArray := prog_72_method_32_code
def yJ24_entrySet : MethodName := ⟨RJ24, "entrySet", "()Ljava/util/Set;"⟩
theorem dJ24_entrySet_0 : decode cJ24_entrySet 0 = .ok (.aload_n 0, 1) := by decide +kernel
theorem dJ24_entrySet_1 : decode cJ24_entrySet 1 = .ok (.invokevirtual 148, 3) := by decide +kernel
theorem dJ24_entrySet_4 : decode cJ24_entrySet 4 = .ok (.areturn, 1) := by decide +kernel
abbrev cJ24_sequencedEntrySet : ByteArray := prog_72_method_33_code
def yJ24_sequencedEntrySet : MethodName := ⟨RJ24, "sequencedEntrySet", "()Ljava/util/SequencedSet;"⟩
def dkwJ24_sequencedEntrySet_1 : List UInt8 := [44, 176, 43, 192, 0, 126, 176]
abbrev dktJ24_sequencedEntrySet_1 : List UInt8 := dkwJ24_sequencedEntrySet_1 ++ []
def dkwJ24_sequencedEntrySet_0 : List UInt8 := [42, 180, 0, 151, 76, 43, 199, 0, 20, 187, 0, 154, 89, 42, 3, 183, 0, 156, 77, 42, 44, 181, 0, 151]
abbrev dktJ24_sequencedEntrySet_0 : List UInt8 := dkwJ24_sequencedEntrySet_0 ++ dktJ24_sequencedEntrySet_1
theorem dksJ24_sequencedEntrySet_0 : cJ24_sequencedEntrySet.data.toList.drop 0 = dktJ24_sequencedEntrySet_0 := by decide +kernel
theorem dksJ24_sequencedEntrySet_1 : cJ24_sequencedEntrySet.data.toList.drop 24 = dktJ24_sequencedEntrySet_1 := dk_seg dksJ24_sequencedEntrySet_0 24 rfl rfl
theorem dJ24_sequencedEntrySet_0 : decode cJ24_sequencedEntrySet 0 = .ok (.aload_n 0, 1) := dk_42 (dk_at dksJ24_sequencedEntrySet_0 0 rfl rfl)
theorem dJ24_sequencedEntrySet_1 : decode cJ24_sequencedEntrySet 1 = .ok (.getfield 151, 3) := dk_180 0 151 (dk_at dksJ24_sequencedEntrySet_0 1 rfl rfl)
theorem dJ24_sequencedEntrySet_4 : decode cJ24_sequencedEntrySet 4 = .ok (.astore_n 1, 1) := dk_76 (dk_at dksJ24_sequencedEntrySet_0 4 rfl rfl)
theorem dJ24_sequencedEntrySet_5 : decode cJ24_sequencedEntrySet 5 = .ok (.aload_n 1, 1) := dk_43 (dk_at dksJ24_sequencedEntrySet_0 5 rfl rfl)
theorem dJ24_sequencedEntrySet_6 : decode cJ24_sequencedEntrySet 6 = .ok (.ifnonnull 20, 3) := dk_199 0 20 (dk_at dksJ24_sequencedEntrySet_0 6 rfl rfl)
theorem dJ24_sequencedEntrySet_9 : decode cJ24_sequencedEntrySet 9 = .ok (.new 154, 3) := dk_187 0 154 (dk_at dksJ24_sequencedEntrySet_0 9 rfl rfl)
theorem dJ24_sequencedEntrySet_12 : decode cJ24_sequencedEntrySet 12 = .ok (.dup, 1) := dk_89 (dk_at dksJ24_sequencedEntrySet_0 12 rfl rfl)
theorem dJ24_sequencedEntrySet_13 : decode cJ24_sequencedEntrySet 13 = .ok (.aload_n 0, 1) := dk_42 (dk_at dksJ24_sequencedEntrySet_0 13 rfl rfl)
theorem dJ24_sequencedEntrySet_14 : decode cJ24_sequencedEntrySet 14 = .ok (.iconst 0, 1) := dk_3 (dk_at dksJ24_sequencedEntrySet_0 14 rfl rfl)
theorem dJ24_sequencedEntrySet_15 : decode cJ24_sequencedEntrySet 15 = .ok (.invokespecial 156, 3) := dk_183 0 156 (dk_at dksJ24_sequencedEntrySet_0 15 rfl rfl)
theorem dJ24_sequencedEntrySet_18 : decode cJ24_sequencedEntrySet 18 = .ok (.astore_n 2, 1) := dk_77 (dk_at dksJ24_sequencedEntrySet_0 18 rfl rfl)
theorem dJ24_sequencedEntrySet_19 : decode cJ24_sequencedEntrySet 19 = .ok (.aload_n 0, 1) := dk_42 (dk_at dksJ24_sequencedEntrySet_0 19 rfl rfl)
theorem dJ24_sequencedEntrySet_20 : decode cJ24_sequencedEntrySet 20 = .ok (.aload_n 2, 1) := dk_44 (dk_at dksJ24_sequencedEntrySet_0 20 rfl rfl)
theorem dJ24_sequencedEntrySet_21 : decode cJ24_sequencedEntrySet 21 = .ok (.putfield 151, 3) := dk_181 0 151 (dk_at dksJ24_sequencedEntrySet_0 21 rfl rfl)
theorem dJ24_sequencedEntrySet_24 : decode cJ24_sequencedEntrySet 24 = .ok (.aload_n 2, 1) := dk_44 (dk_at dksJ24_sequencedEntrySet_1 0 rfl rfl)
theorem dJ24_sequencedEntrySet_25 : decode cJ24_sequencedEntrySet 25 = .ok (.areturn, 1) := dk_176 (dk_at dksJ24_sequencedEntrySet_1 1 rfl rfl)
theorem dJ24_sequencedEntrySet_26 : decode cJ24_sequencedEntrySet 26 = .ok (.aload_n 1, 1) := dk_43 (dk_at dksJ24_sequencedEntrySet_1 2 rfl rfl)
theorem dJ24_sequencedEntrySet_27 : decode cJ24_sequencedEntrySet 27 = .ok (.checkcast 126, 3) := dk_192 0 126 (dk_at dksJ24_sequencedEntrySet_1 3 rfl rfl)
theorem dJ24_sequencedEntrySet_30 : decode cJ24_sequencedEntrySet 30 = .ok (.areturn, 1) := dk_176 (dk_at dksJ24_sequencedEntrySet_1 6 rfl rfl)
abbrev cJ24_afterNodeRemoval : ByteArray := prog_72_method_8_code
def yJ24_afterNodeRemoval : MethodName := ⟨RJ24, "afterNodeRemoval", "(Ljava/util/HashMap$Node;)V"⟩
def dkwJ24_afterNodeRemoval_2 : List UInt8 := [199, 0, 11, 42, 45, 181, 0, 11, 167, 0, 9, 25, 4, 45, 181, 0, 19, 177]
abbrev dktJ24_afterNodeRemoval_2 : List UInt8 := dkwJ24_afterNodeRemoval_2 ++ []
def dkwJ24_afterNodeRemoval_1 : List UInt8 := [181, 0, 19, 45, 199, 0, 12, 42, 25, 4, 181, 0, 7, 167, 0, 9, 45, 25, 4, 181, 0, 14, 25, 4]
abbrev dktJ24_afterNodeRemoval_1 : List UInt8 := dkwJ24_afterNodeRemoval_1 ++ dktJ24_afterNodeRemoval_2
def dkwJ24_afterNodeRemoval_0 : List UInt8 := [43, 192, 0, 15, 77, 44, 180, 0, 19, 78, 44, 180, 0, 14, 58, 4, 44, 44, 1, 90, 181, 0, 14]
abbrev dktJ24_afterNodeRemoval_0 : List UInt8 := dkwJ24_afterNodeRemoval_0 ++ dktJ24_afterNodeRemoval_1
theorem dksJ24_afterNodeRemoval_0 : cJ24_afterNodeRemoval.data.toList.drop 0 = dktJ24_afterNodeRemoval_0 := by decide +kernel
theorem dksJ24_afterNodeRemoval_1 : cJ24_afterNodeRemoval.data.toList.drop 23 = dktJ24_afterNodeRemoval_1 := dk_seg dksJ24_afterNodeRemoval_0 23 rfl rfl
theorem dksJ24_afterNodeRemoval_2 : cJ24_afterNodeRemoval.data.toList.drop 47 = dktJ24_afterNodeRemoval_2 := dk_seg dksJ24_afterNodeRemoval_1 24 rfl rfl
theorem dJ24_afterNodeRemoval_0 : decode cJ24_afterNodeRemoval 0 = .ok (.aload_n 1, 1) := dk_43 (dk_at dksJ24_afterNodeRemoval_0 0 rfl rfl)
theorem dJ24_afterNodeRemoval_1 : decode cJ24_afterNodeRemoval 1 = .ok (.checkcast 15, 3) := dk_192 0 15 (dk_at dksJ24_afterNodeRemoval_0 1 rfl rfl)
theorem dJ24_afterNodeRemoval_4 : decode cJ24_afterNodeRemoval 4 = .ok (.astore_n 2, 1) := dk_77 (dk_at dksJ24_afterNodeRemoval_0 4 rfl rfl)
theorem dJ24_afterNodeRemoval_5 : decode cJ24_afterNodeRemoval 5 = .ok (.aload_n 2, 1) := dk_44 (dk_at dksJ24_afterNodeRemoval_0 5 rfl rfl)
theorem dJ24_afterNodeRemoval_6 : decode cJ24_afterNodeRemoval 6 = .ok (.getfield 19, 3) := dk_180 0 19 (dk_at dksJ24_afterNodeRemoval_0 6 rfl rfl)
theorem dJ24_afterNodeRemoval_9 : decode cJ24_afterNodeRemoval 9 = .ok (.astore_n 3, 1) := dk_78 (dk_at dksJ24_afterNodeRemoval_0 9 rfl rfl)
theorem dJ24_afterNodeRemoval_10 : decode cJ24_afterNodeRemoval 10 = .ok (.aload_n 2, 1) := dk_44 (dk_at dksJ24_afterNodeRemoval_0 10 rfl rfl)
theorem dJ24_afterNodeRemoval_11 : decode cJ24_afterNodeRemoval 11 = .ok (.getfield 14, 3) := dk_180 0 14 (dk_at dksJ24_afterNodeRemoval_0 11 rfl rfl)
theorem dJ24_afterNodeRemoval_14 : decode cJ24_afterNodeRemoval 14 = .ok (.astore 4, 2) := dk_58 4 (dk_at dksJ24_afterNodeRemoval_0 14 rfl rfl)
theorem dJ24_afterNodeRemoval_16 : decode cJ24_afterNodeRemoval 16 = .ok (.aload_n 2, 1) := dk_44 (dk_at dksJ24_afterNodeRemoval_0 16 rfl rfl)
theorem dJ24_afterNodeRemoval_17 : decode cJ24_afterNodeRemoval 17 = .ok (.aload_n 2, 1) := dk_44 (dk_at dksJ24_afterNodeRemoval_0 17 rfl rfl)
theorem dJ24_afterNodeRemoval_18 : decode cJ24_afterNodeRemoval 18 = .ok (.aconst_null, 1) := dk_1 (dk_at dksJ24_afterNodeRemoval_0 18 rfl rfl)
theorem dJ24_afterNodeRemoval_19 : decode cJ24_afterNodeRemoval 19 = .ok (.dup_x1, 1) := dk_90 (dk_at dksJ24_afterNodeRemoval_0 19 rfl rfl)
theorem dJ24_afterNodeRemoval_20 : decode cJ24_afterNodeRemoval 20 = .ok (.putfield 14, 3) := dk_181 0 14 (dk_at dksJ24_afterNodeRemoval_0 20 rfl rfl)
theorem dJ24_afterNodeRemoval_23 : decode cJ24_afterNodeRemoval 23 = .ok (.putfield 19, 3) := dk_181 0 19 (dk_at dksJ24_afterNodeRemoval_1 0 rfl rfl)
theorem dJ24_afterNodeRemoval_26 : decode cJ24_afterNodeRemoval 26 = .ok (.aload_n 3, 1) := dk_45 (dk_at dksJ24_afterNodeRemoval_1 3 rfl rfl)
theorem dJ24_afterNodeRemoval_27 : decode cJ24_afterNodeRemoval 27 = .ok (.ifnonnull 12, 3) := dk_199 0 12 (dk_at dksJ24_afterNodeRemoval_1 4 rfl rfl)
theorem dJ24_afterNodeRemoval_30 : decode cJ24_afterNodeRemoval 30 = .ok (.aload_n 0, 1) := dk_42 (dk_at dksJ24_afterNodeRemoval_1 7 rfl rfl)
theorem dJ24_afterNodeRemoval_31 : decode cJ24_afterNodeRemoval 31 = .ok (.aload 4, 2) := dk_25 4 (dk_at dksJ24_afterNodeRemoval_1 8 rfl rfl)
theorem dJ24_afterNodeRemoval_33 : decode cJ24_afterNodeRemoval 33 = .ok (.putfield 7, 3) := dk_181 0 7 (dk_at dksJ24_afterNodeRemoval_1 10 rfl rfl)
theorem dJ24_afterNodeRemoval_36 : decode cJ24_afterNodeRemoval 36 = .ok (.goto 9, 3) := dk_167 0 9 (dk_at dksJ24_afterNodeRemoval_1 13 rfl rfl)
theorem dJ24_afterNodeRemoval_39 : decode cJ24_afterNodeRemoval 39 = .ok (.aload_n 3, 1) := dk_45 (dk_at dksJ24_afterNodeRemoval_1 16 rfl rfl)
theorem dJ24_afterNodeRemoval_40 : decode cJ24_afterNodeRemoval 40 = .ok (.aload 4, 2) := dk_25 4 (dk_at dksJ24_afterNodeRemoval_1 17 rfl rfl)
theorem dJ24_afterNodeRemoval_42 : decode cJ24_afterNodeRemoval 42 = .ok (.putfield 14, 3) := dk_181 0 14 (dk_at dksJ24_afterNodeRemoval_1 19 rfl rfl)
theorem dJ24_afterNodeRemoval_45 : decode cJ24_afterNodeRemoval 45 = .ok (.aload 4, 2) := dk_25 4 (dk_at dksJ24_afterNodeRemoval_1 22 rfl rfl)
theorem dJ24_afterNodeRemoval_47 : decode cJ24_afterNodeRemoval 47 = .ok (.ifnonnull 11, 3) := dk_199 0 11 (dk_at dksJ24_afterNodeRemoval_2 0 rfl rfl)
theorem dJ24_afterNodeRemoval_50 : decode cJ24_afterNodeRemoval 50 = .ok (.aload_n 0, 1) := dk_42 (dk_at dksJ24_afterNodeRemoval_2 3 rfl rfl)
theorem dJ24_afterNodeRemoval_51 : decode cJ24_afterNodeRemoval 51 = .ok (.aload_n 3, 1) := dk_45 (dk_at dksJ24_afterNodeRemoval_2 4 rfl rfl)
theorem dJ24_afterNodeRemoval_52 : decode cJ24_afterNodeRemoval 52 = .ok (.putfield 11, 3) := dk_181 0 11 (dk_at dksJ24_afterNodeRemoval_2 5 rfl rfl)
theorem dJ24_afterNodeRemoval_55 : decode cJ24_afterNodeRemoval 55 = .ok (.goto 9, 3) := dk_167 0 9 (dk_at dksJ24_afterNodeRemoval_2 8 rfl rfl)
theorem dJ24_afterNodeRemoval_58 : decode cJ24_afterNodeRemoval 58 = .ok (.aload 4, 2) := dk_25 4 (dk_at dksJ24_afterNodeRemoval_2 11 rfl rfl)
theorem dJ24_afterNodeRemoval_60 : decode cJ24_afterNodeRemoval 60 = .ok (.aload_n 3, 1) := dk_45 (dk_at dksJ24_afterNodeRemoval_2 13 rfl rfl)
theorem dJ24_afterNodeRemoval_61 : decode cJ24_afterNodeRemoval 61 = .ok (.putfield 19, 3) := dk_181 0 19 (dk_at dksJ24_afterNodeRemoval_2 14 rfl rfl)
theorem dJ24_afterNodeRemoval_64 : decode cJ24_afterNodeRemoval 64 = .ok (.return_, 1) := dk_177 (dk_at dksJ24_afterNodeRemoval_2 17 rfl rfl)
abbrev cJ24_clear : ByteArray := prog_72_method_22_code
def yJ24_clear : MethodName := ⟨RJ24, "clear", "()V"⟩
def dkwJ24_clear_0 : List UInt8 := [42, 183, 0, 110, 42, 42, 1, 90, 181, 0, 11, 181, 0, 7, 177]
abbrev dktJ24_clear_0 : List UInt8 := dkwJ24_clear_0 ++ []
theorem dksJ24_clear_0 : cJ24_clear.data.toList.drop 0 = dktJ24_clear_0 := by decide +kernel
theorem dJ24_clear_0 : decode cJ24_clear 0 = .ok (.aload_n 0, 1) := dk_42 (dk_at dksJ24_clear_0 0 rfl rfl)
theorem dJ24_clear_1 : decode cJ24_clear 1 = .ok (.invokespecial 110, 3) := dk_183 0 110 (dk_at dksJ24_clear_0 1 rfl rfl)
theorem dJ24_clear_4 : decode cJ24_clear 4 = .ok (.aload_n 0, 1) := dk_42 (dk_at dksJ24_clear_0 4 rfl rfl)
theorem dJ24_clear_5 : decode cJ24_clear 5 = .ok (.aload_n 0, 1) := dk_42 (dk_at dksJ24_clear_0 5 rfl rfl)
theorem dJ24_clear_6 : decode cJ24_clear 6 = .ok (.aconst_null, 1) := dk_1 (dk_at dksJ24_clear_0 6 rfl rfl)
theorem dJ24_clear_7 : decode cJ24_clear 7 = .ok (.dup_x1, 1) := dk_90 (dk_at dksJ24_clear_0 7 rfl rfl)
theorem dJ24_clear_8 : decode cJ24_clear 8 = .ok (.putfield 11, 3) := dk_181 0 11 (dk_at dksJ24_clear_0 8 rfl rfl)
theorem dJ24_clear_11 : decode cJ24_clear 11 = .ok (.putfield 7, 3) := dk_181 0 7 (dk_at dksJ24_clear_0 11 rfl rfl)
theorem dJ24_clear_14 : decode cJ24_clear 14 = .ok (.return_, 1) := dk_177 (dk_at dksJ24_clear_0 14 rfl rfl)
theorem q165 : (Jvm.Cond.initialized "java/util/LinkedHashMap") ∈ lw_all := lw_g (lw_at lw_m1 38 rfl) rfl
theorem q1239 : (Jvm.Cond.instantiable "java/util/LinkedHashMap" (12 : Nat)) ∈ lw_all := lw_g (lw_at lw_m5 152 rfl) rfl
theorem q1241 : (Jvm.Cond.instanceMethod ({ cls := "java/util/LinkedHashMap", name := "<init>", desc := "()V" } : Jvm.MethodName)) ∈ lw_all := lw_g (lw_at lw_m5 154 rfl) rfl
theorem q1242 : (Jvm.Cond.code ({ cls := "java/util/LinkedHashMap", name := "<init>", desc := "()V" } : Jvm.MethodName) prog_72_method_16_code (1 : Nat) (Option.none : Option Jvm.ClassFile.FieldType)) ∈ lw_all := lw_g (lw_at lw_m5 155 rfl) rfl
theorem q1243 : (Jvm.Cond.methodLink "java/util/LinkedHashMap" (87 : Nat) ({ cls := "java/util/HashMap", name := "<init>", desc := "()V" } : Jvm.MethodName)) ∈ lw_all := lw_g (lw_at lw_m5 156 rfl) rfl
theorem q1251 : (Jvm.Cond.fieldLink "java/util/LinkedHashMap" (7 : Nat) "java/util/LinkedHashMap" "head" "Ljava/util/LinkedHashMap$Entry;") ∈ lw_all := lw_g (lw_at lw_m5 164 rfl) rfl
theorem q1254 : (Jvm.Cond.fieldLink "java/util/LinkedHashMap" (11 : Nat) "java/util/LinkedHashMap" "tail" "Ljava/util/LinkedHashMap$Entry;") ∈ lw_all := lw_g (lw_at lw_m5 167 rfl) rfl
theorem q1255 : (Jvm.Cond.fieldLink "java/util/LinkedHashMap" (64 : Nat) "java/util/LinkedHashMap" "accessOrder" "Z") ∈ lw_all := lw_g (lw_at lw_m5 168 rfl) rfl
theorem q1256 : (Jvm.Cond.fieldLink "java/util/LinkedHashMap" (1 : Nat) "java/util/LinkedHashMap" "putMode" "I") ∈ lw_all := lw_g (lw_at lw_m5 169 rfl) rfl
theorem q1259 : (Jvm.Cond.fieldLink "java/util/LinkedHashMap" (151 : Nat) "java/util/LinkedHashMap" "entrySet" "Ljava/util/Set;") ∈ lw_all := lw_g (lw_at lw_m5 172 rfl) rfl
theorem q1260 : (Jvm.Cond.sameField "java/util/LinkedHashMap" "java/util/HashMap" "entrySet" "Ljava/util/Set;") ∈ lw_all := lw_g (lw_at lw_m5 173 rfl) rfl
theorem q1269 : (Jvm.Cond.sameField "java/util/LinkedHashMap" "java/util/HashMap" "modCount" "I") ∈ lw_all := lw_g (lw_at lw_m5 182 rfl) rfl
theorem q1270 : (Jvm.Cond.fieldLink "java/util/LinkedHashMap" (68 : Nat) "java/util/LinkedHashMap" "modCount" "I") ∈ lw_all := lw_g (lw_at lw_m5 183 rfl) rfl
theorem q1276 : (Jvm.Cond.fieldLink "java/util/LinkedHashMap" (117 : Nat) "java/util/LinkedHashMap" "keySet" "Ljava/util/Set;") ∈ lw_all := lw_g (lw_at lw_m5 189 rfl) rfl
theorem q1277 : (Jvm.Cond.sameField "java/util/LinkedHashMap" "java/util/AbstractMap" "keySet" "Ljava/util/Set;") ∈ lw_all := lw_g (lw_at lw_m5 190 rfl) rfl
theorem q1278 : (Jvm.Cond.fieldLink "java/util/LinkedHashMap" (139 : Nat) "java/util/LinkedHashMap" "values" "Ljava/util/Collection;") ∈ lw_all := lw_g (lw_at lw_m5 191 rfl) rfl
theorem q1279 : (Jvm.Cond.sameField "java/util/LinkedHashMap" "java/util/AbstractMap" "values" "Ljava/util/Collection;") ∈ lw_all := lw_g (lw_at lw_m5 192 rfl) rfl
theorem q1304 : (Jvm.Cond.superclass "java/util/LinkedHashMap" "java/util/HashMap") ∈ lw_all := lw_g (lw_at lw_m5 217 rfl) rfl
theorem q1613 : (Jvm.Cond.castable "java/util/LinkedHashMap" "java/util/Map") ∈ lw_tbl := lw_at lw_m7 46 rfl
theorem q1614 : (Jvm.Cond.selects "java/util/LinkedHashMap" ({ cls := "java/util/Map", name := "size", desc := "()I" } : Jvm.MethodName) ({ cls := "java/util/HashMap", name := "size", desc := "()I" } : Jvm.MethodName)) ∈ lw_all := lw_g (lw_at lw_m7 47 rfl) rfl
theorem q1615 : (Jvm.Cond.unhidden "java/util/LinkedHashMap" "size" "()I") ∈ lw_tbl := lw_at lw_m7 48 rfl
theorem q1747 : (Jvm.Cond.selects "java/util/LinkedHashMap" ({ cls := "java/util/Map", name := "values", desc := "()Ljava/util/Collection;" } : Jvm.MethodName) ({ cls := "java/util/LinkedHashMap", name := "values", desc := "()Ljava/util/Collection;" } : Jvm.MethodName)) ∈ lw_all := lw_g (lw_at lw_m7 180 rfl) rfl
theorem q1748 : (Jvm.Cond.unhidden "java/util/LinkedHashMap" "values" "()Ljava/util/Collection;") ∈ lw_tbl := lw_at lw_m7 181 rfl
theorem q1749 : (Jvm.Cond.instanceMethod ({ cls := "java/util/LinkedHashMap", name := "values", desc := "()Ljava/util/Collection;" } : Jvm.MethodName)) ∈ lw_all := lw_g (lw_at lw_m7 182 rfl) rfl
theorem q1750 : (Jvm.Cond.publicMethod ({ cls := "java/util/LinkedHashMap", name := "values", desc := "()Ljava/util/Collection;" } : Jvm.MethodName)) ∈ lw_tbl := lw_at lw_m7 183 rfl
theorem q1751 : (Jvm.Cond.code ({ cls := "java/util/LinkedHashMap", name := "values", desc := "()Ljava/util/Collection;" } : Jvm.MethodName) prog_72_method_30_code (1 : Nat) (Option.some (Jvm.ClassFile.FieldType.object "java/util/Collection"))) ∈ lw_all := lw_g (lw_at lw_m7 184 rfl) rfl
theorem q1752 : (Jvm.Cond.methodLink "java/util/LinkedHashMap" (135 : Nat) ({ cls := "java/util/LinkedHashMap", name := "sequencedValues", desc := "()Ljava/util/SequencedCollection;" } : Jvm.MethodName)) ∈ lw_all := lw_g (lw_at lw_m7 185 rfl) rfl
theorem q1753 : (Jvm.Cond.instanceMethod ({ cls := "java/util/LinkedHashMap", name := "sequencedValues", desc := "()Ljava/util/SequencedCollection;" } : Jvm.MethodName)) ∈ lw_all := lw_g (lw_at lw_m7 186 rfl) rfl
theorem q1754 : (Jvm.Cond.selects "java/util/LinkedHashMap" ({ cls := "java/util/LinkedHashMap", name := "sequencedValues", desc := "()Ljava/util/SequencedCollection;" } : Jvm.MethodName) ({ cls := "java/util/LinkedHashMap", name := "sequencedValues", desc := "()Ljava/util/SequencedCollection;" } : Jvm.MethodName)) ∈ lw_all := lw_g (lw_at lw_m7 187 rfl) rfl
theorem q1755 : (Jvm.Cond.code ({ cls := "java/util/LinkedHashMap", name := "sequencedValues", desc := "()Ljava/util/SequencedCollection;" } : Jvm.MethodName) prog_72_method_31_code (3 : Nat) (Option.some (Jvm.ClassFile.FieldType.object "java/util/SequencedCollection"))) ∈ lw_all := lw_g (lw_at lw_m7 188 rfl) rfl
theorem q1756 : (Jvm.Cond.classLink "java/util/LinkedHashMap" (143 : Nat) "java/util/LinkedHashMap$LinkedValues") ∈ lw_all := lw_g (lw_at lw_m7 189 rfl) rfl
theorem q1758 : (Jvm.Cond.methodLink "java/util/LinkedHashMap" (145 : Nat) ({ cls := "java/util/LinkedHashMap$LinkedValues", name := "<init>", desc := "(Ljava/util/LinkedHashMap;Z)V" } : Jvm.MethodName)) ∈ lw_all := lw_g (lw_at lw_m7 191 rfl) rfl
theorem q1769 : (Jvm.Cond.classLink "java/util/LinkedHashMap" (146 : Nat) "java/util/SequencedCollection") ∈ lw_all := lw_g (lw_at lw_m7 202 rfl) rfl
theorem q1909 : (Jvm.Cond.selects "java/util/LinkedHashMap" ({ cls := "java/util/HashMap", name := "keySet", desc := "()Ljava/util/Set;" } : Jvm.MethodName) ({ cls := "java/util/LinkedHashMap", name := "keySet", desc := "()Ljava/util/Set;" } : Jvm.MethodName)) ∈ lw_all := lw_g (lw_at lw_m8 102 rfl) rfl
theorem q1910 : (Jvm.Cond.instanceMethod ({ cls := "java/util/LinkedHashMap", name := "keySet", desc := "()Ljava/util/Set;" } : Jvm.MethodName)) ∈ lw_all := lw_g (lw_at lw_m8 103 rfl) rfl
theorem q1911 : (Jvm.Cond.code ({ cls := "java/util/LinkedHashMap", name := "keySet", desc := "()Ljava/util/Set;" } : Jvm.MethodName) prog_72_method_24_code (1 : Nat) (Option.some (Jvm.ClassFile.FieldType.object "java/util/Set"))) ∈ lw_all := lw_g (lw_at lw_m8 104 rfl) rfl
theorem q1912 : (Jvm.Cond.methodLink "java/util/LinkedHashMap" (113 : Nat) ({ cls := "java/util/LinkedHashMap", name := "sequencedKeySet", desc := "()Ljava/util/SequencedSet;" } : Jvm.MethodName)) ∈ lw_all := lw_g (lw_at lw_m8 105 rfl) rfl
theorem q1913 : (Jvm.Cond.instanceMethod ({ cls := "java/util/LinkedHashMap", name := "sequencedKeySet", desc := "()Ljava/util/SequencedSet;" } : Jvm.MethodName)) ∈ lw_all := lw_g (lw_at lw_m8 106 rfl) rfl
theorem q1914 : (Jvm.Cond.selects "java/util/LinkedHashMap" ({ cls := "java/util/LinkedHashMap", name := "sequencedKeySet", desc := "()Ljava/util/SequencedSet;" } : Jvm.MethodName) ({ cls := "java/util/LinkedHashMap", name := "sequencedKeySet", desc := "()Ljava/util/SequencedSet;" } : Jvm.MethodName)) ∈ lw_all := lw_g (lw_at lw_m8 107 rfl) rfl
theorem q1915 : (Jvm.Cond.code ({ cls := "java/util/LinkedHashMap", name := "sequencedKeySet", desc := "()Ljava/util/SequencedSet;" } : Jvm.MethodName) prog_72_method_25_code (3 : Nat) (Option.some (Jvm.ClassFile.FieldType.object "java/util/SequencedSet"))) ∈ lw_all := lw_g (lw_at lw_m8 108 rfl) rfl
theorem q1916 : (Jvm.Cond.classLink "java/util/LinkedHashMap" (121 : Nat) "java/util/LinkedHashMap$LinkedKeySet") ∈ lw_all := lw_g (lw_at lw_m8 109 rfl) rfl
theorem q1918 : (Jvm.Cond.methodLink "java/util/LinkedHashMap" (123 : Nat) ({ cls := "java/util/LinkedHashMap$LinkedKeySet", name := "<init>", desc := "(Ljava/util/LinkedHashMap;Z)V" } : Jvm.MethodName)) ∈ lw_all := lw_g (lw_at lw_m8 111 rfl) rfl
theorem q1932 : (Jvm.Cond.classLink "java/util/LinkedHashMap" (126 : Nat) "java/util/SequencedSet") ∈ lw_all := lw_g (lw_at lw_m8 125 rfl) rfl
theorem q2002 : (Jvm.Cond.selects "java/util/LinkedHashMap" ({ cls := "java/util/Map", name := "get", desc := "(Ljava/lang/Object;)Ljava/lang/Object;" } : Jvm.MethodName) ({ cls := "java/util/LinkedHashMap", name := "get", desc := "(Ljava/lang/Object;)Ljava/lang/Object;" } : Jvm.MethodName)) ∈ lw_all := lw_g (lw_at lw_m8 195 rfl) rfl
theorem q2003 : (Jvm.Cond.unhidden "java/util/LinkedHashMap" "get" "(Ljava/lang/Object;)Ljava/lang/Object;") ∈ lw_tbl := lw_at lw_m8 196 rfl
theorem q2004 : (Jvm.Cond.instanceMethod ({ cls := "java/util/LinkedHashMap", name := "get", desc := "(Ljava/lang/Object;)Ljava/lang/Object;" } : Jvm.MethodName)) ∈ lw_all := lw_g (lw_at lw_m8 197 rfl) rfl
theorem q2005 : (Jvm.Cond.publicMethod ({ cls := "java/util/LinkedHashMap", name := "get", desc := "(Ljava/lang/Object;)Ljava/lang/Object;" } : Jvm.MethodName)) ∈ lw_tbl := lw_at lw_m8 198 rfl
theorem q2006 : (Jvm.Cond.code ({ cls := "java/util/LinkedHashMap", name := "get", desc := "(Ljava/lang/Object;)Ljava/lang/Object;" } : Jvm.MethodName) prog_72_method_20_code (3 : Nat) (Option.some (Jvm.ClassFile.FieldType.object "java/lang/Object"))) ∈ lw_all := lw_g (lw_at lw_m8 199 rfl) rfl
theorem q2007 : (Jvm.Cond.methodLink "java/util/LinkedHashMap" (99 : Nat) ({ cls := "java/util/LinkedHashMap", name := "getNode", desc := "(Ljava/lang/Object;)Ljava/util/HashMap$Node;" } : Jvm.MethodName)) ∈ lw_all := lw_g (lw_at lw_m8 200 rfl) rfl
theorem q2008 : (Jvm.Cond.sameMethod "java/util/LinkedHashMap" "java/util/HashMap" "getNode" "(Ljava/lang/Object;)Ljava/util/HashMap$Node;") ∈ lw_all := lw_g (lw_at lw_m8 201 rfl) rfl
theorem q2010 : (Jvm.Cond.selects "java/util/LinkedHashMap" ({ cls := "java/util/LinkedHashMap", name := "getNode", desc := "(Ljava/lang/Object;)Ljava/util/HashMap$Node;" } : Jvm.MethodName) ({ cls := "java/util/HashMap", name := "getNode", desc := "(Ljava/lang/Object;)Ljava/util/HashMap$Node;" } : Jvm.MethodName)) ∈ lw_all := lw_g (lw_at lw_m8 203 rfl) rfl
theorem q2317 : (Jvm.Cond.methodLink "java/util/LinkedHashMap" (103 : Nat) ({ cls := "java/util/LinkedHashMap", name := "afterNodeAccess", desc := "(Ljava/util/HashMap$Node;)V" } : Jvm.MethodName)) ∈ lw_all := lw_g (lw_at lw_m10 30 rfl) rfl
theorem q2318 : (Jvm.Cond.instanceMethod ({ cls := "java/util/LinkedHashMap", name := "afterNodeAccess", desc := "(Ljava/util/HashMap$Node;)V" } : Jvm.MethodName)) ∈ lw_all := lw_g (lw_at lw_m10 31 rfl) rfl
theorem q2319 : (Jvm.Cond.selects "java/util/LinkedHashMap" ({ cls := "java/util/LinkedHashMap", name := "afterNodeAccess", desc := "(Ljava/util/HashMap$Node;)V" } : Jvm.MethodName) ({ cls := "java/util/LinkedHashMap", name := "afterNodeAccess", desc := "(Ljava/util/HashMap$Node;)V" } : Jvm.MethodName)) ∈ lw_all := lw_g (lw_at lw_m10 32 rfl) rfl
theorem q2320 : (Jvm.Cond.code ({ cls := "java/util/LinkedHashMap", name := "afterNodeAccess", desc := "(Ljava/util/HashMap$Node;)V" } : Jvm.MethodName) prog_72_method_10_code (7 : Nat) (Option.none : Option Jvm.ClassFile.FieldType)) ∈ lw_all := lw_g (lw_at lw_m10 33 rfl) rfl
theorem q2321 : (Jvm.Cond.classLink "java/util/LinkedHashMap" (15 : Nat) "java/util/LinkedHashMap$Entry") ∈ lw_all := lw_g (lw_at lw_m10 34 rfl) rfl
theorem q2372 : (Jvm.Cond.instanceMethod ({ cls := "java/util/LinkedHashMap", name := "<init>", desc := "(IF)V" } : Jvm.MethodName)) ∈ lw_all := lw_g (lw_at lw_m10 85 rfl) rfl
theorem q2373 : (Jvm.Cond.code ({ cls := "java/util/LinkedHashMap", name := "<init>", desc := "(IF)V" } : Jvm.MethodName) prog_72_method_14_code (3 : Nat) (Option.none : Option Jvm.ClassFile.FieldType)) ∈ lw_all := lw_g (lw_at lw_m10 86 rfl) rfl
theorem q2374 : (Jvm.Cond.methodLink "java/util/LinkedHashMap" (81 : Nat) ({ cls := "java/util/HashMap", name := "<init>", desc := "(IF)V" } : Jvm.MethodName)) ∈ lw_all := lw_g (lw_at lw_m10 87 rfl) rfl
theorem q2779 : (Jvm.Cond.selects "java/util/LinkedHashMap" ({ cls := "java/util/Map", name := "keySet", desc := "()Ljava/util/Set;" } : Jvm.MethodName) ({ cls := "java/util/LinkedHashMap", name := "keySet", desc := "()Ljava/util/Set;" } : Jvm.MethodName)) ∈ lw_all := lw_g (lw_at lw_m12 12 rfl) rfl
theorem q2780 : (Jvm.Cond.unhidden "java/util/LinkedHashMap" "keySet" "()Ljava/util/Set;") ∈ lw_tbl := lw_at lw_m12 13 rfl
theorem q2781 : (Jvm.Cond.publicMethod ({ cls := "java/util/LinkedHashMap", name := "keySet", desc := "()Ljava/util/Set;" } : Jvm.MethodName)) ∈ lw_tbl := lw_at lw_m12 14 rfl
theorem q2827 : (Jvm.Cond.selects "java/util/LinkedHashMap" ({ cls := "java/util/HashMap", name := "put", desc := "(Ljava/lang/Object;Ljava/lang/Object;)Ljava/lang/Object;" } : Jvm.MethodName) ({ cls := "java/util/HashMap", name := "put", desc := "(Ljava/lang/Object;Ljava/lang/Object;)Ljava/lang/Object;" } : Jvm.MethodName)) ∈ lw_all := lw_g (lw_at lw_m12 60 rfl) rfl
theorem q2832 : (Jvm.Cond.selects "java/util/LinkedHashMap" ({ cls := "java/util/HashMap", name := "putVal", desc := "(ILjava/lang/Object;Ljava/lang/Object;ZZ)Ljava/lang/Object;" } : Jvm.MethodName) ({ cls := "java/util/HashMap", name := "putVal", desc := "(ILjava/lang/Object;Ljava/lang/Object;ZZ)Ljava/lang/Object;" } : Jvm.MethodName)) ∈ lw_all := lw_g (lw_at lw_m12 65 rfl) rfl
theorem q2837 : (Jvm.Cond.selects "java/util/LinkedHashMap" ({ cls := "java/util/HashMap", name := "resize", desc := "()[Ljava/util/HashMap$Node;" } : Jvm.MethodName) ({ cls := "java/util/HashMap", name := "resize", desc := "()[Ljava/util/HashMap$Node;" } : Jvm.MethodName)) ∈ lw_all := lw_g (lw_at lw_m12 70 rfl) rfl
theorem q2859 : (Jvm.Cond.methodLink "java/util/LinkedHashMap" (28 : Nat) ({ cls := "java/util/LinkedHashMap$Entry", name := "<init>", desc := "(ILjava/lang/Object;Ljava/lang/Object;Ljava/util/HashMap$Node;)V" } : Jvm.MethodName)) ∈ lw_all := lw_g (lw_at lw_m12 92 rfl) rfl
theorem q2866 : (Jvm.Cond.fieldLink "java/util/LinkedHashMap" (19 : Nat) "java/util/LinkedHashMap$Entry" "before" "Ljava/util/LinkedHashMap$Entry;") ∈ lw_all := lw_g (lw_at lw_m12 99 rfl) rfl
theorem q2868 : (Jvm.Cond.fieldLink "java/util/LinkedHashMap" (14 : Nat) "java/util/LinkedHashMap$Entry" "after" "Ljava/util/LinkedHashMap$Entry;") ∈ lw_all := lw_g (lw_at lw_m12 101 rfl) rfl
theorem q2888 : (Jvm.Cond.fieldLink "java/util/LinkedHashMap" (107 : Nat) "java/util/HashMap$Node" "value" "Ljava/lang/Object;") ∈ lw_all := lw_g (lw_at lw_m12 121 rfl) rfl
theorem q2935 : (Jvm.Cond.selects "java/util/LinkedHashMap" ({ cls := "java/util/HashMap", name := "newNode", desc := "(ILjava/lang/Object;Ljava/lang/Object;Ljava/util/HashMap$Node;)Ljava/util/HashMap$Node;" } : Jvm.MethodName) ({ cls := "java/util/LinkedHashMap", name := "newNode", desc := "(ILjava/lang/Object;Ljava/lang/Object;Ljava/util/HashMap$Node;)Ljava/util/HashMap$Node;" } : Jvm.MethodName)) ∈ lw_all := lw_g (lw_at lw_m12 168 rfl) rfl
theorem q2936 : (Jvm.Cond.instanceMethod ({ cls := "java/util/LinkedHashMap", name := "newNode", desc := "(ILjava/lang/Object;Ljava/lang/Object;Ljava/util/HashMap$Node;)Ljava/util/HashMap$Node;" } : Jvm.MethodName)) ∈ lw_all := lw_g (lw_at lw_m12 169 rfl) rfl
theorem q2937 : (Jvm.Cond.code ({ cls := "java/util/LinkedHashMap", name := "newNode", desc := "(ILjava/lang/Object;Ljava/lang/Object;Ljava/util/HashMap$Node;)Ljava/util/HashMap$Node;" } : Jvm.MethodName) prog_72_method_4_code (6 : Nat) (Option.some (Jvm.ClassFile.FieldType.object "java/util/HashMap$Node"))) ∈ lw_all := lw_g (lw_at lw_m12 170 rfl) rfl
theorem q2938 : (Jvm.Cond.methodLink "java/util/LinkedHashMap" (32 : Nat) ({ cls := "java/util/LinkedHashMap", name := "linkNodeAtEnd", desc := "(Ljava/util/LinkedHashMap$Entry;)V" } : Jvm.MethodName)) ∈ lw_all := lw_g (lw_at lw_m12 171 rfl) rfl
theorem q2940 : (Jvm.Cond.instanceMethod ({ cls := "java/util/LinkedHashMap", name := "linkNodeAtEnd", desc := "(Ljava/util/LinkedHashMap$Entry;)V" } : Jvm.MethodName)) ∈ lw_all := lw_g (lw_at lw_m12 173 rfl) rfl
theorem q2941 : (Jvm.Cond.code ({ cls := "java/util/LinkedHashMap", name := "linkNodeAtEnd", desc := "(Ljava/util/LinkedHashMap$Entry;)V" } : Jvm.MethodName) prog_72_method_1_code (3 : Nat) (Option.none : Option Jvm.ClassFile.FieldType)) ∈ lw_all := lw_g (lw_at lw_m12 174 rfl) rfl
theorem q2999 : (Jvm.Cond.selects "java/util/LinkedHashMap" ({ cls := "java/util/HashMap", name := "afterNodeAccess", desc := "(Ljava/util/HashMap$Node;)V" } : Jvm.MethodName) ({ cls := "java/util/LinkedHashMap", name := "afterNodeAccess", desc := "(Ljava/util/HashMap$Node;)V" } : Jvm.MethodName)) ∈ lw_all := lw_g (lw_at lw_m12 232 rfl) rfl
theorem q3004 : (Jvm.Cond.selects "java/util/LinkedHashMap" ({ cls := "java/util/HashMap", name := "afterNodeInsertion", desc := "(Z)V" } : Jvm.MethodName) ({ cls := "java/util/LinkedHashMap", name := "afterNodeInsertion", desc := "(Z)V" } : Jvm.MethodName)) ∈ lw_all := lw_g (lw_at lw_m12 237 rfl) rfl
theorem q3005 : (Jvm.Cond.instanceMethod ({ cls := "java/util/LinkedHashMap", name := "afterNodeInsertion", desc := "(Z)V" } : Jvm.MethodName)) ∈ lw_all := lw_g (lw_at lw_m12 238 rfl) rfl
theorem q3006 : (Jvm.Cond.code ({ cls := "java/util/LinkedHashMap", name := "afterNodeInsertion", desc := "(Z)V" } : Jvm.MethodName) prog_72_method_9_code (4 : Nat) (Option.none : Option Jvm.ClassFile.FieldType)) ∈ lw_all := lw_g (lw_at lw_m12 239 rfl) rfl
theorem q3007 : (Jvm.Cond.methodLink "java/util/LinkedHashMap" (53 : Nat) ({ cls := "java/util/LinkedHashMap", name := "removeEldestEntry", desc := "(Ljava/util/Map$Entry;)Z" } : Jvm.MethodName)) ∈ lw_all := lw_g (lw_at lw_m13 0 rfl) rfl
theorem q3008 : (Jvm.Cond.instanceMethod ({ cls := "java/util/LinkedHashMap", name := "removeEldestEntry", desc := "(Ljava/util/Map$Entry;)Z" } : Jvm.MethodName)) ∈ lw_all := lw_g (lw_at lw_m13 1 rfl) rfl
theorem q3009 : (Jvm.Cond.selects "java/util/LinkedHashMap" ({ cls := "java/util/LinkedHashMap", name := "removeEldestEntry", desc := "(Ljava/util/Map$Entry;)Z" } : Jvm.MethodName) ({ cls := "java/util/LinkedHashMap", name := "removeEldestEntry", desc := "(Ljava/util/Map$Entry;)Z" } : Jvm.MethodName)) ∈ lw_all := lw_g (lw_at lw_m13 2 rfl) rfl
theorem q3010 : (Jvm.Cond.code ({ cls := "java/util/LinkedHashMap", name := "removeEldestEntry", desc := "(Ljava/util/Map$Entry;)Z" } : Jvm.MethodName) prog_72_method_23_code (2 : Nat) (Option.some Jvm.ClassFile.FieldType.boolean)) ∈ lw_all := lw_g (lw_at lw_m13 3 rfl) rfl
theorem q3079 : (Jvm.Cond.selects "java/util/LinkedHashMap" ({ cls := "java/util/Map", name := "isEmpty", desc := "()Z" } : Jvm.MethodName) ({ cls := "java/util/HashMap", name := "isEmpty", desc := "()Z" } : Jvm.MethodName)) ∈ lw_all := lw_g (lw_at lw_m13 72 rfl) rfl
theorem q3080 : (Jvm.Cond.unhidden "java/util/LinkedHashMap" "isEmpty" "()Z") ∈ lw_tbl := lw_at lw_m13 73 rfl
theorem q3273 : (Jvm.Cond.selects "java/util/LinkedHashMap" ({ cls := "java/util/Map", name := "entrySet", desc := "()Ljava/util/Set;" } : Jvm.MethodName) ({ cls := "java/util/LinkedHashMap", name := "entrySet", desc := "()Ljava/util/Set;" } : Jvm.MethodName)) ∈ lw_all := lw_g (lw_at lw_m14 26 rfl) rfl
theorem q3274 : (Jvm.Cond.unhidden "java/util/LinkedHashMap" "entrySet" "()Ljava/util/Set;") ∈ lw_tbl := lw_at lw_m14 27 rfl
theorem q3275 : (Jvm.Cond.instanceMethod ({ cls := "java/util/LinkedHashMap", name := "entrySet", desc := "()Ljava/util/Set;" } : Jvm.MethodName)) ∈ lw_all := lw_g (lw_at lw_m14 28 rfl) rfl
theorem q3276 : (Jvm.Cond.publicMethod ({ cls := "java/util/LinkedHashMap", name := "entrySet", desc := "()Ljava/util/Set;" } : Jvm.MethodName)) ∈ lw_tbl := lw_at lw_m14 29 rfl
theorem q3277 : (Jvm.Cond.code ({ cls := "java/util/LinkedHashMap", name := "entrySet", desc := "()Ljava/util/Set;" } : Jvm.MethodName) prog_72_method_32_code (1 : Nat) (Option.some (Jvm.ClassFile.FieldType.object "java/util/Set"))) ∈ lw_all := lw_g (lw_at lw_m14 30 rfl) rfl
theorem q3278 : (Jvm.Cond.methodLink "java/util/LinkedHashMap" (148 : Nat) ({ cls := "java/util/LinkedHashMap", name := "sequencedEntrySet", desc := "()Ljava/util/SequencedSet;" } : Jvm.MethodName)) ∈ lw_all := lw_g (lw_at lw_m14 31 rfl) rfl
theorem q3279 : (Jvm.Cond.instanceMethod ({ cls := "java/util/LinkedHashMap", name := "sequencedEntrySet", desc := "()Ljava/util/SequencedSet;" } : Jvm.MethodName)) ∈ lw_all := lw_g (lw_at lw_m14 32 rfl) rfl
theorem q3280 : (Jvm.Cond.selects "java/util/LinkedHashMap" ({ cls := "java/util/LinkedHashMap", name := "sequencedEntrySet", desc := "()Ljava/util/SequencedSet;" } : Jvm.MethodName) ({ cls := "java/util/LinkedHashMap", name := "sequencedEntrySet", desc := "()Ljava/util/SequencedSet;" } : Jvm.MethodName)) ∈ lw_all := lw_g (lw_at lw_m14 33 rfl) rfl
theorem q3281 : (Jvm.Cond.code ({ cls := "java/util/LinkedHashMap", name := "sequencedEntrySet", desc := "()Ljava/util/SequencedSet;" } : Jvm.MethodName) prog_72_method_33_code (3 : Nat) (Option.some (Jvm.ClassFile.FieldType.object "java/util/SequencedSet"))) ∈ lw_all := lw_g (lw_at lw_m14 34 rfl) rfl
theorem q3282 : (Jvm.Cond.classLink "java/util/LinkedHashMap" (154 : Nat) "java/util/LinkedHashMap$LinkedEntrySet") ∈ lw_all := lw_g (lw_at lw_m14 35 rfl) rfl
theorem q3284 : (Jvm.Cond.methodLink "java/util/LinkedHashMap" (156 : Nat) ({ cls := "java/util/LinkedHashMap$LinkedEntrySet", name := "<init>", desc := "(Ljava/util/LinkedHashMap;Z)V" } : Jvm.MethodName)) ∈ lw_all := lw_g (lw_at lw_m14 37 rfl) rfl
theorem q3337 : (Jvm.Cond.selects "java/util/LinkedHashMap" ({ cls := "java/util/HashMap", name := "containsKey", desc := "(Ljava/lang/Object;)Z" } : Jvm.MethodName) ({ cls := "java/util/HashMap", name := "containsKey", desc := "(Ljava/lang/Object;)Z" } : Jvm.MethodName)) ∈ lw_all := lw_g (lw_at lw_m14 90 rfl) rfl
theorem q3492 : (Jvm.Cond.selects "java/util/LinkedHashMap" ({ cls := "java/util/Map", name := "put", desc := "(Ljava/lang/Object;Ljava/lang/Object;)Ljava/lang/Object;" } : Jvm.MethodName) ({ cls := "java/util/HashMap", name := "put", desc := "(Ljava/lang/Object;Ljava/lang/Object;)Ljava/lang/Object;" } : Jvm.MethodName)) ∈ lw_all := lw_g (lw_at lw_m15 5 rfl) rfl
theorem q3493 : (Jvm.Cond.unhidden "java/util/LinkedHashMap" "put" "(Ljava/lang/Object;Ljava/lang/Object;)Ljava/lang/Object;") ∈ lw_tbl := lw_at lw_m15 6 rfl
theorem q3538 : (Jvm.Cond.selects "java/util/LinkedHashMap" ({ cls := "java/util/Map", name := "remove", desc := "(Ljava/lang/Object;)Ljava/lang/Object;" } : Jvm.MethodName) ({ cls := "java/util/HashMap", name := "remove", desc := "(Ljava/lang/Object;)Ljava/lang/Object;" } : Jvm.MethodName)) ∈ lw_all := lw_g (lw_at lw_m15 51 rfl) rfl
theorem q3539 : (Jvm.Cond.unhidden "java/util/LinkedHashMap" "remove" "(Ljava/lang/Object;)Ljava/lang/Object;") ∈ lw_tbl := lw_at lw_m15 52 rfl
theorem q3546 : (Jvm.Cond.selects "java/util/LinkedHashMap" ({ cls := "java/util/HashMap", name := "removeNode", desc := "(ILjava/lang/Object;Ljava/lang/Object;ZZ)Ljava/util/HashMap$Node;" } : Jvm.MethodName) ({ cls := "java/util/HashMap", name := "removeNode", desc := "(ILjava/lang/Object;Ljava/lang/Object;ZZ)Ljava/util/HashMap$Node;" } : Jvm.MethodName)) ∈ lw_all := lw_g (lw_at lw_m15 59 rfl) rfl
theorem q3558 : (Jvm.Cond.selects "java/util/LinkedHashMap" ({ cls := "java/util/HashMap", name := "afterNodeRemoval", desc := "(Ljava/util/HashMap$Node;)V" } : Jvm.MethodName) ({ cls := "java/util/LinkedHashMap", name := "afterNodeRemoval", desc := "(Ljava/util/HashMap$Node;)V" } : Jvm.MethodName)) ∈ lw_all := lw_g (lw_at lw_m15 71 rfl) rfl
theorem q3559 : (Jvm.Cond.instanceMethod ({ cls := "java/util/LinkedHashMap", name := "afterNodeRemoval", desc := "(Ljava/util/HashMap$Node;)V" } : Jvm.MethodName)) ∈ lw_all := lw_g (lw_at lw_m15 72 rfl) rfl
theorem q3560 : (Jvm.Cond.code ({ cls := "java/util/LinkedHashMap", name := "afterNodeRemoval", desc := "(Ljava/util/HashMap$Node;)V" } : Jvm.MethodName) prog_72_method_8_code (5 : Nat) (Option.none : Option Jvm.ClassFile.FieldType)) ∈ lw_all := lw_g (lw_at lw_m15 73 rfl) rfl
theorem q3891 : (Jvm.Cond.selects "java/util/LinkedHashMap" ({ cls := "java/util/Map", name := "clear", desc := "()V" } : Jvm.MethodName) ({ cls := "java/util/LinkedHashMap", name := "clear", desc := "()V" } : Jvm.MethodName)) ∈ lw_all := lw_g (lw_at lw_m16 164 rfl) rfl
theorem q3892 : (Jvm.Cond.unhidden "java/util/LinkedHashMap" "clear" "()V") ∈ lw_tbl := lw_at lw_m16 165 rfl
theorem q3893 : (Jvm.Cond.instanceMethod ({ cls := "java/util/LinkedHashMap", name := "clear", desc := "()V" } : Jvm.MethodName)) ∈ lw_all := lw_g (lw_at lw_m16 166 rfl) rfl
theorem q3894 : (Jvm.Cond.publicMethod ({ cls := "java/util/LinkedHashMap", name := "clear", desc := "()V" } : Jvm.MethodName)) ∈ lw_tbl := lw_at lw_m16 167 rfl
theorem q3895 : (Jvm.Cond.code ({ cls := "java/util/LinkedHashMap", name := "clear", desc := "()V" } : Jvm.MethodName) prog_72_method_22_code (1 : Nat) (Option.none : Option Jvm.ClassFile.FieldType)) ∈ lw_all := lw_g (lw_at lw_m16 168 rfl) rfl
theorem q3896 : (Jvm.Cond.methodLink "java/util/LinkedHashMap" (110 : Nat) ({ cls := "java/util/HashMap", name := "clear", desc := "()V" } : Jvm.MethodName)) ∈ lw_all := lw_g (lw_at lw_m16 169 rfl) rfl
theorem q4638 : (Jvm.Cond.selects "java/util/LinkedHashMap" ({ cls := "java/util/HashMap", name := "size", desc := "()I" } : Jvm.MethodName) ({ cls := "java/util/HashMap", name := "size", desc := "()I" } : Jvm.MethodName)) ∈ lw_all := lw_g (lw_at lw_m19 191 rfl) rfl
theorem q4640 : (Jvm.Cond.selects "java/util/LinkedHashMap" ({ cls := "java/util/HashMap", name := "getNode", desc := "(Ljava/lang/Object;)Ljava/util/HashMap$Node;" } : Jvm.MethodName) ({ cls := "java/util/HashMap", name := "getNode", desc := "(Ljava/lang/Object;)Ljava/util/HashMap$Node;" } : Jvm.MethodName)) ∈ lw_all := lw_g (lw_at lw_m19 193 rfl) rfl
theorem q4688 : (Jvm.Cond.castable "java/util/LinkedHashMap" "java/lang/Object") ∈ lw_tbl := lw_at lw_m20 1 rfl
theorem in_J24 : ∀ w ∈ wsJ240, w ∈ lw_all := lw_in wsJ240 [1288, 1290, 1292, 1294, 1296, 1298, 1300, 1302, 1280, 1282, 1284, 1286] (by decide +kernel) (by decide +kernel)
/-! J25.java_lang_IllegalStateException.lean.txt -/
def RJ25 : String := "java/lang/IllegalStateException"
def TJ25 : u_T := fun k => match k with
  | 0 => ("java/lang/Throwable", "cause", "Ljava/lang/Throwable;", false)
  | 1 => ("java/lang/Throwable", "stackTrace", "[Ljava/lang/StackTraceElement;", false)
  | 2 => ("java/lang/Throwable", "suppressedExceptions", "Ljava/util/List;", false)
  | 3 => ("java/lang/Throwable", "detailMessage", "Ljava/lang/String;", false)
  | 4 => ("java/lang/Throwable", "backtrace", "Ljava/lang/Object;", false)
  | _ => ("java/lang/Throwable", "depth", "I", false)
def tyJ25 : Nat → FieldType := fun k => match k with
  | 0 => .object "java/lang/Throwable"
  | 1 => .array (.object "java/lang/StackTraceElement")
  | 2 => .object "java/util/List"
  | 3 => .object "java/lang/String"
  | 4 => .object "java/lang/Object"
  | _ => .int
abbrev wsJ250 : List Cond := u_ws RJ25 TJ25 6
theorem nmJ25 : ∀ a, a < 6 → ∀ b, b < 6 → a ≠ b → (TJ25 a).2.1 ≠ (TJ25 b).2.1 := by decide +kernel
theorem tyJ25_ok : ∀ k, k < 6 → parseFieldDescriptor (TJ25 k).2.2.1 = some (tyJ25 k) := by decide +kernel
theorem q166 : (Jvm.Cond.initialized "java/lang/IllegalStateException") ∈ lw_all := lw_g (lw_at lw_m1 39 rfl) rfl
theorem q1439 : (Jvm.Cond.castable "java/lang/IllegalStateException" "java/lang/IllegalStateException") ∈ lw_tbl := lw_at lw_m6 112 rfl
theorem q4689 : (Jvm.Cond.castable "java/lang/IllegalStateException" "java/lang/Object") ∈ lw_tbl := lw_at lw_m20 2 rfl
theorem in_J25 : ∀ w ∈ wsJ250, w ∈ lw_all := lw_in wsJ250 [1441, 1442, 1443, 1444, 1445, 1450] (by decide +kernel) (by decide +kernel)
/-! J26.java_util_ArrayList_Itr.lean.txt -/
def RJ26 : String := "java/util/ArrayList$Itr"
def TJ26 : u_T := fun k => match k with
  | 0 => ("java/util/ArrayList$Itr", "cursor", "I", false)
  | 1 => ("java/util/ArrayList$Itr", "lastRet", "I", false)
  | 2 => ("java/util/ArrayList$Itr", "expectedModCount", "I", false)
  | _ => ("java/util/ArrayList$Itr", "this$0", "Ljava/util/ArrayList;", true)
def tyJ26 : Nat → FieldType := fun k => match k with
  | 0 => .int
  | 1 => .int
  | 2 => .int
  | _ => .object "java/util/ArrayList"
abbrev wsJ260 : List Cond := u_ws RJ26 TJ26 4
theorem nmJ26 : ∀ a, a < 4 → ∀ b, b < 4 → a ≠ b → (TJ26 a).2.1 ≠ (TJ26 b).2.1 := by decide +kernel
theorem tyJ26_ok : ∀ k, k < 4 → parseFieldDescriptor (TJ26 k).2.2.1 = some (tyJ26 k) := by decide +kernel
abbrev cJ26_init : ByteArray := prog_60_method_1_code
def yJ26_init : MethodName := ⟨RJ26, "<init>", "(Ljava/util/ArrayList;)V"⟩
def dkwJ26_init_1 : List UInt8 := [181, 0, 22, 177]
abbrev dktJ26_init_1 : List UInt8 := dkwJ26_init_1 ++ []
def dkwJ26_init_0 : List UInt8 := [42, 43, 181, 0, 1, 42, 183, 0, 7, 42, 2, 181, 0, 13, 42, 42, 180, 0, 1, 180, 0, 17]
abbrev dktJ26_init_0 : List UInt8 := dkwJ26_init_0 ++ dktJ26_init_1
theorem dksJ26_init_0 : cJ26_init.data.toList.drop 0 = dktJ26_init_0 := by decide +kernel
theorem dksJ26_init_1 : cJ26_init.data.toList.drop 22 = dktJ26_init_1 := dk_seg dksJ26_init_0 22 rfl rfl
theorem dJ26_init_0 : decode cJ26_init 0 = .ok (.aload_n 0, 1) := dk_42 (dk_at dksJ26_init_0 0 rfl rfl)
theorem dJ26_init_1 : decode cJ26_init 1 = .ok (.aload_n 1, 1) := dk_43 (dk_at dksJ26_init_0 1 rfl rfl)
theorem dJ26_init_2 : decode cJ26_init 2 = .ok (.putfield 1, 3) := dk_181 0 1 (dk_at dksJ26_init_0 2 rfl rfl)
theorem dJ26_init_5 : decode cJ26_init 5 = .ok (.aload_n 0, 1) := dk_42 (dk_at dksJ26_init_0 5 rfl rfl)
theorem dJ26_init_6 : decode cJ26_init 6 = .ok (.invokespecial 7, 3) := dk_183 0 7 (dk_at dksJ26_init_0 6 rfl rfl)
theorem dJ26_init_9 : decode cJ26_init 9 = .ok (.aload_n 0, 1) := dk_42 (dk_at dksJ26_init_0 9 rfl rfl)
theorem dJ26_init_10 : decode cJ26_init 10 = .ok (.iconst (-1), 1) := dk_2 (dk_at dksJ26_init_0 10 rfl rfl)
theorem dJ26_init_11 : decode cJ26_init 11 = .ok (.putfield 13, 3) := dk_181 0 13 (dk_at dksJ26_init_0 11 rfl rfl)
theorem dJ26_init_14 : decode cJ26_init 14 = .ok (.aload_n 0, 1) := dk_42 (dk_at dksJ26_init_0 14 rfl rfl)
theorem dJ26_init_15 : decode cJ26_init 15 = .ok (.aload_n 0, 1) := dk_42 (dk_at dksJ26_init_0 15 rfl rfl)
theorem dJ26_init_16 : decode cJ26_init 16 = .ok (.getfield 1, 3) := dk_180 0 1 (dk_at dksJ26_init_0 16 rfl rfl)
theorem dJ26_init_19 : decode cJ26_init 19 = .ok (.getfield 17, 3) := dk_180 0 17 (dk_at dksJ26_init_0 19 rfl rfl)
theorem dJ26_init_22 : decode cJ26_init 22 = .ok (.putfield 22, 3) := dk_181 0 22 (dk_at dksJ26_init_1 0 rfl rfl)
theorem dJ26_init_25 : decode cJ26_init 25 = .ok (.return_, 1) := dk_177 (dk_at dksJ26_init_1 3 rfl rfl)
abbrev cJ26_hasNext : ByteArray := prog_60_method_2_code
def yJ26_hasNext : MethodName := ⟨RJ26, "hasNext", "()Z"⟩
def dkwJ26_hasNext_0 : List UInt8 := [42, 180, 0, 25, 42, 180, 0, 1, 180, 0, 28, 159, 0, 7, 4, 167, 0, 4, 3, 172]
abbrev dktJ26_hasNext_0 : List UInt8 := dkwJ26_hasNext_0 ++ []
theorem dksJ26_hasNext_0 : cJ26_hasNext.data.toList.drop 0 = dktJ26_hasNext_0 := by decide +kernel
theorem dJ26_hasNext_0 : decode cJ26_hasNext 0 = .ok (.aload_n 0, 1) := dk_42 (dk_at dksJ26_hasNext_0 0 rfl rfl)
theorem dJ26_hasNext_1 : decode cJ26_hasNext 1 = .ok (.getfield 25, 3) := dk_180 0 25 (dk_at dksJ26_hasNext_0 1 rfl rfl)
theorem dJ26_hasNext_4 : decode cJ26_hasNext 4 = .ok (.aload_n 0, 1) := dk_42 (dk_at dksJ26_hasNext_0 4 rfl rfl)
theorem dJ26_hasNext_5 : decode cJ26_hasNext 5 = .ok (.getfield 1, 3) := dk_180 0 1 (dk_at dksJ26_hasNext_0 5 rfl rfl)
theorem dJ26_hasNext_8 : decode cJ26_hasNext 8 = .ok (.getfield 28, 3) := dk_180 0 28 (dk_at dksJ26_hasNext_0 8 rfl rfl)
theorem dJ26_hasNext_11 : decode cJ26_hasNext 11 = .ok (.if_icmp .eq 7, 3) := dk_159 0 7 (dk_at dksJ26_hasNext_0 11 rfl rfl)
theorem dJ26_hasNext_14 : decode cJ26_hasNext 14 = .ok (.iconst 1, 1) := dk_4 (dk_at dksJ26_hasNext_0 14 rfl rfl)
theorem dJ26_hasNext_15 : decode cJ26_hasNext 15 = .ok (.goto 4, 3) := dk_167 0 4 (dk_at dksJ26_hasNext_0 15 rfl rfl)
theorem dJ26_hasNext_18 : decode cJ26_hasNext 18 = .ok (.iconst 0, 1) := dk_3 (dk_at dksJ26_hasNext_0 18 rfl rfl)
theorem dJ26_hasNext_19 : decode cJ26_hasNext 19 = .ok (.ireturn, 1) := dk_172 (dk_at dksJ26_hasNext_0 19 rfl rfl)
abbrev cJ26_next : ByteArray := prog_60_method_3_code
def yJ26_next : MethodName := ⟨RJ26, "next", "()Ljava/lang/Object;"⟩
def dkwJ26_next_2 : List UInt8 := [183, 0, 43, 191, 42, 27, 4, 96, 181, 0, 25, 44, 42, 27, 90, 181, 0, 13, 50, 176]
abbrev dktJ26_next_2 : List UInt8 := dkwJ26_next_2 ++ []
def dkwJ26_next_1 : List UInt8 := [183, 0, 36, 191, 42, 180, 0, 1, 180, 0, 37, 77, 27, 44, 190, 161, 0, 11, 187, 0, 41, 89]
abbrev dktJ26_next_1 : List UInt8 := dkwJ26_next_1 ++ dktJ26_next_2
def dkwJ26_next_0 : List UInt8 := [42, 182, 0, 31, 42, 180, 0, 25, 60, 27, 42, 180, 0, 1, 180, 0, 28, 161, 0, 11, 187, 0, 34, 89]
abbrev dktJ26_next_0 : List UInt8 := dkwJ26_next_0 ++ dktJ26_next_1
theorem dksJ26_next_0 : cJ26_next.data.toList.drop 0 = dktJ26_next_0 := by decide +kernel
theorem dksJ26_next_1 : cJ26_next.data.toList.drop 24 = dktJ26_next_1 := dk_seg dksJ26_next_0 24 rfl rfl
theorem dksJ26_next_2 : cJ26_next.data.toList.drop 46 = dktJ26_next_2 := dk_seg dksJ26_next_1 22 rfl rfl
theorem dJ26_next_0 : decode cJ26_next 0 = .ok (.aload_n 0, 1) := dk_42 (dk_at dksJ26_next_0 0 rfl rfl)
theorem dJ26_next_1 : decode cJ26_next 1 = .ok (.invokevirtual 31, 3) := dk_182 0 31 (dk_at dksJ26_next_0 1 rfl rfl)
theorem dJ26_next_4 : decode cJ26_next 4 = .ok (.aload_n 0, 1) := dk_42 (dk_at dksJ26_next_0 4 rfl rfl)
theorem dJ26_next_5 : decode cJ26_next 5 = .ok (.getfield 25, 3) := dk_180 0 25 (dk_at dksJ26_next_0 5 rfl rfl)
theorem dJ26_next_8 : decode cJ26_next 8 = .ok (.istore_n 1, 1) := dk_60 (dk_at dksJ26_next_0 8 rfl rfl)
theorem dJ26_next_9 : decode cJ26_next 9 = .ok (.iload_n 1, 1) := dk_27 (dk_at dksJ26_next_0 9 rfl rfl)
theorem dJ26_next_10 : decode cJ26_next 10 = .ok (.aload_n 0, 1) := dk_42 (dk_at dksJ26_next_0 10 rfl rfl)
theorem dJ26_next_11 : decode cJ26_next 11 = .ok (.getfield 1, 3) := dk_180 0 1 (dk_at dksJ26_next_0 11 rfl rfl)
theorem dJ26_next_14 : decode cJ26_next 14 = .ok (.getfield 28, 3) := dk_180 0 28 (dk_at dksJ26_next_0 14 rfl rfl)
theorem dJ26_next_17 : decode cJ26_next 17 = .ok (.if_icmp .lt 11, 3) := dk_161 0 11 (dk_at dksJ26_next_0 17 rfl rfl)
theorem dJ26_next_20 : decode cJ26_next 20 = .ok (.new 34, 3) := dk_187 0 34 (dk_at dksJ26_next_0 20 rfl rfl)
theorem dJ26_next_28 : decode cJ26_next 28 = .ok (.aload_n 0, 1) := dk_42 (dk_at dksJ26_next_1 4 rfl rfl)
theorem dJ26_next_29 : decode cJ26_next 29 = .ok (.getfield 1, 3) := dk_180 0 1 (dk_at dksJ26_next_1 5 rfl rfl)
theorem dJ26_next_32 : decode cJ26_next 32 = .ok (.getfield 37, 3) := dk_180 0 37 (dk_at dksJ26_next_1 8 rfl rfl)
theorem dJ26_next_35 : decode cJ26_next 35 = .ok (.astore_n 2, 1) := dk_77 (dk_at dksJ26_next_1 11 rfl rfl)
theorem dJ26_next_36 : decode cJ26_next 36 = .ok (.iload_n 1, 1) := dk_27 (dk_at dksJ26_next_1 12 rfl rfl)
theorem dJ26_next_37 : decode cJ26_next 37 = .ok (.aload_n 2, 1) := dk_44 (dk_at dksJ26_next_1 13 rfl rfl)
theorem dJ26_next_38 : decode cJ26_next 38 = .ok (.arraylength, 1) := dk_190 (dk_at dksJ26_next_1 14 rfl rfl)
theorem dJ26_next_39 : decode cJ26_next 39 = .ok (.if_icmp .lt 11, 3) := dk_161 0 11 (dk_at dksJ26_next_1 15 rfl rfl)
theorem dJ26_next_42 : decode cJ26_next 42 = .ok (.new 41, 3) := dk_187 0 41 (dk_at dksJ26_next_1 18 rfl rfl)
theorem dJ26_next_50 : decode cJ26_next 50 = .ok (.aload_n 0, 1) := dk_42 (dk_at dksJ26_next_2 4 rfl rfl)
theorem dJ26_next_51 : decode cJ26_next 51 = .ok (.iload_n 1, 1) := dk_27 (dk_at dksJ26_next_2 5 rfl rfl)
theorem dJ26_next_52 : decode cJ26_next 52 = .ok (.iconst 1, 1) := dk_4 (dk_at dksJ26_next_2 6 rfl rfl)
theorem dJ26_next_53 : decode cJ26_next 53 = .ok (.iadd, 1) := dk_96 (dk_at dksJ26_next_2 7 rfl rfl)
theorem dJ26_next_54 : decode cJ26_next 54 = .ok (.putfield 25, 3) := dk_181 0 25 (dk_at dksJ26_next_2 8 rfl rfl)
theorem dJ26_next_57 : decode cJ26_next 57 = .ok (.aload_n 2, 1) := dk_44 (dk_at dksJ26_next_2 11 rfl rfl)
theorem dJ26_next_58 : decode cJ26_next 58 = .ok (.aload_n 0, 1) := dk_42 (dk_at dksJ26_next_2 12 rfl rfl)
theorem dJ26_next_59 : decode cJ26_next 59 = .ok (.iload_n 1, 1) := dk_27 (dk_at dksJ26_next_2 13 rfl rfl)
theorem dJ26_next_60 : decode cJ26_next 60 = .ok (.dup_x1, 1) := dk_90 (dk_at dksJ26_next_2 14 rfl rfl)
theorem dJ26_next_61 : decode cJ26_next 61 = .ok (.putfield 13, 3) := dk_181 0 13 (dk_at dksJ26_next_2 15 rfl rfl)
theorem dJ26_next_64 : decode cJ26_next 64 = .ok (.aaload, 1) := dk_50 (dk_at dksJ26_next_2 18 rfl rfl)
theorem dJ26_next_65 : decode cJ26_next 65 = .ok (.areturn, 1) := dk_176 (dk_at dksJ26_next_2 19 rfl rfl)
abbrev cJ26_checkForComodification : ByteArray := prog_60_method_6_code
def yJ26_checkForComodification : MethodName := ⟨RJ26, "checkForComodification", "()V"⟩
def dkwJ26_checkForComodification_0 : List UInt8 := [42, 180, 0, 1, 180, 0, 17, 42, 180, 0, 22, 159, 0, 11, 187, 0, 41, 89, 183, 0, 43, 191, 177]
abbrev dktJ26_checkForComodification_0 : List UInt8 := dkwJ26_checkForComodification_0 ++ []
theorem dksJ26_checkForComodification_0 : cJ26_checkForComodification.data.toList.drop 0 = dktJ26_checkForComodification_0 := by decide +kernel
theorem dJ26_checkForComodification_0 : decode cJ26_checkForComodification 0 = .ok (.aload_n 0, 1) := dk_42 (dk_at dksJ26_checkForComodification_0 0 rfl rfl)
theorem dJ26_checkForComodification_1 : decode cJ26_checkForComodification 1 = .ok (.getfield 1, 3) := dk_180 0 1 (dk_at dksJ26_checkForComodification_0 1 rfl rfl)
theorem dJ26_checkForComodification_4 : decode cJ26_checkForComodification 4 = .ok (.getfield 17, 3) := dk_180 0 17 (dk_at dksJ26_checkForComodification_0 4 rfl rfl)
theorem dJ26_checkForComodification_7 : decode cJ26_checkForComodification 7 = .ok (.aload_n 0, 1) := dk_42 (dk_at dksJ26_checkForComodification_0 7 rfl rfl)
theorem dJ26_checkForComodification_8 : decode cJ26_checkForComodification 8 = .ok (.getfield 22, 3) := dk_180 0 22 (dk_at dksJ26_checkForComodification_0 8 rfl rfl)
theorem dJ26_checkForComodification_11 : decode cJ26_checkForComodification 11 = .ok (.if_icmp .eq 11, 3) := dk_159 0 11 (dk_at dksJ26_checkForComodification_0 11 rfl rfl)
theorem dJ26_checkForComodification_14 : decode cJ26_checkForComodification 14 = .ok (.new 41, 3) := dk_187 0 41 (dk_at dksJ26_checkForComodification_0 14 rfl rfl)
theorem dJ26_checkForComodification_22 : decode cJ26_checkForComodification 22 = .ok (.return_, 1) := dk_177 (dk_at dksJ26_checkForComodification_0 22 rfl rfl)
theorem q167 : (Jvm.Cond.initialized "java/util/ArrayList$Itr") ∈ lw_all := lw_g (lw_at lw_m1 40 rfl) rfl
theorem q468 : (Jvm.Cond.fieldLink "java/util/ArrayList$Itr" (37 : Nat) "java/util/ArrayList" "elementData" "[Ljava/lang/Object;") ∈ lw_all := lw_g (lw_at lw_m2 101 rfl) rfl
theorem q469 : (Jvm.Cond.fieldLinkNest "java/util/ArrayList$Itr" (28 : Nat) "java/util/ArrayList" "size" "I" "java/util/ArrayList") ∈ lw_tbl := lw_at lw_m2 102 rfl
theorem q472 : (Jvm.Cond.fieldLink "java/util/ArrayList$Itr" (17 : Nat) "java/util/ArrayList" "modCount" "I") ∈ lw_all := lw_g (lw_at lw_m2 105 rfl) rfl
theorem q1484 : (Jvm.Cond.instantiable "java/util/ArrayList$Itr" (4 : Nat)) ∈ lw_all := lw_g (lw_at lw_m6 157 rfl) rfl
theorem q1486 : (Jvm.Cond.instanceMethod ({ cls := "java/util/ArrayList$Itr", name := "<init>", desc := "(Ljava/util/ArrayList;)V" } : Jvm.MethodName)) ∈ lw_all := lw_g (lw_at lw_m6 159 rfl) rfl
theorem q1487 : (Jvm.Cond.code ({ cls := "java/util/ArrayList$Itr", name := "<init>", desc := "(Ljava/util/ArrayList;)V" } : Jvm.MethodName) prog_60_method_1_code (2 : Nat) (Option.none : Option Jvm.ClassFile.FieldType)) ∈ lw_all := lw_g (lw_at lw_m6 160 rfl) rfl
theorem q1488 : (Jvm.Cond.methodLink "java/util/ArrayList$Itr" (7 : Nat) ({ cls := "java/lang/Object", name := "<init>", desc := "()V" } : Jvm.MethodName)) ∈ lw_all := lw_g (lw_at lw_m6 161 rfl) rfl
theorem q1489 : (Jvm.Cond.fieldLink "java/util/ArrayList$Itr" (25 : Nat) "java/util/ArrayList$Itr" "cursor" "I") ∈ lw_all := lw_g (lw_at lw_m6 162 rfl) rfl
theorem q1490 : (Jvm.Cond.fieldLink "java/util/ArrayList$Itr" (13 : Nat) "java/util/ArrayList$Itr" "lastRet" "I") ∈ lw_all := lw_g (lw_at lw_m6 163 rfl) rfl
theorem q1491 : (Jvm.Cond.fieldLink "java/util/ArrayList$Itr" (22 : Nat) "java/util/ArrayList$Itr" "expectedModCount" "I") ∈ lw_all := lw_g (lw_at lw_m6 164 rfl) rfl
theorem q1492 : (Jvm.Cond.fieldLink "java/util/ArrayList$Itr" (1 : Nat) "java/util/ArrayList$Itr" "this$0" "Ljava/util/ArrayList;") ∈ lw_all := lw_g (lw_at lw_m6 165 rfl) rfl
theorem q1512 : (Jvm.Cond.castable "java/util/ArrayList$Itr" "java/util/Iterator") ∈ lw_tbl := lw_at lw_m6 185 rfl
theorem q1513 : (Jvm.Cond.selects "java/util/ArrayList$Itr" ({ cls := "java/util/Iterator", name := "hasNext", desc := "()Z" } : Jvm.MethodName) ({ cls := "java/util/ArrayList$Itr", name := "hasNext", desc := "()Z" } : Jvm.MethodName)) ∈ lw_all := lw_g (lw_at lw_m6 186 rfl) rfl
theorem q1514 : (Jvm.Cond.unhidden "java/util/ArrayList$Itr" "hasNext" "()Z") ∈ lw_tbl := lw_at lw_m6 187 rfl
theorem q1515 : (Jvm.Cond.instanceMethod ({ cls := "java/util/ArrayList$Itr", name := "hasNext", desc := "()Z" } : Jvm.MethodName)) ∈ lw_all := lw_g (lw_at lw_m6 188 rfl) rfl
theorem q1516 : (Jvm.Cond.publicMethod ({ cls := "java/util/ArrayList$Itr", name := "hasNext", desc := "()Z" } : Jvm.MethodName)) ∈ lw_tbl := lw_at lw_m6 189 rfl
theorem q1517 : (Jvm.Cond.code ({ cls := "java/util/ArrayList$Itr", name := "hasNext", desc := "()Z" } : Jvm.MethodName) prog_60_method_2_code (1 : Nat) (Option.some Jvm.ClassFile.FieldType.boolean)) ∈ lw_all := lw_g (lw_at lw_m6 190 rfl) rfl
theorem q1551 : (Jvm.Cond.selects "java/util/ArrayList$Itr" ({ cls := "java/util/Iterator", name := "next", desc := "()Ljava/lang/Object;" } : Jvm.MethodName) ({ cls := "java/util/ArrayList$Itr", name := "next", desc := "()Ljava/lang/Object;" } : Jvm.MethodName)) ∈ lw_all := lw_g (lw_at lw_m6 224 rfl) rfl
theorem q1552 : (Jvm.Cond.unhidden "java/util/ArrayList$Itr" "next" "()Ljava/lang/Object;") ∈ lw_tbl := lw_at lw_m6 225 rfl
theorem q1553 : (Jvm.Cond.instanceMethod ({ cls := "java/util/ArrayList$Itr", name := "next", desc := "()Ljava/lang/Object;" } : Jvm.MethodName)) ∈ lw_all := lw_g (lw_at lw_m6 226 rfl) rfl
theorem q1554 : (Jvm.Cond.publicMethod ({ cls := "java/util/ArrayList$Itr", name := "next", desc := "()Ljava/lang/Object;" } : Jvm.MethodName)) ∈ lw_tbl := lw_at lw_m6 227 rfl
theorem q1555 : (Jvm.Cond.code ({ cls := "java/util/ArrayList$Itr", name := "next", desc := "()Ljava/lang/Object;" } : Jvm.MethodName) prog_60_method_3_code (3 : Nat) (Option.some (Jvm.ClassFile.FieldType.object "java/lang/Object"))) ∈ lw_all := lw_g (lw_at lw_m6 228 rfl) rfl
theorem q1556 : (Jvm.Cond.methodLink "java/util/ArrayList$Itr" (31 : Nat) ({ cls := "java/util/ArrayList$Itr", name := "checkForComodification", desc := "()V" } : Jvm.MethodName)) ∈ lw_all := lw_g (lw_at lw_m6 229 rfl) rfl
theorem q1557 : (Jvm.Cond.instanceMethod ({ cls := "java/util/ArrayList$Itr", name := "checkForComodification", desc := "()V" } : Jvm.MethodName)) ∈ lw_all := lw_g (lw_at lw_m6 230 rfl) rfl
theorem q1558 : (Jvm.Cond.selects "java/util/ArrayList$Itr" ({ cls := "java/util/ArrayList$Itr", name := "checkForComodification", desc := "()V" } : Jvm.MethodName) ({ cls := "java/util/ArrayList$Itr", name := "checkForComodification", desc := "()V" } : Jvm.MethodName)) ∈ lw_all := lw_g (lw_at lw_m6 231 rfl) rfl
theorem q1559 : (Jvm.Cond.code ({ cls := "java/util/ArrayList$Itr", name := "checkForComodification", desc := "()V" } : Jvm.MethodName) prog_60_method_6_code (1 : Nat) (Option.none : Option Jvm.ClassFile.FieldType)) ∈ lw_all := lw_g (lw_at lw_m6 232 rfl) rfl
theorem q4690 : (Jvm.Cond.castable "java/util/ArrayList$Itr" "java/lang/Object") ∈ lw_tbl := lw_at lw_m20 3 rfl
theorem in_J26 : ∀ w ∈ wsJ260, w ∈ lw_all := lw_in wsJ260 [1493, 1495, 1497, 1499] (by decide +kernel) (by decide +kernel)
/-! J27.java_util_LinkedHashMap_LinkedValues.lean.txt -/
def RJ27 : String := "java/util/LinkedHashMap$LinkedValues"
def TJ27 : u_T := fun k => match k with
  | 0 => ("java/util/LinkedHashMap$LinkedValues", "reversed", "Z", true)
  | _ => ("java/util/LinkedHashMap$LinkedValues", "this$0", "Ljava/util/LinkedHashMap;", true)
def tyJ27 : Nat → FieldType := fun k => match k with
  | 0 => .boolean
  | _ => .object "java/util/LinkedHashMap"
abbrev wsJ270 : List Cond := u_ws RJ27 TJ27 2
theorem nmJ27 : ∀ a, a < 2 → ∀ b, b < 2 → a ≠ b → (TJ27 a).2.1 ≠ (TJ27 b).2.1 := by decide +kernel
theorem tyJ27_ok : ∀ k, k < 2 → parseFieldDescriptor (TJ27 k).2.2.1 = some (tyJ27 k) := by decide +kernel
abbrev cJ27_init : ByteArray := prog_80_method_1_code
def yJ27_init : MethodName := ⟨RJ27, "<init>", "(Ljava/util/LinkedHashMap;Z)V"⟩
def dkwJ27_init_0 : List UInt8 := [42, 43, 181, 0, 1, 42, 183, 0, 7, 42, 28, 181, 0, 13, 177]
abbrev dktJ27_init_0 : List UInt8 := dkwJ27_init_0 ++ []
theorem dksJ27_init_0 : cJ27_init.data.toList.drop 0 = dktJ27_init_0 := by decide +kernel
theorem dJ27_init_0 : decode cJ27_init 0 = .ok (.aload_n 0, 1) := dk_42 (dk_at dksJ27_init_0 0 rfl rfl)
theorem dJ27_init_1 : decode cJ27_init 1 = .ok (.aload_n 1, 1) := dk_43 (dk_at dksJ27_init_0 1 rfl rfl)
theorem dJ27_init_2 : decode cJ27_init 2 = .ok (.putfield 1, 3) := dk_181 0 1 (dk_at dksJ27_init_0 2 rfl rfl)
theorem dJ27_init_5 : decode cJ27_init 5 = .ok (.aload_n 0, 1) := dk_42 (dk_at dksJ27_init_0 5 rfl rfl)
theorem dJ27_init_6 : decode cJ27_init 6 = .ok (.invokespecial 7, 3) := dk_183 0 7 (dk_at dksJ27_init_0 6 rfl rfl)
theorem dJ27_init_9 : decode cJ27_init 9 = .ok (.aload_n 0, 1) := dk_42 (dk_at dksJ27_init_0 9 rfl rfl)
theorem dJ27_init_10 : decode cJ27_init 10 = .ok (.iload_n 2, 1) := dk_28 (dk_at dksJ27_init_0 10 rfl rfl)
theorem dJ27_init_11 : decode cJ27_init 11 = .ok (.putfield 13, 3) := dk_181 0 13 (dk_at dksJ27_init_0 11 rfl rfl)
theorem dJ27_init_14 : decode cJ27_init 14 = .ok (.return_, 1) := dk_177 (dk_at dksJ27_init_0 14 rfl rfl)
abbrev cJ27_iterator : ByteArray := prog_80_method_4_code
def yJ27_iterator : MethodName := ⟨RJ27, "iterator", "()Ljava/util/Iterator;"⟩
def dkwJ27_iterator_0 : List UInt8 := [187, 0, 26, 89, 42, 180, 0, 1, 42, 180, 0, 13, 183, 0, 28, 176]
abbrev dktJ27_iterator_0 : List UInt8 := dkwJ27_iterator_0 ++ []
theorem dksJ27_iterator_0 : cJ27_iterator.data.toList.drop 0 = dktJ27_iterator_0 := by decide +kernel
theorem dJ27_iterator_0 : decode cJ27_iterator 0 = .ok (.new 26, 3) := dk_187 0 26 (dk_at dksJ27_iterator_0 0 rfl rfl)
theorem dJ27_iterator_3 : decode cJ27_iterator 3 = .ok (.dup, 1) := dk_89 (dk_at dksJ27_iterator_0 3 rfl rfl)
theorem dJ27_iterator_4 : decode cJ27_iterator 4 = .ok (.aload_n 0, 1) := dk_42 (dk_at dksJ27_iterator_0 4 rfl rfl)
theorem dJ27_iterator_5 : decode cJ27_iterator 5 = .ok (.getfield 1, 3) := dk_180 0 1 (dk_at dksJ27_iterator_0 5 rfl rfl)
theorem dJ27_iterator_8 : decode cJ27_iterator 8 = .ok (.aload_n 0, 1) := dk_42 (dk_at dksJ27_iterator_0 8 rfl rfl)
theorem dJ27_iterator_9 : decode cJ27_iterator 9 = .ok (.getfield 13, 3) := dk_180 0 13 (dk_at dksJ27_iterator_0 9 rfl rfl)
theorem dJ27_iterator_12 : decode cJ27_iterator 12 = .ok (.invokespecial 28, 3) := dk_183 0 28 (dk_at dksJ27_iterator_0 12 rfl rfl)
theorem dJ27_iterator_15 : decode cJ27_iterator 15 = .ok (.areturn, 1) := dk_176 (dk_at dksJ27_iterator_0 15 rfl rfl)
theorem q169 : (Jvm.Cond.initialized "java/util/LinkedHashMap$LinkedValues") ∈ lw_all := lw_g (lw_at lw_m1 42 rfl) rfl
theorem q1757 : (Jvm.Cond.instantiable "java/util/LinkedHashMap$LinkedValues" (2 : Nat)) ∈ lw_all := lw_g (lw_at lw_m7 190 rfl) rfl
theorem q1759 : (Jvm.Cond.instanceMethod ({ cls := "java/util/LinkedHashMap$LinkedValues", name := "<init>", desc := "(Ljava/util/LinkedHashMap;Z)V" } : Jvm.MethodName)) ∈ lw_all := lw_g (lw_at lw_m7 192 rfl) rfl
theorem q1760 : (Jvm.Cond.code ({ cls := "java/util/LinkedHashMap$LinkedValues", name := "<init>", desc := "(Ljava/util/LinkedHashMap;Z)V" } : Jvm.MethodName) prog_80_method_1_code (3 : Nat) (Option.none : Option Jvm.ClassFile.FieldType)) ∈ lw_all := lw_g (lw_at lw_m7 193 rfl) rfl
theorem q1761 : (Jvm.Cond.methodLink "java/util/LinkedHashMap$LinkedValues" (7 : Nat) ({ cls := "java/util/AbstractCollection", name := "<init>", desc := "()V" } : Jvm.MethodName)) ∈ lw_all := lw_g (lw_at lw_m7 194 rfl) rfl
theorem q1762 : (Jvm.Cond.fieldLink "java/util/LinkedHashMap$LinkedValues" (13 : Nat) "java/util/LinkedHashMap$LinkedValues" "reversed" "Z") ∈ lw_all := lw_g (lw_at lw_m7 195 rfl) rfl
theorem q1763 : (Jvm.Cond.fieldLink "java/util/LinkedHashMap$LinkedValues" (1 : Nat) "java/util/LinkedHashMap$LinkedValues" "this$0" "Ljava/util/LinkedHashMap;") ∈ lw_all := lw_g (lw_at lw_m7 196 rfl) rfl
theorem q1882 : (Jvm.Cond.castable "java/util/LinkedHashMap$LinkedValues" "java/util/Collection") ∈ lw_tbl := lw_at lw_m8 75 rfl
theorem q1883 : (Jvm.Cond.selects "java/util/LinkedHashMap$LinkedValues" ({ cls := "java/util/Collection", name := "iterator", desc := "()Ljava/util/Iterator;" } : Jvm.MethodName) ({ cls := "java/util/LinkedHashMap$LinkedValues", name := "iterator", desc := "()Ljava/util/Iterator;" } : Jvm.MethodName)) ∈ lw_all := lw_g (lw_at lw_m8 76 rfl) rfl
theorem q1884 : (Jvm.Cond.unhidden "java/util/LinkedHashMap$LinkedValues" "iterator" "()Ljava/util/Iterator;") ∈ lw_tbl := lw_at lw_m8 77 rfl
theorem q1885 : (Jvm.Cond.instanceMethod ({ cls := "java/util/LinkedHashMap$LinkedValues", name := "iterator", desc := "()Ljava/util/Iterator;" } : Jvm.MethodName)) ∈ lw_all := lw_g (lw_at lw_m8 78 rfl) rfl
theorem q1886 : (Jvm.Cond.publicMethod ({ cls := "java/util/LinkedHashMap$LinkedValues", name := "iterator", desc := "()Ljava/util/Iterator;" } : Jvm.MethodName)) ∈ lw_tbl := lw_at lw_m8 79 rfl
theorem q1887 : (Jvm.Cond.code ({ cls := "java/util/LinkedHashMap$LinkedValues", name := "iterator", desc := "()Ljava/util/Iterator;" } : Jvm.MethodName) prog_80_method_4_code (1 : Nat) (Option.some (Jvm.ClassFile.FieldType.object "java/util/Iterator"))) ∈ lw_all := lw_g (lw_at lw_m8 80 rfl) rfl
theorem q1888 : (Jvm.Cond.classLink "java/util/LinkedHashMap$LinkedValues" (26 : Nat) "java/util/LinkedHashMap$LinkedValueIterator") ∈ lw_all := lw_g (lw_at lw_m8 81 rfl) rfl
theorem q1890 : (Jvm.Cond.methodLink "java/util/LinkedHashMap$LinkedValues" (28 : Nat) ({ cls := "java/util/LinkedHashMap$LinkedValueIterator", name := "<init>", desc := "(Ljava/util/LinkedHashMap;Z)V" } : Jvm.MethodName)) ∈ lw_all := lw_g (lw_at lw_m8 83 rfl) rfl
theorem q4656 : (Jvm.Cond.castable "java/util/LinkedHashMap$LinkedValues" "java/util/SequencedCollection") ∈ lw_tbl := lw_at lw_m19 209 rfl
theorem q4691 : (Jvm.Cond.castable "java/util/LinkedHashMap$LinkedValues" "java/lang/Object") ∈ lw_tbl := lw_at lw_m20 4 rfl
theorem in_J27 : ∀ w ∈ wsJ270, w ∈ lw_all := lw_in wsJ270 [1764, 1766] (by decide +kernel) (by decide +kernel)
/-! J28.java_util_ArrayDeque_DeqIterator.lean.txt -/
def RJ28 : String := "java/util/ArrayDeque$DeqIterator"
def TJ28 : u_T := fun k => match k with
  | 0 => ("java/util/ArrayDeque$DeqIterator", "cursor", "I", false)
  | 1 => ("java/util/ArrayDeque$DeqIterator", "remaining", "I", false)
  | 2 => ("java/util/ArrayDeque$DeqIterator", "lastRet", "I", false)
  | _ => ("java/util/ArrayDeque$DeqIterator", "this$0", "Ljava/util/ArrayDeque;", true)
def tyJ28 : Nat → FieldType := fun k => match k with
  | 0 => .int
  | 1 => .int
  | 2 => .int
  | _ => .object "java/util/ArrayDeque"
abbrev wsJ280 : List Cond := u_ws RJ28 TJ28 4
theorem nmJ28 : ∀ a, a < 4 → ∀ b, b < 4 → a ≠ b → (TJ28 a).2.1 ≠ (TJ28 b).2.1 := by decide +kernel
theorem tyJ28_ok : ∀ k, k < 4 → parseFieldDescriptor (TJ28 k).2.2.1 = some (tyJ28 k) := by decide +kernel
abbrev cJ28_hasNext : ByteArray := prog_58_method_2_code
def yJ28_hasNext : MethodName := ⟨RJ28, "hasNext", "()Z"⟩
def dkwJ28_hasNext_0 : List UInt8 := [42, 180, 0, 19, 158, 0, 7, 4, 167, 0, 4, 3, 172]
abbrev dktJ28_hasNext_0 : List UInt8 := dkwJ28_hasNext_0 ++ []
theorem dksJ28_hasNext_0 : cJ28_hasNext.data.toList.drop 0 = dktJ28_hasNext_0 := by decide +kernel
theorem dJ28_hasNext_0 : decode cJ28_hasNext 0 = .ok (.aload_n 0, 1) := dk_42 (dk_at dksJ28_hasNext_0 0 rfl rfl)
theorem dJ28_hasNext_1 : decode cJ28_hasNext 1 = .ok (.getfield 19, 3) := dk_180 0 19 (dk_at dksJ28_hasNext_0 1 rfl rfl)
theorem dJ28_hasNext_4 : decode cJ28_hasNext 4 = .ok (.ifCond .le 7, 3) := dk_158 0 7 (dk_at dksJ28_hasNext_0 4 rfl rfl)
theorem dJ28_hasNext_7 : decode cJ28_hasNext 7 = .ok (.iconst 1, 1) := dk_4 (dk_at dksJ28_hasNext_0 7 rfl rfl)
theorem dJ28_hasNext_8 : decode cJ28_hasNext 8 = .ok (.goto 4, 3) := dk_167 0 4 (dk_at dksJ28_hasNext_0 8 rfl rfl)
theorem dJ28_hasNext_11 : decode cJ28_hasNext 11 = .ok (.iconst 0, 1) := dk_3 (dk_at dksJ28_hasNext_0 11 rfl rfl)
theorem dJ28_hasNext_12 : decode cJ28_hasNext 12 = .ok (.ireturn, 1) := dk_172 (dk_at dksJ28_hasNext_0 12 rfl rfl)
abbrev cJ28_next : ByteArray := prog_58_method_3_code
def yJ28_next : MethodName := ⟨RJ28, "next", "()Ljava/lang/Object;"⟩
def dkwJ28_next_2 : List UInt8 := [181, 0, 29, 42, 89, 180, 0, 19, 4, 100, 181, 0, 19, 44, 176]
abbrev dktJ28_next_2 : List UInt8 := dkwJ28_next_2 ++ []
def dkwJ28_next_1 : List UInt8 := [42, 180, 0, 29, 184, 0, 39, 77, 42, 42, 42, 180, 0, 29, 90, 181, 0, 23, 43, 190, 184, 0, 43]
abbrev dktJ28_next_1 : List UInt8 := dkwJ28_next_1 ++ dktJ28_next_2
def dkwJ28_next_0 : List UInt8 := [42, 180, 0, 19, 157, 0, 11, 187, 0, 32, 89, 183, 0, 34, 191, 42, 180, 0, 1, 180, 0, 35, 76, 43]
abbrev dktJ28_next_0 : List UInt8 := dkwJ28_next_0 ++ dktJ28_next_1
theorem dksJ28_next_0 : cJ28_next.data.toList.drop 0 = dktJ28_next_0 := by decide +kernel
theorem dksJ28_next_1 : cJ28_next.data.toList.drop 24 = dktJ28_next_1 := dk_seg dksJ28_next_0 24 rfl rfl
theorem dksJ28_next_2 : cJ28_next.data.toList.drop 47 = dktJ28_next_2 := dk_seg dksJ28_next_1 23 rfl rfl
theorem dJ28_next_0 : decode cJ28_next 0 = .ok (.aload_n 0, 1) := dk_42 (dk_at dksJ28_next_0 0 rfl rfl)
theorem dJ28_next_1 : decode cJ28_next 1 = .ok (.getfield 19, 3) := dk_180 0 19 (dk_at dksJ28_next_0 1 rfl rfl)
theorem dJ28_next_4 : decode cJ28_next 4 = .ok (.ifCond .gt 11, 3) := dk_157 0 11 (dk_at dksJ28_next_0 4 rfl rfl)
theorem dJ28_next_7 : decode cJ28_next 7 = .ok (.new 32, 3) := dk_187 0 32 (dk_at dksJ28_next_0 7 rfl rfl)
theorem dJ28_next_15 : decode cJ28_next 15 = .ok (.aload_n 0, 1) := dk_42 (dk_at dksJ28_next_0 15 rfl rfl)
theorem dJ28_next_16 : decode cJ28_next 16 = .ok (.getfield 1, 3) := dk_180 0 1 (dk_at dksJ28_next_0 16 rfl rfl)
theorem dJ28_next_19 : decode cJ28_next 19 = .ok (.getfield 35, 3) := dk_180 0 35 (dk_at dksJ28_next_0 19 rfl rfl)
theorem dJ28_next_22 : decode cJ28_next 22 = .ok (.astore_n 1, 1) := dk_76 (dk_at dksJ28_next_0 22 rfl rfl)
theorem dJ28_next_23 : decode cJ28_next 23 = .ok (.aload_n 1, 1) := dk_43 (dk_at dksJ28_next_0 23 rfl rfl)
theorem dJ28_next_24 : decode cJ28_next 24 = .ok (.aload_n 0, 1) := dk_42 (dk_at dksJ28_next_1 0 rfl rfl)
theorem dJ28_next_25 : decode cJ28_next 25 = .ok (.getfield 29, 3) := dk_180 0 29 (dk_at dksJ28_next_1 1 rfl rfl)
theorem dJ28_next_28 : decode cJ28_next 28 = .ok (.invokestatic 39, 3) := dk_184 0 39 (dk_at dksJ28_next_1 4 rfl rfl)
theorem dJ28_next_31 : decode cJ28_next 31 = .ok (.astore_n 2, 1) := dk_77 (dk_at dksJ28_next_1 7 rfl rfl)
theorem dJ28_next_32 : decode cJ28_next 32 = .ok (.aload_n 0, 1) := dk_42 (dk_at dksJ28_next_1 8 rfl rfl)
theorem dJ28_next_33 : decode cJ28_next 33 = .ok (.aload_n 0, 1) := dk_42 (dk_at dksJ28_next_1 9 rfl rfl)
theorem dJ28_next_34 : decode cJ28_next 34 = .ok (.aload_n 0, 1) := dk_42 (dk_at dksJ28_next_1 10 rfl rfl)
theorem dJ28_next_35 : decode cJ28_next 35 = .ok (.getfield 29, 3) := dk_180 0 29 (dk_at dksJ28_next_1 11 rfl rfl)
theorem dJ28_next_38 : decode cJ28_next 38 = .ok (.dup_x1, 1) := dk_90 (dk_at dksJ28_next_1 14 rfl rfl)
theorem dJ28_next_39 : decode cJ28_next 39 = .ok (.putfield 23, 3) := dk_181 0 23 (dk_at dksJ28_next_1 15 rfl rfl)
theorem dJ28_next_42 : decode cJ28_next 42 = .ok (.aload_n 1, 1) := dk_43 (dk_at dksJ28_next_1 18 rfl rfl)
theorem dJ28_next_43 : decode cJ28_next 43 = .ok (.arraylength, 1) := dk_190 (dk_at dksJ28_next_1 19 rfl rfl)
theorem dJ28_next_44 : decode cJ28_next 44 = .ok (.invokestatic 43, 3) := dk_184 0 43 (dk_at dksJ28_next_1 20 rfl rfl)
theorem dJ28_next_47 : decode cJ28_next 47 = .ok (.putfield 29, 3) := dk_181 0 29 (dk_at dksJ28_next_2 0 rfl rfl)
theorem dJ28_next_50 : decode cJ28_next 50 = .ok (.aload_n 0, 1) := dk_42 (dk_at dksJ28_next_2 3 rfl rfl)
theorem dJ28_next_51 : decode cJ28_next 51 = .ok (.dup, 1) := dk_89 (dk_at dksJ28_next_2 4 rfl rfl)
theorem dJ28_next_52 : decode cJ28_next 52 = .ok (.getfield 19, 3) := dk_180 0 19 (dk_at dksJ28_next_2 5 rfl rfl)
theorem dJ28_next_55 : decode cJ28_next 55 = .ok (.iconst 1, 1) := dk_4 (dk_at dksJ28_next_2 8 rfl rfl)
theorem dJ28_next_56 : decode cJ28_next 56 = .ok (.isub, 1) := dk_100 (dk_at dksJ28_next_2 9 rfl rfl)
theorem dJ28_next_57 : decode cJ28_next 57 = .ok (.putfield 19, 3) := dk_181 0 19 (dk_at dksJ28_next_2 10 rfl rfl)
theorem dJ28_next_60 : decode cJ28_next 60 = .ok (.aload_n 2, 1) := dk_44 (dk_at dksJ28_next_2 13 rfl rfl)
theorem dJ28_next_61 : decode cJ28_next 61 = .ok (.areturn, 1) := dk_176 (dk_at dksJ28_next_2 14 rfl rfl)
abbrev cJ28_init : ByteArray := prog_58_method_1_code
def yJ28_init : MethodName := ⟨RJ28, "<init>", "(Ljava/util/ArrayDeque;)V"⟩
def dkwJ28_init_1 : List UInt8 := [181, 0, 23, 42, 43, 180, 0, 26, 181, 0, 29, 177]
abbrev dktJ28_init_1 : List UInt8 := dkwJ28_init_1 ++ []
def dkwJ28_init_0 : List UInt8 := [42, 43, 181, 0, 1, 42, 183, 0, 7, 42, 42, 180, 0, 1, 182, 0, 13, 181, 0, 19, 42, 2]
abbrev dktJ28_init_0 : List UInt8 := dkwJ28_init_0 ++ dktJ28_init_1
theorem dksJ28_init_0 : cJ28_init.data.toList.drop 0 = dktJ28_init_0 := by decide +kernel
theorem dksJ28_init_1 : cJ28_init.data.toList.drop 22 = dktJ28_init_1 := dk_seg dksJ28_init_0 22 rfl rfl
theorem dJ28_init_0 : decode cJ28_init 0 = .ok (.aload_n 0, 1) := dk_42 (dk_at dksJ28_init_0 0 rfl rfl)
theorem dJ28_init_1 : decode cJ28_init 1 = .ok (.aload_n 1, 1) := dk_43 (dk_at dksJ28_init_0 1 rfl rfl)
theorem dJ28_init_2 : decode cJ28_init 2 = .ok (.putfield 1, 3) := dk_181 0 1 (dk_at dksJ28_init_0 2 rfl rfl)
theorem dJ28_init_5 : decode cJ28_init 5 = .ok (.aload_n 0, 1) := dk_42 (dk_at dksJ28_init_0 5 rfl rfl)
theorem dJ28_init_6 : decode cJ28_init 6 = .ok (.invokespecial 7, 3) := dk_183 0 7 (dk_at dksJ28_init_0 6 rfl rfl)
theorem dJ28_init_9 : decode cJ28_init 9 = .ok (.aload_n 0, 1) := dk_42 (dk_at dksJ28_init_0 9 rfl rfl)
theorem dJ28_init_10 : decode cJ28_init 10 = .ok (.aload_n 0, 1) := dk_42 (dk_at dksJ28_init_0 10 rfl rfl)
theorem dJ28_init_11 : decode cJ28_init 11 = .ok (.getfield 1, 3) := dk_180 0 1 (dk_at dksJ28_init_0 11 rfl rfl)
theorem dJ28_init_14 : decode cJ28_init 14 = .ok (.invokevirtual 13, 3) := dk_182 0 13 (dk_at dksJ28_init_0 14 rfl rfl)
theorem dJ28_init_17 : decode cJ28_init 17 = .ok (.putfield 19, 3) := dk_181 0 19 (dk_at dksJ28_init_0 17 rfl rfl)
theorem dJ28_init_20 : decode cJ28_init 20 = .ok (.aload_n 0, 1) := dk_42 (dk_at dksJ28_init_0 20 rfl rfl)
theorem dJ28_init_21 : decode cJ28_init 21 = .ok (.iconst (-1), 1) := dk_2 (dk_at dksJ28_init_0 21 rfl rfl)
theorem dJ28_init_22 : decode cJ28_init 22 = .ok (.putfield 23, 3) := dk_181 0 23 (dk_at dksJ28_init_1 0 rfl rfl)
theorem dJ28_init_25 : decode cJ28_init 25 = .ok (.aload_n 0, 1) := dk_42 (dk_at dksJ28_init_1 3 rfl rfl)
theorem dJ28_init_26 : decode cJ28_init 26 = .ok (.aload_n 1, 1) := dk_43 (dk_at dksJ28_init_1 4 rfl rfl)
theorem dJ28_init_27 : decode cJ28_init 27 = .ok (.getfield 26, 3) := dk_180 0 26 (dk_at dksJ28_init_1 5 rfl rfl)
theorem dJ28_init_30 : decode cJ28_init 30 = .ok (.putfield 29, 3) := dk_181 0 29 (dk_at dksJ28_init_1 8 rfl rfl)
theorem dJ28_init_33 : decode cJ28_init 33 = .ok (.return_, 1) := dk_177 (dk_at dksJ28_init_1 11 rfl rfl)
theorem q170 : (Jvm.Cond.initialized "java/util/ArrayDeque$DeqIterator") ∈ lw_all := lw_g (lw_at lw_m1 43 rfl) rfl
theorem q221 : (Jvm.Cond.fieldLink "java/util/ArrayDeque$DeqIterator" (35 : Nat) "java/util/ArrayDeque" "elements" "[Ljava/lang/Object;") ∈ lw_all := lw_g (lw_at lw_m1 94 rfl) rfl
theorem q222 : (Jvm.Cond.fieldLink "java/util/ArrayDeque$DeqIterator" (26 : Nat) "java/util/ArrayDeque" "head" "I") ∈ lw_all := lw_g (lw_at lw_m1 95 rfl) rfl
theorem q1506 : (Jvm.Cond.castable "java/util/ArrayDeque$DeqIterator" "java/util/Iterator") ∈ lw_tbl := lw_at lw_m6 179 rfl
theorem q1507 : (Jvm.Cond.selects "java/util/ArrayDeque$DeqIterator" ({ cls := "java/util/Iterator", name := "hasNext", desc := "()Z" } : Jvm.MethodName) ({ cls := "java/util/ArrayDeque$DeqIterator", name := "hasNext", desc := "()Z" } : Jvm.MethodName)) ∈ lw_all := lw_g (lw_at lw_m6 180 rfl) rfl
theorem q1508 : (Jvm.Cond.unhidden "java/util/ArrayDeque$DeqIterator" "hasNext" "()Z") ∈ lw_tbl := lw_at lw_m6 181 rfl
theorem q1509 : (Jvm.Cond.instanceMethod ({ cls := "java/util/ArrayDeque$DeqIterator", name := "hasNext", desc := "()Z" } : Jvm.MethodName)) ∈ lw_all := lw_g (lw_at lw_m6 182 rfl) rfl
theorem q1510 : (Jvm.Cond.publicMethod ({ cls := "java/util/ArrayDeque$DeqIterator", name := "hasNext", desc := "()Z" } : Jvm.MethodName)) ∈ lw_tbl := lw_at lw_m6 183 rfl
theorem q1511 : (Jvm.Cond.code ({ cls := "java/util/ArrayDeque$DeqIterator", name := "hasNext", desc := "()Z" } : Jvm.MethodName) prog_58_method_2_code (1 : Nat) (Option.some Jvm.ClassFile.FieldType.boolean)) ∈ lw_all := lw_g (lw_at lw_m6 184 rfl) rfl
theorem q1540 : (Jvm.Cond.selects "java/util/ArrayDeque$DeqIterator" ({ cls := "java/util/Iterator", name := "next", desc := "()Ljava/lang/Object;" } : Jvm.MethodName) ({ cls := "java/util/ArrayDeque$DeqIterator", name := "next", desc := "()Ljava/lang/Object;" } : Jvm.MethodName)) ∈ lw_all := lw_g (lw_at lw_m6 213 rfl) rfl
theorem q1541 : (Jvm.Cond.unhidden "java/util/ArrayDeque$DeqIterator" "next" "()Ljava/lang/Object;") ∈ lw_tbl := lw_at lw_m6 214 rfl
theorem q1542 : (Jvm.Cond.instanceMethod ({ cls := "java/util/ArrayDeque$DeqIterator", name := "next", desc := "()Ljava/lang/Object;" } : Jvm.MethodName)) ∈ lw_all := lw_g (lw_at lw_m6 215 rfl) rfl
theorem q1543 : (Jvm.Cond.publicMethod ({ cls := "java/util/ArrayDeque$DeqIterator", name := "next", desc := "()Ljava/lang/Object;" } : Jvm.MethodName)) ∈ lw_tbl := lw_at lw_m6 216 rfl
theorem q1544 : (Jvm.Cond.code ({ cls := "java/util/ArrayDeque$DeqIterator", name := "next", desc := "()Ljava/lang/Object;" } : Jvm.MethodName) prog_58_method_3_code (3 : Nat) (Option.some (Jvm.ClassFile.FieldType.object "java/lang/Object"))) ∈ lw_all := lw_g (lw_at lw_m6 217 rfl) rfl
theorem q1545 : (Jvm.Cond.methodLink "java/util/ArrayDeque$DeqIterator" (39 : Nat) ({ cls := "java/util/ArrayDeque", name := "nonNullElementAt", desc := "([Ljava/lang/Object;I)Ljava/lang/Object;" } : Jvm.MethodName)) ∈ lw_all := lw_g (lw_at lw_m6 218 rfl) rfl
theorem q1548 : (Jvm.Cond.methodLink "java/util/ArrayDeque$DeqIterator" (43 : Nat) ({ cls := "java/util/ArrayDeque", name := "inc", desc := "(II)I" } : Jvm.MethodName)) ∈ lw_all := lw_g (lw_at lw_m6 221 rfl) rfl
theorem q1781 : (Jvm.Cond.instantiable "java/util/ArrayDeque$DeqIterator" (4 : Nat)) ∈ lw_all := lw_g (lw_at lw_m7 214 rfl) rfl
theorem q1783 : (Jvm.Cond.instanceMethod ({ cls := "java/util/ArrayDeque$DeqIterator", name := "<init>", desc := "(Ljava/util/ArrayDeque;)V" } : Jvm.MethodName)) ∈ lw_all := lw_g (lw_at lw_m7 216 rfl) rfl
theorem q1784 : (Jvm.Cond.code ({ cls := "java/util/ArrayDeque$DeqIterator", name := "<init>", desc := "(Ljava/util/ArrayDeque;)V" } : Jvm.MethodName) prog_58_method_1_code (2 : Nat) (Option.none : Option Jvm.ClassFile.FieldType)) ∈ lw_all := lw_g (lw_at lw_m7 217 rfl) rfl
theorem q1785 : (Jvm.Cond.methodLink "java/util/ArrayDeque$DeqIterator" (7 : Nat) ({ cls := "java/lang/Object", name := "<init>", desc := "()V" } : Jvm.MethodName)) ∈ lw_all := lw_g (lw_at lw_m7 218 rfl) rfl
theorem q1786 : (Jvm.Cond.methodLink "java/util/ArrayDeque$DeqIterator" (13 : Nat) ({ cls := "java/util/ArrayDeque", name := "size", desc := "()I" } : Jvm.MethodName)) ∈ lw_all := lw_g (lw_at lw_m7 219 rfl) rfl
theorem q1787 : (Jvm.Cond.fieldLink "java/util/ArrayDeque$DeqIterator" (29 : Nat) "java/util/ArrayDeque$DeqIterator" "cursor" "I") ∈ lw_all := lw_g (lw_at lw_m7 220 rfl) rfl
theorem q1788 : (Jvm.Cond.fieldLink "java/util/ArrayDeque$DeqIterator" (19 : Nat) "java/util/ArrayDeque$DeqIterator" "remaining" "I") ∈ lw_all := lw_g (lw_at lw_m7 221 rfl) rfl
theorem q1789 : (Jvm.Cond.fieldLink "java/util/ArrayDeque$DeqIterator" (23 : Nat) "java/util/ArrayDeque$DeqIterator" "lastRet" "I") ∈ lw_all := lw_g (lw_at lw_m7 222 rfl) rfl
theorem q1790 : (Jvm.Cond.fieldLink "java/util/ArrayDeque$DeqIterator" (1 : Nat) "java/util/ArrayDeque$DeqIterator" "this$0" "Ljava/util/ArrayDeque;") ∈ lw_all := lw_g (lw_at lw_m7 223 rfl) rfl
theorem q4692 : (Jvm.Cond.castable "java/util/ArrayDeque$DeqIterator" "java/lang/Object") ∈ lw_tbl := lw_at lw_m20 5 rfl
theorem in_J28 : ∀ w ∈ wsJ280, w ∈ lw_all := lw_in wsJ280 [1791, 1793, 1795, 1797] (by decide +kernel) (by decide +kernel)
/-! J29.java_util_HashMap_HashIterator.lean.txt -/
def RJ29 : String := "java/util/HashMap$HashIterator"
/-! J3.java_lang_StringBuilder.lean.txt -/
def RJ3 : String := "java/lang/StringBuilder"
def TJ3 : u_T := fun k => match k with
  | 0 => ("java/lang/AbstractStringBuilder", "value", "[B", false)
  | 1 => ("java/lang/AbstractStringBuilder", "coder", "B", false)
  | 2 => ("java/lang/AbstractStringBuilder", "maybeLatin1", "Z", false)
  | _ => ("java/lang/AbstractStringBuilder", "count", "I", false)
def tyJ3 : Nat → FieldType := fun k => match k with
  | 0 => .array .byte
  | 1 => .byte
  | 2 => .boolean
  | _ => .int
abbrev wsJ30 : List Cond := u_ws RJ3 TJ3 4
theorem nmJ3 : ∀ a, a < 4 → ∀ b, b < 4 → a ≠ b → (TJ3 a).2.1 ≠ (TJ3 b).2.1 := by decide +kernel
theorem tyJ3_ok : ∀ k, k < 4 → parseFieldDescriptor (TJ3 k).2.2.1 = some (tyJ3 k) := by decide +kernel
abbrev cJ3_init : ByteArray := prog_44_method_1_code
def yJ3_init : MethodName := ⟨RJ3, "<init>", "()V"⟩
def dkwJ3_init_0 : List UInt8 := [42, 16, 16, 183, 0, 1, 177]
abbrev dktJ3_init_0 : List UInt8 := dkwJ3_init_0 ++ []
theorem dksJ3_init_0 : cJ3_init.data.toList.drop 0 = dktJ3_init_0 := by decide +kernel
theorem dJ3_init_0 : decode cJ3_init 0 = .ok (.aload_n 0, 1) := dk_42 (dk_at dksJ3_init_0 0 rfl rfl)
theorem dJ3_init_1 : decode cJ3_init 1 = .ok (.bipush 16, 2) := dk_16 16 (dk_at dksJ3_init_0 1 rfl rfl)
theorem dJ3_init_3 : decode cJ3_init 3 = .ok (.invokespecial 1, 3) := dk_183 0 1 (dk_at dksJ3_init_0 3 rfl rfl)
theorem dJ3_init_6 : decode cJ3_init 6 = .ok (.return_, 1) := dk_177 (dk_at dksJ3_init_0 6 rfl rfl)
abbrev cJ3_append : ByteArray := prog_44_method_14_code
def yJ3_append : MethodName := ⟨RJ3, "append", "(C)Ljava/lang/StringBuilder;"⟩
def dkwJ3_append_0 : List UInt8 := [42, 27, 183, 0, 50, 87, 42, 176]
abbrev dktJ3_append_0 : List UInt8 := dkwJ3_append_0 ++ []
theorem dksJ3_append_0 : cJ3_append.data.toList.drop 0 = dktJ3_append_0 := by decide +kernel
theorem dJ3_append_0 : decode cJ3_append 0 = .ok (.aload_n 0, 1) := dk_42 (dk_at dksJ3_append_0 0 rfl rfl)
theorem dJ3_append_1 : decode cJ3_append 1 = .ok (.iload_n 1, 1) := dk_27 (dk_at dksJ3_append_0 1 rfl rfl)
theorem dJ3_append_2 : decode cJ3_append 2 = .ok (.invokespecial 50, 3) := dk_183 0 50 (dk_at dksJ3_append_0 2 rfl rfl)
theorem dJ3_append_5 : decode cJ3_append 5 = .ok (.pop, 1) := dk_87 (dk_at dksJ3_append_0 5 rfl rfl)
theorem dJ3_append_6 : decode cJ3_append 6 = .ok (.aload_n 0, 1) := dk_42 (dk_at dksJ3_append_0 6 rfl rfl)
theorem dJ3_append_7 : decode cJ3_append 7 = .ok (.areturn, 1) := dk_176 (dk_at dksJ3_append_0 7 rfl rfl)
abbrev cJ3_toString : ByteArray := prog_44_method_42_code
def yJ3_toString : MethodName := ⟨RJ3, "toString", "()Ljava/lang/String;"⟩
def dkwJ3_toString_0 : List UInt8 := [187, 0, 18, 89, 42, 183, 0, 137, 176]
abbrev dktJ3_toString_0 : List UInt8 := dkwJ3_toString_0 ++ []
theorem dksJ3_toString_0 : cJ3_toString.data.toList.drop 0 = dktJ3_toString_0 := by decide +kernel
theorem dJ3_toString_0 : decode cJ3_toString 0 = .ok (.new 18, 3) := dk_187 0 18 (dk_at dksJ3_toString_0 0 rfl rfl)
theorem dJ3_toString_3 : decode cJ3_toString 3 = .ok (.dup, 1) := dk_89 (dk_at dksJ3_toString_0 3 rfl rfl)
theorem dJ3_toString_4 : decode cJ3_toString 4 = .ok (.aload_n 0, 1) := dk_42 (dk_at dksJ3_toString_0 4 rfl rfl)
theorem dJ3_toString_5 : decode cJ3_toString 5 = .ok (.invokespecial 137, 3) := dk_183 0 137 (dk_at dksJ3_toString_0 5 rfl rfl)
theorem dJ3_toString_8 : decode cJ3_toString 8 = .ok (.areturn, 1) := dk_176 (dk_at dksJ3_toString_0 8 rfl rfl)
abbrev cJ3_length : ByteArray := prog_44_method_93_code
def yJ3_length : MethodName := ⟨RJ3, "length", "()I"⟩
theorem dJ3_length_0 : decode cJ3_length 0 = .ok (.aload_n 0, 1) := by decide +kernel
theorem dJ3_length_1 : decode cJ3_length 1 = .ok (.invokespecial 343, 3) := by decide +kernel
theorem dJ3_length_4 : decode cJ3_length 4 = .ok (.ireturn, 1) := by decide +kernel
abbrev cJ3_append_2 : ByteArray := prog_44_method_15_code
def yJ3_append_2 : MethodName := ⟨RJ3, "append", "(I)Ljava/lang/StringBuilder;"⟩
def dkwJ3_append_2_0 : List UInt8 := [42, 27, 183, 0, 53, 87, 42, 176]
abbrev dktJ3_append_2_0 : List UInt8 := dkwJ3_append_2_0 ++ []
theorem dksJ3_append_2_0 : cJ3_append_2.data.toList.drop 0 = dktJ3_append_2_0 := by decide +kernel
theorem dJ3_append_2_0 : decode cJ3_append_2 0 = .ok (.aload_n 0, 1) := dk_42 (dk_at dksJ3_append_2_0 0 rfl rfl)
theorem dJ3_append_2_1 : decode cJ3_append_2 1 = .ok (.iload_n 1, 1) := dk_27 (dk_at dksJ3_append_2_0 1 rfl rfl)
theorem dJ3_append_2_2 : decode cJ3_append_2 2 = .ok (.invokespecial 53, 3) := dk_183 0 53 (dk_at dksJ3_append_2_0 2 rfl rfl)
theorem dJ3_append_2_5 : decode cJ3_append_2 5 = .ok (.pop, 1) := dk_87 (dk_at dksJ3_append_2_0 5 rfl rfl)
theorem dJ3_append_2_6 : decode cJ3_append_2 6 = .ok (.aload_n 0, 1) := dk_42 (dk_at dksJ3_append_2_0 6 rfl rfl)
theorem dJ3_append_2_7 : decode cJ3_append_2 7 = .ok (.areturn, 1) := dk_176 (dk_at dksJ3_append_2_0 7 rfl rfl)
abbrev cJ3_append_3 : ByteArray := prog_44_method_7_code
def yJ3_append_3 : MethodName := ⟨RJ3, "append", "(Ljava/lang/String;)Ljava/lang/StringBuilder;"⟩
def dkwJ3_append_3_0 : List UInt8 := [42, 43, 183, 0, 29, 87, 42, 176]
abbrev dktJ3_append_3_0 : List UInt8 := dkwJ3_append_3_0 ++ []
theorem dksJ3_append_3_0 : cJ3_append_3.data.toList.drop 0 = dktJ3_append_3_0 := by decide +kernel
theorem dJ3_append_3_0 : decode cJ3_append_3 0 = .ok (.aload_n 0, 1) := dk_42 (dk_at dksJ3_append_3_0 0 rfl rfl)
theorem dJ3_append_3_1 : decode cJ3_append_3 1 = .ok (.aload_n 1, 1) := dk_43 (dk_at dksJ3_append_3_0 1 rfl rfl)
theorem dJ3_append_3_2 : decode cJ3_append_3 2 = .ok (.invokespecial 29, 3) := dk_183 0 29 (dk_at dksJ3_append_3_0 2 rfl rfl)
theorem dJ3_append_3_5 : decode cJ3_append_3 5 = .ok (.pop, 1) := dk_87 (dk_at dksJ3_append_3_0 5 rfl rfl)
theorem dJ3_append_3_6 : decode cJ3_append_3 6 = .ok (.aload_n 0, 1) := dk_42 (dk_at dksJ3_append_3_0 6 rfl rfl)
theorem dJ3_append_3_7 : decode cJ3_append_3 7 = .ok (.areturn, 1) := dk_176 (dk_at dksJ3_append_3_0 7 rfl rfl)
abbrev cJ3_charAt : ByteArray := prog_44_method_88_code
def yJ3_charAt : MethodName := ⟨RJ3, "charAt", "(I)C"⟩
def dkwJ3_charAt_0 : List UInt8 := [42, 27, 183, 1, 73, 172]
abbrev dktJ3_charAt_0 : List UInt8 := dkwJ3_charAt_0 ++ []
theorem dksJ3_charAt_0 : cJ3_charAt.data.toList.drop 0 = dktJ3_charAt_0 := by decide +kernel
theorem dJ3_charAt_0 : decode cJ3_charAt 0 = .ok (.aload_n 0, 1) := dk_42 (dk_at dksJ3_charAt_0 0 rfl rfl)
theorem dJ3_charAt_1 : decode cJ3_charAt 1 = .ok (.iload_n 1, 1) := dk_27 (dk_at dksJ3_charAt_0 1 rfl rfl)
theorem dJ3_charAt_2 : decode cJ3_charAt 2 = .ok (.invokespecial 329, 3) := dk_183 1 73 (dk_at dksJ3_charAt_0 2 rfl rfl)
theorem dJ3_charAt_5 : decode cJ3_charAt 5 = .ok (.ireturn, 1) := dk_172 (dk_at dksJ3_charAt_0 5 rfl rfl)
abbrev cJ3_setLength : ByteArray := prog_44_method_89_code
def yJ3_setLength : MethodName := ⟨RJ3, "setLength", "(I)V"⟩
def dkwJ3_setLength_0 : List UInt8 := [42, 27, 183, 1, 77, 177]
abbrev dktJ3_setLength_0 : List UInt8 := dkwJ3_setLength_0 ++ []
theorem dksJ3_setLength_0 : cJ3_setLength.data.toList.drop 0 = dktJ3_setLength_0 := by decide +kernel
theorem dJ3_setLength_0 : decode cJ3_setLength 0 = .ok (.aload_n 0, 1) := dk_42 (dk_at dksJ3_setLength_0 0 rfl rfl)
theorem dJ3_setLength_1 : decode cJ3_setLength 1 = .ok (.iload_n 1, 1) := dk_27 (dk_at dksJ3_setLength_0 1 rfl rfl)
theorem dJ3_setLength_2 : decode cJ3_setLength 2 = .ok (.invokespecial 333, 3) := dk_183 1 77 (dk_at dksJ3_setLength_0 2 rfl rfl)
theorem dJ3_setLength_5 : decode cJ3_setLength 5 = .ok (.return_, 1) := dk_177 (dk_at dksJ3_setLength_0 5 rfl rfl)
theorem q132 : (Jvm.Cond.initialized "java/lang/StringBuilder") ∈ lw_all := lw_g (lw_at lw_m1 5 rfl) rfl
theorem q236 : (Jvm.Cond.instantiable "java/lang/StringBuilder" (4 : Nat)) ∈ lw_all := lw_g (lw_at lw_m1 109 rfl) rfl
theorem q238 : (Jvm.Cond.instanceMethod ({ cls := "java/lang/StringBuilder", name := "<init>", desc := "()V" } : Jvm.MethodName)) ∈ lw_all := lw_g (lw_at lw_m1 111 rfl) rfl
theorem q239 : (Jvm.Cond.code ({ cls := "java/lang/StringBuilder", name := "<init>", desc := "()V" } : Jvm.MethodName) prog_44_method_1_code (1 : Nat) (Option.none : Option Jvm.ClassFile.FieldType)) ∈ lw_all := lw_g (lw_at lw_m1 112 rfl) rfl
theorem q240 : (Jvm.Cond.methodLink "java/lang/StringBuilder" (1 : Nat) ({ cls := "java/lang/AbstractStringBuilder", name := "<init>", desc := "(I)V" } : Jvm.MethodName)) ∈ lw_all := lw_g (lw_at lw_m1 113 rfl) rfl
theorem q266 : (Jvm.Cond.superclass "java/lang/StringBuilder" "java/lang/AbstractStringBuilder") ∈ lw_all := lw_g (lw_at lw_m1 139 rfl) rfl
theorem q620 : (Jvm.Cond.instanceMethod ({ cls := "java/lang/StringBuilder", name := "append", desc := "(C)Ljava/lang/StringBuilder;" } : Jvm.MethodName)) ∈ lw_all := lw_g (lw_at lw_m3 13 rfl) rfl
theorem q621 : (Jvm.Cond.selects "java/lang/StringBuilder" ({ cls := "java/lang/StringBuilder", name := "append", desc := "(C)Ljava/lang/StringBuilder;" } : Jvm.MethodName) ({ cls := "java/lang/StringBuilder", name := "append", desc := "(C)Ljava/lang/StringBuilder;" } : Jvm.MethodName)) ∈ lw_all := lw_g (lw_at lw_m3 14 rfl) rfl
theorem q622 : (Jvm.Cond.code ({ cls := "java/lang/StringBuilder", name := "append", desc := "(C)Ljava/lang/StringBuilder;" } : Jvm.MethodName) prog_44_method_14_code (2 : Nat) (Option.some (Jvm.ClassFile.FieldType.object "java/lang/StringBuilder"))) ∈ lw_all := lw_g (lw_at lw_m3 15 rfl) rfl
theorem q623 : (Jvm.Cond.methodLink "java/lang/StringBuilder" (50 : Nat) ({ cls := "java/lang/AbstractStringBuilder", name := "append", desc := "(C)Ljava/lang/AbstractStringBuilder;" } : Jvm.MethodName)) ∈ lw_all := lw_g (lw_at lw_m3 16 rfl) rfl
theorem q664 : (Jvm.Cond.selects "java/lang/StringBuilder" ({ cls := "java/lang/AbstractStringBuilder", name := "isLatin1", desc := "()Z" } : Jvm.MethodName) ({ cls := "java/lang/AbstractStringBuilder", name := "isLatin1", desc := "()Z" } : Jvm.MethodName)) ∈ lw_all := lw_g (lw_at lw_m3 57 rfl) rfl
theorem q715 : (Jvm.Cond.instanceMethod ({ cls := "java/lang/StringBuilder", name := "toString", desc := "()Ljava/lang/String;" } : Jvm.MethodName)) ∈ lw_all := lw_g (lw_at lw_m3 108 rfl) rfl
theorem q716 : (Jvm.Cond.selects "java/lang/StringBuilder" ({ cls := "java/lang/StringBuilder", name := "toString", desc := "()Ljava/lang/String;" } : Jvm.MethodName) ({ cls := "java/lang/StringBuilder", name := "toString", desc := "()Ljava/lang/String;" } : Jvm.MethodName)) ∈ lw_all := lw_g (lw_at lw_m3 109 rfl) rfl
theorem q717 : (Jvm.Cond.code ({ cls := "java/lang/StringBuilder", name := "toString", desc := "()Ljava/lang/String;" } : Jvm.MethodName) prog_44_method_42_code (1 : Nat) (Option.some (Jvm.ClassFile.FieldType.object "java/lang/String"))) ∈ lw_all := lw_g (lw_at lw_m3 110 rfl) rfl
theorem q718 : (Jvm.Cond.classLink "java/lang/StringBuilder" (18 : Nat) "java/lang/String") ∈ lw_all := lw_g (lw_at lw_m3 111 rfl) rfl
theorem q719 : (Jvm.Cond.methodLink "java/lang/StringBuilder" (137 : Nat) ({ cls := "java/lang/String", name := "<init>", desc := "(Ljava/lang/StringBuilder;)V" } : Jvm.MethodName)) ∈ lw_all := lw_g (lw_at lw_m3 112 rfl) rfl
theorem q729 : (Jvm.Cond.selects "java/lang/StringBuilder" ({ cls := "java/lang/AbstractStringBuilder", name := "getValue", desc := "()[B" } : Jvm.MethodName) ({ cls := "java/lang/AbstractStringBuilder", name := "getValue", desc := "()[B" } : Jvm.MethodName)) ∈ lw_all := lw_g (lw_at lw_m3 122 rfl) rfl
theorem q734 : (Jvm.Cond.selects "java/lang/StringBuilder" ({ cls := "java/lang/AbstractStringBuilder", name := "length", desc := "()I" } : Jvm.MethodName) ({ cls := "java/lang/StringBuilder", name := "length", desc := "()I" } : Jvm.MethodName)) ∈ lw_all := lw_g (lw_at lw_m3 127 rfl) rfl
theorem q735 : (Jvm.Cond.instanceMethod ({ cls := "java/lang/StringBuilder", name := "length", desc := "()I" } : Jvm.MethodName)) ∈ lw_all := lw_g (lw_at lw_m3 128 rfl) rfl
theorem q736 : (Jvm.Cond.code ({ cls := "java/lang/StringBuilder", name := "length", desc := "()I" } : Jvm.MethodName) prog_44_method_93_code (1 : Nat) (Option.some Jvm.ClassFile.FieldType.int)) ∈ lw_all := lw_g (lw_at lw_m3 129 rfl) rfl
theorem q737 : (Jvm.Cond.methodLink "java/lang/StringBuilder" (343 : Nat) ({ cls := "java/lang/AbstractStringBuilder", name := "length", desc := "()I" } : Jvm.MethodName)) ∈ lw_all := lw_g (lw_at lw_m3 130 rfl) rfl
theorem q761 : (Jvm.Cond.instanceMethod ({ cls := "java/lang/StringBuilder", name := "append", desc := "(I)Ljava/lang/StringBuilder;" } : Jvm.MethodName)) ∈ lw_all := lw_g (lw_at lw_m3 154 rfl) rfl
theorem q762 : (Jvm.Cond.selects "java/lang/StringBuilder" ({ cls := "java/lang/StringBuilder", name := "append", desc := "(I)Ljava/lang/StringBuilder;" } : Jvm.MethodName) ({ cls := "java/lang/StringBuilder", name := "append", desc := "(I)Ljava/lang/StringBuilder;" } : Jvm.MethodName)) ∈ lw_all := lw_g (lw_at lw_m3 155 rfl) rfl
theorem q763 : (Jvm.Cond.code ({ cls := "java/lang/StringBuilder", name := "append", desc := "(I)Ljava/lang/StringBuilder;" } : Jvm.MethodName) prog_44_method_15_code (2 : Nat) (Option.some (Jvm.ClassFile.FieldType.object "java/lang/StringBuilder"))) ∈ lw_all := lw_g (lw_at lw_m3 156 rfl) rfl
theorem q764 : (Jvm.Cond.methodLink "java/lang/StringBuilder" (53 : Nat) ({ cls := "java/lang/AbstractStringBuilder", name := "append", desc := "(I)Ljava/lang/AbstractStringBuilder;" } : Jvm.MethodName)) ∈ lw_all := lw_g (lw_at lw_m3 157 rfl) rfl
theorem q796 : (Jvm.Cond.instanceMethod ({ cls := "java/lang/StringBuilder", name := "append", desc := "(Ljava/lang/String;)Ljava/lang/StringBuilder;" } : Jvm.MethodName)) ∈ lw_all := lw_g (lw_at lw_m3 189 rfl) rfl
theorem q797 : (Jvm.Cond.selects "java/lang/StringBuilder" ({ cls := "java/lang/StringBuilder", name := "append", desc := "(Ljava/lang/String;)Ljava/lang/StringBuilder;" } : Jvm.MethodName) ({ cls := "java/lang/StringBuilder", name := "append", desc := "(Ljava/lang/String;)Ljava/lang/StringBuilder;" } : Jvm.MethodName)) ∈ lw_all := lw_g (lw_at lw_m3 190 rfl) rfl
theorem q798 : (Jvm.Cond.code ({ cls := "java/lang/StringBuilder", name := "append", desc := "(Ljava/lang/String;)Ljava/lang/StringBuilder;" } : Jvm.MethodName) prog_44_method_7_code (2 : Nat) (Option.some (Jvm.ClassFile.FieldType.object "java/lang/StringBuilder"))) ∈ lw_all := lw_g (lw_at lw_m3 191 rfl) rfl
theorem q799 : (Jvm.Cond.methodLink "java/lang/StringBuilder" (29 : Nat) ({ cls := "java/lang/AbstractStringBuilder", name := "append", desc := "(Ljava/lang/String;)Ljava/lang/AbstractStringBuilder;" } : Jvm.MethodName)) ∈ lw_all := lw_g (lw_at lw_m3 192 rfl) rfl
theorem q1028 : (Jvm.Cond.castable "java/lang/StringBuilder" "java/lang/CharSequence") ∈ lw_tbl := lw_at lw_m4 181 rfl
theorem q1029 : (Jvm.Cond.selects "java/lang/StringBuilder" ({ cls := "java/lang/CharSequence", name := "length", desc := "()I" } : Jvm.MethodName) ({ cls := "java/lang/StringBuilder", name := "length", desc := "()I" } : Jvm.MethodName)) ∈ lw_all := lw_g (lw_at lw_m4 182 rfl) rfl
theorem q1030 : (Jvm.Cond.unhidden "java/lang/StringBuilder" "length" "()I") ∈ lw_tbl := lw_at lw_m4 183 rfl
theorem q1031 : (Jvm.Cond.publicMethod ({ cls := "java/lang/StringBuilder", name := "length", desc := "()I" } : Jvm.MethodName)) ∈ lw_tbl := lw_at lw_m4 184 rfl
theorem q1048 : (Jvm.Cond.selects "java/lang/StringBuilder" ({ cls := "java/lang/CharSequence", name := "charAt", desc := "(I)C" } : Jvm.MethodName) ({ cls := "java/lang/StringBuilder", name := "charAt", desc := "(I)C" } : Jvm.MethodName)) ∈ lw_all := lw_g (lw_at lw_m4 201 rfl) rfl
theorem q1049 : (Jvm.Cond.unhidden "java/lang/StringBuilder" "charAt" "(I)C") ∈ lw_tbl := lw_at lw_m4 202 rfl
theorem q1050 : (Jvm.Cond.instanceMethod ({ cls := "java/lang/StringBuilder", name := "charAt", desc := "(I)C" } : Jvm.MethodName)) ∈ lw_all := lw_g (lw_at lw_m4 203 rfl) rfl
theorem q1051 : (Jvm.Cond.publicMethod ({ cls := "java/lang/StringBuilder", name := "charAt", desc := "(I)C" } : Jvm.MethodName)) ∈ lw_tbl := lw_at lw_m4 204 rfl
theorem q1052 : (Jvm.Cond.code ({ cls := "java/lang/StringBuilder", name := "charAt", desc := "(I)C" } : Jvm.MethodName) prog_44_method_88_code (2 : Nat) (Option.some Jvm.ClassFile.FieldType.char)) ∈ lw_all := lw_g (lw_at lw_m4 205 rfl) rfl
theorem q1053 : (Jvm.Cond.methodLink "java/lang/StringBuilder" (329 : Nat) ({ cls := "java/lang/AbstractStringBuilder", name := "charAt", desc := "(I)C" } : Jvm.MethodName)) ∈ lw_all := lw_g (lw_at lw_m4 206 rfl) rfl
theorem q3666 : (Jvm.Cond.instanceMethod ({ cls := "java/lang/StringBuilder", name := "setLength", desc := "(I)V" } : Jvm.MethodName)) ∈ lw_all := lw_g (lw_at lw_m15 179 rfl) rfl
theorem q3667 : (Jvm.Cond.selects "java/lang/StringBuilder" ({ cls := "java/lang/StringBuilder", name := "setLength", desc := "(I)V" } : Jvm.MethodName) ({ cls := "java/lang/StringBuilder", name := "setLength", desc := "(I)V" } : Jvm.MethodName)) ∈ lw_all := lw_g (lw_at lw_m15 180 rfl) rfl
theorem q3668 : (Jvm.Cond.code ({ cls := "java/lang/StringBuilder", name := "setLength", desc := "(I)V" } : Jvm.MethodName) prog_44_method_89_code (2 : Nat) (Option.none : Option Jvm.ClassFile.FieldType)) ∈ lw_all := lw_g (lw_at lw_m15 181 rfl) rfl
theorem q3669 : (Jvm.Cond.methodLink "java/lang/StringBuilder" (333 : Nat) ({ cls := "java/lang/AbstractStringBuilder", name := "setLength", desc := "(I)V" } : Jvm.MethodName)) ∈ lw_all := lw_g (lw_at lw_m15 182 rfl) rfl
theorem q4643 : (Jvm.Cond.selects "java/lang/StringBuilder" ({ cls := "java/lang/StringBuilder", name := "length", desc := "()I" } : Jvm.MethodName) ({ cls := "java/lang/StringBuilder", name := "length", desc := "()I" } : Jvm.MethodName)) ∈ lw_all := lw_g (lw_at lw_m19 196 rfl) rfl
theorem q4644 : (Jvm.Cond.selects "java/lang/StringBuilder" ({ cls := "java/lang/StringBuilder", name := "charAt", desc := "(I)C" } : Jvm.MethodName) ({ cls := "java/lang/StringBuilder", name := "charAt", desc := "(I)C" } : Jvm.MethodName)) ∈ lw_all := lw_g (lw_at lw_m19 197 rfl) rfl
theorem q4672 : (Jvm.Cond.castable "java/lang/StringBuilder" "java/lang/Object") ∈ lw_tbl := lw_at lw_m19 225 rfl
theorem in_J3 : ∀ w ∈ wsJ30, w ∈ lw_all := lw_in wsJ30 [258, 260, 262, 264] (by decide +kernel) (by decide +kernel)
/-! J30.java_util_HashMap_KeyIterator.lean.txt -/
def RJ30 : String := "java/util/HashMap$KeyIterator"
def TJ30 : u_T := fun k => match k with
  | 0 => ("java/util/HashMap$HashIterator", "next", "Ljava/util/HashMap$Node;", false)
  | 1 => ("java/util/HashMap$HashIterator", "current", "Ljava/util/HashMap$Node;", false)
  | 2 => ("java/util/HashMap$HashIterator", "expectedModCount", "I", false)
  | 3 => ("java/util/HashMap$HashIterator", "index", "I", false)
  | _ => ("java/util/HashMap$HashIterator", "this$0", "Ljava/util/HashMap;", true)
def tyJ30 : Nat → FieldType := fun k => match k with
  | 0 => .object "java/util/HashMap$Node"
  | 1 => .object "java/util/HashMap$Node"
  | 2 => .int
  | 3 => .int
  | _ => .object "java/util/HashMap"
abbrev wsJ300 : List Cond := u_ws RJ30 TJ30 5
theorem nmJ30 : ∀ a, a < 5 → ∀ b, b < 5 → a ≠ b → (TJ30 a).2.1 ≠ (TJ30 b).2.1 := by decide +kernel
theorem tyJ30_ok : ∀ k, k < 5 → parseFieldDescriptor (TJ30 k).2.2.1 = some (tyJ30 k) := by decide +kernel
theorem in_J30 : ∀ w ∈ wsJ300, w ∈ lw_all := lw_in wsJ300 [1822, 1824, 1826, 1828, 1830] (by decide +kernel) (by decide +kernel)
/-! J31.java_util_LinkedHashMap_LinkedHashIterator.lean.txt -/
def RJ31 : String := "java/util/LinkedHashMap$LinkedHashIterator"
abbrev cJ31_hasNext : ByteArray := prog_76_method_2_code
def yJ31_hasNext : MethodName := ⟨RJ31, "hasNext", "()Z"⟩
def dkwJ31_hasNext_0 : List UInt8 := [42, 180, 0, 26, 198, 0, 7, 4, 167, 0, 4, 3, 172]
abbrev dktJ31_hasNext_0 : List UInt8 := dkwJ31_hasNext_0 ++ []
theorem dksJ31_hasNext_0 : cJ31_hasNext.data.toList.drop 0 = dktJ31_hasNext_0 := by decide +kernel
theorem dJ31_hasNext_0 : decode cJ31_hasNext 0 = .ok (.aload_n 0, 1) := dk_42 (dk_at dksJ31_hasNext_0 0 rfl rfl)
theorem dJ31_hasNext_1 : decode cJ31_hasNext 1 = .ok (.getfield 26, 3) := dk_180 0 26 (dk_at dksJ31_hasNext_0 1 rfl rfl)
theorem dJ31_hasNext_4 : decode cJ31_hasNext 4 = .ok (.ifnull 7, 3) := dk_198 0 7 (dk_at dksJ31_hasNext_0 4 rfl rfl)
theorem dJ31_hasNext_7 : decode cJ31_hasNext 7 = .ok (.iconst 1, 1) := dk_4 (dk_at dksJ31_hasNext_0 7 rfl rfl)
theorem dJ31_hasNext_8 : decode cJ31_hasNext 8 = .ok (.goto 4, 3) := dk_167 0 4 (dk_at dksJ31_hasNext_0 8 rfl rfl)
theorem dJ31_hasNext_11 : decode cJ31_hasNext 11 = .ok (.iconst 0, 1) := dk_3 (dk_at dksJ31_hasNext_0 11 rfl rfl)
theorem dJ31_hasNext_12 : decode cJ31_hasNext 12 = .ok (.ireturn, 1) := dk_172 (dk_at dksJ31_hasNext_0 12 rfl rfl)
abbrev cJ31_nextNode : ByteArray := prog_76_method_3_code
def yJ31_nextNode : MethodName := ⟨RJ31, "nextNode", "()Ljava/util/LinkedHashMap$Entry;"⟩
def dkwJ31_nextNode_2 : List UInt8 := [180, 0, 13, 153, 0, 10, 43, 180, 0, 45, 167, 0, 7, 43, 180, 0, 50, 181, 0, 26, 43, 176]
abbrev dktJ31_nextNode_2 : List UInt8 := dkwJ31_nextNode_2 ++ []
def dkwJ31_nextNode_1 : List UInt8 := [183, 0, 41, 191, 43, 199, 0, 11, 187, 0, 42, 89, 183, 0, 44, 191, 42, 43, 181, 0, 36, 42, 42]
abbrev dktJ31_nextNode_1 : List UInt8 := dkwJ31_nextNode_1 ++ dktJ31_nextNode_2
def dkwJ31_nextNode_0 : List UInt8 := [42, 180, 0, 26, 76, 42, 180, 0, 1, 180, 0, 29, 42, 180, 0, 33, 159, 0, 11, 187, 0, 39, 89]
abbrev dktJ31_nextNode_0 : List UInt8 := dkwJ31_nextNode_0 ++ dktJ31_nextNode_1
theorem dksJ31_nextNode_0 : cJ31_nextNode.data.toList.drop 0 = dktJ31_nextNode_0 := by decide +kernel
theorem dksJ31_nextNode_1 : cJ31_nextNode.data.toList.drop 23 = dktJ31_nextNode_1 := dk_seg dksJ31_nextNode_0 23 rfl rfl
theorem dksJ31_nextNode_2 : cJ31_nextNode.data.toList.drop 46 = dktJ31_nextNode_2 := dk_seg dksJ31_nextNode_1 23 rfl rfl
theorem dJ31_nextNode_0 : decode cJ31_nextNode 0 = .ok (.aload_n 0, 1) := dk_42 (dk_at dksJ31_nextNode_0 0 rfl rfl)
theorem dJ31_nextNode_1 : decode cJ31_nextNode 1 = .ok (.getfield 26, 3) := dk_180 0 26 (dk_at dksJ31_nextNode_0 1 rfl rfl)
theorem dJ31_nextNode_4 : decode cJ31_nextNode 4 = .ok (.astore_n 1, 1) := dk_76 (dk_at dksJ31_nextNode_0 4 rfl rfl)
theorem dJ31_nextNode_5 : decode cJ31_nextNode 5 = .ok (.aload_n 0, 1) := dk_42 (dk_at dksJ31_nextNode_0 5 rfl rfl)
theorem dJ31_nextNode_6 : decode cJ31_nextNode 6 = .ok (.getfield 1, 3) := dk_180 0 1 (dk_at dksJ31_nextNode_0 6 rfl rfl)
theorem dJ31_nextNode_9 : decode cJ31_nextNode 9 = .ok (.getfield 29, 3) := dk_180 0 29 (dk_at dksJ31_nextNode_0 9 rfl rfl)
theorem dJ31_nextNode_12 : decode cJ31_nextNode 12 = .ok (.aload_n 0, 1) := dk_42 (dk_at dksJ31_nextNode_0 12 rfl rfl)
theorem dJ31_nextNode_13 : decode cJ31_nextNode 13 = .ok (.getfield 33, 3) := dk_180 0 33 (dk_at dksJ31_nextNode_0 13 rfl rfl)
theorem dJ31_nextNode_16 : decode cJ31_nextNode 16 = .ok (.if_icmp .eq 11, 3) := dk_159 0 11 (dk_at dksJ31_nextNode_0 16 rfl rfl)
theorem dJ31_nextNode_19 : decode cJ31_nextNode 19 = .ok (.new 39, 3) := dk_187 0 39 (dk_at dksJ31_nextNode_0 19 rfl rfl)
theorem dJ31_nextNode_27 : decode cJ31_nextNode 27 = .ok (.aload_n 1, 1) := dk_43 (dk_at dksJ31_nextNode_1 4 rfl rfl)
theorem dJ31_nextNode_28 : decode cJ31_nextNode 28 = .ok (.ifnonnull 11, 3) := dk_199 0 11 (dk_at dksJ31_nextNode_1 5 rfl rfl)
theorem dJ31_nextNode_31 : decode cJ31_nextNode 31 = .ok (.new 42, 3) := dk_187 0 42 (dk_at dksJ31_nextNode_1 8 rfl rfl)
theorem dJ31_nextNode_39 : decode cJ31_nextNode 39 = .ok (.aload_n 0, 1) := dk_42 (dk_at dksJ31_nextNode_1 16 rfl rfl)
theorem dJ31_nextNode_40 : decode cJ31_nextNode 40 = .ok (.aload_n 1, 1) := dk_43 (dk_at dksJ31_nextNode_1 17 rfl rfl)
theorem dJ31_nextNode_41 : decode cJ31_nextNode 41 = .ok (.putfield 36, 3) := dk_181 0 36 (dk_at dksJ31_nextNode_1 18 rfl rfl)
theorem dJ31_nextNode_44 : decode cJ31_nextNode 44 = .ok (.aload_n 0, 1) := dk_42 (dk_at dksJ31_nextNode_1 21 rfl rfl)
theorem dJ31_nextNode_45 : decode cJ31_nextNode 45 = .ok (.aload_n 0, 1) := dk_42 (dk_at dksJ31_nextNode_1 22 rfl rfl)
theorem dJ31_nextNode_46 : decode cJ31_nextNode 46 = .ok (.getfield 13, 3) := dk_180 0 13 (dk_at dksJ31_nextNode_2 0 rfl rfl)
theorem dJ31_nextNode_49 : decode cJ31_nextNode 49 = .ok (.ifCond .eq 10, 3) := dk_153 0 10 (dk_at dksJ31_nextNode_2 3 rfl rfl)
theorem dJ31_nextNode_52 : decode cJ31_nextNode 52 = .ok (.aload_n 1, 1) := dk_43 (dk_at dksJ31_nextNode_2 6 rfl rfl)
theorem dJ31_nextNode_53 : decode cJ31_nextNode 53 = .ok (.getfield 45, 3) := dk_180 0 45 (dk_at dksJ31_nextNode_2 7 rfl rfl)
theorem dJ31_nextNode_56 : decode cJ31_nextNode 56 = .ok (.goto 7, 3) := dk_167 0 7 (dk_at dksJ31_nextNode_2 10 rfl rfl)
theorem dJ31_nextNode_59 : decode cJ31_nextNode 59 = .ok (.aload_n 1, 1) := dk_43 (dk_at dksJ31_nextNode_2 13 rfl rfl)
theorem dJ31_nextNode_60 : decode cJ31_nextNode 60 = .ok (.getfield 50, 3) := dk_180 0 50 (dk_at dksJ31_nextNode_2 14 rfl rfl)
theorem dJ31_nextNode_63 : decode cJ31_nextNode 63 = .ok (.putfield 26, 3) := dk_181 0 26 (dk_at dksJ31_nextNode_2 17 rfl rfl)
theorem dJ31_nextNode_66 : decode cJ31_nextNode 66 = .ok (.aload_n 1, 1) := dk_43 (dk_at dksJ31_nextNode_2 20 rfl rfl)
theorem dJ31_nextNode_67 : decode cJ31_nextNode 67 = .ok (.areturn, 1) := dk_176 (dk_at dksJ31_nextNode_2 21 rfl rfl)
abbrev cJ31_init : ByteArray := prog_76_method_1_code
def yJ31_init : MethodName := ⟨RJ31, "<init>", "(Ljava/util/LinkedHashMap;Z)V"⟩
def dkwJ31_init_1 : List UInt8 := [167, 0, 7, 43, 180, 0, 23, 181, 0, 26, 42, 43, 180, 0, 29, 181, 0, 33, 42, 1, 181, 0, 36, 177]
abbrev dktJ31_init_1 : List UInt8 := dkwJ31_init_1 ++ []
def dkwJ31_init_0 : List UInt8 := [42, 43, 181, 0, 1, 42, 183, 0, 7, 42, 28, 181, 0, 13, 42, 28, 153, 0, 10, 43, 180, 0, 17]
abbrev dktJ31_init_0 : List UInt8 := dkwJ31_init_0 ++ dktJ31_init_1
theorem dksJ31_init_0 : cJ31_init.data.toList.drop 0 = dktJ31_init_0 := by decide +kernel
theorem dksJ31_init_1 : cJ31_init.data.toList.drop 23 = dktJ31_init_1 := dk_seg dksJ31_init_0 23 rfl rfl
theorem dJ31_init_0 : decode cJ31_init 0 = .ok (.aload_n 0, 1) := dk_42 (dk_at dksJ31_init_0 0 rfl rfl)
theorem dJ31_init_1 : decode cJ31_init 1 = .ok (.aload_n 1, 1) := dk_43 (dk_at dksJ31_init_0 1 rfl rfl)
theorem dJ31_init_2 : decode cJ31_init 2 = .ok (.putfield 1, 3) := dk_181 0 1 (dk_at dksJ31_init_0 2 rfl rfl)
theorem dJ31_init_5 : decode cJ31_init 5 = .ok (.aload_n 0, 1) := dk_42 (dk_at dksJ31_init_0 5 rfl rfl)
theorem dJ31_init_6 : decode cJ31_init 6 = .ok (.invokespecial 7, 3) := dk_183 0 7 (dk_at dksJ31_init_0 6 rfl rfl)
theorem dJ31_init_9 : decode cJ31_init 9 = .ok (.aload_n 0, 1) := dk_42 (dk_at dksJ31_init_0 9 rfl rfl)
theorem dJ31_init_10 : decode cJ31_init 10 = .ok (.iload_n 2, 1) := dk_28 (dk_at dksJ31_init_0 10 rfl rfl)
theorem dJ31_init_11 : decode cJ31_init 11 = .ok (.putfield 13, 3) := dk_181 0 13 (dk_at dksJ31_init_0 11 rfl rfl)
theorem dJ31_init_14 : decode cJ31_init 14 = .ok (.aload_n 0, 1) := dk_42 (dk_at dksJ31_init_0 14 rfl rfl)
theorem dJ31_init_15 : decode cJ31_init 15 = .ok (.iload_n 2, 1) := dk_28 (dk_at dksJ31_init_0 15 rfl rfl)
theorem dJ31_init_16 : decode cJ31_init 16 = .ok (.ifCond .eq 10, 3) := dk_153 0 10 (dk_at dksJ31_init_0 16 rfl rfl)
theorem dJ31_init_19 : decode cJ31_init 19 = .ok (.aload_n 1, 1) := dk_43 (dk_at dksJ31_init_0 19 rfl rfl)
theorem dJ31_init_20 : decode cJ31_init 20 = .ok (.getfield 17, 3) := dk_180 0 17 (dk_at dksJ31_init_0 20 rfl rfl)
theorem dJ31_init_23 : decode cJ31_init 23 = .ok (.goto 7, 3) := dk_167 0 7 (dk_at dksJ31_init_1 0 rfl rfl)
theorem dJ31_init_26 : decode cJ31_init 26 = .ok (.aload_n 1, 1) := dk_43 (dk_at dksJ31_init_1 3 rfl rfl)
theorem dJ31_init_27 : decode cJ31_init 27 = .ok (.getfield 23, 3) := dk_180 0 23 (dk_at dksJ31_init_1 4 rfl rfl)
theorem dJ31_init_30 : decode cJ31_init 30 = .ok (.putfield 26, 3) := dk_181 0 26 (dk_at dksJ31_init_1 7 rfl rfl)
theorem dJ31_init_33 : decode cJ31_init 33 = .ok (.aload_n 0, 1) := dk_42 (dk_at dksJ31_init_1 10 rfl rfl)
theorem dJ31_init_34 : decode cJ31_init 34 = .ok (.aload_n 1, 1) := dk_43 (dk_at dksJ31_init_1 11 rfl rfl)
theorem dJ31_init_35 : decode cJ31_init 35 = .ok (.getfield 29, 3) := dk_180 0 29 (dk_at dksJ31_init_1 12 rfl rfl)
theorem dJ31_init_38 : decode cJ31_init 38 = .ok (.putfield 33, 3) := dk_181 0 33 (dk_at dksJ31_init_1 15 rfl rfl)
theorem dJ31_init_41 : decode cJ31_init 41 = .ok (.aload_n 0, 1) := dk_42 (dk_at dksJ31_init_1 18 rfl rfl)
theorem dJ31_init_42 : decode cJ31_init 42 = .ok (.aconst_null, 1) := dk_1 (dk_at dksJ31_init_1 19 rfl rfl)
theorem dJ31_init_43 : decode cJ31_init 43 = .ok (.putfield 36, 3) := dk_181 0 36 (dk_at dksJ31_init_1 20 rfl rfl)
theorem dJ31_init_46 : decode cJ31_init 46 = .ok (.return_, 1) := dk_177 (dk_at dksJ31_init_1 23 rfl rfl)
theorem q173 : (Jvm.Cond.initialized "java/util/LinkedHashMap$LinkedHashIterator") ∈ lw_all := lw_g (lw_at lw_m1 46 rfl) rfl
theorem q1252 : (Jvm.Cond.fieldLink "java/util/LinkedHashMap$LinkedHashIterator" (23 : Nat) "java/util/LinkedHashMap" "head" "Ljava/util/LinkedHashMap$Entry;") ∈ lw_all := lw_g (lw_at lw_m5 165 rfl) rfl
theorem q1253 : (Jvm.Cond.fieldLink "java/util/LinkedHashMap$LinkedHashIterator" (17 : Nat) "java/util/LinkedHashMap" "tail" "Ljava/util/LinkedHashMap$Entry;") ∈ lw_all := lw_g (lw_at lw_m5 166 rfl) rfl
theorem q1268 : (Jvm.Cond.fieldLink "java/util/LinkedHashMap$LinkedHashIterator" (29 : Nat) "java/util/LinkedHashMap" "modCount" "I") ∈ lw_all := lw_g (lw_at lw_m5 181 rfl) rfl
theorem q1527 : (Jvm.Cond.instanceMethod ({ cls := "java/util/LinkedHashMap$LinkedHashIterator", name := "hasNext", desc := "()Z" } : Jvm.MethodName)) ∈ lw_all := lw_g (lw_at lw_m6 200 rfl) rfl
theorem q1528 : (Jvm.Cond.publicMethod ({ cls := "java/util/LinkedHashMap$LinkedHashIterator", name := "hasNext", desc := "()Z" } : Jvm.MethodName)) ∈ lw_tbl := lw_at lw_m6 201 rfl
theorem q1529 : (Jvm.Cond.code ({ cls := "java/util/LinkedHashMap$LinkedHashIterator", name := "hasNext", desc := "()Z" } : Jvm.MethodName) prog_76_method_2_code (1 : Nat) (Option.some Jvm.ClassFile.FieldType.boolean)) ∈ lw_all := lw_g (lw_at lw_m6 202 rfl) rfl
theorem q1584 : (Jvm.Cond.instanceMethod ({ cls := "java/util/LinkedHashMap$LinkedHashIterator", name := "nextNode", desc := "()Ljava/util/LinkedHashMap$Entry;" } : Jvm.MethodName)) ∈ lw_all := lw_g (lw_at lw_m7 17 rfl) rfl
theorem q1585 : (Jvm.Cond.code ({ cls := "java/util/LinkedHashMap$LinkedHashIterator", name := "nextNode", desc := "()Ljava/util/LinkedHashMap$Entry;" } : Jvm.MethodName) prog_76_method_3_code (2 : Nat) (Option.some (Jvm.ClassFile.FieldType.object "java/util/LinkedHashMap$Entry"))) ∈ lw_all := lw_g (lw_at lw_m7 18 rfl) rfl
theorem q1845 : (Jvm.Cond.instanceMethod ({ cls := "java/util/LinkedHashMap$LinkedHashIterator", name := "<init>", desc := "(Ljava/util/LinkedHashMap;Z)V" } : Jvm.MethodName)) ∈ lw_all := lw_g (lw_at lw_m8 38 rfl) rfl
theorem q1846 : (Jvm.Cond.code ({ cls := "java/util/LinkedHashMap$LinkedHashIterator", name := "<init>", desc := "(Ljava/util/LinkedHashMap;Z)V" } : Jvm.MethodName) prog_76_method_1_code (3 : Nat) (Option.none : Option Jvm.ClassFile.FieldType)) ∈ lw_all := lw_g (lw_at lw_m8 39 rfl) rfl
theorem q1847 : (Jvm.Cond.methodLink "java/util/LinkedHashMap$LinkedHashIterator" (7 : Nat) ({ cls := "java/lang/Object", name := "<init>", desc := "()V" } : Jvm.MethodName)) ∈ lw_all := lw_g (lw_at lw_m8 40 rfl) rfl
theorem q1848 : (Jvm.Cond.fieldLink "java/util/LinkedHashMap$LinkedHashIterator" (26 : Nat) "java/util/LinkedHashMap$LinkedHashIterator" "next" "Ljava/util/LinkedHashMap$Entry;") ∈ lw_all := lw_g (lw_at lw_m8 41 rfl) rfl
theorem q1849 : (Jvm.Cond.fieldLink "java/util/LinkedHashMap$LinkedHashIterator" (36 : Nat) "java/util/LinkedHashMap$LinkedHashIterator" "current" "Ljava/util/LinkedHashMap$Entry;") ∈ lw_all := lw_g (lw_at lw_m8 42 rfl) rfl
theorem q1850 : (Jvm.Cond.fieldLink "java/util/LinkedHashMap$LinkedHashIterator" (33 : Nat) "java/util/LinkedHashMap$LinkedHashIterator" "expectedModCount" "I") ∈ lw_all := lw_g (lw_at lw_m8 43 rfl) rfl
theorem q1851 : (Jvm.Cond.fieldLink "java/util/LinkedHashMap$LinkedHashIterator" (13 : Nat) "java/util/LinkedHashMap$LinkedHashIterator" "reversed" "Z") ∈ lw_all := lw_g (lw_at lw_m8 44 rfl) rfl
theorem q1852 : (Jvm.Cond.fieldLink "java/util/LinkedHashMap$LinkedHashIterator" (1 : Nat) "java/util/LinkedHashMap$LinkedHashIterator" "this$0" "Ljava/util/LinkedHashMap;") ∈ lw_all := lw_g (lw_at lw_m8 45 rfl) rfl
theorem q2867 : (Jvm.Cond.fieldLink "java/util/LinkedHashMap$LinkedHashIterator" (45 : Nat) "java/util/LinkedHashMap$Entry" "before" "Ljava/util/LinkedHashMap$Entry;") ∈ lw_all := lw_g (lw_at lw_m12 100 rfl) rfl
theorem q2869 : (Jvm.Cond.fieldLink "java/util/LinkedHashMap$LinkedHashIterator" (50 : Nat) "java/util/LinkedHashMap$Entry" "after" "Ljava/util/LinkedHashMap$Entry;") ∈ lw_all := lw_g (lw_at lw_m12 102 rfl) rfl
/-! J32.java_util_LinkedHashMap_LinkedEntryIterator.lean.txt -/
def RJ32 : String := "java/util/LinkedHashMap$LinkedEntryIterator"
def TJ32 : u_T := fun k => match k with
  | 0 => ("java/util/LinkedHashMap$LinkedHashIterator", "next", "Ljava/util/LinkedHashMap$Entry;", false)
  | 1 => ("java/util/LinkedHashMap$LinkedHashIterator", "current", "Ljava/util/LinkedHashMap$Entry;", false)
  | 2 => ("java/util/LinkedHashMap$LinkedHashIterator", "expectedModCount", "I", false)
  | 3 => ("java/util/LinkedHashMap$LinkedHashIterator", "reversed", "Z", false)
  | _ => ("java/util/LinkedHashMap$LinkedHashIterator", "this$0", "Ljava/util/LinkedHashMap;", true)
def tyJ32 : Nat → FieldType := fun k => match k with
  | 0 => .object "java/util/LinkedHashMap$Entry"
  | 1 => .object "java/util/LinkedHashMap$Entry"
  | 2 => .int
  | 3 => .boolean
  | _ => .object "java/util/LinkedHashMap"
abbrev wsJ320 : List Cond := u_ws RJ32 TJ32 5
theorem nmJ32 : ∀ a, a < 5 → ∀ b, b < 5 → a ≠ b → (TJ32 a).2.1 ≠ (TJ32 b).2.1 := by decide +kernel
theorem tyJ32_ok : ∀ k, k < 5 → parseFieldDescriptor (TJ32 k).2.2.1 = some (tyJ32 k) := by decide +kernel
abbrev cJ32_next : ByteArray := prog_74_method_3_code
def yJ32_next : MethodName := ⟨RJ32, "next", "()Ljava/lang/Object;"⟩
theorem dJ32_next_0 : decode cJ32_next 0 = .ok (.aload_n 0, 1) := by decide +kernel
theorem dJ32_next_1 : decode cJ32_next 1 = .ok (.invokevirtual 13, 3) := by decide +kernel
theorem dJ32_next_4 : decode cJ32_next 4 = .ok (.areturn, 1) := by decide +kernel
abbrev cJ32_next_2 : ByteArray := prog_74_method_2_code
def yJ32_next_2 : MethodName := ⟨RJ32, "next", "()Ljava/util/Map$Entry;"⟩
theorem dJ32_next_2_0 : decode cJ32_next_2 0 = .ok (.aload_n 0, 1) := by decide +kernel
theorem dJ32_next_2_1 : decode cJ32_next_2 1 = .ok (.invokevirtual 7, 3) := by decide +kernel
theorem dJ32_next_2_4 : decode cJ32_next_2 4 = .ok (.areturn, 1) := by decide +kernel
abbrev cJ32_init : ByteArray := prog_74_method_1_code
def yJ32_init : MethodName := ⟨RJ32, "<init>", "(Ljava/util/LinkedHashMap;Z)V"⟩
def dkwJ32_init_0 : List UInt8 := [42, 43, 28, 183, 0, 1, 177]
abbrev dktJ32_init_0 : List UInt8 := dkwJ32_init_0 ++ []
theorem dksJ32_init_0 : cJ32_init.data.toList.drop 0 = dktJ32_init_0 := by decide +kernel
theorem dJ32_init_0 : decode cJ32_init 0 = .ok (.aload_n 0, 1) := dk_42 (dk_at dksJ32_init_0 0 rfl rfl)
theorem dJ32_init_1 : decode cJ32_init 1 = .ok (.aload_n 1, 1) := dk_43 (dk_at dksJ32_init_0 1 rfl rfl)
theorem dJ32_init_2 : decode cJ32_init 2 = .ok (.iload_n 2, 1) := dk_28 (dk_at dksJ32_init_0 2 rfl rfl)
theorem dJ32_init_3 : decode cJ32_init 3 = .ok (.invokespecial 1, 3) := dk_183 0 1 (dk_at dksJ32_init_0 3 rfl rfl)
theorem dJ32_init_6 : decode cJ32_init 6 = .ok (.return_, 1) := dk_177 (dk_at dksJ32_init_0 6 rfl rfl)
theorem q174 : (Jvm.Cond.initialized "java/util/LinkedHashMap$LinkedEntryIterator") ∈ lw_all := lw_g (lw_at lw_m1 47 rfl) rfl
theorem q1524 : (Jvm.Cond.castable "java/util/LinkedHashMap$LinkedEntryIterator" "java/util/Iterator") ∈ lw_tbl := lw_at lw_m6 197 rfl
theorem q1525 : (Jvm.Cond.selects "java/util/LinkedHashMap$LinkedEntryIterator" ({ cls := "java/util/Iterator", name := "hasNext", desc := "()Z" } : Jvm.MethodName) ({ cls := "java/util/LinkedHashMap$LinkedHashIterator", name := "hasNext", desc := "()Z" } : Jvm.MethodName)) ∈ lw_all := lw_g (lw_at lw_m6 198 rfl) rfl
theorem q1526 : (Jvm.Cond.unhidden "java/util/LinkedHashMap$LinkedEntryIterator" "hasNext" "()Z") ∈ lw_tbl := lw_at lw_m6 199 rfl
theorem q1571 : (Jvm.Cond.selects "java/util/LinkedHashMap$LinkedEntryIterator" ({ cls := "java/util/Iterator", name := "next", desc := "()Ljava/lang/Object;" } : Jvm.MethodName) ({ cls := "java/util/LinkedHashMap$LinkedEntryIterator", name := "next", desc := "()Ljava/lang/Object;" } : Jvm.MethodName)) ∈ lw_all := lw_g (lw_at lw_m7 4 rfl) rfl
theorem q1572 : (Jvm.Cond.unhidden "java/util/LinkedHashMap$LinkedEntryIterator" "next" "()Ljava/lang/Object;") ∈ lw_tbl := lw_at lw_m7 5 rfl
theorem q1573 : (Jvm.Cond.instanceMethod ({ cls := "java/util/LinkedHashMap$LinkedEntryIterator", name := "next", desc := "()Ljava/lang/Object;" } : Jvm.MethodName)) ∈ lw_all := lw_g (lw_at lw_m7 6 rfl) rfl
theorem q1574 : (Jvm.Cond.publicMethod ({ cls := "java/util/LinkedHashMap$LinkedEntryIterator", name := "next", desc := "()Ljava/lang/Object;" } : Jvm.MethodName)) ∈ lw_tbl := lw_at lw_m7 7 rfl
theorem q1575 : (Jvm.Cond.code ({ cls := "java/util/LinkedHashMap$LinkedEntryIterator", name := "next", desc := "()Ljava/lang/Object;" } : Jvm.MethodName) prog_74_method_3_code (1 : Nat) (Option.some (Jvm.ClassFile.FieldType.object "java/lang/Object"))) ∈ lw_all := lw_g (lw_at lw_m7 8 rfl) rfl
theorem q1576 : (Jvm.Cond.methodLink "java/util/LinkedHashMap$LinkedEntryIterator" (13 : Nat) ({ cls := "java/util/LinkedHashMap$LinkedEntryIterator", name := "next", desc := "()Ljava/util/Map$Entry;" } : Jvm.MethodName)) ∈ lw_all := lw_g (lw_at lw_m7 9 rfl) rfl
theorem q1577 : (Jvm.Cond.instanceMethod ({ cls := "java/util/LinkedHashMap$LinkedEntryIterator", name := "next", desc := "()Ljava/util/Map$Entry;" } : Jvm.MethodName)) ∈ lw_all := lw_g (lw_at lw_m7 10 rfl) rfl
theorem q1578 : (Jvm.Cond.selects "java/util/LinkedHashMap$LinkedEntryIterator" ({ cls := "java/util/LinkedHashMap$LinkedEntryIterator", name := "next", desc := "()Ljava/util/Map$Entry;" } : Jvm.MethodName) ({ cls := "java/util/LinkedHashMap$LinkedEntryIterator", name := "next", desc := "()Ljava/util/Map$Entry;" } : Jvm.MethodName)) ∈ lw_all := lw_g (lw_at lw_m7 11 rfl) rfl
theorem q1579 : (Jvm.Cond.code ({ cls := "java/util/LinkedHashMap$LinkedEntryIterator", name := "next", desc := "()Ljava/util/Map$Entry;" } : Jvm.MethodName) prog_74_method_2_code (1 : Nat) (Option.some (Jvm.ClassFile.FieldType.object "java/util/Map$Entry"))) ∈ lw_all := lw_g (lw_at lw_m7 12 rfl) rfl
theorem q1580 : (Jvm.Cond.methodLink "java/util/LinkedHashMap$LinkedEntryIterator" (7 : Nat) ({ cls := "java/util/LinkedHashMap$LinkedEntryIterator", name := "nextNode", desc := "()Ljava/util/LinkedHashMap$Entry;" } : Jvm.MethodName)) ∈ lw_all := lw_g (lw_at lw_m7 13 rfl) rfl
theorem q1581 : (Jvm.Cond.sameMethod "java/util/LinkedHashMap$LinkedEntryIterator" "java/util/LinkedHashMap$LinkedHashIterator" "nextNode" "()Ljava/util/LinkedHashMap$Entry;") ∈ lw_all := lw_g (lw_at lw_m7 14 rfl) rfl
theorem q1583 : (Jvm.Cond.selects "java/util/LinkedHashMap$LinkedEntryIterator" ({ cls := "java/util/LinkedHashMap$LinkedEntryIterator", name := "nextNode", desc := "()Ljava/util/LinkedHashMap$Entry;" } : Jvm.MethodName) ({ cls := "java/util/LinkedHashMap$LinkedHashIterator", name := "nextNode", desc := "()Ljava/util/LinkedHashMap$Entry;" } : Jvm.MethodName)) ∈ lw_all := lw_g (lw_at lw_m7 16 rfl) rfl
theorem q1840 : (Jvm.Cond.instantiable "java/util/LinkedHashMap$LinkedEntryIterator" (5 : Nat)) ∈ lw_all := lw_g (lw_at lw_m8 33 rfl) rfl
theorem q1842 : (Jvm.Cond.instanceMethod ({ cls := "java/util/LinkedHashMap$LinkedEntryIterator", name := "<init>", desc := "(Ljava/util/LinkedHashMap;Z)V" } : Jvm.MethodName)) ∈ lw_all := lw_g (lw_at lw_m8 35 rfl) rfl
theorem q1843 : (Jvm.Cond.code ({ cls := "java/util/LinkedHashMap$LinkedEntryIterator", name := "<init>", desc := "(Ljava/util/LinkedHashMap;Z)V" } : Jvm.MethodName) prog_74_method_1_code (3 : Nat) (Option.none : Option Jvm.ClassFile.FieldType)) ∈ lw_all := lw_g (lw_at lw_m8 36 rfl) rfl
theorem q1844 : (Jvm.Cond.methodLink "java/util/LinkedHashMap$LinkedEntryIterator" (1 : Nat) ({ cls := "java/util/LinkedHashMap$LinkedHashIterator", name := "<init>", desc := "(Ljava/util/LinkedHashMap;Z)V" } : Jvm.MethodName)) ∈ lw_all := lw_g (lw_at lw_m8 37 rfl) rfl
theorem q4707 : (Jvm.Cond.castable "java/util/LinkedHashMap$LinkedEntryIterator" "java/lang/Object") ∈ lw_tbl := lw_at lw_m20 20 rfl
theorem in_J32 : ∀ w ∈ wsJ320, w ∈ lw_all := lw_in wsJ320 [1853, 1855, 1857, 1859, 1861] (by decide +kernel) (by decide +kernel)
/-! J33.java_util_LinkedHashMap_LinkedKeyIterator.lean.txt -/
def RJ33 : String := "java/util/LinkedHashMap$LinkedKeyIterator"
def TJ33 : u_T := fun k => match k with
  | 0 => ("java/util/LinkedHashMap$LinkedHashIterator", "next", "Ljava/util/LinkedHashMap$Entry;", false)
  | 1 => ("java/util/LinkedHashMap$LinkedHashIterator", "current", "Ljava/util/LinkedHashMap$Entry;", false)
  | 2 => ("java/util/LinkedHashMap$LinkedHashIterator", "expectedModCount", "I", false)
  | 3 => ("java/util/LinkedHashMap$LinkedHashIterator", "reversed", "Z", false)
  | _ => ("java/util/LinkedHashMap$LinkedHashIterator", "this$0", "Ljava/util/LinkedHashMap;", true)
def tyJ33 : Nat → FieldType := fun k => match k with
  | 0 => .object "java/util/LinkedHashMap$Entry"
  | 1 => .object "java/util/LinkedHashMap$Entry"
  | 2 => .int
  | 3 => .boolean
  | _ => .object "java/util/LinkedHashMap"
abbrev wsJ330 : List Cond := u_ws RJ33 TJ33 5
theorem nmJ33 : ∀ a, a < 5 → ∀ b, b < 5 → a ≠ b → (TJ33 a).2.1 ≠ (TJ33 b).2.1 := by decide +kernel
theorem tyJ33_ok : ∀ k, k < 5 → parseFieldDescriptor (TJ33 k).2.2.1 = some (tyJ33 k) := by decide +kernel
abbrev cJ33_next : ByteArray := prog_77_method_2_code
def yJ33_next : MethodName := ⟨RJ33, "next", "()Ljava/lang/Object;"⟩
def dkwJ33_next_0 : List UInt8 := [42, 182, 0, 7, 182, 0, 13, 176]
abbrev dktJ33_next_0 : List UInt8 := dkwJ33_next_0 ++ []
theorem dksJ33_next_0 : cJ33_next.data.toList.drop 0 = dktJ33_next_0 := by decide +kernel
theorem dJ33_next_0 : decode cJ33_next 0 = .ok (.aload_n 0, 1) := dk_42 (dk_at dksJ33_next_0 0 rfl rfl)
theorem dJ33_next_1 : decode cJ33_next 1 = .ok (.invokevirtual 7, 3) := dk_182 0 7 (dk_at dksJ33_next_0 1 rfl rfl)
theorem dJ33_next_4 : decode cJ33_next 4 = .ok (.invokevirtual 13, 3) := dk_182 0 13 (dk_at dksJ33_next_0 4 rfl rfl)
theorem dJ33_next_7 : decode cJ33_next 7 = .ok (.areturn, 1) := dk_176 (dk_at dksJ33_next_0 7 rfl rfl)
abbrev cJ33_init : ByteArray := prog_77_method_1_code
def yJ33_init : MethodName := ⟨RJ33, "<init>", "(Ljava/util/LinkedHashMap;Z)V"⟩
def dkwJ33_init_0 : List UInt8 := [42, 43, 28, 183, 0, 1, 177]
abbrev dktJ33_init_0 : List UInt8 := dkwJ33_init_0 ++ []
theorem dksJ33_init_0 : cJ33_init.data.toList.drop 0 = dktJ33_init_0 := by decide +kernel
theorem dJ33_init_0 : decode cJ33_init 0 = .ok (.aload_n 0, 1) := dk_42 (dk_at dksJ33_init_0 0 rfl rfl)
theorem dJ33_init_1 : decode cJ33_init 1 = .ok (.aload_n 1, 1) := dk_43 (dk_at dksJ33_init_0 1 rfl rfl)
theorem dJ33_init_2 : decode cJ33_init 2 = .ok (.iload_n 2, 1) := dk_28 (dk_at dksJ33_init_0 2 rfl rfl)
theorem dJ33_init_3 : decode cJ33_init 3 = .ok (.invokespecial 1, 3) := dk_183 0 1 (dk_at dksJ33_init_0 3 rfl rfl)
theorem dJ33_init_6 : decode cJ33_init 6 = .ok (.return_, 1) := dk_177 (dk_at dksJ33_init_0 6 rfl rfl)
theorem q175 : (Jvm.Cond.initialized "java/util/LinkedHashMap$LinkedKeyIterator") ∈ lw_all := lw_g (lw_at lw_m1 48 rfl) rfl
theorem q1530 : (Jvm.Cond.castable "java/util/LinkedHashMap$LinkedKeyIterator" "java/util/Iterator") ∈ lw_tbl := lw_at lw_m6 203 rfl
theorem q1531 : (Jvm.Cond.selects "java/util/LinkedHashMap$LinkedKeyIterator" ({ cls := "java/util/Iterator", name := "hasNext", desc := "()Z" } : Jvm.MethodName) ({ cls := "java/util/LinkedHashMap$LinkedHashIterator", name := "hasNext", desc := "()Z" } : Jvm.MethodName)) ∈ lw_all := lw_g (lw_at lw_m6 204 rfl) rfl
theorem q1532 : (Jvm.Cond.unhidden "java/util/LinkedHashMap$LinkedKeyIterator" "hasNext" "()Z") ∈ lw_tbl := lw_at lw_m6 205 rfl
theorem q1586 : (Jvm.Cond.selects "java/util/LinkedHashMap$LinkedKeyIterator" ({ cls := "java/util/Iterator", name := "next", desc := "()Ljava/lang/Object;" } : Jvm.MethodName) ({ cls := "java/util/LinkedHashMap$LinkedKeyIterator", name := "next", desc := "()Ljava/lang/Object;" } : Jvm.MethodName)) ∈ lw_all := lw_g (lw_at lw_m7 19 rfl) rfl
theorem q1587 : (Jvm.Cond.unhidden "java/util/LinkedHashMap$LinkedKeyIterator" "next" "()Ljava/lang/Object;") ∈ lw_tbl := lw_at lw_m7 20 rfl
theorem q1588 : (Jvm.Cond.instanceMethod ({ cls := "java/util/LinkedHashMap$LinkedKeyIterator", name := "next", desc := "()Ljava/lang/Object;" } : Jvm.MethodName)) ∈ lw_all := lw_g (lw_at lw_m7 21 rfl) rfl
theorem q1589 : (Jvm.Cond.publicMethod ({ cls := "java/util/LinkedHashMap$LinkedKeyIterator", name := "next", desc := "()Ljava/lang/Object;" } : Jvm.MethodName)) ∈ lw_tbl := lw_at lw_m7 22 rfl
theorem q1590 : (Jvm.Cond.code ({ cls := "java/util/LinkedHashMap$LinkedKeyIterator", name := "next", desc := "()Ljava/lang/Object;" } : Jvm.MethodName) prog_77_method_2_code (1 : Nat) (Option.some (Jvm.ClassFile.FieldType.object "java/lang/Object"))) ∈ lw_all := lw_g (lw_at lw_m7 23 rfl) rfl
theorem q1591 : (Jvm.Cond.methodLink "java/util/LinkedHashMap$LinkedKeyIterator" (7 : Nat) ({ cls := "java/util/LinkedHashMap$LinkedKeyIterator", name := "nextNode", desc := "()Ljava/util/LinkedHashMap$Entry;" } : Jvm.MethodName)) ∈ lw_all := lw_g (lw_at lw_m7 24 rfl) rfl
theorem q1592 : (Jvm.Cond.sameMethod "java/util/LinkedHashMap$LinkedKeyIterator" "java/util/LinkedHashMap$LinkedHashIterator" "nextNode" "()Ljava/util/LinkedHashMap$Entry;") ∈ lw_all := lw_g (lw_at lw_m7 25 rfl) rfl
theorem q1593 : (Jvm.Cond.selects "java/util/LinkedHashMap$LinkedKeyIterator" ({ cls := "java/util/LinkedHashMap$LinkedKeyIterator", name := "nextNode", desc := "()Ljava/util/LinkedHashMap$Entry;" } : Jvm.MethodName) ({ cls := "java/util/LinkedHashMap$LinkedHashIterator", name := "nextNode", desc := "()Ljava/util/LinkedHashMap$Entry;" } : Jvm.MethodName)) ∈ lw_all := lw_g (lw_at lw_m7 26 rfl) rfl
theorem q1594 : (Jvm.Cond.methodLink "java/util/LinkedHashMap$LinkedKeyIterator" (13 : Nat) ({ cls := "java/util/LinkedHashMap$Entry", name := "getKey", desc := "()Ljava/lang/Object;" } : Jvm.MethodName)) ∈ lw_all := lw_g (lw_at lw_m7 27 rfl) rfl
theorem q1871 : (Jvm.Cond.instantiable "java/util/LinkedHashMap$LinkedKeyIterator" (5 : Nat)) ∈ lw_all := lw_g (lw_at lw_m8 64 rfl) rfl
theorem q1873 : (Jvm.Cond.instanceMethod ({ cls := "java/util/LinkedHashMap$LinkedKeyIterator", name := "<init>", desc := "(Ljava/util/LinkedHashMap;Z)V" } : Jvm.MethodName)) ∈ lw_all := lw_g (lw_at lw_m8 66 rfl) rfl
theorem q1874 : (Jvm.Cond.code ({ cls := "java/util/LinkedHashMap$LinkedKeyIterator", name := "<init>", desc := "(Ljava/util/LinkedHashMap;Z)V" } : Jvm.MethodName) prog_77_method_1_code (3 : Nat) (Option.none : Option Jvm.ClassFile.FieldType)) ∈ lw_all := lw_g (lw_at lw_m8 67 rfl) rfl
theorem q1875 : (Jvm.Cond.methodLink "java/util/LinkedHashMap$LinkedKeyIterator" (1 : Nat) ({ cls := "java/util/LinkedHashMap$LinkedHashIterator", name := "<init>", desc := "(Ljava/util/LinkedHashMap;Z)V" } : Jvm.MethodName)) ∈ lw_all := lw_g (lw_at lw_m8 68 rfl) rfl
theorem q4700 : (Jvm.Cond.castable "java/util/LinkedHashMap$LinkedKeyIterator" "java/lang/Object") ∈ lw_tbl := lw_at lw_m20 13 rfl
theorem in_J33 : ∀ w ∈ wsJ330, w ∈ lw_all := lw_in wsJ330 [1876, 1877, 1878, 1879, 1880] (by decide +kernel) (by decide +kernel)
/-! J34.java_util_LinkedHashMap_LinkedValueIterator.lean.txt -/
def RJ34 : String := "java/util/LinkedHashMap$LinkedValueIterator"
def TJ34 : u_T := fun k => match k with
  | 0 => ("java/util/LinkedHashMap$LinkedHashIterator", "next", "Ljava/util/LinkedHashMap$Entry;", false)
  | 1 => ("java/util/LinkedHashMap$LinkedHashIterator", "current", "Ljava/util/LinkedHashMap$Entry;", false)
  | 2 => ("java/util/LinkedHashMap$LinkedHashIterator", "expectedModCount", "I", false)
  | 3 => ("java/util/LinkedHashMap$LinkedHashIterator", "reversed", "Z", false)
  | _ => ("java/util/LinkedHashMap$LinkedHashIterator", "this$0", "Ljava/util/LinkedHashMap;", true)
def tyJ34 : Nat → FieldType := fun k => match k with
  | 0 => .object "java/util/LinkedHashMap$Entry"
  | 1 => .object "java/util/LinkedHashMap$Entry"
  | 2 => .int
  | 3 => .boolean
  | _ => .object "java/util/LinkedHashMap"
abbrev wsJ340 : List Cond := u_ws RJ34 TJ34 5
theorem nmJ34 : ∀ a, a < 5 → ∀ b, b < 5 → a ≠ b → (TJ34 a).2.1 ≠ (TJ34 b).2.1 := by decide +kernel
theorem tyJ34_ok : ∀ k, k < 5 → parseFieldDescriptor (TJ34 k).2.2.1 = some (tyJ34 k) := by decide +kernel
abbrev cJ34_next : ByteArray := prog_79_method_2_code
def yJ34_next : MethodName := ⟨RJ34, "next", "()Ljava/lang/Object;"⟩
def dkwJ34_next_0 : List UInt8 := [42, 182, 0, 7, 180, 0, 13, 176]
abbrev dktJ34_next_0 : List UInt8 := dkwJ34_next_0 ++ []
theorem dksJ34_next_0 : cJ34_next.data.toList.drop 0 = dktJ34_next_0 := by decide +kernel
theorem dJ34_next_0 : decode cJ34_next 0 = .ok (.aload_n 0, 1) := dk_42 (dk_at dksJ34_next_0 0 rfl rfl)
theorem dJ34_next_1 : decode cJ34_next 1 = .ok (.invokevirtual 7, 3) := dk_182 0 7 (dk_at dksJ34_next_0 1 rfl rfl)
theorem dJ34_next_4 : decode cJ34_next 4 = .ok (.getfield 13, 3) := dk_180 0 13 (dk_at dksJ34_next_0 4 rfl rfl)
theorem dJ34_next_7 : decode cJ34_next 7 = .ok (.areturn, 1) := dk_176 (dk_at dksJ34_next_0 7 rfl rfl)
abbrev cJ34_init : ByteArray := prog_79_method_1_code
def yJ34_init : MethodName := ⟨RJ34, "<init>", "(Ljava/util/LinkedHashMap;Z)V"⟩
def dkwJ34_init_0 : List UInt8 := [42, 43, 28, 183, 0, 1, 177]
abbrev dktJ34_init_0 : List UInt8 := dkwJ34_init_0 ++ []
theorem dksJ34_init_0 : cJ34_init.data.toList.drop 0 = dktJ34_init_0 := by decide +kernel
theorem dJ34_init_0 : decode cJ34_init 0 = .ok (.aload_n 0, 1) := dk_42 (dk_at dksJ34_init_0 0 rfl rfl)
theorem dJ34_init_1 : decode cJ34_init 1 = .ok (.aload_n 1, 1) := dk_43 (dk_at dksJ34_init_0 1 rfl rfl)
theorem dJ34_init_2 : decode cJ34_init 2 = .ok (.iload_n 2, 1) := dk_28 (dk_at dksJ34_init_0 2 rfl rfl)
theorem dJ34_init_3 : decode cJ34_init 3 = .ok (.invokespecial 1, 3) := dk_183 0 1 (dk_at dksJ34_init_0 3 rfl rfl)
theorem dJ34_init_6 : decode cJ34_init 6 = .ok (.return_, 1) := dk_177 (dk_at dksJ34_init_0 6 rfl rfl)
theorem q176 : (Jvm.Cond.initialized "java/util/LinkedHashMap$LinkedValueIterator") ∈ lw_all := lw_g (lw_at lw_m1 49 rfl) rfl
theorem q1533 : (Jvm.Cond.castable "java/util/LinkedHashMap$LinkedValueIterator" "java/util/Iterator") ∈ lw_tbl := lw_at lw_m6 206 rfl
theorem q1534 : (Jvm.Cond.selects "java/util/LinkedHashMap$LinkedValueIterator" ({ cls := "java/util/Iterator", name := "hasNext", desc := "()Z" } : Jvm.MethodName) ({ cls := "java/util/LinkedHashMap$LinkedHashIterator", name := "hasNext", desc := "()Z" } : Jvm.MethodName)) ∈ lw_all := lw_g (lw_at lw_m6 207 rfl) rfl
theorem q1535 : (Jvm.Cond.unhidden "java/util/LinkedHashMap$LinkedValueIterator" "hasNext" "()Z") ∈ lw_tbl := lw_at lw_m6 208 rfl
theorem q1601 : (Jvm.Cond.selects "java/util/LinkedHashMap$LinkedValueIterator" ({ cls := "java/util/Iterator", name := "next", desc := "()Ljava/lang/Object;" } : Jvm.MethodName) ({ cls := "java/util/LinkedHashMap$LinkedValueIterator", name := "next", desc := "()Ljava/lang/Object;" } : Jvm.MethodName)) ∈ lw_all := lw_g (lw_at lw_m7 34 rfl) rfl
theorem q1602 : (Jvm.Cond.unhidden "java/util/LinkedHashMap$LinkedValueIterator" "next" "()Ljava/lang/Object;") ∈ lw_tbl := lw_at lw_m7 35 rfl
theorem q1603 : (Jvm.Cond.instanceMethod ({ cls := "java/util/LinkedHashMap$LinkedValueIterator", name := "next", desc := "()Ljava/lang/Object;" } : Jvm.MethodName)) ∈ lw_all := lw_g (lw_at lw_m7 36 rfl) rfl
theorem q1604 : (Jvm.Cond.publicMethod ({ cls := "java/util/LinkedHashMap$LinkedValueIterator", name := "next", desc := "()Ljava/lang/Object;" } : Jvm.MethodName)) ∈ lw_tbl := lw_at lw_m7 37 rfl
theorem q1605 : (Jvm.Cond.code ({ cls := "java/util/LinkedHashMap$LinkedValueIterator", name := "next", desc := "()Ljava/lang/Object;" } : Jvm.MethodName) prog_79_method_2_code (1 : Nat) (Option.some (Jvm.ClassFile.FieldType.object "java/lang/Object"))) ∈ lw_all := lw_g (lw_at lw_m7 38 rfl) rfl
theorem q1606 : (Jvm.Cond.methodLink "java/util/LinkedHashMap$LinkedValueIterator" (7 : Nat) ({ cls := "java/util/LinkedHashMap$LinkedValueIterator", name := "nextNode", desc := "()Ljava/util/LinkedHashMap$Entry;" } : Jvm.MethodName)) ∈ lw_all := lw_g (lw_at lw_m7 39 rfl) rfl
theorem q1607 : (Jvm.Cond.sameMethod "java/util/LinkedHashMap$LinkedValueIterator" "java/util/LinkedHashMap$LinkedHashIterator" "nextNode" "()Ljava/util/LinkedHashMap$Entry;") ∈ lw_all := lw_g (lw_at lw_m7 40 rfl) rfl
theorem q1608 : (Jvm.Cond.selects "java/util/LinkedHashMap$LinkedValueIterator" ({ cls := "java/util/LinkedHashMap$LinkedValueIterator", name := "nextNode", desc := "()Ljava/util/LinkedHashMap$Entry;" } : Jvm.MethodName) ({ cls := "java/util/LinkedHashMap$LinkedHashIterator", name := "nextNode", desc := "()Ljava/util/LinkedHashMap$Entry;" } : Jvm.MethodName)) ∈ lw_all := lw_g (lw_at lw_m7 41 rfl) rfl
theorem q1889 : (Jvm.Cond.instantiable "java/util/LinkedHashMap$LinkedValueIterator" (5 : Nat)) ∈ lw_all := lw_g (lw_at lw_m8 82 rfl) rfl
theorem q1891 : (Jvm.Cond.instanceMethod ({ cls := "java/util/LinkedHashMap$LinkedValueIterator", name := "<init>", desc := "(Ljava/util/LinkedHashMap;Z)V" } : Jvm.MethodName)) ∈ lw_all := lw_g (lw_at lw_m8 84 rfl) rfl
theorem q1892 : (Jvm.Cond.code ({ cls := "java/util/LinkedHashMap$LinkedValueIterator", name := "<init>", desc := "(Ljava/util/LinkedHashMap;Z)V" } : Jvm.MethodName) prog_79_method_1_code (3 : Nat) (Option.none : Option Jvm.ClassFile.FieldType)) ∈ lw_all := lw_g (lw_at lw_m8 85 rfl) rfl
theorem q1893 : (Jvm.Cond.methodLink "java/util/LinkedHashMap$LinkedValueIterator" (1 : Nat) ({ cls := "java/util/LinkedHashMap$LinkedHashIterator", name := "<init>", desc := "(Ljava/util/LinkedHashMap;Z)V" } : Jvm.MethodName)) ∈ lw_all := lw_g (lw_at lw_m8 86 rfl) rfl
theorem q2884 : (Jvm.Cond.fieldLink "java/util/LinkedHashMap$LinkedValueIterator" (13 : Nat) "java/util/LinkedHashMap$Entry" "value" "Ljava/lang/Object;") ∈ lw_all := lw_g (lw_at lw_m12 117 rfl) rfl
theorem q4693 : (Jvm.Cond.castable "java/util/LinkedHashMap$LinkedValueIterator" "java/lang/Object") ∈ lw_tbl := lw_at lw_m20 6 rfl
theorem in_J34 : ∀ w ∈ wsJ340, w ∈ lw_all := lw_in wsJ340 [1894, 1895, 1896, 1897, 1898] (by decide +kernel) (by decide +kernel)
/-! J35.java_util_AbstractSet.lean.txt -/
def RJ35 : String := "java/util/AbstractSet"
abbrev cJ35_init : ByteArray := prog_56_method_1_code
def yJ35_init : MethodName := ⟨RJ35, "<init>", "()V"⟩
theorem dJ35_init_0 : decode cJ35_init 0 = .ok (.aload_n 0, 1) := by decide +kernel
theorem dJ35_init_1 : decode cJ35_init 1 = .ok (.invokespecial 1, 3) := by decide +kernel
theorem dJ35_init_4 : decode cJ35_init 4 = .ok (.return_, 1) := by decide +kernel
theorem q177 : (Jvm.Cond.initialized "java/util/AbstractSet") ∈ lw_all := lw_g (lw_at lw_m1 50 rfl) rfl
theorem q1922 : (Jvm.Cond.instanceMethod ({ cls := "java/util/AbstractSet", name := "<init>", desc := "()V" } : Jvm.MethodName)) ∈ lw_all := lw_g (lw_at lw_m8 115 rfl) rfl
theorem q1923 : (Jvm.Cond.code ({ cls := "java/util/AbstractSet", name := "<init>", desc := "()V" } : Jvm.MethodName) prog_56_method_1_code (1 : Nat) (Option.none : Option Jvm.ClassFile.FieldType)) ∈ lw_all := lw_g (lw_at lw_m8 116 rfl) rfl
theorem q1924 : (Jvm.Cond.methodLink "java/util/AbstractSet" (1 : Nat) ({ cls := "java/util/AbstractCollection", name := "<init>", desc := "()V" } : Jvm.MethodName)) ∈ lw_all := lw_g (lw_at lw_m8 117 rfl) rfl
/-! J36.java_util_HashMap_KeySet.lean.txt -/
def RJ36 : String := "java/util/HashMap$KeySet"
/-! J37.java_util_LinkedHashMap_LinkedKeySet.lean.txt -/
def RJ37 : String := "java/util/LinkedHashMap$LinkedKeySet"
def TJ37 : u_T := fun k => match k with
  | 0 => ("java/util/LinkedHashMap$LinkedKeySet", "reversed", "Z", true)
  | _ => ("java/util/LinkedHashMap$LinkedKeySet", "this$0", "Ljava/util/LinkedHashMap;", true)
def tyJ37 : Nat → FieldType := fun k => match k with
  | 0 => .boolean
  | _ => .object "java/util/LinkedHashMap"
abbrev wsJ370 : List Cond := u_ws RJ37 TJ37 2
theorem nmJ37 : ∀ a, a < 2 → ∀ b, b < 2 → a ≠ b → (TJ37 a).2.1 ≠ (TJ37 b).2.1 := by decide +kernel
theorem tyJ37_ok : ∀ k, k < 2 → parseFieldDescriptor (TJ37 k).2.2.1 = some (tyJ37 k) := by decide +kernel
abbrev cJ37_iterator : ByteArray := prog_78_method_4_code
def yJ37_iterator : MethodName := ⟨RJ37, "iterator", "()Ljava/util/Iterator;"⟩
def dkwJ37_iterator_0 : List UInt8 := [187, 0, 26, 89, 42, 180, 0, 1, 42, 180, 0, 13, 183, 0, 28, 176]
abbrev dktJ37_iterator_0 : List UInt8 := dkwJ37_iterator_0 ++ []
theorem dksJ37_iterator_0 : cJ37_iterator.data.toList.drop 0 = dktJ37_iterator_0 := by decide +kernel
theorem dJ37_iterator_0 : decode cJ37_iterator 0 = .ok (.new 26, 3) := dk_187 0 26 (dk_at dksJ37_iterator_0 0 rfl rfl)
theorem dJ37_iterator_3 : decode cJ37_iterator 3 = .ok (.dup, 1) := dk_89 (dk_at dksJ37_iterator_0 3 rfl rfl)
theorem dJ37_iterator_4 : decode cJ37_iterator 4 = .ok (.aload_n 0, 1) := dk_42 (dk_at dksJ37_iterator_0 4 rfl rfl)
theorem dJ37_iterator_5 : decode cJ37_iterator 5 = .ok (.getfield 1, 3) := dk_180 0 1 (dk_at dksJ37_iterator_0 5 rfl rfl)
theorem dJ37_iterator_8 : decode cJ37_iterator 8 = .ok (.aload_n 0, 1) := dk_42 (dk_at dksJ37_iterator_0 8 rfl rfl)
theorem dJ37_iterator_9 : decode cJ37_iterator 9 = .ok (.getfield 13, 3) := dk_180 0 13 (dk_at dksJ37_iterator_0 9 rfl rfl)
theorem dJ37_iterator_12 : decode cJ37_iterator 12 = .ok (.invokespecial 28, 3) := dk_183 0 28 (dk_at dksJ37_iterator_0 12 rfl rfl)
theorem dJ37_iterator_15 : decode cJ37_iterator 15 = .ok (.areturn, 1) := dk_176 (dk_at dksJ37_iterator_0 15 rfl rfl)
abbrev cJ37_init : ByteArray := prog_78_method_1_code
def yJ37_init : MethodName := ⟨RJ37, "<init>", "(Ljava/util/LinkedHashMap;Z)V"⟩
def dkwJ37_init_0 : List UInt8 := [42, 43, 181, 0, 1, 42, 183, 0, 7, 42, 28, 181, 0, 13, 177]
abbrev dktJ37_init_0 : List UInt8 := dkwJ37_init_0 ++ []
theorem dksJ37_init_0 : cJ37_init.data.toList.drop 0 = dktJ37_init_0 := by decide +kernel
theorem dJ37_init_0 : decode cJ37_init 0 = .ok (.aload_n 0, 1) := dk_42 (dk_at dksJ37_init_0 0 rfl rfl)
theorem dJ37_init_1 : decode cJ37_init 1 = .ok (.aload_n 1, 1) := dk_43 (dk_at dksJ37_init_0 1 rfl rfl)
theorem dJ37_init_2 : decode cJ37_init 2 = .ok (.putfield 1, 3) := dk_181 0 1 (dk_at dksJ37_init_0 2 rfl rfl)
theorem dJ37_init_5 : decode cJ37_init 5 = .ok (.aload_n 0, 1) := dk_42 (dk_at dksJ37_init_0 5 rfl rfl)
theorem dJ37_init_6 : decode cJ37_init 6 = .ok (.invokespecial 7, 3) := dk_183 0 7 (dk_at dksJ37_init_0 6 rfl rfl)
theorem dJ37_init_9 : decode cJ37_init 9 = .ok (.aload_n 0, 1) := dk_42 (dk_at dksJ37_init_0 9 rfl rfl)
theorem dJ37_init_10 : decode cJ37_init 10 = .ok (.iload_n 2, 1) := dk_28 (dk_at dksJ37_init_0 10 rfl rfl)
theorem dJ37_init_11 : decode cJ37_init 11 = .ok (.putfield 13, 3) := dk_181 0 13 (dk_at dksJ37_init_0 11 rfl rfl)
theorem dJ37_init_14 : decode cJ37_init 14 = .ok (.return_, 1) := dk_177 (dk_at dksJ37_init_0 14 rfl rfl)
theorem q179 : (Jvm.Cond.initialized "java/util/LinkedHashMap$LinkedKeySet") ∈ lw_all := lw_g (lw_at lw_m1 52 rfl) rfl
theorem q1866 : (Jvm.Cond.unhidden "java/util/LinkedHashMap$LinkedKeySet" "iterator" "()Ljava/util/Iterator;") ∈ lw_tbl := lw_at lw_m8 59 rfl
theorem q1867 : (Jvm.Cond.instanceMethod ({ cls := "java/util/LinkedHashMap$LinkedKeySet", name := "iterator", desc := "()Ljava/util/Iterator;" } : Jvm.MethodName)) ∈ lw_all := lw_g (lw_at lw_m8 60 rfl) rfl
theorem q1868 : (Jvm.Cond.publicMethod ({ cls := "java/util/LinkedHashMap$LinkedKeySet", name := "iterator", desc := "()Ljava/util/Iterator;" } : Jvm.MethodName)) ∈ lw_tbl := lw_at lw_m8 61 rfl
theorem q1869 : (Jvm.Cond.code ({ cls := "java/util/LinkedHashMap$LinkedKeySet", name := "iterator", desc := "()Ljava/util/Iterator;" } : Jvm.MethodName) prog_78_method_4_code (1 : Nat) (Option.some (Jvm.ClassFile.FieldType.object "java/util/Iterator"))) ∈ lw_all := lw_g (lw_at lw_m8 62 rfl) rfl
theorem q1870 : (Jvm.Cond.classLink "java/util/LinkedHashMap$LinkedKeySet" (26 : Nat) "java/util/LinkedHashMap$LinkedKeyIterator") ∈ lw_all := lw_g (lw_at lw_m8 63 rfl) rfl
theorem q1872 : (Jvm.Cond.methodLink "java/util/LinkedHashMap$LinkedKeySet" (28 : Nat) ({ cls := "java/util/LinkedHashMap$LinkedKeyIterator", name := "<init>", desc := "(Ljava/util/LinkedHashMap;Z)V" } : Jvm.MethodName)) ∈ lw_all := lw_g (lw_at lw_m8 65 rfl) rfl
theorem q1917 : (Jvm.Cond.instantiable "java/util/LinkedHashMap$LinkedKeySet" (2 : Nat)) ∈ lw_all := lw_g (lw_at lw_m8 110 rfl) rfl
theorem q1919 : (Jvm.Cond.instanceMethod ({ cls := "java/util/LinkedHashMap$LinkedKeySet", name := "<init>", desc := "(Ljava/util/LinkedHashMap;Z)V" } : Jvm.MethodName)) ∈ lw_all := lw_g (lw_at lw_m8 112 rfl) rfl
theorem q1920 : (Jvm.Cond.code ({ cls := "java/util/LinkedHashMap$LinkedKeySet", name := "<init>", desc := "(Ljava/util/LinkedHashMap;Z)V" } : Jvm.MethodName) prog_78_method_1_code (3 : Nat) (Option.none : Option Jvm.ClassFile.FieldType)) ∈ lw_all := lw_g (lw_at lw_m8 113 rfl) rfl
theorem q1921 : (Jvm.Cond.methodLink "java/util/LinkedHashMap$LinkedKeySet" (7 : Nat) ({ cls := "java/util/AbstractSet", name := "<init>", desc := "()V" } : Jvm.MethodName)) ∈ lw_all := lw_g (lw_at lw_m8 114 rfl) rfl
theorem q1925 : (Jvm.Cond.fieldLink "java/util/LinkedHashMap$LinkedKeySet" (13 : Nat) "java/util/LinkedHashMap$LinkedKeySet" "reversed" "Z") ∈ lw_all := lw_g (lw_at lw_m8 118 rfl) rfl
theorem q1926 : (Jvm.Cond.fieldLink "java/util/LinkedHashMap$LinkedKeySet" (1 : Nat) "java/util/LinkedHashMap$LinkedKeySet" "this$0" "Ljava/util/LinkedHashMap;") ∈ lw_all := lw_g (lw_at lw_m8 119 rfl) rfl
theorem q1942 : (Jvm.Cond.castable "java/util/LinkedHashMap$LinkedKeySet" "java/util/Set") ∈ lw_tbl := lw_at lw_m8 135 rfl
theorem q1943 : (Jvm.Cond.selects "java/util/LinkedHashMap$LinkedKeySet" ({ cls := "java/util/Set", name := "iterator", desc := "()Ljava/util/Iterator;" } : Jvm.MethodName) ({ cls := "java/util/LinkedHashMap$LinkedKeySet", name := "iterator", desc := "()Ljava/util/Iterator;" } : Jvm.MethodName)) ∈ lw_all := lw_g (lw_at lw_m8 136 rfl) rfl
theorem q4650 : (Jvm.Cond.castable "java/util/LinkedHashMap$LinkedKeySet" "java/util/SequencedSet") ∈ lw_tbl := lw_at lw_m19 203 rfl
theorem q4699 : (Jvm.Cond.castable "java/util/LinkedHashMap$LinkedKeySet" "java/lang/Object") ∈ lw_tbl := lw_at lw_m20 12 rfl
theorem in_J37 : ∀ w ∈ wsJ370, w ∈ lw_all := lw_in wsJ370 [1927, 1929] (by decide +kernel) (by decide +kernel)
/-! J38.jdk_internal_misc_Unsafe.lean.txt -/
def RJ38 : String := "jdk/internal/misc/Unsafe"
/-! J39.java_lang_Long.lean.txt -/
def RJ39 : String := "java/lang/Long"
/-! J4.java_lang_String.lean.txt -/
def RJ4 : String := "java/lang/String"
def TJ4 : u_T := fun k => match k with
  | 0 => ("java/lang/String", "value", "[B", true)
  | 1 => ("java/lang/String", "coder", "B", true)
  | 2 => ("java/lang/String", "hash", "I", false)
  | _ => ("java/lang/String", "hashIsZero", "Z", false)
def tyJ4 : Nat → FieldType := fun k => match k with
  | 0 => .array .byte
  | 1 => .byte
  | 2 => .int
  | _ => .boolean
abbrev wsJ40 : List Cond := u_ws RJ4 TJ4 4
theorem nmJ4 : ∀ a, a < 4 → ∀ b, b < 4 → a ≠ b → (TJ4 a).2.1 ≠ (TJ4 b).2.1 := by decide +kernel
theorem tyJ4_ok : ∀ k, k < 4 → parseFieldDescriptor (TJ4 k).2.2.1 = some (tyJ4 k) := by decide +kernel
abbrev cJ4_checkIndex : ByteArray := prog_42_method_155_code
def yJ4_checkIndex : MethodName := ⟨RJ4, "checkIndex", "(II)V"⟩
def dkwJ4_checkIndex_0 : List UInt8 := [26, 27, 178, 4, 29, 184, 4, 35, 87, 177]
abbrev dktJ4_checkIndex_0 : List UInt8 := dkwJ4_checkIndex_0 ++ []
theorem dksJ4_checkIndex_0 : cJ4_checkIndex.data.toList.drop 0 = dktJ4_checkIndex_0 := by decide +kernel
theorem dJ4_checkIndex_0 : decode cJ4_checkIndex 0 = .ok (.iload_n 0, 1) := dk_26 (dk_at dksJ4_checkIndex_0 0 rfl rfl)
theorem dJ4_checkIndex_1 : decode cJ4_checkIndex 1 = .ok (.iload_n 1, 1) := dk_27 (dk_at dksJ4_checkIndex_0 1 rfl rfl)
theorem dJ4_checkIndex_2 : decode cJ4_checkIndex 2 = .ok (.getstatic 1053, 3) := dk_178 4 29 (dk_at dksJ4_checkIndex_0 2 rfl rfl)
theorem dJ4_checkIndex_5 : decode cJ4_checkIndex 5 = .ok (.invokestatic 1059, 3) := dk_184 4 35 (dk_at dksJ4_checkIndex_0 5 rfl rfl)
theorem dJ4_checkIndex_8 : decode cJ4_checkIndex 8 = .ok (.pop, 1) := dk_87 (dk_at dksJ4_checkIndex_0 8 rfl rfl)
theorem dJ4_checkIndex_9 : decode cJ4_checkIndex 9 = .ok (.return_, 1) := dk_177 (dk_at dksJ4_checkIndex_0 9 rfl rfl)
abbrev cJ4_init : ByteArray := prog_42_method_53_code
def yJ4_init : MethodName := ⟨RJ4, "<init>", "(Ljava/lang/StringBuilder;)V"⟩
def dkwJ4_init_0 : List UInt8 := [42, 43, 1, 183, 1, 233, 177]
abbrev dktJ4_init_0 : List UInt8 := dkwJ4_init_0 ++ []
theorem dksJ4_init_0 : cJ4_init.data.toList.drop 0 = dktJ4_init_0 := by decide +kernel
theorem dJ4_init_0 : decode cJ4_init 0 = .ok (.aload_n 0, 1) := dk_42 (dk_at dksJ4_init_0 0 rfl rfl)
theorem dJ4_init_1 : decode cJ4_init 1 = .ok (.aload_n 1, 1) := dk_43 (dk_at dksJ4_init_0 1 rfl rfl)
theorem dJ4_init_2 : decode cJ4_init 2 = .ok (.aconst_null, 1) := dk_1 (dk_at dksJ4_init_0 2 rfl rfl)
theorem dJ4_init_3 : decode cJ4_init 3 = .ok (.invokespecial 489, 3) := dk_183 1 233 (dk_at dksJ4_init_0 3 rfl rfl)
theorem dJ4_init_6 : decode cJ4_init 6 = .ok (.return_, 1) := dk_177 (dk_at dksJ4_init_0 6 rfl rfl)
abbrev cJ4_init_2 : ByteArray := prog_42_method_150_code
def yJ4_init_2 : MethodName := ⟨RJ4, "<init>", "(Ljava/lang/AbstractStringBuilder;Ljava/lang/Void;)V"⟩
def dkwJ4_init_2_4 : List UInt8 := [181, 0, 9, 177]
abbrev dktJ4_init_2_4 : List UInt8 := dkwJ4_init_2_4 ++ []
def dkwJ4_init_2_3 : List UInt8 := [184, 0, 47, 181, 0, 15, 177, 42, 4, 181, 0, 15, 42, 45, 3, 21, 4, 4, 120, 184, 0, 54]
abbrev dktJ4_init_2_3 : List UInt8 := dkwJ4_init_2_3 ++ dktJ4_init_2_4
def dkwJ4_init_2_2 : List UInt8 := [180, 4, 24, 153, 0, 28, 42, 45, 3, 21, 4, 184, 4, 27, 181, 0, 9, 42, 42, 180, 0, 9, 21, 4]
abbrev dktJ4_init_2_2 : List UInt8 := dkwJ4_init_2_2 ++ dktJ4_init_2_3
def dkwJ4_init_2_1 : List UInt8 := [181, 0, 15, 42, 45, 3, 21, 4, 184, 0, 54, 181, 0, 9, 167, 0, 59, 178, 0, 38, 153, 0, 35, 43]
abbrev dktJ4_init_2_1 : List UInt8 := dkwJ4_init_2_1 ++ dktJ4_init_2_2
def dkwJ4_init_2_0 : List UInt8 := [42, 183, 0, 1, 43, 182, 2, 40, 78, 43, 182, 2, 37, 54, 4, 43, 182, 4, 23, 153, 0, 22, 42, 3]
abbrev dktJ4_init_2_0 : List UInt8 := dkwJ4_init_2_0 ++ dktJ4_init_2_1
theorem dksJ4_init_2_0 : cJ4_init_2.data.toList.drop 0 = dktJ4_init_2_0 := by decide +kernel
theorem dksJ4_init_2_1 : cJ4_init_2.data.toList.drop 24 = dktJ4_init_2_1 := dk_seg dksJ4_init_2_0 24 rfl rfl
theorem dksJ4_init_2_2 : cJ4_init_2.data.toList.drop 48 = dktJ4_init_2_2 := dk_seg dksJ4_init_2_1 24 rfl rfl
theorem dksJ4_init_2_3 : cJ4_init_2.data.toList.drop 72 = dktJ4_init_2_3 := dk_seg dksJ4_init_2_2 24 rfl rfl
theorem dksJ4_init_2_4 : cJ4_init_2.data.toList.drop 94 = dktJ4_init_2_4 := dk_seg dksJ4_init_2_3 22 rfl rfl
theorem dJ4_init_2_0 : decode cJ4_init_2 0 = .ok (.aload_n 0, 1) := dk_42 (dk_at dksJ4_init_2_0 0 rfl rfl)
theorem dJ4_init_2_1 : decode cJ4_init_2 1 = .ok (.invokespecial 1, 3) := dk_183 0 1 (dk_at dksJ4_init_2_0 1 rfl rfl)
theorem dJ4_init_2_4 : decode cJ4_init_2 4 = .ok (.aload_n 1, 1) := dk_43 (dk_at dksJ4_init_2_0 4 rfl rfl)
theorem dJ4_init_2_5 : decode cJ4_init_2 5 = .ok (.invokevirtual 552, 3) := dk_182 2 40 (dk_at dksJ4_init_2_0 5 rfl rfl)
theorem dJ4_init_2_8 : decode cJ4_init_2 8 = .ok (.astore_n 3, 1) := dk_78 (dk_at dksJ4_init_2_0 8 rfl rfl)
theorem dJ4_init_2_9 : decode cJ4_init_2 9 = .ok (.aload_n 1, 1) := dk_43 (dk_at dksJ4_init_2_0 9 rfl rfl)
theorem dJ4_init_2_10 : decode cJ4_init_2 10 = .ok (.invokevirtual 549, 3) := dk_182 2 37 (dk_at dksJ4_init_2_0 10 rfl rfl)
theorem dJ4_init_2_13 : decode cJ4_init_2 13 = .ok (.istore 4, 2) := dk_54 4 (dk_at dksJ4_init_2_0 13 rfl rfl)
theorem dJ4_init_2_15 : decode cJ4_init_2 15 = .ok (.aload_n 1, 1) := dk_43 (dk_at dksJ4_init_2_0 15 rfl rfl)
theorem dJ4_init_2_16 : decode cJ4_init_2 16 = .ok (.invokevirtual 1047, 3) := dk_182 4 23 (dk_at dksJ4_init_2_0 16 rfl rfl)
theorem dJ4_init_2_19 : decode cJ4_init_2 19 = .ok (.ifCond .eq 22, 3) := dk_153 0 22 (dk_at dksJ4_init_2_0 19 rfl rfl)
theorem dJ4_init_2_22 : decode cJ4_init_2 22 = .ok (.aload_n 0, 1) := dk_42 (dk_at dksJ4_init_2_0 22 rfl rfl)
theorem dJ4_init_2_23 : decode cJ4_init_2 23 = .ok (.iconst 0, 1) := dk_3 (dk_at dksJ4_init_2_0 23 rfl rfl)
theorem dJ4_init_2_24 : decode cJ4_init_2 24 = .ok (.putfield 15, 3) := dk_181 0 15 (dk_at dksJ4_init_2_1 0 rfl rfl)
theorem dJ4_init_2_27 : decode cJ4_init_2 27 = .ok (.aload_n 0, 1) := dk_42 (dk_at dksJ4_init_2_1 3 rfl rfl)
theorem dJ4_init_2_28 : decode cJ4_init_2 28 = .ok (.aload_n 3, 1) := dk_45 (dk_at dksJ4_init_2_1 4 rfl rfl)
theorem dJ4_init_2_29 : decode cJ4_init_2 29 = .ok (.iconst 0, 1) := dk_3 (dk_at dksJ4_init_2_1 5 rfl rfl)
theorem dJ4_init_2_30 : decode cJ4_init_2 30 = .ok (.iload 4, 2) := dk_21 4 (dk_at dksJ4_init_2_1 6 rfl rfl)
theorem dJ4_init_2_32 : decode cJ4_init_2 32 = .ok (.invokestatic 54, 3) := dk_184 0 54 (dk_at dksJ4_init_2_1 8 rfl rfl)
theorem dJ4_init_2_35 : decode cJ4_init_2 35 = .ok (.putfield 9, 3) := dk_181 0 9 (dk_at dksJ4_init_2_1 11 rfl rfl)
theorem dJ4_init_2_38 : decode cJ4_init_2 38 = .ok (.goto 59, 3) := dk_167 0 59 (dk_at dksJ4_init_2_1 14 rfl rfl)
theorem dJ4_init_2_41 : decode cJ4_init_2 41 = .ok (.getstatic 38, 3) := dk_178 0 38 (dk_at dksJ4_init_2_1 17 rfl rfl)
theorem dJ4_init_2_44 : decode cJ4_init_2 44 = .ok (.ifCond .eq 35, 3) := dk_153 0 35 (dk_at dksJ4_init_2_1 20 rfl rfl)
theorem dJ4_init_2_47 : decode cJ4_init_2 47 = .ok (.aload_n 1, 1) := dk_43 (dk_at dksJ4_init_2_1 23 rfl rfl)
theorem dJ4_init_2_48 : decode cJ4_init_2 48 = .ok (.getfield 1048, 3) := dk_180 4 24 (dk_at dksJ4_init_2_2 0 rfl rfl)
theorem dJ4_init_2_51 : decode cJ4_init_2 51 = .ok (.ifCond .eq 28, 3) := dk_153 0 28 (dk_at dksJ4_init_2_2 3 rfl rfl)
theorem dJ4_init_2_54 : decode cJ4_init_2 54 = .ok (.aload_n 0, 1) := dk_42 (dk_at dksJ4_init_2_2 6 rfl rfl)
theorem dJ4_init_2_79 : decode cJ4_init_2 79 = .ok (.aload_n 0, 1) := dk_42 (dk_at dksJ4_init_2_3 7 rfl rfl)
theorem dJ4_init_2_80 : decode cJ4_init_2 80 = .ok (.iconst 1, 1) := dk_4 (dk_at dksJ4_init_2_3 8 rfl rfl)
theorem dJ4_init_2_81 : decode cJ4_init_2 81 = .ok (.putfield 15, 3) := dk_181 0 15 (dk_at dksJ4_init_2_3 9 rfl rfl)
theorem dJ4_init_2_84 : decode cJ4_init_2 84 = .ok (.aload_n 0, 1) := dk_42 (dk_at dksJ4_init_2_3 12 rfl rfl)
theorem dJ4_init_2_85 : decode cJ4_init_2 85 = .ok (.aload_n 3, 1) := dk_45 (dk_at dksJ4_init_2_3 13 rfl rfl)
theorem dJ4_init_2_86 : decode cJ4_init_2 86 = .ok (.iconst 0, 1) := dk_3 (dk_at dksJ4_init_2_3 14 rfl rfl)
theorem dJ4_init_2_87 : decode cJ4_init_2 87 = .ok (.iload 4, 2) := dk_21 4 (dk_at dksJ4_init_2_3 15 rfl rfl)
theorem dJ4_init_2_89 : decode cJ4_init_2 89 = .ok (.iconst 1, 1) := dk_4 (dk_at dksJ4_init_2_3 17 rfl rfl)
theorem dJ4_init_2_90 : decode cJ4_init_2 90 = .ok (.ishl, 1) := dk_120 (dk_at dksJ4_init_2_3 18 rfl rfl)
theorem dJ4_init_2_91 : decode cJ4_init_2 91 = .ok (.invokestatic 54, 3) := dk_184 0 54 (dk_at dksJ4_init_2_3 19 rfl rfl)
theorem dJ4_init_2_94 : decode cJ4_init_2 94 = .ok (.putfield 9, 3) := dk_181 0 9 (dk_at dksJ4_init_2_4 0 rfl rfl)
theorem dJ4_init_2_97 : decode cJ4_init_2 97 = .ok (.return_, 1) := dk_177 (dk_at dksJ4_init_2_4 3 rfl rfl)
abbrev cJ4_length : ByteArray := prog_42_method_54_code
def yJ4_length : MethodName := ⟨RJ4, "length", "()I"⟩
def dkwJ4_length_0 : List UInt8 := [42, 180, 0, 9, 190, 42, 182, 1, 79, 122, 172]
abbrev dktJ4_length_0 : List UInt8 := dkwJ4_length_0 ++ []
theorem dksJ4_length_0 : cJ4_length.data.toList.drop 0 = dktJ4_length_0 := by decide +kernel
theorem dJ4_length_0 : decode cJ4_length 0 = .ok (.aload_n 0, 1) := dk_42 (dk_at dksJ4_length_0 0 rfl rfl)
theorem dJ4_length_1 : decode cJ4_length 1 = .ok (.getfield 9, 3) := dk_180 0 9 (dk_at dksJ4_length_0 1 rfl rfl)
theorem dJ4_length_4 : decode cJ4_length 4 = .ok (.arraylength, 1) := dk_190 (dk_at dksJ4_length_0 4 rfl rfl)
theorem dJ4_length_5 : decode cJ4_length 5 = .ok (.aload_n 0, 1) := dk_42 (dk_at dksJ4_length_0 5 rfl rfl)
theorem dJ4_length_6 : decode cJ4_length 6 = .ok (.invokevirtual 335, 3) := dk_182 1 79 (dk_at dksJ4_length_0 6 rfl rfl)
theorem dJ4_length_9 : decode cJ4_length 9 = .ok (.ishr, 1) := dk_122 (dk_at dksJ4_length_0 9 rfl rfl)
theorem dJ4_length_10 : decode cJ4_length 10 = .ok (.ireturn, 1) := dk_172 (dk_at dksJ4_length_0 10 rfl rfl)
abbrev cJ4_coder : ByteArray := prog_42_method_152_code
def yJ4_coder : MethodName := ⟨RJ4, "coder", "()B"⟩
def dkwJ4_coder_0 : List UInt8 := [178, 0, 38, 153, 0, 10, 42, 180, 0, 15, 167, 0, 4, 4, 172]
abbrev dktJ4_coder_0 : List UInt8 := dkwJ4_coder_0 ++ []
theorem dksJ4_coder_0 : cJ4_coder.data.toList.drop 0 = dktJ4_coder_0 := by decide +kernel
theorem dJ4_coder_0 : decode cJ4_coder 0 = .ok (.getstatic 38, 3) := dk_178 0 38 (dk_at dksJ4_coder_0 0 rfl rfl)
theorem dJ4_coder_3 : decode cJ4_coder 3 = .ok (.ifCond .eq 10, 3) := dk_153 0 10 (dk_at dksJ4_coder_0 3 rfl rfl)
theorem dJ4_coder_6 : decode cJ4_coder 6 = .ok (.aload_n 0, 1) := dk_42 (dk_at dksJ4_coder_0 6 rfl rfl)
theorem dJ4_coder_7 : decode cJ4_coder 7 = .ok (.getfield 15, 3) := dk_180 0 15 (dk_at dksJ4_coder_0 7 rfl rfl)
theorem dJ4_coder_10 : decode cJ4_coder 10 = .ok (.goto 4, 3) := dk_167 0 4 (dk_at dksJ4_coder_0 10 rfl rfl)
theorem dJ4_coder_13 : decode cJ4_coder 13 = .ok (.iconst 1, 1) := dk_4 (dk_at dksJ4_coder_0 13 rfl rfl)
theorem dJ4_coder_14 : decode cJ4_coder 14 = .ok (.ireturn, 1) := dk_172 (dk_at dksJ4_coder_0 14 rfl rfl)
abbrev cJ4_getBytes : ByteArray := prog_42_method_147_code
def yJ4_getBytes : MethodName := ⟨RJ4, "getBytes", "([BIB)V"⟩
def dkwJ4_getBytes_1 : List UInt8 := [184, 0, 212, 167, 0, 18, 42, 180, 0, 9, 3, 43, 28, 42, 180, 0, 9, 190, 184, 0, 106, 177]
abbrev dktJ4_getBytes_1 : List UInt8 := dkwJ4_getBytes_1 ++ []
def dkwJ4_getBytes_0 : List UInt8 := [42, 182, 1, 79, 29, 160, 0, 23, 42, 180, 0, 9, 3, 43, 28, 29, 120, 42, 180, 0, 9, 190]
abbrev dktJ4_getBytes_0 : List UInt8 := dkwJ4_getBytes_0 ++ dktJ4_getBytes_1
theorem dksJ4_getBytes_0 : cJ4_getBytes.data.toList.drop 0 = dktJ4_getBytes_0 := by decide +kernel
theorem dksJ4_getBytes_1 : cJ4_getBytes.data.toList.drop 22 = dktJ4_getBytes_1 := dk_seg dksJ4_getBytes_0 22 rfl rfl
theorem dJ4_getBytes_0 : decode cJ4_getBytes 0 = .ok (.aload_n 0, 1) := dk_42 (dk_at dksJ4_getBytes_0 0 rfl rfl)
theorem dJ4_getBytes_1 : decode cJ4_getBytes 1 = .ok (.invokevirtual 335, 3) := dk_182 1 79 (dk_at dksJ4_getBytes_0 1 rfl rfl)
theorem dJ4_getBytes_4 : decode cJ4_getBytes 4 = .ok (.iload_n 3, 1) := dk_29 (dk_at dksJ4_getBytes_0 4 rfl rfl)
theorem dJ4_getBytes_5 : decode cJ4_getBytes 5 = .ok (.if_icmp .ne 23, 3) := dk_160 0 23 (dk_at dksJ4_getBytes_0 5 rfl rfl)
theorem dJ4_getBytes_8 : decode cJ4_getBytes 8 = .ok (.aload_n 0, 1) := dk_42 (dk_at dksJ4_getBytes_0 8 rfl rfl)
theorem dJ4_getBytes_9 : decode cJ4_getBytes 9 = .ok (.getfield 9, 3) := dk_180 0 9 (dk_at dksJ4_getBytes_0 9 rfl rfl)
theorem dJ4_getBytes_12 : decode cJ4_getBytes 12 = .ok (.iconst 0, 1) := dk_3 (dk_at dksJ4_getBytes_0 12 rfl rfl)
theorem dJ4_getBytes_13 : decode cJ4_getBytes 13 = .ok (.aload_n 1, 1) := dk_43 (dk_at dksJ4_getBytes_0 13 rfl rfl)
theorem dJ4_getBytes_14 : decode cJ4_getBytes 14 = .ok (.iload_n 2, 1) := dk_28 (dk_at dksJ4_getBytes_0 14 rfl rfl)
theorem dJ4_getBytes_15 : decode cJ4_getBytes 15 = .ok (.iload_n 3, 1) := dk_29 (dk_at dksJ4_getBytes_0 15 rfl rfl)
theorem dJ4_getBytes_16 : decode cJ4_getBytes 16 = .ok (.ishl, 1) := dk_120 (dk_at dksJ4_getBytes_0 16 rfl rfl)
theorem dJ4_getBytes_17 : decode cJ4_getBytes 17 = .ok (.aload_n 0, 1) := dk_42 (dk_at dksJ4_getBytes_0 17 rfl rfl)
theorem dJ4_getBytes_18 : decode cJ4_getBytes 18 = .ok (.getfield 9, 3) := dk_180 0 9 (dk_at dksJ4_getBytes_0 18 rfl rfl)
theorem dJ4_getBytes_21 : decode cJ4_getBytes 21 = .ok (.arraylength, 1) := dk_190 (dk_at dksJ4_getBytes_0 21 rfl rfl)
theorem dJ4_getBytes_22 : decode cJ4_getBytes 22 = .ok (.invokestatic 212, 3) := dk_184 0 212 (dk_at dksJ4_getBytes_1 0 rfl rfl)
theorem dJ4_getBytes_25 : decode cJ4_getBytes 25 = .ok (.goto 18, 3) := dk_167 0 18 (dk_at dksJ4_getBytes_1 3 rfl rfl)
theorem dJ4_getBytes_28 : decode cJ4_getBytes 28 = .ok (.aload_n 0, 1) := dk_42 (dk_at dksJ4_getBytes_1 6 rfl rfl)
theorem dJ4_getBytes_43 : decode cJ4_getBytes 43 = .ok (.return_, 1) := dk_177 (dk_at dksJ4_getBytes_1 21 rfl rfl)
abbrev cJ4_equals : ByteArray := prog_42_method_66_code
def yJ4_equals : MethodName := ⟨RJ4, "equals", "(Ljava/lang/Object;)Z"⟩
def dkwJ4_equals_2 : List UInt8 := [184, 2, 29, 153, 0, 7, 4, 167, 0, 4, 3, 172]
abbrev dktJ4_equals_2 : List UInt8 := dkwJ4_equals_2 ++ []
def dkwJ4_equals_1 : List UInt8 := [153, 0, 14, 42, 180, 0, 15, 44, 180, 0, 15, 160, 0, 21, 42, 180, 0, 9, 44, 180, 0, 9]
abbrev dktJ4_equals_1 : List UInt8 := dkwJ4_equals_1 ++ dktJ4_equals_2
def dkwJ4_equals_0 : List UInt8 := [42, 43, 166, 0, 5, 4, 172, 43, 193, 0, 10, 153, 0, 43, 43, 192, 0, 10, 77, 178, 0, 38]
abbrev dktJ4_equals_0 : List UInt8 := dkwJ4_equals_0 ++ dktJ4_equals_1
theorem dksJ4_equals_0 : cJ4_equals.data.toList.drop 0 = dktJ4_equals_0 := by decide +kernel
theorem dksJ4_equals_1 : cJ4_equals.data.toList.drop 22 = dktJ4_equals_1 := dk_seg dksJ4_equals_0 22 rfl rfl
theorem dksJ4_equals_2 : cJ4_equals.data.toList.drop 44 = dktJ4_equals_2 := dk_seg dksJ4_equals_1 22 rfl rfl
theorem dJ4_equals_0 : decode cJ4_equals 0 = .ok (.aload_n 0, 1) := dk_42 (dk_at dksJ4_equals_0 0 rfl rfl)
theorem dJ4_equals_1 : decode cJ4_equals 1 = .ok (.aload_n 1, 1) := dk_43 (dk_at dksJ4_equals_0 1 rfl rfl)
theorem dJ4_equals_2 : decode cJ4_equals 2 = .ok (.if_acmp .ne 5, 3) := dk_166 0 5 (dk_at dksJ4_equals_0 2 rfl rfl)
theorem dJ4_equals_5 : decode cJ4_equals 5 = .ok (.iconst 1, 1) := dk_4 (dk_at dksJ4_equals_0 5 rfl rfl)
theorem dJ4_equals_6 : decode cJ4_equals 6 = .ok (.ireturn, 1) := dk_172 (dk_at dksJ4_equals_0 6 rfl rfl)
theorem dJ4_equals_7 : decode cJ4_equals 7 = .ok (.aload_n 1, 1) := dk_43 (dk_at dksJ4_equals_0 7 rfl rfl)
theorem dJ4_equals_8 : decode cJ4_equals 8 = .ok (.instanceof 10, 3) := dk_193 0 10 (dk_at dksJ4_equals_0 8 rfl rfl)
theorem dJ4_equals_11 : decode cJ4_equals 11 = .ok (.ifCond .eq 43, 3) := dk_153 0 43 (dk_at dksJ4_equals_0 11 rfl rfl)
theorem dJ4_equals_14 : decode cJ4_equals 14 = .ok (.aload_n 1, 1) := dk_43 (dk_at dksJ4_equals_0 14 rfl rfl)
theorem dJ4_equals_15 : decode cJ4_equals 15 = .ok (.checkcast 10, 3) := dk_192 0 10 (dk_at dksJ4_equals_0 15 rfl rfl)
theorem dJ4_equals_18 : decode cJ4_equals 18 = .ok (.astore_n 2, 1) := dk_77 (dk_at dksJ4_equals_0 18 rfl rfl)
theorem dJ4_equals_19 : decode cJ4_equals 19 = .ok (.getstatic 38, 3) := dk_178 0 38 (dk_at dksJ4_equals_0 19 rfl rfl)
theorem dJ4_equals_22 : decode cJ4_equals 22 = .ok (.ifCond .eq 14, 3) := dk_153 0 14 (dk_at dksJ4_equals_1 0 rfl rfl)
theorem dJ4_equals_25 : decode cJ4_equals 25 = .ok (.aload_n 0, 1) := dk_42 (dk_at dksJ4_equals_1 3 rfl rfl)
theorem dJ4_equals_26 : decode cJ4_equals 26 = .ok (.getfield 15, 3) := dk_180 0 15 (dk_at dksJ4_equals_1 4 rfl rfl)
theorem dJ4_equals_29 : decode cJ4_equals 29 = .ok (.aload_n 2, 1) := dk_44 (dk_at dksJ4_equals_1 7 rfl rfl)
theorem dJ4_equals_30 : decode cJ4_equals 30 = .ok (.getfield 15, 3) := dk_180 0 15 (dk_at dksJ4_equals_1 8 rfl rfl)
theorem dJ4_equals_33 : decode cJ4_equals 33 = .ok (.if_icmp .ne 21, 3) := dk_160 0 21 (dk_at dksJ4_equals_1 11 rfl rfl)
theorem dJ4_equals_36 : decode cJ4_equals 36 = .ok (.aload_n 0, 1) := dk_42 (dk_at dksJ4_equals_1 14 rfl rfl)
theorem dJ4_equals_37 : decode cJ4_equals 37 = .ok (.getfield 9, 3) := dk_180 0 9 (dk_at dksJ4_equals_1 15 rfl rfl)
theorem dJ4_equals_40 : decode cJ4_equals 40 = .ok (.aload_n 2, 1) := dk_44 (dk_at dksJ4_equals_1 18 rfl rfl)
theorem dJ4_equals_41 : decode cJ4_equals 41 = .ok (.getfield 9, 3) := dk_180 0 9 (dk_at dksJ4_equals_1 19 rfl rfl)
theorem dJ4_equals_44 : decode cJ4_equals 44 = .ok (.invokestatic 541, 3) := dk_184 2 29 (dk_at dksJ4_equals_2 0 rfl rfl)
theorem dJ4_equals_47 : decode cJ4_equals 47 = .ok (.ifCond .eq 7, 3) := dk_153 0 7 (dk_at dksJ4_equals_2 3 rfl rfl)
theorem dJ4_equals_50 : decode cJ4_equals 50 = .ok (.iconst 1, 1) := dk_4 (dk_at dksJ4_equals_2 6 rfl rfl)
theorem dJ4_equals_51 : decode cJ4_equals 51 = .ok (.goto 4, 3) := dk_167 0 4 (dk_at dksJ4_equals_2 7 rfl rfl)
theorem dJ4_equals_54 : decode cJ4_equals 54 = .ok (.iconst 0, 1) := dk_3 (dk_at dksJ4_equals_2 10 rfl rfl)
theorem dJ4_equals_55 : decode cJ4_equals 55 = .ok (.ireturn, 1) := dk_172 (dk_at dksJ4_equals_2 11 rfl rfl)
abbrev cJ4_hashCode : ByteArray := prog_42_method_78_code
def yJ4_hashCode : MethodName := ⟨RJ4, "hashCode", "()I"⟩
def dkwJ4_hashCode_2 : List UInt8 := [181, 0, 23, 167, 0, 8, 42, 27, 181, 0, 19, 27, 172]
abbrev dktJ4_hashCode_2 : List UInt8 := dkwJ4_hashCode_2 ++ []
def dkwJ4_hashCode_1 : List UInt8 := [180, 0, 9, 184, 2, 116, 167, 0, 10, 42, 180, 0, 9, 184, 2, 120, 60, 27, 154, 0, 11, 42, 4]
abbrev dktJ4_hashCode_1 : List UInt8 := dkwJ4_hashCode_1 ++ dktJ4_hashCode_2
def dkwJ4_hashCode_0 : List UInt8 := [42, 180, 0, 19, 60, 27, 154, 0, 52, 42, 180, 0, 23, 154, 0, 45, 42, 182, 1, 236, 153, 0, 13, 42]
abbrev dktJ4_hashCode_0 : List UInt8 := dkwJ4_hashCode_0 ++ dktJ4_hashCode_1
theorem dksJ4_hashCode_0 : cJ4_hashCode.data.toList.drop 0 = dktJ4_hashCode_0 := by decide +kernel
theorem dksJ4_hashCode_1 : cJ4_hashCode.data.toList.drop 24 = dktJ4_hashCode_1 := dk_seg dksJ4_hashCode_0 24 rfl rfl
theorem dksJ4_hashCode_2 : cJ4_hashCode.data.toList.drop 47 = dktJ4_hashCode_2 := dk_seg dksJ4_hashCode_1 23 rfl rfl
theorem dJ4_hashCode_0 : decode cJ4_hashCode 0 = .ok (.aload_n 0, 1) := dk_42 (dk_at dksJ4_hashCode_0 0 rfl rfl)
theorem dJ4_hashCode_1 : decode cJ4_hashCode 1 = .ok (.getfield 19, 3) := dk_180 0 19 (dk_at dksJ4_hashCode_0 1 rfl rfl)
theorem dJ4_hashCode_4 : decode cJ4_hashCode 4 = .ok (.istore_n 1, 1) := dk_60 (dk_at dksJ4_hashCode_0 4 rfl rfl)
theorem dJ4_hashCode_5 : decode cJ4_hashCode 5 = .ok (.iload_n 1, 1) := dk_27 (dk_at dksJ4_hashCode_0 5 rfl rfl)
theorem dJ4_hashCode_6 : decode cJ4_hashCode 6 = .ok (.ifCond .ne 52, 3) := dk_154 0 52 (dk_at dksJ4_hashCode_0 6 rfl rfl)
theorem dJ4_hashCode_9 : decode cJ4_hashCode 9 = .ok (.aload_n 0, 1) := dk_42 (dk_at dksJ4_hashCode_0 9 rfl rfl)
theorem dJ4_hashCode_10 : decode cJ4_hashCode 10 = .ok (.getfield 23, 3) := dk_180 0 23 (dk_at dksJ4_hashCode_0 10 rfl rfl)
theorem dJ4_hashCode_13 : decode cJ4_hashCode 13 = .ok (.ifCond .ne 45, 3) := dk_154 0 45 (dk_at dksJ4_hashCode_0 13 rfl rfl)
theorem dJ4_hashCode_16 : decode cJ4_hashCode 16 = .ok (.aload_n 0, 1) := dk_42 (dk_at dksJ4_hashCode_0 16 rfl rfl)
theorem dJ4_hashCode_17 : decode cJ4_hashCode 17 = .ok (.invokevirtual 492, 3) := dk_182 1 236 (dk_at dksJ4_hashCode_0 17 rfl rfl)
theorem dJ4_hashCode_20 : decode cJ4_hashCode 20 = .ok (.ifCond .eq 13, 3) := dk_153 0 13 (dk_at dksJ4_hashCode_0 20 rfl rfl)
theorem dJ4_hashCode_23 : decode cJ4_hashCode 23 = .ok (.aload_n 0, 1) := dk_42 (dk_at dksJ4_hashCode_0 23 rfl rfl)
theorem dJ4_hashCode_24 : decode cJ4_hashCode 24 = .ok (.getfield 9, 3) := dk_180 0 9 (dk_at dksJ4_hashCode_1 0 rfl rfl)
theorem dJ4_hashCode_27 : decode cJ4_hashCode 27 = .ok (.invokestatic 628, 3) := dk_184 2 116 (dk_at dksJ4_hashCode_1 3 rfl rfl)
theorem dJ4_hashCode_30 : decode cJ4_hashCode 30 = .ok (.goto 10, 3) := dk_167 0 10 (dk_at dksJ4_hashCode_1 6 rfl rfl)
theorem dJ4_hashCode_33 : decode cJ4_hashCode 33 = .ok (.aload_n 0, 1) := dk_42 (dk_at dksJ4_hashCode_1 9 rfl rfl)
theorem dJ4_hashCode_40 : decode cJ4_hashCode 40 = .ok (.istore_n 1, 1) := dk_60 (dk_at dksJ4_hashCode_1 16 rfl rfl)
theorem dJ4_hashCode_41 : decode cJ4_hashCode 41 = .ok (.iload_n 1, 1) := dk_27 (dk_at dksJ4_hashCode_1 17 rfl rfl)
theorem dJ4_hashCode_42 : decode cJ4_hashCode 42 = .ok (.ifCond .ne 11, 3) := dk_154 0 11 (dk_at dksJ4_hashCode_1 18 rfl rfl)
theorem dJ4_hashCode_45 : decode cJ4_hashCode 45 = .ok (.aload_n 0, 1) := dk_42 (dk_at dksJ4_hashCode_1 21 rfl rfl)
theorem dJ4_hashCode_46 : decode cJ4_hashCode 46 = .ok (.iconst 1, 1) := dk_4 (dk_at dksJ4_hashCode_1 22 rfl rfl)
theorem dJ4_hashCode_47 : decode cJ4_hashCode 47 = .ok (.putfield 23, 3) := dk_181 0 23 (dk_at dksJ4_hashCode_2 0 rfl rfl)
theorem dJ4_hashCode_50 : decode cJ4_hashCode 50 = .ok (.goto 8, 3) := dk_167 0 8 (dk_at dksJ4_hashCode_2 3 rfl rfl)
theorem dJ4_hashCode_53 : decode cJ4_hashCode 53 = .ok (.aload_n 0, 1) := dk_42 (dk_at dksJ4_hashCode_2 6 rfl rfl)
theorem dJ4_hashCode_54 : decode cJ4_hashCode 54 = .ok (.iload_n 1, 1) := dk_27 (dk_at dksJ4_hashCode_2 7 rfl rfl)
theorem dJ4_hashCode_55 : decode cJ4_hashCode 55 = .ok (.putfield 19, 3) := dk_181 0 19 (dk_at dksJ4_hashCode_2 8 rfl rfl)
theorem dJ4_hashCode_58 : decode cJ4_hashCode 58 = .ok (.iload_n 1, 1) := dk_27 (dk_at dksJ4_hashCode_2 11 rfl rfl)
theorem dJ4_hashCode_59 : decode cJ4_hashCode 59 = .ok (.ireturn, 1) := dk_172 (dk_at dksJ4_hashCode_2 12 rfl rfl)
abbrev cJ4_isLatin1 : ByteArray := prog_42_method_154_code
def yJ4_isLatin1 : MethodName := ⟨RJ4, "isLatin1", "()Z"⟩
def dkwJ4_isLatin1_0 : List UInt8 := [178, 0, 38, 153, 0, 14, 42, 180, 0, 15, 154, 0, 7, 4, 167, 0, 4, 3, 172]
abbrev dktJ4_isLatin1_0 : List UInt8 := dkwJ4_isLatin1_0 ++ []
theorem dksJ4_isLatin1_0 : cJ4_isLatin1.data.toList.drop 0 = dktJ4_isLatin1_0 := by decide +kernel
theorem dJ4_isLatin1_0 : decode cJ4_isLatin1 0 = .ok (.getstatic 38, 3) := dk_178 0 38 (dk_at dksJ4_isLatin1_0 0 rfl rfl)
theorem dJ4_isLatin1_3 : decode cJ4_isLatin1 3 = .ok (.ifCond .eq 14, 3) := dk_153 0 14 (dk_at dksJ4_isLatin1_0 3 rfl rfl)
theorem dJ4_isLatin1_6 : decode cJ4_isLatin1 6 = .ok (.aload_n 0, 1) := dk_42 (dk_at dksJ4_isLatin1_0 6 rfl rfl)
theorem dJ4_isLatin1_7 : decode cJ4_isLatin1 7 = .ok (.getfield 15, 3) := dk_180 0 15 (dk_at dksJ4_isLatin1_0 7 rfl rfl)
theorem dJ4_isLatin1_10 : decode cJ4_isLatin1 10 = .ok (.ifCond .ne 7, 3) := dk_154 0 7 (dk_at dksJ4_isLatin1_0 10 rfl rfl)
theorem dJ4_isLatin1_13 : decode cJ4_isLatin1 13 = .ok (.iconst 1, 1) := dk_4 (dk_at dksJ4_isLatin1_0 13 rfl rfl)
theorem dJ4_isLatin1_14 : decode cJ4_isLatin1 14 = .ok (.goto 4, 3) := dk_167 0 4 (dk_at dksJ4_isLatin1_0 14 rfl rfl)
theorem dJ4_isLatin1_17 : decode cJ4_isLatin1 17 = .ok (.iconst 0, 1) := dk_3 (dk_at dksJ4_isLatin1_0 17 rfl rfl)
theorem dJ4_isLatin1_18 : decode cJ4_isLatin1 18 = .ok (.ireturn, 1) := dk_172 (dk_at dksJ4_isLatin1_0 18 rfl rfl)
abbrev cJ4_charAt : ByteArray := prog_42_method_56_code
def yJ4_charAt : MethodName := ⟨RJ4, "charAt", "(I)C"⟩
def dkwJ4_charAt_1 : List UInt8 := [172]
abbrev dktJ4_charAt_1 : List UInt8 := dkwJ4_charAt_1 ++ []
def dkwJ4_charAt_0 : List UInt8 := [42, 182, 1, 236, 153, 0, 12, 42, 180, 0, 9, 27, 184, 1, 239, 172, 42, 180, 0, 9, 27, 184, 1, 242]
abbrev dktJ4_charAt_0 : List UInt8 := dkwJ4_charAt_0 ++ dktJ4_charAt_1
theorem dksJ4_charAt_0 : cJ4_charAt.data.toList.drop 0 = dktJ4_charAt_0 := by decide +kernel
theorem dksJ4_charAt_1 : cJ4_charAt.data.toList.drop 24 = dktJ4_charAt_1 := dk_seg dksJ4_charAt_0 24 rfl rfl
theorem dJ4_charAt_0 : decode cJ4_charAt 0 = .ok (.aload_n 0, 1) := dk_42 (dk_at dksJ4_charAt_0 0 rfl rfl)
theorem dJ4_charAt_1 : decode cJ4_charAt 1 = .ok (.invokevirtual 492, 3) := dk_182 1 236 (dk_at dksJ4_charAt_0 1 rfl rfl)
theorem dJ4_charAt_4 : decode cJ4_charAt 4 = .ok (.ifCond .eq 12, 3) := dk_153 0 12 (dk_at dksJ4_charAt_0 4 rfl rfl)
theorem dJ4_charAt_7 : decode cJ4_charAt 7 = .ok (.aload_n 0, 1) := dk_42 (dk_at dksJ4_charAt_0 7 rfl rfl)
theorem dJ4_charAt_8 : decode cJ4_charAt 8 = .ok (.getfield 9, 3) := dk_180 0 9 (dk_at dksJ4_charAt_0 8 rfl rfl)
theorem dJ4_charAt_11 : decode cJ4_charAt 11 = .ok (.iload_n 1, 1) := dk_27 (dk_at dksJ4_charAt_0 11 rfl rfl)
theorem dJ4_charAt_12 : decode cJ4_charAt 12 = .ok (.invokestatic 495, 3) := dk_184 1 239 (dk_at dksJ4_charAt_0 12 rfl rfl)
theorem dJ4_charAt_15 : decode cJ4_charAt 15 = .ok (.ireturn, 1) := dk_172 (dk_at dksJ4_charAt_0 15 rfl rfl)
theorem dJ4_charAt_16 : decode cJ4_charAt 16 = .ok (.aload_n 0, 1) := dk_42 (dk_at dksJ4_charAt_0 16 rfl rfl)
theorem q133 : (Jvm.Cond.initialized "java/lang/String") ∈ lw_all := lw_g (lw_at lw_m1 6 rfl) rfl
theorem q256 : (Jvm.Cond.fieldLink "java/lang/String" (1048 : Nat) "java/lang/AbstractStringBuilder" "maybeLatin1" "Z") ∈ lw_all := lw_g (lw_at lw_m1 129 rfl) rfl
theorem q399 : (Jvm.Cond.instantiable "java/lang/String" (4 : Nat)) ∈ lw_all := lw_g (lw_at lw_m2 32 rfl) rfl
theorem q688 : (Jvm.Cond.fieldLink "java/lang/String" (1053 : Nat) "jdk/internal/util/Preconditions" "SIOOBE_FORMATTER" "Ljava/util/function/BiFunction;") ∈ lw_all := lw_g (lw_at lw_m3 81 rfl) rfl
theorem q709 : (Jvm.Cond.static ({ cls := "java/lang/String", name := "checkIndex", desc := "(II)V" } : Jvm.MethodName)) ∈ lw_all := lw_g (lw_at lw_m3 102 rfl) rfl
theorem q710 : (Jvm.Cond.code ({ cls := "java/lang/String", name := "checkIndex", desc := "(II)V" } : Jvm.MethodName) prog_42_method_155_code (2 : Nat) (Option.none : Option Jvm.ClassFile.FieldType)) ∈ lw_all := lw_g (lw_at lw_m3 103 rfl) rfl
theorem q711 : (Jvm.Cond.methodLink "java/lang/String" (1059 : Nat) ({ cls := "jdk/internal/util/Preconditions", name := "checkIndex", desc := "(IILjava/util/function/BiFunction;)I" } : Jvm.MethodName)) ∈ lw_all := lw_g (lw_at lw_m3 104 rfl) rfl
theorem q720 : (Jvm.Cond.instanceMethod ({ cls := "java/lang/String", name := "<init>", desc := "(Ljava/lang/StringBuilder;)V" } : Jvm.MethodName)) ∈ lw_all := lw_g (lw_at lw_m3 113 rfl) rfl
theorem q721 : (Jvm.Cond.code ({ cls := "java/lang/String", name := "<init>", desc := "(Ljava/lang/StringBuilder;)V" } : Jvm.MethodName) prog_42_method_53_code (2 : Nat) (Option.none : Option Jvm.ClassFile.FieldType)) ∈ lw_all := lw_g (lw_at lw_m3 114 rfl) rfl
theorem q722 : (Jvm.Cond.methodLink "java/lang/String" (489 : Nat) ({ cls := "java/lang/String", name := "<init>", desc := "(Ljava/lang/AbstractStringBuilder;Ljava/lang/Void;)V" } : Jvm.MethodName)) ∈ lw_all := lw_g (lw_at lw_m3 115 rfl) rfl
theorem q723 : (Jvm.Cond.instanceMethod ({ cls := "java/lang/String", name := "<init>", desc := "(Ljava/lang/AbstractStringBuilder;Ljava/lang/Void;)V" } : Jvm.MethodName)) ∈ lw_all := lw_g (lw_at lw_m3 116 rfl) rfl
theorem q724 : (Jvm.Cond.code ({ cls := "java/lang/String", name := "<init>", desc := "(Ljava/lang/AbstractStringBuilder;Ljava/lang/Void;)V" } : Jvm.MethodName) prog_42_method_150_code (5 : Nat) (Option.none : Option Jvm.ClassFile.FieldType)) ∈ lw_all := lw_g (lw_at lw_m3 117 rfl) rfl
theorem q725 : (Jvm.Cond.methodLink "java/lang/String" (1 : Nat) ({ cls := "java/lang/Object", name := "<init>", desc := "()V" } : Jvm.MethodName)) ∈ lw_all := lw_g (lw_at lw_m3 118 rfl) rfl
theorem q726 : (Jvm.Cond.methodLink "java/lang/String" (552 : Nat) ({ cls := "java/lang/AbstractStringBuilder", name := "getValue", desc := "()[B" } : Jvm.MethodName)) ∈ lw_all := lw_g (lw_at lw_m3 119 rfl) rfl
theorem q731 : (Jvm.Cond.methodLink "java/lang/String" (549 : Nat) ({ cls := "java/lang/AbstractStringBuilder", name := "length", desc := "()I" } : Jvm.MethodName)) ∈ lw_all := lw_g (lw_at lw_m3 124 rfl) rfl
theorem q739 : (Jvm.Cond.methodLink "java/lang/String" (1047 : Nat) ({ cls := "java/lang/AbstractStringBuilder", name := "isLatin1", desc := "()Z" } : Jvm.MethodName)) ∈ lw_all := lw_g (lw_at lw_m3 132 rfl) rfl
theorem q740 : (Jvm.Cond.methodLink "java/lang/String" (54 : Nat) ({ cls := "java/util/Arrays", name := "copyOfRange", desc := "([BII)[B" } : Jvm.MethodName)) ∈ lw_all := lw_g (lw_at lw_m3 133 rfl) rfl
theorem q810 : (Jvm.Cond.instanceMethod ({ cls := "java/lang/String", name := "length", desc := "()I" } : Jvm.MethodName)) ∈ lw_all := lw_g (lw_at lw_m3 203 rfl) rfl
theorem q811 : (Jvm.Cond.selects "java/lang/String" ({ cls := "java/lang/String", name := "length", desc := "()I" } : Jvm.MethodName) ({ cls := "java/lang/String", name := "length", desc := "()I" } : Jvm.MethodName)) ∈ lw_all := lw_g (lw_at lw_m3 204 rfl) rfl
theorem q812 : (Jvm.Cond.code ({ cls := "java/lang/String", name := "length", desc := "()I" } : Jvm.MethodName) prog_42_method_54_code (1 : Nat) (Option.some Jvm.ClassFile.FieldType.int)) ∈ lw_all := lw_g (lw_at lw_m3 205 rfl) rfl
theorem q813 : (Jvm.Cond.methodLink "java/lang/String" (335 : Nat) ({ cls := "java/lang/String", name := "coder", desc := "()B" } : Jvm.MethodName)) ∈ lw_all := lw_g (lw_at lw_m3 206 rfl) rfl
theorem q814 : (Jvm.Cond.instanceMethod ({ cls := "java/lang/String", name := "coder", desc := "()B" } : Jvm.MethodName)) ∈ lw_all := lw_g (lw_at lw_m3 207 rfl) rfl
theorem q815 : (Jvm.Cond.selects "java/lang/String" ({ cls := "java/lang/String", name := "coder", desc := "()B" } : Jvm.MethodName) ({ cls := "java/lang/String", name := "coder", desc := "()B" } : Jvm.MethodName)) ∈ lw_all := lw_g (lw_at lw_m3 208 rfl) rfl
theorem q816 : (Jvm.Cond.code ({ cls := "java/lang/String", name := "coder", desc := "()B" } : Jvm.MethodName) prog_42_method_152_code (1 : Nat) (Option.some Jvm.ClassFile.FieldType.byte)) ∈ lw_all := lw_g (lw_at lw_m3 209 rfl) rfl
theorem q817 : (Jvm.Cond.fieldLink "java/lang/String" (38 : Nat) "java/lang/String" "COMPACT_STRINGS" "Z") ∈ lw_all := lw_g (lw_at lw_m3 210 rfl) rfl
theorem q828 : (Jvm.Cond.instanceMethod ({ cls := "java/lang/String", name := "getBytes", desc := "([BIB)V" } : Jvm.MethodName)) ∈ lw_all := lw_g (lw_at lw_m3 221 rfl) rfl
theorem q829 : (Jvm.Cond.selects "java/lang/String" ({ cls := "java/lang/String", name := "getBytes", desc := "([BIB)V" } : Jvm.MethodName) ({ cls := "java/lang/String", name := "getBytes", desc := "([BIB)V" } : Jvm.MethodName)) ∈ lw_all := lw_g (lw_at lw_m3 222 rfl) rfl
theorem q830 : (Jvm.Cond.code ({ cls := "java/lang/String", name := "getBytes", desc := "([BIB)V" } : Jvm.MethodName) prog_42_method_147_code (4 : Nat) (Option.none : Option Jvm.ClassFile.FieldType)) ∈ lw_all := lw_g (lw_at lw_m3 223 rfl) rfl
theorem q831 : (Jvm.Cond.methodLink "java/lang/String" (212 : Nat) ({ cls := "java/lang/System", name := "arraycopy", desc := "(Ljava/lang/Object;ILjava/lang/Object;II)V" } : Jvm.MethodName)) ∈ lw_all := lw_g (lw_at lw_m3 224 rfl) rfl
theorem q853 : (Jvm.Cond.fieldLink "java/lang/String" (9 : Nat) "java/lang/String" "value" "[B") ∈ lw_all := lw_g (lw_at lw_m4 6 rfl) rfl
theorem q854 : (Jvm.Cond.fieldLink "java/lang/String" (15 : Nat) "java/lang/String" "coder" "B") ∈ lw_all := lw_g (lw_at lw_m4 7 rfl) rfl
theorem q855 : (Jvm.Cond.fieldLink "java/lang/String" (19 : Nat) "java/lang/String" "hash" "I") ∈ lw_all := lw_g (lw_at lw_m4 8 rfl) rfl
theorem q856 : (Jvm.Cond.fieldLink "java/lang/String" (23 : Nat) "java/lang/String" "hashIsZero" "Z") ∈ lw_all := lw_g (lw_at lw_m4 9 rfl) rfl
theorem q863 : (Jvm.Cond.instanceMethod ({ cls := "java/lang/String", name := "equals", desc := "(Ljava/lang/Object;)Z" } : Jvm.MethodName)) ∈ lw_all := lw_g (lw_at lw_m4 16 rfl) rfl
theorem q864 : (Jvm.Cond.selects "java/lang/String" ({ cls := "java/lang/String", name := "equals", desc := "(Ljava/lang/Object;)Z" } : Jvm.MethodName) ({ cls := "java/lang/String", name := "equals", desc := "(Ljava/lang/Object;)Z" } : Jvm.MethodName)) ∈ lw_all := lw_g (lw_at lw_m4 17 rfl) rfl
theorem q865 : (Jvm.Cond.code ({ cls := "java/lang/String", name := "equals", desc := "(Ljava/lang/Object;)Z" } : Jvm.MethodName) prog_42_method_66_code (3 : Nat) (Option.some Jvm.ClassFile.FieldType.boolean)) ∈ lw_all := lw_g (lw_at lw_m4 18 rfl) rfl
theorem q866 : (Jvm.Cond.classLink "java/lang/String" (10 : Nat) "java/lang/String") ∈ lw_all := lw_g (lw_at lw_m4 19 rfl) rfl
theorem q867 : (Jvm.Cond.methodLink "java/lang/String" (541 : Nat) ({ cls := "java/lang/StringLatin1", name := "equals", desc := "([B[B)Z" } : Jvm.MethodName)) ∈ lw_all := lw_g (lw_at lw_m4 20 rfl) rfl
theorem q891 : (Jvm.Cond.instanceMethod ({ cls := "java/lang/String", name := "hashCode", desc := "()I" } : Jvm.MethodName)) ∈ lw_all := lw_g (lw_at lw_m4 44 rfl) rfl
theorem q892 : (Jvm.Cond.selects "java/lang/String" ({ cls := "java/lang/String", name := "hashCode", desc := "()I" } : Jvm.MethodName) ({ cls := "java/lang/String", name := "hashCode", desc := "()I" } : Jvm.MethodName)) ∈ lw_all := lw_g (lw_at lw_m4 45 rfl) rfl
theorem q893 : (Jvm.Cond.code ({ cls := "java/lang/String", name := "hashCode", desc := "()I" } : Jvm.MethodName) prog_42_method_78_code (2 : Nat) (Option.some Jvm.ClassFile.FieldType.int)) ∈ lw_all := lw_g (lw_at lw_m4 46 rfl) rfl
theorem q894 : (Jvm.Cond.methodLink "java/lang/String" (492 : Nat) ({ cls := "java/lang/String", name := "isLatin1", desc := "()Z" } : Jvm.MethodName)) ∈ lw_all := lw_g (lw_at lw_m4 47 rfl) rfl
theorem q895 : (Jvm.Cond.instanceMethod ({ cls := "java/lang/String", name := "isLatin1", desc := "()Z" } : Jvm.MethodName)) ∈ lw_all := lw_g (lw_at lw_m4 48 rfl) rfl
theorem q896 : (Jvm.Cond.selects "java/lang/String" ({ cls := "java/lang/String", name := "isLatin1", desc := "()Z" } : Jvm.MethodName) ({ cls := "java/lang/String", name := "isLatin1", desc := "()Z" } : Jvm.MethodName)) ∈ lw_all := lw_g (lw_at lw_m4 49 rfl) rfl
theorem q897 : (Jvm.Cond.code ({ cls := "java/lang/String", name := "isLatin1", desc := "()Z" } : Jvm.MethodName) prog_42_method_154_code (1 : Nat) (Option.some Jvm.ClassFile.FieldType.boolean)) ∈ lw_all := lw_g (lw_at lw_m4 50 rfl) rfl
theorem q898 : (Jvm.Cond.methodLink "java/lang/String" (628 : Nat) ({ cls := "java/lang/StringLatin1", name := "hashCode", desc := "([B)I" } : Jvm.MethodName)) ∈ lw_all := lw_g (lw_at lw_m4 51 rfl) rfl
theorem q1024 : (Jvm.Cond.castable "java/lang/String" "java/lang/CharSequence") ∈ lw_tbl := lw_at lw_m4 177 rfl
theorem q1025 : (Jvm.Cond.selects "java/lang/String" ({ cls := "java/lang/CharSequence", name := "length", desc := "()I" } : Jvm.MethodName) ({ cls := "java/lang/String", name := "length", desc := "()I" } : Jvm.MethodName)) ∈ lw_all := lw_g (lw_at lw_m4 178 rfl) rfl
theorem q1026 : (Jvm.Cond.unhidden "java/lang/String" "length" "()I") ∈ lw_tbl := lw_at lw_m4 179 rfl
theorem q1027 : (Jvm.Cond.publicMethod ({ cls := "java/lang/String", name := "length", desc := "()I" } : Jvm.MethodName)) ∈ lw_tbl := lw_at lw_m4 180 rfl
theorem q1036 : (Jvm.Cond.selects "java/lang/String" ({ cls := "java/lang/CharSequence", name := "charAt", desc := "(I)C" } : Jvm.MethodName) ({ cls := "java/lang/String", name := "charAt", desc := "(I)C" } : Jvm.MethodName)) ∈ lw_all := lw_g (lw_at lw_m4 189 rfl) rfl
theorem q1037 : (Jvm.Cond.unhidden "java/lang/String" "charAt" "(I)C") ∈ lw_tbl := lw_at lw_m4 190 rfl
theorem q1038 : (Jvm.Cond.instanceMethod ({ cls := "java/lang/String", name := "charAt", desc := "(I)C" } : Jvm.MethodName)) ∈ lw_all := lw_g (lw_at lw_m4 191 rfl) rfl
theorem q1039 : (Jvm.Cond.publicMethod ({ cls := "java/lang/String", name := "charAt", desc := "(I)C" } : Jvm.MethodName)) ∈ lw_tbl := lw_at lw_m4 192 rfl
theorem q1040 : (Jvm.Cond.code ({ cls := "java/lang/String", name := "charAt", desc := "(I)C" } : Jvm.MethodName) prog_42_method_56_code (2 : Nat) (Option.some Jvm.ClassFile.FieldType.char)) ∈ lw_all := lw_g (lw_at lw_m4 193 rfl) rfl
theorem q1041 : (Jvm.Cond.methodLink "java/lang/String" (495 : Nat) ({ cls := "java/lang/StringLatin1", name := "charAt", desc := "([BI)C" } : Jvm.MethodName)) ∈ lw_all := lw_g (lw_at lw_m4 194 rfl) rfl
theorem q4635 : (Jvm.Cond.selects "java/lang/String" ({ cls := "java/lang/String", name := "charAt", desc := "(I)C" } : Jvm.MethodName) ({ cls := "java/lang/String", name := "charAt", desc := "(I)C" } : Jvm.MethodName)) ∈ lw_all := lw_g (lw_at lw_m19 188 rfl) rfl
theorem q4681 : (Jvm.Cond.castable "java/lang/String" "java/lang/Object") ∈ lw_tbl := lw_at lw_m19 234 rfl
theorem in_J4 : ∀ w ∈ wsJ40, w ∈ lw_all := lw_in wsJ40 [400, 402, 857, 859] (by decide +kernel) (by decide +kernel)
/-! J40.java_util_HashSet.lean.txt -/
def RJ40 : String := "java/util/HashSet"
abbrev cJ40_iterator : ByteArray := prog_70_method_6_code
def yJ40_iterator : MethodName := ⟨RJ40, "iterator", "()Ljava/util/Iterator;"⟩
def dkwJ40_iterator_0 : List UInt8 := [42, 180, 0, 10, 182, 0, 45, 185, 0, 49, 1, 0, 176]
abbrev dktJ40_iterator_0 : List UInt8 := dkwJ40_iterator_0 ++ []
theorem dksJ40_iterator_0 : cJ40_iterator.data.toList.drop 0 = dktJ40_iterator_0 := by decide +kernel
theorem dJ40_iterator_0 : decode cJ40_iterator 0 = .ok (.aload_n 0, 1) := dk_42 (dk_at dksJ40_iterator_0 0 rfl rfl)
theorem dJ40_iterator_1 : decode cJ40_iterator 1 = .ok (.getfield 10, 3) := dk_180 0 10 (dk_at dksJ40_iterator_0 1 rfl rfl)
theorem dJ40_iterator_4 : decode cJ40_iterator 4 = .ok (.invokevirtual 45, 3) := dk_182 0 45 (dk_at dksJ40_iterator_0 4 rfl rfl)
theorem dJ40_iterator_7 : decode cJ40_iterator 7 = .ok (.invokeinterface 49 1, 5) := by decide +kernel
theorem dJ40_iterator_12 : decode cJ40_iterator 12 = .ok (.areturn, 1) := dk_176 (dk_at dksJ40_iterator_0 12 rfl rfl)
abbrev cJ40_init : ByteArray := prog_70_method_5_code
def yJ40_init : MethodName := ⟨RJ40, "<init>", "(IFZ)V"⟩
def dkwJ40_init_0 : List UInt8 := [42, 183, 0, 1, 42, 187, 0, 42, 89, 27, 36, 183, 0, 44, 181, 0, 10, 177]
abbrev dktJ40_init_0 : List UInt8 := dkwJ40_init_0 ++ []
theorem dksJ40_init_0 : cJ40_init.data.toList.drop 0 = dktJ40_init_0 := by decide +kernel
theorem dJ40_init_0 : decode cJ40_init 0 = .ok (.aload_n 0, 1) := dk_42 (dk_at dksJ40_init_0 0 rfl rfl)
theorem dJ40_init_1 : decode cJ40_init 1 = .ok (.invokespecial 1, 3) := dk_183 0 1 (dk_at dksJ40_init_0 1 rfl rfl)
theorem dJ40_init_4 : decode cJ40_init 4 = .ok (.aload_n 0, 1) := dk_42 (dk_at dksJ40_init_0 4 rfl rfl)
theorem dJ40_init_5 : decode cJ40_init 5 = .ok (.new 42, 3) := dk_187 0 42 (dk_at dksJ40_init_0 5 rfl rfl)
theorem dJ40_init_8 : decode cJ40_init 8 = .ok (.dup, 1) := dk_89 (dk_at dksJ40_init_0 8 rfl rfl)
theorem dJ40_init_9 : decode cJ40_init 9 = .ok (.iload_n 1, 1) := dk_27 (dk_at dksJ40_init_0 9 rfl rfl)
theorem dJ40_init_10 : decode cJ40_init 10 = .ok (.fload_n 2, 1) := dk_36 (dk_at dksJ40_init_0 10 rfl rfl)
theorem dJ40_init_11 : decode cJ40_init 11 = .ok (.invokespecial 44, 3) := dk_183 0 44 (dk_at dksJ40_init_0 11 rfl rfl)
theorem dJ40_init_14 : decode cJ40_init 14 = .ok (.putfield 10, 3) := dk_181 0 10 (dk_at dksJ40_init_0 14 rfl rfl)
theorem dJ40_init_17 : decode cJ40_init 17 = .ok (.return_, 1) := dk_177 (dk_at dksJ40_init_0 17 rfl rfl)
abbrev cJ40_add : ByteArray := prog_70_method_10_code
def yJ40_add : MethodName := ⟨RJ40, "add", "(Ljava/lang/Object;)Z"⟩
def dkwJ40_add_0 : List UInt8 := [42, 180, 0, 10, 43, 178, 0, 64, 182, 0, 68, 199, 0, 7, 4, 167, 0, 4, 3, 172]
abbrev dktJ40_add_0 : List UInt8 := dkwJ40_add_0 ++ []
theorem dksJ40_add_0 : cJ40_add.data.toList.drop 0 = dktJ40_add_0 := by decide +kernel
theorem dJ40_add_0 : decode cJ40_add 0 = .ok (.aload_n 0, 1) := dk_42 (dk_at dksJ40_add_0 0 rfl rfl)
theorem dJ40_add_1 : decode cJ40_add 1 = .ok (.getfield 10, 3) := dk_180 0 10 (dk_at dksJ40_add_0 1 rfl rfl)
theorem dJ40_add_4 : decode cJ40_add 4 = .ok (.aload_n 1, 1) := dk_43 (dk_at dksJ40_add_0 4 rfl rfl)
theorem dJ40_add_5 : decode cJ40_add 5 = .ok (.getstatic 64, 3) := dk_178 0 64 (dk_at dksJ40_add_0 5 rfl rfl)
theorem dJ40_add_8 : decode cJ40_add 8 = .ok (.invokevirtual 68, 3) := dk_182 0 68 (dk_at dksJ40_add_0 8 rfl rfl)
theorem dJ40_add_11 : decode cJ40_add 11 = .ok (.ifnonnull 7, 3) := dk_199 0 7 (dk_at dksJ40_add_0 11 rfl rfl)
theorem dJ40_add_14 : decode cJ40_add 14 = .ok (.iconst 1, 1) := dk_4 (dk_at dksJ40_add_0 14 rfl rfl)
theorem dJ40_add_15 : decode cJ40_add 15 = .ok (.goto 4, 3) := dk_167 0 4 (dk_at dksJ40_add_0 15 rfl rfl)
theorem dJ40_add_18 : decode cJ40_add 18 = .ok (.iconst 0, 1) := dk_3 (dk_at dksJ40_add_0 18 rfl rfl)
theorem dJ40_add_19 : decode cJ40_add 19 = .ok (.ireturn, 1) := dk_172 (dk_at dksJ40_add_0 19 rfl rfl)
abbrev cJ40_size : ByteArray := prog_70_method_7_code
def yJ40_size : MethodName := ⟨RJ40, "size", "()I"⟩
def dkwJ40_size_0 : List UInt8 := [42, 180, 0, 10, 182, 0, 55, 172]
abbrev dktJ40_size_0 : List UInt8 := dkwJ40_size_0 ++ []
theorem dksJ40_size_0 : cJ40_size.data.toList.drop 0 = dktJ40_size_0 := by decide +kernel
theorem dJ40_size_0 : decode cJ40_size 0 = .ok (.aload_n 0, 1) := dk_42 (dk_at dksJ40_size_0 0 rfl rfl)
theorem dJ40_size_1 : decode cJ40_size 1 = .ok (.getfield 10, 3) := dk_180 0 10 (dk_at dksJ40_size_0 1 rfl rfl)
theorem dJ40_size_4 : decode cJ40_size 4 = .ok (.invokevirtual 55, 3) := dk_182 0 55 (dk_at dksJ40_size_0 4 rfl rfl)
theorem dJ40_size_7 : decode cJ40_size 7 = .ok (.ireturn, 1) := dk_172 (dk_at dksJ40_size_0 7 rfl rfl)
abbrev cJ40_contains : ByteArray := prog_70_method_9_code
def yJ40_contains : MethodName := ⟨RJ40, "contains", "(Ljava/lang/Object;)Z"⟩
def dkwJ40_contains_0 : List UInt8 := [42, 180, 0, 10, 43, 182, 0, 60, 172]
abbrev dktJ40_contains_0 : List UInt8 := dkwJ40_contains_0 ++ []
theorem dksJ40_contains_0 : cJ40_contains.data.toList.drop 0 = dktJ40_contains_0 := by decide +kernel
theorem dJ40_contains_0 : decode cJ40_contains 0 = .ok (.aload_n 0, 1) := dk_42 (dk_at dksJ40_contains_0 0 rfl rfl)
theorem dJ40_contains_1 : decode cJ40_contains 1 = .ok (.getfield 10, 3) := dk_180 0 10 (dk_at dksJ40_contains_0 1 rfl rfl)
theorem dJ40_contains_4 : decode cJ40_contains 4 = .ok (.aload_n 1, 1) := dk_43 (dk_at dksJ40_contains_0 4 rfl rfl)
theorem dJ40_contains_5 : decode cJ40_contains 5 = .ok (.invokevirtual 60, 3) := dk_182 0 60 (dk_at dksJ40_contains_0 5 rfl rfl)
theorem dJ40_contains_8 : decode cJ40_contains 8 = .ok (.ireturn, 1) := dk_172 (dk_at dksJ40_contains_0 8 rfl rfl)
theorem q185 : (Jvm.Cond.initialized "java/util/HashSet") ∈ lw_all := lw_g (lw_at lw_m1 58 rfl) rfl
theorem q1903 : (Jvm.Cond.instanceMethod ({ cls := "java/util/HashSet", name := "iterator", desc := "()Ljava/util/Iterator;" } : Jvm.MethodName)) ∈ lw_all := lw_g (lw_at lw_m8 96 rfl) rfl
theorem q1904 : (Jvm.Cond.publicMethod ({ cls := "java/util/HashSet", name := "iterator", desc := "()Ljava/util/Iterator;" } : Jvm.MethodName)) ∈ lw_tbl := lw_at lw_m8 97 rfl
theorem q1905 : (Jvm.Cond.code ({ cls := "java/util/HashSet", name := "iterator", desc := "()Ljava/util/Iterator;" } : Jvm.MethodName) prog_70_method_6_code (1 : Nat) (Option.some (Jvm.ClassFile.FieldType.object "java/util/Iterator"))) ∈ lw_all := lw_g (lw_at lw_m8 98 rfl) rfl
theorem q1906 : (Jvm.Cond.methodLink "java/util/HashSet" (45 : Nat) ({ cls := "java/util/HashMap", name := "keySet", desc := "()Ljava/util/Set;" } : Jvm.MethodName)) ∈ lw_all := lw_g (lw_at lw_m8 99 rfl) rfl
theorem q1935 : (Jvm.Cond.methodLink "java/util/HashSet" (49 : Nat) ({ cls := "java/util/Set", name := "iterator", desc := "()Ljava/util/Iterator;" } : Jvm.MethodName)) ∈ lw_all := lw_g (lw_at lw_m8 128 rfl) rfl
theorem q2367 : (Jvm.Cond.instanceMethod ({ cls := "java/util/HashSet", name := "<init>", desc := "(IFZ)V" } : Jvm.MethodName)) ∈ lw_all := lw_g (lw_at lw_m10 80 rfl) rfl
theorem q2368 : (Jvm.Cond.code ({ cls := "java/util/HashSet", name := "<init>", desc := "(IFZ)V" } : Jvm.MethodName) prog_70_method_5_code (4 : Nat) (Option.none : Option Jvm.ClassFile.FieldType)) ∈ lw_all := lw_g (lw_at lw_m10 81 rfl) rfl
theorem q2369 : (Jvm.Cond.methodLink "java/util/HashSet" (1 : Nat) ({ cls := "java/util/AbstractSet", name := "<init>", desc := "()V" } : Jvm.MethodName)) ∈ lw_all := lw_g (lw_at lw_m10 82 rfl) rfl
theorem q2370 : (Jvm.Cond.classLink "java/util/HashSet" (42 : Nat) "java/util/LinkedHashMap") ∈ lw_all := lw_g (lw_at lw_m10 83 rfl) rfl
theorem q2371 : (Jvm.Cond.methodLink "java/util/HashSet" (44 : Nat) ({ cls := "java/util/LinkedHashMap", name := "<init>", desc := "(IF)V" } : Jvm.MethodName)) ∈ lw_all := lw_g (lw_at lw_m10 84 rfl) rfl
theorem q2771 : (Jvm.Cond.fieldLink "java/util/HashSet" (10 : Nat) "java/util/HashSet" "map" "Ljava/util/HashMap;") ∈ lw_all := lw_g (lw_at lw_m12 4 rfl) rfl
theorem q2819 : (Jvm.Cond.instanceMethod ({ cls := "java/util/HashSet", name := "add", desc := "(Ljava/lang/Object;)Z" } : Jvm.MethodName)) ∈ lw_all := lw_g (lw_at lw_m12 52 rfl) rfl
theorem q2820 : (Jvm.Cond.publicMethod ({ cls := "java/util/HashSet", name := "add", desc := "(Ljava/lang/Object;)Z" } : Jvm.MethodName)) ∈ lw_tbl := lw_at lw_m12 53 rfl
theorem q2821 : (Jvm.Cond.code ({ cls := "java/util/HashSet", name := "add", desc := "(Ljava/lang/Object;)Z" } : Jvm.MethodName) prog_70_method_10_code (2 : Nat) (Option.some Jvm.ClassFile.FieldType.boolean)) ∈ lw_all := lw_g (lw_at lw_m12 54 rfl) rfl
theorem q2822 : (Jvm.Cond.fieldLink "java/util/HashSet" (64 : Nat) "java/util/HashSet" "PRESENT" "Ljava/lang/Object;") ∈ lw_all := lw_g (lw_at lw_m12 55 rfl) rfl
theorem q2824 : (Jvm.Cond.methodLink "java/util/HashSet" (68 : Nat) ({ cls := "java/util/HashMap", name := "put", desc := "(Ljava/lang/Object;Ljava/lang/Object;)Ljava/lang/Object;" } : Jvm.MethodName)) ∈ lw_all := lw_g (lw_at lw_m12 57 rfl) rfl
theorem q3033 : (Jvm.Cond.instanceMethod ({ cls := "java/util/HashSet", name := "size", desc := "()I" } : Jvm.MethodName)) ∈ lw_all := lw_g (lw_at lw_m13 26 rfl) rfl
theorem q3034 : (Jvm.Cond.publicMethod ({ cls := "java/util/HashSet", name := "size", desc := "()I" } : Jvm.MethodName)) ∈ lw_tbl := lw_at lw_m13 27 rfl
theorem q3035 : (Jvm.Cond.code ({ cls := "java/util/HashSet", name := "size", desc := "()I" } : Jvm.MethodName) prog_70_method_7_code (1 : Nat) (Option.some Jvm.ClassFile.FieldType.int)) ∈ lw_all := lw_g (lw_at lw_m13 28 rfl) rfl
theorem q3036 : (Jvm.Cond.methodLink "java/util/HashSet" (55 : Nat) ({ cls := "java/util/HashMap", name := "size", desc := "()I" } : Jvm.MethodName)) ∈ lw_all := lw_g (lw_at lw_m13 29 rfl) rfl
theorem q3376 : (Jvm.Cond.instanceMethod ({ cls := "java/util/HashSet", name := "contains", desc := "(Ljava/lang/Object;)Z" } : Jvm.MethodName)) ∈ lw_all := lw_g (lw_at lw_m14 129 rfl) rfl
theorem q3377 : (Jvm.Cond.publicMethod ({ cls := "java/util/HashSet", name := "contains", desc := "(Ljava/lang/Object;)Z" } : Jvm.MethodName)) ∈ lw_tbl := lw_at lw_m14 130 rfl
theorem q3378 : (Jvm.Cond.code ({ cls := "java/util/HashSet", name := "contains", desc := "(Ljava/lang/Object;)Z" } : Jvm.MethodName) prog_70_method_9_code (2 : Nat) (Option.some Jvm.ClassFile.FieldType.boolean)) ∈ lw_all := lw_g (lw_at lw_m14 131 rfl) rfl
theorem q3379 : (Jvm.Cond.methodLink "java/util/HashSet" (60 : Nat) ({ cls := "java/util/HashMap", name := "containsKey", desc := "(Ljava/lang/Object;)Z" } : Jvm.MethodName)) ∈ lw_all := lw_g (lw_at lw_m14 132 rfl) rfl
/-! J41.java_util_LinkedHashSet.lean.txt -/
def RJ41 : String := "java/util/LinkedHashSet"
def TJ41 : u_T := fun k => match k with
  | _ => ("java/util/HashSet", "map", "Ljava/util/HashMap;", false)
def tyJ41 : Nat → FieldType := fun k => match k with
  | _ => .object "java/util/HashMap"
abbrev wsJ410 : List Cond := u_ws RJ41 TJ41 1
theorem nmJ41 : ∀ a, a < 1 → ∀ b, b < 1 → a ≠ b → (TJ41 a).2.1 ≠ (TJ41 b).2.1 := by decide +kernel
theorem tyJ41_ok : ∀ k, k < 1 → parseFieldDescriptor (TJ41 k).2.2.1 = some (tyJ41 k) := by decide +kernel
abbrev cJ41_init : ByteArray := prog_81_method_3_code
def yJ41_init : MethodName := ⟨RJ41, "<init>", "()V"⟩
def dkwJ41_init_0 : List UInt8 := [42, 16, 16, 18, 7, 4, 183, 0, 1, 177]
abbrev dktJ41_init_0 : List UInt8 := dkwJ41_init_0 ++ []
theorem dksJ41_init_0 : cJ41_init.data.toList.drop 0 = dktJ41_init_0 := by decide +kernel
theorem dJ41_init_0 : decode cJ41_init 0 = .ok (.aload_n 0, 1) := dk_42 (dk_at dksJ41_init_0 0 rfl rfl)
theorem dJ41_init_1 : decode cJ41_init 1 = .ok (.bipush 16, 2) := dk_16 16 (dk_at dksJ41_init_0 1 rfl rfl)
theorem dJ41_init_3 : decode cJ41_init 3 = .ok (.ldc 7, 2) := dk_18 7 (dk_at dksJ41_init_0 3 rfl rfl)
theorem dJ41_init_5 : decode cJ41_init 5 = .ok (.iconst 1, 1) := dk_4 (dk_at dksJ41_init_0 5 rfl rfl)
theorem dJ41_init_6 : decode cJ41_init 6 = .ok (.invokespecial 1, 3) := dk_183 0 1 (dk_at dksJ41_init_0 6 rfl rfl)
theorem dJ41_init_9 : decode cJ41_init 9 = .ok (.return_, 1) := dk_177 (dk_at dksJ41_init_0 9 rfl rfl)
theorem q186 : (Jvm.Cond.initialized "java/util/LinkedHashSet") ∈ lw_all := lw_g (lw_at lw_m1 59 rfl) rfl
theorem q1902 : (Jvm.Cond.unhidden "java/util/LinkedHashSet" "iterator" "()Ljava/util/Iterator;") ∈ lw_tbl := lw_at lw_m8 95 rfl
theorem q1944 : (Jvm.Cond.castable "java/util/LinkedHashSet" "java/util/Set") ∈ lw_tbl := lw_at lw_m8 137 rfl
theorem q1945 : (Jvm.Cond.selects "java/util/LinkedHashSet" ({ cls := "java/util/Set", name := "iterator", desc := "()Ljava/util/Iterator;" } : Jvm.MethodName) ({ cls := "java/util/HashSet", name := "iterator", desc := "()Ljava/util/Iterator;" } : Jvm.MethodName)) ∈ lw_all := lw_g (lw_at lw_m8 138 rfl) rfl
theorem q2361 : (Jvm.Cond.instantiable "java/util/LinkedHashSet" (1 : Nat)) ∈ lw_all := lw_g (lw_at lw_m10 74 rfl) rfl
theorem q2363 : (Jvm.Cond.instanceMethod ({ cls := "java/util/LinkedHashSet", name := "<init>", desc := "()V" } : Jvm.MethodName)) ∈ lw_all := lw_g (lw_at lw_m10 76 rfl) rfl
theorem q2364 : (Jvm.Cond.code ({ cls := "java/util/LinkedHashSet", name := "<init>", desc := "()V" } : Jvm.MethodName) prog_81_method_3_code (1 : Nat) (Option.none : Option Jvm.ClassFile.FieldType)) ∈ lw_all := lw_g (lw_at lw_m10 77 rfl) rfl
theorem q2365 : (Jvm.Cond.constantFloat "java/util/LinkedHashSet" (7 : Nat) (1061158912 : UInt32)) ∈ lw_all := lw_g (lw_at lw_m10 78 rfl) rfl
theorem q2366 : (Jvm.Cond.methodLink "java/util/LinkedHashSet" (1 : Nat) ({ cls := "java/util/HashSet", name := "<init>", desc := "(IFZ)V" } : Jvm.MethodName)) ∈ lw_all := lw_g (lw_at lw_m10 79 rfl) rfl
theorem q2817 : (Jvm.Cond.selects "java/util/LinkedHashSet" ({ cls := "java/util/Set", name := "add", desc := "(Ljava/lang/Object;)Z" } : Jvm.MethodName) ({ cls := "java/util/HashSet", name := "add", desc := "(Ljava/lang/Object;)Z" } : Jvm.MethodName)) ∈ lw_all := lw_g (lw_at lw_m12 50 rfl) rfl
theorem q2818 : (Jvm.Cond.unhidden "java/util/LinkedHashSet" "add" "(Ljava/lang/Object;)Z") ∈ lw_tbl := lw_at lw_m12 51 rfl
theorem q3031 : (Jvm.Cond.selects "java/util/LinkedHashSet" ({ cls := "java/util/Set", name := "size", desc := "()I" } : Jvm.MethodName) ({ cls := "java/util/HashSet", name := "size", desc := "()I" } : Jvm.MethodName)) ∈ lw_all := lw_g (lw_at lw_m13 24 rfl) rfl
theorem q3032 : (Jvm.Cond.unhidden "java/util/LinkedHashSet" "size" "()I") ∈ lw_tbl := lw_at lw_m13 25 rfl
theorem q3374 : (Jvm.Cond.selects "java/util/LinkedHashSet" ({ cls := "java/util/Set", name := "contains", desc := "(Ljava/lang/Object;)Z" } : Jvm.MethodName) ({ cls := "java/util/HashSet", name := "contains", desc := "(Ljava/lang/Object;)Z" } : Jvm.MethodName)) ∈ lw_all := lw_g (lw_at lw_m14 127 rfl) rfl
theorem q3375 : (Jvm.Cond.unhidden "java/util/LinkedHashSet" "contains" "(Ljava/lang/Object;)Z") ∈ lw_tbl := lw_at lw_m14 128 rfl
theorem q4696 : (Jvm.Cond.castable "java/util/LinkedHashSet" "java/lang/Object") ∈ lw_tbl := lw_at lw_m20 9 rfl
theorem in_J41 : ∀ w ∈ wsJ410, w ∈ lw_all := lw_in wsJ410 [2772] (by decide +kernel) (by decide +kernel)
/-! J42.java_lang_Float.lean.txt -/
def RJ42 : String := "java/lang/Float"
abbrev cJ42_isNaN : ByteArray := prog_31_method_6_code
def yJ42_isNaN : MethodName := ⟨RJ42, "isNaN", "(F)Z"⟩
def dkwJ42_isNaN_0 : List UInt8 := [34, 34, 149, 153, 0, 7, 4, 167, 0, 4, 3, 172]
abbrev dktJ42_isNaN_0 : List UInt8 := dkwJ42_isNaN_0 ++ []
theorem dksJ42_isNaN_0 : cJ42_isNaN.data.toList.drop 0 = dktJ42_isNaN_0 := by decide +kernel
theorem dJ42_isNaN_0 : decode cJ42_isNaN 0 = .ok (.fload_n 0, 1) := dk_34 (dk_at dksJ42_isNaN_0 0 rfl rfl)
theorem dJ42_isNaN_1 : decode cJ42_isNaN 1 = .ok (.fload_n 0, 1) := dk_34 (dk_at dksJ42_isNaN_0 1 rfl rfl)
theorem dJ42_isNaN_2 : decode cJ42_isNaN 2 = .ok (.fcmp .l, 1) := dk_149 (dk_at dksJ42_isNaN_0 2 rfl rfl)
theorem dJ42_isNaN_3 : decode cJ42_isNaN 3 = .ok (.ifCond .eq 7, 3) := dk_153 0 7 (dk_at dksJ42_isNaN_0 3 rfl rfl)
theorem dJ42_isNaN_6 : decode cJ42_isNaN 6 = .ok (.iconst 1, 1) := dk_4 (dk_at dksJ42_isNaN_0 6 rfl rfl)
theorem dJ42_isNaN_7 : decode cJ42_isNaN 7 = .ok (.goto 4, 3) := dk_167 0 4 (dk_at dksJ42_isNaN_0 7 rfl rfl)
theorem dJ42_isNaN_10 : decode cJ42_isNaN 10 = .ok (.iconst 0, 1) := dk_3 (dk_at dksJ42_isNaN_0 10 rfl rfl)
theorem dJ42_isNaN_11 : decode cJ42_isNaN 11 = .ok (.ireturn, 1) := dk_172 (dk_at dksJ42_isNaN_0 11 rfl rfl)
theorem q187 : (Jvm.Cond.initialized "java/lang/Float") ∈ lw_all := lw_g (lw_at lw_m1 60 rfl) rfl
theorem q2387 : (Jvm.Cond.static ({ cls := "java/lang/Float", name := "isNaN", desc := "(F)Z" } : Jvm.MethodName)) ∈ lw_all := lw_g (lw_at lw_m10 100 rfl) rfl
theorem q2388 : (Jvm.Cond.code ({ cls := "java/lang/Float", name := "isNaN", desc := "(F)Z" } : Jvm.MethodName) prog_31_method_6_code (1 : Nat) (Option.some Jvm.ClassFile.FieldType.boolean)) ∈ lw_all := lw_g (lw_at lw_m10 101 rfl) rfl
/-! J43.jdk_internal_math_FloatToDecimal.lean.txt -/
def RJ43 : String := "jdk/internal/math/FloatToDecimal"
def TJ43 : u_T := fun k => match k with
  | 0 => ("jdk/internal/math/FloatToDecimal", "bytes", "[B", true)
  | _ => ("jdk/internal/math/FloatToDecimal", "index", "I", false)
def tyJ43 : Nat → FieldType := fun k => match k with
  | 0 => .array .byte
  | _ => .int
abbrev wsJ430 : List Cond := u_ws RJ43 TJ43 2
theorem nmJ43 : ∀ a, a < 2 → ∀ b, b < 2 → a ≠ b → (TJ43 a).2.1 ≠ (TJ43 b).2.1 := by decide +kernel
theorem tyJ43_ok : ∀ k, k < 2 → parseFieldDescriptor (TJ43 k).2.2.1 = some (tyJ43 k) := by decide +kernel
theorem in_J43 : ∀ w ∈ wsJ430, w ∈ lw_all := lw_in wsJ430 [2408, 2410] (by decide +kernel) (by decide +kernel)
/-! J44.jdk_internal_math_MathUtils.lean.txt -/
def RJ44 : String := "jdk/internal/math/MathUtils"
/-! J45.java_lang_Error.lean.txt -/
def RJ45 : String := "java/lang/Error"
/-! J46.java_lang_AssertionError.lean.txt -/
def RJ46 : String := "java/lang/AssertionError"
def TJ46 : u_T := fun k => match k with
  | 0 => ("java/lang/Throwable", "cause", "Ljava/lang/Throwable;", false)
  | 1 => ("java/lang/Throwable", "stackTrace", "[Ljava/lang/StackTraceElement;", false)
  | 2 => ("java/lang/Throwable", "suppressedExceptions", "Ljava/util/List;", false)
  | 3 => ("java/lang/Throwable", "detailMessage", "Ljava/lang/String;", false)
  | 4 => ("java/lang/Throwable", "backtrace", "Ljava/lang/Object;", false)
  | _ => ("java/lang/Throwable", "depth", "I", false)
def tyJ46 : Nat → FieldType := fun k => match k with
  | 0 => .object "java/lang/Throwable"
  | 1 => .array (.object "java/lang/StackTraceElement")
  | 2 => .object "java/util/List"
  | 3 => .object "java/lang/String"
  | 4 => .object "java/lang/Object"
  | _ => .int
abbrev wsJ460 : List Cond := u_ws RJ46 TJ46 6
theorem nmJ46 : ∀ a, a < 6 → ∀ b, b < 6 → a ≠ b → (TJ46 a).2.1 ≠ (TJ46 b).2.1 := by decide +kernel
theorem tyJ46_ok : ∀ k, k < 6 → parseFieldDescriptor (TJ46 k).2.2.1 = some (tyJ46 k) := by decide +kernel
theorem in_J46 : ∀ w ∈ wsJ460, w ∈ lw_all := lw_in wsJ460 [2636, 2637, 2638, 2639, 2640, 2732] (by decide +kernel) (by decide +kernel)
/-! J47.java_util_HashMap_Node.lean.txt -/
def RJ47 : String := "java/util/HashMap$Node"
abbrev cJ47_getKey : ByteArray := prog_68_method_2_code
def yJ47_getKey : MethodName := ⟨RJ47, "getKey", "()Ljava/lang/Object;"⟩
theorem dJ47_getKey_0 : decode cJ47_getKey 0 = .ok (.aload_n 0, 1) := by decide +kernel
theorem dJ47_getKey_1 : decode cJ47_getKey 1 = .ok (.getfield 13, 3) := by decide +kernel
theorem dJ47_getKey_4 : decode cJ47_getKey 4 = .ok (.areturn, 1) := by decide +kernel
abbrev cJ47_init : ByteArray := prog_68_method_1_code
def yJ47_init : MethodName := ⟨RJ47, "<init>", "(ILjava/lang/Object;Ljava/lang/Object;Ljava/util/HashMap$Node;)V"⟩
def dkwJ47_init_1 : List UInt8 := [181, 0, 20, 177]
abbrev dktJ47_init_1 : List UInt8 := dkwJ47_init_1 ++ []
def dkwJ47_init_0 : List UInt8 := [42, 183, 0, 1, 42, 27, 181, 0, 7, 42, 44, 181, 0, 13, 42, 45, 181, 0, 17, 42, 25, 4]
abbrev dktJ47_init_0 : List UInt8 := dkwJ47_init_0 ++ dktJ47_init_1
theorem dksJ47_init_0 : cJ47_init.data.toList.drop 0 = dktJ47_init_0 := by decide +kernel
theorem dksJ47_init_1 : cJ47_init.data.toList.drop 22 = dktJ47_init_1 := dk_seg dksJ47_init_0 22 rfl rfl
theorem dJ47_init_0 : decode cJ47_init 0 = .ok (.aload_n 0, 1) := dk_42 (dk_at dksJ47_init_0 0 rfl rfl)
theorem dJ47_init_1 : decode cJ47_init 1 = .ok (.invokespecial 1, 3) := dk_183 0 1 (dk_at dksJ47_init_0 1 rfl rfl)
theorem dJ47_init_4 : decode cJ47_init 4 = .ok (.aload_n 0, 1) := dk_42 (dk_at dksJ47_init_0 4 rfl rfl)
theorem dJ47_init_5 : decode cJ47_init 5 = .ok (.iload_n 1, 1) := dk_27 (dk_at dksJ47_init_0 5 rfl rfl)
theorem dJ47_init_6 : decode cJ47_init 6 = .ok (.putfield 7, 3) := dk_181 0 7 (dk_at dksJ47_init_0 6 rfl rfl)
theorem dJ47_init_9 : decode cJ47_init 9 = .ok (.aload_n 0, 1) := dk_42 (dk_at dksJ47_init_0 9 rfl rfl)
theorem dJ47_init_10 : decode cJ47_init 10 = .ok (.aload_n 2, 1) := dk_44 (dk_at dksJ47_init_0 10 rfl rfl)
theorem dJ47_init_11 : decode cJ47_init 11 = .ok (.putfield 13, 3) := dk_181 0 13 (dk_at dksJ47_init_0 11 rfl rfl)
theorem dJ47_init_14 : decode cJ47_init 14 = .ok (.aload_n 0, 1) := dk_42 (dk_at dksJ47_init_0 14 rfl rfl)
theorem dJ47_init_15 : decode cJ47_init 15 = .ok (.aload_n 3, 1) := dk_45 (dk_at dksJ47_init_0 15 rfl rfl)
theorem dJ47_init_16 : decode cJ47_init 16 = .ok (.putfield 17, 3) := dk_181 0 17 (dk_at dksJ47_init_0 16 rfl rfl)
theorem dJ47_init_19 : decode cJ47_init 19 = .ok (.aload_n 0, 1) := dk_42 (dk_at dksJ47_init_0 19 rfl rfl)
theorem dJ47_init_20 : decode cJ47_init 20 = .ok (.aload 4, 2) := dk_25 4 (dk_at dksJ47_init_0 20 rfl rfl)
theorem dJ47_init_22 : decode cJ47_init 22 = .ok (.putfield 20, 3) := dk_181 0 20 (dk_at dksJ47_init_1 0 rfl rfl)
theorem dJ47_init_25 : decode cJ47_init 25 = .ok (.return_, 1) := dk_177 (dk_at dksJ47_init_1 3 rfl rfl)
abbrev cJ47_getValue : ByteArray := prog_68_method_3_code
def yJ47_getValue : MethodName := ⟨RJ47, "getValue", "()Ljava/lang/Object;"⟩
theorem dJ47_getValue_0 : decode cJ47_getValue 0 = .ok (.aload_n 0, 1) := by decide +kernel
theorem dJ47_getValue_1 : decode cJ47_getValue 1 = .ok (.getfield 17, 3) := by decide +kernel
theorem dJ47_getValue_4 : decode cJ47_getValue 4 = .ok (.areturn, 1) := by decide +kernel
theorem q193 : (Jvm.Cond.initialized "java/util/HashMap$Node") ∈ lw_all := lw_g (lw_at lw_m1 66 rfl) rfl
theorem q1599 : (Jvm.Cond.instanceMethod ({ cls := "java/util/HashMap$Node", name := "getKey", desc := "()Ljava/lang/Object;" } : Jvm.MethodName)) ∈ lw_all := lw_g (lw_at lw_m7 32 rfl) rfl
theorem q1600 : (Jvm.Cond.code ({ cls := "java/util/HashMap$Node", name := "getKey", desc := "()Ljava/lang/Object;" } : Jvm.MethodName) prog_68_method_2_code (1 : Nat) (Option.some (Jvm.ClassFile.FieldType.object "java/lang/Object"))) ∈ lw_all := lw_g (lw_at lw_m7 33 rfl) rfl
theorem q2863 : (Jvm.Cond.instanceMethod ({ cls := "java/util/HashMap$Node", name := "<init>", desc := "(ILjava/lang/Object;Ljava/lang/Object;Ljava/util/HashMap$Node;)V" } : Jvm.MethodName)) ∈ lw_all := lw_g (lw_at lw_m12 96 rfl) rfl
theorem q2864 : (Jvm.Cond.code ({ cls := "java/util/HashMap$Node", name := "<init>", desc := "(ILjava/lang/Object;Ljava/lang/Object;Ljava/util/HashMap$Node;)V" } : Jvm.MethodName) prog_68_method_1_code (5 : Nat) (Option.none : Option Jvm.ClassFile.FieldType)) ∈ lw_all := lw_g (lw_at lw_m12 97 rfl) rfl
theorem q2865 : (Jvm.Cond.methodLink "java/util/HashMap$Node" (1 : Nat) ({ cls := "java/lang/Object", name := "<init>", desc := "()V" } : Jvm.MethodName)) ∈ lw_all := lw_g (lw_at lw_m12 98 rfl) rfl
theorem q2870 : (Jvm.Cond.fieldLink "java/util/HashMap$Node" (7 : Nat) "java/util/HashMap$Node" "hash" "I") ∈ lw_all := lw_g (lw_at lw_m12 103 rfl) rfl
theorem q2876 : (Jvm.Cond.fieldLink "java/util/HashMap$Node" (13 : Nat) "java/util/HashMap$Node" "key" "Ljava/lang/Object;") ∈ lw_all := lw_g (lw_at lw_m12 109 rfl) rfl
theorem q2883 : (Jvm.Cond.fieldLink "java/util/HashMap$Node" (17 : Nat) "java/util/HashMap$Node" "value" "Ljava/lang/Object;") ∈ lw_all := lw_g (lw_at lw_m12 116 rfl) rfl
theorem q2889 : (Jvm.Cond.fieldLink "java/util/HashMap$Node" (20 : Nat) "java/util/HashMap$Node" "next" "Ljava/util/HashMap$Node;") ∈ lw_all := lw_g (lw_at lw_m12 122 rfl) rfl
theorem q3303 : (Jvm.Cond.instanceMethod ({ cls := "java/util/HashMap$Node", name := "getValue", desc := "()Ljava/lang/Object;" } : Jvm.MethodName)) ∈ lw_all := lw_g (lw_at lw_m14 56 rfl) rfl
theorem q3304 : (Jvm.Cond.publicMethod ({ cls := "java/util/HashMap$Node", name := "getValue", desc := "()Ljava/lang/Object;" } : Jvm.MethodName)) ∈ lw_tbl := lw_at lw_m14 57 rfl
theorem q3305 : (Jvm.Cond.code ({ cls := "java/util/HashMap$Node", name := "getValue", desc := "()Ljava/lang/Object;" } : Jvm.MethodName) prog_68_method_3_code (1 : Nat) (Option.some (Jvm.ClassFile.FieldType.object "java/lang/Object"))) ∈ lw_all := lw_g (lw_at lw_m14 58 rfl) rfl
theorem q3318 : (Jvm.Cond.publicMethod ({ cls := "java/util/HashMap$Node", name := "getKey", desc := "()Ljava/lang/Object;" } : Jvm.MethodName)) ∈ lw_tbl := lw_at lw_m14 71 rfl
