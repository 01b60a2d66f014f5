set_option maxRecDepth 100000
/-! X3.FlareSlopes_State.lean.txt -/
def RX3 : String := "FlareSlopes$State"
def TX3 : u_T := fun k => match k with
  | 0 => ("FlareSlopes$State", "mountain", "LFlareSlopes$Mountain;", true)
  | 1 => ("FlareSlopes$State", "cabins", "Ljava/util/List;", true)
  | 2 => ("FlareSlopes$State", "settings", "[I", true)
  | 3 => ("FlareSlopes$State", "bulletins", "Ljava/util/ArrayDeque;", true)
  | 4 => ("FlareSlopes$State", "time", "I", false)
  | 5 => ("FlareSlopes$State", "fired", "I", false)
  | 6 => ("FlareSlopes$State", "closings", "I", false)
  | 7 => ("FlareSlopes$State", "openings", "I", false)
  | 8 => ("FlareSlopes$State", "falses", "I", false)
  | 9 => ("FlareSlopes$State", "issued", "I", false)
  | 10 => ("FlareSlopes$State", "wrongs", "I", false)
  | 11 => ("FlareSlopes$State", "dangers", "I", false)
  | 12 => ("FlareSlopes$State", "reds", "[I", true)
  | _ => ("FlareSlopes$State", "greens", "[I", true)
def tyX3 : Nat → FieldType := fun k => match k with
  | 0 => .object "FlareSlopes$Mountain"
  | 1 => .object "java/util/List"
  | 2 => .array .int
  | 3 => .object "java/util/ArrayDeque"
  | 4 => .int
  | 5 => .int
  | 6 => .int
  | 7 => .int
  | 8 => .int
  | 9 => .int
  | 10 => .int
  | 11 => .int
  | 12 => .array .int
  | _ => .array .int
abbrev wsX30 : List Cond := u_ws RX3 TX3 14
theorem nmX3 : ∀ a, a < 14 → ∀ b, b < 14 → a ≠ b → (TX3 a).2.1 ≠ (TX3 b).2.1 := by decide +kernel
theorem tyX3_ok : ∀ k, k < 14 → parseFieldDescriptor (TX3 k).2.2.1 = some (tyX3 k) := by decide +kernel
abbrev cX3_init : ByteArray := prog_17_method_1_code
def yX3_init : MethodName := ⟨RX3, "<init>", "(LFlareSlopes$Mountain;)V"⟩
def dkwX3_init_4 : List UInt8 := [28, 182, 0, 59, 192, 0, 63, 183, 0, 65, 185, 0, 68, 2, 0, 87, 132, 2, 1, 167, 255, 214, 177]
abbrev dktX3_init_4 : List UInt8 := dkwX3_init_4 ++ []
def dkwX3_init_3 : List UInt8 := [61, 28, 43, 180, 0, 48, 182, 0, 51, 162, 0, 37, 42, 180, 0, 12, 187, 0, 57, 89, 43, 180, 0, 48]
abbrev dktX3_init_3 : List UInt8 := dkwX3_init_3 ++ dktX3_init_4
def dkwX3_init_2 : List UInt8 := [181, 0, 32, 42, 43, 181, 0, 35, 43, 180, 0, 39, 3, 42, 180, 0, 18, 3, 16, 6, 184, 0, 42, 3]
abbrev dktX3_init_2 : List UInt8 := dkwX3_init_2 ++ dktX3_init_3
def dkwX3_init_1 : List UInt8 := [187, 0, 22, 89, 183, 0, 24, 181, 0, 25, 42, 16, 8, 188, 10, 181, 0, 29, 42, 16, 8, 188, 10]
abbrev dktX3_init_1 : List UInt8 := dkwX3_init_1 ++ dktX3_init_2
def dkwX3_init_0 : List UInt8 := [42, 183, 0, 3, 42, 187, 0, 9, 89, 183, 0, 11, 181, 0, 12, 42, 16, 6, 188, 10, 181, 0, 18, 42]
abbrev dktX3_init_0 : List UInt8 := dkwX3_init_0 ++ dktX3_init_1
theorem dksX3_init_0 : cX3_init.data.toList.drop 0 = dktX3_init_0 := by decide +kernel
theorem dksX3_init_1 : cX3_init.data.toList.drop 24 = dktX3_init_1 := dk_seg dksX3_init_0 24 rfl rfl
theorem dksX3_init_2 : cX3_init.data.toList.drop 47 = dktX3_init_2 := dk_seg dksX3_init_1 23 rfl rfl
theorem dksX3_init_3 : cX3_init.data.toList.drop 71 = dktX3_init_3 := dk_seg dksX3_init_2 24 rfl rfl
theorem dksX3_init_4 : cX3_init.data.toList.drop 95 = dktX3_init_4 := dk_seg dksX3_init_3 24 rfl rfl
theorem dX3_init_0 : decode cX3_init 0 = .ok (.aload_n 0, 1) := dk_42 (dk_at dksX3_init_0 0 rfl rfl)
theorem dX3_init_1 : decode cX3_init 1 = .ok (.invokespecial 3, 3) := dk_183 0 3 (dk_at dksX3_init_0 1 rfl rfl)
theorem dX3_init_4 : decode cX3_init 4 = .ok (.aload_n 0, 1) := dk_42 (dk_at dksX3_init_0 4 rfl rfl)
theorem dX3_init_5 : decode cX3_init 5 = .ok (.new 9, 3) := dk_187 0 9 (dk_at dksX3_init_0 5 rfl rfl)
theorem dX3_init_8 : decode cX3_init 8 = .ok (.dup, 1) := dk_89 (dk_at dksX3_init_0 8 rfl rfl)
theorem dX3_init_9 : decode cX3_init 9 = .ok (.invokespecial 11, 3) := dk_183 0 11 (dk_at dksX3_init_0 9 rfl rfl)
theorem dX3_init_12 : decode cX3_init 12 = .ok (.putfield 12, 3) := dk_181 0 12 (dk_at dksX3_init_0 12 rfl rfl)
theorem dX3_init_15 : decode cX3_init 15 = .ok (.aload_n 0, 1) := dk_42 (dk_at dksX3_init_0 15 rfl rfl)
theorem dX3_init_16 : decode cX3_init 16 = .ok (.bipush 6, 2) := dk_16 6 (dk_at dksX3_init_0 16 rfl rfl)
theorem dX3_init_18 : decode cX3_init 18 = .ok (.newarray .int, 2) := dk_188_10 (dk_at dksX3_init_0 18 rfl rfl)
theorem dX3_init_20 : decode cX3_init 20 = .ok (.putfield 18, 3) := dk_181 0 18 (dk_at dksX3_init_0 20 rfl rfl)
theorem dX3_init_23 : decode cX3_init 23 = .ok (.aload_n 0, 1) := dk_42 (dk_at dksX3_init_0 23 rfl rfl)
theorem dX3_init_24 : decode cX3_init 24 = .ok (.new 22, 3) := dk_187 0 22 (dk_at dksX3_init_1 0 rfl rfl)
theorem dX3_init_27 : decode cX3_init 27 = .ok (.dup, 1) := dk_89 (dk_at dksX3_init_1 3 rfl rfl)
theorem dX3_init_28 : decode cX3_init 28 = .ok (.invokespecial 24, 3) := dk_183 0 24 (dk_at dksX3_init_1 4 rfl rfl)
theorem dX3_init_31 : decode cX3_init 31 = .ok (.putfield 25, 3) := dk_181 0 25 (dk_at dksX3_init_1 7 rfl rfl)
theorem dX3_init_34 : decode cX3_init 34 = .ok (.aload_n 0, 1) := dk_42 (dk_at dksX3_init_1 10 rfl rfl)
theorem dX3_init_35 : decode cX3_init 35 = .ok (.bipush 8, 2) := dk_16 8 (dk_at dksX3_init_1 11 rfl rfl)
theorem dX3_init_37 : decode cX3_init 37 = .ok (.newarray .int, 2) := dk_188_10 (dk_at dksX3_init_1 13 rfl rfl)
theorem dX3_init_39 : decode cX3_init 39 = .ok (.putfield 29, 3) := dk_181 0 29 (dk_at dksX3_init_1 15 rfl rfl)
theorem dX3_init_42 : decode cX3_init 42 = .ok (.aload_n 0, 1) := dk_42 (dk_at dksX3_init_1 18 rfl rfl)
theorem dX3_init_43 : decode cX3_init 43 = .ok (.bipush 8, 2) := dk_16 8 (dk_at dksX3_init_1 19 rfl rfl)
theorem dX3_init_45 : decode cX3_init 45 = .ok (.newarray .int, 2) := dk_188_10 (dk_at dksX3_init_1 21 rfl rfl)
theorem dX3_init_47 : decode cX3_init 47 = .ok (.putfield 32, 3) := dk_181 0 32 (dk_at dksX3_init_2 0 rfl rfl)
theorem dX3_init_50 : decode cX3_init 50 = .ok (.aload_n 0, 1) := dk_42 (dk_at dksX3_init_2 3 rfl rfl)
theorem dX3_init_51 : decode cX3_init 51 = .ok (.aload_n 1, 1) := dk_43 (dk_at dksX3_init_2 4 rfl rfl)
theorem dX3_init_52 : decode cX3_init 52 = .ok (.putfield 35, 3) := dk_181 0 35 (dk_at dksX3_init_2 5 rfl rfl)
theorem dX3_init_55 : decode cX3_init 55 = .ok (.aload_n 1, 1) := dk_43 (dk_at dksX3_init_2 8 rfl rfl)
theorem dX3_init_56 : decode cX3_init 56 = .ok (.getfield 39, 3) := dk_180 0 39 (dk_at dksX3_init_2 9 rfl rfl)
theorem dX3_init_59 : decode cX3_init 59 = .ok (.iconst 0, 1) := dk_3 (dk_at dksX3_init_2 12 rfl rfl)
theorem dX3_init_60 : decode cX3_init 60 = .ok (.aload_n 0, 1) := dk_42 (dk_at dksX3_init_2 13 rfl rfl)
theorem dX3_init_61 : decode cX3_init 61 = .ok (.getfield 18, 3) := dk_180 0 18 (dk_at dksX3_init_2 14 rfl rfl)
theorem dX3_init_64 : decode cX3_init 64 = .ok (.iconst 0, 1) := dk_3 (dk_at dksX3_init_2 17 rfl rfl)
theorem dX3_init_65 : decode cX3_init 65 = .ok (.bipush 6, 2) := dk_16 6 (dk_at dksX3_init_2 18 rfl rfl)
theorem dX3_init_67 : decode cX3_init 67 = .ok (.invokestatic 42, 3) := dk_184 0 42 (dk_at dksX3_init_2 20 rfl rfl)
theorem dX3_init_70 : decode cX3_init 70 = .ok (.iconst 0, 1) := dk_3 (dk_at dksX3_init_2 23 rfl rfl)
theorem dX3_init_71 : decode cX3_init 71 = .ok (.istore_n 2, 1) := dk_61 (dk_at dksX3_init_3 0 rfl rfl)
theorem dX3_init_72 : decode cX3_init 72 = .ok (.iload_n 2, 1) := dk_28 (dk_at dksX3_init_3 1 rfl rfl)
theorem dX3_init_73 : decode cX3_init 73 = .ok (.aload_n 1, 1) := dk_43 (dk_at dksX3_init_3 2 rfl rfl)
theorem dX3_init_74 : decode cX3_init 74 = .ok (.getfield 48, 3) := dk_180 0 48 (dk_at dksX3_init_3 3 rfl rfl)
theorem dX3_init_77 : decode cX3_init 77 = .ok (.invokevirtual 51, 3) := dk_182 0 51 (dk_at dksX3_init_3 6 rfl rfl)
theorem dX3_init_80 : decode cX3_init 80 = .ok (.if_icmp .ge 37, 3) := dk_162 0 37 (dk_at dksX3_init_3 9 rfl rfl)
theorem dX3_init_83 : decode cX3_init 83 = .ok (.aload_n 0, 1) := dk_42 (dk_at dksX3_init_3 12 rfl rfl)
theorem dX3_init_84 : decode cX3_init 84 = .ok (.getfield 12, 3) := dk_180 0 12 (dk_at dksX3_init_3 13 rfl rfl)
theorem dX3_init_87 : decode cX3_init 87 = .ok (.new 57, 3) := dk_187 0 57 (dk_at dksX3_init_3 16 rfl rfl)
theorem dX3_init_90 : decode cX3_init 90 = .ok (.dup, 1) := dk_89 (dk_at dksX3_init_3 19 rfl rfl)
theorem dX3_init_91 : decode cX3_init 91 = .ok (.aload_n 1, 1) := dk_43 (dk_at dksX3_init_3 20 rfl rfl)
theorem dX3_init_92 : decode cX3_init 92 = .ok (.getfield 48, 3) := dk_180 0 48 (dk_at dksX3_init_3 21 rfl rfl)
theorem dX3_init_95 : decode cX3_init 95 = .ok (.iload_n 2, 1) := dk_28 (dk_at dksX3_init_4 0 rfl rfl)
theorem dX3_init_96 : decode cX3_init 96 = .ok (.invokevirtual 59, 3) := dk_182 0 59 (dk_at dksX3_init_4 1 rfl rfl)
theorem dX3_init_99 : decode cX3_init 99 = .ok (.checkcast 63, 3) := dk_192 0 63 (dk_at dksX3_init_4 4 rfl rfl)
theorem dX3_init_102 : decode cX3_init 102 = .ok (.invokespecial 65, 3) := dk_183 0 65 (dk_at dksX3_init_4 7 rfl rfl)
theorem dX3_init_105 : decode cX3_init 105 = .ok (.invokeinterface 68 2, 5) := by decide +kernel
theorem dX3_init_110 : decode cX3_init 110 = .ok (.pop, 1) := dk_87 (dk_at dksX3_init_4 15 rfl rfl)
theorem dX3_init_111 : decode cX3_init 111 = .ok (.iinc 2 1, 3) := dk_132 2 1 (dk_at dksX3_init_4 16 rfl rfl)
theorem dX3_init_114 : decode cX3_init 114 = .ok (.goto (-42), 3) := dk_167 255 214 (dk_at dksX3_init_4 19 rfl rfl)
theorem dX3_init_117 : decode cX3_init 117 = .ok (.return_, 1) := dk_177 (dk_at dksX3_init_4 22 rfl rfl)
abbrev cX3_size : ByteArray := prog_17_method_3_code
def yX3_size : MethodName := ⟨RX3, "size", "()I"⟩
def dkwX3_size_0 : List UInt8 := [42, 180, 0, 12, 185, 0, 123, 1, 0, 172]
abbrev dktX3_size_0 : List UInt8 := dkwX3_size_0 ++ []
theorem dksX3_size_0 : cX3_size.data.toList.drop 0 = dktX3_size_0 := by decide +kernel
theorem dX3_size_0 : decode cX3_size 0 = .ok (.aload_n 0, 1) := dk_42 (dk_at dksX3_size_0 0 rfl rfl)
theorem dX3_size_1 : decode cX3_size 1 = .ok (.getfield 12, 3) := dk_180 0 12 (dk_at dksX3_size_0 1 rfl rfl)
theorem dX3_size_4 : decode cX3_size 4 = .ok (.invokeinterface 123 1, 5) := by decide +kernel
theorem dX3_size_9 : decode cX3_size 9 = .ok (.ireturn, 1) := dk_172 (dk_at dksX3_size_0 9 rfl rfl)
abbrev cX3_slopes : ByteArray := prog_17_method_4_code
def yX3_slopes : MethodName := ⟨RX3, "slopes", "()I"⟩
def dkwX3_slopes_0 : List UInt8 := [42, 180, 0, 35, 180, 0, 124, 182, 0, 51, 172]
abbrev dktX3_slopes_0 : List UInt8 := dkwX3_slopes_0 ++ []
theorem dksX3_slopes_0 : cX3_slopes.data.toList.drop 0 = dktX3_slopes_0 := by decide +kernel
theorem dX3_slopes_0 : decode cX3_slopes 0 = .ok (.aload_n 0, 1) := dk_42 (dk_at dksX3_slopes_0 0 rfl rfl)
theorem dX3_slopes_1 : decode cX3_slopes 1 = .ok (.getfield 35, 3) := dk_180 0 35 (dk_at dksX3_slopes_0 1 rfl rfl)
theorem dX3_slopes_4 : decode cX3_slopes 4 = .ok (.getfield 124, 3) := dk_180 0 124 (dk_at dksX3_slopes_0 4 rfl rfl)
theorem dX3_slopes_7 : decode cX3_slopes 7 = .ok (.invokevirtual 51, 3) := dk_182 0 51 (dk_at dksX3_slopes_0 7 rfl rfl)
theorem dX3_slopes_10 : decode cX3_slopes 10 = .ok (.ireturn, 1) := dk_172 (dk_at dksX3_slopes_0 10 rfl rfl)
abbrev cX3_remembered : ByteArray := prog_17_method_18_code
def yX3_remembered : MethodName := ⟨RX3, "remembered", "()I"⟩
def dkwX3_remembered_2 : List UInt8 := [27, 172]
abbrev dktX3_remembered_2 : List UInt8 := dkwX3_remembered_2 ++ []
def dkwX3_remembered_1 : List UInt8 := [185, 0, 84, 1, 0, 192, 0, 57, 78, 27, 45, 180, 0, 188, 185, 0, 219, 1, 0, 96, 60, 167, 255, 225]
abbrev dktX3_remembered_1 : List UInt8 := dkwX3_remembered_1 ++ dktX3_remembered_2
def dkwX3_remembered_0 : List UInt8 := [3, 60, 42, 180, 0, 12, 185, 0, 74, 1, 0, 77, 44, 185, 0, 78, 1, 0, 153, 0, 28, 44]
abbrev dktX3_remembered_0 : List UInt8 := dkwX3_remembered_0 ++ dktX3_remembered_1
theorem dksX3_remembered_0 : cX3_remembered.data.toList.drop 0 = dktX3_remembered_0 := by decide +kernel
theorem dksX3_remembered_1 : cX3_remembered.data.toList.drop 22 = dktX3_remembered_1 := dk_seg dksX3_remembered_0 22 rfl rfl
theorem dksX3_remembered_2 : cX3_remembered.data.toList.drop 46 = dktX3_remembered_2 := dk_seg dksX3_remembered_1 24 rfl rfl
theorem dX3_remembered_0 : decode cX3_remembered 0 = .ok (.iconst 0, 1) := dk_3 (dk_at dksX3_remembered_0 0 rfl rfl)
theorem dX3_remembered_1 : decode cX3_remembered 1 = .ok (.istore_n 1, 1) := dk_60 (dk_at dksX3_remembered_0 1 rfl rfl)
theorem dX3_remembered_2 : decode cX3_remembered 2 = .ok (.aload_n 0, 1) := dk_42 (dk_at dksX3_remembered_0 2 rfl rfl)
theorem dX3_remembered_3 : decode cX3_remembered 3 = .ok (.getfield 12, 3) := dk_180 0 12 (dk_at dksX3_remembered_0 3 rfl rfl)
theorem dX3_remembered_6 : decode cX3_remembered 6 = .ok (.invokeinterface 74 1, 5) := by decide +kernel
theorem dX3_remembered_11 : decode cX3_remembered 11 = .ok (.astore_n 2, 1) := dk_77 (dk_at dksX3_remembered_0 11 rfl rfl)
theorem dX3_remembered_12 : decode cX3_remembered 12 = .ok (.aload_n 2, 1) := dk_44 (dk_at dksX3_remembered_0 12 rfl rfl)
theorem dX3_remembered_13 : decode cX3_remembered 13 = .ok (.invokeinterface 78 1, 5) := by decide +kernel
theorem dX3_remembered_18 : decode cX3_remembered 18 = .ok (.ifCond .eq 28, 3) := dk_153 0 28 (dk_at dksX3_remembered_0 18 rfl rfl)
theorem dX3_remembered_21 : decode cX3_remembered 21 = .ok (.aload_n 2, 1) := dk_44 (dk_at dksX3_remembered_0 21 rfl rfl)
theorem dX3_remembered_22 : decode cX3_remembered 22 = .ok (.invokeinterface 84 1, 5) := by decide +kernel
theorem dX3_remembered_27 : decode cX3_remembered 27 = .ok (.checkcast 57, 3) := dk_192 0 57 (dk_at dksX3_remembered_1 5 rfl rfl)
theorem dX3_remembered_30 : decode cX3_remembered 30 = .ok (.astore_n 3, 1) := dk_78 (dk_at dksX3_remembered_1 8 rfl rfl)
theorem dX3_remembered_31 : decode cX3_remembered 31 = .ok (.iload_n 1, 1) := dk_27 (dk_at dksX3_remembered_1 9 rfl rfl)
theorem dX3_remembered_32 : decode cX3_remembered 32 = .ok (.aload_n 3, 1) := dk_45 (dk_at dksX3_remembered_1 10 rfl rfl)
theorem dX3_remembered_33 : decode cX3_remembered 33 = .ok (.getfield 188, 3) := dk_180 0 188 (dk_at dksX3_remembered_1 11 rfl rfl)
theorem dX3_remembered_36 : decode cX3_remembered 36 = .ok (.invokeinterface 219 1, 5) := by decide +kernel
theorem dX3_remembered_41 : decode cX3_remembered 41 = .ok (.iadd, 1) := dk_96 (dk_at dksX3_remembered_1 19 rfl rfl)
theorem dX3_remembered_42 : decode cX3_remembered 42 = .ok (.istore_n 1, 1) := dk_60 (dk_at dksX3_remembered_1 20 rfl rfl)
theorem dX3_remembered_43 : decode cX3_remembered 43 = .ok (.goto (-31), 3) := dk_167 255 225 (dk_at dksX3_remembered_1 21 rfl rfl)
theorem dX3_remembered_46 : decode cX3_remembered 46 = .ok (.iload_n 1, 1) := dk_27 (dk_at dksX3_remembered_2 0 rfl rfl)
theorem dX3_remembered_47 : decode cX3_remembered 47 = .ok (.ireturn, 1) := dk_172 (dk_at dksX3_remembered_2 1 rfl rfl)
abbrev cX3_seers : ByteArray := prog_17_method_11_code
def yX3_seers : MethodName := ⟨RX3, "seers", "(I)I"⟩
def dkwX3_seers_1 : List UInt8 := [120, 128, 61, 132, 3, 1, 167, 255, 230, 28, 172]
abbrev dktX3_seers_1 : List UInt8 := dkwX3_seers_1 ++ []
def dkwX3_seers_0 : List UInt8 := [3, 61, 3, 62, 29, 42, 182, 0, 165, 162, 0, 24, 42, 27, 29, 182, 0, 166, 153, 0, 9, 28, 4, 29]
abbrev dktX3_seers_0 : List UInt8 := dkwX3_seers_0 ++ dktX3_seers_1
theorem dksX3_seers_0 : cX3_seers.data.toList.drop 0 = dktX3_seers_0 := by decide +kernel
theorem dksX3_seers_1 : cX3_seers.data.toList.drop 24 = dktX3_seers_1 := dk_seg dksX3_seers_0 24 rfl rfl
theorem dX3_seers_0 : decode cX3_seers 0 = .ok (.iconst 0, 1) := dk_3 (dk_at dksX3_seers_0 0 rfl rfl)
theorem dX3_seers_1 : decode cX3_seers 1 = .ok (.istore_n 2, 1) := dk_61 (dk_at dksX3_seers_0 1 rfl rfl)
theorem dX3_seers_2 : decode cX3_seers 2 = .ok (.iconst 0, 1) := dk_3 (dk_at dksX3_seers_0 2 rfl rfl)
theorem dX3_seers_3 : decode cX3_seers 3 = .ok (.istore_n 3, 1) := dk_62 (dk_at dksX3_seers_0 3 rfl rfl)
theorem dX3_seers_4 : decode cX3_seers 4 = .ok (.iload_n 3, 1) := dk_29 (dk_at dksX3_seers_0 4 rfl rfl)
theorem dX3_seers_5 : decode cX3_seers 5 = .ok (.aload_n 0, 1) := dk_42 (dk_at dksX3_seers_0 5 rfl rfl)
theorem dX3_seers_6 : decode cX3_seers 6 = .ok (.invokevirtual 165, 3) := dk_182 0 165 (dk_at dksX3_seers_0 6 rfl rfl)
theorem dX3_seers_9 : decode cX3_seers 9 = .ok (.if_icmp .ge 24, 3) := dk_162 0 24 (dk_at dksX3_seers_0 9 rfl rfl)
theorem dX3_seers_12 : decode cX3_seers 12 = .ok (.aload_n 0, 1) := dk_42 (dk_at dksX3_seers_0 12 rfl rfl)
theorem dX3_seers_13 : decode cX3_seers 13 = .ok (.iload_n 1, 1) := dk_27 (dk_at dksX3_seers_0 13 rfl rfl)
theorem dX3_seers_14 : decode cX3_seers 14 = .ok (.iload_n 3, 1) := dk_29 (dk_at dksX3_seers_0 14 rfl rfl)
theorem dX3_seers_15 : decode cX3_seers 15 = .ok (.invokevirtual 166, 3) := dk_182 0 166 (dk_at dksX3_seers_0 15 rfl rfl)
theorem dX3_seers_18 : decode cX3_seers 18 = .ok (.ifCond .eq 9, 3) := dk_153 0 9 (dk_at dksX3_seers_0 18 rfl rfl)
theorem dX3_seers_21 : decode cX3_seers 21 = .ok (.iload_n 2, 1) := dk_28 (dk_at dksX3_seers_0 21 rfl rfl)
theorem dX3_seers_22 : decode cX3_seers 22 = .ok (.iconst 1, 1) := dk_4 (dk_at dksX3_seers_0 22 rfl rfl)
theorem dX3_seers_23 : decode cX3_seers 23 = .ok (.iload_n 3, 1) := dk_29 (dk_at dksX3_seers_0 23 rfl rfl)
theorem dX3_seers_24 : decode cX3_seers 24 = .ok (.ishl, 1) := dk_120 (dk_at dksX3_seers_1 0 rfl rfl)
theorem dX3_seers_25 : decode cX3_seers 25 = .ok (.ior, 1) := dk_128 (dk_at dksX3_seers_1 1 rfl rfl)
theorem dX3_seers_26 : decode cX3_seers 26 = .ok (.istore_n 2, 1) := dk_61 (dk_at dksX3_seers_1 2 rfl rfl)
theorem dX3_seers_27 : decode cX3_seers 27 = .ok (.iinc 3 1, 3) := dk_132 3 1 (dk_at dksX3_seers_1 3 rfl rfl)
theorem dX3_seers_30 : decode cX3_seers 30 = .ok (.goto (-26), 3) := dk_167 255 230 (dk_at dksX3_seers_1 6 rfl rfl)
theorem dX3_seers_33 : decode cX3_seers 33 = .ok (.iload_n 2, 1) := dk_28 (dk_at dksX3_seers_1 9 rfl rfl)
theorem dX3_seers_34 : decode cX3_seers 34 = .ok (.ireturn, 1) := dk_172 (dk_at dksX3_seers_1 10 rfl rfl)
abbrev cX3_sees : ByteArray := prog_17_method_9_code
def yX3_sees : MethodName := ⟨RX3, "sees", "(II)Z"⟩
def dkwX3_sees_1 : List UInt8 := [167, 0, 4, 3, 172]
abbrev dktX3_sees_1 : List UInt8 := dkwX3_sees_1 ++ []
def dkwX3_sees_0 : List UInt8 := [27, 28, 159, 0, 20, 42, 42, 27, 182, 0, 153, 42, 28, 182, 0, 153, 182, 0, 157, 153, 0, 7, 4]
abbrev dktX3_sees_0 : List UInt8 := dkwX3_sees_0 ++ dktX3_sees_1
theorem dksX3_sees_0 : cX3_sees.data.toList.drop 0 = dktX3_sees_0 := by decide +kernel
theorem dksX3_sees_1 : cX3_sees.data.toList.drop 23 = dktX3_sees_1 := dk_seg dksX3_sees_0 23 rfl rfl
theorem dX3_sees_0 : decode cX3_sees 0 = .ok (.iload_n 1, 1) := dk_27 (dk_at dksX3_sees_0 0 rfl rfl)
theorem dX3_sees_1 : decode cX3_sees 1 = .ok (.iload_n 2, 1) := dk_28 (dk_at dksX3_sees_0 1 rfl rfl)
theorem dX3_sees_2 : decode cX3_sees 2 = .ok (.if_icmp .eq 20, 3) := dk_159 0 20 (dk_at dksX3_sees_0 2 rfl rfl)
theorem dX3_sees_5 : decode cX3_sees 5 = .ok (.aload_n 0, 1) := dk_42 (dk_at dksX3_sees_0 5 rfl rfl)
theorem dX3_sees_6 : decode cX3_sees 6 = .ok (.aload_n 0, 1) := dk_42 (dk_at dksX3_sees_0 6 rfl rfl)
theorem dX3_sees_7 : decode cX3_sees 7 = .ok (.iload_n 1, 1) := dk_27 (dk_at dksX3_sees_0 7 rfl rfl)
theorem dX3_sees_8 : decode cX3_sees 8 = .ok (.invokevirtual 153, 3) := dk_182 0 153 (dk_at dksX3_sees_0 8 rfl rfl)
theorem dX3_sees_11 : decode cX3_sees 11 = .ok (.aload_n 0, 1) := dk_42 (dk_at dksX3_sees_0 11 rfl rfl)
theorem dX3_sees_12 : decode cX3_sees 12 = .ok (.iload_n 2, 1) := dk_28 (dk_at dksX3_sees_0 12 rfl rfl)
theorem dX3_sees_13 : decode cX3_sees 13 = .ok (.invokevirtual 153, 3) := dk_182 0 153 (dk_at dksX3_sees_0 13 rfl rfl)
theorem dX3_sees_16 : decode cX3_sees 16 = .ok (.invokevirtual 157, 3) := dk_182 0 157 (dk_at dksX3_sees_0 16 rfl rfl)
theorem dX3_sees_19 : decode cX3_sees 19 = .ok (.ifCond .eq 7, 3) := dk_153 0 7 (dk_at dksX3_sees_0 19 rfl rfl)
theorem dX3_sees_22 : decode cX3_sees 22 = .ok (.iconst 1, 1) := dk_4 (dk_at dksX3_sees_0 22 rfl rfl)
theorem dX3_sees_23 : decode cX3_sees 23 = .ok (.goto 4, 3) := dk_167 0 4 (dk_at dksX3_sees_1 0 rfl rfl)
theorem dX3_sees_26 : decode cX3_sees 26 = .ok (.iconst 0, 1) := dk_3 (dk_at dksX3_sees_1 3 rfl rfl)
theorem dX3_sees_27 : decode cX3_sees 27 = .ok (.ireturn, 1) := dk_172 (dk_at dksX3_sees_1 4 rfl rfl)
abbrev cX3_cabin : ByteArray := prog_17_method_5_code
def yX3_cabin : MethodName := ⟨RX3, "cabin", "(I)LFlareSlopes$Cabin;"⟩
def dkwX3_cabin_0 : List UInt8 := [42, 180, 0, 12, 27, 185, 0, 127, 2, 0, 192, 0, 57, 176]
abbrev dktX3_cabin_0 : List UInt8 := dkwX3_cabin_0 ++ []
theorem dksX3_cabin_0 : cX3_cabin.data.toList.drop 0 = dktX3_cabin_0 := by decide +kernel
theorem dX3_cabin_0 : decode cX3_cabin 0 = .ok (.aload_n 0, 1) := dk_42 (dk_at dksX3_cabin_0 0 rfl rfl)
theorem dX3_cabin_1 : decode cX3_cabin 1 = .ok (.getfield 12, 3) := dk_180 0 12 (dk_at dksX3_cabin_0 1 rfl rfl)
theorem dX3_cabin_4 : decode cX3_cabin 4 = .ok (.iload_n 1, 1) := dk_27 (dk_at dksX3_cabin_0 4 rfl rfl)
theorem dX3_cabin_5 : decode cX3_cabin 5 = .ok (.invokeinterface 127 2, 5) := by decide +kernel
theorem dX3_cabin_10 : decode cX3_cabin 10 = .ok (.checkcast 57, 3) := dk_192 0 57 (dk_at dksX3_cabin_0 10 rfl rfl)
theorem dX3_cabin_13 : decode cX3_cabin 13 = .ok (.areturn, 1) := dk_176 (dk_at dksX3_cabin_0 13 rfl rfl)
abbrev cX3_isSeen : ByteArray := prog_17_method_8_code
def yX3_isSeen : MethodName := ⟨RX3, "isSeen", "(LFlareSlopes$Located;LFlareSlopes$Located;)Z"⟩
def dkwX3_isSeen_1 : List UInt8 := [154, 0, 7, 4, 167, 0, 4, 3, 172]
abbrev dktX3_isSeen_1 : List UInt8 := dkwX3_isSeen_1 ++ []
def dkwX3_isSeen_0 : List UInt8 := [43, 44, 42, 182, 0, 140, 185, 0, 143, 3, 0, 153, 0, 19, 42, 180, 0, 35, 43, 44, 182, 0, 149]
abbrev dktX3_isSeen_0 : List UInt8 := dkwX3_isSeen_0 ++ dktX3_isSeen_1
theorem dksX3_isSeen_0 : cX3_isSeen.data.toList.drop 0 = dktX3_isSeen_0 := by decide +kernel
theorem dksX3_isSeen_1 : cX3_isSeen.data.toList.drop 23 = dktX3_isSeen_1 := dk_seg dksX3_isSeen_0 23 rfl rfl
theorem dX3_isSeen_0 : decode cX3_isSeen 0 = .ok (.aload_n 1, 1) := dk_43 (dk_at dksX3_isSeen_0 0 rfl rfl)
theorem dX3_isSeen_1 : decode cX3_isSeen 1 = .ok (.aload_n 2, 1) := dk_44 (dk_at dksX3_isSeen_0 1 rfl rfl)
theorem dX3_isSeen_2 : decode cX3_isSeen 2 = .ok (.aload_n 0, 1) := dk_42 (dk_at dksX3_isSeen_0 2 rfl rfl)
theorem dX3_isSeen_3 : decode cX3_isSeen 3 = .ok (.invokevirtual 140, 3) := dk_182 0 140 (dk_at dksX3_isSeen_0 3 rfl rfl)
theorem dX3_isSeen_6 : decode cX3_isSeen 6 = .ok (.invokeinterface 143 3, 5) := by decide +kernel
theorem dX3_isSeen_11 : decode cX3_isSeen 11 = .ok (.ifCond .eq 19, 3) := dk_153 0 19 (dk_at dksX3_isSeen_0 11 rfl rfl)
theorem dX3_isSeen_14 : decode cX3_isSeen 14 = .ok (.aload_n 0, 1) := dk_42 (dk_at dksX3_isSeen_0 14 rfl rfl)
theorem dX3_isSeen_15 : decode cX3_isSeen 15 = .ok (.getfield 35, 3) := dk_180 0 35 (dk_at dksX3_isSeen_0 15 rfl rfl)
theorem dX3_isSeen_18 : decode cX3_isSeen 18 = .ok (.aload_n 1, 1) := dk_43 (dk_at dksX3_isSeen_0 18 rfl rfl)
theorem dX3_isSeen_19 : decode cX3_isSeen 19 = .ok (.aload_n 2, 1) := dk_44 (dk_at dksX3_isSeen_0 19 rfl rfl)
theorem dX3_isSeen_20 : decode cX3_isSeen 20 = .ok (.invokevirtual 149, 3) := dk_182 0 149 (dk_at dksX3_isSeen_0 20 rfl rfl)
theorem dX3_isSeen_23 : decode cX3_isSeen 23 = .ok (.ifCond .ne 7, 3) := dk_154 0 7 (dk_at dksX3_isSeen_1 0 rfl rfl)
theorem dX3_isSeen_26 : decode cX3_isSeen 26 = .ok (.iconst 1, 1) := dk_4 (dk_at dksX3_isSeen_1 3 rfl rfl)
theorem dX3_isSeen_27 : decode cX3_isSeen 27 = .ok (.goto 4, 3) := dk_167 0 4 (dk_at dksX3_isSeen_1 4 rfl rfl)
theorem dX3_isSeen_30 : decode cX3_isSeen 30 = .ok (.iconst 0, 1) := dk_3 (dk_at dksX3_isSeen_1 7 rfl rfl)
theorem dX3_isSeen_31 : decode cX3_isSeen 31 = .ok (.ireturn, 1) := dk_172 (dk_at dksX3_isSeen_1 8 rfl rfl)
abbrev cX3_sight : ByteArray := prog_17_method_7_code
def yX3_sight : MethodName := ⟨RX3, "sight", "()I"⟩
def dkwX3_sight_0 : List UInt8 := [3, 42, 180, 0, 18, 3, 46, 42, 180, 0, 35, 42, 180, 0, 98, 182, 0, 130, 100, 184, 0, 134, 172]
abbrev dktX3_sight_0 : List UInt8 := dkwX3_sight_0 ++ []
theorem dksX3_sight_0 : cX3_sight.data.toList.drop 0 = dktX3_sight_0 := by decide +kernel
theorem dX3_sight_0 : decode cX3_sight 0 = .ok (.iconst 0, 1) := dk_3 (dk_at dksX3_sight_0 0 rfl rfl)
theorem dX3_sight_1 : decode cX3_sight 1 = .ok (.aload_n 0, 1) := dk_42 (dk_at dksX3_sight_0 1 rfl rfl)
theorem dX3_sight_2 : decode cX3_sight 2 = .ok (.getfield 18, 3) := dk_180 0 18 (dk_at dksX3_sight_0 2 rfl rfl)
theorem dX3_sight_5 : decode cX3_sight 5 = .ok (.iconst 0, 1) := dk_3 (dk_at dksX3_sight_0 5 rfl rfl)
theorem dX3_sight_6 : decode cX3_sight 6 = .ok (.iaload, 1) := dk_46 (dk_at dksX3_sight_0 6 rfl rfl)
theorem dX3_sight_7 : decode cX3_sight 7 = .ok (.aload_n 0, 1) := dk_42 (dk_at dksX3_sight_0 7 rfl rfl)
theorem dX3_sight_8 : decode cX3_sight 8 = .ok (.getfield 35, 3) := dk_180 0 35 (dk_at dksX3_sight_0 8 rfl rfl)
theorem dX3_sight_11 : decode cX3_sight 11 = .ok (.aload_n 0, 1) := dk_42 (dk_at dksX3_sight_0 11 rfl rfl)
theorem dX3_sight_12 : decode cX3_sight 12 = .ok (.getfield 98, 3) := dk_180 0 98 (dk_at dksX3_sight_0 12 rfl rfl)
theorem dX3_sight_15 : decode cX3_sight 15 = .ok (.invokevirtual 130, 3) := dk_182 0 130 (dk_at dksX3_sight_0 15 rfl rfl)
theorem dX3_sight_18 : decode cX3_sight 18 = .ok (.isub, 1) := dk_100 (dk_at dksX3_sight_0 18 rfl rfl)
theorem dX3_sight_19 : decode cX3_sight 19 = .ok (.invokestatic 134, 3) := dk_184 0 134 (dk_at dksX3_sight_0 19 rfl rfl)
theorem dX3_sight_22 : decode cX3_sight 22 = .ok (.ireturn, 1) := dk_172 (dk_at dksX3_sight_0 22 rfl rfl)
abbrev cX3_votesOf : ByteArray := prog_17_method_17_code
def yX3_votesOf : MethodName := ⟨RX3, "votesOf", "(ILFlareSlopes$Judge;)I"⟩
def dkwX3_votesOf_4 : List UInt8 := [167, 255, 176, 29, 172]
abbrev dktX3_votesOf_4 : List UInt8 := dkwX3_votesOf_4 ++ []
def dkwX3_votesOf_3 : List UInt8 := [192, 0, 204, 21, 6, 182, 0, 213, 153, 0, 7, 4, 167, 0, 4, 3, 96, 62, 132, 6, 1, 167, 255, 204]
abbrev dktX3_votesOf_3 : List UInt8 := dkwX3_votesOf_3 ++ dktX3_votesOf_4
def dkwX3_votesOf_2 : List UInt8 := [29, 44, 25, 5, 180, 0, 188, 42, 180, 0, 35, 27, 21, 6, 182, 0, 197, 185, 0, 201, 2, 0]
abbrev dktX3_votesOf_2 : List UInt8 := dkwX3_votesOf_2 ++ dktX3_votesOf_3
def dkwX3_votesOf_1 : List UInt8 := [25, 4, 185, 0, 84, 1, 0, 192, 0, 57, 58, 5, 3, 54, 6, 21, 6, 42, 182, 0, 186, 162, 0, 49]
abbrev dktX3_votesOf_1 : List UInt8 := dkwX3_votesOf_1 ++ dktX3_votesOf_2
def dkwX3_votesOf_0 : List UInt8 := [3, 62, 42, 180, 0, 12, 185, 0, 74, 1, 0, 58, 4, 25, 4, 185, 0, 78, 1, 0, 153, 0, 76]
abbrev dktX3_votesOf_0 : List UInt8 := dkwX3_votesOf_0 ++ dktX3_votesOf_1
theorem dksX3_votesOf_0 : cX3_votesOf.data.toList.drop 0 = dktX3_votesOf_0 := by decide +kernel
theorem dksX3_votesOf_1 : cX3_votesOf.data.toList.drop 23 = dktX3_votesOf_1 := dk_seg dksX3_votesOf_0 23 rfl rfl
theorem dksX3_votesOf_2 : cX3_votesOf.data.toList.drop 47 = dktX3_votesOf_2 := dk_seg dksX3_votesOf_1 24 rfl rfl
theorem dksX3_votesOf_3 : cX3_votesOf.data.toList.drop 69 = dktX3_votesOf_3 := dk_seg dksX3_votesOf_2 22 rfl rfl
theorem dksX3_votesOf_4 : cX3_votesOf.data.toList.drop 93 = dktX3_votesOf_4 := dk_seg dksX3_votesOf_3 24 rfl rfl
theorem dX3_votesOf_0 : decode cX3_votesOf 0 = .ok (.iconst 0, 1) := dk_3 (dk_at dksX3_votesOf_0 0 rfl rfl)
theorem dX3_votesOf_1 : decode cX3_votesOf 1 = .ok (.istore_n 3, 1) := dk_62 (dk_at dksX3_votesOf_0 1 rfl rfl)
theorem dX3_votesOf_2 : decode cX3_votesOf 2 = .ok (.aload_n 0, 1) := dk_42 (dk_at dksX3_votesOf_0 2 rfl rfl)
theorem dX3_votesOf_3 : decode cX3_votesOf 3 = .ok (.getfield 12, 3) := dk_180 0 12 (dk_at dksX3_votesOf_0 3 rfl rfl)
theorem dX3_votesOf_6 : decode cX3_votesOf 6 = .ok (.invokeinterface 74 1, 5) := by decide +kernel
theorem dX3_votesOf_11 : decode cX3_votesOf 11 = .ok (.astore 4, 2) := dk_58 4 (dk_at dksX3_votesOf_0 11 rfl rfl)
theorem dX3_votesOf_13 : decode cX3_votesOf 13 = .ok (.aload 4, 2) := dk_25 4 (dk_at dksX3_votesOf_0 13 rfl rfl)
theorem dX3_votesOf_15 : decode cX3_votesOf 15 = .ok (.invokeinterface 78 1, 5) := by decide +kernel
theorem dX3_votesOf_20 : decode cX3_votesOf 20 = .ok (.ifCond .eq 76, 3) := dk_153 0 76 (dk_at dksX3_votesOf_0 20 rfl rfl)
theorem dX3_votesOf_23 : decode cX3_votesOf 23 = .ok (.aload 4, 2) := dk_25 4 (dk_at dksX3_votesOf_1 0 rfl rfl)
theorem dX3_votesOf_25 : decode cX3_votesOf 25 = .ok (.invokeinterface 84 1, 5) := by decide +kernel
theorem dX3_votesOf_30 : decode cX3_votesOf 30 = .ok (.checkcast 57, 3) := dk_192 0 57 (dk_at dksX3_votesOf_1 7 rfl rfl)
theorem dX3_votesOf_33 : decode cX3_votesOf 33 = .ok (.astore 5, 2) := dk_58 5 (dk_at dksX3_votesOf_1 10 rfl rfl)
theorem dX3_votesOf_35 : decode cX3_votesOf 35 = .ok (.iconst 0, 1) := dk_3 (dk_at dksX3_votesOf_1 12 rfl rfl)
theorem dX3_votesOf_36 : decode cX3_votesOf 36 = .ok (.istore 6, 2) := dk_54 6 (dk_at dksX3_votesOf_1 13 rfl rfl)
theorem dX3_votesOf_38 : decode cX3_votesOf 38 = .ok (.iload 6, 2) := dk_21 6 (dk_at dksX3_votesOf_1 15 rfl rfl)
theorem dX3_votesOf_40 : decode cX3_votesOf 40 = .ok (.aload_n 0, 1) := dk_42 (dk_at dksX3_votesOf_1 17 rfl rfl)
theorem dX3_votesOf_41 : decode cX3_votesOf 41 = .ok (.invokevirtual 186, 3) := dk_182 0 186 (dk_at dksX3_votesOf_1 18 rfl rfl)
theorem dX3_votesOf_44 : decode cX3_votesOf 44 = .ok (.if_icmp .ge 49, 3) := dk_162 0 49 (dk_at dksX3_votesOf_1 21 rfl rfl)
theorem dX3_votesOf_47 : decode cX3_votesOf 47 = .ok (.iload_n 3, 1) := dk_29 (dk_at dksX3_votesOf_2 0 rfl rfl)
theorem dX3_votesOf_48 : decode cX3_votesOf 48 = .ok (.aload_n 2, 1) := dk_44 (dk_at dksX3_votesOf_2 1 rfl rfl)
theorem dX3_votesOf_49 : decode cX3_votesOf 49 = .ok (.aload 5, 2) := dk_25 5 (dk_at dksX3_votesOf_2 2 rfl rfl)
theorem dX3_votesOf_51 : decode cX3_votesOf 51 = .ok (.getfield 188, 3) := dk_180 0 188 (dk_at dksX3_votesOf_2 4 rfl rfl)
theorem dX3_votesOf_54 : decode cX3_votesOf 54 = .ok (.aload_n 0, 1) := dk_42 (dk_at dksX3_votesOf_2 7 rfl rfl)
theorem dX3_votesOf_55 : decode cX3_votesOf 55 = .ok (.getfield 35, 3) := dk_180 0 35 (dk_at dksX3_votesOf_2 8 rfl rfl)
theorem dX3_votesOf_58 : decode cX3_votesOf 58 = .ok (.iload_n 1, 1) := dk_27 (dk_at dksX3_votesOf_2 11 rfl rfl)
theorem dX3_votesOf_59 : decode cX3_votesOf 59 = .ok (.iload 6, 2) := dk_21 6 (dk_at dksX3_votesOf_2 12 rfl rfl)
theorem dX3_votesOf_61 : decode cX3_votesOf 61 = .ok (.invokevirtual 197, 3) := dk_182 0 197 (dk_at dksX3_votesOf_2 14 rfl rfl)
theorem dX3_votesOf_64 : decode cX3_votesOf 64 = .ok (.invokeinterface 201 2, 5) := by decide +kernel
theorem dX3_votesOf_69 : decode cX3_votesOf 69 = .ok (.checkcast 204, 3) := dk_192 0 204 (dk_at dksX3_votesOf_3 0 rfl rfl)
theorem dX3_votesOf_72 : decode cX3_votesOf 72 = .ok (.iload 6, 2) := dk_21 6 (dk_at dksX3_votesOf_3 3 rfl rfl)
theorem dX3_votesOf_74 : decode cX3_votesOf 74 = .ok (.invokevirtual 213, 3) := dk_182 0 213 (dk_at dksX3_votesOf_3 5 rfl rfl)
theorem dX3_votesOf_77 : decode cX3_votesOf 77 = .ok (.ifCond .eq 7, 3) := dk_153 0 7 (dk_at dksX3_votesOf_3 8 rfl rfl)
theorem dX3_votesOf_80 : decode cX3_votesOf 80 = .ok (.iconst 1, 1) := dk_4 (dk_at dksX3_votesOf_3 11 rfl rfl)
theorem dX3_votesOf_81 : decode cX3_votesOf 81 = .ok (.goto 4, 3) := dk_167 0 4 (dk_at dksX3_votesOf_3 12 rfl rfl)
theorem dX3_votesOf_84 : decode cX3_votesOf 84 = .ok (.iconst 0, 1) := dk_3 (dk_at dksX3_votesOf_3 15 rfl rfl)
theorem dX3_votesOf_85 : decode cX3_votesOf 85 = .ok (.iadd, 1) := dk_96 (dk_at dksX3_votesOf_3 16 rfl rfl)
theorem dX3_votesOf_86 : decode cX3_votesOf 86 = .ok (.istore_n 3, 1) := dk_62 (dk_at dksX3_votesOf_3 17 rfl rfl)
theorem dX3_votesOf_87 : decode cX3_votesOf 87 = .ok (.iinc 6 1, 3) := dk_132 6 1 (dk_at dksX3_votesOf_3 18 rfl rfl)
theorem dX3_votesOf_90 : decode cX3_votesOf 90 = .ok (.goto (-52), 3) := dk_167 255 204 (dk_at dksX3_votesOf_3 21 rfl rfl)
theorem dX3_votesOf_93 : decode cX3_votesOf 93 = .ok (.goto (-80), 3) := dk_167 255 176 (dk_at dksX3_votesOf_4 0 rfl rfl)
theorem dX3_votesOf_96 : decode cX3_votesOf 96 = .ok (.iload_n 3, 1) := dk_29 (dk_at dksX3_votesOf_4 3 rfl rfl)
theorem dX3_votesOf_97 : decode cX3_votesOf 97 = .ok (.ireturn, 1) := dk_172 (dk_at dksX3_votesOf_4 4 rfl rfl)
abbrev cX3_isDangerous : ByteArray := prog_17_method_20_code
def yX3_isDangerous : MethodName := ⟨RX3, "isDangerous", "(I)Z"⟩
def dkwX3_isDangerous_0 : List UInt8 := [42, 180, 0, 120, 27, 184, 0, 170, 172]
abbrev dktX3_isDangerous_0 : List UInt8 := dkwX3_isDangerous_0 ++ []
theorem dksX3_isDangerous_0 : cX3_isDangerous.data.toList.drop 0 = dktX3_isDangerous_0 := by decide +kernel
theorem dX3_isDangerous_0 : decode cX3_isDangerous 0 = .ok (.aload_n 0, 1) := dk_42 (dk_at dksX3_isDangerous_0 0 rfl rfl)
theorem dX3_isDangerous_1 : decode cX3_isDangerous 1 = .ok (.getfield 120, 3) := dk_180 0 120 (dk_at dksX3_isDangerous_0 1 rfl rfl)
theorem dX3_isDangerous_4 : decode cX3_isDangerous 4 = .ok (.iload_n 1, 1) := dk_27 (dk_at dksX3_isDangerous_0 4 rfl rfl)
theorem dX3_isDangerous_5 : decode cX3_isDangerous 5 = .ok (.invokestatic 170, 3) := dk_184 0 170 (dk_at dksX3_isDangerous_0 5 rfl rfl)
theorem dX3_isDangerous_8 : decode cX3_isDangerous 8 = .ok (.ireturn, 1) := dk_172 (dk_at dksX3_isDangerous_0 8 rfl rfl)
abbrev cX3_seesSlope : ByteArray := prog_17_method_10_code
def yX3_seesSlope : MethodName := ⟨RX3, "seesSlope", "(II)Z"⟩
def dkwX3_seesSlope_0 : List UInt8 := [42, 42, 27, 182, 0, 153, 42, 28, 182, 0, 161, 182, 0, 157, 172]
abbrev dktX3_seesSlope_0 : List UInt8 := dkwX3_seesSlope_0 ++ []
theorem dksX3_seesSlope_0 : cX3_seesSlope.data.toList.drop 0 = dktX3_seesSlope_0 := by decide +kernel
theorem dX3_seesSlope_0 : decode cX3_seesSlope 0 = .ok (.aload_n 0, 1) := dk_42 (dk_at dksX3_seesSlope_0 0 rfl rfl)
theorem dX3_seesSlope_1 : decode cX3_seesSlope 1 = .ok (.aload_n 0, 1) := dk_42 (dk_at dksX3_seesSlope_0 1 rfl rfl)
theorem dX3_seesSlope_2 : decode cX3_seesSlope 2 = .ok (.iload_n 1, 1) := dk_27 (dk_at dksX3_seesSlope_0 2 rfl rfl)
theorem dX3_seesSlope_3 : decode cX3_seesSlope 3 = .ok (.invokevirtual 153, 3) := dk_182 0 153 (dk_at dksX3_seesSlope_0 3 rfl rfl)
theorem dX3_seesSlope_6 : decode cX3_seesSlope 6 = .ok (.aload_n 0, 1) := dk_42 (dk_at dksX3_seesSlope_0 6 rfl rfl)
theorem dX3_seesSlope_7 : decode cX3_seesSlope 7 = .ok (.iload_n 2, 1) := dk_28 (dk_at dksX3_seesSlope_0 7 rfl rfl)
theorem dX3_seesSlope_8 : decode cX3_seesSlope 8 = .ok (.invokevirtual 161, 3) := dk_182 0 161 (dk_at dksX3_seesSlope_0 8 rfl rfl)
theorem dX3_seesSlope_11 : decode cX3_seesSlope 11 = .ok (.invokevirtual 157, 3) := dk_182 0 157 (dk_at dksX3_seesSlope_0 11 rfl rfl)
theorem dX3_seesSlope_14 : decode cX3_seesSlope 14 = .ok (.ireturn, 1) := dk_172 (dk_at dksX3_seesSlope_0 14 rfl rfl)
abbrev cX3_slope : ByteArray := prog_17_method_6_code
def yX3_slope : MethodName := ⟨RX3, "slope", "(I)LFlareSlopes$Spot;"⟩
def dkwX3_slope_0 : List UInt8 := [42, 180, 0, 35, 180, 0, 124, 27, 182, 0, 59, 192, 0, 63, 176]
abbrev dktX3_slope_0 : List UInt8 := dkwX3_slope_0 ++ []
theorem dksX3_slope_0 : cX3_slope.data.toList.drop 0 = dktX3_slope_0 := by decide +kernel
theorem dX3_slope_0 : decode cX3_slope 0 = .ok (.aload_n 0, 1) := dk_42 (dk_at dksX3_slope_0 0 rfl rfl)
theorem dX3_slope_1 : decode cX3_slope 1 = .ok (.getfield 35, 3) := dk_180 0 35 (dk_at dksX3_slope_0 1 rfl rfl)
theorem dX3_slope_4 : decode cX3_slope 4 = .ok (.getfield 124, 3) := dk_180 0 124 (dk_at dksX3_slope_0 4 rfl rfl)
theorem dX3_slope_7 : decode cX3_slope 7 = .ok (.iload_n 1, 1) := dk_27 (dk_at dksX3_slope_0 7 rfl rfl)
theorem dX3_slope_8 : decode cX3_slope 8 = .ok (.invokevirtual 59, 3) := dk_182 0 59 (dk_at dksX3_slope_0 8 rfl rfl)
theorem dX3_slope_11 : decode cX3_slope 11 = .ok (.checkcast 63, 3) := dk_192 0 63 (dk_at dksX3_slope_0 11 rfl rfl)
theorem dX3_slope_14 : decode cX3_slope 14 = .ok (.areturn, 1) := dk_176 (dk_at dksX3_slope_0 14 rfl rfl)
abbrev cX3_closers : ByteArray := prog_17_method_19_code
def yX3_closers : MethodName := ⟨RX3, "closers", "(I)I"⟩
def dkwX3_closers_1 : List UInt8 := [28, 4, 29, 120, 128, 61, 132, 3, 1, 167, 255, 227, 28, 172]
abbrev dktX3_closers_1 : List UInt8 := dkwX3_closers_1 ++ []
def dkwX3_closers_0 : List UInt8 := [3, 61, 3, 62, 29, 42, 182, 0, 165, 162, 0, 27, 42, 29, 182, 0, 153, 27, 182, 0, 220, 153, 0, 9]
abbrev dktX3_closers_0 : List UInt8 := dkwX3_closers_0 ++ dktX3_closers_1
theorem dksX3_closers_0 : cX3_closers.data.toList.drop 0 = dktX3_closers_0 := by decide +kernel
theorem dksX3_closers_1 : cX3_closers.data.toList.drop 24 = dktX3_closers_1 := dk_seg dksX3_closers_0 24 rfl rfl
theorem dX3_closers_0 : decode cX3_closers 0 = .ok (.iconst 0, 1) := dk_3 (dk_at dksX3_closers_0 0 rfl rfl)
theorem dX3_closers_1 : decode cX3_closers 1 = .ok (.istore_n 2, 1) := dk_61 (dk_at dksX3_closers_0 1 rfl rfl)
theorem dX3_closers_2 : decode cX3_closers 2 = .ok (.iconst 0, 1) := dk_3 (dk_at dksX3_closers_0 2 rfl rfl)
theorem dX3_closers_3 : decode cX3_closers 3 = .ok (.istore_n 3, 1) := dk_62 (dk_at dksX3_closers_0 3 rfl rfl)
theorem dX3_closers_4 : decode cX3_closers 4 = .ok (.iload_n 3, 1) := dk_29 (dk_at dksX3_closers_0 4 rfl rfl)
theorem dX3_closers_5 : decode cX3_closers 5 = .ok (.aload_n 0, 1) := dk_42 (dk_at dksX3_closers_0 5 rfl rfl)
theorem dX3_closers_6 : decode cX3_closers 6 = .ok (.invokevirtual 165, 3) := dk_182 0 165 (dk_at dksX3_closers_0 6 rfl rfl)
theorem dX3_closers_9 : decode cX3_closers 9 = .ok (.if_icmp .ge 27, 3) := dk_162 0 27 (dk_at dksX3_closers_0 9 rfl rfl)
theorem dX3_closers_12 : decode cX3_closers 12 = .ok (.aload_n 0, 1) := dk_42 (dk_at dksX3_closers_0 12 rfl rfl)
theorem dX3_closers_13 : decode cX3_closers 13 = .ok (.iload_n 3, 1) := dk_29 (dk_at dksX3_closers_0 13 rfl rfl)
theorem dX3_closers_14 : decode cX3_closers 14 = .ok (.invokevirtual 153, 3) := dk_182 0 153 (dk_at dksX3_closers_0 14 rfl rfl)
theorem dX3_closers_17 : decode cX3_closers 17 = .ok (.iload_n 1, 1) := dk_27 (dk_at dksX3_closers_0 17 rfl rfl)
theorem dX3_closers_18 : decode cX3_closers 18 = .ok (.invokevirtual 220, 3) := dk_182 0 220 (dk_at dksX3_closers_0 18 rfl rfl)
theorem dX3_closers_21 : decode cX3_closers 21 = .ok (.ifCond .eq 9, 3) := dk_153 0 9 (dk_at dksX3_closers_0 21 rfl rfl)
theorem dX3_closers_24 : decode cX3_closers 24 = .ok (.iload_n 2, 1) := dk_28 (dk_at dksX3_closers_1 0 rfl rfl)
theorem dX3_closers_25 : decode cX3_closers 25 = .ok (.iconst 1, 1) := dk_4 (dk_at dksX3_closers_1 1 rfl rfl)
theorem dX3_closers_26 : decode cX3_closers 26 = .ok (.iload_n 3, 1) := dk_29 (dk_at dksX3_closers_1 2 rfl rfl)
theorem dX3_closers_27 : decode cX3_closers 27 = .ok (.ishl, 1) := dk_120 (dk_at dksX3_closers_1 3 rfl rfl)
theorem dX3_closers_28 : decode cX3_closers 28 = .ok (.ior, 1) := dk_128 (dk_at dksX3_closers_1 4 rfl rfl)
theorem dX3_closers_29 : decode cX3_closers 29 = .ok (.istore_n 2, 1) := dk_61 (dk_at dksX3_closers_1 5 rfl rfl)
theorem dX3_closers_30 : decode cX3_closers 30 = .ok (.iinc 3 1, 3) := dk_132 3 1 (dk_at dksX3_closers_1 6 rfl rfl)
theorem dX3_closers_33 : decode cX3_closers 33 = .ok (.goto (-29), 3) := dk_167 255 227 (dk_at dksX3_closers_1 9 rfl rfl)
theorem dX3_closers_36 : decode cX3_closers 36 = .ok (.iload_n 2, 1) := dk_28 (dk_at dksX3_closers_1 12 rfl rfl)
theorem dX3_closers_37 : decode cX3_closers 37 = .ok (.ireturn, 1) := dk_172 (dk_at dksX3_closers_1 13 rfl rfl)
abbrev cX3_laySums : ByteArray := prog_17_method_15_code
def yX3_laySums : MethodName := ⟨RX3, "laySums", "(I)V"⟩
def dkwX3_laySums_6 : List UInt8 := [182, 0, 210, 96, 79, 132, 4, 1, 167, 255, 170, 132, 3, 1, 167, 255, 144, 177]
abbrev dktX3_laySums_6 : List UInt8 := dkwX3_laySums_6 ++ []
def dkwX3_laySums_5 : List UInt8 := [21, 4, 182, 0, 210, 96, 79, 167, 0, 20, 42, 180, 0, 32, 21, 4, 92, 46, 42, 29, 21, 4]
abbrev dktX3_laySums_5 : List UInt8 := dkwX3_laySums_5 ++ dktX3_laySums_6
def dkwX3_laySums_4 : List UInt8 := [199, 0, 6, 167, 0, 48, 25, 5, 180, 0, 206, 153, 0, 23, 42, 180, 0, 29, 21, 4, 92, 46, 42, 29]
abbrev dktX3_laySums_4 : List UInt8 := dkwX3_laySums_4 ++ dktX3_laySums_5
def dkwX3_laySums_3 : List UInt8 := [44, 42, 180, 0, 35, 29, 21, 4, 182, 0, 197, 185, 0, 201, 2, 0, 192, 0, 204, 58, 5, 25, 5]
abbrev dktX3_laySums_3 : List UInt8 := dkwX3_laySums_3 ++ dktX3_laySums_4
def dkwX3_laySums_2 : List UInt8 := [162, 0, 110, 44, 185, 0, 192, 1, 0, 154, 0, 101, 3, 54, 4, 21, 4, 42, 182, 0, 186, 162, 0, 83]
abbrev dktX3_laySums_2 : List UInt8 := dkwX3_laySums_2 ++ dktX3_laySums_3
def dkwX3_laySums_1 : List UInt8 := [132, 2, 1, 167, 255, 231, 42, 27, 182, 0, 153, 180, 0, 188, 77, 3, 62, 29, 42, 182, 0, 165]
abbrev dktX3_laySums_1 : List UInt8 := dkwX3_laySums_1 ++ dktX3_laySums_2
def dkwX3_laySums_0 : List UInt8 := [3, 61, 28, 42, 182, 0, 186, 162, 0, 23, 42, 180, 0, 29, 28, 3, 79, 42, 180, 0, 32, 28, 3, 79]
abbrev dktX3_laySums_0 : List UInt8 := dkwX3_laySums_0 ++ dktX3_laySums_1
theorem dksX3_laySums_0 : cX3_laySums.data.toList.drop 0 = dktX3_laySums_0 := by decide +kernel
theorem dksX3_laySums_1 : cX3_laySums.data.toList.drop 24 = dktX3_laySums_1 := dk_seg dksX3_laySums_0 24 rfl rfl
theorem dksX3_laySums_2 : cX3_laySums.data.toList.drop 46 = dktX3_laySums_2 := dk_seg dksX3_laySums_1 22 rfl rfl
theorem dksX3_laySums_3 : cX3_laySums.data.toList.drop 70 = dktX3_laySums_3 := dk_seg dksX3_laySums_2 24 rfl rfl
theorem dksX3_laySums_4 : cX3_laySums.data.toList.drop 93 = dktX3_laySums_4 := dk_seg dksX3_laySums_3 23 rfl rfl
theorem dksX3_laySums_5 : cX3_laySums.data.toList.drop 117 = dktX3_laySums_5 := dk_seg dksX3_laySums_4 24 rfl rfl
theorem dksX3_laySums_6 : cX3_laySums.data.toList.drop 139 = dktX3_laySums_6 := dk_seg dksX3_laySums_5 22 rfl rfl
theorem dX3_laySums_0 : decode cX3_laySums 0 = .ok (.iconst 0, 1) := dk_3 (dk_at dksX3_laySums_0 0 rfl rfl)
theorem dX3_laySums_1 : decode cX3_laySums 1 = .ok (.istore_n 2, 1) := dk_61 (dk_at dksX3_laySums_0 1 rfl rfl)
theorem dX3_laySums_2 : decode cX3_laySums 2 = .ok (.iload_n 2, 1) := dk_28 (dk_at dksX3_laySums_0 2 rfl rfl)
theorem dX3_laySums_3 : decode cX3_laySums 3 = .ok (.aload_n 0, 1) := dk_42 (dk_at dksX3_laySums_0 3 rfl rfl)
theorem dX3_laySums_4 : decode cX3_laySums 4 = .ok (.invokevirtual 186, 3) := dk_182 0 186 (dk_at dksX3_laySums_0 4 rfl rfl)
theorem dX3_laySums_7 : decode cX3_laySums 7 = .ok (.if_icmp .ge 23, 3) := dk_162 0 23 (dk_at dksX3_laySums_0 7 rfl rfl)
theorem dX3_laySums_10 : decode cX3_laySums 10 = .ok (.aload_n 0, 1) := dk_42 (dk_at dksX3_laySums_0 10 rfl rfl)
theorem dX3_laySums_11 : decode cX3_laySums 11 = .ok (.getfield 29, 3) := dk_180 0 29 (dk_at dksX3_laySums_0 11 rfl rfl)
theorem dX3_laySums_14 : decode cX3_laySums 14 = .ok (.iload_n 2, 1) := dk_28 (dk_at dksX3_laySums_0 14 rfl rfl)
theorem dX3_laySums_15 : decode cX3_laySums 15 = .ok (.iconst 0, 1) := dk_3 (dk_at dksX3_laySums_0 15 rfl rfl)
theorem dX3_laySums_16 : decode cX3_laySums 16 = .ok (.iastore, 1) := dk_79 (dk_at dksX3_laySums_0 16 rfl rfl)
theorem dX3_laySums_17 : decode cX3_laySums 17 = .ok (.aload_n 0, 1) := dk_42 (dk_at dksX3_laySums_0 17 rfl rfl)
theorem dX3_laySums_18 : decode cX3_laySums 18 = .ok (.getfield 32, 3) := dk_180 0 32 (dk_at dksX3_laySums_0 18 rfl rfl)
theorem dX3_laySums_21 : decode cX3_laySums 21 = .ok (.iload_n 2, 1) := dk_28 (dk_at dksX3_laySums_0 21 rfl rfl)
theorem dX3_laySums_22 : decode cX3_laySums 22 = .ok (.iconst 0, 1) := dk_3 (dk_at dksX3_laySums_0 22 rfl rfl)
theorem dX3_laySums_23 : decode cX3_laySums 23 = .ok (.iastore, 1) := dk_79 (dk_at dksX3_laySums_0 23 rfl rfl)
theorem dX3_laySums_24 : decode cX3_laySums 24 = .ok (.iinc 2 1, 3) := dk_132 2 1 (dk_at dksX3_laySums_1 0 rfl rfl)
theorem dX3_laySums_27 : decode cX3_laySums 27 = .ok (.goto (-25), 3) := dk_167 255 231 (dk_at dksX3_laySums_1 3 rfl rfl)
theorem dX3_laySums_30 : decode cX3_laySums 30 = .ok (.aload_n 0, 1) := dk_42 (dk_at dksX3_laySums_1 6 rfl rfl)
theorem dX3_laySums_31 : decode cX3_laySums 31 = .ok (.iload_n 1, 1) := dk_27 (dk_at dksX3_laySums_1 7 rfl rfl)
theorem dX3_laySums_32 : decode cX3_laySums 32 = .ok (.invokevirtual 153, 3) := dk_182 0 153 (dk_at dksX3_laySums_1 8 rfl rfl)
theorem dX3_laySums_35 : decode cX3_laySums 35 = .ok (.getfield 188, 3) := dk_180 0 188 (dk_at dksX3_laySums_1 11 rfl rfl)
theorem dX3_laySums_38 : decode cX3_laySums 38 = .ok (.astore_n 2, 1) := dk_77 (dk_at dksX3_laySums_1 14 rfl rfl)
theorem dX3_laySums_39 : decode cX3_laySums 39 = .ok (.iconst 0, 1) := dk_3 (dk_at dksX3_laySums_1 15 rfl rfl)
theorem dX3_laySums_40 : decode cX3_laySums 40 = .ok (.istore_n 3, 1) := dk_62 (dk_at dksX3_laySums_1 16 rfl rfl)
theorem dX3_laySums_41 : decode cX3_laySums 41 = .ok (.iload_n 3, 1) := dk_29 (dk_at dksX3_laySums_1 17 rfl rfl)
theorem dX3_laySums_42 : decode cX3_laySums 42 = .ok (.aload_n 0, 1) := dk_42 (dk_at dksX3_laySums_1 18 rfl rfl)
theorem dX3_laySums_43 : decode cX3_laySums 43 = .ok (.invokevirtual 165, 3) := dk_182 0 165 (dk_at dksX3_laySums_1 19 rfl rfl)
theorem dX3_laySums_46 : decode cX3_laySums 46 = .ok (.if_icmp .ge 110, 3) := dk_162 0 110 (dk_at dksX3_laySums_2 0 rfl rfl)
theorem dX3_laySums_49 : decode cX3_laySums 49 = .ok (.aload_n 2, 1) := dk_44 (dk_at dksX3_laySums_2 3 rfl rfl)
theorem dX3_laySums_50 : decode cX3_laySums 50 = .ok (.invokeinterface 192 1, 5) := by decide +kernel
theorem dX3_laySums_55 : decode cX3_laySums 55 = .ok (.ifCond .ne 101, 3) := dk_154 0 101 (dk_at dksX3_laySums_2 9 rfl rfl)
theorem dX3_laySums_58 : decode cX3_laySums 58 = .ok (.iconst 0, 1) := dk_3 (dk_at dksX3_laySums_2 12 rfl rfl)
theorem dX3_laySums_59 : decode cX3_laySums 59 = .ok (.istore 4, 2) := dk_54 4 (dk_at dksX3_laySums_2 13 rfl rfl)
theorem dX3_laySums_61 : decode cX3_laySums 61 = .ok (.iload 4, 2) := dk_21 4 (dk_at dksX3_laySums_2 15 rfl rfl)
theorem dX3_laySums_63 : decode cX3_laySums 63 = .ok (.aload_n 0, 1) := dk_42 (dk_at dksX3_laySums_2 17 rfl rfl)
theorem dX3_laySums_64 : decode cX3_laySums 64 = .ok (.invokevirtual 186, 3) := dk_182 0 186 (dk_at dksX3_laySums_2 18 rfl rfl)
theorem dX3_laySums_67 : decode cX3_laySums 67 = .ok (.if_icmp .ge 83, 3) := dk_162 0 83 (dk_at dksX3_laySums_2 21 rfl rfl)
theorem dX3_laySums_70 : decode cX3_laySums 70 = .ok (.aload_n 2, 1) := dk_44 (dk_at dksX3_laySums_3 0 rfl rfl)
theorem dX3_laySums_71 : decode cX3_laySums 71 = .ok (.aload_n 0, 1) := dk_42 (dk_at dksX3_laySums_3 1 rfl rfl)
theorem dX3_laySums_72 : decode cX3_laySums 72 = .ok (.getfield 35, 3) := dk_180 0 35 (dk_at dksX3_laySums_3 2 rfl rfl)
theorem dX3_laySums_75 : decode cX3_laySums 75 = .ok (.iload_n 3, 1) := dk_29 (dk_at dksX3_laySums_3 5 rfl rfl)
theorem dX3_laySums_76 : decode cX3_laySums 76 = .ok (.iload 4, 2) := dk_21 4 (dk_at dksX3_laySums_3 6 rfl rfl)
theorem dX3_laySums_78 : decode cX3_laySums 78 = .ok (.invokevirtual 197, 3) := dk_182 0 197 (dk_at dksX3_laySums_3 8 rfl rfl)
theorem dX3_laySums_81 : decode cX3_laySums 81 = .ok (.invokeinterface 201 2, 5) := by decide +kernel
theorem dX3_laySums_86 : decode cX3_laySums 86 = .ok (.checkcast 204, 3) := dk_192 0 204 (dk_at dksX3_laySums_3 16 rfl rfl)
theorem dX3_laySums_89 : decode cX3_laySums 89 = .ok (.astore 5, 2) := dk_58 5 (dk_at dksX3_laySums_3 19 rfl rfl)
theorem dX3_laySums_91 : decode cX3_laySums 91 = .ok (.aload 5, 2) := dk_25 5 (dk_at dksX3_laySums_3 21 rfl rfl)
theorem dX3_laySums_93 : decode cX3_laySums 93 = .ok (.ifnonnull 6, 3) := dk_199 0 6 (dk_at dksX3_laySums_4 0 rfl rfl)
theorem dX3_laySums_96 : decode cX3_laySums 96 = .ok (.goto 48, 3) := dk_167 0 48 (dk_at dksX3_laySums_4 3 rfl rfl)
theorem dX3_laySums_99 : decode cX3_laySums 99 = .ok (.aload 5, 2) := dk_25 5 (dk_at dksX3_laySums_4 6 rfl rfl)
theorem dX3_laySums_101 : decode cX3_laySums 101 = .ok (.getfield 206, 3) := dk_180 0 206 (dk_at dksX3_laySums_4 8 rfl rfl)
theorem dX3_laySums_104 : decode cX3_laySums 104 = .ok (.ifCond .eq 23, 3) := dk_153 0 23 (dk_at dksX3_laySums_4 11 rfl rfl)
theorem dX3_laySums_107 : decode cX3_laySums 107 = .ok (.aload_n 0, 1) := dk_42 (dk_at dksX3_laySums_4 14 rfl rfl)
theorem dX3_laySums_108 : decode cX3_laySums 108 = .ok (.getfield 29, 3) := dk_180 0 29 (dk_at dksX3_laySums_4 15 rfl rfl)
theorem dX3_laySums_111 : decode cX3_laySums 111 = .ok (.iload 4, 2) := dk_21 4 (dk_at dksX3_laySums_4 18 rfl rfl)
theorem dX3_laySums_113 : decode cX3_laySums 113 = .ok (.dup2, 1) := dk_92 (dk_at dksX3_laySums_4 20 rfl rfl)
theorem dX3_laySums_114 : decode cX3_laySums 114 = .ok (.iaload, 1) := dk_46 (dk_at dksX3_laySums_4 21 rfl rfl)
theorem dX3_laySums_115 : decode cX3_laySums 115 = .ok (.aload_n 0, 1) := dk_42 (dk_at dksX3_laySums_4 22 rfl rfl)
theorem dX3_laySums_116 : decode cX3_laySums 116 = .ok (.iload_n 3, 1) := dk_29 (dk_at dksX3_laySums_4 23 rfl rfl)
theorem dX3_laySums_117 : decode cX3_laySums 117 = .ok (.iload 4, 2) := dk_21 4 (dk_at dksX3_laySums_5 0 rfl rfl)
theorem dX3_laySums_119 : decode cX3_laySums 119 = .ok (.invokevirtual 210, 3) := dk_182 0 210 (dk_at dksX3_laySums_5 2 rfl rfl)
theorem dX3_laySums_122 : decode cX3_laySums 122 = .ok (.iadd, 1) := dk_96 (dk_at dksX3_laySums_5 5 rfl rfl)
theorem dX3_laySums_123 : decode cX3_laySums 123 = .ok (.iastore, 1) := dk_79 (dk_at dksX3_laySums_5 6 rfl rfl)
theorem dX3_laySums_124 : decode cX3_laySums 124 = .ok (.goto 20, 3) := dk_167 0 20 (dk_at dksX3_laySums_5 7 rfl rfl)
theorem dX3_laySums_127 : decode cX3_laySums 127 = .ok (.aload_n 0, 1) := dk_42 (dk_at dksX3_laySums_5 10 rfl rfl)
theorem dX3_laySums_128 : decode cX3_laySums 128 = .ok (.getfield 32, 3) := dk_180 0 32 (dk_at dksX3_laySums_5 11 rfl rfl)
theorem dX3_laySums_131 : decode cX3_laySums 131 = .ok (.iload 4, 2) := dk_21 4 (dk_at dksX3_laySums_5 14 rfl rfl)
theorem dX3_laySums_133 : decode cX3_laySums 133 = .ok (.dup2, 1) := dk_92 (dk_at dksX3_laySums_5 16 rfl rfl)
theorem dX3_laySums_134 : decode cX3_laySums 134 = .ok (.iaload, 1) := dk_46 (dk_at dksX3_laySums_5 17 rfl rfl)
theorem dX3_laySums_135 : decode cX3_laySums 135 = .ok (.aload_n 0, 1) := dk_42 (dk_at dksX3_laySums_5 18 rfl rfl)
theorem dX3_laySums_136 : decode cX3_laySums 136 = .ok (.iload_n 3, 1) := dk_29 (dk_at dksX3_laySums_5 19 rfl rfl)
theorem dX3_laySums_137 : decode cX3_laySums 137 = .ok (.iload 4, 2) := dk_21 4 (dk_at dksX3_laySums_5 20 rfl rfl)
theorem dX3_laySums_139 : decode cX3_laySums 139 = .ok (.invokevirtual 210, 3) := dk_182 0 210 (dk_at dksX3_laySums_6 0 rfl rfl)
theorem dX3_laySums_142 : decode cX3_laySums 142 = .ok (.iadd, 1) := dk_96 (dk_at dksX3_laySums_6 3 rfl rfl)
theorem dX3_laySums_143 : decode cX3_laySums 143 = .ok (.iastore, 1) := dk_79 (dk_at dksX3_laySums_6 4 rfl rfl)
theorem dX3_laySums_144 : decode cX3_laySums 144 = .ok (.iinc 4 1, 3) := dk_132 4 1 (dk_at dksX3_laySums_6 5 rfl rfl)
theorem dX3_laySums_147 : decode cX3_laySums 147 = .ok (.goto (-86), 3) := dk_167 255 170 (dk_at dksX3_laySums_6 8 rfl rfl)
theorem dX3_laySums_150 : decode cX3_laySums 150 = .ok (.iinc 3 1, 3) := dk_132 3 1 (dk_at dksX3_laySums_6 11 rfl rfl)
theorem dX3_laySums_153 : decode cX3_laySums 153 = .ok (.goto (-112), 3) := dk_167 255 144 (dk_at dksX3_laySums_6 14 rfl rfl)
theorem dX3_laySums_156 : decode cX3_laySums 156 = .ok (.return_, 1) := dk_177 (dk_at dksX3_laySums_6 17 rfl rfl)
abbrev cX3_weight : ByteArray := prog_17_method_14_code
def yX3_weight : MethodName := ⟨RX3, "weight", "(II)I"⟩
def dkwX3_weight_1 : List UInt8 := [100, 104, 16, 100, 108, 172]
abbrev dktX3_weight_1 : List UInt8 := dkwX3_weight_1 ++ []
def dkwX3_weight_0 : List UInt8 := [42, 27, 182, 0, 153, 180, 0, 179, 17, 0, 200, 42, 27, 182, 0, 153, 42, 28, 182, 0, 161, 182, 0, 182]
abbrev dktX3_weight_0 : List UInt8 := dkwX3_weight_0 ++ dktX3_weight_1
theorem dksX3_weight_0 : cX3_weight.data.toList.drop 0 = dktX3_weight_0 := by decide +kernel
theorem dksX3_weight_1 : cX3_weight.data.toList.drop 24 = dktX3_weight_1 := dk_seg dksX3_weight_0 24 rfl rfl
theorem dX3_weight_0 : decode cX3_weight 0 = .ok (.aload_n 0, 1) := dk_42 (dk_at dksX3_weight_0 0 rfl rfl)
theorem dX3_weight_1 : decode cX3_weight 1 = .ok (.iload_n 1, 1) := dk_27 (dk_at dksX3_weight_0 1 rfl rfl)
theorem dX3_weight_2 : decode cX3_weight 2 = .ok (.invokevirtual 153, 3) := dk_182 0 153 (dk_at dksX3_weight_0 2 rfl rfl)
theorem dX3_weight_5 : decode cX3_weight 5 = .ok (.getfield 179, 3) := dk_180 0 179 (dk_at dksX3_weight_0 5 rfl rfl)
theorem dX3_weight_8 : decode cX3_weight 8 = .ok (.sipush 200, 3) := dk_17 0 200 (dk_at dksX3_weight_0 8 rfl rfl)
theorem dX3_weight_11 : decode cX3_weight 11 = .ok (.aload_n 0, 1) := dk_42 (dk_at dksX3_weight_0 11 rfl rfl)
theorem dX3_weight_12 : decode cX3_weight 12 = .ok (.iload_n 1, 1) := dk_27 (dk_at dksX3_weight_0 12 rfl rfl)
theorem dX3_weight_13 : decode cX3_weight 13 = .ok (.invokevirtual 153, 3) := dk_182 0 153 (dk_at dksX3_weight_0 13 rfl rfl)
theorem dX3_weight_16 : decode cX3_weight 16 = .ok (.aload_n 0, 1) := dk_42 (dk_at dksX3_weight_0 16 rfl rfl)
theorem dX3_weight_17 : decode cX3_weight 17 = .ok (.iload_n 2, 1) := dk_28 (dk_at dksX3_weight_0 17 rfl rfl)
theorem dX3_weight_18 : decode cX3_weight 18 = .ok (.invokevirtual 161, 3) := dk_182 0 161 (dk_at dksX3_weight_0 18 rfl rfl)
theorem dX3_weight_21 : decode cX3_weight 21 = .ok (.invokevirtual 182, 3) := dk_182 0 182 (dk_at dksX3_weight_0 21 rfl rfl)
theorem dX3_weight_24 : decode cX3_weight 24 = .ok (.isub, 1) := dk_100 (dk_at dksX3_weight_1 0 rfl rfl)
theorem dX3_weight_25 : decode cX3_weight 25 = .ok (.imul, 1) := dk_104 (dk_at dksX3_weight_1 1 rfl rfl)
theorem dX3_weight_26 : decode cX3_weight 26 = .ok (.bipush 100, 2) := dk_16 100 (dk_at dksX3_weight_1 2 rfl rfl)
theorem dX3_weight_28 : decode cX3_weight 28 = .ok (.idiv, 1) := dk_108 (dk_at dksX3_weight_1 4 rfl rfl)
theorem dX3_weight_29 : decode cX3_weight 29 = .ok (.ireturn, 1) := dk_172 (dk_at dksX3_weight_1 5 rfl rfl)
abbrev cX3_reached : ByteArray := prog_17_method_12_code
def yX3_reached : MethodName := ⟨RX3, "reached", "(II)I"⟩
def dkwX3_reached_2 : List UInt8 := [62, 132, 6, 1, 167, 255, 225, 29, 21, 5, 160, 0, 5, 29, 172, 132, 4, 1, 167, 255, 199, 29, 172]
abbrev dktX3_reached_2 : List UInt8 := dkwX3_reached_2 ++ []
def dkwX3_reached_1 : List UInt8 := [182, 0, 165, 162, 0, 28, 21, 5, 21, 6, 184, 0, 170, 153, 0, 12, 29, 42, 21, 6, 182, 0, 173, 128]
abbrev dktX3_reached_1 : List UInt8 := dkwX3_reached_1 ++ dktX3_reached_2
def dkwX3_reached_0 : List UInt8 := [4, 27, 120, 62, 3, 54, 4, 21, 4, 28, 162, 0, 57, 29, 54, 5, 3, 54, 6, 21, 6, 42]
abbrev dktX3_reached_0 : List UInt8 := dkwX3_reached_0 ++ dktX3_reached_1
theorem dksX3_reached_0 : cX3_reached.data.toList.drop 0 = dktX3_reached_0 := by decide +kernel
theorem dksX3_reached_1 : cX3_reached.data.toList.drop 22 = dktX3_reached_1 := dk_seg dksX3_reached_0 22 rfl rfl
theorem dksX3_reached_2 : cX3_reached.data.toList.drop 46 = dktX3_reached_2 := dk_seg dksX3_reached_1 24 rfl rfl
theorem dX3_reached_0 : decode cX3_reached 0 = .ok (.iconst 1, 1) := dk_4 (dk_at dksX3_reached_0 0 rfl rfl)
theorem dX3_reached_1 : decode cX3_reached 1 = .ok (.iload_n 1, 1) := dk_27 (dk_at dksX3_reached_0 1 rfl rfl)
theorem dX3_reached_2 : decode cX3_reached 2 = .ok (.ishl, 1) := dk_120 (dk_at dksX3_reached_0 2 rfl rfl)
theorem dX3_reached_3 : decode cX3_reached 3 = .ok (.istore_n 3, 1) := dk_62 (dk_at dksX3_reached_0 3 rfl rfl)
theorem dX3_reached_4 : decode cX3_reached 4 = .ok (.iconst 0, 1) := dk_3 (dk_at dksX3_reached_0 4 rfl rfl)
theorem dX3_reached_5 : decode cX3_reached 5 = .ok (.istore 4, 2) := dk_54 4 (dk_at dksX3_reached_0 5 rfl rfl)
theorem dX3_reached_7 : decode cX3_reached 7 = .ok (.iload 4, 2) := dk_21 4 (dk_at dksX3_reached_0 7 rfl rfl)
theorem dX3_reached_9 : decode cX3_reached 9 = .ok (.iload_n 2, 1) := dk_28 (dk_at dksX3_reached_0 9 rfl rfl)
theorem dX3_reached_10 : decode cX3_reached 10 = .ok (.if_icmp .ge 57, 3) := dk_162 0 57 (dk_at dksX3_reached_0 10 rfl rfl)
theorem dX3_reached_13 : decode cX3_reached 13 = .ok (.iload_n 3, 1) := dk_29 (dk_at dksX3_reached_0 13 rfl rfl)
theorem dX3_reached_14 : decode cX3_reached 14 = .ok (.istore 5, 2) := dk_54 5 (dk_at dksX3_reached_0 14 rfl rfl)
theorem dX3_reached_16 : decode cX3_reached 16 = .ok (.iconst 0, 1) := dk_3 (dk_at dksX3_reached_0 16 rfl rfl)
theorem dX3_reached_17 : decode cX3_reached 17 = .ok (.istore 6, 2) := dk_54 6 (dk_at dksX3_reached_0 17 rfl rfl)
theorem dX3_reached_19 : decode cX3_reached 19 = .ok (.iload 6, 2) := dk_21 6 (dk_at dksX3_reached_0 19 rfl rfl)
theorem dX3_reached_21 : decode cX3_reached 21 = .ok (.aload_n 0, 1) := dk_42 (dk_at dksX3_reached_0 21 rfl rfl)
theorem dX3_reached_22 : decode cX3_reached 22 = .ok (.invokevirtual 165, 3) := dk_182 0 165 (dk_at dksX3_reached_1 0 rfl rfl)
theorem dX3_reached_25 : decode cX3_reached 25 = .ok (.if_icmp .ge 28, 3) := dk_162 0 28 (dk_at dksX3_reached_1 3 rfl rfl)
theorem dX3_reached_28 : decode cX3_reached 28 = .ok (.iload 5, 2) := dk_21 5 (dk_at dksX3_reached_1 6 rfl rfl)
theorem dX3_reached_30 : decode cX3_reached 30 = .ok (.iload 6, 2) := dk_21 6 (dk_at dksX3_reached_1 8 rfl rfl)
theorem dX3_reached_32 : decode cX3_reached 32 = .ok (.invokestatic 170, 3) := dk_184 0 170 (dk_at dksX3_reached_1 10 rfl rfl)
theorem dX3_reached_35 : decode cX3_reached 35 = .ok (.ifCond .eq 12, 3) := dk_153 0 12 (dk_at dksX3_reached_1 13 rfl rfl)
theorem dX3_reached_38 : decode cX3_reached 38 = .ok (.iload_n 3, 1) := dk_29 (dk_at dksX3_reached_1 16 rfl rfl)
theorem dX3_reached_39 : decode cX3_reached 39 = .ok (.aload_n 0, 1) := dk_42 (dk_at dksX3_reached_1 17 rfl rfl)
theorem dX3_reached_40 : decode cX3_reached 40 = .ok (.iload 6, 2) := dk_21 6 (dk_at dksX3_reached_1 18 rfl rfl)
theorem dX3_reached_42 : decode cX3_reached 42 = .ok (.invokevirtual 173, 3) := dk_182 0 173 (dk_at dksX3_reached_1 20 rfl rfl)
theorem dX3_reached_45 : decode cX3_reached 45 = .ok (.ior, 1) := dk_128 (dk_at dksX3_reached_1 23 rfl rfl)
theorem dX3_reached_46 : decode cX3_reached 46 = .ok (.istore_n 3, 1) := dk_62 (dk_at dksX3_reached_2 0 rfl rfl)
theorem dX3_reached_47 : decode cX3_reached 47 = .ok (.iinc 6 1, 3) := dk_132 6 1 (dk_at dksX3_reached_2 1 rfl rfl)
theorem dX3_reached_50 : decode cX3_reached 50 = .ok (.goto (-31), 3) := dk_167 255 225 (dk_at dksX3_reached_2 4 rfl rfl)
theorem dX3_reached_53 : decode cX3_reached 53 = .ok (.iload_n 3, 1) := dk_29 (dk_at dksX3_reached_2 7 rfl rfl)
theorem dX3_reached_54 : decode cX3_reached 54 = .ok (.iload 5, 2) := dk_21 5 (dk_at dksX3_reached_2 8 rfl rfl)
theorem dX3_reached_56 : decode cX3_reached 56 = .ok (.if_icmp .ne 5, 3) := dk_160 0 5 (dk_at dksX3_reached_2 10 rfl rfl)
theorem dX3_reached_59 : decode cX3_reached 59 = .ok (.iload_n 3, 1) := dk_29 (dk_at dksX3_reached_2 13 rfl rfl)
theorem dX3_reached_60 : decode cX3_reached 60 = .ok (.ireturn, 1) := dk_172 (dk_at dksX3_reached_2 14 rfl rfl)
theorem dX3_reached_61 : decode cX3_reached 61 = .ok (.iinc 4 1, 3) := dk_132 4 1 (dk_at dksX3_reached_2 15 rfl rfl)
theorem dX3_reached_64 : decode cX3_reached 64 = .ok (.goto (-57), 3) := dk_167 255 199 (dk_at dksX3_reached_2 18 rfl rfl)
theorem dX3_reached_67 : decode cX3_reached 67 = .ok (.iload_n 3, 1) := dk_29 (dk_at dksX3_reached_2 21 rfl rfl)
theorem dX3_reached_68 : decode cX3_reached 68 = .ok (.ireturn, 1) := dk_172 (dk_at dksX3_reached_2 22 rfl rfl)
abbrev cX3_steps : ByteArray := prog_17_method_13_code
def yX3_steps : MethodName := ⟨RX3, "steps", "(II)I"⟩
def dkwX3_steps_1 : List UInt8 := [172, 132, 3, 1, 167, 255, 230, 2, 172]
abbrev dktX3_steps_1 : List UInt8 := dkwX3_steps_1 ++ []
def dkwX3_steps_0 : List UInt8 := [3, 62, 29, 42, 182, 0, 165, 162, 0, 24, 42, 27, 29, 182, 0, 176, 28, 184, 0, 170, 153, 0, 5, 29]
abbrev dktX3_steps_0 : List UInt8 := dkwX3_steps_0 ++ dktX3_steps_1
theorem dksX3_steps_0 : cX3_steps.data.toList.drop 0 = dktX3_steps_0 := by decide +kernel
theorem dksX3_steps_1 : cX3_steps.data.toList.drop 24 = dktX3_steps_1 := dk_seg dksX3_steps_0 24 rfl rfl
theorem dX3_steps_0 : decode cX3_steps 0 = .ok (.iconst 0, 1) := dk_3 (dk_at dksX3_steps_0 0 rfl rfl)
theorem dX3_steps_1 : decode cX3_steps 1 = .ok (.istore_n 3, 1) := dk_62 (dk_at dksX3_steps_0 1 rfl rfl)
theorem dX3_steps_2 : decode cX3_steps 2 = .ok (.iload_n 3, 1) := dk_29 (dk_at dksX3_steps_0 2 rfl rfl)
theorem dX3_steps_3 : decode cX3_steps 3 = .ok (.aload_n 0, 1) := dk_42 (dk_at dksX3_steps_0 3 rfl rfl)
theorem dX3_steps_4 : decode cX3_steps 4 = .ok (.invokevirtual 165, 3) := dk_182 0 165 (dk_at dksX3_steps_0 4 rfl rfl)
theorem dX3_steps_7 : decode cX3_steps 7 = .ok (.if_icmp .ge 24, 3) := dk_162 0 24 (dk_at dksX3_steps_0 7 rfl rfl)
theorem dX3_steps_10 : decode cX3_steps 10 = .ok (.aload_n 0, 1) := dk_42 (dk_at dksX3_steps_0 10 rfl rfl)
theorem dX3_steps_11 : decode cX3_steps 11 = .ok (.iload_n 1, 1) := dk_27 (dk_at dksX3_steps_0 11 rfl rfl)
theorem dX3_steps_12 : decode cX3_steps 12 = .ok (.iload_n 3, 1) := dk_29 (dk_at dksX3_steps_0 12 rfl rfl)
theorem dX3_steps_13 : decode cX3_steps 13 = .ok (.invokevirtual 176, 3) := dk_182 0 176 (dk_at dksX3_steps_0 13 rfl rfl)
theorem dX3_steps_16 : decode cX3_steps 16 = .ok (.iload_n 2, 1) := dk_28 (dk_at dksX3_steps_0 16 rfl rfl)
theorem dX3_steps_17 : decode cX3_steps 17 = .ok (.invokestatic 170, 3) := dk_184 0 170 (dk_at dksX3_steps_0 17 rfl rfl)
theorem dX3_steps_20 : decode cX3_steps 20 = .ok (.ifCond .eq 5, 3) := dk_153 0 5 (dk_at dksX3_steps_0 20 rfl rfl)
theorem dX3_steps_23 : decode cX3_steps 23 = .ok (.iload_n 3, 1) := dk_29 (dk_at dksX3_steps_0 23 rfl rfl)
theorem dX3_steps_24 : decode cX3_steps 24 = .ok (.ireturn, 1) := dk_172 (dk_at dksX3_steps_1 0 rfl rfl)
theorem dX3_steps_25 : decode cX3_steps 25 = .ok (.iinc 3 1, 3) := dk_132 3 1 (dk_at dksX3_steps_1 1 rfl rfl)
theorem dX3_steps_28 : decode cX3_steps 28 = .ok (.goto (-26), 3) := dk_167 255 230 (dk_at dksX3_steps_1 4 rfl rfl)
theorem dX3_steps_31 : decode cX3_steps 31 = .ok (.iconst (-1), 1) := dk_2 (dk_at dksX3_steps_1 7 rfl rfl)
theorem dX3_steps_32 : decode cX3_steps 32 = .ok (.ireturn, 1) := dk_172 (dk_at dksX3_steps_1 8 rfl rfl)
abbrev cX3_rules : ByteArray := prog_17_method_16_code
def yX3_rules : MethodName := ⟨RX3, "rules", "(I)I"⟩
def dkwX3_rules_2 : List UInt8 := [46, 158, 0, 7, 2, 167, 0, 4, 3, 172]
abbrev dktX3_rules_2 : List UInt8 := dkwX3_rules_2 ++ []
def dkwX3_rules_1 : List UInt8 := [42, 180, 0, 29, 27, 46, 42, 180, 0, 32, 27, 46, 96, 104, 161, 0, 5, 4, 172, 42, 180, 0, 32, 27]
abbrev dktX3_rules_1 : List UInt8 := dkwX3_rules_1 ++ dktX3_rules_2
def dkwX3_rules_0 : List UInt8 := [42, 180, 0, 29, 27, 46, 158, 0, 37, 16, 100, 42, 180, 0, 29, 27, 46, 104, 42, 180, 0, 18, 5, 46]
abbrev dktX3_rules_0 : List UInt8 := dkwX3_rules_0 ++ dktX3_rules_1
theorem dksX3_rules_0 : cX3_rules.data.toList.drop 0 = dktX3_rules_0 := by decide +kernel
theorem dksX3_rules_1 : cX3_rules.data.toList.drop 24 = dktX3_rules_1 := dk_seg dksX3_rules_0 24 rfl rfl
theorem dksX3_rules_2 : cX3_rules.data.toList.drop 48 = dktX3_rules_2 := dk_seg dksX3_rules_1 24 rfl rfl
theorem dX3_rules_0 : decode cX3_rules 0 = .ok (.aload_n 0, 1) := dk_42 (dk_at dksX3_rules_0 0 rfl rfl)
theorem dX3_rules_1 : decode cX3_rules 1 = .ok (.getfield 29, 3) := dk_180 0 29 (dk_at dksX3_rules_0 1 rfl rfl)
theorem dX3_rules_4 : decode cX3_rules 4 = .ok (.iload_n 1, 1) := dk_27 (dk_at dksX3_rules_0 4 rfl rfl)
theorem dX3_rules_5 : decode cX3_rules 5 = .ok (.iaload, 1) := dk_46 (dk_at dksX3_rules_0 5 rfl rfl)
theorem dX3_rules_6 : decode cX3_rules 6 = .ok (.ifCond .le 37, 3) := dk_158 0 37 (dk_at dksX3_rules_0 6 rfl rfl)
theorem dX3_rules_9 : decode cX3_rules 9 = .ok (.bipush 100, 2) := dk_16 100 (dk_at dksX3_rules_0 9 rfl rfl)
theorem dX3_rules_11 : decode cX3_rules 11 = .ok (.aload_n 0, 1) := dk_42 (dk_at dksX3_rules_0 11 rfl rfl)
theorem dX3_rules_12 : decode cX3_rules 12 = .ok (.getfield 29, 3) := dk_180 0 29 (dk_at dksX3_rules_0 12 rfl rfl)
theorem dX3_rules_15 : decode cX3_rules 15 = .ok (.iload_n 1, 1) := dk_27 (dk_at dksX3_rules_0 15 rfl rfl)
theorem dX3_rules_16 : decode cX3_rules 16 = .ok (.iaload, 1) := dk_46 (dk_at dksX3_rules_0 16 rfl rfl)
theorem dX3_rules_17 : decode cX3_rules 17 = .ok (.imul, 1) := dk_104 (dk_at dksX3_rules_0 17 rfl rfl)
theorem dX3_rules_18 : decode cX3_rules 18 = .ok (.aload_n 0, 1) := dk_42 (dk_at dksX3_rules_0 18 rfl rfl)
theorem dX3_rules_19 : decode cX3_rules 19 = .ok (.getfield 18, 3) := dk_180 0 18 (dk_at dksX3_rules_0 19 rfl rfl)
theorem dX3_rules_22 : decode cX3_rules 22 = .ok (.iconst 2, 1) := dk_5 (dk_at dksX3_rules_0 22 rfl rfl)
theorem dX3_rules_23 : decode cX3_rules 23 = .ok (.iaload, 1) := dk_46 (dk_at dksX3_rules_0 23 rfl rfl)
theorem dX3_rules_24 : decode cX3_rules 24 = .ok (.aload_n 0, 1) := dk_42 (dk_at dksX3_rules_1 0 rfl rfl)
theorem dX3_rules_25 : decode cX3_rules 25 = .ok (.getfield 29, 3) := dk_180 0 29 (dk_at dksX3_rules_1 1 rfl rfl)
theorem dX3_rules_28 : decode cX3_rules 28 = .ok (.iload_n 1, 1) := dk_27 (dk_at dksX3_rules_1 4 rfl rfl)
theorem dX3_rules_29 : decode cX3_rules 29 = .ok (.iaload, 1) := dk_46 (dk_at dksX3_rules_1 5 rfl rfl)
theorem dX3_rules_30 : decode cX3_rules 30 = .ok (.aload_n 0, 1) := dk_42 (dk_at dksX3_rules_1 6 rfl rfl)
theorem dX3_rules_31 : decode cX3_rules 31 = .ok (.getfield 32, 3) := dk_180 0 32 (dk_at dksX3_rules_1 7 rfl rfl)
theorem dX3_rules_34 : decode cX3_rules 34 = .ok (.iload_n 1, 1) := dk_27 (dk_at dksX3_rules_1 10 rfl rfl)
theorem dX3_rules_35 : decode cX3_rules 35 = .ok (.iaload, 1) := dk_46 (dk_at dksX3_rules_1 11 rfl rfl)
theorem dX3_rules_36 : decode cX3_rules 36 = .ok (.iadd, 1) := dk_96 (dk_at dksX3_rules_1 12 rfl rfl)
theorem dX3_rules_37 : decode cX3_rules 37 = .ok (.imul, 1) := dk_104 (dk_at dksX3_rules_1 13 rfl rfl)
theorem dX3_rules_38 : decode cX3_rules 38 = .ok (.if_icmp .lt 5, 3) := dk_161 0 5 (dk_at dksX3_rules_1 14 rfl rfl)
theorem dX3_rules_41 : decode cX3_rules 41 = .ok (.iconst 1, 1) := dk_4 (dk_at dksX3_rules_1 17 rfl rfl)
theorem dX3_rules_42 : decode cX3_rules 42 = .ok (.ireturn, 1) := dk_172 (dk_at dksX3_rules_1 18 rfl rfl)
theorem dX3_rules_43 : decode cX3_rules 43 = .ok (.aload_n 0, 1) := dk_42 (dk_at dksX3_rules_1 19 rfl rfl)
theorem dX3_rules_44 : decode cX3_rules 44 = .ok (.getfield 32, 3) := dk_180 0 32 (dk_at dksX3_rules_1 20 rfl rfl)
theorem dX3_rules_47 : decode cX3_rules 47 = .ok (.iload_n 1, 1) := dk_27 (dk_at dksX3_rules_1 23 rfl rfl)
theorem dX3_rules_48 : decode cX3_rules 48 = .ok (.iaload, 1) := dk_46 (dk_at dksX3_rules_2 0 rfl rfl)
theorem dX3_rules_49 : decode cX3_rules 49 = .ok (.ifCond .le 7, 3) := dk_158 0 7 (dk_at dksX3_rules_2 1 rfl rfl)
theorem dX3_rules_52 : decode cX3_rules 52 = .ok (.iconst (-1), 1) := dk_2 (dk_at dksX3_rules_2 4 rfl rfl)
theorem dX3_rules_53 : decode cX3_rules 53 = .ok (.goto 4, 3) := dk_167 0 4 (dk_at dksX3_rules_2 5 rfl rfl)
theorem dX3_rules_56 : decode cX3_rules 56 = .ok (.iconst 0, 1) := dk_3 (dk_at dksX3_rules_2 8 rfl rfl)
theorem dX3_rules_57 : decode cX3_rules 57 = .ok (.ireturn, 1) := dk_172 (dk_at dksX3_rules_2 9 rfl rfl)
abbrev cX3_tellsClosed : ByteArray := prog_17_method_27_code
def yX3_tellsClosed : MethodName := ⟨RX3, "tellsClosed", "(II)Z"⟩
def dkwX3_tellsClosed_1 : List UInt8 := [182, 1, 19, 126, 184, 1, 22, 104, 29, 184, 1, 22, 164, 0, 7, 4, 167, 0, 4, 3, 172]
abbrev dktX3_tellsClosed_1 : List UInt8 := dkwX3_tellsClosed_1 ++ []
def dkwX3_tellsClosed_0 : List UInt8 := [42, 27, 182, 0, 173, 62, 42, 27, 182, 0, 153, 28, 182, 0, 220, 154, 0, 22, 5, 29, 42, 28]
abbrev dktX3_tellsClosed_0 : List UInt8 := dkwX3_tellsClosed_0 ++ dktX3_tellsClosed_1
theorem dksX3_tellsClosed_0 : cX3_tellsClosed.data.toList.drop 0 = dktX3_tellsClosed_0 := by decide +kernel
theorem dksX3_tellsClosed_1 : cX3_tellsClosed.data.toList.drop 22 = dktX3_tellsClosed_1 := dk_seg dksX3_tellsClosed_0 22 rfl rfl
theorem dX3_tellsClosed_0 : decode cX3_tellsClosed 0 = .ok (.aload_n 0, 1) := dk_42 (dk_at dksX3_tellsClosed_0 0 rfl rfl)
theorem dX3_tellsClosed_1 : decode cX3_tellsClosed 1 = .ok (.iload_n 1, 1) := dk_27 (dk_at dksX3_tellsClosed_0 1 rfl rfl)
theorem dX3_tellsClosed_2 : decode cX3_tellsClosed 2 = .ok (.invokevirtual 173, 3) := dk_182 0 173 (dk_at dksX3_tellsClosed_0 2 rfl rfl)
theorem dX3_tellsClosed_5 : decode cX3_tellsClosed 5 = .ok (.istore_n 3, 1) := dk_62 (dk_at dksX3_tellsClosed_0 5 rfl rfl)
theorem dX3_tellsClosed_6 : decode cX3_tellsClosed 6 = .ok (.aload_n 0, 1) := dk_42 (dk_at dksX3_tellsClosed_0 6 rfl rfl)
theorem dX3_tellsClosed_7 : decode cX3_tellsClosed 7 = .ok (.iload_n 1, 1) := dk_27 (dk_at dksX3_tellsClosed_0 7 rfl rfl)
theorem dX3_tellsClosed_8 : decode cX3_tellsClosed 8 = .ok (.invokevirtual 153, 3) := dk_182 0 153 (dk_at dksX3_tellsClosed_0 8 rfl rfl)
theorem dX3_tellsClosed_11 : decode cX3_tellsClosed 11 = .ok (.iload_n 2, 1) := dk_28 (dk_at dksX3_tellsClosed_0 11 rfl rfl)
theorem dX3_tellsClosed_12 : decode cX3_tellsClosed 12 = .ok (.invokevirtual 220, 3) := dk_182 0 220 (dk_at dksX3_tellsClosed_0 12 rfl rfl)
theorem dX3_tellsClosed_15 : decode cX3_tellsClosed 15 = .ok (.ifCond .ne 22, 3) := dk_154 0 22 (dk_at dksX3_tellsClosed_0 15 rfl rfl)
theorem dX3_tellsClosed_18 : decode cX3_tellsClosed 18 = .ok (.iconst 2, 1) := dk_5 (dk_at dksX3_tellsClosed_0 18 rfl rfl)
theorem dX3_tellsClosed_19 : decode cX3_tellsClosed 19 = .ok (.iload_n 3, 1) := dk_29 (dk_at dksX3_tellsClosed_0 19 rfl rfl)
theorem dX3_tellsClosed_20 : decode cX3_tellsClosed 20 = .ok (.aload_n 0, 1) := dk_42 (dk_at dksX3_tellsClosed_0 20 rfl rfl)
theorem dX3_tellsClosed_21 : decode cX3_tellsClosed 21 = .ok (.iload_n 2, 1) := dk_28 (dk_at dksX3_tellsClosed_0 21 rfl rfl)
theorem dX3_tellsClosed_22 : decode cX3_tellsClosed 22 = .ok (.invokevirtual 275, 3) := dk_182 1 19 (dk_at dksX3_tellsClosed_1 0 rfl rfl)
theorem dX3_tellsClosed_25 : decode cX3_tellsClosed 25 = .ok (.iand, 1) := dk_126 (dk_at dksX3_tellsClosed_1 3 rfl rfl)
theorem dX3_tellsClosed_26 : decode cX3_tellsClosed 26 = .ok (.invokestatic 278, 3) := dk_184 1 22 (dk_at dksX3_tellsClosed_1 4 rfl rfl)
theorem dX3_tellsClosed_29 : decode cX3_tellsClosed 29 = .ok (.imul, 1) := dk_104 (dk_at dksX3_tellsClosed_1 7 rfl rfl)
theorem dX3_tellsClosed_30 : decode cX3_tellsClosed 30 = .ok (.iload_n 3, 1) := dk_29 (dk_at dksX3_tellsClosed_1 8 rfl rfl)
theorem dX3_tellsClosed_31 : decode cX3_tellsClosed 31 = .ok (.invokestatic 278, 3) := dk_184 1 22 (dk_at dksX3_tellsClosed_1 9 rfl rfl)
theorem dX3_tellsClosed_34 : decode cX3_tellsClosed 34 = .ok (.if_icmp .le 7, 3) := dk_164 0 7 (dk_at dksX3_tellsClosed_1 12 rfl rfl)
theorem dX3_tellsClosed_37 : decode cX3_tellsClosed 37 = .ok (.iconst 1, 1) := dk_4 (dk_at dksX3_tellsClosed_1 15 rfl rfl)
theorem dX3_tellsClosed_38 : decode cX3_tellsClosed 38 = .ok (.goto 4, 3) := dk_167 0 4 (dk_at dksX3_tellsClosed_1 16 rfl rfl)
theorem dX3_tellsClosed_41 : decode cX3_tellsClosed 41 = .ok (.iconst 0, 1) := dk_3 (dk_at dksX3_tellsClosed_1 19 rfl rfl)
theorem dX3_tellsClosed_42 : decode cX3_tellsClosed 42 = .ok (.ireturn, 1) := dk_172 (dk_at dksX3_tellsClosed_1 20 rfl rfl)
abbrev cX3_init_2 : ByteArray := prog_17_method_2_code
def yX3_init_2 : MethodName := ⟨RX3, "<init>", "(LFlareSlopes$State;)V"⟩
def dkwX3_init_2_9 : List UInt8 := [42, 43, 180, 0, 117, 181, 0, 117, 42, 43, 180, 0, 120, 181, 0, 120, 177]
abbrev dktX3_init_2_9 : List UInt8 := dkwX3_init_2_9 ++ []
def dkwX3_init_2_8 : List UInt8 := [42, 43, 180, 0, 108, 181, 0, 108, 42, 43, 180, 0, 111, 181, 0, 111, 42, 43, 180, 0, 114, 181, 0, 114]
abbrev dktX3_init_2_8 : List UInt8 := dkwX3_init_2_8 ++ dktX3_init_2_9
def dkwX3_init_2_7 : List UInt8 := [42, 43, 180, 0, 98, 181, 0, 98, 42, 43, 180, 0, 102, 181, 0, 102, 42, 43, 180, 0, 105, 181, 0, 105]
abbrev dktX3_init_2_7 : List UInt8 := dkwX3_init_2_7 ++ dktX3_init_2_8
def dkwX3_init_2_6 : List UInt8 := [153, 0, 24, 44, 185, 0, 84, 1, 0, 192, 0, 92, 78, 42, 180, 0, 25, 45, 182, 0, 94, 167, 255, 229]
abbrev dktX3_init_2_6 : List UInt8 := dkwX3_init_2_6 ++ dktX3_init_2_7
def dkwX3_init_2_5 : List UInt8 := [185, 0, 68, 2, 0, 87, 167, 255, 219, 43, 180, 0, 25, 182, 0, 91, 77, 44, 185, 0, 78, 1, 0]
abbrev dktX3_init_2_5 : List UInt8 := dkwX3_init_2_5 ++ dktX3_init_2_6
def dkwX3_init_2_4 : List UInt8 := [185, 0, 84, 1, 0, 192, 0, 57, 78, 42, 180, 0, 12, 187, 0, 57, 89, 45, 183, 0, 88]
abbrev dktX3_init_2_4 : List UInt8 := dkwX3_init_2_4 ++ dktX3_init_2_5
def dkwX3_init_2_3 : List UInt8 := [184, 0, 42, 43, 180, 0, 12, 185, 0, 74, 1, 0, 77, 44, 185, 0, 78, 1, 0, 153, 0, 34, 44]
abbrev dktX3_init_2_3 : List UInt8 := dkwX3_init_2_3 ++ dktX3_init_2_4
def dkwX3_init_2_2 : List UInt8 := [181, 0, 32, 42, 43, 180, 0, 35, 181, 0, 35, 43, 180, 0, 18, 3, 42, 180, 0, 18, 3, 16, 6]
abbrev dktX3_init_2_2 : List UInt8 := dkwX3_init_2_2 ++ dktX3_init_2_3
def dkwX3_init_2_1 : List UInt8 := [187, 0, 22, 89, 183, 0, 24, 181, 0, 25, 42, 16, 8, 188, 10, 181, 0, 29, 42, 16, 8, 188, 10]
abbrev dktX3_init_2_1 : List UInt8 := dkwX3_init_2_1 ++ dktX3_init_2_2
def dkwX3_init_2_0 : List UInt8 := [42, 183, 0, 3, 42, 187, 0, 9, 89, 183, 0, 11, 181, 0, 12, 42, 16, 6, 188, 10, 181, 0, 18, 42]
abbrev dktX3_init_2_0 : List UInt8 := dkwX3_init_2_0 ++ dktX3_init_2_1
theorem dksX3_init_2_0 : cX3_init_2.data.toList.drop 0 = dktX3_init_2_0 := by decide +kernel
theorem dksX3_init_2_1 : cX3_init_2.data.toList.drop 24 = dktX3_init_2_1 := dk_seg dksX3_init_2_0 24 rfl rfl
theorem dksX3_init_2_2 : cX3_init_2.data.toList.drop 47 = dktX3_init_2_2 := dk_seg dksX3_init_2_1 23 rfl rfl
theorem dksX3_init_2_3 : cX3_init_2.data.toList.drop 70 = dktX3_init_2_3 := dk_seg dksX3_init_2_2 23 rfl rfl
theorem dksX3_init_2_4 : cX3_init_2.data.toList.drop 93 = dktX3_init_2_4 := dk_seg dksX3_init_2_3 23 rfl rfl
theorem dksX3_init_2_5 : cX3_init_2.data.toList.drop 114 = dktX3_init_2_5 := dk_seg dksX3_init_2_4 21 rfl rfl
theorem dksX3_init_2_6 : cX3_init_2.data.toList.drop 137 = dktX3_init_2_6 := dk_seg dksX3_init_2_5 23 rfl rfl
theorem dksX3_init_2_7 : cX3_init_2.data.toList.drop 161 = dktX3_init_2_7 := dk_seg dksX3_init_2_6 24 rfl rfl
theorem dksX3_init_2_8 : cX3_init_2.data.toList.drop 185 = dktX3_init_2_8 := dk_seg dksX3_init_2_7 24 rfl rfl
theorem dksX3_init_2_9 : cX3_init_2.data.toList.drop 209 = dktX3_init_2_9 := dk_seg dksX3_init_2_8 24 rfl rfl
theorem dX3_init_2_0 : decode cX3_init_2 0 = .ok (.aload_n 0, 1) := dk_42 (dk_at dksX3_init_2_0 0 rfl rfl)
theorem dX3_init_2_1 : decode cX3_init_2 1 = .ok (.invokespecial 3, 3) := dk_183 0 3 (dk_at dksX3_init_2_0 1 rfl rfl)
theorem dX3_init_2_4 : decode cX3_init_2 4 = .ok (.aload_n 0, 1) := dk_42 (dk_at dksX3_init_2_0 4 rfl rfl)
theorem dX3_init_2_5 : decode cX3_init_2 5 = .ok (.new 9, 3) := dk_187 0 9 (dk_at dksX3_init_2_0 5 rfl rfl)
theorem dX3_init_2_8 : decode cX3_init_2 8 = .ok (.dup, 1) := dk_89 (dk_at dksX3_init_2_0 8 rfl rfl)
theorem dX3_init_2_9 : decode cX3_init_2 9 = .ok (.invokespecial 11, 3) := dk_183 0 11 (dk_at dksX3_init_2_0 9 rfl rfl)
theorem dX3_init_2_12 : decode cX3_init_2 12 = .ok (.putfield 12, 3) := dk_181 0 12 (dk_at dksX3_init_2_0 12 rfl rfl)
theorem dX3_init_2_15 : decode cX3_init_2 15 = .ok (.aload_n 0, 1) := dk_42 (dk_at dksX3_init_2_0 15 rfl rfl)
theorem dX3_init_2_16 : decode cX3_init_2 16 = .ok (.bipush 6, 2) := dk_16 6 (dk_at dksX3_init_2_0 16 rfl rfl)
theorem dX3_init_2_18 : decode cX3_init_2 18 = .ok (.newarray .int, 2) := dk_188_10 (dk_at dksX3_init_2_0 18 rfl rfl)
theorem dX3_init_2_20 : decode cX3_init_2 20 = .ok (.putfield 18, 3) := dk_181 0 18 (dk_at dksX3_init_2_0 20 rfl rfl)
theorem dX3_init_2_23 : decode cX3_init_2 23 = .ok (.aload_n 0, 1) := dk_42 (dk_at dksX3_init_2_0 23 rfl rfl)
theorem dX3_init_2_24 : decode cX3_init_2 24 = .ok (.new 22, 3) := dk_187 0 22 (dk_at dksX3_init_2_1 0 rfl rfl)
theorem dX3_init_2_27 : decode cX3_init_2 27 = .ok (.dup, 1) := dk_89 (dk_at dksX3_init_2_1 3 rfl rfl)
theorem dX3_init_2_28 : decode cX3_init_2 28 = .ok (.invokespecial 24, 3) := dk_183 0 24 (dk_at dksX3_init_2_1 4 rfl rfl)
theorem dX3_init_2_31 : decode cX3_init_2 31 = .ok (.putfield 25, 3) := dk_181 0 25 (dk_at dksX3_init_2_1 7 rfl rfl)
theorem dX3_init_2_34 : decode cX3_init_2 34 = .ok (.aload_n 0, 1) := dk_42 (dk_at dksX3_init_2_1 10 rfl rfl)
theorem dX3_init_2_35 : decode cX3_init_2 35 = .ok (.bipush 8, 2) := dk_16 8 (dk_at dksX3_init_2_1 11 rfl rfl)
theorem dX3_init_2_37 : decode cX3_init_2 37 = .ok (.newarray .int, 2) := dk_188_10 (dk_at dksX3_init_2_1 13 rfl rfl)
theorem dX3_init_2_39 : decode cX3_init_2 39 = .ok (.putfield 29, 3) := dk_181 0 29 (dk_at dksX3_init_2_1 15 rfl rfl)
theorem dX3_init_2_42 : decode cX3_init_2 42 = .ok (.aload_n 0, 1) := dk_42 (dk_at dksX3_init_2_1 18 rfl rfl)
theorem dX3_init_2_43 : decode cX3_init_2 43 = .ok (.bipush 8, 2) := dk_16 8 (dk_at dksX3_init_2_1 19 rfl rfl)
theorem dX3_init_2_45 : decode cX3_init_2 45 = .ok (.newarray .int, 2) := dk_188_10 (dk_at dksX3_init_2_1 21 rfl rfl)
theorem dX3_init_2_47 : decode cX3_init_2 47 = .ok (.putfield 32, 3) := dk_181 0 32 (dk_at dksX3_init_2_2 0 rfl rfl)
theorem dX3_init_2_50 : decode cX3_init_2 50 = .ok (.aload_n 0, 1) := dk_42 (dk_at dksX3_init_2_2 3 rfl rfl)
theorem dX3_init_2_51 : decode cX3_init_2 51 = .ok (.aload_n 1, 1) := dk_43 (dk_at dksX3_init_2_2 4 rfl rfl)
theorem dX3_init_2_52 : decode cX3_init_2 52 = .ok (.getfield 35, 3) := dk_180 0 35 (dk_at dksX3_init_2_2 5 rfl rfl)
theorem dX3_init_2_55 : decode cX3_init_2 55 = .ok (.putfield 35, 3) := dk_181 0 35 (dk_at dksX3_init_2_2 8 rfl rfl)
theorem dX3_init_2_58 : decode cX3_init_2 58 = .ok (.aload_n 1, 1) := dk_43 (dk_at dksX3_init_2_2 11 rfl rfl)
theorem dX3_init_2_59 : decode cX3_init_2 59 = .ok (.getfield 18, 3) := dk_180 0 18 (dk_at dksX3_init_2_2 12 rfl rfl)
theorem dX3_init_2_62 : decode cX3_init_2 62 = .ok (.iconst 0, 1) := dk_3 (dk_at dksX3_init_2_2 15 rfl rfl)
theorem dX3_init_2_63 : decode cX3_init_2 63 = .ok (.aload_n 0, 1) := dk_42 (dk_at dksX3_init_2_2 16 rfl rfl)
theorem dX3_init_2_64 : decode cX3_init_2 64 = .ok (.getfield 18, 3) := dk_180 0 18 (dk_at dksX3_init_2_2 17 rfl rfl)
theorem dX3_init_2_67 : decode cX3_init_2 67 = .ok (.iconst 0, 1) := dk_3 (dk_at dksX3_init_2_2 20 rfl rfl)
theorem dX3_init_2_68 : decode cX3_init_2 68 = .ok (.bipush 6, 2) := dk_16 6 (dk_at dksX3_init_2_2 21 rfl rfl)
theorem dX3_init_2_70 : decode cX3_init_2 70 = .ok (.invokestatic 42, 3) := dk_184 0 42 (dk_at dksX3_init_2_3 0 rfl rfl)
theorem dX3_init_2_73 : decode cX3_init_2 73 = .ok (.aload_n 1, 1) := dk_43 (dk_at dksX3_init_2_3 3 rfl rfl)
theorem dX3_init_2_74 : decode cX3_init_2 74 = .ok (.getfield 12, 3) := dk_180 0 12 (dk_at dksX3_init_2_3 4 rfl rfl)
theorem dX3_init_2_77 : decode cX3_init_2 77 = .ok (.invokeinterface 74 1, 5) := by decide +kernel
theorem dX3_init_2_82 : decode cX3_init_2 82 = .ok (.astore_n 2, 1) := dk_77 (dk_at dksX3_init_2_3 12 rfl rfl)
theorem dX3_init_2_83 : decode cX3_init_2 83 = .ok (.aload_n 2, 1) := dk_44 (dk_at dksX3_init_2_3 13 rfl rfl)
theorem dX3_init_2_84 : decode cX3_init_2 84 = .ok (.invokeinterface 78 1, 5) := by decide +kernel
theorem dX3_init_2_89 : decode cX3_init_2 89 = .ok (.ifCond .eq 34, 3) := dk_153 0 34 (dk_at dksX3_init_2_3 19 rfl rfl)
theorem dX3_init_2_92 : decode cX3_init_2 92 = .ok (.aload_n 2, 1) := dk_44 (dk_at dksX3_init_2_3 22 rfl rfl)
theorem dX3_init_2_93 : decode cX3_init_2 93 = .ok (.invokeinterface 84 1, 5) := by decide +kernel
theorem dX3_init_2_98 : decode cX3_init_2 98 = .ok (.checkcast 57, 3) := dk_192 0 57 (dk_at dksX3_init_2_4 5 rfl rfl)
theorem dX3_init_2_101 : decode cX3_init_2 101 = .ok (.astore_n 3, 1) := dk_78 (dk_at dksX3_init_2_4 8 rfl rfl)
theorem dX3_init_2_102 : decode cX3_init_2 102 = .ok (.aload_n 0, 1) := dk_42 (dk_at dksX3_init_2_4 9 rfl rfl)
theorem dX3_init_2_103 : decode cX3_init_2 103 = .ok (.getfield 12, 3) := dk_180 0 12 (dk_at dksX3_init_2_4 10 rfl rfl)
theorem dX3_init_2_106 : decode cX3_init_2 106 = .ok (.new 57, 3) := dk_187 0 57 (dk_at dksX3_init_2_4 13 rfl rfl)
theorem dX3_init_2_109 : decode cX3_init_2 109 = .ok (.dup, 1) := dk_89 (dk_at dksX3_init_2_4 16 rfl rfl)
theorem dX3_init_2_110 : decode cX3_init_2 110 = .ok (.aload_n 3, 1) := dk_45 (dk_at dksX3_init_2_4 17 rfl rfl)
theorem dX3_init_2_111 : decode cX3_init_2 111 = .ok (.invokespecial 88, 3) := dk_183 0 88 (dk_at dksX3_init_2_4 18 rfl rfl)
theorem dX3_init_2_114 : decode cX3_init_2 114 = .ok (.invokeinterface 68 2, 5) := by decide +kernel
theorem dX3_init_2_119 : decode cX3_init_2 119 = .ok (.pop, 1) := dk_87 (dk_at dksX3_init_2_5 5 rfl rfl)
theorem dX3_init_2_120 : decode cX3_init_2 120 = .ok (.goto (-37), 3) := dk_167 255 219 (dk_at dksX3_init_2_5 6 rfl rfl)
theorem dX3_init_2_123 : decode cX3_init_2 123 = .ok (.aload_n 1, 1) := dk_43 (dk_at dksX3_init_2_5 9 rfl rfl)
theorem dX3_init_2_124 : decode cX3_init_2 124 = .ok (.getfield 25, 3) := dk_180 0 25 (dk_at dksX3_init_2_5 10 rfl rfl)
theorem dX3_init_2_127 : decode cX3_init_2 127 = .ok (.invokevirtual 91, 3) := dk_182 0 91 (dk_at dksX3_init_2_5 13 rfl rfl)
theorem dX3_init_2_130 : decode cX3_init_2 130 = .ok (.astore_n 2, 1) := dk_77 (dk_at dksX3_init_2_5 16 rfl rfl)
theorem dX3_init_2_131 : decode cX3_init_2 131 = .ok (.aload_n 2, 1) := dk_44 (dk_at dksX3_init_2_5 17 rfl rfl)
theorem dX3_init_2_132 : decode cX3_init_2 132 = .ok (.invokeinterface 78 1, 5) := by decide +kernel
theorem dX3_init_2_137 : decode cX3_init_2 137 = .ok (.ifCond .eq 24, 3) := dk_153 0 24 (dk_at dksX3_init_2_6 0 rfl rfl)
theorem dX3_init_2_140 : decode cX3_init_2 140 = .ok (.aload_n 2, 1) := dk_44 (dk_at dksX3_init_2_6 3 rfl rfl)
theorem dX3_init_2_141 : decode cX3_init_2 141 = .ok (.invokeinterface 84 1, 5) := by decide +kernel
theorem dX3_init_2_146 : decode cX3_init_2 146 = .ok (.checkcast 92, 3) := dk_192 0 92 (dk_at dksX3_init_2_6 9 rfl rfl)
theorem dX3_init_2_149 : decode cX3_init_2 149 = .ok (.astore_n 3, 1) := dk_78 (dk_at dksX3_init_2_6 12 rfl rfl)
theorem dX3_init_2_150 : decode cX3_init_2 150 = .ok (.aload_n 0, 1) := dk_42 (dk_at dksX3_init_2_6 13 rfl rfl)
theorem dX3_init_2_151 : decode cX3_init_2 151 = .ok (.getfield 25, 3) := dk_180 0 25 (dk_at dksX3_init_2_6 14 rfl rfl)
theorem dX3_init_2_154 : decode cX3_init_2 154 = .ok (.aload_n 3, 1) := dk_45 (dk_at dksX3_init_2_6 17 rfl rfl)
theorem dX3_init_2_155 : decode cX3_init_2 155 = .ok (.invokevirtual 94, 3) := dk_182 0 94 (dk_at dksX3_init_2_6 18 rfl rfl)
theorem dX3_init_2_158 : decode cX3_init_2 158 = .ok (.goto (-27), 3) := dk_167 255 229 (dk_at dksX3_init_2_6 21 rfl rfl)
theorem dX3_init_2_161 : decode cX3_init_2 161 = .ok (.aload_n 0, 1) := dk_42 (dk_at dksX3_init_2_7 0 rfl rfl)
theorem dX3_init_2_162 : decode cX3_init_2 162 = .ok (.aload_n 1, 1) := dk_43 (dk_at dksX3_init_2_7 1 rfl rfl)
theorem dX3_init_2_163 : decode cX3_init_2 163 = .ok (.getfield 98, 3) := dk_180 0 98 (dk_at dksX3_init_2_7 2 rfl rfl)
theorem dX3_init_2_166 : decode cX3_init_2 166 = .ok (.putfield 98, 3) := dk_181 0 98 (dk_at dksX3_init_2_7 5 rfl rfl)
theorem dX3_init_2_169 : decode cX3_init_2 169 = .ok (.aload_n 0, 1) := dk_42 (dk_at dksX3_init_2_7 8 rfl rfl)
theorem dX3_init_2_170 : decode cX3_init_2 170 = .ok (.aload_n 1, 1) := dk_43 (dk_at dksX3_init_2_7 9 rfl rfl)
theorem dX3_init_2_171 : decode cX3_init_2 171 = .ok (.getfield 102, 3) := dk_180 0 102 (dk_at dksX3_init_2_7 10 rfl rfl)
theorem dX3_init_2_174 : decode cX3_init_2 174 = .ok (.putfield 102, 3) := dk_181 0 102 (dk_at dksX3_init_2_7 13 rfl rfl)
theorem dX3_init_2_177 : decode cX3_init_2 177 = .ok (.aload_n 0, 1) := dk_42 (dk_at dksX3_init_2_7 16 rfl rfl)
theorem dX3_init_2_178 : decode cX3_init_2 178 = .ok (.aload_n 1, 1) := dk_43 (dk_at dksX3_init_2_7 17 rfl rfl)
theorem dX3_init_2_179 : decode cX3_init_2 179 = .ok (.getfield 105, 3) := dk_180 0 105 (dk_at dksX3_init_2_7 18 rfl rfl)
theorem dX3_init_2_182 : decode cX3_init_2 182 = .ok (.putfield 105, 3) := dk_181 0 105 (dk_at dksX3_init_2_7 21 rfl rfl)
theorem dX3_init_2_185 : decode cX3_init_2 185 = .ok (.aload_n 0, 1) := dk_42 (dk_at dksX3_init_2_8 0 rfl rfl)
theorem dX3_init_2_186 : decode cX3_init_2 186 = .ok (.aload_n 1, 1) := dk_43 (dk_at dksX3_init_2_8 1 rfl rfl)
theorem dX3_init_2_187 : decode cX3_init_2 187 = .ok (.getfield 108, 3) := dk_180 0 108 (dk_at dksX3_init_2_8 2 rfl rfl)
theorem dX3_init_2_190 : decode cX3_init_2 190 = .ok (.putfield 108, 3) := dk_181 0 108 (dk_at dksX3_init_2_8 5 rfl rfl)
theorem dX3_init_2_193 : decode cX3_init_2 193 = .ok (.aload_n 0, 1) := dk_42 (dk_at dksX3_init_2_8 8 rfl rfl)
theorem dX3_init_2_194 : decode cX3_init_2 194 = .ok (.aload_n 1, 1) := dk_43 (dk_at dksX3_init_2_8 9 rfl rfl)
theorem dX3_init_2_195 : decode cX3_init_2 195 = .ok (.getfield 111, 3) := dk_180 0 111 (dk_at dksX3_init_2_8 10 rfl rfl)
theorem dX3_init_2_198 : decode cX3_init_2 198 = .ok (.putfield 111, 3) := dk_181 0 111 (dk_at dksX3_init_2_8 13 rfl rfl)
theorem dX3_init_2_201 : decode cX3_init_2 201 = .ok (.aload_n 0, 1) := dk_42 (dk_at dksX3_init_2_8 16 rfl rfl)
theorem dX3_init_2_202 : decode cX3_init_2 202 = .ok (.aload_n 1, 1) := dk_43 (dk_at dksX3_init_2_8 17 rfl rfl)
theorem dX3_init_2_203 : decode cX3_init_2 203 = .ok (.getfield 114, 3) := dk_180 0 114 (dk_at dksX3_init_2_8 18 rfl rfl)
theorem dX3_init_2_206 : decode cX3_init_2 206 = .ok (.putfield 114, 3) := dk_181 0 114 (dk_at dksX3_init_2_8 21 rfl rfl)
theorem dX3_init_2_209 : decode cX3_init_2 209 = .ok (.aload_n 0, 1) := dk_42 (dk_at dksX3_init_2_9 0 rfl rfl)
theorem dX3_init_2_210 : decode cX3_init_2 210 = .ok (.aload_n 1, 1) := dk_43 (dk_at dksX3_init_2_9 1 rfl rfl)
theorem dX3_init_2_211 : decode cX3_init_2 211 = .ok (.getfield 117, 3) := dk_180 0 117 (dk_at dksX3_init_2_9 2 rfl rfl)
theorem dX3_init_2_214 : decode cX3_init_2 214 = .ok (.putfield 117, 3) := dk_181 0 117 (dk_at dksX3_init_2_9 5 rfl rfl)
theorem dX3_init_2_217 : decode cX3_init_2 217 = .ok (.aload_n 0, 1) := dk_42 (dk_at dksX3_init_2_9 8 rfl rfl)
theorem dX3_init_2_218 : decode cX3_init_2 218 = .ok (.aload_n 1, 1) := dk_43 (dk_at dksX3_init_2_9 9 rfl rfl)
theorem dX3_init_2_219 : decode cX3_init_2 219 = .ok (.getfield 120, 3) := dk_180 0 120 (dk_at dksX3_init_2_9 10 rfl rfl)
theorem dX3_init_2_222 : decode cX3_init_2 222 = .ok (.putfield 120, 3) := dk_181 0 120 (dk_at dksX3_init_2_9 13 rfl rfl)
theorem dX3_init_2_225 : decode cX3_init_2 225 = .ok (.return_, 1) := dk_177 (dk_at dksX3_init_2_9 16 rfl rfl)
abbrev cX3_tick : ByteArray := prog_17_method_25_code
def yX3_tick : MethodName := ⟨RX3, "tick", "()V"⟩
def dkwX3_tick_2 : List UInt8 := [182, 0, 153, 28, 182, 1, 12, 132, 2, 1, 167, 255, 235, 132, 1, 1, 167, 255, 205, 177]
abbrev dktX3_tick_2 : List UInt8 := dkwX3_tick_2 ++ []
def dkwX3_tick_1 : List UInt8 := [182, 0, 153, 182, 1, 7, 42, 27, 182, 1, 9, 3, 61, 28, 42, 182, 0, 186, 162, 0, 19, 42, 42, 27]
abbrev dktX3_tick_1 : List UInt8 := dkwX3_tick_1 ++ dktX3_tick_2
def dkwX3_tick_0 : List UInt8 := [42, 89, 180, 0, 98, 4, 96, 181, 0, 98, 3, 60, 27, 42, 182, 0, 165, 162, 0, 49, 42, 42, 27]
abbrev dktX3_tick_0 : List UInt8 := dkwX3_tick_0 ++ dktX3_tick_1
theorem dksX3_tick_0 : cX3_tick.data.toList.drop 0 = dktX3_tick_0 := by decide +kernel
theorem dksX3_tick_1 : cX3_tick.data.toList.drop 23 = dktX3_tick_1 := dk_seg dksX3_tick_0 23 rfl rfl
theorem dksX3_tick_2 : cX3_tick.data.toList.drop 47 = dktX3_tick_2 := dk_seg dksX3_tick_1 24 rfl rfl
theorem dX3_tick_0 : decode cX3_tick 0 = .ok (.aload_n 0, 1) := dk_42 (dk_at dksX3_tick_0 0 rfl rfl)
theorem dX3_tick_1 : decode cX3_tick 1 = .ok (.dup, 1) := dk_89 (dk_at dksX3_tick_0 1 rfl rfl)
theorem dX3_tick_2 : decode cX3_tick 2 = .ok (.getfield 98, 3) := dk_180 0 98 (dk_at dksX3_tick_0 2 rfl rfl)
theorem dX3_tick_5 : decode cX3_tick 5 = .ok (.iconst 1, 1) := dk_4 (dk_at dksX3_tick_0 5 rfl rfl)
theorem dX3_tick_6 : decode cX3_tick 6 = .ok (.iadd, 1) := dk_96 (dk_at dksX3_tick_0 6 rfl rfl)
theorem dX3_tick_7 : decode cX3_tick 7 = .ok (.putfield 98, 3) := dk_181 0 98 (dk_at dksX3_tick_0 7 rfl rfl)
theorem dX3_tick_10 : decode cX3_tick 10 = .ok (.iconst 0, 1) := dk_3 (dk_at dksX3_tick_0 10 rfl rfl)
theorem dX3_tick_11 : decode cX3_tick 11 = .ok (.istore_n 1, 1) := dk_60 (dk_at dksX3_tick_0 11 rfl rfl)
theorem dX3_tick_12 : decode cX3_tick 12 = .ok (.iload_n 1, 1) := dk_27 (dk_at dksX3_tick_0 12 rfl rfl)
theorem dX3_tick_13 : decode cX3_tick 13 = .ok (.aload_n 0, 1) := dk_42 (dk_at dksX3_tick_0 13 rfl rfl)
theorem dX3_tick_14 : decode cX3_tick 14 = .ok (.invokevirtual 165, 3) := dk_182 0 165 (dk_at dksX3_tick_0 14 rfl rfl)
theorem dX3_tick_17 : decode cX3_tick 17 = .ok (.if_icmp .ge 49, 3) := dk_162 0 49 (dk_at dksX3_tick_0 17 rfl rfl)
theorem dX3_tick_20 : decode cX3_tick 20 = .ok (.aload_n 0, 1) := dk_42 (dk_at dksX3_tick_0 20 rfl rfl)
theorem dX3_tick_21 : decode cX3_tick 21 = .ok (.aload_n 0, 1) := dk_42 (dk_at dksX3_tick_0 21 rfl rfl)
theorem dX3_tick_22 : decode cX3_tick 22 = .ok (.iload_n 1, 1) := dk_27 (dk_at dksX3_tick_0 22 rfl rfl)
theorem dX3_tick_23 : decode cX3_tick 23 = .ok (.invokevirtual 153, 3) := dk_182 0 153 (dk_at dksX3_tick_1 0 rfl rfl)
theorem dX3_tick_26 : decode cX3_tick 26 = .ok (.invokevirtual 263, 3) := dk_182 1 7 (dk_at dksX3_tick_1 3 rfl rfl)
theorem dX3_tick_29 : decode cX3_tick 29 = .ok (.aload_n 0, 1) := dk_42 (dk_at dksX3_tick_1 6 rfl rfl)
theorem dX3_tick_30 : decode cX3_tick 30 = .ok (.iload_n 1, 1) := dk_27 (dk_at dksX3_tick_1 7 rfl rfl)
theorem dX3_tick_31 : decode cX3_tick 31 = .ok (.invokevirtual 265, 3) := dk_182 1 9 (dk_at dksX3_tick_1 8 rfl rfl)
theorem dX3_tick_34 : decode cX3_tick 34 = .ok (.iconst 0, 1) := dk_3 (dk_at dksX3_tick_1 11 rfl rfl)
theorem dX3_tick_35 : decode cX3_tick 35 = .ok (.istore_n 2, 1) := dk_61 (dk_at dksX3_tick_1 12 rfl rfl)
theorem dX3_tick_36 : decode cX3_tick 36 = .ok (.iload_n 2, 1) := dk_28 (dk_at dksX3_tick_1 13 rfl rfl)
theorem dX3_tick_37 : decode cX3_tick 37 = .ok (.aload_n 0, 1) := dk_42 (dk_at dksX3_tick_1 14 rfl rfl)
theorem dX3_tick_38 : decode cX3_tick 38 = .ok (.invokevirtual 186, 3) := dk_182 0 186 (dk_at dksX3_tick_1 15 rfl rfl)
theorem dX3_tick_41 : decode cX3_tick 41 = .ok (.if_icmp .ge 19, 3) := dk_162 0 19 (dk_at dksX3_tick_1 18 rfl rfl)
theorem dX3_tick_44 : decode cX3_tick 44 = .ok (.aload_n 0, 1) := dk_42 (dk_at dksX3_tick_1 21 rfl rfl)
theorem dX3_tick_45 : decode cX3_tick 45 = .ok (.aload_n 0, 1) := dk_42 (dk_at dksX3_tick_1 22 rfl rfl)
theorem dX3_tick_46 : decode cX3_tick 46 = .ok (.iload_n 1, 1) := dk_27 (dk_at dksX3_tick_1 23 rfl rfl)
theorem dX3_tick_47 : decode cX3_tick 47 = .ok (.invokevirtual 153, 3) := dk_182 0 153 (dk_at dksX3_tick_2 0 rfl rfl)
theorem dX3_tick_50 : decode cX3_tick 50 = .ok (.iload_n 2, 1) := dk_28 (dk_at dksX3_tick_2 3 rfl rfl)
theorem dX3_tick_51 : decode cX3_tick 51 = .ok (.invokevirtual 268, 3) := dk_182 1 12 (dk_at dksX3_tick_2 4 rfl rfl)
theorem dX3_tick_54 : decode cX3_tick 54 = .ok (.iinc 2 1, 3) := dk_132 2 1 (dk_at dksX3_tick_2 7 rfl rfl)
theorem dX3_tick_57 : decode cX3_tick 57 = .ok (.goto (-21), 3) := dk_167 255 235 (dk_at dksX3_tick_2 10 rfl rfl)
theorem dX3_tick_60 : decode cX3_tick 60 = .ok (.iinc 1 1, 3) := dk_132 1 1 (dk_at dksX3_tick_2 13 rfl rfl)
theorem dX3_tick_63 : decode cX3_tick 63 = .ok (.goto (-51), 3) := dk_167 255 205 (dk_at dksX3_tick_2 16 rfl rfl)
theorem dX3_tick_66 : decode cX3_tick 66 = .ok (.return_, 1) := dk_177 (dk_at dksX3_tick_2 19 rfl rfl)
abbrev cX3_forgets : ByteArray := prog_17_method_24_code
def yX3_forgets : MethodName := ⟨RX3, "forgets", "(LFlareSlopes$Cabin;)V"⟩
def dkwX3_forgets_2 : List UInt8 := [180, 0, 18, 4, 46, 182, 1, 3, 132, 3, 1, 167, 255, 222, 132, 2, 1, 167, 255, 194, 177]
abbrev dktX3_forgets_2 : List UInt8 := dkwX3_forgets_2 ++ []
def dkwX3_forgets_1 : List UInt8 := [29, 42, 182, 0, 186, 162, 0, 32, 43, 42, 180, 0, 35, 28, 29, 182, 0, 197, 42, 180, 0, 98, 42]
abbrev dktX3_forgets_1 : List UInt8 := dkwX3_forgets_1 ++ dktX3_forgets_2
def dkwX3_forgets_0 : List UInt8 := [3, 61, 28, 42, 182, 0, 165, 162, 0, 60, 43, 180, 0, 188, 185, 0, 192, 1, 0, 154, 0, 48, 3, 62]
abbrev dktX3_forgets_0 : List UInt8 := dkwX3_forgets_0 ++ dktX3_forgets_1
theorem dksX3_forgets_0 : cX3_forgets.data.toList.drop 0 = dktX3_forgets_0 := by decide +kernel
theorem dksX3_forgets_1 : cX3_forgets.data.toList.drop 24 = dktX3_forgets_1 := dk_seg dksX3_forgets_0 24 rfl rfl
theorem dksX3_forgets_2 : cX3_forgets.data.toList.drop 47 = dktX3_forgets_2 := dk_seg dksX3_forgets_1 23 rfl rfl
theorem dX3_forgets_0 : decode cX3_forgets 0 = .ok (.iconst 0, 1) := dk_3 (dk_at dksX3_forgets_0 0 rfl rfl)
theorem dX3_forgets_1 : decode cX3_forgets 1 = .ok (.istore_n 2, 1) := dk_61 (dk_at dksX3_forgets_0 1 rfl rfl)
theorem dX3_forgets_2 : decode cX3_forgets 2 = .ok (.iload_n 2, 1) := dk_28 (dk_at dksX3_forgets_0 2 rfl rfl)
theorem dX3_forgets_3 : decode cX3_forgets 3 = .ok (.aload_n 0, 1) := dk_42 (dk_at dksX3_forgets_0 3 rfl rfl)
theorem dX3_forgets_4 : decode cX3_forgets 4 = .ok (.invokevirtual 165, 3) := dk_182 0 165 (dk_at dksX3_forgets_0 4 rfl rfl)
theorem dX3_forgets_7 : decode cX3_forgets 7 = .ok (.if_icmp .ge 60, 3) := dk_162 0 60 (dk_at dksX3_forgets_0 7 rfl rfl)
theorem dX3_forgets_10 : decode cX3_forgets 10 = .ok (.aload_n 1, 1) := dk_43 (dk_at dksX3_forgets_0 10 rfl rfl)
theorem dX3_forgets_11 : decode cX3_forgets 11 = .ok (.getfield 188, 3) := dk_180 0 188 (dk_at dksX3_forgets_0 11 rfl rfl)
theorem dX3_forgets_14 : decode cX3_forgets 14 = .ok (.invokeinterface 192 1, 5) := by decide +kernel
theorem dX3_forgets_19 : decode cX3_forgets 19 = .ok (.ifCond .ne 48, 3) := dk_154 0 48 (dk_at dksX3_forgets_0 19 rfl rfl)
theorem dX3_forgets_22 : decode cX3_forgets 22 = .ok (.iconst 0, 1) := dk_3 (dk_at dksX3_forgets_0 22 rfl rfl)
theorem dX3_forgets_23 : decode cX3_forgets 23 = .ok (.istore_n 3, 1) := dk_62 (dk_at dksX3_forgets_0 23 rfl rfl)
theorem dX3_forgets_24 : decode cX3_forgets 24 = .ok (.iload_n 3, 1) := dk_29 (dk_at dksX3_forgets_1 0 rfl rfl)
theorem dX3_forgets_25 : decode cX3_forgets 25 = .ok (.aload_n 0, 1) := dk_42 (dk_at dksX3_forgets_1 1 rfl rfl)
theorem dX3_forgets_26 : decode cX3_forgets 26 = .ok (.invokevirtual 186, 3) := dk_182 0 186 (dk_at dksX3_forgets_1 2 rfl rfl)
theorem dX3_forgets_29 : decode cX3_forgets 29 = .ok (.if_icmp .ge 32, 3) := dk_162 0 32 (dk_at dksX3_forgets_1 5 rfl rfl)
theorem dX3_forgets_32 : decode cX3_forgets 32 = .ok (.aload_n 1, 1) := dk_43 (dk_at dksX3_forgets_1 8 rfl rfl)
theorem dX3_forgets_33 : decode cX3_forgets 33 = .ok (.aload_n 0, 1) := dk_42 (dk_at dksX3_forgets_1 9 rfl rfl)
theorem dX3_forgets_34 : decode cX3_forgets 34 = .ok (.getfield 35, 3) := dk_180 0 35 (dk_at dksX3_forgets_1 10 rfl rfl)
theorem dX3_forgets_37 : decode cX3_forgets 37 = .ok (.iload_n 2, 1) := dk_28 (dk_at dksX3_forgets_1 13 rfl rfl)
theorem dX3_forgets_38 : decode cX3_forgets 38 = .ok (.iload_n 3, 1) := dk_29 (dk_at dksX3_forgets_1 14 rfl rfl)
theorem dX3_forgets_39 : decode cX3_forgets 39 = .ok (.invokevirtual 197, 3) := dk_182 0 197 (dk_at dksX3_forgets_1 15 rfl rfl)
theorem dX3_forgets_42 : decode cX3_forgets 42 = .ok (.aload_n 0, 1) := dk_42 (dk_at dksX3_forgets_1 18 rfl rfl)
theorem dX3_forgets_43 : decode cX3_forgets 43 = .ok (.getfield 98, 3) := dk_180 0 98 (dk_at dksX3_forgets_1 19 rfl rfl)
theorem dX3_forgets_46 : decode cX3_forgets 46 = .ok (.aload_n 0, 1) := dk_42 (dk_at dksX3_forgets_1 22 rfl rfl)
theorem dX3_forgets_47 : decode cX3_forgets 47 = .ok (.getfield 18, 3) := dk_180 0 18 (dk_at dksX3_forgets_2 0 rfl rfl)
theorem dX3_forgets_50 : decode cX3_forgets 50 = .ok (.iconst 1, 1) := dk_4 (dk_at dksX3_forgets_2 3 rfl rfl)
theorem dX3_forgets_51 : decode cX3_forgets 51 = .ok (.iaload, 1) := dk_46 (dk_at dksX3_forgets_2 4 rfl rfl)
theorem dX3_forgets_52 : decode cX3_forgets 52 = .ok (.invokevirtual 259, 3) := dk_182 1 3 (dk_at dksX3_forgets_2 5 rfl rfl)
theorem dX3_forgets_55 : decode cX3_forgets 55 = .ok (.iinc 3 1, 3) := dk_132 3 1 (dk_at dksX3_forgets_2 8 rfl rfl)
theorem dX3_forgets_58 : decode cX3_forgets 58 = .ok (.goto (-34), 3) := dk_167 255 222 (dk_at dksX3_forgets_2 11 rfl rfl)
theorem dX3_forgets_61 : decode cX3_forgets 61 = .ok (.iinc 2 1, 3) := dk_132 2 1 (dk_at dksX3_forgets_2 14 rfl rfl)
theorem dX3_forgets_64 : decode cX3_forgets 64 = .ok (.goto (-62), 3) := dk_167 255 194 (dk_at dksX3_forgets_2 17 rfl rfl)
theorem dX3_forgets_67 : decode cX3_forgets 67 = .ok (.return_, 1) := dk_177 (dk_at dksX3_forgets_2 20 rfl rfl)
abbrev cX3_decides : ByteArray := prog_17_method_23_code
def yX3_decides : MethodName := ⟨RX3, "decides", "(LFlareSlopes$Cabin;I)V"⟩
def dkwX3_decides_5 : List UInt8 := [28, 120, 2, 130, 126, 181, 1, 0, 42, 89, 180, 0, 108, 4, 96, 181, 0, 108, 177]
abbrev dktX3_decides_5 : List UInt8 := dkwX3_decides_5 ++ []
def dkwX3_decides_4 : List UInt8 := [182, 0, 220, 153, 0, 39, 21, 4, 42, 180, 0, 18, 7, 46, 116, 163, 0, 27, 43, 89, 180, 1, 0, 4]
abbrev dktX3_decides_4 : List UInt8 := dkwX3_decides_4 ++ dktX3_decides_5
def dkwX3_decides_3 : List UInt8 := [4, 28, 120, 128, 181, 1, 0, 42, 89, 180, 0, 105, 4, 96, 181, 0, 105, 167, 0, 47, 43, 28]
abbrev dktX3_decides_3 : List UInt8 := dkwX3_decides_3 ++ dktX3_decides_4
def dkwX3_decides_2 : List UInt8 := [43, 28, 182, 0, 220, 154, 0, 39, 21, 4, 42, 180, 0, 18, 6, 46, 161, 0, 28, 43, 89, 180, 1, 0]
abbrev dktX3_decides_2 : List UInt8 := dkwX3_decides_2 ++ dktX3_decides_3
def dkwX3_decides_1 : List UInt8 := [21, 4, 104, 158, 0, 10, 21, 4, 29, 96, 167, 0, 4, 29, 54, 4, 43, 180, 0, 253, 28, 21, 4, 79]
abbrev dktX3_decides_1 : List UInt8 := dkwX3_decides_1 ++ dktX3_decides_2
def dkwX3_decides_0 : List UInt8 := [42, 28, 182, 0, 250, 62, 43, 180, 0, 253, 28, 46, 54, 4, 29, 154, 0, 7, 3, 167, 0, 18, 29]
abbrev dktX3_decides_0 : List UInt8 := dkwX3_decides_0 ++ dktX3_decides_1
theorem dksX3_decides_0 : cX3_decides.data.toList.drop 0 = dktX3_decides_0 := by decide +kernel
theorem dksX3_decides_1 : cX3_decides.data.toList.drop 23 = dktX3_decides_1 := dk_seg dksX3_decides_0 23 rfl rfl
theorem dksX3_decides_2 : cX3_decides.data.toList.drop 47 = dktX3_decides_2 := dk_seg dksX3_decides_1 24 rfl rfl
theorem dksX3_decides_3 : cX3_decides.data.toList.drop 71 = dktX3_decides_3 := dk_seg dksX3_decides_2 24 rfl rfl
theorem dksX3_decides_4 : cX3_decides.data.toList.drop 93 = dktX3_decides_4 := dk_seg dksX3_decides_3 22 rfl rfl
theorem dksX3_decides_5 : cX3_decides.data.toList.drop 117 = dktX3_decides_5 := dk_seg dksX3_decides_4 24 rfl rfl
theorem dX3_decides_0 : decode cX3_decides 0 = .ok (.aload_n 0, 1) := dk_42 (dk_at dksX3_decides_0 0 rfl rfl)
theorem dX3_decides_1 : decode cX3_decides 1 = .ok (.iload_n 2, 1) := dk_28 (dk_at dksX3_decides_0 1 rfl rfl)
theorem dX3_decides_2 : decode cX3_decides 2 = .ok (.invokevirtual 250, 3) := dk_182 0 250 (dk_at dksX3_decides_0 2 rfl rfl)
theorem dX3_decides_5 : decode cX3_decides 5 = .ok (.istore_n 3, 1) := dk_62 (dk_at dksX3_decides_0 5 rfl rfl)
theorem dX3_decides_6 : decode cX3_decides 6 = .ok (.aload_n 1, 1) := dk_43 (dk_at dksX3_decides_0 6 rfl rfl)
theorem dX3_decides_7 : decode cX3_decides 7 = .ok (.getfield 253, 3) := dk_180 0 253 (dk_at dksX3_decides_0 7 rfl rfl)
theorem dX3_decides_10 : decode cX3_decides 10 = .ok (.iload_n 2, 1) := dk_28 (dk_at dksX3_decides_0 10 rfl rfl)
theorem dX3_decides_11 : decode cX3_decides 11 = .ok (.iaload, 1) := dk_46 (dk_at dksX3_decides_0 11 rfl rfl)
theorem dX3_decides_12 : decode cX3_decides 12 = .ok (.istore 4, 2) := dk_54 4 (dk_at dksX3_decides_0 12 rfl rfl)
theorem dX3_decides_14 : decode cX3_decides 14 = .ok (.iload_n 3, 1) := dk_29 (dk_at dksX3_decides_0 14 rfl rfl)
theorem dX3_decides_15 : decode cX3_decides 15 = .ok (.ifCond .ne 7, 3) := dk_154 0 7 (dk_at dksX3_decides_0 15 rfl rfl)
theorem dX3_decides_18 : decode cX3_decides 18 = .ok (.iconst 0, 1) := dk_3 (dk_at dksX3_decides_0 18 rfl rfl)
theorem dX3_decides_19 : decode cX3_decides 19 = .ok (.goto 18, 3) := dk_167 0 18 (dk_at dksX3_decides_0 19 rfl rfl)
theorem dX3_decides_22 : decode cX3_decides 22 = .ok (.iload_n 3, 1) := dk_29 (dk_at dksX3_decides_0 22 rfl rfl)
theorem dX3_decides_23 : decode cX3_decides 23 = .ok (.iload 4, 2) := dk_21 4 (dk_at dksX3_decides_1 0 rfl rfl)
theorem dX3_decides_25 : decode cX3_decides 25 = .ok (.imul, 1) := dk_104 (dk_at dksX3_decides_1 2 rfl rfl)
theorem dX3_decides_26 : decode cX3_decides 26 = .ok (.ifCond .le 10, 3) := dk_158 0 10 (dk_at dksX3_decides_1 3 rfl rfl)
theorem dX3_decides_29 : decode cX3_decides 29 = .ok (.iload 4, 2) := dk_21 4 (dk_at dksX3_decides_1 6 rfl rfl)
theorem dX3_decides_31 : decode cX3_decides 31 = .ok (.iload_n 3, 1) := dk_29 (dk_at dksX3_decides_1 8 rfl rfl)
theorem dX3_decides_32 : decode cX3_decides 32 = .ok (.iadd, 1) := dk_96 (dk_at dksX3_decides_1 9 rfl rfl)
theorem dX3_decides_33 : decode cX3_decides 33 = .ok (.goto 4, 3) := dk_167 0 4 (dk_at dksX3_decides_1 10 rfl rfl)
theorem dX3_decides_36 : decode cX3_decides 36 = .ok (.iload_n 3, 1) := dk_29 (dk_at dksX3_decides_1 13 rfl rfl)
theorem dX3_decides_37 : decode cX3_decides 37 = .ok (.istore 4, 2) := dk_54 4 (dk_at dksX3_decides_1 14 rfl rfl)
theorem dX3_decides_39 : decode cX3_decides 39 = .ok (.aload_n 1, 1) := dk_43 (dk_at dksX3_decides_1 16 rfl rfl)
theorem dX3_decides_40 : decode cX3_decides 40 = .ok (.getfield 253, 3) := dk_180 0 253 (dk_at dksX3_decides_1 17 rfl rfl)
theorem dX3_decides_43 : decode cX3_decides 43 = .ok (.iload_n 2, 1) := dk_28 (dk_at dksX3_decides_1 20 rfl rfl)
theorem dX3_decides_44 : decode cX3_decides 44 = .ok (.iload 4, 2) := dk_21 4 (dk_at dksX3_decides_1 21 rfl rfl)
theorem dX3_decides_46 : decode cX3_decides 46 = .ok (.iastore, 1) := dk_79 (dk_at dksX3_decides_1 23 rfl rfl)
theorem dX3_decides_47 : decode cX3_decides 47 = .ok (.aload_n 1, 1) := dk_43 (dk_at dksX3_decides_2 0 rfl rfl)
theorem dX3_decides_48 : decode cX3_decides 48 = .ok (.iload_n 2, 1) := dk_28 (dk_at dksX3_decides_2 1 rfl rfl)
theorem dX3_decides_49 : decode cX3_decides 49 = .ok (.invokevirtual 220, 3) := dk_182 0 220 (dk_at dksX3_decides_2 2 rfl rfl)
theorem dX3_decides_52 : decode cX3_decides 52 = .ok (.ifCond .ne 39, 3) := dk_154 0 39 (dk_at dksX3_decides_2 5 rfl rfl)
theorem dX3_decides_55 : decode cX3_decides 55 = .ok (.iload 4, 2) := dk_21 4 (dk_at dksX3_decides_2 8 rfl rfl)
theorem dX3_decides_57 : decode cX3_decides 57 = .ok (.aload_n 0, 1) := dk_42 (dk_at dksX3_decides_2 10 rfl rfl)
theorem dX3_decides_58 : decode cX3_decides 58 = .ok (.getfield 18, 3) := dk_180 0 18 (dk_at dksX3_decides_2 11 rfl rfl)
theorem dX3_decides_61 : decode cX3_decides 61 = .ok (.iconst 3, 1) := dk_6 (dk_at dksX3_decides_2 14 rfl rfl)
theorem dX3_decides_62 : decode cX3_decides 62 = .ok (.iaload, 1) := dk_46 (dk_at dksX3_decides_2 15 rfl rfl)
theorem dX3_decides_63 : decode cX3_decides 63 = .ok (.if_icmp .lt 28, 3) := dk_161 0 28 (dk_at dksX3_decides_2 16 rfl rfl)
theorem dX3_decides_66 : decode cX3_decides 66 = .ok (.aload_n 1, 1) := dk_43 (dk_at dksX3_decides_2 19 rfl rfl)
theorem dX3_decides_67 : decode cX3_decides 67 = .ok (.dup, 1) := dk_89 (dk_at dksX3_decides_2 20 rfl rfl)
theorem dX3_decides_68 : decode cX3_decides 68 = .ok (.getfield 256, 3) := dk_180 1 0 (dk_at dksX3_decides_2 21 rfl rfl)
theorem dX3_decides_71 : decode cX3_decides 71 = .ok (.iconst 1, 1) := dk_4 (dk_at dksX3_decides_3 0 rfl rfl)
theorem dX3_decides_72 : decode cX3_decides 72 = .ok (.iload_n 2, 1) := dk_28 (dk_at dksX3_decides_3 1 rfl rfl)
theorem dX3_decides_73 : decode cX3_decides 73 = .ok (.ishl, 1) := dk_120 (dk_at dksX3_decides_3 2 rfl rfl)
theorem dX3_decides_74 : decode cX3_decides 74 = .ok (.ior, 1) := dk_128 (dk_at dksX3_decides_3 3 rfl rfl)
theorem dX3_decides_75 : decode cX3_decides 75 = .ok (.putfield 256, 3) := dk_181 1 0 (dk_at dksX3_decides_3 4 rfl rfl)
theorem dX3_decides_78 : decode cX3_decides 78 = .ok (.aload_n 0, 1) := dk_42 (dk_at dksX3_decides_3 7 rfl rfl)
theorem dX3_decides_79 : decode cX3_decides 79 = .ok (.dup, 1) := dk_89 (dk_at dksX3_decides_3 8 rfl rfl)
theorem dX3_decides_80 : decode cX3_decides 80 = .ok (.getfield 105, 3) := dk_180 0 105 (dk_at dksX3_decides_3 9 rfl rfl)
theorem dX3_decides_83 : decode cX3_decides 83 = .ok (.iconst 1, 1) := dk_4 (dk_at dksX3_decides_3 12 rfl rfl)
theorem dX3_decides_84 : decode cX3_decides 84 = .ok (.iadd, 1) := dk_96 (dk_at dksX3_decides_3 13 rfl rfl)
theorem dX3_decides_85 : decode cX3_decides 85 = .ok (.putfield 105, 3) := dk_181 0 105 (dk_at dksX3_decides_3 14 rfl rfl)
theorem dX3_decides_88 : decode cX3_decides 88 = .ok (.goto 47, 3) := dk_167 0 47 (dk_at dksX3_decides_3 17 rfl rfl)
theorem dX3_decides_91 : decode cX3_decides 91 = .ok (.aload_n 1, 1) := dk_43 (dk_at dksX3_decides_3 20 rfl rfl)
theorem dX3_decides_92 : decode cX3_decides 92 = .ok (.iload_n 2, 1) := dk_28 (dk_at dksX3_decides_3 21 rfl rfl)
theorem dX3_decides_93 : decode cX3_decides 93 = .ok (.invokevirtual 220, 3) := dk_182 0 220 (dk_at dksX3_decides_4 0 rfl rfl)
theorem dX3_decides_96 : decode cX3_decides 96 = .ok (.ifCond .eq 39, 3) := dk_153 0 39 (dk_at dksX3_decides_4 3 rfl rfl)
theorem dX3_decides_99 : decode cX3_decides 99 = .ok (.iload 4, 2) := dk_21 4 (dk_at dksX3_decides_4 6 rfl rfl)
theorem dX3_decides_101 : decode cX3_decides 101 = .ok (.aload_n 0, 1) := dk_42 (dk_at dksX3_decides_4 8 rfl rfl)
theorem dX3_decides_102 : decode cX3_decides 102 = .ok (.getfield 18, 3) := dk_180 0 18 (dk_at dksX3_decides_4 9 rfl rfl)
theorem dX3_decides_105 : decode cX3_decides 105 = .ok (.iconst 4, 1) := dk_7 (dk_at dksX3_decides_4 12 rfl rfl)
theorem dX3_decides_106 : decode cX3_decides 106 = .ok (.iaload, 1) := dk_46 (dk_at dksX3_decides_4 13 rfl rfl)
theorem dX3_decides_107 : decode cX3_decides 107 = .ok (.ineg, 1) := dk_116 (dk_at dksX3_decides_4 14 rfl rfl)
theorem dX3_decides_108 : decode cX3_decides 108 = .ok (.if_icmp .gt 27, 3) := dk_163 0 27 (dk_at dksX3_decides_4 15 rfl rfl)
theorem dX3_decides_111 : decode cX3_decides 111 = .ok (.aload_n 1, 1) := dk_43 (dk_at dksX3_decides_4 18 rfl rfl)
theorem dX3_decides_112 : decode cX3_decides 112 = .ok (.dup, 1) := dk_89 (dk_at dksX3_decides_4 19 rfl rfl)
theorem dX3_decides_113 : decode cX3_decides 113 = .ok (.getfield 256, 3) := dk_180 1 0 (dk_at dksX3_decides_4 20 rfl rfl)
theorem dX3_decides_116 : decode cX3_decides 116 = .ok (.iconst 1, 1) := dk_4 (dk_at dksX3_decides_4 23 rfl rfl)
theorem dX3_decides_117 : decode cX3_decides 117 = .ok (.iload_n 2, 1) := dk_28 (dk_at dksX3_decides_5 0 rfl rfl)
theorem dX3_decides_118 : decode cX3_decides 118 = .ok (.ishl, 1) := dk_120 (dk_at dksX3_decides_5 1 rfl rfl)
theorem dX3_decides_119 : decode cX3_decides 119 = .ok (.iconst (-1), 1) := dk_2 (dk_at dksX3_decides_5 2 rfl rfl)
theorem dX3_decides_120 : decode cX3_decides 120 = .ok (.ixor, 1) := dk_130 (dk_at dksX3_decides_5 3 rfl rfl)
theorem dX3_decides_121 : decode cX3_decides 121 = .ok (.iand, 1) := dk_126 (dk_at dksX3_decides_5 4 rfl rfl)
theorem dX3_decides_122 : decode cX3_decides 122 = .ok (.putfield 256, 3) := dk_181 1 0 (dk_at dksX3_decides_5 5 rfl rfl)
theorem dX3_decides_125 : decode cX3_decides 125 = .ok (.aload_n 0, 1) := dk_42 (dk_at dksX3_decides_5 8 rfl rfl)
theorem dX3_decides_126 : decode cX3_decides 126 = .ok (.dup, 1) := dk_89 (dk_at dksX3_decides_5 9 rfl rfl)
theorem dX3_decides_127 : decode cX3_decides 127 = .ok (.getfield 108, 3) := dk_180 0 108 (dk_at dksX3_decides_5 10 rfl rfl)
theorem dX3_decides_130 : decode cX3_decides 130 = .ok (.iconst 1, 1) := dk_4 (dk_at dksX3_decides_5 13 rfl rfl)
theorem dX3_decides_131 : decode cX3_decides 131 = .ok (.iadd, 1) := dk_96 (dk_at dksX3_decides_5 14 rfl rfl)
theorem dX3_decides_132 : decode cX3_decides 132 = .ok (.putfield 108, 3) := dk_181 0 108 (dk_at dksX3_decides_5 15 rfl rfl)
theorem dX3_decides_135 : decode cX3_decides 135 = .ok (.return_, 1) := dk_177 (dk_at dksX3_decides_5 18 rfl rfl)
abbrev cX3_ticks : ByteArray := prog_17_method_26_code
def yX3_ticks : MethodName := ⟨RX3, "ticks", "(I)LFlareSlopes$State;"⟩
def dkwX3_ticks_0 : List UInt8 := [3, 61, 28, 27, 162, 0, 13, 42, 182, 1, 16, 132, 2, 1, 167, 255, 244, 42, 176]
abbrev dktX3_ticks_0 : List UInt8 := dkwX3_ticks_0 ++ []
theorem dksX3_ticks_0 : cX3_ticks.data.toList.drop 0 = dktX3_ticks_0 := by decide +kernel
theorem dX3_ticks_0 : decode cX3_ticks 0 = .ok (.iconst 0, 1) := dk_3 (dk_at dksX3_ticks_0 0 rfl rfl)
theorem dX3_ticks_1 : decode cX3_ticks 1 = .ok (.istore_n 2, 1) := dk_61 (dk_at dksX3_ticks_0 1 rfl rfl)
theorem dX3_ticks_2 : decode cX3_ticks 2 = .ok (.iload_n 2, 1) := dk_28 (dk_at dksX3_ticks_0 2 rfl rfl)
theorem dX3_ticks_3 : decode cX3_ticks 3 = .ok (.iload_n 1, 1) := dk_27 (dk_at dksX3_ticks_0 3 rfl rfl)
theorem dX3_ticks_4 : decode cX3_ticks 4 = .ok (.if_icmp .ge 13, 3) := dk_162 0 13 (dk_at dksX3_ticks_0 4 rfl rfl)
theorem dX3_ticks_7 : decode cX3_ticks 7 = .ok (.aload_n 0, 1) := dk_42 (dk_at dksX3_ticks_0 7 rfl rfl)
theorem dX3_ticks_8 : decode cX3_ticks 8 = .ok (.invokevirtual 272, 3) := dk_182 1 16 (dk_at dksX3_ticks_0 8 rfl rfl)
theorem dX3_ticks_11 : decode cX3_ticks 11 = .ok (.iinc 2 1, 3) := dk_132 2 1 (dk_at dksX3_ticks_0 11 rfl rfl)
theorem dX3_ticks_14 : decode cX3_ticks 14 = .ok (.goto (-12), 3) := dk_167 255 244 (dk_at dksX3_ticks_0 14 rfl rfl)
theorem dX3_ticks_17 : decode cX3_ticks 17 = .ok (.aload_n 0, 1) := dk_42 (dk_at dksX3_ticks_0 17 rfl rfl)
theorem dX3_ticks_18 : decode cX3_ticks 18 = .ok (.areturn, 1) := dk_176 (dk_at dksX3_ticks_0 18 rfl rfl)
abbrev cX3_fires : ByteArray := prog_17_method_21_code
def yX3_fires : MethodName := ⟨RX3, "fires", "(IIZ)I"⟩
def dkwX3_fires_3 : List UInt8 := [87, 132, 7, 1, 167, 255, 215, 21, 4, 172]
abbrev dktX3_fires_3 : List UInt8 := dkwX3_fires_3 ++ []
def dkwX3_fires_2 : List UInt8 := [184, 0, 170, 153, 0, 22, 42, 21, 7, 182, 0, 153, 180, 0, 188, 25, 5, 25, 6, 185, 0, 232, 3, 0]
abbrev dktX3_fires_2 : List UInt8 := dkwX3_fires_2 ++ dktX3_fires_3
def dkwX3_fires_1 : List UInt8 := [180, 0, 98, 183, 0, 229, 58, 6, 3, 54, 7, 21, 7, 42, 182, 0, 165, 162, 0, 38, 21, 4, 21, 7]
abbrev dktX3_fires_1 : List UInt8 := dkwX3_fires_1 ++ dktX3_fires_2
def dkwX3_fires_0 : List UInt8 := [42, 27, 182, 0, 173, 54, 4, 187, 0, 224, 89, 27, 28, 183, 0, 226, 58, 5, 187, 0, 204, 89, 29, 42]
abbrev dktX3_fires_0 : List UInt8 := dkwX3_fires_0 ++ dktX3_fires_1
theorem dksX3_fires_0 : cX3_fires.data.toList.drop 0 = dktX3_fires_0 := by decide +kernel
theorem dksX3_fires_1 : cX3_fires.data.toList.drop 24 = dktX3_fires_1 := dk_seg dksX3_fires_0 24 rfl rfl
theorem dksX3_fires_2 : cX3_fires.data.toList.drop 48 = dktX3_fires_2 := dk_seg dksX3_fires_1 24 rfl rfl
theorem dksX3_fires_3 : cX3_fires.data.toList.drop 72 = dktX3_fires_3 := dk_seg dksX3_fires_2 24 rfl rfl
theorem dX3_fires_0 : decode cX3_fires 0 = .ok (.aload_n 0, 1) := dk_42 (dk_at dksX3_fires_0 0 rfl rfl)
theorem dX3_fires_1 : decode cX3_fires 1 = .ok (.iload_n 1, 1) := dk_27 (dk_at dksX3_fires_0 1 rfl rfl)
theorem dX3_fires_2 : decode cX3_fires 2 = .ok (.invokevirtual 173, 3) := dk_182 0 173 (dk_at dksX3_fires_0 2 rfl rfl)
theorem dX3_fires_5 : decode cX3_fires 5 = .ok (.istore 4, 2) := dk_54 4 (dk_at dksX3_fires_0 5 rfl rfl)
theorem dX3_fires_7 : decode cX3_fires 7 = .ok (.new 224, 3) := dk_187 0 224 (dk_at dksX3_fires_0 7 rfl rfl)
theorem dX3_fires_10 : decode cX3_fires 10 = .ok (.dup, 1) := dk_89 (dk_at dksX3_fires_0 10 rfl rfl)
theorem dX3_fires_11 : decode cX3_fires 11 = .ok (.iload_n 1, 1) := dk_27 (dk_at dksX3_fires_0 11 rfl rfl)
theorem dX3_fires_12 : decode cX3_fires 12 = .ok (.iload_n 2, 1) := dk_28 (dk_at dksX3_fires_0 12 rfl rfl)
theorem dX3_fires_13 : decode cX3_fires 13 = .ok (.invokespecial 226, 3) := dk_183 0 226 (dk_at dksX3_fires_0 13 rfl rfl)
theorem dX3_fires_16 : decode cX3_fires 16 = .ok (.astore 5, 2) := dk_58 5 (dk_at dksX3_fires_0 16 rfl rfl)
theorem dX3_fires_18 : decode cX3_fires 18 = .ok (.new 204, 3) := dk_187 0 204 (dk_at dksX3_fires_0 18 rfl rfl)
theorem dX3_fires_21 : decode cX3_fires 21 = .ok (.dup, 1) := dk_89 (dk_at dksX3_fires_0 21 rfl rfl)
theorem dX3_fires_22 : decode cX3_fires 22 = .ok (.iload_n 3, 1) := dk_29 (dk_at dksX3_fires_0 22 rfl rfl)
theorem dX3_fires_23 : decode cX3_fires 23 = .ok (.aload_n 0, 1) := dk_42 (dk_at dksX3_fires_0 23 rfl rfl)
theorem dX3_fires_24 : decode cX3_fires 24 = .ok (.getfield 98, 3) := dk_180 0 98 (dk_at dksX3_fires_1 0 rfl rfl)
theorem dX3_fires_27 : decode cX3_fires 27 = .ok (.invokespecial 229, 3) := dk_183 0 229 (dk_at dksX3_fires_1 3 rfl rfl)
theorem dX3_fires_30 : decode cX3_fires 30 = .ok (.astore 6, 2) := dk_58 6 (dk_at dksX3_fires_1 6 rfl rfl)
theorem dX3_fires_32 : decode cX3_fires 32 = .ok (.iconst 0, 1) := dk_3 (dk_at dksX3_fires_1 8 rfl rfl)
theorem dX3_fires_33 : decode cX3_fires 33 = .ok (.istore 7, 2) := dk_54 7 (dk_at dksX3_fires_1 9 rfl rfl)
theorem dX3_fires_35 : decode cX3_fires 35 = .ok (.iload 7, 2) := dk_21 7 (dk_at dksX3_fires_1 11 rfl rfl)
theorem dX3_fires_37 : decode cX3_fires 37 = .ok (.aload_n 0, 1) := dk_42 (dk_at dksX3_fires_1 13 rfl rfl)
theorem dX3_fires_38 : decode cX3_fires 38 = .ok (.invokevirtual 165, 3) := dk_182 0 165 (dk_at dksX3_fires_1 14 rfl rfl)
theorem dX3_fires_41 : decode cX3_fires 41 = .ok (.if_icmp .ge 38, 3) := dk_162 0 38 (dk_at dksX3_fires_1 17 rfl rfl)
theorem dX3_fires_44 : decode cX3_fires 44 = .ok (.iload 4, 2) := dk_21 4 (dk_at dksX3_fires_1 20 rfl rfl)
theorem dX3_fires_46 : decode cX3_fires 46 = .ok (.iload 7, 2) := dk_21 7 (dk_at dksX3_fires_1 22 rfl rfl)
theorem dX3_fires_48 : decode cX3_fires 48 = .ok (.invokestatic 170, 3) := dk_184 0 170 (dk_at dksX3_fires_2 0 rfl rfl)
theorem dX3_fires_51 : decode cX3_fires 51 = .ok (.ifCond .eq 22, 3) := dk_153 0 22 (dk_at dksX3_fires_2 3 rfl rfl)
theorem dX3_fires_54 : decode cX3_fires 54 = .ok (.aload_n 0, 1) := dk_42 (dk_at dksX3_fires_2 6 rfl rfl)
theorem dX3_fires_55 : decode cX3_fires 55 = .ok (.iload 7, 2) := dk_21 7 (dk_at dksX3_fires_2 7 rfl rfl)
theorem dX3_fires_57 : decode cX3_fires 57 = .ok (.invokevirtual 153, 3) := dk_182 0 153 (dk_at dksX3_fires_2 9 rfl rfl)
theorem dX3_fires_60 : decode cX3_fires 60 = .ok (.getfield 188, 3) := dk_180 0 188 (dk_at dksX3_fires_2 12 rfl rfl)
theorem dX3_fires_63 : decode cX3_fires 63 = .ok (.aload 5, 2) := dk_25 5 (dk_at dksX3_fires_2 15 rfl rfl)
theorem dX3_fires_65 : decode cX3_fires 65 = .ok (.aload 6, 2) := dk_25 6 (dk_at dksX3_fires_2 17 rfl rfl)
theorem dX3_fires_67 : decode cX3_fires 67 = .ok (.invokeinterface 232 3, 5) := by decide +kernel
theorem dX3_fires_72 : decode cX3_fires 72 = .ok (.pop, 1) := dk_87 (dk_at dksX3_fires_3 0 rfl rfl)
theorem dX3_fires_73 : decode cX3_fires 73 = .ok (.iinc 7 1, 3) := dk_132 7 1 (dk_at dksX3_fires_3 1 rfl rfl)
theorem dX3_fires_76 : decode cX3_fires 76 = .ok (.goto (-41), 3) := dk_167 255 215 (dk_at dksX3_fires_3 4 rfl rfl)
theorem dX3_fires_79 : decode cX3_fires 79 = .ok (.iload 4, 2) := dk_21 4 (dk_at dksX3_fires_3 7 rfl rfl)
theorem dX3_fires_81 : decode cX3_fires 81 = .ok (.ireturn, 1) := dk_172 (dk_at dksX3_fires_3 9 rfl rfl)
abbrev cX3_tells : ByteArray := prog_17_method_28_code
def yX3_tells : MethodName := ⟨RX3, "tells", "(I)I"⟩
def dkwX3_tells_1 : List UInt8 := [120, 128, 61, 132, 3, 1, 167, 255, 230, 28, 172]
abbrev dktX3_tells_1 : List UInt8 := dkwX3_tells_1 ++ []
def dkwX3_tells_0 : List UInt8 := [3, 61, 3, 62, 29, 42, 182, 0, 186, 162, 0, 24, 42, 27, 29, 182, 1, 27, 153, 0, 9, 28, 4, 29]
abbrev dktX3_tells_0 : List UInt8 := dkwX3_tells_0 ++ dktX3_tells_1
theorem dksX3_tells_0 : cX3_tells.data.toList.drop 0 = dktX3_tells_0 := by decide +kernel
theorem dksX3_tells_1 : cX3_tells.data.toList.drop 24 = dktX3_tells_1 := dk_seg dksX3_tells_0 24 rfl rfl
theorem dX3_tells_0 : decode cX3_tells 0 = .ok (.iconst 0, 1) := dk_3 (dk_at dksX3_tells_0 0 rfl rfl)
theorem dX3_tells_1 : decode cX3_tells 1 = .ok (.istore_n 2, 1) := dk_61 (dk_at dksX3_tells_0 1 rfl rfl)
theorem dX3_tells_2 : decode cX3_tells 2 = .ok (.iconst 0, 1) := dk_3 (dk_at dksX3_tells_0 2 rfl rfl)
theorem dX3_tells_3 : decode cX3_tells 3 = .ok (.istore_n 3, 1) := dk_62 (dk_at dksX3_tells_0 3 rfl rfl)
theorem dX3_tells_4 : decode cX3_tells 4 = .ok (.iload_n 3, 1) := dk_29 (dk_at dksX3_tells_0 4 rfl rfl)
theorem dX3_tells_5 : decode cX3_tells 5 = .ok (.aload_n 0, 1) := dk_42 (dk_at dksX3_tells_0 5 rfl rfl)
theorem dX3_tells_6 : decode cX3_tells 6 = .ok (.invokevirtual 186, 3) := dk_182 0 186 (dk_at dksX3_tells_0 6 rfl rfl)
theorem dX3_tells_9 : decode cX3_tells 9 = .ok (.if_icmp .ge 24, 3) := dk_162 0 24 (dk_at dksX3_tells_0 9 rfl rfl)
theorem dX3_tells_12 : decode cX3_tells 12 = .ok (.aload_n 0, 1) := dk_42 (dk_at dksX3_tells_0 12 rfl rfl)
theorem dX3_tells_13 : decode cX3_tells 13 = .ok (.iload_n 1, 1) := dk_27 (dk_at dksX3_tells_0 13 rfl rfl)
theorem dX3_tells_14 : decode cX3_tells 14 = .ok (.iload_n 3, 1) := dk_29 (dk_at dksX3_tells_0 14 rfl rfl)
theorem dX3_tells_15 : decode cX3_tells 15 = .ok (.invokevirtual 283, 3) := dk_182 1 27 (dk_at dksX3_tells_0 15 rfl rfl)
theorem dX3_tells_18 : decode cX3_tells 18 = .ok (.ifCond .eq 9, 3) := dk_153 0 9 (dk_at dksX3_tells_0 18 rfl rfl)
theorem dX3_tells_21 : decode cX3_tells 21 = .ok (.iload_n 2, 1) := dk_28 (dk_at dksX3_tells_0 21 rfl rfl)
theorem dX3_tells_22 : decode cX3_tells 22 = .ok (.iconst 1, 1) := dk_4 (dk_at dksX3_tells_0 22 rfl rfl)
theorem dX3_tells_23 : decode cX3_tells 23 = .ok (.iload_n 3, 1) := dk_29 (dk_at dksX3_tells_0 23 rfl rfl)
theorem dX3_tells_24 : decode cX3_tells 24 = .ok (.ishl, 1) := dk_120 (dk_at dksX3_tells_1 0 rfl rfl)
theorem dX3_tells_25 : decode cX3_tells 25 = .ok (.ior, 1) := dk_128 (dk_at dksX3_tells_1 1 rfl rfl)
theorem dX3_tells_26 : decode cX3_tells 26 = .ok (.istore_n 2, 1) := dk_61 (dk_at dksX3_tells_1 2 rfl rfl)
theorem dX3_tells_27 : decode cX3_tells 27 = .ok (.iinc 3 1, 3) := dk_132 3 1 (dk_at dksX3_tells_1 3 rfl rfl)
theorem dX3_tells_30 : decode cX3_tells 30 = .ok (.goto (-26), 3) := dk_167 255 230 (dk_at dksX3_tells_1 6 rfl rfl)
theorem dX3_tells_33 : decode cX3_tells 33 = .ok (.iload_n 2, 1) := dk_28 (dk_at dksX3_tells_1 9 rfl rfl)
theorem dX3_tells_34 : decode cX3_tells 34 = .ok (.ireturn, 1) := dk_172 (dk_at dksX3_tells_1 10 rfl rfl)
abbrev cX3_inspects : ByteArray := prog_17_method_22_code
def yX3_inspects : MethodName := ⟨RX3, "inspects", "(II)I"⟩
def dkwX3_inspects_7 : List UInt8 := [21, 4, 172]
abbrev dktX3_inspects_7 : List UInt8 := dkwX3_inspects_7 ++ []
def dkwX3_inspects_6 : List UInt8 := [180, 0, 98, 183, 0, 229, 185, 0, 232, 3, 0, 87, 42, 89, 180, 0, 111, 21, 4, 96, 181, 0, 111]
abbrev dktX3_inspects_6 : List UInt8 := dkwX3_inspects_6 ++ dktX3_inspects_7
def dkwX3_inspects_5 : List UInt8 := [167, 255, 153, 45, 187, 0, 224, 89, 27, 28, 183, 0, 226, 187, 0, 204, 89, 42, 28, 182, 0, 236, 42]
abbrev dktX3_inspects_5 : List UInt8 := dkwX3_inspects_5 ++ dktX3_inspects_6
def dkwX3_inspects_4 : List UInt8 := [192, 0, 204, 58, 8, 132, 4, 1, 167, 0, 13, 42, 21, 5, 182, 0, 153, 4, 182, 0, 243, 132, 5, 1]
abbrev dktX3_inspects_4 : List UInt8 := dkwX3_inspects_4 ++ dktX3_inspects_5
def dkwX3_inspects_3 : List UInt8 := [21, 5, 182, 0, 153, 42, 180, 0, 18, 8, 46, 116, 182, 0, 243, 45, 25, 6, 185, 0, 247, 2, 0]
abbrev dktX3_inspects_3 : List UInt8 := dkwX3_inspects_3 ++ dktX3_inspects_4
def dkwX3_inspects_2 : List UInt8 := [58, 7, 25, 7, 199, 0, 6, 167, 0, 61, 25, 7, 42, 28, 182, 0, 236, 182, 0, 239, 153, 0, 38, 42]
abbrev dktX3_inspects_2 : List UInt8 := dkwX3_inspects_2 ++ dktX3_inspects_3
def dkwX3_inspects_1 : List UInt8 := [187, 0, 224, 89, 21, 5, 28, 183, 0, 226, 58, 6, 45, 25, 6, 185, 0, 201, 2, 0, 192, 0, 204]
abbrev dktX3_inspects_1 : List UInt8 := dkwX3_inspects_1 ++ dktX3_inspects_2
def dkwX3_inspects_0 : List UInt8 := [42, 27, 182, 0, 153, 180, 0, 188, 78, 3, 54, 4, 3, 54, 5, 21, 5, 42, 182, 0, 165, 162, 0, 100]
abbrev dktX3_inspects_0 : List UInt8 := dkwX3_inspects_0 ++ dktX3_inspects_1
theorem dksX3_inspects_0 : cX3_inspects.data.toList.drop 0 = dktX3_inspects_0 := by decide +kernel
theorem dksX3_inspects_1 : cX3_inspects.data.toList.drop 24 = dktX3_inspects_1 := dk_seg dksX3_inspects_0 24 rfl rfl
theorem dksX3_inspects_2 : cX3_inspects.data.toList.drop 47 = dktX3_inspects_2 := dk_seg dksX3_inspects_1 23 rfl rfl
theorem dksX3_inspects_3 : cX3_inspects.data.toList.drop 71 = dktX3_inspects_3 := dk_seg dksX3_inspects_2 24 rfl rfl
theorem dksX3_inspects_4 : cX3_inspects.data.toList.drop 94 = dktX3_inspects_4 := dk_seg dksX3_inspects_3 23 rfl rfl
theorem dksX3_inspects_5 : cX3_inspects.data.toList.drop 118 = dktX3_inspects_5 := dk_seg dksX3_inspects_4 24 rfl rfl
theorem dksX3_inspects_6 : cX3_inspects.data.toList.drop 141 = dktX3_inspects_6 := dk_seg dksX3_inspects_5 23 rfl rfl
theorem dksX3_inspects_7 : cX3_inspects.data.toList.drop 164 = dktX3_inspects_7 := dk_seg dksX3_inspects_6 23 rfl rfl
theorem dX3_inspects_0 : decode cX3_inspects 0 = .ok (.aload_n 0, 1) := dk_42 (dk_at dksX3_inspects_0 0 rfl rfl)
theorem dX3_inspects_1 : decode cX3_inspects 1 = .ok (.iload_n 1, 1) := dk_27 (dk_at dksX3_inspects_0 1 rfl rfl)
theorem dX3_inspects_2 : decode cX3_inspects 2 = .ok (.invokevirtual 153, 3) := dk_182 0 153 (dk_at dksX3_inspects_0 2 rfl rfl)
theorem dX3_inspects_5 : decode cX3_inspects 5 = .ok (.getfield 188, 3) := dk_180 0 188 (dk_at dksX3_inspects_0 5 rfl rfl)
theorem dX3_inspects_8 : decode cX3_inspects 8 = .ok (.astore_n 3, 1) := dk_78 (dk_at dksX3_inspects_0 8 rfl rfl)
theorem dX3_inspects_9 : decode cX3_inspects 9 = .ok (.iconst 0, 1) := dk_3 (dk_at dksX3_inspects_0 9 rfl rfl)
theorem dX3_inspects_10 : decode cX3_inspects 10 = .ok (.istore 4, 2) := dk_54 4 (dk_at dksX3_inspects_0 10 rfl rfl)
theorem dX3_inspects_12 : decode cX3_inspects 12 = .ok (.iconst 0, 1) := dk_3 (dk_at dksX3_inspects_0 12 rfl rfl)
theorem dX3_inspects_13 : decode cX3_inspects 13 = .ok (.istore 5, 2) := dk_54 5 (dk_at dksX3_inspects_0 13 rfl rfl)
theorem dX3_inspects_15 : decode cX3_inspects 15 = .ok (.iload 5, 2) := dk_21 5 (dk_at dksX3_inspects_0 15 rfl rfl)
theorem dX3_inspects_17 : decode cX3_inspects 17 = .ok (.aload_n 0, 1) := dk_42 (dk_at dksX3_inspects_0 17 rfl rfl)
theorem dX3_inspects_18 : decode cX3_inspects 18 = .ok (.invokevirtual 165, 3) := dk_182 0 165 (dk_at dksX3_inspects_0 18 rfl rfl)
theorem dX3_inspects_21 : decode cX3_inspects 21 = .ok (.if_icmp .ge 100, 3) := dk_162 0 100 (dk_at dksX3_inspects_0 21 rfl rfl)
theorem dX3_inspects_24 : decode cX3_inspects 24 = .ok (.new 224, 3) := dk_187 0 224 (dk_at dksX3_inspects_1 0 rfl rfl)
theorem dX3_inspects_27 : decode cX3_inspects 27 = .ok (.dup, 1) := dk_89 (dk_at dksX3_inspects_1 3 rfl rfl)
theorem dX3_inspects_28 : decode cX3_inspects 28 = .ok (.iload 5, 2) := dk_21 5 (dk_at dksX3_inspects_1 4 rfl rfl)
theorem dX3_inspects_30 : decode cX3_inspects 30 = .ok (.iload_n 2, 1) := dk_28 (dk_at dksX3_inspects_1 6 rfl rfl)
theorem dX3_inspects_31 : decode cX3_inspects 31 = .ok (.invokespecial 226, 3) := dk_183 0 226 (dk_at dksX3_inspects_1 7 rfl rfl)
theorem dX3_inspects_34 : decode cX3_inspects 34 = .ok (.astore 6, 2) := dk_58 6 (dk_at dksX3_inspects_1 10 rfl rfl)
theorem dX3_inspects_36 : decode cX3_inspects 36 = .ok (.aload_n 3, 1) := dk_45 (dk_at dksX3_inspects_1 12 rfl rfl)
theorem dX3_inspects_37 : decode cX3_inspects 37 = .ok (.aload 6, 2) := dk_25 6 (dk_at dksX3_inspects_1 13 rfl rfl)
theorem dX3_inspects_39 : decode cX3_inspects 39 = .ok (.invokeinterface 201 2, 5) := by decide +kernel
theorem dX3_inspects_44 : decode cX3_inspects 44 = .ok (.checkcast 204, 3) := dk_192 0 204 (dk_at dksX3_inspects_1 20 rfl rfl)
theorem dX3_inspects_47 : decode cX3_inspects 47 = .ok (.astore 7, 2) := dk_58 7 (dk_at dksX3_inspects_2 0 rfl rfl)
theorem dX3_inspects_49 : decode cX3_inspects 49 = .ok (.aload 7, 2) := dk_25 7 (dk_at dksX3_inspects_2 2 rfl rfl)
theorem dX3_inspects_51 : decode cX3_inspects 51 = .ok (.ifnonnull 6, 3) := dk_199 0 6 (dk_at dksX3_inspects_2 4 rfl rfl)
theorem dX3_inspects_54 : decode cX3_inspects 54 = .ok (.goto 61, 3) := dk_167 0 61 (dk_at dksX3_inspects_2 7 rfl rfl)
theorem dX3_inspects_57 : decode cX3_inspects 57 = .ok (.aload 7, 2) := dk_25 7 (dk_at dksX3_inspects_2 10 rfl rfl)
theorem dX3_inspects_59 : decode cX3_inspects 59 = .ok (.aload_n 0, 1) := dk_42 (dk_at dksX3_inspects_2 12 rfl rfl)
theorem dX3_inspects_60 : decode cX3_inspects 60 = .ok (.iload_n 2, 1) := dk_28 (dk_at dksX3_inspects_2 13 rfl rfl)
theorem dX3_inspects_61 : decode cX3_inspects 61 = .ok (.invokevirtual 236, 3) := dk_182 0 236 (dk_at dksX3_inspects_2 14 rfl rfl)
theorem dX3_inspects_64 : decode cX3_inspects 64 = .ok (.invokevirtual 239, 3) := dk_182 0 239 (dk_at dksX3_inspects_2 17 rfl rfl)
theorem dX3_inspects_67 : decode cX3_inspects 67 = .ok (.ifCond .eq 38, 3) := dk_153 0 38 (dk_at dksX3_inspects_2 20 rfl rfl)
theorem dX3_inspects_70 : decode cX3_inspects 70 = .ok (.aload_n 0, 1) := dk_42 (dk_at dksX3_inspects_2 23 rfl rfl)
theorem dX3_inspects_71 : decode cX3_inspects 71 = .ok (.iload 5, 2) := dk_21 5 (dk_at dksX3_inspects_3 0 rfl rfl)
theorem dX3_inspects_73 : decode cX3_inspects 73 = .ok (.invokevirtual 153, 3) := dk_182 0 153 (dk_at dksX3_inspects_3 2 rfl rfl)
theorem dX3_inspects_76 : decode cX3_inspects 76 = .ok (.aload_n 0, 1) := dk_42 (dk_at dksX3_inspects_3 5 rfl rfl)
theorem dX3_inspects_77 : decode cX3_inspects 77 = .ok (.getfield 18, 3) := dk_180 0 18 (dk_at dksX3_inspects_3 6 rfl rfl)
theorem dX3_inspects_80 : decode cX3_inspects 80 = .ok (.iconst 5, 1) := dk_8 (dk_at dksX3_inspects_3 9 rfl rfl)
theorem dX3_inspects_81 : decode cX3_inspects 81 = .ok (.iaload, 1) := dk_46 (dk_at dksX3_inspects_3 10 rfl rfl)
theorem dX3_inspects_82 : decode cX3_inspects 82 = .ok (.ineg, 1) := dk_116 (dk_at dksX3_inspects_3 11 rfl rfl)
theorem dX3_inspects_83 : decode cX3_inspects 83 = .ok (.invokevirtual 243, 3) := dk_182 0 243 (dk_at dksX3_inspects_3 12 rfl rfl)
theorem dX3_inspects_86 : decode cX3_inspects 86 = .ok (.aload_n 3, 1) := dk_45 (dk_at dksX3_inspects_3 15 rfl rfl)
theorem dX3_inspects_87 : decode cX3_inspects 87 = .ok (.aload 6, 2) := dk_25 6 (dk_at dksX3_inspects_3 16 rfl rfl)
theorem dX3_inspects_89 : decode cX3_inspects 89 = .ok (.invokeinterface 247 2, 5) := by decide +kernel
theorem dX3_inspects_94 : decode cX3_inspects 94 = .ok (.checkcast 204, 3) := dk_192 0 204 (dk_at dksX3_inspects_4 0 rfl rfl)
theorem dX3_inspects_97 : decode cX3_inspects 97 = .ok (.astore 8, 2) := dk_58 8 (dk_at dksX3_inspects_4 3 rfl rfl)
theorem dX3_inspects_99 : decode cX3_inspects 99 = .ok (.iinc 4 1, 3) := dk_132 4 1 (dk_at dksX3_inspects_4 5 rfl rfl)
theorem dX3_inspects_102 : decode cX3_inspects 102 = .ok (.goto 13, 3) := dk_167 0 13 (dk_at dksX3_inspects_4 8 rfl rfl)
theorem dX3_inspects_105 : decode cX3_inspects 105 = .ok (.aload_n 0, 1) := dk_42 (dk_at dksX3_inspects_4 11 rfl rfl)
theorem dX3_inspects_106 : decode cX3_inspects 106 = .ok (.iload 5, 2) := dk_21 5 (dk_at dksX3_inspects_4 12 rfl rfl)
theorem dX3_inspects_108 : decode cX3_inspects 108 = .ok (.invokevirtual 153, 3) := dk_182 0 153 (dk_at dksX3_inspects_4 14 rfl rfl)
theorem dX3_inspects_111 : decode cX3_inspects 111 = .ok (.iconst 1, 1) := dk_4 (dk_at dksX3_inspects_4 17 rfl rfl)
theorem dX3_inspects_112 : decode cX3_inspects 112 = .ok (.invokevirtual 243, 3) := dk_182 0 243 (dk_at dksX3_inspects_4 18 rfl rfl)
theorem dX3_inspects_115 : decode cX3_inspects 115 = .ok (.iinc 5 1, 3) := dk_132 5 1 (dk_at dksX3_inspects_4 21 rfl rfl)
theorem dX3_inspects_118 : decode cX3_inspects 118 = .ok (.goto (-103), 3) := dk_167 255 153 (dk_at dksX3_inspects_5 0 rfl rfl)
theorem dX3_inspects_121 : decode cX3_inspects 121 = .ok (.aload_n 3, 1) := dk_45 (dk_at dksX3_inspects_5 3 rfl rfl)
theorem dX3_inspects_122 : decode cX3_inspects 122 = .ok (.new 224, 3) := dk_187 0 224 (dk_at dksX3_inspects_5 4 rfl rfl)
theorem dX3_inspects_125 : decode cX3_inspects 125 = .ok (.dup, 1) := dk_89 (dk_at dksX3_inspects_5 7 rfl rfl)
theorem dX3_inspects_126 : decode cX3_inspects 126 = .ok (.iload_n 1, 1) := dk_27 (dk_at dksX3_inspects_5 8 rfl rfl)
theorem dX3_inspects_127 : decode cX3_inspects 127 = .ok (.iload_n 2, 1) := dk_28 (dk_at dksX3_inspects_5 9 rfl rfl)
theorem dX3_inspects_128 : decode cX3_inspects 128 = .ok (.invokespecial 226, 3) := dk_183 0 226 (dk_at dksX3_inspects_5 10 rfl rfl)
theorem dX3_inspects_131 : decode cX3_inspects 131 = .ok (.new 204, 3) := dk_187 0 204 (dk_at dksX3_inspects_5 13 rfl rfl)
theorem dX3_inspects_134 : decode cX3_inspects 134 = .ok (.dup, 1) := dk_89 (dk_at dksX3_inspects_5 16 rfl rfl)
theorem dX3_inspects_135 : decode cX3_inspects 135 = .ok (.aload_n 0, 1) := dk_42 (dk_at dksX3_inspects_5 17 rfl rfl)
theorem dX3_inspects_136 : decode cX3_inspects 136 = .ok (.iload_n 2, 1) := dk_28 (dk_at dksX3_inspects_5 18 rfl rfl)
theorem dX3_inspects_137 : decode cX3_inspects 137 = .ok (.invokevirtual 236, 3) := dk_182 0 236 (dk_at dksX3_inspects_5 19 rfl rfl)
theorem dX3_inspects_140 : decode cX3_inspects 140 = .ok (.aload_n 0, 1) := dk_42 (dk_at dksX3_inspects_5 22 rfl rfl)
theorem dX3_inspects_141 : decode cX3_inspects 141 = .ok (.getfield 98, 3) := dk_180 0 98 (dk_at dksX3_inspects_6 0 rfl rfl)
theorem dX3_inspects_144 : decode cX3_inspects 144 = .ok (.invokespecial 229, 3) := dk_183 0 229 (dk_at dksX3_inspects_6 3 rfl rfl)
theorem dX3_inspects_147 : decode cX3_inspects 147 = .ok (.invokeinterface 232 3, 5) := by decide +kernel
theorem dX3_inspects_152 : decode cX3_inspects 152 = .ok (.pop, 1) := dk_87 (dk_at dksX3_inspects_6 11 rfl rfl)
theorem dX3_inspects_153 : decode cX3_inspects 153 = .ok (.aload_n 0, 1) := dk_42 (dk_at dksX3_inspects_6 12 rfl rfl)
theorem dX3_inspects_154 : decode cX3_inspects 154 = .ok (.dup, 1) := dk_89 (dk_at dksX3_inspects_6 13 rfl rfl)
theorem dX3_inspects_155 : decode cX3_inspects 155 = .ok (.getfield 111, 3) := dk_180 0 111 (dk_at dksX3_inspects_6 14 rfl rfl)
theorem dX3_inspects_158 : decode cX3_inspects 158 = .ok (.iload 4, 2) := dk_21 4 (dk_at dksX3_inspects_6 17 rfl rfl)
theorem dX3_inspects_160 : decode cX3_inspects 160 = .ok (.iadd, 1) := dk_96 (dk_at dksX3_inspects_6 19 rfl rfl)
theorem dX3_inspects_161 : decode cX3_inspects 161 = .ok (.putfield 111, 3) := dk_181 0 111 (dk_at dksX3_inspects_6 20 rfl rfl)
theorem dX3_inspects_164 : decode cX3_inspects 164 = .ok (.iload 4, 2) := dk_21 4 (dk_at dksX3_inspects_7 0 rfl rfl)
theorem dX3_inspects_166 : decode cX3_inspects 166 = .ok (.ireturn, 1) := dk_172 (dk_at dksX3_inspects_7 2 rfl rfl)
abbrev cX3_issues : ByteArray := prog_17_method_29_code
def yX3_issues : MethodName := ⟨RX3, "issues", "(I)V"⟩
def dkwX3_issues_3 : List UInt8 := [182, 1, 43, 96, 181, 0, 117, 177]
abbrev dktX3_issues_3 : List UInt8 := dkwX3_issues_3 ++ []
def dkwX3_issues_2 : List UInt8 := [182, 1, 40, 192, 0, 92, 78, 42, 89, 180, 0, 114, 4, 96, 181, 0, 114, 42, 89, 180, 0, 117, 44]
abbrev dktX3_issues_2 : List UInt8 := dkwX3_issues_2 ++ dktX3_issues_3
def dkwX3_issues_1 : List UInt8 := [180, 0, 25, 44, 182, 1, 36, 42, 180, 0, 25, 182, 1, 39, 16, 10, 164, 0, 14, 42, 180, 0, 25]
abbrev dktX3_issues_1 : List UInt8 := dkwX3_issues_1 ++ dktX3_issues_2
def dkwX3_issues_0 : List UInt8 := [187, 0, 92, 89, 42, 180, 0, 98, 27, 42, 27, 182, 1, 30, 42, 180, 0, 120, 183, 1, 33, 77, 42]
abbrev dktX3_issues_0 : List UInt8 := dkwX3_issues_0 ++ dktX3_issues_1
theorem dksX3_issues_0 : cX3_issues.data.toList.drop 0 = dktX3_issues_0 := by decide +kernel
theorem dksX3_issues_1 : cX3_issues.data.toList.drop 23 = dktX3_issues_1 := dk_seg dksX3_issues_0 23 rfl rfl
theorem dksX3_issues_2 : cX3_issues.data.toList.drop 46 = dktX3_issues_2 := dk_seg dksX3_issues_1 23 rfl rfl
theorem dksX3_issues_3 : cX3_issues.data.toList.drop 69 = dktX3_issues_3 := dk_seg dksX3_issues_2 23 rfl rfl
theorem dX3_issues_0 : decode cX3_issues 0 = .ok (.new 92, 3) := dk_187 0 92 (dk_at dksX3_issues_0 0 rfl rfl)
theorem dX3_issues_3 : decode cX3_issues 3 = .ok (.dup, 1) := dk_89 (dk_at dksX3_issues_0 3 rfl rfl)
theorem dX3_issues_4 : decode cX3_issues 4 = .ok (.aload_n 0, 1) := dk_42 (dk_at dksX3_issues_0 4 rfl rfl)
theorem dX3_issues_5 : decode cX3_issues 5 = .ok (.getfield 98, 3) := dk_180 0 98 (dk_at dksX3_issues_0 5 rfl rfl)
theorem dX3_issues_8 : decode cX3_issues 8 = .ok (.iload_n 1, 1) := dk_27 (dk_at dksX3_issues_0 8 rfl rfl)
theorem dX3_issues_9 : decode cX3_issues 9 = .ok (.aload_n 0, 1) := dk_42 (dk_at dksX3_issues_0 9 rfl rfl)
theorem dX3_issues_10 : decode cX3_issues 10 = .ok (.iload_n 1, 1) := dk_27 (dk_at dksX3_issues_0 10 rfl rfl)
theorem dX3_issues_11 : decode cX3_issues 11 = .ok (.invokevirtual 286, 3) := dk_182 1 30 (dk_at dksX3_issues_0 11 rfl rfl)
theorem dX3_issues_14 : decode cX3_issues 14 = .ok (.aload_n 0, 1) := dk_42 (dk_at dksX3_issues_0 14 rfl rfl)
theorem dX3_issues_15 : decode cX3_issues 15 = .ok (.getfield 120, 3) := dk_180 0 120 (dk_at dksX3_issues_0 15 rfl rfl)
theorem dX3_issues_18 : decode cX3_issues 18 = .ok (.invokespecial 289, 3) := dk_183 1 33 (dk_at dksX3_issues_0 18 rfl rfl)
theorem dX3_issues_21 : decode cX3_issues 21 = .ok (.astore_n 2, 1) := dk_77 (dk_at dksX3_issues_0 21 rfl rfl)
theorem dX3_issues_22 : decode cX3_issues 22 = .ok (.aload_n 0, 1) := dk_42 (dk_at dksX3_issues_0 22 rfl rfl)
theorem dX3_issues_23 : decode cX3_issues 23 = .ok (.getfield 25, 3) := dk_180 0 25 (dk_at dksX3_issues_1 0 rfl rfl)
theorem dX3_issues_26 : decode cX3_issues 26 = .ok (.aload_n 2, 1) := dk_44 (dk_at dksX3_issues_1 3 rfl rfl)
theorem dX3_issues_27 : decode cX3_issues 27 = .ok (.invokevirtual 292, 3) := dk_182 1 36 (dk_at dksX3_issues_1 4 rfl rfl)
theorem dX3_issues_30 : decode cX3_issues 30 = .ok (.aload_n 0, 1) := dk_42 (dk_at dksX3_issues_1 7 rfl rfl)
theorem dX3_issues_31 : decode cX3_issues 31 = .ok (.getfield 25, 3) := dk_180 0 25 (dk_at dksX3_issues_1 8 rfl rfl)
theorem dX3_issues_34 : decode cX3_issues 34 = .ok (.invokevirtual 295, 3) := dk_182 1 39 (dk_at dksX3_issues_1 11 rfl rfl)
theorem dX3_issues_37 : decode cX3_issues 37 = .ok (.bipush 10, 2) := dk_16 10 (dk_at dksX3_issues_1 14 rfl rfl)
theorem dX3_issues_39 : decode cX3_issues 39 = .ok (.if_icmp .le 14, 3) := dk_164 0 14 (dk_at dksX3_issues_1 16 rfl rfl)
theorem dX3_issues_42 : decode cX3_issues 42 = .ok (.aload_n 0, 1) := dk_42 (dk_at dksX3_issues_1 19 rfl rfl)
theorem dX3_issues_43 : decode cX3_issues 43 = .ok (.getfield 25, 3) := dk_180 0 25 (dk_at dksX3_issues_1 20 rfl rfl)
theorem dX3_issues_46 : decode cX3_issues 46 = .ok (.invokevirtual 296, 3) := dk_182 1 40 (dk_at dksX3_issues_2 0 rfl rfl)
theorem dX3_issues_49 : decode cX3_issues 49 = .ok (.checkcast 92, 3) := dk_192 0 92 (dk_at dksX3_issues_2 3 rfl rfl)
theorem dX3_issues_52 : decode cX3_issues 52 = .ok (.astore_n 3, 1) := dk_78 (dk_at dksX3_issues_2 6 rfl rfl)
theorem dX3_issues_53 : decode cX3_issues 53 = .ok (.aload_n 0, 1) := dk_42 (dk_at dksX3_issues_2 7 rfl rfl)
theorem dX3_issues_54 : decode cX3_issues 54 = .ok (.dup, 1) := dk_89 (dk_at dksX3_issues_2 8 rfl rfl)
theorem dX3_issues_55 : decode cX3_issues 55 = .ok (.getfield 114, 3) := dk_180 0 114 (dk_at dksX3_issues_2 9 rfl rfl)
theorem dX3_issues_58 : decode cX3_issues 58 = .ok (.iconst 1, 1) := dk_4 (dk_at dksX3_issues_2 12 rfl rfl)
theorem dX3_issues_59 : decode cX3_issues 59 = .ok (.iadd, 1) := dk_96 (dk_at dksX3_issues_2 13 rfl rfl)
theorem dX3_issues_60 : decode cX3_issues 60 = .ok (.putfield 114, 3) := dk_181 0 114 (dk_at dksX3_issues_2 14 rfl rfl)
theorem dX3_issues_63 : decode cX3_issues 63 = .ok (.aload_n 0, 1) := dk_42 (dk_at dksX3_issues_2 17 rfl rfl)
theorem dX3_issues_64 : decode cX3_issues 64 = .ok (.dup, 1) := dk_89 (dk_at dksX3_issues_2 18 rfl rfl)
theorem dX3_issues_65 : decode cX3_issues 65 = .ok (.getfield 117, 3) := dk_180 0 117 (dk_at dksX3_issues_2 19 rfl rfl)
theorem dX3_issues_68 : decode cX3_issues 68 = .ok (.aload_n 2, 1) := dk_44 (dk_at dksX3_issues_2 22 rfl rfl)
theorem dX3_issues_69 : decode cX3_issues 69 = .ok (.invokevirtual 299, 3) := dk_182 1 43 (dk_at dksX3_issues_3 0 rfl rfl)
theorem dX3_issues_72 : decode cX3_issues 72 = .ok (.iadd, 1) := dk_96 (dk_at dksX3_issues_3 3 rfl rfl)
theorem dX3_issues_73 : decode cX3_issues 73 = .ok (.putfield 117, 3) := dk_181 0 117 (dk_at dksX3_issues_3 4 rfl rfl)
theorem dX3_issues_76 : decode cX3_issues 76 = .ok (.return_, 1) := dk_177 (dk_at dksX3_issues_3 7 rfl rfl)
theorem q141 : (Jvm.Cond.initialized "FlareSlopes$State") ∈ lw_all := lw_g (lw_at lw_m1 14 rfl) rfl
theorem q437 : (Jvm.Cond.instantiable "FlareSlopes$State" (14 : Nat)) ∈ lw_all := lw_g (lw_at lw_m2 70 rfl) rfl
theorem q507 : (Jvm.Cond.fieldLinkNest "FlareSlopes$State" (48 : Nat) "FlareSlopes$Mountain" "cabins" "LFlareSlopes$Register;" "FlareSlopes") ∈ lw_tbl := lw_at lw_m2 140 rfl
theorem q511 : (Jvm.Cond.fieldLinkNest "FlareSlopes$State" (124 : Nat) "FlareSlopes$Mountain" "slopes" "LFlareSlopes$Register;" "FlareSlopes") ∈ lw_tbl := lw_at lw_m2 144 rfl
theorem q520 : (Jvm.Cond.fieldLinkNest "FlareSlopes$State" (39 : Nat) "FlareSlopes$Mountain" "settings" "[I" "FlareSlopes") ∈ lw_tbl := lw_at lw_m2 153 rfl
theorem q1221 : (Jvm.Cond.instanceMethod ({ cls := "FlareSlopes$State", name := "<init>", desc := "(LFlareSlopes$Mountain;)V" } : Jvm.MethodName)) ∈ lw_all := lw_g (lw_at lw_m5 134 rfl) rfl
theorem q1222 : (Jvm.Cond.code ({ cls := "FlareSlopes$State", name := "<init>", desc := "(LFlareSlopes$Mountain;)V" } : Jvm.MethodName) prog_17_method_1_code (3 : Nat) (Option.none : Option Jvm.ClassFile.FieldType)) ∈ lw_all := lw_g (lw_at lw_m5 135 rfl) rfl
theorem q1223 : (Jvm.Cond.methodLink "FlareSlopes$State" (3 : Nat) ({ cls := "java/lang/Object", name := "<init>", desc := "()V" } : Jvm.MethodName)) ∈ lw_all := lw_g (lw_at lw_m5 136 rfl) rfl
theorem q1224 : (Jvm.Cond.classLink "FlareSlopes$State" (9 : Nat) "java/util/ArrayList") ∈ lw_all := lw_g (lw_at lw_m5 137 rfl) rfl
theorem q1225 : (Jvm.Cond.methodLink "FlareSlopes$State" (11 : Nat) ({ cls := "java/util/ArrayList", name := "<init>", desc := "()V" } : Jvm.MethodName)) ∈ lw_all := lw_g (lw_at lw_m5 138 rfl) rfl
theorem q1226 : (Jvm.Cond.classLink "FlareSlopes$State" (22 : Nat) "java/util/ArrayDeque") ∈ lw_all := lw_g (lw_at lw_m5 139 rfl) rfl
theorem q1227 : (Jvm.Cond.methodLink "FlareSlopes$State" (24 : Nat) ({ cls := "java/util/ArrayDeque", name := "<init>", desc := "()V" } : Jvm.MethodName)) ∈ lw_all := lw_g (lw_at lw_m5 140 rfl) rfl
theorem q1228 : (Jvm.Cond.methodLink "FlareSlopes$State" (42 : Nat) ({ cls := "java/lang/System", name := "arraycopy", desc := "(Ljava/lang/Object;ILjava/lang/Object;II)V" } : Jvm.MethodName)) ∈ lw_all := lw_g (lw_at lw_m5 141 rfl) rfl
theorem q1229 : (Jvm.Cond.methodLink "FlareSlopes$State" (51 : Nat) ({ cls := "FlareSlopes$Register", name := "size", desc := "()I" } : Jvm.MethodName)) ∈ lw_all := lw_g (lw_at lw_m5 142 rfl) rfl
theorem q1230 : (Jvm.Cond.classLink "FlareSlopes$State" (57 : Nat) "FlareSlopes$Cabin") ∈ lw_all := lw_g (lw_at lw_m5 143 rfl) rfl
theorem q1232 : (Jvm.Cond.methodLink "FlareSlopes$State" (59 : Nat) ({ cls := "FlareSlopes$Register", name := "get", desc := "(I)LFlareSlopes$Named;" } : Jvm.MethodName)) ∈ lw_all := lw_g (lw_at lw_m5 145 rfl) rfl
theorem q1233 : (Jvm.Cond.classLink "FlareSlopes$State" (63 : Nat) "FlareSlopes$Spot") ∈ lw_all := lw_g (lw_at lw_m5 146 rfl) rfl
theorem q1234 : (Jvm.Cond.methodLink "FlareSlopes$State" (65 : Nat) ({ cls := "FlareSlopes$Cabin", name := "<init>", desc := "(LFlareSlopes$Spot;)V" } : Jvm.MethodName)) ∈ lw_all := lw_g (lw_at lw_m5 147 rfl) rfl
theorem q1312 : (Jvm.Cond.fieldLinkNest "FlareSlopes$State" (179 : Nat) "FlareSlopes$Cabin" "trust" "I" "FlareSlopes") ∈ lw_tbl := lw_at lw_m5 225 rfl
theorem q1317 : (Jvm.Cond.fieldLinkNest "FlareSlopes$State" (256 : Nat) "FlareSlopes$Cabin" "closed" "I" "FlareSlopes") ∈ lw_tbl := lw_at lw_m5 230 rfl
theorem q1322 : (Jvm.Cond.fieldLinkNest "FlareSlopes$State" (253 : Nat) "FlareSlopes$Cabin" "runs" "[I" "FlareSlopes") ∈ lw_tbl := lw_at lw_m5 235 rfl
theorem q1325 : (Jvm.Cond.fieldLinkNest "FlareSlopes$State" (188 : Nat) "FlareSlopes$Cabin" "votes" "Ljava/util/Map;" "FlareSlopes") ∈ lw_tbl := lw_at lw_m5 238 rfl
theorem q1347 : (Jvm.Cond.methodLink "FlareSlopes$State" (68 : Nat) ({ cls := "java/util/List", name := "add", desc := "(Ljava/lang/Object;)Z" } : Jvm.MethodName)) ∈ lw_all := lw_g (lw_at lw_m6 20 rfl) rfl
theorem q1348 : (Jvm.Cond.fieldLink "FlareSlopes$State" (35 : Nat) "FlareSlopes$State" "mountain" "LFlareSlopes$Mountain;") ∈ lw_all := lw_g (lw_at lw_m6 21 rfl) rfl
theorem q1350 : (Jvm.Cond.fieldLink "FlareSlopes$State" (12 : Nat) "FlareSlopes$State" "cabins" "Ljava/util/List;") ∈ lw_all := lw_g (lw_at lw_m6 23 rfl) rfl
theorem q1351 : (Jvm.Cond.fieldLink "FlareSlopes$State" (18 : Nat) "FlareSlopes$State" "settings" "[I") ∈ lw_all := lw_g (lw_at lw_m6 24 rfl) rfl
theorem q1353 : (Jvm.Cond.fieldLink "FlareSlopes$State" (25 : Nat) "FlareSlopes$State" "bulletins" "Ljava/util/ArrayDeque;") ∈ lw_all := lw_g (lw_at lw_m6 26 rfl) rfl
theorem q1355 : (Jvm.Cond.fieldLink "FlareSlopes$State" (98 : Nat) "FlareSlopes$State" "time" "I") ∈ lw_all := lw_g (lw_at lw_m6 28 rfl) rfl
theorem q1357 : (Jvm.Cond.fieldLink "FlareSlopes$State" (102 : Nat) "FlareSlopes$State" "fired" "I") ∈ lw_all := lw_g (lw_at lw_m6 30 rfl) rfl
theorem q1359 : (Jvm.Cond.fieldLink "FlareSlopes$State" (105 : Nat) "FlareSlopes$State" "closings" "I") ∈ lw_all := lw_g (lw_at lw_m6 32 rfl) rfl
theorem q1361 : (Jvm.Cond.fieldLink "FlareSlopes$State" (108 : Nat) "FlareSlopes$State" "openings" "I") ∈ lw_all := lw_g (lw_at lw_m6 34 rfl) rfl
theorem q1363 : (Jvm.Cond.fieldLink "FlareSlopes$State" (111 : Nat) "FlareSlopes$State" "falses" "I") ∈ lw_all := lw_g (lw_at lw_m6 36 rfl) rfl
theorem q1365 : (Jvm.Cond.fieldLink "FlareSlopes$State" (114 : Nat) "FlareSlopes$State" "issued" "I") ∈ lw_all := lw_g (lw_at lw_m6 38 rfl) rfl
theorem q1367 : (Jvm.Cond.fieldLink "FlareSlopes$State" (117 : Nat) "FlareSlopes$State" "wrongs" "I") ∈ lw_all := lw_g (lw_at lw_m6 40 rfl) rfl
theorem q1369 : (Jvm.Cond.fieldLink "FlareSlopes$State" (120 : Nat) "FlareSlopes$State" "dangers" "I") ∈ lw_all := lw_g (lw_at lw_m6 42 rfl) rfl
theorem q1371 : (Jvm.Cond.fieldLink "FlareSlopes$State" (29 : Nat) "FlareSlopes$State" "reds" "[I") ∈ lw_all := lw_g (lw_at lw_m6 44 rfl) rfl
theorem q1373 : (Jvm.Cond.fieldLink "FlareSlopes$State" (32 : Nat) "FlareSlopes$State" "greens" "[I") ∈ lw_all := lw_g (lw_at lw_m6 46 rfl) rfl
theorem q1412 : (Jvm.Cond.instanceMethod ({ cls := "FlareSlopes$State", name := "size", desc := "()I" } : Jvm.MethodName)) ∈ lw_all := lw_g (lw_at lw_m6 85 rfl) rfl
theorem q1413 : (Jvm.Cond.selects "FlareSlopes$State" ({ cls := "FlareSlopes$State", name := "size", desc := "()I" } : Jvm.MethodName) ({ cls := "FlareSlopes$State", name := "size", desc := "()I" } : Jvm.MethodName)) ∈ lw_all := lw_g (lw_at lw_m6 86 rfl) rfl
theorem q1414 : (Jvm.Cond.code ({ cls := "FlareSlopes$State", name := "size", desc := "()I" } : Jvm.MethodName) prog_17_method_3_code (1 : Nat) (Option.some Jvm.ClassFile.FieldType.int)) ∈ lw_all := lw_g (lw_at lw_m6 87 rfl) rfl
theorem q1416 : (Jvm.Cond.methodLink "FlareSlopes$State" (123 : Nat) ({ cls := "java/util/List", name := "size", desc := "()I" } : Jvm.MethodName)) ∈ lw_all := lw_g (lw_at lw_m6 89 rfl) rfl
theorem q1465 : (Jvm.Cond.instanceMethod ({ cls := "FlareSlopes$State", name := "slopes", desc := "()I" } : Jvm.MethodName)) ∈ lw_all := lw_g (lw_at lw_m6 138 rfl) rfl
theorem q1466 : (Jvm.Cond.selects "FlareSlopes$State" ({ cls := "FlareSlopes$State", name := "slopes", desc := "()I" } : Jvm.MethodName) ({ cls := "FlareSlopes$State", name := "slopes", desc := "()I" } : Jvm.MethodName)) ∈ lw_all := lw_g (lw_at lw_m6 139 rfl) rfl
theorem q1467 : (Jvm.Cond.code ({ cls := "FlareSlopes$State", name := "slopes", desc := "()I" } : Jvm.MethodName) prog_17_method_4_code (1 : Nat) (Option.some Jvm.ClassFile.FieldType.int)) ∈ lw_all := lw_g (lw_at lw_m6 140 rfl) rfl
theorem q1471 : (Jvm.Cond.instanceMethod ({ cls := "FlareSlopes$State", name := "remembered", desc := "()I" } : Jvm.MethodName)) ∈ lw_all := lw_g (lw_at lw_m6 144 rfl) rfl
theorem q1472 : (Jvm.Cond.selects "FlareSlopes$State" ({ cls := "FlareSlopes$State", name := "remembered", desc := "()I" } : Jvm.MethodName) ({ cls := "FlareSlopes$State", name := "remembered", desc := "()I" } : Jvm.MethodName)) ∈ lw_all := lw_g (lw_at lw_m6 145 rfl) rfl
theorem q1473 : (Jvm.Cond.code ({ cls := "FlareSlopes$State", name := "remembered", desc := "()I" } : Jvm.MethodName) prog_17_method_18_code (4 : Nat) (Option.some Jvm.ClassFile.FieldType.int)) ∈ lw_all := lw_g (lw_at lw_m6 146 rfl) rfl
theorem q1475 : (Jvm.Cond.methodLink "FlareSlopes$State" (74 : Nat) ({ cls := "java/util/List", name := "iterator", desc := "()Ljava/util/Iterator;" } : Jvm.MethodName)) ∈ lw_all := lw_g (lw_at lw_m6 148 rfl) rfl
theorem q1503 : (Jvm.Cond.methodLink "FlareSlopes$State" (78 : Nat) ({ cls := "java/util/Iterator", name := "hasNext", desc := "()Z" } : Jvm.MethodName)) ∈ lw_all := lw_g (lw_at lw_m6 176 rfl) rfl
theorem q1537 : (Jvm.Cond.methodLink "FlareSlopes$State" (84 : Nat) ({ cls := "java/util/Iterator", name := "next", desc := "()Ljava/lang/Object;" } : Jvm.MethodName)) ∈ lw_all := lw_g (lw_at lw_m6 210 rfl) rfl
theorem q1610 : (Jvm.Cond.methodLink "FlareSlopes$State" (219 : Nat) ({ cls := "java/util/Map", name := "size", desc := "()I" } : Jvm.MethodName)) ∈ lw_all := lw_g (lw_at lw_m7 43 rfl) rfl
theorem q1630 : (Jvm.Cond.instanceMethod ({ cls := "FlareSlopes$State", name := "seers", desc := "(I)I" } : Jvm.MethodName)) ∈ lw_all := lw_g (lw_at lw_m7 63 rfl) rfl
theorem q1631 : (Jvm.Cond.selects "FlareSlopes$State" ({ cls := "FlareSlopes$State", name := "seers", desc := "(I)I" } : Jvm.MethodName) ({ cls := "FlareSlopes$State", name := "seers", desc := "(I)I" } : Jvm.MethodName)) ∈ lw_all := lw_g (lw_at lw_m7 64 rfl) rfl
theorem q1632 : (Jvm.Cond.code ({ cls := "FlareSlopes$State", name := "seers", desc := "(I)I" } : Jvm.MethodName) prog_17_method_11_code (4 : Nat) (Option.some Jvm.ClassFile.FieldType.int)) ∈ lw_all := lw_g (lw_at lw_m7 65 rfl) rfl
theorem q1633 : (Jvm.Cond.methodLink "FlareSlopes$State" (165 : Nat) ({ cls := "FlareSlopes$State", name := "size", desc := "()I" } : Jvm.MethodName)) ∈ lw_all := lw_g (lw_at lw_m7 66 rfl) rfl
theorem q1634 : (Jvm.Cond.methodLink "FlareSlopes$State" (166 : Nat) ({ cls := "FlareSlopes$State", name := "sees", desc := "(II)Z" } : Jvm.MethodName)) ∈ lw_all := lw_g (lw_at lw_m7 67 rfl) rfl
theorem q1635 : (Jvm.Cond.instanceMethod ({ cls := "FlareSlopes$State", name := "sees", desc := "(II)Z" } : Jvm.MethodName)) ∈ lw_all := lw_g (lw_at lw_m7 68 rfl) rfl
theorem q1636 : (Jvm.Cond.selects "FlareSlopes$State" ({ cls := "FlareSlopes$State", name := "sees", desc := "(II)Z" } : Jvm.MethodName) ({ cls := "FlareSlopes$State", name := "sees", desc := "(II)Z" } : Jvm.MethodName)) ∈ lw_all := lw_g (lw_at lw_m7 69 rfl) rfl
theorem q1637 : (Jvm.Cond.code ({ cls := "FlareSlopes$State", name := "sees", desc := "(II)Z" } : Jvm.MethodName) prog_17_method_9_code (3 : Nat) (Option.some Jvm.ClassFile.FieldType.boolean)) ∈ lw_all := lw_g (lw_at lw_m7 70 rfl) rfl
theorem q1638 : (Jvm.Cond.methodLink "FlareSlopes$State" (153 : Nat) ({ cls := "FlareSlopes$State", name := "cabin", desc := "(I)LFlareSlopes$Cabin;" } : Jvm.MethodName)) ∈ lw_all := lw_g (lw_at lw_m7 71 rfl) rfl
theorem q1639 : (Jvm.Cond.instanceMethod ({ cls := "FlareSlopes$State", name := "cabin", desc := "(I)LFlareSlopes$Cabin;" } : Jvm.MethodName)) ∈ lw_all := lw_g (lw_at lw_m7 72 rfl) rfl
theorem q1640 : (Jvm.Cond.selects "FlareSlopes$State" ({ cls := "FlareSlopes$State", name := "cabin", desc := "(I)LFlareSlopes$Cabin;" } : Jvm.MethodName) ({ cls := "FlareSlopes$State", name := "cabin", desc := "(I)LFlareSlopes$Cabin;" } : Jvm.MethodName)) ∈ lw_all := lw_g (lw_at lw_m7 73 rfl) rfl
theorem q1641 : (Jvm.Cond.code ({ cls := "FlareSlopes$State", name := "cabin", desc := "(I)LFlareSlopes$Cabin;" } : Jvm.MethodName) prog_17_method_5_code (2 : Nat) (Option.some (Jvm.ClassFile.FieldType.object "FlareSlopes$Cabin"))) ∈ lw_all := lw_g (lw_at lw_m7 74 rfl) rfl
theorem q1643 : (Jvm.Cond.methodLink "FlareSlopes$State" (127 : Nat) ({ cls := "java/util/List", name := "get", desc := "(I)Ljava/lang/Object;" } : Jvm.MethodName)) ∈ lw_all := lw_g (lw_at lw_m7 76 rfl) rfl
theorem q1644 : (Jvm.Cond.methodLink "FlareSlopes$State" (157 : Nat) ({ cls := "FlareSlopes$State", name := "isSeen", desc := "(LFlareSlopes$Located;LFlareSlopes$Located;)Z" } : Jvm.MethodName)) ∈ lw_all := lw_g (lw_at lw_m7 77 rfl) rfl
theorem q1646 : (Jvm.Cond.instanceMethod ({ cls := "FlareSlopes$State", name := "isSeen", desc := "(LFlareSlopes$Located;LFlareSlopes$Located;)Z" } : Jvm.MethodName)) ∈ lw_all := lw_g (lw_at lw_m7 79 rfl) rfl
theorem q1647 : (Jvm.Cond.code ({ cls := "FlareSlopes$State", name := "isSeen", desc := "(LFlareSlopes$Located;LFlareSlopes$Located;)Z" } : Jvm.MethodName) prog_17_method_8_code (3 : Nat) (Option.some Jvm.ClassFile.FieldType.boolean)) ∈ lw_all := lw_g (lw_at lw_m7 80 rfl) rfl
theorem q1648 : (Jvm.Cond.methodLink "FlareSlopes$State" (140 : Nat) ({ cls := "FlareSlopes$State", name := "sight", desc := "()I" } : Jvm.MethodName)) ∈ lw_all := lw_g (lw_at lw_m7 81 rfl) rfl
theorem q1649 : (Jvm.Cond.instanceMethod ({ cls := "FlareSlopes$State", name := "sight", desc := "()I" } : Jvm.MethodName)) ∈ lw_all := lw_g (lw_at lw_m7 82 rfl) rfl
theorem q1650 : (Jvm.Cond.selects "FlareSlopes$State" ({ cls := "FlareSlopes$State", name := "sight", desc := "()I" } : Jvm.MethodName) ({ cls := "FlareSlopes$State", name := "sight", desc := "()I" } : Jvm.MethodName)) ∈ lw_all := lw_g (lw_at lw_m7 83 rfl) rfl
theorem q1651 : (Jvm.Cond.code ({ cls := "FlareSlopes$State", name := "sight", desc := "()I" } : Jvm.MethodName) prog_17_method_7_code (1 : Nat) (Option.some Jvm.ClassFile.FieldType.int)) ∈ lw_all := lw_g (lw_at lw_m7 84 rfl) rfl
theorem q1652 : (Jvm.Cond.methodLink "FlareSlopes$State" (130 : Nat) ({ cls := "FlareSlopes$Mountain", name := "mist", desc := "(I)I" } : Jvm.MethodName)) ∈ lw_all := lw_g (lw_at lw_m7 85 rfl) rfl
theorem q1666 : (Jvm.Cond.methodLink "FlareSlopes$State" (134 : Nat) ({ cls := "java/lang/Math", name := "max", desc := "(II)I" } : Jvm.MethodName)) ∈ lw_all := lw_g (lw_at lw_m7 99 rfl) rfl
theorem q1668 : (Jvm.Cond.methodLink "FlareSlopes$State" (143 : Nat) ({ cls := "FlareSlopes$Located", name := "isWithin", desc := "(LFlareSlopes$Located;I)Z" } : Jvm.MethodName)) ∈ lw_all := lw_g (lw_at lw_m7 101 rfl) rfl
theorem q1709 : (Jvm.Cond.methodLink "FlareSlopes$State" (149 : Nat) ({ cls := "FlareSlopes$Mountain", name := "ridges", desc := "(LFlareSlopes$Located;LFlareSlopes$Located;)I" } : Jvm.MethodName)) ∈ lw_all := lw_g (lw_at lw_m7 142 rfl) rfl
theorem q1990 : (Jvm.Cond.instanceMethod ({ cls := "FlareSlopes$State", name := "votesOf", desc := "(ILFlareSlopes$Judge;)I" } : Jvm.MethodName)) ∈ lw_all := lw_g (lw_at lw_m8 183 rfl) rfl
theorem q1991 : (Jvm.Cond.selects "FlareSlopes$State" ({ cls := "FlareSlopes$State", name := "votesOf", desc := "(ILFlareSlopes$Judge;)I" } : Jvm.MethodName) ({ cls := "FlareSlopes$State", name := "votesOf", desc := "(ILFlareSlopes$Judge;)I" } : Jvm.MethodName)) ∈ lw_all := lw_g (lw_at lw_m8 184 rfl) rfl
theorem q1992 : (Jvm.Cond.code ({ cls := "FlareSlopes$State", name := "votesOf", desc := "(ILFlareSlopes$Judge;)I" } : Jvm.MethodName) prog_17_method_17_code (7 : Nat) (Option.some Jvm.ClassFile.FieldType.int)) ∈ lw_all := lw_g (lw_at lw_m8 185 rfl) rfl
theorem q1993 : (Jvm.Cond.methodLink "FlareSlopes$State" (186 : Nat) ({ cls := "FlareSlopes$State", name := "slopes", desc := "()I" } : Jvm.MethodName)) ∈ lw_all := lw_g (lw_at lw_m8 186 rfl) rfl
theorem q1994 : (Jvm.Cond.methodLink "FlareSlopes$State" (197 : Nat) ({ cls := "FlareSlopes$Mountain", name := "key", desc := "(II)LFlareSlopes$Key;" } : Jvm.MethodName)) ∈ lw_all := lw_g (lw_at lw_m8 187 rfl) rfl
theorem q1999 : (Jvm.Cond.methodLink "FlareSlopes$State" (201 : Nat) ({ cls := "java/util/Map", name := "get", desc := "(Ljava/lang/Object;)Ljava/lang/Object;" } : Jvm.MethodName)) ∈ lw_all := lw_g (lw_at lw_m8 192 rfl) rfl
theorem q2322 : (Jvm.Cond.classLink "FlareSlopes$State" (204 : Nat) "FlareSlopes$Vote") ∈ lw_all := lw_g (lw_at lw_m10 35 rfl) rfl
theorem q2323 : (Jvm.Cond.methodLink "FlareSlopes$State" (213 : Nat) ({ cls := "FlareSlopes$Judge", name := "counts", desc := "(LFlareSlopes$Vote;I)Z" } : Jvm.MethodName)) ∈ lw_all := lw_g (lw_at lw_m10 36 rfl) rfl
theorem q2333 : (Jvm.Cond.instanceMethod ({ cls := "FlareSlopes$State", name := "isDangerous", desc := "(I)Z" } : Jvm.MethodName)) ∈ lw_all := lw_g (lw_at lw_m10 46 rfl) rfl
theorem q2334 : (Jvm.Cond.selects "FlareSlopes$State" ({ cls := "FlareSlopes$State", name := "isDangerous", desc := "(I)Z" } : Jvm.MethodName) ({ cls := "FlareSlopes$State", name := "isDangerous", desc := "(I)Z" } : Jvm.MethodName)) ∈ lw_all := lw_g (lw_at lw_m10 47 rfl) rfl
theorem q2335 : (Jvm.Cond.code ({ cls := "FlareSlopes$State", name := "isDangerous", desc := "(I)Z" } : Jvm.MethodName) prog_17_method_20_code (2 : Nat) (Option.some Jvm.ClassFile.FieldType.boolean)) ∈ lw_all := lw_g (lw_at lw_m10 48 rfl) rfl
theorem q2336 : (Jvm.Cond.methodLinkNest "FlareSlopes$State" (170 : Nat) ({ cls := "FlareSlopes", name := "has", desc := "(II)Z" } : Jvm.MethodName) "FlareSlopes") ∈ lw_tbl := lw_at lw_m10 49 rfl
theorem q2350 : (Jvm.Cond.instanceMethod ({ cls := "FlareSlopes$State", name := "seesSlope", desc := "(II)Z" } : Jvm.MethodName)) ∈ lw_all := lw_g (lw_at lw_m10 63 rfl) rfl
theorem q2351 : (Jvm.Cond.selects "FlareSlopes$State" ({ cls := "FlareSlopes$State", name := "seesSlope", desc := "(II)Z" } : Jvm.MethodName) ({ cls := "FlareSlopes$State", name := "seesSlope", desc := "(II)Z" } : Jvm.MethodName)) ∈ lw_all := lw_g (lw_at lw_m10 64 rfl) rfl
theorem q2352 : (Jvm.Cond.code ({ cls := "FlareSlopes$State", name := "seesSlope", desc := "(II)Z" } : Jvm.MethodName) prog_17_method_10_code (3 : Nat) (Option.some Jvm.ClassFile.FieldType.boolean)) ∈ lw_all := lw_g (lw_at lw_m10 65 rfl) rfl
theorem q2353 : (Jvm.Cond.methodLink "FlareSlopes$State" (161 : Nat) ({ cls := "FlareSlopes$State", name := "slope", desc := "(I)LFlareSlopes$Spot;" } : Jvm.MethodName)) ∈ lw_all := lw_g (lw_at lw_m10 66 rfl) rfl
theorem q2354 : (Jvm.Cond.instanceMethod ({ cls := "FlareSlopes$State", name := "slope", desc := "(I)LFlareSlopes$Spot;" } : Jvm.MethodName)) ∈ lw_all := lw_g (lw_at lw_m10 67 rfl) rfl
theorem q2355 : (Jvm.Cond.selects "FlareSlopes$State" ({ cls := "FlareSlopes$State", name := "slope", desc := "(I)LFlareSlopes$Spot;" } : Jvm.MethodName) ({ cls := "FlareSlopes$State", name := "slope", desc := "(I)LFlareSlopes$Spot;" } : Jvm.MethodName)) ∈ lw_all := lw_g (lw_at lw_m10 68 rfl) rfl
theorem q2356 : (Jvm.Cond.code ({ cls := "FlareSlopes$State", name := "slope", desc := "(I)LFlareSlopes$Spot;" } : Jvm.MethodName) prog_17_method_6_code (2 : Nat) (Option.some (Jvm.ClassFile.FieldType.object "FlareSlopes$Spot"))) ∈ lw_all := lw_g (lw_at lw_m10 69 rfl) rfl
theorem q3051 : (Jvm.Cond.instanceMethod ({ cls := "FlareSlopes$State", name := "closers", desc := "(I)I" } : Jvm.MethodName)) ∈ lw_all := lw_g (lw_at lw_m13 44 rfl) rfl
theorem q3052 : (Jvm.Cond.selects "FlareSlopes$State" ({ cls := "FlareSlopes$State", name := "closers", desc := "(I)I" } : Jvm.MethodName) ({ cls := "FlareSlopes$State", name := "closers", desc := "(I)I" } : Jvm.MethodName)) ∈ lw_all := lw_g (lw_at lw_m13 45 rfl) rfl
theorem q3053 : (Jvm.Cond.code ({ cls := "FlareSlopes$State", name := "closers", desc := "(I)I" } : Jvm.MethodName) prog_17_method_19_code (4 : Nat) (Option.some Jvm.ClassFile.FieldType.int)) ∈ lw_all := lw_g (lw_at lw_m13 46 rfl) rfl
theorem q3054 : (Jvm.Cond.methodLink "FlareSlopes$State" (220 : Nat) ({ cls := "FlareSlopes$Cabin", name := "holdsClosed", desc := "(I)Z" } : Jvm.MethodName)) ∈ lw_all := lw_g (lw_at lw_m13 47 rfl) rfl
theorem q3072 : (Jvm.Cond.instanceMethod ({ cls := "FlareSlopes$State", name := "laySums", desc := "(I)V" } : Jvm.MethodName)) ∈ lw_all := lw_g (lw_at lw_m13 65 rfl) rfl
theorem q3073 : (Jvm.Cond.selects "FlareSlopes$State" ({ cls := "FlareSlopes$State", name := "laySums", desc := "(I)V" } : Jvm.MethodName) ({ cls := "FlareSlopes$State", name := "laySums", desc := "(I)V" } : Jvm.MethodName)) ∈ lw_all := lw_g (lw_at lw_m13 66 rfl) rfl
theorem q3074 : (Jvm.Cond.code ({ cls := "FlareSlopes$State", name := "laySums", desc := "(I)V" } : Jvm.MethodName) prog_17_method_15_code (6 : Nat) (Option.none : Option Jvm.ClassFile.FieldType)) ∈ lw_all := lw_g (lw_at lw_m13 67 rfl) rfl
theorem q3076 : (Jvm.Cond.methodLink "FlareSlopes$State" (192 : Nat) ({ cls := "java/util/Map", name := "isEmpty", desc := "()Z" } : Jvm.MethodName)) ∈ lw_all := lw_g (lw_at lw_m13 69 rfl) rfl
theorem q3084 : (Jvm.Cond.methodLink "FlareSlopes$State" (210 : Nat) ({ cls := "FlareSlopes$State", name := "weight", desc := "(II)I" } : Jvm.MethodName)) ∈ lw_all := lw_g (lw_at lw_m13 77 rfl) rfl
theorem q3085 : (Jvm.Cond.instanceMethod ({ cls := "FlareSlopes$State", name := "weight", desc := "(II)I" } : Jvm.MethodName)) ∈ lw_all := lw_g (lw_at lw_m13 78 rfl) rfl
theorem q3086 : (Jvm.Cond.selects "FlareSlopes$State" ({ cls := "FlareSlopes$State", name := "weight", desc := "(II)I" } : Jvm.MethodName) ({ cls := "FlareSlopes$State", name := "weight", desc := "(II)I" } : Jvm.MethodName)) ∈ lw_all := lw_g (lw_at lw_m13 79 rfl) rfl
theorem q3087 : (Jvm.Cond.code ({ cls := "FlareSlopes$State", name := "weight", desc := "(II)I" } : Jvm.MethodName) prog_17_method_14_code (3 : Nat) (Option.some Jvm.ClassFile.FieldType.int)) ∈ lw_all := lw_g (lw_at lw_m13 80 rfl) rfl
theorem q3167 : (Jvm.Cond.instanceMethod ({ cls := "FlareSlopes$State", name := "reached", desc := "(II)I" } : Jvm.MethodName)) ∈ lw_all := lw_g (lw_at lw_m13 160 rfl) rfl
theorem q3168 : (Jvm.Cond.selects "FlareSlopes$State" ({ cls := "FlareSlopes$State", name := "reached", desc := "(II)I" } : Jvm.MethodName) ({ cls := "FlareSlopes$State", name := "reached", desc := "(II)I" } : Jvm.MethodName)) ∈ lw_all := lw_g (lw_at lw_m13 161 rfl) rfl
theorem q3169 : (Jvm.Cond.code ({ cls := "FlareSlopes$State", name := "reached", desc := "(II)I" } : Jvm.MethodName) prog_17_method_12_code (7 : Nat) (Option.some Jvm.ClassFile.FieldType.int)) ∈ lw_all := lw_g (lw_at lw_m13 162 rfl) rfl
theorem q3170 : (Jvm.Cond.methodLink "FlareSlopes$State" (173 : Nat) ({ cls := "FlareSlopes$State", name := "seers", desc := "(I)I" } : Jvm.MethodName)) ∈ lw_all := lw_g (lw_at lw_m13 163 rfl) rfl
theorem q3179 : (Jvm.Cond.instanceMethod ({ cls := "FlareSlopes$State", name := "steps", desc := "(II)I" } : Jvm.MethodName)) ∈ lw_all := lw_g (lw_at lw_m13 172 rfl) rfl
theorem q3180 : (Jvm.Cond.selects "FlareSlopes$State" ({ cls := "FlareSlopes$State", name := "steps", desc := "(II)I" } : Jvm.MethodName) ({ cls := "FlareSlopes$State", name := "steps", desc := "(II)I" } : Jvm.MethodName)) ∈ lw_all := lw_g (lw_at lw_m13 173 rfl) rfl
theorem q3181 : (Jvm.Cond.code ({ cls := "FlareSlopes$State", name := "steps", desc := "(II)I" } : Jvm.MethodName) prog_17_method_13_code (4 : Nat) (Option.some Jvm.ClassFile.FieldType.int)) ∈ lw_all := lw_g (lw_at lw_m13 174 rfl) rfl
theorem q3182 : (Jvm.Cond.methodLink "FlareSlopes$State" (176 : Nat) ({ cls := "FlareSlopes$State", name := "reached", desc := "(II)I" } : Jvm.MethodName)) ∈ lw_all := lw_g (lw_at lw_m13 175 rfl) rfl
theorem q3217 : (Jvm.Cond.instanceMethod ({ cls := "FlareSlopes$State", name := "rules", desc := "(I)I" } : Jvm.MethodName)) ∈ lw_all := lw_g (lw_at lw_m13 210 rfl) rfl
theorem q3218 : (Jvm.Cond.selects "FlareSlopes$State" ({ cls := "FlareSlopes$State", name := "rules", desc := "(I)I" } : Jvm.MethodName) ({ cls := "FlareSlopes$State", name := "rules", desc := "(I)I" } : Jvm.MethodName)) ∈ lw_all := lw_g (lw_at lw_m13 211 rfl) rfl
theorem q3219 : (Jvm.Cond.code ({ cls := "FlareSlopes$State", name := "rules", desc := "(I)I" } : Jvm.MethodName) prog_17_method_16_code (2 : Nat) (Option.some Jvm.ClassFile.FieldType.int)) ∈ lw_all := lw_g (lw_at lw_m13 212 rfl) rfl
theorem q3243 : (Jvm.Cond.instanceMethod ({ cls := "FlareSlopes$State", name := "tellsClosed", desc := "(II)Z" } : Jvm.MethodName)) ∈ lw_all := lw_g (lw_at lw_m13 236 rfl) rfl
theorem q3244 : (Jvm.Cond.selects "FlareSlopes$State" ({ cls := "FlareSlopes$State", name := "tellsClosed", desc := "(II)Z" } : Jvm.MethodName) ({ cls := "FlareSlopes$State", name := "tellsClosed", desc := "(II)Z" } : Jvm.MethodName)) ∈ lw_all := lw_g (lw_at lw_m13 237 rfl) rfl
theorem q3245 : (Jvm.Cond.code ({ cls := "FlareSlopes$State", name := "tellsClosed", desc := "(II)Z" } : Jvm.MethodName) prog_17_method_27_code (4 : Nat) (Option.some Jvm.ClassFile.FieldType.boolean)) ∈ lw_all := lw_g (lw_at lw_m13 238 rfl) rfl
theorem q3246 : (Jvm.Cond.methodLink "FlareSlopes$State" (275 : Nat) ({ cls := "FlareSlopes$State", name := "closers", desc := "(I)I" } : Jvm.MethodName)) ∈ lw_all := lw_g (lw_at lw_m13 239 rfl) rfl
theorem q3247 : (Jvm.Cond.methodLink "FlareSlopes$State" (278 : Nat) ({ cls := "java/lang/Integer", name := "bitCount", desc := "(I)I" } : Jvm.MethodName)) ∈ lw_all := lw_g (lw_at lw_m14 0 rfl) rfl
theorem q3467 : (Jvm.Cond.instanceMethod ({ cls := "FlareSlopes$State", name := "<init>", desc := "(LFlareSlopes$State;)V" } : Jvm.MethodName)) ∈ lw_all := lw_g (lw_at lw_m14 220 rfl) rfl
theorem q3468 : (Jvm.Cond.code ({ cls := "FlareSlopes$State", name := "<init>", desc := "(LFlareSlopes$State;)V" } : Jvm.MethodName) prog_17_method_2_code (4 : Nat) (Option.none : Option Jvm.ClassFile.FieldType)) ∈ lw_all := lw_g (lw_at lw_m14 221 rfl) rfl
theorem q3469 : (Jvm.Cond.methodLink "FlareSlopes$State" (88 : Nat) ({ cls := "FlareSlopes$Cabin", name := "<init>", desc := "(LFlareSlopes$Cabin;)V" } : Jvm.MethodName)) ∈ lw_all := lw_g (lw_at lw_m14 222 rfl) rfl
theorem q3495 : (Jvm.Cond.methodLink "FlareSlopes$State" (91 : Nat) ({ cls := "java/util/ArrayDeque", name := "iterator", desc := "()Ljava/util/Iterator;" } : Jvm.MethodName)) ∈ lw_all := lw_g (lw_at lw_m15 8 rfl) rfl
theorem q3496 : (Jvm.Cond.classLink "FlareSlopes$State" (92 : Nat) "FlareSlopes$Bulletin") ∈ lw_all := lw_g (lw_at lw_m15 9 rfl) rfl
theorem q3497 : (Jvm.Cond.methodLink "FlareSlopes$State" (94 : Nat) ({ cls := "java/util/ArrayDeque", name := "addLast", desc := "(Ljava/lang/Object;)V" } : Jvm.MethodName)) ∈ lw_all := lw_g (lw_at lw_m15 10 rfl) rfl
theorem q3521 : (Jvm.Cond.instanceMethod ({ cls := "FlareSlopes$State", name := "tick", desc := "()V" } : Jvm.MethodName)) ∈ lw_all := lw_g (lw_at lw_m15 34 rfl) rfl
theorem q3522 : (Jvm.Cond.selects "FlareSlopes$State" ({ cls := "FlareSlopes$State", name := "tick", desc := "()V" } : Jvm.MethodName) ({ cls := "FlareSlopes$State", name := "tick", desc := "()V" } : Jvm.MethodName)) ∈ lw_all := lw_g (lw_at lw_m15 35 rfl) rfl
theorem q3523 : (Jvm.Cond.code ({ cls := "FlareSlopes$State", name := "tick", desc := "()V" } : Jvm.MethodName) prog_17_method_25_code (3 : Nat) (Option.none : Option Jvm.ClassFile.FieldType)) ∈ lw_all := lw_g (lw_at lw_m15 36 rfl) rfl
theorem q3524 : (Jvm.Cond.methodLink "FlareSlopes$State" (263 : Nat) ({ cls := "FlareSlopes$State", name := "forgets", desc := "(LFlareSlopes$Cabin;)V" } : Jvm.MethodName)) ∈ lw_all := lw_g (lw_at lw_m15 37 rfl) rfl
theorem q3526 : (Jvm.Cond.instanceMethod ({ cls := "FlareSlopes$State", name := "forgets", desc := "(LFlareSlopes$Cabin;)V" } : Jvm.MethodName)) ∈ lw_all := lw_g (lw_at lw_m15 39 rfl) rfl
theorem q3527 : (Jvm.Cond.code ({ cls := "FlareSlopes$State", name := "forgets", desc := "(LFlareSlopes$Cabin;)V" } : Jvm.MethodName) prog_17_method_24_code (4 : Nat) (Option.none : Option Jvm.ClassFile.FieldType)) ∈ lw_all := lw_g (lw_at lw_m15 40 rfl) rfl
theorem q3528 : (Jvm.Cond.methodLink "FlareSlopes$State" (259 : Nat) ({ cls := "FlareSlopes$Cabin", name := "forgets", desc := "(LFlareSlopes$Key;II)V" } : Jvm.MethodName)) ∈ lw_all := lw_g (lw_at lw_m15 41 rfl) rfl
theorem q3562 : (Jvm.Cond.methodLink "FlareSlopes$State" (265 : Nat) ({ cls := "FlareSlopes$State", name := "laySums", desc := "(I)V" } : Jvm.MethodName)) ∈ lw_all := lw_g (lw_at lw_m15 75 rfl) rfl
theorem q3563 : (Jvm.Cond.methodLink "FlareSlopes$State" (268 : Nat) ({ cls := "FlareSlopes$State", name := "decides", desc := "(LFlareSlopes$Cabin;I)V" } : Jvm.MethodName)) ∈ lw_all := lw_g (lw_at lw_m15 76 rfl) rfl
theorem q3565 : (Jvm.Cond.instanceMethod ({ cls := "FlareSlopes$State", name := "decides", desc := "(LFlareSlopes$Cabin;I)V" } : Jvm.MethodName)) ∈ lw_all := lw_g (lw_at lw_m15 78 rfl) rfl
theorem q3566 : (Jvm.Cond.code ({ cls := "FlareSlopes$State", name := "decides", desc := "(LFlareSlopes$Cabin;I)V" } : Jvm.MethodName) prog_17_method_23_code (5 : Nat) (Option.none : Option Jvm.ClassFile.FieldType)) ∈ lw_all := lw_g (lw_at lw_m15 79 rfl) rfl
theorem q3567 : (Jvm.Cond.methodLink "FlareSlopes$State" (250 : Nat) ({ cls := "FlareSlopes$State", name := "rules", desc := "(I)I" } : Jvm.MethodName)) ∈ lw_all := lw_g (lw_at lw_m15 80 rfl) rfl
theorem q3586 : (Jvm.Cond.instanceMethod ({ cls := "FlareSlopes$State", name := "ticks", desc := "(I)LFlareSlopes$State;" } : Jvm.MethodName)) ∈ lw_all := lw_g (lw_at lw_m15 99 rfl) rfl
theorem q3587 : (Jvm.Cond.selects "FlareSlopes$State" ({ cls := "FlareSlopes$State", name := "ticks", desc := "(I)LFlareSlopes$State;" } : Jvm.MethodName) ({ cls := "FlareSlopes$State", name := "ticks", desc := "(I)LFlareSlopes$State;" } : Jvm.MethodName)) ∈ lw_all := lw_g (lw_at lw_m15 100 rfl) rfl
theorem q3588 : (Jvm.Cond.code ({ cls := "FlareSlopes$State", name := "ticks", desc := "(I)LFlareSlopes$State;" } : Jvm.MethodName) prog_17_method_26_code (3 : Nat) (Option.some (Jvm.ClassFile.FieldType.object "FlareSlopes$State"))) ∈ lw_all := lw_g (lw_at lw_m15 101 rfl) rfl
theorem q3589 : (Jvm.Cond.methodLink "FlareSlopes$State" (272 : Nat) ({ cls := "FlareSlopes$State", name := "tick", desc := "()V" } : Jvm.MethodName)) ∈ lw_all := lw_g (lw_at lw_m15 102 rfl) rfl
theorem q3616 : (Jvm.Cond.instanceMethod ({ cls := "FlareSlopes$State", name := "fires", desc := "(IIZ)I" } : Jvm.MethodName)) ∈ lw_all := lw_g (lw_at lw_m15 129 rfl) rfl
theorem q3617 : (Jvm.Cond.selects "FlareSlopes$State" ({ cls := "FlareSlopes$State", name := "fires", desc := "(IIZ)I" } : Jvm.MethodName) ({ cls := "FlareSlopes$State", name := "fires", desc := "(IIZ)I" } : Jvm.MethodName)) ∈ lw_all := lw_g (lw_at lw_m15 130 rfl) rfl
theorem q3618 : (Jvm.Cond.code ({ cls := "FlareSlopes$State", name := "fires", desc := "(IIZ)I" } : Jvm.MethodName) prog_17_method_21_code (8 : Nat) (Option.some Jvm.ClassFile.FieldType.int)) ∈ lw_all := lw_g (lw_at lw_m15 131 rfl) rfl
theorem q3619 : (Jvm.Cond.classLink "FlareSlopes$State" (224 : Nat) "FlareSlopes$Key") ∈ lw_all := lw_g (lw_at lw_m15 132 rfl) rfl
theorem q3620 : (Jvm.Cond.methodLink "FlareSlopes$State" (226 : Nat) ({ cls := "FlareSlopes$Key", name := "<init>", desc := "(II)V" } : Jvm.MethodName)) ∈ lw_all := lw_g (lw_at lw_m15 133 rfl) rfl
theorem q3622 : (Jvm.Cond.methodLink "FlareSlopes$State" (229 : Nat) ({ cls := "FlareSlopes$Vote", name := "<init>", desc := "(ZI)V" } : Jvm.MethodName)) ∈ lw_all := lw_g (lw_at lw_m15 135 rfl) rfl
theorem q3627 : (Jvm.Cond.fieldLinkNest "FlareSlopes$State" (206 : Nat) "FlareSlopes$Vote" "red" "Z" "FlareSlopes") ∈ lw_tbl := lw_at lw_m15 140 rfl
theorem q3638 : (Jvm.Cond.methodLink "FlareSlopes$State" (232 : Nat) ({ cls := "java/util/Map", name := "put", desc := "(Ljava/lang/Object;Ljava/lang/Object;)Ljava/lang/Object;" } : Jvm.MethodName)) ∈ lw_all := lw_g (lw_at lw_m15 151 rfl) rfl
theorem q3661 : (Jvm.Cond.instanceMethod ({ cls := "FlareSlopes$State", name := "tells", desc := "(I)I" } : Jvm.MethodName)) ∈ lw_all := lw_g (lw_at lw_m15 174 rfl) rfl
theorem q3662 : (Jvm.Cond.selects "FlareSlopes$State" ({ cls := "FlareSlopes$State", name := "tells", desc := "(I)I" } : Jvm.MethodName) ({ cls := "FlareSlopes$State", name := "tells", desc := "(I)I" } : Jvm.MethodName)) ∈ lw_all := lw_g (lw_at lw_m15 175 rfl) rfl
theorem q3663 : (Jvm.Cond.code ({ cls := "FlareSlopes$State", name := "tells", desc := "(I)I" } : Jvm.MethodName) prog_17_method_28_code (4 : Nat) (Option.some Jvm.ClassFile.FieldType.int)) ∈ lw_all := lw_g (lw_at lw_m15 176 rfl) rfl
theorem q3664 : (Jvm.Cond.methodLink "FlareSlopes$State" (283 : Nat) ({ cls := "FlareSlopes$State", name := "tellsClosed", desc := "(II)Z" } : Jvm.MethodName)) ∈ lw_all := lw_g (lw_at lw_m15 177 rfl) rfl
theorem q3783 : (Jvm.Cond.instanceMethod ({ cls := "FlareSlopes$State", name := "inspects", desc := "(II)I" } : Jvm.MethodName)) ∈ lw_all := lw_g (lw_at lw_m16 56 rfl) rfl
theorem q3784 : (Jvm.Cond.selects "FlareSlopes$State" ({ cls := "FlareSlopes$State", name := "inspects", desc := "(II)I" } : Jvm.MethodName) ({ cls := "FlareSlopes$State", name := "inspects", desc := "(II)I" } : Jvm.MethodName)) ∈ lw_all := lw_g (lw_at lw_m16 57 rfl) rfl
theorem q3785 : (Jvm.Cond.code ({ cls := "FlareSlopes$State", name := "inspects", desc := "(II)I" } : Jvm.MethodName) prog_17_method_22_code (9 : Nat) (Option.some Jvm.ClassFile.FieldType.int)) ∈ lw_all := lw_g (lw_at lw_m16 58 rfl) rfl
theorem q3786 : (Jvm.Cond.methodLink "FlareSlopes$State" (236 : Nat) ({ cls := "FlareSlopes$State", name := "isDangerous", desc := "(I)Z" } : Jvm.MethodName)) ∈ lw_all := lw_g (lw_at lw_m16 59 rfl) rfl
theorem q3787 : (Jvm.Cond.methodLink "FlareSlopes$State" (239 : Nat) ({ cls := "FlareSlopes$Vote", name := "isFalse", desc := "(Z)Z" } : Jvm.MethodName)) ∈ lw_all := lw_g (lw_at lw_m16 60 rfl) rfl
theorem q3788 : (Jvm.Cond.methodLink "FlareSlopes$State" (243 : Nat) ({ cls := "FlareSlopes$Cabin", name := "trusts", desc := "(I)V" } : Jvm.MethodName)) ∈ lw_all := lw_g (lw_at lw_m16 61 rfl) rfl
theorem q3795 : (Jvm.Cond.methodLink "FlareSlopes$State" (247 : Nat) ({ cls := "java/util/Map", name := "remove", desc := "(Ljava/lang/Object;)Ljava/lang/Object;" } : Jvm.MethodName)) ∈ lw_all := lw_g (lw_at lw_m16 68 rfl) rfl
theorem q3811 : (Jvm.Cond.instanceMethod ({ cls := "FlareSlopes$State", name := "issues", desc := "(I)V" } : Jvm.MethodName)) ∈ lw_all := lw_g (lw_at lw_m16 84 rfl) rfl
theorem q3812 : (Jvm.Cond.selects "FlareSlopes$State" ({ cls := "FlareSlopes$State", name := "issues", desc := "(I)V" } : Jvm.MethodName) ({ cls := "FlareSlopes$State", name := "issues", desc := "(I)V" } : Jvm.MethodName)) ∈ lw_all := lw_g (lw_at lw_m16 85 rfl) rfl
theorem q3813 : (Jvm.Cond.code ({ cls := "FlareSlopes$State", name := "issues", desc := "(I)V" } : Jvm.MethodName) prog_17_method_29_code (4 : Nat) (Option.none : Option Jvm.ClassFile.FieldType)) ∈ lw_all := lw_g (lw_at lw_m16 86 rfl) rfl
theorem q3815 : (Jvm.Cond.methodLink "FlareSlopes$State" (286 : Nat) ({ cls := "FlareSlopes$State", name := "tells", desc := "(I)I" } : Jvm.MethodName)) ∈ lw_all := lw_g (lw_at lw_m16 88 rfl) rfl
theorem q3816 : (Jvm.Cond.methodLink "FlareSlopes$State" (289 : Nat) ({ cls := "FlareSlopes$Bulletin", name := "<init>", desc := "(IIII)V" } : Jvm.MethodName)) ∈ lw_all := lw_g (lw_at lw_m16 89 rfl) rfl
theorem q3837 : (Jvm.Cond.methodLink "FlareSlopes$State" (292 : Nat) ({ cls := "java/util/ArrayDeque", name := "addFirst", desc := "(Ljava/lang/Object;)V" } : Jvm.MethodName)) ∈ lw_all := lw_g (lw_at lw_m16 110 rfl) rfl
theorem q3844 : (Jvm.Cond.methodLink "FlareSlopes$State" (295 : Nat) ({ cls := "java/util/ArrayDeque", name := "size", desc := "()I" } : Jvm.MethodName)) ∈ lw_all := lw_g (lw_at lw_m16 117 rfl) rfl
theorem q3845 : (Jvm.Cond.methodLink "FlareSlopes$State" (296 : Nat) ({ cls := "java/util/ArrayDeque", name := "removeLast", desc := "()Ljava/lang/Object;" } : Jvm.MethodName)) ∈ lw_all := lw_g (lw_at lw_m16 118 rfl) rfl
theorem q3853 : (Jvm.Cond.methodLink "FlareSlopes$State" (299 : Nat) ({ cls := "FlareSlopes$Bulletin", name := "wrong", desc := "()I" } : Jvm.MethodName)) ∈ lw_all := lw_g (lw_at lw_m16 126 rfl) rfl
theorem q4667 : (Jvm.Cond.castable "FlareSlopes$State" "java/lang/Object") ∈ lw_tbl := lw_at lw_m19 220 rfl
theorem in_X3 : ∀ w ∈ wsX30, w ∈ lw_all := lw_in wsX30 [1375, 1377, 1379, 1381, 1383, 1385, 1387, 1389, 1391, 1393, 1395, 1397, 1399, 1401] (by decide +kernel) (by decide +kernel)
/-! X4.FlareSlopes_Parser.lean.txt -/
def RX4 : String := "FlareSlopes$Parser"
def TX4 : u_T := fun k => match k with
  | 0 => ("FlareSlopes$Parser", "length", "I", true)
  | 1 => ("FlareSlopes$Parser", "made", "LFlareSlopes$Mountain;", true)
  | 2 => ("FlareSlopes$Parser", "next", "I", false)
  | 3 => ("FlareSlopes$Parser", "begin", "I", false)
  | 4 => ("FlareSlopes$Parser", "sort", "I", false)
  | 5 => ("FlareSlopes$Parser", "value", "I", false)
  | _ => ("FlareSlopes$Parser", "this$0", "LFlareSlopes;", true)
def tyX4 : Nat → FieldType := fun k => match k with
  | 0 => .int
  | 1 => .object "FlareSlopes$Mountain"
  | 2 => .int
  | 3 => .int
  | 4 => .int
  | 5 => .int
  | _ => .object "FlareSlopes"
abbrev wsX40 : List Cond := u_ws RX4 TX4 7
theorem nmX4 : ∀ a, a < 7 → ∀ b, b < 7 → a ≠ b → (TX4 a).2.1 ≠ (TX4 b).2.1 := by decide +kernel
theorem tyX4_ok : ∀ k, k < 7 → parseFieldDescriptor (TX4 k).2.2.1 = some (tyX4 k) := by decide +kernel
abbrev cX4_init : ByteArray := prog_13_method_1_code
def yX4_init : MethodName := ⟨RX4, "<init>", "(LFlareSlopes;I)V"⟩
def dkwX4_init_1 : List UInt8 := [181, 0, 22, 42, 182, 0, 26, 177]
abbrev dktX4_init_1 : List UInt8 := dkwX4_init_1 ++ []
def dkwX4_init_0 : List UInt8 := [42, 43, 181, 0, 3, 42, 183, 0, 9, 42, 187, 0, 15, 89, 183, 0, 17, 181, 0, 18, 42, 28]
abbrev dktX4_init_0 : List UInt8 := dkwX4_init_0 ++ dktX4_init_1
theorem dksX4_init_0 : cX4_init.data.toList.drop 0 = dktX4_init_0 := by decide +kernel
theorem dksX4_init_1 : cX4_init.data.toList.drop 22 = dktX4_init_1 := dk_seg dksX4_init_0 22 rfl rfl
theorem dX4_init_0 : decode cX4_init 0 = .ok (.aload_n 0, 1) := dk_42 (dk_at dksX4_init_0 0 rfl rfl)
theorem dX4_init_1 : decode cX4_init 1 = .ok (.aload_n 1, 1) := dk_43 (dk_at dksX4_init_0 1 rfl rfl)
theorem dX4_init_2 : decode cX4_init 2 = .ok (.putfield 3, 3) := dk_181 0 3 (dk_at dksX4_init_0 2 rfl rfl)
theorem dX4_init_5 : decode cX4_init 5 = .ok (.aload_n 0, 1) := dk_42 (dk_at dksX4_init_0 5 rfl rfl)
theorem dX4_init_6 : decode cX4_init 6 = .ok (.invokespecial 9, 3) := dk_183 0 9 (dk_at dksX4_init_0 6 rfl rfl)
theorem dX4_init_9 : decode cX4_init 9 = .ok (.aload_n 0, 1) := dk_42 (dk_at dksX4_init_0 9 rfl rfl)
theorem dX4_init_10 : decode cX4_init 10 = .ok (.new 15, 3) := dk_187 0 15 (dk_at dksX4_init_0 10 rfl rfl)
theorem dX4_init_13 : decode cX4_init 13 = .ok (.dup, 1) := dk_89 (dk_at dksX4_init_0 13 rfl rfl)
theorem dX4_init_14 : decode cX4_init 14 = .ok (.invokespecial 17, 3) := dk_183 0 17 (dk_at dksX4_init_0 14 rfl rfl)
theorem dX4_init_17 : decode cX4_init 17 = .ok (.putfield 18, 3) := dk_181 0 18 (dk_at dksX4_init_0 17 rfl rfl)
theorem dX4_init_20 : decode cX4_init 20 = .ok (.aload_n 0, 1) := dk_42 (dk_at dksX4_init_0 20 rfl rfl)
theorem dX4_init_21 : decode cX4_init 21 = .ok (.iload_n 2, 1) := dk_28 (dk_at dksX4_init_0 21 rfl rfl)
theorem dX4_init_22 : decode cX4_init 22 = .ok (.putfield 22, 3) := dk_181 0 22 (dk_at dksX4_init_1 0 rfl rfl)
theorem dX4_init_25 : decode cX4_init 25 = .ok (.aload_n 0, 1) := dk_42 (dk_at dksX4_init_1 3 rfl rfl)
theorem dX4_init_26 : decode cX4_init 26 = .ok (.invokevirtual 26, 3) := dk_182 0 26 (dk_at dksX4_init_1 4 rfl rfl)
theorem dX4_init_29 : decode cX4_init 29 = .ok (.return_, 1) := dk_177 (dk_at dksX4_init_1 7 rfl rfl)
abbrev cX4_step : ByteArray := prog_13_method_4_code
def yX4_step : MethodName := ⟨RX4, "step", "()V"⟩
def dkwX4_step_10 : List UInt8 := [96, 181, 0, 41, 177]
abbrev dktX4_step_10 : List UInt8 := dkwX4_step_10 ++ []
def dkwX4_step_9 : List UInt8 := [167, 0, 28, 42, 27, 16, 59, 160, 0, 7, 5, 167, 0, 4, 7, 181, 0, 47, 42, 89, 180, 0, 41, 4]
abbrev dktX4_step_9 : List UInt8 := dkwX4_step_9 ++ dktX4_step_10
def dkwX4_step_8 : List UInt8 := [180, 0, 54, 104, 42, 28, 182, 0, 33, 96, 16, 48, 100, 181, 0, 54, 132, 2, 1, 167, 255, 217]
abbrev dktX4_step_8 : List UInt8 := dkwX4_step_8 ++ dktX4_step_9
def dkwX4_step_7 : List UInt8 := [180, 0, 44, 61, 28, 42, 180, 0, 41, 162, 0, 37, 42, 180, 0, 47, 4, 160, 0, 29, 42, 16, 10, 42]
abbrev dktX4_step_7 : List UInt8 := dkwX4_step_7 ++ dktX4_step_8
def dkwX4_step_6 : List UInt8 := [42, 180, 0, 44, 100, 7, 163, 0, 7, 4, 167, 0, 4, 7, 181, 0, 47, 42, 3, 181, 0, 54, 42]
abbrev dktX4_step_6 : List UInt8 := dkwX4_step_6 ++ dktX4_step_7
def dkwX4_step_5 : List UInt8 := [153, 0, 96, 42, 42, 42, 180, 0, 44, 16, 48, 16, 57, 182, 0, 50, 181, 0, 41, 42, 42, 180, 0, 41]
abbrev dktX4_step_5 : List UInt8 := dkwX4_step_5 ++ dktX4_step_6
def dkwX4_step_4 : List UInt8 := [16, 6, 163, 0, 7, 3, 167, 0, 4, 7, 181, 0, 47, 167, 0, 132, 27, 16, 48, 16, 57, 184, 0, 37]
abbrev dktX4_step_4 : List UInt8 := dkwX4_step_4 ++ dktX4_step_5
def dkwX4_step_3 : List UInt8 := [42, 180, 0, 44, 16, 97, 16, 122, 182, 0, 50, 181, 0, 41, 42, 42, 180, 0, 41, 42, 180, 0, 44, 100]
abbrev dktX4_step_3 : List UInt8 := dkwX4_step_3 ++ dktX4_step_4
def dkwX4_step_2 : List UInt8 := [160, 0, 11, 42, 6, 181, 0, 47, 167, 0, 185, 27, 16, 97, 16, 122, 184, 0, 37, 153, 0, 45, 42, 42]
abbrev dktX4_step_2 : List UInt8 := dkwX4_step_2 ++ dktX4_step_3
def dkwX4_step_1 : List UInt8 := [167, 255, 233, 42, 42, 180, 0, 41, 181, 0, 44, 42, 42, 180, 0, 44, 182, 0, 33, 60, 27, 2]
abbrev dktX4_step_1 : List UInt8 := dkwX4_step_1 ++ dktX4_step_2
def dkwX4_step_0 : List UInt8 := [42, 42, 180, 0, 41, 182, 0, 33, 16, 32, 160, 0, 16, 42, 89, 180, 0, 41, 4, 96, 181, 0, 41]
abbrev dktX4_step_0 : List UInt8 := dkwX4_step_0 ++ dktX4_step_1
theorem dksX4_step_0 : cX4_step.data.toList.drop 0 = dktX4_step_0 := by decide +kernel
theorem dksX4_step_1 : cX4_step.data.toList.drop 23 = dktX4_step_1 := dk_seg dksX4_step_0 23 rfl rfl
theorem dksX4_step_2 : cX4_step.data.toList.drop 45 = dktX4_step_2 := dk_seg dksX4_step_1 22 rfl rfl
theorem dksX4_step_3 : cX4_step.data.toList.drop 69 = dktX4_step_3 := dk_seg dksX4_step_2 24 rfl rfl
theorem dksX4_step_4 : cX4_step.data.toList.drop 93 = dktX4_step_4 := dk_seg dksX4_step_3 24 rfl rfl
theorem dksX4_step_5 : cX4_step.data.toList.drop 117 = dktX4_step_5 := dk_seg dksX4_step_4 24 rfl rfl
theorem dksX4_step_6 : cX4_step.data.toList.drop 141 = dktX4_step_6 := dk_seg dksX4_step_5 24 rfl rfl
theorem dksX4_step_7 : cX4_step.data.toList.drop 164 = dktX4_step_7 := dk_seg dksX4_step_6 23 rfl rfl
theorem dksX4_step_8 : cX4_step.data.toList.drop 188 = dktX4_step_8 := dk_seg dksX4_step_7 24 rfl rfl
theorem dksX4_step_9 : cX4_step.data.toList.drop 210 = dktX4_step_9 := dk_seg dksX4_step_8 22 rfl rfl
theorem dksX4_step_10 : cX4_step.data.toList.drop 234 = dktX4_step_10 := dk_seg dksX4_step_9 24 rfl rfl
theorem dX4_step_0 : decode cX4_step 0 = .ok (.aload_n 0, 1) := dk_42 (dk_at dksX4_step_0 0 rfl rfl)
theorem dX4_step_1 : decode cX4_step 1 = .ok (.aload_n 0, 1) := dk_42 (dk_at dksX4_step_0 1 rfl rfl)
theorem dX4_step_2 : decode cX4_step 2 = .ok (.getfield 41, 3) := dk_180 0 41 (dk_at dksX4_step_0 2 rfl rfl)
theorem dX4_step_5 : decode cX4_step 5 = .ok (.invokevirtual 33, 3) := dk_182 0 33 (dk_at dksX4_step_0 5 rfl rfl)
theorem dX4_step_8 : decode cX4_step 8 = .ok (.bipush 32, 2) := dk_16 32 (dk_at dksX4_step_0 8 rfl rfl)
theorem dX4_step_10 : decode cX4_step 10 = .ok (.if_icmp .ne 16, 3) := dk_160 0 16 (dk_at dksX4_step_0 10 rfl rfl)
theorem dX4_step_13 : decode cX4_step 13 = .ok (.aload_n 0, 1) := dk_42 (dk_at dksX4_step_0 13 rfl rfl)
theorem dX4_step_14 : decode cX4_step 14 = .ok (.dup, 1) := dk_89 (dk_at dksX4_step_0 14 rfl rfl)
theorem dX4_step_15 : decode cX4_step 15 = .ok (.getfield 41, 3) := dk_180 0 41 (dk_at dksX4_step_0 15 rfl rfl)
theorem dX4_step_18 : decode cX4_step 18 = .ok (.iconst 1, 1) := dk_4 (dk_at dksX4_step_0 18 rfl rfl)
theorem dX4_step_19 : decode cX4_step 19 = .ok (.iadd, 1) := dk_96 (dk_at dksX4_step_0 19 rfl rfl)
theorem dX4_step_20 : decode cX4_step 20 = .ok (.putfield 41, 3) := dk_181 0 41 (dk_at dksX4_step_0 20 rfl rfl)
theorem dX4_step_23 : decode cX4_step 23 = .ok (.goto (-23), 3) := dk_167 255 233 (dk_at dksX4_step_1 0 rfl rfl)
theorem dX4_step_26 : decode cX4_step 26 = .ok (.aload_n 0, 1) := dk_42 (dk_at dksX4_step_1 3 rfl rfl)
theorem dX4_step_27 : decode cX4_step 27 = .ok (.aload_n 0, 1) := dk_42 (dk_at dksX4_step_1 4 rfl rfl)
theorem dX4_step_28 : decode cX4_step 28 = .ok (.getfield 41, 3) := dk_180 0 41 (dk_at dksX4_step_1 5 rfl rfl)
theorem dX4_step_31 : decode cX4_step 31 = .ok (.putfield 44, 3) := dk_181 0 44 (dk_at dksX4_step_1 8 rfl rfl)
theorem dX4_step_34 : decode cX4_step 34 = .ok (.aload_n 0, 1) := dk_42 (dk_at dksX4_step_1 11 rfl rfl)
theorem dX4_step_35 : decode cX4_step 35 = .ok (.aload_n 0, 1) := dk_42 (dk_at dksX4_step_1 12 rfl rfl)
theorem dX4_step_36 : decode cX4_step 36 = .ok (.getfield 44, 3) := dk_180 0 44 (dk_at dksX4_step_1 13 rfl rfl)
theorem dX4_step_39 : decode cX4_step 39 = .ok (.invokevirtual 33, 3) := dk_182 0 33 (dk_at dksX4_step_1 16 rfl rfl)
theorem dX4_step_42 : decode cX4_step 42 = .ok (.istore_n 1, 1) := dk_60 (dk_at dksX4_step_1 19 rfl rfl)
theorem dX4_step_43 : decode cX4_step 43 = .ok (.iload_n 1, 1) := dk_27 (dk_at dksX4_step_1 20 rfl rfl)
theorem dX4_step_44 : decode cX4_step 44 = .ok (.iconst (-1), 1) := dk_2 (dk_at dksX4_step_1 21 rfl rfl)
theorem dX4_step_45 : decode cX4_step 45 = .ok (.if_icmp .ne 11, 3) := dk_160 0 11 (dk_at dksX4_step_2 0 rfl rfl)
theorem dX4_step_48 : decode cX4_step 48 = .ok (.aload_n 0, 1) := dk_42 (dk_at dksX4_step_2 3 rfl rfl)
theorem dX4_step_49 : decode cX4_step 49 = .ok (.iconst 3, 1) := dk_6 (dk_at dksX4_step_2 4 rfl rfl)
theorem dX4_step_50 : decode cX4_step 50 = .ok (.putfield 47, 3) := dk_181 0 47 (dk_at dksX4_step_2 5 rfl rfl)
theorem dX4_step_53 : decode cX4_step 53 = .ok (.goto 185, 3) := dk_167 0 185 (dk_at dksX4_step_2 8 rfl rfl)
theorem dX4_step_56 : decode cX4_step 56 = .ok (.iload_n 1, 1) := dk_27 (dk_at dksX4_step_2 11 rfl rfl)
theorem dX4_step_57 : decode cX4_step 57 = .ok (.bipush 97, 2) := dk_16 97 (dk_at dksX4_step_2 12 rfl rfl)
theorem dX4_step_59 : decode cX4_step 59 = .ok (.bipush 122, 2) := dk_16 122 (dk_at dksX4_step_2 14 rfl rfl)
theorem dX4_step_61 : decode cX4_step 61 = .ok (.invokestatic 37, 3) := dk_184 0 37 (dk_at dksX4_step_2 16 rfl rfl)
theorem dX4_step_64 : decode cX4_step 64 = .ok (.ifCond .eq 45, 3) := dk_153 0 45 (dk_at dksX4_step_2 19 rfl rfl)
theorem dX4_step_67 : decode cX4_step 67 = .ok (.aload_n 0, 1) := dk_42 (dk_at dksX4_step_2 22 rfl rfl)
theorem dX4_step_68 : decode cX4_step 68 = .ok (.aload_n 0, 1) := dk_42 (dk_at dksX4_step_2 23 rfl rfl)
theorem dX4_step_69 : decode cX4_step 69 = .ok (.aload_n 0, 1) := dk_42 (dk_at dksX4_step_3 0 rfl rfl)
theorem dX4_step_70 : decode cX4_step 70 = .ok (.getfield 44, 3) := dk_180 0 44 (dk_at dksX4_step_3 1 rfl rfl)
theorem dX4_step_73 : decode cX4_step 73 = .ok (.bipush 97, 2) := dk_16 97 (dk_at dksX4_step_3 4 rfl rfl)
theorem dX4_step_75 : decode cX4_step 75 = .ok (.bipush 122, 2) := dk_16 122 (dk_at dksX4_step_3 6 rfl rfl)
theorem dX4_step_77 : decode cX4_step 77 = .ok (.invokevirtual 50, 3) := dk_182 0 50 (dk_at dksX4_step_3 8 rfl rfl)
theorem dX4_step_80 : decode cX4_step 80 = .ok (.putfield 41, 3) := dk_181 0 41 (dk_at dksX4_step_3 11 rfl rfl)
theorem dX4_step_83 : decode cX4_step 83 = .ok (.aload_n 0, 1) := dk_42 (dk_at dksX4_step_3 14 rfl rfl)
theorem dX4_step_84 : decode cX4_step 84 = .ok (.aload_n 0, 1) := dk_42 (dk_at dksX4_step_3 15 rfl rfl)
theorem dX4_step_85 : decode cX4_step 85 = .ok (.getfield 41, 3) := dk_180 0 41 (dk_at dksX4_step_3 16 rfl rfl)
theorem dX4_step_88 : decode cX4_step 88 = .ok (.aload_n 0, 1) := dk_42 (dk_at dksX4_step_3 19 rfl rfl)
theorem dX4_step_89 : decode cX4_step 89 = .ok (.getfield 44, 3) := dk_180 0 44 (dk_at dksX4_step_3 20 rfl rfl)
theorem dX4_step_92 : decode cX4_step 92 = .ok (.isub, 1) := dk_100 (dk_at dksX4_step_3 23 rfl rfl)
theorem dX4_step_93 : decode cX4_step 93 = .ok (.bipush 6, 2) := dk_16 6 (dk_at dksX4_step_4 0 rfl rfl)
theorem dX4_step_95 : decode cX4_step 95 = .ok (.if_icmp .gt 7, 3) := dk_163 0 7 (dk_at dksX4_step_4 2 rfl rfl)
theorem dX4_step_98 : decode cX4_step 98 = .ok (.iconst 0, 1) := dk_3 (dk_at dksX4_step_4 5 rfl rfl)
theorem dX4_step_99 : decode cX4_step 99 = .ok (.goto 4, 3) := dk_167 0 4 (dk_at dksX4_step_4 6 rfl rfl)
theorem dX4_step_102 : decode cX4_step 102 = .ok (.iconst 4, 1) := dk_7 (dk_at dksX4_step_4 9 rfl rfl)
theorem dX4_step_103 : decode cX4_step 103 = .ok (.putfield 47, 3) := dk_181 0 47 (dk_at dksX4_step_4 10 rfl rfl)
theorem dX4_step_106 : decode cX4_step 106 = .ok (.goto 132, 3) := dk_167 0 132 (dk_at dksX4_step_4 13 rfl rfl)
theorem dX4_step_109 : decode cX4_step 109 = .ok (.iload_n 1, 1) := dk_27 (dk_at dksX4_step_4 16 rfl rfl)
theorem dX4_step_110 : decode cX4_step 110 = .ok (.bipush 48, 2) := dk_16 48 (dk_at dksX4_step_4 17 rfl rfl)
theorem dX4_step_112 : decode cX4_step 112 = .ok (.bipush 57, 2) := dk_16 57 (dk_at dksX4_step_4 19 rfl rfl)
theorem dX4_step_114 : decode cX4_step 114 = .ok (.invokestatic 37, 3) := dk_184 0 37 (dk_at dksX4_step_4 21 rfl rfl)
theorem dX4_step_117 : decode cX4_step 117 = .ok (.ifCond .eq 96, 3) := dk_153 0 96 (dk_at dksX4_step_5 0 rfl rfl)
theorem dX4_step_120 : decode cX4_step 120 = .ok (.aload_n 0, 1) := dk_42 (dk_at dksX4_step_5 3 rfl rfl)
theorem dX4_step_121 : decode cX4_step 121 = .ok (.aload_n 0, 1) := dk_42 (dk_at dksX4_step_5 4 rfl rfl)
theorem dX4_step_122 : decode cX4_step 122 = .ok (.aload_n 0, 1) := dk_42 (dk_at dksX4_step_5 5 rfl rfl)
theorem dX4_step_123 : decode cX4_step 123 = .ok (.getfield 44, 3) := dk_180 0 44 (dk_at dksX4_step_5 6 rfl rfl)
theorem dX4_step_126 : decode cX4_step 126 = .ok (.bipush 48, 2) := dk_16 48 (dk_at dksX4_step_5 9 rfl rfl)
theorem dX4_step_128 : decode cX4_step 128 = .ok (.bipush 57, 2) := dk_16 57 (dk_at dksX4_step_5 11 rfl rfl)
theorem dX4_step_130 : decode cX4_step 130 = .ok (.invokevirtual 50, 3) := dk_182 0 50 (dk_at dksX4_step_5 13 rfl rfl)
theorem dX4_step_133 : decode cX4_step 133 = .ok (.putfield 41, 3) := dk_181 0 41 (dk_at dksX4_step_5 16 rfl rfl)
theorem dX4_step_136 : decode cX4_step 136 = .ok (.aload_n 0, 1) := dk_42 (dk_at dksX4_step_5 19 rfl rfl)
theorem dX4_step_137 : decode cX4_step 137 = .ok (.aload_n 0, 1) := dk_42 (dk_at dksX4_step_5 20 rfl rfl)
theorem dX4_step_138 : decode cX4_step 138 = .ok (.getfield 41, 3) := dk_180 0 41 (dk_at dksX4_step_5 21 rfl rfl)
theorem dX4_step_141 : decode cX4_step 141 = .ok (.aload_n 0, 1) := dk_42 (dk_at dksX4_step_6 0 rfl rfl)
theorem dX4_step_142 : decode cX4_step 142 = .ok (.getfield 44, 3) := dk_180 0 44 (dk_at dksX4_step_6 1 rfl rfl)
theorem dX4_step_145 : decode cX4_step 145 = .ok (.isub, 1) := dk_100 (dk_at dksX4_step_6 4 rfl rfl)
theorem dX4_step_146 : decode cX4_step 146 = .ok (.iconst 4, 1) := dk_7 (dk_at dksX4_step_6 5 rfl rfl)
theorem dX4_step_147 : decode cX4_step 147 = .ok (.if_icmp .gt 7, 3) := dk_163 0 7 (dk_at dksX4_step_6 6 rfl rfl)
theorem dX4_step_150 : decode cX4_step 150 = .ok (.iconst 1, 1) := dk_4 (dk_at dksX4_step_6 9 rfl rfl)
theorem dX4_step_151 : decode cX4_step 151 = .ok (.goto 4, 3) := dk_167 0 4 (dk_at dksX4_step_6 10 rfl rfl)
theorem dX4_step_154 : decode cX4_step 154 = .ok (.iconst 4, 1) := dk_7 (dk_at dksX4_step_6 13 rfl rfl)
theorem dX4_step_155 : decode cX4_step 155 = .ok (.putfield 47, 3) := dk_181 0 47 (dk_at dksX4_step_6 14 rfl rfl)
theorem dX4_step_158 : decode cX4_step 158 = .ok (.aload_n 0, 1) := dk_42 (dk_at dksX4_step_6 17 rfl rfl)
theorem dX4_step_159 : decode cX4_step 159 = .ok (.iconst 0, 1) := dk_3 (dk_at dksX4_step_6 18 rfl rfl)
theorem dX4_step_160 : decode cX4_step 160 = .ok (.putfield 54, 3) := dk_181 0 54 (dk_at dksX4_step_6 19 rfl rfl)
theorem dX4_step_163 : decode cX4_step 163 = .ok (.aload_n 0, 1) := dk_42 (dk_at dksX4_step_6 22 rfl rfl)
theorem dX4_step_164 : decode cX4_step 164 = .ok (.getfield 44, 3) := dk_180 0 44 (dk_at dksX4_step_7 0 rfl rfl)
theorem dX4_step_167 : decode cX4_step 167 = .ok (.istore_n 2, 1) := dk_61 (dk_at dksX4_step_7 3 rfl rfl)
theorem dX4_step_168 : decode cX4_step 168 = .ok (.iload_n 2, 1) := dk_28 (dk_at dksX4_step_7 4 rfl rfl)
theorem dX4_step_169 : decode cX4_step 169 = .ok (.aload_n 0, 1) := dk_42 (dk_at dksX4_step_7 5 rfl rfl)
theorem dX4_step_170 : decode cX4_step 170 = .ok (.getfield 41, 3) := dk_180 0 41 (dk_at dksX4_step_7 6 rfl rfl)
theorem dX4_step_173 : decode cX4_step 173 = .ok (.if_icmp .ge 37, 3) := dk_162 0 37 (dk_at dksX4_step_7 9 rfl rfl)
theorem dX4_step_176 : decode cX4_step 176 = .ok (.aload_n 0, 1) := dk_42 (dk_at dksX4_step_7 12 rfl rfl)
theorem dX4_step_177 : decode cX4_step 177 = .ok (.getfield 47, 3) := dk_180 0 47 (dk_at dksX4_step_7 13 rfl rfl)
theorem dX4_step_180 : decode cX4_step 180 = .ok (.iconst 1, 1) := dk_4 (dk_at dksX4_step_7 16 rfl rfl)
theorem dX4_step_181 : decode cX4_step 181 = .ok (.if_icmp .ne 29, 3) := dk_160 0 29 (dk_at dksX4_step_7 17 rfl rfl)
theorem dX4_step_184 : decode cX4_step 184 = .ok (.aload_n 0, 1) := dk_42 (dk_at dksX4_step_7 20 rfl rfl)
theorem dX4_step_185 : decode cX4_step 185 = .ok (.bipush 10, 2) := dk_16 10 (dk_at dksX4_step_7 21 rfl rfl)
theorem dX4_step_187 : decode cX4_step 187 = .ok (.aload_n 0, 1) := dk_42 (dk_at dksX4_step_7 23 rfl rfl)
theorem dX4_step_188 : decode cX4_step 188 = .ok (.getfield 54, 3) := dk_180 0 54 (dk_at dksX4_step_8 0 rfl rfl)
theorem dX4_step_191 : decode cX4_step 191 = .ok (.imul, 1) := dk_104 (dk_at dksX4_step_8 3 rfl rfl)
theorem dX4_step_192 : decode cX4_step 192 = .ok (.aload_n 0, 1) := dk_42 (dk_at dksX4_step_8 4 rfl rfl)
theorem dX4_step_193 : decode cX4_step 193 = .ok (.iload_n 2, 1) := dk_28 (dk_at dksX4_step_8 5 rfl rfl)
theorem dX4_step_194 : decode cX4_step 194 = .ok (.invokevirtual 33, 3) := dk_182 0 33 (dk_at dksX4_step_8 6 rfl rfl)
theorem dX4_step_197 : decode cX4_step 197 = .ok (.iadd, 1) := dk_96 (dk_at dksX4_step_8 9 rfl rfl)
theorem dX4_step_198 : decode cX4_step 198 = .ok (.bipush 48, 2) := dk_16 48 (dk_at dksX4_step_8 10 rfl rfl)
theorem dX4_step_200 : decode cX4_step 200 = .ok (.isub, 1) := dk_100 (dk_at dksX4_step_8 12 rfl rfl)
theorem dX4_step_201 : decode cX4_step 201 = .ok (.putfield 54, 3) := dk_181 0 54 (dk_at dksX4_step_8 13 rfl rfl)
theorem dX4_step_204 : decode cX4_step 204 = .ok (.iinc 2 1, 3) := dk_132 2 1 (dk_at dksX4_step_8 16 rfl rfl)
theorem dX4_step_207 : decode cX4_step 207 = .ok (.goto (-39), 3) := dk_167 255 217 (dk_at dksX4_step_8 19 rfl rfl)
theorem dX4_step_210 : decode cX4_step 210 = .ok (.goto 28, 3) := dk_167 0 28 (dk_at dksX4_step_9 0 rfl rfl)
theorem dX4_step_213 : decode cX4_step 213 = .ok (.aload_n 0, 1) := dk_42 (dk_at dksX4_step_9 3 rfl rfl)
theorem dX4_step_214 : decode cX4_step 214 = .ok (.iload_n 1, 1) := dk_27 (dk_at dksX4_step_9 4 rfl rfl)
theorem dX4_step_215 : decode cX4_step 215 = .ok (.bipush 59, 2) := dk_16 59 (dk_at dksX4_step_9 5 rfl rfl)
theorem dX4_step_217 : decode cX4_step 217 = .ok (.if_icmp .ne 7, 3) := dk_160 0 7 (dk_at dksX4_step_9 7 rfl rfl)
theorem dX4_step_220 : decode cX4_step 220 = .ok (.iconst 2, 1) := dk_5 (dk_at dksX4_step_9 10 rfl rfl)
theorem dX4_step_221 : decode cX4_step 221 = .ok (.goto 4, 3) := dk_167 0 4 (dk_at dksX4_step_9 11 rfl rfl)
theorem dX4_step_224 : decode cX4_step 224 = .ok (.iconst 4, 1) := dk_7 (dk_at dksX4_step_9 14 rfl rfl)
theorem dX4_step_225 : decode cX4_step 225 = .ok (.putfield 47, 3) := dk_181 0 47 (dk_at dksX4_step_9 15 rfl rfl)
theorem dX4_step_228 : decode cX4_step 228 = .ok (.aload_n 0, 1) := dk_42 (dk_at dksX4_step_9 18 rfl rfl)
theorem dX4_step_229 : decode cX4_step 229 = .ok (.dup, 1) := dk_89 (dk_at dksX4_step_9 19 rfl rfl)
theorem dX4_step_230 : decode cX4_step 230 = .ok (.getfield 41, 3) := dk_180 0 41 (dk_at dksX4_step_9 20 rfl rfl)
theorem dX4_step_233 : decode cX4_step 233 = .ok (.iconst 1, 1) := dk_4 (dk_at dksX4_step_9 23 rfl rfl)
theorem dX4_step_234 : decode cX4_step 234 = .ok (.iadd, 1) := dk_96 (dk_at dksX4_step_10 0 rfl rfl)
theorem dX4_step_235 : decode cX4_step 235 = .ok (.putfield 41, 3) := dk_181 0 41 (dk_at dksX4_step_10 1 rfl rfl)
theorem dX4_step_238 : decode cX4_step 238 = .ok (.return_, 1) := dk_177 (dk_at dksX4_step_10 4 rfl rfl)
abbrev cX4_at : ByteArray := prog_13_method_2_code
def yX4_at : MethodName := ⟨RX4, "at", "(I)I"⟩
def dkwX4_at_1 : List UInt8 := [2, 172]
abbrev dktX4_at_1 : List UInt8 := dkwX4_at_1 ++ []
def dkwX4_at_0 : List UInt8 := [27, 42, 180, 0, 22, 162, 0, 19, 42, 180, 0, 3, 180, 0, 29, 27, 51, 17, 0, 255, 126, 167, 0, 4]
abbrev dktX4_at_0 : List UInt8 := dkwX4_at_0 ++ dktX4_at_1
theorem dksX4_at_0 : cX4_at.data.toList.drop 0 = dktX4_at_0 := by decide +kernel
theorem dksX4_at_1 : cX4_at.data.toList.drop 24 = dktX4_at_1 := dk_seg dksX4_at_0 24 rfl rfl
theorem dX4_at_0 : decode cX4_at 0 = .ok (.iload_n 1, 1) := dk_27 (dk_at dksX4_at_0 0 rfl rfl)
theorem dX4_at_1 : decode cX4_at 1 = .ok (.aload_n 0, 1) := dk_42 (dk_at dksX4_at_0 1 rfl rfl)
theorem dX4_at_2 : decode cX4_at 2 = .ok (.getfield 22, 3) := dk_180 0 22 (dk_at dksX4_at_0 2 rfl rfl)
theorem dX4_at_5 : decode cX4_at 5 = .ok (.if_icmp .ge 19, 3) := dk_162 0 19 (dk_at dksX4_at_0 5 rfl rfl)
theorem dX4_at_8 : decode cX4_at 8 = .ok (.aload_n 0, 1) := dk_42 (dk_at dksX4_at_0 8 rfl rfl)
theorem dX4_at_9 : decode cX4_at 9 = .ok (.getfield 3, 3) := dk_180 0 3 (dk_at dksX4_at_0 9 rfl rfl)
theorem dX4_at_12 : decode cX4_at 12 = .ok (.getfield 29, 3) := dk_180 0 29 (dk_at dksX4_at_0 12 rfl rfl)
theorem dX4_at_15 : decode cX4_at 15 = .ok (.iload_n 1, 1) := dk_27 (dk_at dksX4_at_0 15 rfl rfl)
theorem dX4_at_16 : decode cX4_at 16 = .ok (.baload, 1) := dk_51 (dk_at dksX4_at_0 16 rfl rfl)
theorem dX4_at_17 : decode cX4_at 17 = .ok (.sipush 255, 3) := dk_17 0 255 (dk_at dksX4_at_0 17 rfl rfl)
theorem dX4_at_20 : decode cX4_at 20 = .ok (.iand, 1) := dk_126 (dk_at dksX4_at_0 20 rfl rfl)
theorem dX4_at_21 : decode cX4_at 21 = .ok (.goto 4, 3) := dk_167 0 4 (dk_at dksX4_at_0 21 rfl rfl)
theorem dX4_at_24 : decode cX4_at 24 = .ok (.iconst (-1), 1) := dk_2 (dk_at dksX4_at_1 0 rfl rfl)
theorem dX4_at_25 : decode cX4_at 25 = .ok (.ireturn, 1) := dk_172 (dk_at dksX4_at_1 1 rfl rfl)
abbrev cX4_run : ByteArray := prog_13_method_3_code
def yX4_run : MethodName := ⟨RX4, "run", "(III)I"⟩
def dkwX4_run_1 : List UInt8 := [21, 4, 172]
abbrev dktX4_run_1 : List UInt8 := dkwX4_run_1 ++ []
def dkwX4_run_0 : List UInt8 := [27, 54, 4, 42, 21, 4, 182, 0, 33, 28, 29, 184, 0, 37, 153, 0, 9, 132, 4, 1, 167, 255, 239]
abbrev dktX4_run_0 : List UInt8 := dkwX4_run_0 ++ dktX4_run_1
theorem dksX4_run_0 : cX4_run.data.toList.drop 0 = dktX4_run_0 := by decide +kernel
theorem dksX4_run_1 : cX4_run.data.toList.drop 23 = dktX4_run_1 := dk_seg dksX4_run_0 23 rfl rfl
theorem dX4_run_0 : decode cX4_run 0 = .ok (.iload_n 1, 1) := dk_27 (dk_at dksX4_run_0 0 rfl rfl)
theorem dX4_run_1 : decode cX4_run 1 = .ok (.istore 4, 2) := dk_54 4 (dk_at dksX4_run_0 1 rfl rfl)
theorem dX4_run_3 : decode cX4_run 3 = .ok (.aload_n 0, 1) := dk_42 (dk_at dksX4_run_0 3 rfl rfl)
theorem dX4_run_4 : decode cX4_run 4 = .ok (.iload 4, 2) := dk_21 4 (dk_at dksX4_run_0 4 rfl rfl)
theorem dX4_run_6 : decode cX4_run 6 = .ok (.invokevirtual 33, 3) := dk_182 0 33 (dk_at dksX4_run_0 6 rfl rfl)
theorem dX4_run_9 : decode cX4_run 9 = .ok (.iload_n 2, 1) := dk_28 (dk_at dksX4_run_0 9 rfl rfl)
theorem dX4_run_10 : decode cX4_run 10 = .ok (.iload_n 3, 1) := dk_29 (dk_at dksX4_run_0 10 rfl rfl)
theorem dX4_run_11 : decode cX4_run 11 = .ok (.invokestatic 37, 3) := dk_184 0 37 (dk_at dksX4_run_0 11 rfl rfl)
theorem dX4_run_14 : decode cX4_run 14 = .ok (.ifCond .eq 9, 3) := dk_153 0 9 (dk_at dksX4_run_0 14 rfl rfl)
theorem dX4_run_17 : decode cX4_run 17 = .ok (.iinc 4 1, 3) := dk_132 4 1 (dk_at dksX4_run_0 17 rfl rfl)
theorem dX4_run_20 : decode cX4_run 20 = .ok (.goto (-17), 3) := dk_167 255 239 (dk_at dksX4_run_0 20 rfl rfl)
theorem dX4_run_23 : decode cX4_run 23 = .ok (.iload 4, 2) := dk_21 4 (dk_at dksX4_run_1 0 rfl rfl)
theorem dX4_run_25 : decode cX4_run 25 = .ok (.ireturn, 1) := dk_172 (dk_at dksX4_run_1 2 rfl rfl)
abbrev cX4_parse : ByteArray := prog_13_method_15_code
def yX4_parse : MethodName := ⟨RX4, "parse", "()LFlareSlopes$Mountain;"⟩
def dkwX4_parse_4 : List UInt8 := [42, 42, 180, 0, 47, 6, 160, 0, 7, 4, 167, 0, 4, 3, 4, 182, 0, 62, 42, 180, 0, 18, 176]
abbrev dktX4_parse_4 : List UInt8 := dkwX4_parse_4 ++ []
def dkwX4_parse_3 : List UInt8 := [42, 8, 182, 0, 179, 42, 180, 0, 47, 5, 160, 0, 14, 42, 182, 0, 26, 42, 182, 0, 185, 167, 255, 240]
abbrev dktX4_parse_3 : List UInt8 := dkwX4_parse_3 ++ dktX4_parse_4
def dkwX4_parse_2 : List UInt8 := [182, 0, 26, 42, 18, 183, 182, 0, 175, 42, 5, 182, 0, 179, 42, 6, 182, 0, 179, 42, 7, 182, 0, 179]
abbrev dktX4_parse_2 : List UInt8 := dkwX4_parse_2 ++ dktX4_parse_3
def dkwX4_parse_1 : List UInt8 := [182, 0, 179, 42, 42, 180, 0, 47, 5, 160, 0, 7, 4, 167, 0, 4, 3, 4, 182, 0, 62, 42]
abbrev dktX4_parse_1 : List UInt8 := dkwX4_parse_1 ++ dktX4_parse_2
def dkwX4_parse_0 : List UInt8 := [42, 180, 0, 18, 180, 0, 162, 7, 16, 30, 79, 42, 18, 173, 182, 0, 175, 42, 3, 182, 0, 179, 42, 4]
abbrev dktX4_parse_0 : List UInt8 := dkwX4_parse_0 ++ dktX4_parse_1
theorem dksX4_parse_0 : cX4_parse.data.toList.drop 0 = dktX4_parse_0 := by decide +kernel
theorem dksX4_parse_1 : cX4_parse.data.toList.drop 24 = dktX4_parse_1 := dk_seg dksX4_parse_0 24 rfl rfl
theorem dksX4_parse_2 : cX4_parse.data.toList.drop 46 = dktX4_parse_2 := dk_seg dksX4_parse_1 22 rfl rfl
theorem dksX4_parse_3 : cX4_parse.data.toList.drop 70 = dktX4_parse_3 := dk_seg dksX4_parse_2 24 rfl rfl
theorem dksX4_parse_4 : cX4_parse.data.toList.drop 94 = dktX4_parse_4 := dk_seg dksX4_parse_3 24 rfl rfl
theorem dX4_parse_0 : decode cX4_parse 0 = .ok (.aload_n 0, 1) := dk_42 (dk_at dksX4_parse_0 0 rfl rfl)
theorem dX4_parse_1 : decode cX4_parse 1 = .ok (.getfield 18, 3) := dk_180 0 18 (dk_at dksX4_parse_0 1 rfl rfl)
theorem dX4_parse_4 : decode cX4_parse 4 = .ok (.getfield 162, 3) := dk_180 0 162 (dk_at dksX4_parse_0 4 rfl rfl)
theorem dX4_parse_7 : decode cX4_parse 7 = .ok (.iconst 4, 1) := dk_7 (dk_at dksX4_parse_0 7 rfl rfl)
theorem dX4_parse_8 : decode cX4_parse 8 = .ok (.bipush 30, 2) := dk_16 30 (dk_at dksX4_parse_0 8 rfl rfl)
theorem dX4_parse_10 : decode cX4_parse 10 = .ok (.iastore, 1) := dk_79 (dk_at dksX4_parse_0 10 rfl rfl)
theorem dX4_parse_11 : decode cX4_parse 11 = .ok (.aload_n 0, 1) := dk_42 (dk_at dksX4_parse_0 11 rfl rfl)
theorem dX4_parse_12 : decode cX4_parse 12 = .ok (.ldc 173, 2) := dk_18 173 (dk_at dksX4_parse_0 12 rfl rfl)
theorem dX4_parse_14 : decode cX4_parse 14 = .ok (.invokevirtual 175, 3) := dk_182 0 175 (dk_at dksX4_parse_0 14 rfl rfl)
theorem dX4_parse_17 : decode cX4_parse 17 = .ok (.aload_n 0, 1) := dk_42 (dk_at dksX4_parse_0 17 rfl rfl)
theorem dX4_parse_18 : decode cX4_parse 18 = .ok (.iconst 0, 1) := dk_3 (dk_at dksX4_parse_0 18 rfl rfl)
theorem dX4_parse_19 : decode cX4_parse 19 = .ok (.invokevirtual 179, 3) := dk_182 0 179 (dk_at dksX4_parse_0 19 rfl rfl)
theorem dX4_parse_22 : decode cX4_parse 22 = .ok (.aload_n 0, 1) := dk_42 (dk_at dksX4_parse_0 22 rfl rfl)
theorem dX4_parse_23 : decode cX4_parse 23 = .ok (.iconst 1, 1) := dk_4 (dk_at dksX4_parse_0 23 rfl rfl)
theorem dX4_parse_24 : decode cX4_parse 24 = .ok (.invokevirtual 179, 3) := dk_182 0 179 (dk_at dksX4_parse_1 0 rfl rfl)
theorem dX4_parse_27 : decode cX4_parse 27 = .ok (.aload_n 0, 1) := dk_42 (dk_at dksX4_parse_1 3 rfl rfl)
theorem dX4_parse_28 : decode cX4_parse 28 = .ok (.aload_n 0, 1) := dk_42 (dk_at dksX4_parse_1 4 rfl rfl)
theorem dX4_parse_29 : decode cX4_parse 29 = .ok (.getfield 47, 3) := dk_180 0 47 (dk_at dksX4_parse_1 5 rfl rfl)
theorem dX4_parse_32 : decode cX4_parse 32 = .ok (.iconst 2, 1) := dk_5 (dk_at dksX4_parse_1 8 rfl rfl)
theorem dX4_parse_33 : decode cX4_parse 33 = .ok (.if_icmp .ne 7, 3) := dk_160 0 7 (dk_at dksX4_parse_1 9 rfl rfl)
theorem dX4_parse_36 : decode cX4_parse 36 = .ok (.iconst 1, 1) := dk_4 (dk_at dksX4_parse_1 12 rfl rfl)
theorem dX4_parse_37 : decode cX4_parse 37 = .ok (.goto 4, 3) := dk_167 0 4 (dk_at dksX4_parse_1 13 rfl rfl)
theorem dX4_parse_40 : decode cX4_parse 40 = .ok (.iconst 0, 1) := dk_3 (dk_at dksX4_parse_1 16 rfl rfl)
theorem dX4_parse_41 : decode cX4_parse 41 = .ok (.iconst 1, 1) := dk_4 (dk_at dksX4_parse_1 17 rfl rfl)
theorem dX4_parse_42 : decode cX4_parse 42 = .ok (.invokevirtual 62, 3) := dk_182 0 62 (dk_at dksX4_parse_1 18 rfl rfl)
theorem dX4_parse_45 : decode cX4_parse 45 = .ok (.aload_n 0, 1) := dk_42 (dk_at dksX4_parse_1 21 rfl rfl)
theorem dX4_parse_46 : decode cX4_parse 46 = .ok (.invokevirtual 26, 3) := dk_182 0 26 (dk_at dksX4_parse_2 0 rfl rfl)
theorem dX4_parse_49 : decode cX4_parse 49 = .ok (.aload_n 0, 1) := dk_42 (dk_at dksX4_parse_2 3 rfl rfl)
theorem dX4_parse_50 : decode cX4_parse 50 = .ok (.ldc 183, 2) := dk_18 183 (dk_at dksX4_parse_2 4 rfl rfl)
theorem dX4_parse_52 : decode cX4_parse 52 = .ok (.invokevirtual 175, 3) := dk_182 0 175 (dk_at dksX4_parse_2 6 rfl rfl)
theorem dX4_parse_55 : decode cX4_parse 55 = .ok (.aload_n 0, 1) := dk_42 (dk_at dksX4_parse_2 9 rfl rfl)
theorem dX4_parse_56 : decode cX4_parse 56 = .ok (.iconst 2, 1) := dk_5 (dk_at dksX4_parse_2 10 rfl rfl)
theorem dX4_parse_57 : decode cX4_parse 57 = .ok (.invokevirtual 179, 3) := dk_182 0 179 (dk_at dksX4_parse_2 11 rfl rfl)
theorem dX4_parse_60 : decode cX4_parse 60 = .ok (.aload_n 0, 1) := dk_42 (dk_at dksX4_parse_2 14 rfl rfl)
theorem dX4_parse_61 : decode cX4_parse 61 = .ok (.iconst 3, 1) := dk_6 (dk_at dksX4_parse_2 15 rfl rfl)
theorem dX4_parse_62 : decode cX4_parse 62 = .ok (.invokevirtual 179, 3) := dk_182 0 179 (dk_at dksX4_parse_2 16 rfl rfl)
theorem dX4_parse_65 : decode cX4_parse 65 = .ok (.aload_n 0, 1) := dk_42 (dk_at dksX4_parse_2 19 rfl rfl)
theorem dX4_parse_66 : decode cX4_parse 66 = .ok (.iconst 4, 1) := dk_7 (dk_at dksX4_parse_2 20 rfl rfl)
theorem dX4_parse_67 : decode cX4_parse 67 = .ok (.invokevirtual 179, 3) := dk_182 0 179 (dk_at dksX4_parse_2 21 rfl rfl)
theorem dX4_parse_70 : decode cX4_parse 70 = .ok (.aload_n 0, 1) := dk_42 (dk_at dksX4_parse_3 0 rfl rfl)
theorem dX4_parse_71 : decode cX4_parse 71 = .ok (.iconst 5, 1) := dk_8 (dk_at dksX4_parse_3 1 rfl rfl)
theorem dX4_parse_72 : decode cX4_parse 72 = .ok (.invokevirtual 179, 3) := dk_182 0 179 (dk_at dksX4_parse_3 2 rfl rfl)
theorem dX4_parse_75 : decode cX4_parse 75 = .ok (.aload_n 0, 1) := dk_42 (dk_at dksX4_parse_3 5 rfl rfl)
theorem dX4_parse_76 : decode cX4_parse 76 = .ok (.getfield 47, 3) := dk_180 0 47 (dk_at dksX4_parse_3 6 rfl rfl)
theorem dX4_parse_79 : decode cX4_parse 79 = .ok (.iconst 2, 1) := dk_5 (dk_at dksX4_parse_3 9 rfl rfl)
theorem dX4_parse_80 : decode cX4_parse 80 = .ok (.if_icmp .ne 14, 3) := dk_160 0 14 (dk_at dksX4_parse_3 10 rfl rfl)
theorem dX4_parse_83 : decode cX4_parse 83 = .ok (.aload_n 0, 1) := dk_42 (dk_at dksX4_parse_3 13 rfl rfl)
theorem dX4_parse_84 : decode cX4_parse 84 = .ok (.invokevirtual 26, 3) := dk_182 0 26 (dk_at dksX4_parse_3 14 rfl rfl)
theorem dX4_parse_87 : decode cX4_parse 87 = .ok (.aload_n 0, 1) := dk_42 (dk_at dksX4_parse_3 17 rfl rfl)
theorem dX4_parse_88 : decode cX4_parse 88 = .ok (.invokevirtual 185, 3) := dk_182 0 185 (dk_at dksX4_parse_3 18 rfl rfl)
theorem dX4_parse_91 : decode cX4_parse 91 = .ok (.goto (-16), 3) := dk_167 255 240 (dk_at dksX4_parse_3 21 rfl rfl)
theorem dX4_parse_94 : decode cX4_parse 94 = .ok (.aload_n 0, 1) := dk_42 (dk_at dksX4_parse_4 0 rfl rfl)
theorem dX4_parse_95 : decode cX4_parse 95 = .ok (.aload_n 0, 1) := dk_42 (dk_at dksX4_parse_4 1 rfl rfl)
theorem dX4_parse_96 : decode cX4_parse 96 = .ok (.getfield 47, 3) := dk_180 0 47 (dk_at dksX4_parse_4 2 rfl rfl)
theorem dX4_parse_99 : decode cX4_parse 99 = .ok (.iconst 3, 1) := dk_6 (dk_at dksX4_parse_4 5 rfl rfl)
theorem dX4_parse_100 : decode cX4_parse 100 = .ok (.if_icmp .ne 7, 3) := dk_160 0 7 (dk_at dksX4_parse_4 6 rfl rfl)
theorem dX4_parse_103 : decode cX4_parse 103 = .ok (.iconst 1, 1) := dk_4 (dk_at dksX4_parse_4 9 rfl rfl)
theorem dX4_parse_104 : decode cX4_parse 104 = .ok (.goto 4, 3) := dk_167 0 4 (dk_at dksX4_parse_4 10 rfl rfl)
theorem dX4_parse_107 : decode cX4_parse 107 = .ok (.iconst 0, 1) := dk_3 (dk_at dksX4_parse_4 13 rfl rfl)
theorem dX4_parse_108 : decode cX4_parse 108 = .ok (.iconst 1, 1) := dk_4 (dk_at dksX4_parse_4 14 rfl rfl)
theorem dX4_parse_109 : decode cX4_parse 109 = .ok (.invokevirtual 62, 3) := dk_182 0 62 (dk_at dksX4_parse_4 15 rfl rfl)
theorem dX4_parse_112 : decode cX4_parse 112 = .ok (.aload_n 0, 1) := dk_42 (dk_at dksX4_parse_4 18 rfl rfl)
theorem dX4_parse_113 : decode cX4_parse 113 = .ok (.getfield 18, 3) := dk_180 0 18 (dk_at dksX4_parse_4 19 rfl rfl)
theorem dX4_parse_116 : decode cX4_parse 116 = .ok (.areturn, 1) := dk_176 (dk_at dksX4_parse_4 22 rfl rfl)
abbrev cX4_expect : ByteArray := prog_13_method_7_code
def yX4_expect : MethodName := ⟨RX4, "expect", "(Ljava/lang/String;)V"⟩
def dkwX4_expect_0 : List UInt8 := [42, 42, 182, 0, 77, 43, 182, 0, 80, 4, 182, 0, 62, 42, 182, 0, 26, 177]
abbrev dktX4_expect_0 : List UInt8 := dkwX4_expect_0 ++ []
theorem dksX4_expect_0 : cX4_expect.data.toList.drop 0 = dktX4_expect_0 := by decide +kernel
theorem dX4_expect_0 : decode cX4_expect 0 = .ok (.aload_n 0, 1) := dk_42 (dk_at dksX4_expect_0 0 rfl rfl)
theorem dX4_expect_1 : decode cX4_expect 1 = .ok (.aload_n 0, 1) := dk_42 (dk_at dksX4_expect_0 1 rfl rfl)
theorem dX4_expect_2 : decode cX4_expect 2 = .ok (.invokevirtual 77, 3) := dk_182 0 77 (dk_at dksX4_expect_0 2 rfl rfl)
theorem dX4_expect_5 : decode cX4_expect 5 = .ok (.aload_n 1, 1) := dk_43 (dk_at dksX4_expect_0 5 rfl rfl)
theorem dX4_expect_6 : decode cX4_expect 6 = .ok (.invokevirtual 80, 3) := dk_182 0 80 (dk_at dksX4_expect_0 6 rfl rfl)
theorem dX4_expect_9 : decode cX4_expect 9 = .ok (.iconst 1, 1) := dk_4 (dk_at dksX4_expect_0 9 rfl rfl)
theorem dX4_expect_10 : decode cX4_expect 10 = .ok (.invokevirtual 62, 3) := dk_182 0 62 (dk_at dksX4_expect_0 10 rfl rfl)
theorem dX4_expect_13 : decode cX4_expect 13 = .ok (.aload_n 0, 1) := dk_42 (dk_at dksX4_expect_0 13 rfl rfl)
theorem dX4_expect_14 : decode cX4_expect 14 = .ok (.invokevirtual 26, 3) := dk_182 0 26 (dk_at dksX4_expect_0 14 rfl rfl)
theorem dX4_expect_17 : decode cX4_expect 17 = .ok (.return_, 1) := dk_177 (dk_at dksX4_expect_0 17 rfl rfl)
abbrev cX4_word : ByteArray := prog_13_method_6_code
def yX4_word : MethodName := ⟨RX4, "word", "()Ljava/lang/String;"⟩
def dkwX4_word_2 : List UInt8 := [87, 132, 2, 1, 167, 255, 234, 43, 182, 0, 73, 176]
abbrev dktX4_word_2 : List UInt8 := dkwX4_word_2 ++ []
def dkwX4_word_1 : List UInt8 := [76, 42, 180, 0, 44, 61, 28, 42, 180, 0, 41, 162, 0, 20, 43, 42, 28, 182, 0, 33, 146, 182, 0, 69]
abbrev dktX4_word_1 : List UInt8 := dkwX4_word_1 ++ dktX4_word_2
def dkwX4_word_0 : List UInt8 := [42, 42, 180, 0, 47, 154, 0, 7, 4, 167, 0, 4, 3, 4, 182, 0, 62, 187, 0, 66, 89, 183, 0, 68]
abbrev dktX4_word_0 : List UInt8 := dkwX4_word_0 ++ dktX4_word_1
theorem dksX4_word_0 : cX4_word.data.toList.drop 0 = dktX4_word_0 := by decide +kernel
theorem dksX4_word_1 : cX4_word.data.toList.drop 24 = dktX4_word_1 := dk_seg dksX4_word_0 24 rfl rfl
theorem dksX4_word_2 : cX4_word.data.toList.drop 48 = dktX4_word_2 := dk_seg dksX4_word_1 24 rfl rfl
theorem dX4_word_0 : decode cX4_word 0 = .ok (.aload_n 0, 1) := dk_42 (dk_at dksX4_word_0 0 rfl rfl)
theorem dX4_word_1 : decode cX4_word 1 = .ok (.aload_n 0, 1) := dk_42 (dk_at dksX4_word_0 1 rfl rfl)
theorem dX4_word_2 : decode cX4_word 2 = .ok (.getfield 47, 3) := dk_180 0 47 (dk_at dksX4_word_0 2 rfl rfl)
theorem dX4_word_5 : decode cX4_word 5 = .ok (.ifCond .ne 7, 3) := dk_154 0 7 (dk_at dksX4_word_0 5 rfl rfl)
theorem dX4_word_8 : decode cX4_word 8 = .ok (.iconst 1, 1) := dk_4 (dk_at dksX4_word_0 8 rfl rfl)
theorem dX4_word_9 : decode cX4_word 9 = .ok (.goto 4, 3) := dk_167 0 4 (dk_at dksX4_word_0 9 rfl rfl)
theorem dX4_word_12 : decode cX4_word 12 = .ok (.iconst 0, 1) := dk_3 (dk_at dksX4_word_0 12 rfl rfl)
theorem dX4_word_13 : decode cX4_word 13 = .ok (.iconst 1, 1) := dk_4 (dk_at dksX4_word_0 13 rfl rfl)
theorem dX4_word_14 : decode cX4_word 14 = .ok (.invokevirtual 62, 3) := dk_182 0 62 (dk_at dksX4_word_0 14 rfl rfl)
theorem dX4_word_17 : decode cX4_word 17 = .ok (.new 66, 3) := dk_187 0 66 (dk_at dksX4_word_0 17 rfl rfl)
theorem dX4_word_20 : decode cX4_word 20 = .ok (.dup, 1) := dk_89 (dk_at dksX4_word_0 20 rfl rfl)
theorem dX4_word_21 : decode cX4_word 21 = .ok (.invokespecial 68, 3) := dk_183 0 68 (dk_at dksX4_word_0 21 rfl rfl)
theorem dX4_word_24 : decode cX4_word 24 = .ok (.astore_n 1, 1) := dk_76 (dk_at dksX4_word_1 0 rfl rfl)
theorem dX4_word_25 : decode cX4_word 25 = .ok (.aload_n 0, 1) := dk_42 (dk_at dksX4_word_1 1 rfl rfl)
theorem dX4_word_26 : decode cX4_word 26 = .ok (.getfield 44, 3) := dk_180 0 44 (dk_at dksX4_word_1 2 rfl rfl)
theorem dX4_word_29 : decode cX4_word 29 = .ok (.istore_n 2, 1) := dk_61 (dk_at dksX4_word_1 5 rfl rfl)
theorem dX4_word_30 : decode cX4_word 30 = .ok (.iload_n 2, 1) := dk_28 (dk_at dksX4_word_1 6 rfl rfl)
theorem dX4_word_31 : decode cX4_word 31 = .ok (.aload_n 0, 1) := dk_42 (dk_at dksX4_word_1 7 rfl rfl)
theorem dX4_word_32 : decode cX4_word 32 = .ok (.getfield 41, 3) := dk_180 0 41 (dk_at dksX4_word_1 8 rfl rfl)
theorem dX4_word_35 : decode cX4_word 35 = .ok (.if_icmp .ge 20, 3) := dk_162 0 20 (dk_at dksX4_word_1 11 rfl rfl)
theorem dX4_word_38 : decode cX4_word 38 = .ok (.aload_n 1, 1) := dk_43 (dk_at dksX4_word_1 14 rfl rfl)
theorem dX4_word_39 : decode cX4_word 39 = .ok (.aload_n 0, 1) := dk_42 (dk_at dksX4_word_1 15 rfl rfl)
theorem dX4_word_40 : decode cX4_word 40 = .ok (.iload_n 2, 1) := dk_28 (dk_at dksX4_word_1 16 rfl rfl)
theorem dX4_word_41 : decode cX4_word 41 = .ok (.invokevirtual 33, 3) := dk_182 0 33 (dk_at dksX4_word_1 17 rfl rfl)
theorem dX4_word_44 : decode cX4_word 44 = .ok (.i2c, 1) := dk_146 (dk_at dksX4_word_1 20 rfl rfl)
theorem dX4_word_45 : decode cX4_word 45 = .ok (.invokevirtual 69, 3) := dk_182 0 69 (dk_at dksX4_word_1 21 rfl rfl)
theorem dX4_word_48 : decode cX4_word 48 = .ok (.pop, 1) := dk_87 (dk_at dksX4_word_2 0 rfl rfl)
theorem dX4_word_49 : decode cX4_word 49 = .ok (.iinc 2 1, 3) := dk_132 2 1 (dk_at dksX4_word_2 1 rfl rfl)
theorem dX4_word_52 : decode cX4_word 52 = .ok (.goto (-22), 3) := dk_167 255 234 (dk_at dksX4_word_2 4 rfl rfl)
theorem dX4_word_55 : decode cX4_word 55 = .ok (.aload_n 1, 1) := dk_43 (dk_at dksX4_word_2 7 rfl rfl)
theorem dX4_word_56 : decode cX4_word 56 = .ok (.invokevirtual 73, 3) := dk_182 0 73 (dk_at dksX4_word_2 8 rfl rfl)
theorem dX4_word_59 : decode cX4_word 59 = .ok (.areturn, 1) := dk_176 (dk_at dksX4_word_2 11 rfl rfl)
abbrev cX4_check : ByteArray := prog_13_method_5_code
def yX4_check : MethodName := ⟨RX4, "check", "(ZI)V"⟩
def dkwX4_check_0 : List UInt8 := [27, 154, 0, 16, 187, 0, 57, 89, 28, 42, 180, 0, 44, 183, 0, 59, 191, 177]
abbrev dktX4_check_0 : List UInt8 := dkwX4_check_0 ++ []
theorem dksX4_check_0 : cX4_check.data.toList.drop 0 = dktX4_check_0 := by decide +kernel
theorem dX4_check_0 : decode cX4_check 0 = .ok (.iload_n 1, 1) := dk_27 (dk_at dksX4_check_0 0 rfl rfl)
theorem dX4_check_1 : decode cX4_check 1 = .ok (.ifCond .ne 16, 3) := dk_154 0 16 (dk_at dksX4_check_0 1 rfl rfl)
theorem dX4_check_4 : decode cX4_check 4 = .ok (.new 57, 3) := dk_187 0 57 (dk_at dksX4_check_0 4 rfl rfl)
theorem dX4_check_7 : decode cX4_check 7 = .ok (.dup, 1) := dk_89 (dk_at dksX4_check_0 7 rfl rfl)
theorem dX4_check_8 : decode cX4_check 8 = .ok (.iload_n 2, 1) := dk_28 (dk_at dksX4_check_0 8 rfl rfl)
theorem dX4_check_9 : decode cX4_check 9 = .ok (.aload_n 0, 1) := dk_42 (dk_at dksX4_check_0 9 rfl rfl)
theorem dX4_check_10 : decode cX4_check 10 = .ok (.getfield 44, 3) := dk_180 0 44 (dk_at dksX4_check_0 10 rfl rfl)
theorem dX4_check_13 : decode cX4_check 13 = .ok (.invokespecial 59, 3) := dk_183 0 59 (dk_at dksX4_check_0 13 rfl rfl)
theorem dX4_check_16 : decode cX4_check 16 = .ok (.athrow, 1) := dk_191 (dk_at dksX4_check_0 16 rfl rfl)
theorem dX4_check_17 : decode cX4_check 17 = .ok (.return_, 1) := dk_177 (dk_at dksX4_check_0 17 rfl rfl)
abbrev cX4_setting : ByteArray := prog_13_method_14_code
def yX4_setting : MethodName := ⟨RX4, "setting", "(I)V"⟩
def dkwX4_setting_1 : List UInt8 := [180, 0, 18, 180, 0, 162, 184, 0, 170, 182, 0, 100, 79, 177]
abbrev dktX4_setting_1 : List UInt8 := dkwX4_setting_1 ++ []
def dkwX4_setting_0 : List UInt8 := [42, 180, 0, 18, 180, 0, 162, 27, 42, 27, 42, 180, 0, 18, 180, 0, 162, 184, 0, 166, 27, 42]
abbrev dktX4_setting_0 : List UInt8 := dkwX4_setting_0 ++ dktX4_setting_1
theorem dksX4_setting_0 : cX4_setting.data.toList.drop 0 = dktX4_setting_0 := by decide +kernel
theorem dksX4_setting_1 : cX4_setting.data.toList.drop 22 = dktX4_setting_1 := dk_seg dksX4_setting_0 22 rfl rfl
theorem dX4_setting_0 : decode cX4_setting 0 = .ok (.aload_n 0, 1) := dk_42 (dk_at dksX4_setting_0 0 rfl rfl)
theorem dX4_setting_1 : decode cX4_setting 1 = .ok (.getfield 18, 3) := dk_180 0 18 (dk_at dksX4_setting_0 1 rfl rfl)
theorem dX4_setting_4 : decode cX4_setting 4 = .ok (.getfield 162, 3) := dk_180 0 162 (dk_at dksX4_setting_0 4 rfl rfl)
theorem dX4_setting_7 : decode cX4_setting 7 = .ok (.iload_n 1, 1) := dk_27 (dk_at dksX4_setting_0 7 rfl rfl)
theorem dX4_setting_8 : decode cX4_setting 8 = .ok (.aload_n 0, 1) := dk_42 (dk_at dksX4_setting_0 8 rfl rfl)
theorem dX4_setting_9 : decode cX4_setting 9 = .ok (.iload_n 1, 1) := dk_27 (dk_at dksX4_setting_0 9 rfl rfl)
theorem dX4_setting_10 : decode cX4_setting 10 = .ok (.aload_n 0, 1) := dk_42 (dk_at dksX4_setting_0 10 rfl rfl)
theorem dX4_setting_11 : decode cX4_setting 11 = .ok (.getfield 18, 3) := dk_180 0 18 (dk_at dksX4_setting_0 11 rfl rfl)
theorem dX4_setting_14 : decode cX4_setting 14 = .ok (.getfield 162, 3) := dk_180 0 162 (dk_at dksX4_setting_0 14 rfl rfl)
theorem dX4_setting_17 : decode cX4_setting 17 = .ok (.invokestatic 166, 3) := dk_184 0 166 (dk_at dksX4_setting_0 17 rfl rfl)
theorem dX4_setting_20 : decode cX4_setting 20 = .ok (.iload_n 1, 1) := dk_27 (dk_at dksX4_setting_0 20 rfl rfl)
theorem dX4_setting_21 : decode cX4_setting 21 = .ok (.aload_n 0, 1) := dk_42 (dk_at dksX4_setting_0 21 rfl rfl)
theorem dX4_setting_22 : decode cX4_setting 22 = .ok (.getfield 18, 3) := dk_180 0 18 (dk_at dksX4_setting_1 0 rfl rfl)
theorem dX4_setting_25 : decode cX4_setting 25 = .ok (.getfield 162, 3) := dk_180 0 162 (dk_at dksX4_setting_1 3 rfl rfl)
theorem dX4_setting_28 : decode cX4_setting 28 = .ok (.invokestatic 170, 3) := dk_184 0 170 (dk_at dksX4_setting_1 6 rfl rfl)
theorem dX4_setting_31 : decode cX4_setting 31 = .ok (.invokevirtual 100, 3) := dk_182 0 100 (dk_at dksX4_setting_1 9 rfl rfl)
theorem dX4_setting_34 : decode cX4_setting 34 = .ok (.iastore, 1) := dk_79 (dk_at dksX4_setting_1 12 rfl rfl)
theorem dX4_setting_35 : decode cX4_setting 35 = .ok (.return_, 1) := dk_177 (dk_at dksX4_setting_1 13 rfl rfl)
abbrev cX4_number : ByteArray := prog_13_method_8_code
def yX4_number : MethodName := ⟨RX4, "number", "(II)I"⟩
def dkwX4_number_1 : List UInt8 := [28, 184, 0, 37, 5, 182, 0, 62, 42, 180, 0, 54, 62, 42, 182, 0, 26, 29, 172]
abbrev dktX4_number_1 : List UInt8 := dkwX4_number_1 ++ []
def dkwX4_number_0 : List UInt8 := [42, 42, 180, 0, 47, 4, 160, 0, 7, 4, 167, 0, 4, 3, 4, 182, 0, 62, 42, 42, 180, 0, 54, 27]
abbrev dktX4_number_0 : List UInt8 := dkwX4_number_0 ++ dktX4_number_1
theorem dksX4_number_0 : cX4_number.data.toList.drop 0 = dktX4_number_0 := by decide +kernel
theorem dksX4_number_1 : cX4_number.data.toList.drop 24 = dktX4_number_1 := dk_seg dksX4_number_0 24 rfl rfl
theorem dX4_number_0 : decode cX4_number 0 = .ok (.aload_n 0, 1) := dk_42 (dk_at dksX4_number_0 0 rfl rfl)
theorem dX4_number_1 : decode cX4_number 1 = .ok (.aload_n 0, 1) := dk_42 (dk_at dksX4_number_0 1 rfl rfl)
theorem dX4_number_2 : decode cX4_number 2 = .ok (.getfield 47, 3) := dk_180 0 47 (dk_at dksX4_number_0 2 rfl rfl)
theorem dX4_number_5 : decode cX4_number 5 = .ok (.iconst 1, 1) := dk_4 (dk_at dksX4_number_0 5 rfl rfl)
theorem dX4_number_6 : decode cX4_number 6 = .ok (.if_icmp .ne 7, 3) := dk_160 0 7 (dk_at dksX4_number_0 6 rfl rfl)
theorem dX4_number_9 : decode cX4_number 9 = .ok (.iconst 1, 1) := dk_4 (dk_at dksX4_number_0 9 rfl rfl)
theorem dX4_number_10 : decode cX4_number 10 = .ok (.goto 4, 3) := dk_167 0 4 (dk_at dksX4_number_0 10 rfl rfl)
theorem dX4_number_13 : decode cX4_number 13 = .ok (.iconst 0, 1) := dk_3 (dk_at dksX4_number_0 13 rfl rfl)
theorem dX4_number_14 : decode cX4_number 14 = .ok (.iconst 1, 1) := dk_4 (dk_at dksX4_number_0 14 rfl rfl)
theorem dX4_number_15 : decode cX4_number 15 = .ok (.invokevirtual 62, 3) := dk_182 0 62 (dk_at dksX4_number_0 15 rfl rfl)
theorem dX4_number_18 : decode cX4_number 18 = .ok (.aload_n 0, 1) := dk_42 (dk_at dksX4_number_0 18 rfl rfl)
theorem dX4_number_19 : decode cX4_number 19 = .ok (.aload_n 0, 1) := dk_42 (dk_at dksX4_number_0 19 rfl rfl)
theorem dX4_number_20 : decode cX4_number 20 = .ok (.getfield 54, 3) := dk_180 0 54 (dk_at dksX4_number_0 20 rfl rfl)
theorem dX4_number_23 : decode cX4_number 23 = .ok (.iload_n 1, 1) := dk_27 (dk_at dksX4_number_0 23 rfl rfl)
theorem dX4_number_24 : decode cX4_number 24 = .ok (.iload_n 2, 1) := dk_28 (dk_at dksX4_number_1 0 rfl rfl)
theorem dX4_number_25 : decode cX4_number 25 = .ok (.invokestatic 37, 3) := dk_184 0 37 (dk_at dksX4_number_1 1 rfl rfl)
theorem dX4_number_28 : decode cX4_number 28 = .ok (.iconst 2, 1) := dk_5 (dk_at dksX4_number_1 4 rfl rfl)
theorem dX4_number_29 : decode cX4_number 29 = .ok (.invokevirtual 62, 3) := dk_182 0 62 (dk_at dksX4_number_1 5 rfl rfl)
theorem dX4_number_32 : decode cX4_number 32 = .ok (.aload_n 0, 1) := dk_42 (dk_at dksX4_number_1 8 rfl rfl)
theorem dX4_number_33 : decode cX4_number 33 = .ok (.getfield 54, 3) := dk_180 0 54 (dk_at dksX4_number_1 9 rfl rfl)
theorem dX4_number_36 : decode cX4_number 36 = .ok (.istore_n 3, 1) := dk_62 (dk_at dksX4_number_1 12 rfl rfl)
theorem dX4_number_37 : decode cX4_number 37 = .ok (.aload_n 0, 1) := dk_42 (dk_at dksX4_number_1 13 rfl rfl)
theorem dX4_number_38 : decode cX4_number 38 = .ok (.invokevirtual 26, 3) := dk_182 0 26 (dk_at dksX4_number_1 14 rfl rfl)
theorem dX4_number_41 : decode cX4_number 41 = .ok (.iload_n 3, 1) := dk_29 (dk_at dksX4_number_1 17 rfl rfl)
theorem dX4_number_42 : decode cX4_number 42 = .ok (.ireturn, 1) := dk_172 (dk_at dksX4_number_1 18 rfl rfl)
abbrev cX4_line : ByteArray := prog_13_method_13_code
def yX4_line : MethodName := ⟨RX4, "line", "()V"⟩
def dkwX4_line_8 : List UInt8 := [167, 0, 16, 42, 182, 0, 160, 167, 0, 9, 42, 3, 4, 182, 0, 62, 177]
abbrev dktX4_line_8 : List UInt8 := dkwX4_line_8 ++ []
def dkwX4_line_7 : List UInt8 := [180, 0, 18, 180, 0, 155, 42, 180, 0, 18, 180, 0, 155, 3, 182, 0, 151, 167, 0, 23, 42, 182, 0, 158]
abbrev dktX4_line_7 : List UInt8 := dkwX4_line_7 ++ dktX4_line_8
def dkwX4_line_6 : List UInt8 := [42, 42, 180, 0, 18, 180, 0, 147, 42, 180, 0, 18, 180, 0, 147, 4, 182, 0, 151, 167, 0, 45, 42, 42]
abbrev dktX4_line_6 : List UInt8 := dkwX4_line_6 ++ dktX4_line_7
def dkwX4_line_5 : List UInt8 := [170, 0, 0, 0, 0, 88, 0, 0, 0, 0, 0, 0, 0, 3, 0, 0, 0, 30, 0, 0, 0, 52, 0, 0, 0, 74, 0, 0, 0, 81]
abbrev dktX4_line_5 : List UInt8 := dkwX4_line_5 ++ dktX4_line_6
def dkwX4_line_4 : List UInt8 := [153, 0, 5, 6, 61, 28]
abbrev dktX4_line_4 : List UInt8 := dkwX4_line_4 ++ dktX4_line_5
def dkwX4_line_3 : List UInt8 := [61, 167, 0, 28, 43, 18, 143, 182, 0, 80, 153, 0, 19, 5, 61, 167, 0, 14, 43, 18, 145, 182, 0, 80]
abbrev dktX4_line_3 : List UInt8 := dkwX4_line_3 ++ dktX4_line_4
def dkwX4_line_2 : List UInt8 := [43, 18, 139, 182, 0, 80, 153, 0, 47, 3, 61, 167, 0, 42, 43, 18, 141, 182, 0, 80, 153, 0, 33, 4]
abbrev dktX4_line_2 : List UInt8 := dkwX4_line_2 ++ dktX4_line_3
def dkwX4_line_1 : List UInt8 := [171, 0, 0, 0, 94, 0, 0, 0, 4, 0, 1, 140, 190, 0, 0, 0, 83, 5, 160, 171, 233, 0, 0, 0, 41, 6, 119, 182, 171, 0, 0, 0, 69, 6, 135, 85, 171, 0, 0, 0, 55]
abbrev dktX4_line_1 : List UInt8 := dkwX4_line_1 ++ dktX4_line_2
def dkwX4_line_0 : List UInt8 := [42, 182, 0, 77, 76, 2, 61, 43, 182, 0, 136]
abbrev dktX4_line_0 : List UInt8 := dkwX4_line_0 ++ dktX4_line_1
theorem dksX4_line_0 : cX4_line.data.toList.drop 0 = dktX4_line_0 := by decide +kernel
theorem dksX4_line_1 : cX4_line.data.toList.drop 11 = dktX4_line_1 := dk_seg dksX4_line_0 11 rfl rfl
theorem dksX4_line_2 : cX4_line.data.toList.drop 52 = dktX4_line_2 := dk_seg dksX4_line_1 41 rfl rfl
theorem dksX4_line_3 : cX4_line.data.toList.drop 76 = dktX4_line_3 := dk_seg dksX4_line_2 24 rfl rfl
theorem dksX4_line_4 : cX4_line.data.toList.drop 100 = dktX4_line_4 := dk_seg dksX4_line_3 24 rfl rfl
theorem dksX4_line_5 : cX4_line.data.toList.drop 106 = dktX4_line_5 := dk_seg dksX4_line_4 6 rfl rfl
theorem dksX4_line_6 : cX4_line.data.toList.drop 136 = dktX4_line_6 := dk_seg dksX4_line_5 30 rfl rfl
theorem dksX4_line_7 : cX4_line.data.toList.drop 160 = dktX4_line_7 := dk_seg dksX4_line_6 24 rfl rfl
theorem dksX4_line_8 : cX4_line.data.toList.drop 184 = dktX4_line_8 := dk_seg dksX4_line_7 24 rfl rfl
theorem dX4_line_0 : decode cX4_line 0 = .ok (.aload_n 0, 1) := dk_42 (dk_at dksX4_line_0 0 rfl rfl)
theorem dX4_line_1 : decode cX4_line 1 = .ok (.invokevirtual 77, 3) := dk_182 0 77 (dk_at dksX4_line_0 1 rfl rfl)
theorem dX4_line_4 : decode cX4_line 4 = .ok (.astore_n 1, 1) := dk_76 (dk_at dksX4_line_0 4 rfl rfl)
theorem dX4_line_5 : decode cX4_line 5 = .ok (.iconst (-1), 1) := dk_2 (dk_at dksX4_line_0 5 rfl rfl)
theorem dX4_line_6 : decode cX4_line 6 = .ok (.istore_n 2, 1) := dk_61 (dk_at dksX4_line_0 6 rfl rfl)
theorem dX4_line_7 : decode cX4_line 7 = .ok (.aload_n 1, 1) := dk_43 (dk_at dksX4_line_0 7 rfl rfl)
theorem dX4_line_8 : decode cX4_line 8 = .ok (.invokevirtual 136, 3) := dk_182 0 136 (dk_at dksX4_line_0 8 rfl rfl)
theorem dX4_line_11 : decode cX4_line 11 = .ok (.lookupswitch 94 #[(101566, 83), (94415849, 41), (108508843, 69), (109532587, 55)], 41) := by decide +kernel
theorem dX4_line_52 : decode cX4_line 52 = .ok (.aload_n 1, 1) := dk_43 (dk_at dksX4_line_2 0 rfl rfl)
theorem dX4_line_53 : decode cX4_line 53 = .ok (.ldc 139, 2) := dk_18 139 (dk_at dksX4_line_2 1 rfl rfl)
theorem dX4_line_55 : decode cX4_line 55 = .ok (.invokevirtual 80, 3) := dk_182 0 80 (dk_at dksX4_line_2 3 rfl rfl)
theorem dX4_line_58 : decode cX4_line 58 = .ok (.ifCond .eq 47, 3) := dk_153 0 47 (dk_at dksX4_line_2 6 rfl rfl)
theorem dX4_line_61 : decode cX4_line 61 = .ok (.iconst 0, 1) := dk_3 (dk_at dksX4_line_2 9 rfl rfl)
theorem dX4_line_62 : decode cX4_line 62 = .ok (.istore_n 2, 1) := dk_61 (dk_at dksX4_line_2 10 rfl rfl)
theorem dX4_line_63 : decode cX4_line 63 = .ok (.goto 42, 3) := dk_167 0 42 (dk_at dksX4_line_2 11 rfl rfl)
theorem dX4_line_66 : decode cX4_line 66 = .ok (.aload_n 1, 1) := dk_43 (dk_at dksX4_line_2 14 rfl rfl)
theorem dX4_line_67 : decode cX4_line 67 = .ok (.ldc 141, 2) := dk_18 141 (dk_at dksX4_line_2 15 rfl rfl)
theorem dX4_line_69 : decode cX4_line 69 = .ok (.invokevirtual 80, 3) := dk_182 0 80 (dk_at dksX4_line_2 17 rfl rfl)
theorem dX4_line_72 : decode cX4_line 72 = .ok (.ifCond .eq 33, 3) := dk_153 0 33 (dk_at dksX4_line_2 20 rfl rfl)
theorem dX4_line_75 : decode cX4_line 75 = .ok (.iconst 1, 1) := dk_4 (dk_at dksX4_line_2 23 rfl rfl)
theorem dX4_line_76 : decode cX4_line 76 = .ok (.istore_n 2, 1) := dk_61 (dk_at dksX4_line_3 0 rfl rfl)
theorem dX4_line_77 : decode cX4_line 77 = .ok (.goto 28, 3) := dk_167 0 28 (dk_at dksX4_line_3 1 rfl rfl)
theorem dX4_line_80 : decode cX4_line 80 = .ok (.aload_n 1, 1) := dk_43 (dk_at dksX4_line_3 4 rfl rfl)
theorem dX4_line_81 : decode cX4_line 81 = .ok (.ldc 143, 2) := dk_18 143 (dk_at dksX4_line_3 5 rfl rfl)
theorem dX4_line_83 : decode cX4_line 83 = .ok (.invokevirtual 80, 3) := dk_182 0 80 (dk_at dksX4_line_3 7 rfl rfl)
theorem dX4_line_86 : decode cX4_line 86 = .ok (.ifCond .eq 19, 3) := dk_153 0 19 (dk_at dksX4_line_3 10 rfl rfl)
theorem dX4_line_89 : decode cX4_line 89 = .ok (.iconst 2, 1) := dk_5 (dk_at dksX4_line_3 13 rfl rfl)
theorem dX4_line_90 : decode cX4_line 90 = .ok (.istore_n 2, 1) := dk_61 (dk_at dksX4_line_3 14 rfl rfl)
theorem dX4_line_91 : decode cX4_line 91 = .ok (.goto 14, 3) := dk_167 0 14 (dk_at dksX4_line_3 15 rfl rfl)
theorem dX4_line_94 : decode cX4_line 94 = .ok (.aload_n 1, 1) := dk_43 (dk_at dksX4_line_3 18 rfl rfl)
theorem dX4_line_95 : decode cX4_line 95 = .ok (.ldc 145, 2) := dk_18 145 (dk_at dksX4_line_3 19 rfl rfl)
theorem dX4_line_97 : decode cX4_line 97 = .ok (.invokevirtual 80, 3) := dk_182 0 80 (dk_at dksX4_line_3 21 rfl rfl)
theorem dX4_line_100 : decode cX4_line 100 = .ok (.ifCond .eq 5, 3) := dk_153 0 5 (dk_at dksX4_line_4 0 rfl rfl)
theorem dX4_line_103 : decode cX4_line 103 = .ok (.iconst 3, 1) := dk_6 (dk_at dksX4_line_4 3 rfl rfl)
theorem dX4_line_104 : decode cX4_line 104 = .ok (.istore_n 2, 1) := dk_61 (dk_at dksX4_line_4 4 rfl rfl)
theorem dX4_line_105 : decode cX4_line 105 = .ok (.iload_n 2, 1) := dk_28 (dk_at dksX4_line_4 5 rfl rfl)
theorem dX4_line_106 : decode cX4_line 106 = .ok (.tableswitch 88 0 3 #[30, 52, 74, 81], 30) := by decide +kernel
theorem dX4_line_136 : decode cX4_line 136 = .ok (.aload_n 0, 1) := dk_42 (dk_at dksX4_line_6 0 rfl rfl)
theorem dX4_line_137 : decode cX4_line 137 = .ok (.aload_n 0, 1) := dk_42 (dk_at dksX4_line_6 1 rfl rfl)
theorem dX4_line_138 : decode cX4_line 138 = .ok (.getfield 18, 3) := dk_180 0 18 (dk_at dksX4_line_6 2 rfl rfl)
theorem dX4_line_141 : decode cX4_line 141 = .ok (.getfield 147, 3) := dk_180 0 147 (dk_at dksX4_line_6 5 rfl rfl)
theorem dX4_line_144 : decode cX4_line 144 = .ok (.aload_n 0, 1) := dk_42 (dk_at dksX4_line_6 8 rfl rfl)
theorem dX4_line_145 : decode cX4_line 145 = .ok (.getfield 18, 3) := dk_180 0 18 (dk_at dksX4_line_6 9 rfl rfl)
theorem dX4_line_148 : decode cX4_line 148 = .ok (.getfield 147, 3) := dk_180 0 147 (dk_at dksX4_line_6 12 rfl rfl)
theorem dX4_line_151 : decode cX4_line 151 = .ok (.iconst 1, 1) := dk_4 (dk_at dksX4_line_6 15 rfl rfl)
theorem dX4_line_152 : decode cX4_line 152 = .ok (.invokevirtual 151, 3) := dk_182 0 151 (dk_at dksX4_line_6 16 rfl rfl)
theorem dX4_line_155 : decode cX4_line 155 = .ok (.goto 45, 3) := dk_167 0 45 (dk_at dksX4_line_6 19 rfl rfl)
theorem dX4_line_158 : decode cX4_line 158 = .ok (.aload_n 0, 1) := dk_42 (dk_at dksX4_line_6 22 rfl rfl)
theorem dX4_line_159 : decode cX4_line 159 = .ok (.aload_n 0, 1) := dk_42 (dk_at dksX4_line_6 23 rfl rfl)
theorem dX4_line_160 : decode cX4_line 160 = .ok (.getfield 18, 3) := dk_180 0 18 (dk_at dksX4_line_7 0 rfl rfl)
theorem dX4_line_163 : decode cX4_line 163 = .ok (.getfield 155, 3) := dk_180 0 155 (dk_at dksX4_line_7 3 rfl rfl)
theorem dX4_line_166 : decode cX4_line 166 = .ok (.aload_n 0, 1) := dk_42 (dk_at dksX4_line_7 6 rfl rfl)
theorem dX4_line_167 : decode cX4_line 167 = .ok (.getfield 18, 3) := dk_180 0 18 (dk_at dksX4_line_7 7 rfl rfl)
theorem dX4_line_170 : decode cX4_line 170 = .ok (.getfield 155, 3) := dk_180 0 155 (dk_at dksX4_line_7 10 rfl rfl)
theorem dX4_line_173 : decode cX4_line 173 = .ok (.iconst 0, 1) := dk_3 (dk_at dksX4_line_7 13 rfl rfl)
theorem dX4_line_174 : decode cX4_line 174 = .ok (.invokevirtual 151, 3) := dk_182 0 151 (dk_at dksX4_line_7 14 rfl rfl)
theorem dX4_line_177 : decode cX4_line 177 = .ok (.goto 23, 3) := dk_167 0 23 (dk_at dksX4_line_7 17 rfl rfl)
theorem dX4_line_180 : decode cX4_line 180 = .ok (.aload_n 0, 1) := dk_42 (dk_at dksX4_line_7 20 rfl rfl)
theorem dX4_line_181 : decode cX4_line 181 = .ok (.invokevirtual 158, 3) := dk_182 0 158 (dk_at dksX4_line_7 21 rfl rfl)
theorem dX4_line_184 : decode cX4_line 184 = .ok (.goto 16, 3) := dk_167 0 16 (dk_at dksX4_line_8 0 rfl rfl)
theorem dX4_line_187 : decode cX4_line 187 = .ok (.aload_n 0, 1) := dk_42 (dk_at dksX4_line_8 3 rfl rfl)
theorem dX4_line_188 : decode cX4_line 188 = .ok (.invokevirtual 160, 3) := dk_182 0 160 (dk_at dksX4_line_8 4 rfl rfl)
theorem dX4_line_191 : decode cX4_line 191 = .ok (.goto 9, 3) := dk_167 0 9 (dk_at dksX4_line_8 7 rfl rfl)
theorem dX4_line_194 : decode cX4_line 194 = .ok (.aload_n 0, 1) := dk_42 (dk_at dksX4_line_8 10 rfl rfl)
theorem dX4_line_195 : decode cX4_line 195 = .ok (.iconst 0, 1) := dk_3 (dk_at dksX4_line_8 11 rfl rfl)
theorem dX4_line_196 : decode cX4_line 196 = .ok (.iconst 1, 1) := dk_4 (dk_at dksX4_line_8 12 rfl rfl)
theorem dX4_line_197 : decode cX4_line 197 = .ok (.invokevirtual 62, 3) := dk_182 0 62 (dk_at dksX4_line_8 13 rfl rfl)
theorem dX4_line_200 : decode cX4_line 200 = .ok (.return_, 1) := dk_177 (dk_at dksX4_line_8 16 rfl rfl)
abbrev cX4_spot : ByteArray := prog_13_method_10_code
def yX4_spot : MethodName := ⟨RX4, "spot", "(LFlareSlopes$Register;LFlareSlopes$Register;Z)V"⟩
def dkwX4_spot_3 : List UInt8 := [153, 0, 13, 42, 3, 16, 99, 182, 0, 100, 167, 0, 4, 3, 183, 0, 106, 182, 0, 109, 177]
abbrev dktX4_spot_3 : List UInt8 := dkwX4_spot_3 ++ []
def dkwX4_spot_2 : List UInt8 := [3, 17, 3, 231, 182, 0, 100, 54, 7, 43, 187, 0, 104, 89, 25, 4, 21, 5, 21, 6, 21, 7, 29]
abbrev dktX4_spot_2 : List UInt8 := dkwX4_spot_2 ++ dktX4_spot_3
def dkwX4_spot_1 : List UInt8 := [182, 0, 96, 58, 4, 42, 3, 16, 99, 182, 0, 100, 54, 5, 42, 3, 16, 99, 182, 0, 100, 54, 6, 42]
abbrev dktX4_spot_1 : List UInt8 := dkwX4_spot_1 ++ dktX4_spot_2
def dkwX4_spot_0 : List UInt8 := [42, 44, 182, 0, 92, 154, 0, 7, 4, 167, 0, 4, 3, 7, 182, 0, 62, 42, 182, 0, 26, 42, 44]
abbrev dktX4_spot_0 : List UInt8 := dkwX4_spot_0 ++ dktX4_spot_1
theorem dksX4_spot_0 : cX4_spot.data.toList.drop 0 = dktX4_spot_0 := by decide +kernel
theorem dksX4_spot_1 : cX4_spot.data.toList.drop 23 = dktX4_spot_1 := dk_seg dksX4_spot_0 23 rfl rfl
theorem dksX4_spot_2 : cX4_spot.data.toList.drop 47 = dktX4_spot_2 := dk_seg dksX4_spot_1 24 rfl rfl
theorem dksX4_spot_3 : cX4_spot.data.toList.drop 70 = dktX4_spot_3 := dk_seg dksX4_spot_2 23 rfl rfl
theorem dX4_spot_0 : decode cX4_spot 0 = .ok (.aload_n 0, 1) := dk_42 (dk_at dksX4_spot_0 0 rfl rfl)
theorem dX4_spot_1 : decode cX4_spot 1 = .ok (.aload_n 2, 1) := dk_44 (dk_at dksX4_spot_0 1 rfl rfl)
theorem dX4_spot_2 : decode cX4_spot 2 = .ok (.invokevirtual 92, 3) := dk_182 0 92 (dk_at dksX4_spot_0 2 rfl rfl)
theorem dX4_spot_5 : decode cX4_spot 5 = .ok (.ifCond .ne 7, 3) := dk_154 0 7 (dk_at dksX4_spot_0 5 rfl rfl)
theorem dX4_spot_8 : decode cX4_spot 8 = .ok (.iconst 1, 1) := dk_4 (dk_at dksX4_spot_0 8 rfl rfl)
theorem dX4_spot_9 : decode cX4_spot 9 = .ok (.goto 4, 3) := dk_167 0 4 (dk_at dksX4_spot_0 9 rfl rfl)
theorem dX4_spot_12 : decode cX4_spot 12 = .ok (.iconst 0, 1) := dk_3 (dk_at dksX4_spot_0 12 rfl rfl)
theorem dX4_spot_13 : decode cX4_spot 13 = .ok (.iconst 4, 1) := dk_7 (dk_at dksX4_spot_0 13 rfl rfl)
theorem dX4_spot_14 : decode cX4_spot 14 = .ok (.invokevirtual 62, 3) := dk_182 0 62 (dk_at dksX4_spot_0 14 rfl rfl)
theorem dX4_spot_17 : decode cX4_spot 17 = .ok (.aload_n 0, 1) := dk_42 (dk_at dksX4_spot_0 17 rfl rfl)
theorem dX4_spot_18 : decode cX4_spot 18 = .ok (.invokevirtual 26, 3) := dk_182 0 26 (dk_at dksX4_spot_0 18 rfl rfl)
theorem dX4_spot_21 : decode cX4_spot 21 = .ok (.aload_n 0, 1) := dk_42 (dk_at dksX4_spot_0 21 rfl rfl)
theorem dX4_spot_22 : decode cX4_spot 22 = .ok (.aload_n 2, 1) := dk_44 (dk_at dksX4_spot_0 22 rfl rfl)
theorem dX4_spot_23 : decode cX4_spot 23 = .ok (.invokevirtual 96, 3) := dk_182 0 96 (dk_at dksX4_spot_1 0 rfl rfl)
theorem dX4_spot_26 : decode cX4_spot 26 = .ok (.astore 4, 2) := dk_58 4 (dk_at dksX4_spot_1 3 rfl rfl)
theorem dX4_spot_28 : decode cX4_spot 28 = .ok (.aload_n 0, 1) := dk_42 (dk_at dksX4_spot_1 5 rfl rfl)
theorem dX4_spot_29 : decode cX4_spot 29 = .ok (.iconst 0, 1) := dk_3 (dk_at dksX4_spot_1 6 rfl rfl)
theorem dX4_spot_30 : decode cX4_spot 30 = .ok (.bipush 99, 2) := dk_16 99 (dk_at dksX4_spot_1 7 rfl rfl)
theorem dX4_spot_32 : decode cX4_spot 32 = .ok (.invokevirtual 100, 3) := dk_182 0 100 (dk_at dksX4_spot_1 9 rfl rfl)
theorem dX4_spot_35 : decode cX4_spot 35 = .ok (.istore 5, 2) := dk_54 5 (dk_at dksX4_spot_1 12 rfl rfl)
theorem dX4_spot_37 : decode cX4_spot 37 = .ok (.aload_n 0, 1) := dk_42 (dk_at dksX4_spot_1 14 rfl rfl)
theorem dX4_spot_38 : decode cX4_spot 38 = .ok (.iconst 0, 1) := dk_3 (dk_at dksX4_spot_1 15 rfl rfl)
theorem dX4_spot_39 : decode cX4_spot 39 = .ok (.bipush 99, 2) := dk_16 99 (dk_at dksX4_spot_1 16 rfl rfl)
theorem dX4_spot_41 : decode cX4_spot 41 = .ok (.invokevirtual 100, 3) := dk_182 0 100 (dk_at dksX4_spot_1 18 rfl rfl)
theorem dX4_spot_44 : decode cX4_spot 44 = .ok (.istore 6, 2) := dk_54 6 (dk_at dksX4_spot_1 21 rfl rfl)
theorem dX4_spot_46 : decode cX4_spot 46 = .ok (.aload_n 0, 1) := dk_42 (dk_at dksX4_spot_1 23 rfl rfl)
theorem dX4_spot_47 : decode cX4_spot 47 = .ok (.iconst 0, 1) := dk_3 (dk_at dksX4_spot_2 0 rfl rfl)
theorem dX4_spot_48 : decode cX4_spot 48 = .ok (.sipush 999, 3) := dk_17 3 231 (dk_at dksX4_spot_2 1 rfl rfl)
theorem dX4_spot_51 : decode cX4_spot 51 = .ok (.invokevirtual 100, 3) := dk_182 0 100 (dk_at dksX4_spot_2 4 rfl rfl)
theorem dX4_spot_54 : decode cX4_spot 54 = .ok (.istore 7, 2) := dk_54 7 (dk_at dksX4_spot_2 7 rfl rfl)
theorem dX4_spot_56 : decode cX4_spot 56 = .ok (.aload_n 1, 1) := dk_43 (dk_at dksX4_spot_2 9 rfl rfl)
theorem dX4_spot_57 : decode cX4_spot 57 = .ok (.new 104, 3) := dk_187 0 104 (dk_at dksX4_spot_2 10 rfl rfl)
theorem dX4_spot_60 : decode cX4_spot 60 = .ok (.dup, 1) := dk_89 (dk_at dksX4_spot_2 13 rfl rfl)
theorem dX4_spot_61 : decode cX4_spot 61 = .ok (.aload 4, 2) := dk_25 4 (dk_at dksX4_spot_2 14 rfl rfl)
theorem dX4_spot_63 : decode cX4_spot 63 = .ok (.iload 5, 2) := dk_21 5 (dk_at dksX4_spot_2 16 rfl rfl)
theorem dX4_spot_65 : decode cX4_spot 65 = .ok (.iload 6, 2) := dk_21 6 (dk_at dksX4_spot_2 18 rfl rfl)
theorem dX4_spot_67 : decode cX4_spot 67 = .ok (.iload 7, 2) := dk_21 7 (dk_at dksX4_spot_2 20 rfl rfl)
theorem dX4_spot_69 : decode cX4_spot 69 = .ok (.iload_n 3, 1) := dk_29 (dk_at dksX4_spot_2 22 rfl rfl)
theorem dX4_spot_70 : decode cX4_spot 70 = .ok (.ifCond .eq 13, 3) := dk_153 0 13 (dk_at dksX4_spot_3 0 rfl rfl)
theorem dX4_spot_73 : decode cX4_spot 73 = .ok (.aload_n 0, 1) := dk_42 (dk_at dksX4_spot_3 3 rfl rfl)
theorem dX4_spot_74 : decode cX4_spot 74 = .ok (.iconst 0, 1) := dk_3 (dk_at dksX4_spot_3 4 rfl rfl)
theorem dX4_spot_75 : decode cX4_spot 75 = .ok (.bipush 99, 2) := dk_16 99 (dk_at dksX4_spot_3 5 rfl rfl)
theorem dX4_spot_77 : decode cX4_spot 77 = .ok (.invokevirtual 100, 3) := dk_182 0 100 (dk_at dksX4_spot_3 7 rfl rfl)
theorem dX4_spot_80 : decode cX4_spot 80 = .ok (.goto 4, 3) := dk_167 0 4 (dk_at dksX4_spot_3 10 rfl rfl)
theorem dX4_spot_83 : decode cX4_spot 83 = .ok (.iconst 0, 1) := dk_3 (dk_at dksX4_spot_3 13 rfl rfl)
theorem dX4_spot_84 : decode cX4_spot 84 = .ok (.invokespecial 106, 3) := dk_183 0 106 (dk_at dksX4_spot_3 14 rfl rfl)
theorem dX4_spot_87 : decode cX4_spot 87 = .ok (.invokevirtual 109, 3) := dk_182 0 109 (dk_at dksX4_spot_3 17 rfl rfl)
theorem dX4_spot_90 : decode cX4_spot 90 = .ok (.return_, 1) := dk_177 (dk_at dksX4_spot_3 20 rfl rfl)
abbrev cX4_name : ByteArray := prog_13_method_9_code
def yX4_name : MethodName := ⟨RX4, "name", "(LFlareSlopes$Register;)Ljava/lang/String;"⟩
def dkwX4_name_1 : List UInt8 := [42, 182, 0, 26, 44, 176]
abbrev dktX4_name_1 : List UInt8 := dkwX4_name_1 ++ []
def dkwX4_name_0 : List UInt8 := [42, 182, 0, 77, 77, 42, 43, 44, 182, 0, 86, 2, 160, 0, 7, 4, 167, 0, 4, 3, 6, 182, 0, 62]
abbrev dktX4_name_0 : List UInt8 := dkwX4_name_0 ++ dktX4_name_1
theorem dksX4_name_0 : cX4_name.data.toList.drop 0 = dktX4_name_0 := by decide +kernel
theorem dksX4_name_1 : cX4_name.data.toList.drop 24 = dktX4_name_1 := dk_seg dksX4_name_0 24 rfl rfl
theorem dX4_name_0 : decode cX4_name 0 = .ok (.aload_n 0, 1) := dk_42 (dk_at dksX4_name_0 0 rfl rfl)
theorem dX4_name_1 : decode cX4_name 1 = .ok (.invokevirtual 77, 3) := dk_182 0 77 (dk_at dksX4_name_0 1 rfl rfl)
theorem dX4_name_4 : decode cX4_name 4 = .ok (.astore_n 2, 1) := dk_77 (dk_at dksX4_name_0 4 rfl rfl)
theorem dX4_name_5 : decode cX4_name 5 = .ok (.aload_n 0, 1) := dk_42 (dk_at dksX4_name_0 5 rfl rfl)
theorem dX4_name_6 : decode cX4_name 6 = .ok (.aload_n 1, 1) := dk_43 (dk_at dksX4_name_0 6 rfl rfl)
theorem dX4_name_7 : decode cX4_name 7 = .ok (.aload_n 2, 1) := dk_44 (dk_at dksX4_name_0 7 rfl rfl)
theorem dX4_name_8 : decode cX4_name 8 = .ok (.invokevirtual 86, 3) := dk_182 0 86 (dk_at dksX4_name_0 8 rfl rfl)
theorem dX4_name_11 : decode cX4_name 11 = .ok (.iconst (-1), 1) := dk_2 (dk_at dksX4_name_0 11 rfl rfl)
theorem dX4_name_12 : decode cX4_name 12 = .ok (.if_icmp .ne 7, 3) := dk_160 0 7 (dk_at dksX4_name_0 12 rfl rfl)
theorem dX4_name_15 : decode cX4_name 15 = .ok (.iconst 1, 1) := dk_4 (dk_at dksX4_name_0 15 rfl rfl)
theorem dX4_name_16 : decode cX4_name 16 = .ok (.goto 4, 3) := dk_167 0 4 (dk_at dksX4_name_0 16 rfl rfl)
theorem dX4_name_19 : decode cX4_name 19 = .ok (.iconst 0, 1) := dk_3 (dk_at dksX4_name_0 19 rfl rfl)
theorem dX4_name_20 : decode cX4_name 20 = .ok (.iconst 3, 1) := dk_6 (dk_at dksX4_name_0 20 rfl rfl)
theorem dX4_name_21 : decode cX4_name 21 = .ok (.invokevirtual 62, 3) := dk_182 0 62 (dk_at dksX4_name_0 21 rfl rfl)
theorem dX4_name_24 : decode cX4_name 24 = .ok (.aload_n 0, 1) := dk_42 (dk_at dksX4_name_1 0 rfl rfl)
theorem dX4_name_25 : decode cX4_name 25 = .ok (.invokevirtual 26, 3) := dk_182 0 26 (dk_at dksX4_name_1 1 rfl rfl)
theorem dX4_name_28 : decode cX4_name 28 = .ok (.aload_n 2, 1) := dk_44 (dk_at dksX4_name_1 4 rfl rfl)
theorem dX4_name_29 : decode cX4_name 29 = .ok (.areturn, 1) := dk_176 (dk_at dksX4_name_1 5 rfl rfl)
abbrev cX4_ridge : ByteArray := prog_13_method_11_code
def yX4_ridge : MethodName := ⟨RX4, "ridge", "()V"⟩
def dkwX4_ridge_2 : List UInt8 := [187, 0, 123, 89, 27, 42, 3, 17, 3, 231, 182, 0, 100, 183, 0, 125, 185, 0, 126, 2, 0, 87, 177]
abbrev dktX4_ridge_2 : List UInt8 := dkwX4_ridge_2 ++ []
def dkwX4_ridge_1 : List UInt8 := [182, 0, 62, 42, 182, 0, 26, 42, 4, 16, 99, 182, 0, 100, 60, 42, 180, 0, 18, 180, 0, 113]
abbrev dktX4_ridge_1 : List UInt8 := dkwX4_ridge_1 ++ dktX4_ridge_2
def dkwX4_ridge_0 : List UInt8 := [42, 42, 180, 0, 18, 180, 0, 113, 185, 0, 117, 1, 0, 7, 162, 0, 7, 4, 167, 0, 4, 3, 7]
abbrev dktX4_ridge_0 : List UInt8 := dkwX4_ridge_0 ++ dktX4_ridge_1
theorem dksX4_ridge_0 : cX4_ridge.data.toList.drop 0 = dktX4_ridge_0 := by decide +kernel
theorem dksX4_ridge_1 : cX4_ridge.data.toList.drop 23 = dktX4_ridge_1 := dk_seg dksX4_ridge_0 23 rfl rfl
theorem dksX4_ridge_2 : cX4_ridge.data.toList.drop 45 = dktX4_ridge_2 := dk_seg dksX4_ridge_1 22 rfl rfl
theorem dX4_ridge_0 : decode cX4_ridge 0 = .ok (.aload_n 0, 1) := dk_42 (dk_at dksX4_ridge_0 0 rfl rfl)
theorem dX4_ridge_1 : decode cX4_ridge 1 = .ok (.aload_n 0, 1) := dk_42 (dk_at dksX4_ridge_0 1 rfl rfl)
theorem dX4_ridge_2 : decode cX4_ridge 2 = .ok (.getfield 18, 3) := dk_180 0 18 (dk_at dksX4_ridge_0 2 rfl rfl)
theorem dX4_ridge_5 : decode cX4_ridge 5 = .ok (.getfield 113, 3) := dk_180 0 113 (dk_at dksX4_ridge_0 5 rfl rfl)
theorem dX4_ridge_8 : decode cX4_ridge 8 = .ok (.invokeinterface 117 1, 5) := by decide +kernel
theorem dX4_ridge_13 : decode cX4_ridge 13 = .ok (.iconst 4, 1) := dk_7 (dk_at dksX4_ridge_0 13 rfl rfl)
theorem dX4_ridge_14 : decode cX4_ridge 14 = .ok (.if_icmp .ge 7, 3) := dk_162 0 7 (dk_at dksX4_ridge_0 14 rfl rfl)
theorem dX4_ridge_17 : decode cX4_ridge 17 = .ok (.iconst 1, 1) := dk_4 (dk_at dksX4_ridge_0 17 rfl rfl)
theorem dX4_ridge_18 : decode cX4_ridge 18 = .ok (.goto 4, 3) := dk_167 0 4 (dk_at dksX4_ridge_0 18 rfl rfl)
theorem dX4_ridge_21 : decode cX4_ridge 21 = .ok (.iconst 0, 1) := dk_3 (dk_at dksX4_ridge_0 21 rfl rfl)
theorem dX4_ridge_22 : decode cX4_ridge 22 = .ok (.iconst 4, 1) := dk_7 (dk_at dksX4_ridge_0 22 rfl rfl)
theorem dX4_ridge_23 : decode cX4_ridge 23 = .ok (.invokevirtual 62, 3) := dk_182 0 62 (dk_at dksX4_ridge_1 0 rfl rfl)
theorem dX4_ridge_26 : decode cX4_ridge 26 = .ok (.aload_n 0, 1) := dk_42 (dk_at dksX4_ridge_1 3 rfl rfl)
theorem dX4_ridge_27 : decode cX4_ridge 27 = .ok (.invokevirtual 26, 3) := dk_182 0 26 (dk_at dksX4_ridge_1 4 rfl rfl)
theorem dX4_ridge_30 : decode cX4_ridge 30 = .ok (.aload_n 0, 1) := dk_42 (dk_at dksX4_ridge_1 7 rfl rfl)
theorem dX4_ridge_31 : decode cX4_ridge 31 = .ok (.iconst 1, 1) := dk_4 (dk_at dksX4_ridge_1 8 rfl rfl)
theorem dX4_ridge_32 : decode cX4_ridge 32 = .ok (.bipush 99, 2) := dk_16 99 (dk_at dksX4_ridge_1 9 rfl rfl)
theorem dX4_ridge_34 : decode cX4_ridge 34 = .ok (.invokevirtual 100, 3) := dk_182 0 100 (dk_at dksX4_ridge_1 11 rfl rfl)
theorem dX4_ridge_37 : decode cX4_ridge 37 = .ok (.istore_n 1, 1) := dk_60 (dk_at dksX4_ridge_1 14 rfl rfl)
theorem dX4_ridge_38 : decode cX4_ridge 38 = .ok (.aload_n 0, 1) := dk_42 (dk_at dksX4_ridge_1 15 rfl rfl)
theorem dX4_ridge_39 : decode cX4_ridge 39 = .ok (.getfield 18, 3) := dk_180 0 18 (dk_at dksX4_ridge_1 16 rfl rfl)
theorem dX4_ridge_42 : decode cX4_ridge 42 = .ok (.getfield 113, 3) := dk_180 0 113 (dk_at dksX4_ridge_1 19 rfl rfl)
theorem dX4_ridge_45 : decode cX4_ridge 45 = .ok (.new 123, 3) := dk_187 0 123 (dk_at dksX4_ridge_2 0 rfl rfl)
theorem dX4_ridge_48 : decode cX4_ridge 48 = .ok (.dup, 1) := dk_89 (dk_at dksX4_ridge_2 3 rfl rfl)
theorem dX4_ridge_49 : decode cX4_ridge 49 = .ok (.iload_n 1, 1) := dk_27 (dk_at dksX4_ridge_2 4 rfl rfl)
theorem dX4_ridge_50 : decode cX4_ridge 50 = .ok (.aload_n 0, 1) := dk_42 (dk_at dksX4_ridge_2 5 rfl rfl)
theorem dX4_ridge_51 : decode cX4_ridge 51 = .ok (.iconst 0, 1) := dk_3 (dk_at dksX4_ridge_2 6 rfl rfl)
theorem dX4_ridge_52 : decode cX4_ridge 52 = .ok (.sipush 999, 3) := dk_17 3 231 (dk_at dksX4_ridge_2 7 rfl rfl)
theorem dX4_ridge_55 : decode cX4_ridge 55 = .ok (.invokevirtual 100, 3) := dk_182 0 100 (dk_at dksX4_ridge_2 10 rfl rfl)
theorem dX4_ridge_58 : decode cX4_ridge 58 = .ok (.invokespecial 125, 3) := dk_183 0 125 (dk_at dksX4_ridge_2 13 rfl rfl)
theorem dX4_ridge_61 : decode cX4_ridge 61 = .ok (.invokeinterface 126 2, 5) := by decide +kernel
theorem dX4_ridge_66 : decode cX4_ridge 66 = .ok (.pop, 1) := dk_87 (dk_at dksX4_ridge_2 21 rfl rfl)
theorem dX4_ridge_67 : decode cX4_ridge 67 = .ok (.return_, 1) := dk_177 (dk_at dksX4_ridge_2 22 rfl rfl)
abbrev cX4_fog : ByteArray := prog_13_method_12_code
def yX4_fog : MethodName := ⟨RX4, "fog", "()V"⟩
def dkwX4_fog_3 : List UInt8 := [183, 0, 133, 185, 0, 126, 2, 0, 87, 177]
abbrev dktX4_fog_3 : List UInt8 := dkwX4_fog_3 ++ []
def dkwX4_fog_2 : List UInt8 := [61, 42, 180, 0, 18, 180, 0, 128, 187, 0, 131, 89, 27, 28, 42, 4, 17, 0, 200, 182, 0, 100]
abbrev dktX4_fog_2 : List UInt8 := dkwX4_fog_2 ++ dktX4_fog_3
def dkwX4_fog_1 : List UInt8 := [182, 0, 62, 42, 182, 0, 26, 42, 3, 17, 19, 136, 182, 0, 100, 60, 42, 27, 17, 19, 136, 182, 0, 100]
abbrev dktX4_fog_1 : List UInt8 := dkwX4_fog_1 ++ dktX4_fog_2
def dkwX4_fog_0 : List UInt8 := [42, 42, 180, 0, 18, 180, 0, 128, 185, 0, 117, 1, 0, 16, 6, 162, 0, 7, 4, 167, 0, 4, 3, 7]
abbrev dktX4_fog_0 : List UInt8 := dkwX4_fog_0 ++ dktX4_fog_1
theorem dksX4_fog_0 : cX4_fog.data.toList.drop 0 = dktX4_fog_0 := by decide +kernel
theorem dksX4_fog_1 : cX4_fog.data.toList.drop 24 = dktX4_fog_1 := dk_seg dksX4_fog_0 24 rfl rfl
theorem dksX4_fog_2 : cX4_fog.data.toList.drop 48 = dktX4_fog_2 := dk_seg dksX4_fog_1 24 rfl rfl
theorem dksX4_fog_3 : cX4_fog.data.toList.drop 70 = dktX4_fog_3 := dk_seg dksX4_fog_2 22 rfl rfl
theorem dX4_fog_0 : decode cX4_fog 0 = .ok (.aload_n 0, 1) := dk_42 (dk_at dksX4_fog_0 0 rfl rfl)
theorem dX4_fog_1 : decode cX4_fog 1 = .ok (.aload_n 0, 1) := dk_42 (dk_at dksX4_fog_0 1 rfl rfl)
theorem dX4_fog_2 : decode cX4_fog 2 = .ok (.getfield 18, 3) := dk_180 0 18 (dk_at dksX4_fog_0 2 rfl rfl)
theorem dX4_fog_5 : decode cX4_fog 5 = .ok (.getfield 128, 3) := dk_180 0 128 (dk_at dksX4_fog_0 5 rfl rfl)
theorem dX4_fog_8 : decode cX4_fog 8 = .ok (.invokeinterface 117 1, 5) := by decide +kernel
theorem dX4_fog_13 : decode cX4_fog 13 = .ok (.bipush 6, 2) := dk_16 6 (dk_at dksX4_fog_0 13 rfl rfl)
theorem dX4_fog_15 : decode cX4_fog 15 = .ok (.if_icmp .ge 7, 3) := dk_162 0 7 (dk_at dksX4_fog_0 15 rfl rfl)
theorem dX4_fog_18 : decode cX4_fog 18 = .ok (.iconst 1, 1) := dk_4 (dk_at dksX4_fog_0 18 rfl rfl)
theorem dX4_fog_19 : decode cX4_fog 19 = .ok (.goto 4, 3) := dk_167 0 4 (dk_at dksX4_fog_0 19 rfl rfl)
theorem dX4_fog_22 : decode cX4_fog 22 = .ok (.iconst 0, 1) := dk_3 (dk_at dksX4_fog_0 22 rfl rfl)
theorem dX4_fog_23 : decode cX4_fog 23 = .ok (.iconst 4, 1) := dk_7 (dk_at dksX4_fog_0 23 rfl rfl)
theorem dX4_fog_24 : decode cX4_fog 24 = .ok (.invokevirtual 62, 3) := dk_182 0 62 (dk_at dksX4_fog_1 0 rfl rfl)
theorem dX4_fog_27 : decode cX4_fog 27 = .ok (.aload_n 0, 1) := dk_42 (dk_at dksX4_fog_1 3 rfl rfl)
theorem dX4_fog_28 : decode cX4_fog 28 = .ok (.invokevirtual 26, 3) := dk_182 0 26 (dk_at dksX4_fog_1 4 rfl rfl)
theorem dX4_fog_31 : decode cX4_fog 31 = .ok (.aload_n 0, 1) := dk_42 (dk_at dksX4_fog_1 7 rfl rfl)
theorem dX4_fog_32 : decode cX4_fog 32 = .ok (.iconst 0, 1) := dk_3 (dk_at dksX4_fog_1 8 rfl rfl)
theorem dX4_fog_33 : decode cX4_fog 33 = .ok (.sipush 5000, 3) := dk_17 19 136 (dk_at dksX4_fog_1 9 rfl rfl)
theorem dX4_fog_36 : decode cX4_fog 36 = .ok (.invokevirtual 100, 3) := dk_182 0 100 (dk_at dksX4_fog_1 12 rfl rfl)
theorem dX4_fog_39 : decode cX4_fog 39 = .ok (.istore_n 1, 1) := dk_60 (dk_at dksX4_fog_1 15 rfl rfl)
theorem dX4_fog_40 : decode cX4_fog 40 = .ok (.aload_n 0, 1) := dk_42 (dk_at dksX4_fog_1 16 rfl rfl)
theorem dX4_fog_41 : decode cX4_fog 41 = .ok (.iload_n 1, 1) := dk_27 (dk_at dksX4_fog_1 17 rfl rfl)
theorem dX4_fog_42 : decode cX4_fog 42 = .ok (.sipush 5000, 3) := dk_17 19 136 (dk_at dksX4_fog_1 18 rfl rfl)
theorem dX4_fog_45 : decode cX4_fog 45 = .ok (.invokevirtual 100, 3) := dk_182 0 100 (dk_at dksX4_fog_1 21 rfl rfl)
theorem dX4_fog_48 : decode cX4_fog 48 = .ok (.istore_n 2, 1) := dk_61 (dk_at dksX4_fog_2 0 rfl rfl)
theorem dX4_fog_49 : decode cX4_fog 49 = .ok (.aload_n 0, 1) := dk_42 (dk_at dksX4_fog_2 1 rfl rfl)
theorem dX4_fog_50 : decode cX4_fog 50 = .ok (.getfield 18, 3) := dk_180 0 18 (dk_at dksX4_fog_2 2 rfl rfl)
theorem dX4_fog_53 : decode cX4_fog 53 = .ok (.getfield 128, 3) := dk_180 0 128 (dk_at dksX4_fog_2 5 rfl rfl)
theorem dX4_fog_56 : decode cX4_fog 56 = .ok (.new 131, 3) := dk_187 0 131 (dk_at dksX4_fog_2 8 rfl rfl)
theorem dX4_fog_59 : decode cX4_fog 59 = .ok (.dup, 1) := dk_89 (dk_at dksX4_fog_2 11 rfl rfl)
theorem dX4_fog_60 : decode cX4_fog 60 = .ok (.iload_n 1, 1) := dk_27 (dk_at dksX4_fog_2 12 rfl rfl)
theorem dX4_fog_61 : decode cX4_fog 61 = .ok (.iload_n 2, 1) := dk_28 (dk_at dksX4_fog_2 13 rfl rfl)
theorem dX4_fog_62 : decode cX4_fog 62 = .ok (.aload_n 0, 1) := dk_42 (dk_at dksX4_fog_2 14 rfl rfl)
theorem dX4_fog_63 : decode cX4_fog 63 = .ok (.iconst 1, 1) := dk_4 (dk_at dksX4_fog_2 15 rfl rfl)
theorem dX4_fog_64 : decode cX4_fog 64 = .ok (.sipush 200, 3) := dk_17 0 200 (dk_at dksX4_fog_2 16 rfl rfl)
theorem dX4_fog_67 : decode cX4_fog 67 = .ok (.invokevirtual 100, 3) := dk_182 0 100 (dk_at dksX4_fog_2 19 rfl rfl)
theorem dX4_fog_70 : decode cX4_fog 70 = .ok (.invokespecial 133, 3) := dk_183 0 133 (dk_at dksX4_fog_3 0 rfl rfl)
theorem dX4_fog_73 : decode cX4_fog 73 = .ok (.invokeinterface 126 2, 5) := by decide +kernel
theorem dX4_fog_78 : decode cX4_fog 78 = .ok (.pop, 1) := dk_87 (dk_at dksX4_fog_3 8 rfl rfl)
theorem dX4_fog_79 : decode cX4_fog 79 = .ok (.return_, 1) := dk_177 (dk_at dksX4_fog_3 9 rfl rfl)
theorem q142 : (Jvm.Cond.initialized "FlareSlopes$Parser") ∈ lw_all := lw_g (lw_at lw_m1 15 rfl) rfl
theorem q267 : (Jvm.Cond.fieldLinkNest "FlareSlopes$Parser" (29 : Nat) "FlareSlopes" "buffer" "[B" "FlareSlopes") ∈ lw_tbl := lw_at lw_m1 140 rfl
theorem q439 : (Jvm.Cond.instantiable "FlareSlopes$Parser" (7 : Nat)) ∈ lw_all := lw_g (lw_at lw_m2 72 rfl) rfl
theorem q441 : (Jvm.Cond.instanceMethod ({ cls := "FlareSlopes$Parser", name := "<init>", desc := "(LFlareSlopes;I)V" } : Jvm.MethodName)) ∈ lw_all := lw_g (lw_at lw_m2 74 rfl) rfl
theorem q442 : (Jvm.Cond.code ({ cls := "FlareSlopes$Parser", name := "<init>", desc := "(LFlareSlopes;I)V" } : Jvm.MethodName) prog_13_method_1_code (3 : Nat) (Option.none : Option Jvm.ClassFile.FieldType)) ∈ lw_all := lw_g (lw_at lw_m2 75 rfl) rfl
theorem q443 : (Jvm.Cond.methodLink "FlareSlopes$Parser" (9 : Nat) ({ cls := "java/lang/Object", name := "<init>", desc := "()V" } : Jvm.MethodName)) ∈ lw_all := lw_g (lw_at lw_m2 76 rfl) rfl
theorem q444 : (Jvm.Cond.classLink "FlareSlopes$Parser" (15 : Nat) "FlareSlopes$Mountain") ∈ lw_all := lw_g (lw_at lw_m2 77 rfl) rfl
theorem q446 : (Jvm.Cond.methodLinkNest "FlareSlopes$Parser" (17 : Nat) ({ cls := "FlareSlopes$Mountain", name := "<init>", desc := "()V" } : Jvm.MethodName) "FlareSlopes") ∈ lw_tbl := lw_at lw_m2 79 rfl
theorem q508 : (Jvm.Cond.fieldLinkNest "FlareSlopes$Parser" (147 : Nat) "FlareSlopes$Mountain" "cabins" "LFlareSlopes$Register;" "FlareSlopes") ∈ lw_tbl := lw_at lw_m2 141 rfl
theorem q512 : (Jvm.Cond.fieldLinkNest "FlareSlopes$Parser" (155 : Nat) "FlareSlopes$Mountain" "slopes" "LFlareSlopes$Register;" "FlareSlopes") ∈ lw_tbl := lw_at lw_m2 145 rfl
theorem q515 : (Jvm.Cond.fieldLinkNest "FlareSlopes$Parser" (113 : Nat) "FlareSlopes$Mountain" "ridges" "Ljava/util/List;" "FlareSlopes") ∈ lw_tbl := lw_at lw_m2 148 rfl
theorem q518 : (Jvm.Cond.fieldLinkNest "FlareSlopes$Parser" (128 : Nat) "FlareSlopes$Mountain" "fogs" "Ljava/util/List;" "FlareSlopes") ∈ lw_tbl := lw_at lw_m2 151 rfl
theorem q522 : (Jvm.Cond.fieldLinkNest "FlareSlopes$Parser" (162 : Nat) "FlareSlopes$Mountain" "settings" "[I" "FlareSlopes") ∈ lw_tbl := lw_at lw_m2 155 rfl
theorem q537 : (Jvm.Cond.methodLink "FlareSlopes$Parser" (26 : Nat) ({ cls := "FlareSlopes$Parser", name := "step", desc := "()V" } : Jvm.MethodName)) ∈ lw_all := lw_g (lw_at lw_m2 170 rfl) rfl
theorem q539 : (Jvm.Cond.instanceMethod ({ cls := "FlareSlopes$Parser", name := "step", desc := "()V" } : Jvm.MethodName)) ∈ lw_all := lw_g (lw_at lw_m2 172 rfl) rfl
theorem q540 : (Jvm.Cond.code ({ cls := "FlareSlopes$Parser", name := "step", desc := "()V" } : Jvm.MethodName) prog_13_method_4_code (3 : Nat) (Option.none : Option Jvm.ClassFile.FieldType)) ∈ lw_all := lw_g (lw_at lw_m2 173 rfl) rfl
theorem q541 : (Jvm.Cond.methodLink "FlareSlopes$Parser" (33 : Nat) ({ cls := "FlareSlopes$Parser", name := "at", desc := "(I)I" } : Jvm.MethodName)) ∈ lw_all := lw_g (lw_at lw_m2 174 rfl) rfl
theorem q543 : (Jvm.Cond.instanceMethod ({ cls := "FlareSlopes$Parser", name := "at", desc := "(I)I" } : Jvm.MethodName)) ∈ lw_all := lw_g (lw_at lw_m2 176 rfl) rfl
theorem q544 : (Jvm.Cond.code ({ cls := "FlareSlopes$Parser", name := "at", desc := "(I)I" } : Jvm.MethodName) prog_13_method_2_code (2 : Nat) (Option.some Jvm.ClassFile.FieldType.int)) ∈ lw_all := lw_g (lw_at lw_m2 177 rfl) rfl
theorem q545 : (Jvm.Cond.methodLinkNest "FlareSlopes$Parser" (37 : Nat) ({ cls := "FlareSlopes", name := "in", desc := "(III)Z" } : Jvm.MethodName) "FlareSlopes") ∈ lw_tbl := lw_at lw_m2 178 rfl
theorem q546 : (Jvm.Cond.methodLink "FlareSlopes$Parser" (50 : Nat) ({ cls := "FlareSlopes$Parser", name := "run", desc := "(III)I" } : Jvm.MethodName)) ∈ lw_all := lw_g (lw_at lw_m2 179 rfl) rfl
theorem q548 : (Jvm.Cond.instanceMethod ({ cls := "FlareSlopes$Parser", name := "run", desc := "(III)I" } : Jvm.MethodName)) ∈ lw_all := lw_g (lw_at lw_m2 181 rfl) rfl
theorem q549 : (Jvm.Cond.code ({ cls := "FlareSlopes$Parser", name := "run", desc := "(III)I" } : Jvm.MethodName) prog_13_method_3_code (5 : Nat) (Option.some Jvm.ClassFile.FieldType.int)) ∈ lw_all := lw_g (lw_at lw_m2 182 rfl) rfl
theorem q550 : (Jvm.Cond.fieldLink "FlareSlopes$Parser" (22 : Nat) "FlareSlopes$Parser" "length" "I") ∈ lw_all := lw_g (lw_at lw_m2 183 rfl) rfl
theorem q551 : (Jvm.Cond.fieldLink "FlareSlopes$Parser" (18 : Nat) "FlareSlopes$Parser" "made" "LFlareSlopes$Mountain;") ∈ lw_all := lw_g (lw_at lw_m2 184 rfl) rfl
theorem q552 : (Jvm.Cond.fieldLink "FlareSlopes$Parser" (41 : Nat) "FlareSlopes$Parser" "next" "I") ∈ lw_all := lw_g (lw_at lw_m2 185 rfl) rfl
theorem q553 : (Jvm.Cond.fieldLink "FlareSlopes$Parser" (44 : Nat) "FlareSlopes$Parser" "begin" "I") ∈ lw_all := lw_g (lw_at lw_m2 186 rfl) rfl
theorem q554 : (Jvm.Cond.fieldLink "FlareSlopes$Parser" (47 : Nat) "FlareSlopes$Parser" "sort" "I") ∈ lw_all := lw_g (lw_at lw_m2 187 rfl) rfl
theorem q555 : (Jvm.Cond.fieldLink "FlareSlopes$Parser" (54 : Nat) "FlareSlopes$Parser" "value" "I") ∈ lw_all := lw_g (lw_at lw_m2 188 rfl) rfl
theorem q556 : (Jvm.Cond.fieldLink "FlareSlopes$Parser" (3 : Nat) "FlareSlopes$Parser" "this$0" "LFlareSlopes;") ∈ lw_all := lw_g (lw_at lw_m2 189 rfl) rfl
theorem q573 : (Jvm.Cond.instanceMethod ({ cls := "FlareSlopes$Parser", name := "parse", desc := "()LFlareSlopes$Mountain;" } : Jvm.MethodName)) ∈ lw_all := lw_g (lw_at lw_m2 206 rfl) rfl
theorem q574 : (Jvm.Cond.selects "FlareSlopes$Parser" ({ cls := "FlareSlopes$Parser", name := "parse", desc := "()LFlareSlopes$Mountain;" } : Jvm.MethodName) ({ cls := "FlareSlopes$Parser", name := "parse", desc := "()LFlareSlopes$Mountain;" } : Jvm.MethodName)) ∈ lw_all := lw_g (lw_at lw_m2 207 rfl) rfl
theorem q575 : (Jvm.Cond.code ({ cls := "FlareSlopes$Parser", name := "parse", desc := "()LFlareSlopes$Mountain;" } : Jvm.MethodName) prog_13_method_15_code (1 : Nat) (Option.some (Jvm.ClassFile.FieldType.object "FlareSlopes$Mountain"))) ∈ lw_all := lw_g (lw_at lw_m2 208 rfl) rfl
theorem q577 : (Jvm.Cond.methodLink "FlareSlopes$Parser" (175 : Nat) ({ cls := "FlareSlopes$Parser", name := "expect", desc := "(Ljava/lang/String;)V" } : Jvm.MethodName)) ∈ lw_all := lw_g (lw_at lw_m2 210 rfl) rfl
theorem q579 : (Jvm.Cond.instanceMethod ({ cls := "FlareSlopes$Parser", name := "expect", desc := "(Ljava/lang/String;)V" } : Jvm.MethodName)) ∈ lw_all := lw_g (lw_at lw_m2 212 rfl) rfl
theorem q580 : (Jvm.Cond.code ({ cls := "FlareSlopes$Parser", name := "expect", desc := "(Ljava/lang/String;)V" } : Jvm.MethodName) prog_13_method_7_code (2 : Nat) (Option.none : Option Jvm.ClassFile.FieldType)) ∈ lw_all := lw_g (lw_at lw_m2 213 rfl) rfl
theorem q581 : (Jvm.Cond.methodLink "FlareSlopes$Parser" (77 : Nat) ({ cls := "FlareSlopes$Parser", name := "word", desc := "()Ljava/lang/String;" } : Jvm.MethodName)) ∈ lw_all := lw_g (lw_at lw_m2 214 rfl) rfl
theorem q583 : (Jvm.Cond.instanceMethod ({ cls := "FlareSlopes$Parser", name := "word", desc := "()Ljava/lang/String;" } : Jvm.MethodName)) ∈ lw_all := lw_g (lw_at lw_m2 216 rfl) rfl
theorem q584 : (Jvm.Cond.code ({ cls := "FlareSlopes$Parser", name := "word", desc := "()Ljava/lang/String;" } : Jvm.MethodName) prog_13_method_6_code (3 : Nat) (Option.some (Jvm.ClassFile.FieldType.object "java/lang/String"))) ∈ lw_all := lw_g (lw_at lw_m2 217 rfl) rfl
theorem q585 : (Jvm.Cond.methodLink "FlareSlopes$Parser" (62 : Nat) ({ cls := "FlareSlopes$Parser", name := "check", desc := "(ZI)V" } : Jvm.MethodName)) ∈ lw_all := lw_g (lw_at lw_m2 218 rfl) rfl
theorem q587 : (Jvm.Cond.instanceMethod ({ cls := "FlareSlopes$Parser", name := "check", desc := "(ZI)V" } : Jvm.MethodName)) ∈ lw_all := lw_g (lw_at lw_m2 220 rfl) rfl
theorem q588 : (Jvm.Cond.code ({ cls := "FlareSlopes$Parser", name := "check", desc := "(ZI)V" } : Jvm.MethodName) prog_13_method_5_code (3 : Nat) (Option.none : Option Jvm.ClassFile.FieldType)) ∈ lw_all := lw_g (lw_at lw_m2 221 rfl) rfl
theorem q589 : (Jvm.Cond.classLink "FlareSlopes$Parser" (57 : Nat) "FlareSlopes$Flaw") ∈ lw_all := lw_g (lw_at lw_m2 222 rfl) rfl
theorem q598 : (Jvm.Cond.methodLink "FlareSlopes$Parser" (59 : Nat) ({ cls := "FlareSlopes$Flaw", name := "<init>", desc := "(II)V" } : Jvm.MethodName)) ∈ lw_all := lw_g (lw_at lw_m2 231 rfl) rfl
theorem q617 : (Jvm.Cond.classLink "FlareSlopes$Parser" (66 : Nat) "java/lang/StringBuilder") ∈ lw_all := lw_g (lw_at lw_m3 10 rfl) rfl
theorem q618 : (Jvm.Cond.methodLink "FlareSlopes$Parser" (68 : Nat) ({ cls := "java/lang/StringBuilder", name := "<init>", desc := "()V" } : Jvm.MethodName)) ∈ lw_all := lw_g (lw_at lw_m3 11 rfl) rfl
theorem q619 : (Jvm.Cond.methodLink "FlareSlopes$Parser" (69 : Nat) ({ cls := "java/lang/StringBuilder", name := "append", desc := "(C)Ljava/lang/StringBuilder;" } : Jvm.MethodName)) ∈ lw_all := lw_g (lw_at lw_m3 12 rfl) rfl
theorem q714 : (Jvm.Cond.methodLink "FlareSlopes$Parser" (73 : Nat) ({ cls := "java/lang/StringBuilder", name := "toString", desc := "()Ljava/lang/String;" } : Jvm.MethodName)) ∈ lw_all := lw_g (lw_at lw_m3 107 rfl) rfl
theorem q862 : (Jvm.Cond.methodLink "FlareSlopes$Parser" (80 : Nat) ({ cls := "java/lang/String", name := "equals", desc := "(Ljava/lang/Object;)Z" } : Jvm.MethodName)) ∈ lw_all := lw_g (lw_at lw_m4 15 rfl) rfl
theorem q870 : (Jvm.Cond.methodLink "FlareSlopes$Parser" (179 : Nat) ({ cls := "FlareSlopes$Parser", name := "setting", desc := "(I)V" } : Jvm.MethodName)) ∈ lw_all := lw_g (lw_at lw_m4 23 rfl) rfl
theorem q872 : (Jvm.Cond.instanceMethod ({ cls := "FlareSlopes$Parser", name := "setting", desc := "(I)V" } : Jvm.MethodName)) ∈ lw_all := lw_g (lw_at lw_m4 25 rfl) rfl
theorem q873 : (Jvm.Cond.code ({ cls := "FlareSlopes$Parser", name := "setting", desc := "(I)V" } : Jvm.MethodName) prog_13_method_14_code (2 : Nat) (Option.none : Option Jvm.ClassFile.FieldType)) ∈ lw_all := lw_g (lw_at lw_m4 26 rfl) rfl
theorem q874 : (Jvm.Cond.methodLinkNest "FlareSlopes$Parser" (166 : Nat) ({ cls := "FlareSlopes", name := "leastOf", desc := "(I[I)I" } : Jvm.MethodName) "FlareSlopes") ∈ lw_tbl := lw_at lw_m4 27 rfl
theorem q877 : (Jvm.Cond.methodLinkNest "FlareSlopes$Parser" (170 : Nat) ({ cls := "FlareSlopes", name := "mostOf", desc := "(I[I)I" } : Jvm.MethodName) "FlareSlopes") ∈ lw_tbl := lw_at lw_m4 30 rfl
theorem q881 : (Jvm.Cond.methodLink "FlareSlopes$Parser" (100 : Nat) ({ cls := "FlareSlopes$Parser", name := "number", desc := "(II)I" } : Jvm.MethodName)) ∈ lw_all := lw_g (lw_at lw_m4 34 rfl) rfl
theorem q883 : (Jvm.Cond.instanceMethod ({ cls := "FlareSlopes$Parser", name := "number", desc := "(II)I" } : Jvm.MethodName)) ∈ lw_all := lw_g (lw_at lw_m4 36 rfl) rfl
theorem q884 : (Jvm.Cond.code ({ cls := "FlareSlopes$Parser", name := "number", desc := "(II)I" } : Jvm.MethodName) prog_13_method_8_code (4 : Nat) (Option.some Jvm.ClassFile.FieldType.int)) ∈ lw_all := lw_g (lw_at lw_m4 37 rfl) rfl
theorem q886 : (Jvm.Cond.methodLink "FlareSlopes$Parser" (185 : Nat) ({ cls := "FlareSlopes$Parser", name := "line", desc := "()V" } : Jvm.MethodName)) ∈ lw_all := lw_g (lw_at lw_m4 39 rfl) rfl
theorem q888 : (Jvm.Cond.instanceMethod ({ cls := "FlareSlopes$Parser", name := "line", desc := "()V" } : Jvm.MethodName)) ∈ lw_all := lw_g (lw_at lw_m4 41 rfl) rfl
theorem q889 : (Jvm.Cond.code ({ cls := "FlareSlopes$Parser", name := "line", desc := "()V" } : Jvm.MethodName) prog_13_method_13_code (3 : Nat) (Option.none : Option Jvm.ClassFile.FieldType)) ∈ lw_all := lw_g (lw_at lw_m4 42 rfl) rfl
theorem q890 : (Jvm.Cond.methodLink "FlareSlopes$Parser" (136 : Nat) ({ cls := "java/lang/String", name := "hashCode", desc := "()I" } : Jvm.MethodName)) ∈ lw_all := lw_g (lw_at lw_m4 43 rfl) rfl
theorem q955 : (Jvm.Cond.methodLink "FlareSlopes$Parser" (151 : Nat) ({ cls := "FlareSlopes$Parser", name := "spot", desc := "(LFlareSlopes$Register;LFlareSlopes$Register;Z)V" } : Jvm.MethodName)) ∈ lw_all := lw_g (lw_at lw_m4 108 rfl) rfl
theorem q957 : (Jvm.Cond.instanceMethod ({ cls := "FlareSlopes$Parser", name := "spot", desc := "(LFlareSlopes$Register;LFlareSlopes$Register;Z)V" } : Jvm.MethodName)) ∈ lw_all := lw_g (lw_at lw_m4 110 rfl) rfl
theorem q958 : (Jvm.Cond.code ({ cls := "FlareSlopes$Parser", name := "spot", desc := "(LFlareSlopes$Register;LFlareSlopes$Register;Z)V" } : Jvm.MethodName) prog_13_method_10_code (8 : Nat) (Option.none : Option Jvm.ClassFile.FieldType)) ∈ lw_all := lw_g (lw_at lw_m4 111 rfl) rfl
theorem q959 : (Jvm.Cond.methodLink "FlareSlopes$Parser" (92 : Nat) ({ cls := "FlareSlopes$Register", name := "isFull", desc := "()Z" } : Jvm.MethodName)) ∈ lw_all := lw_g (lw_at lw_m4 112 rfl) rfl
theorem q977 : (Jvm.Cond.methodLink "FlareSlopes$Parser" (96 : Nat) ({ cls := "FlareSlopes$Parser", name := "name", desc := "(LFlareSlopes$Register;)Ljava/lang/String;" } : Jvm.MethodName)) ∈ lw_all := lw_g (lw_at lw_m4 130 rfl) rfl
theorem q979 : (Jvm.Cond.instanceMethod ({ cls := "FlareSlopes$Parser", name := "name", desc := "(LFlareSlopes$Register;)Ljava/lang/String;" } : Jvm.MethodName)) ∈ lw_all := lw_g (lw_at lw_m4 132 rfl) rfl
theorem q980 : (Jvm.Cond.code ({ cls := "FlareSlopes$Parser", name := "name", desc := "(LFlareSlopes$Register;)Ljava/lang/String;" } : Jvm.MethodName) prog_13_method_9_code (3 : Nat) (Option.some (Jvm.ClassFile.FieldType.object "java/lang/String"))) ∈ lw_all := lw_g (lw_at lw_m4 133 rfl) rfl
theorem q981 : (Jvm.Cond.methodLink "FlareSlopes$Parser" (86 : Nat) ({ cls := "FlareSlopes$Register", name := "find", desc := "(Ljava/lang/CharSequence;)I" } : Jvm.MethodName)) ∈ lw_all := lw_g (lw_at lw_m4 134 rfl) rfl
theorem q1059 : (Jvm.Cond.classLink "FlareSlopes$Parser" (104 : Nat) "FlareSlopes$Spot") ∈ lw_all := lw_g (lw_at lw_m4 212 rfl) rfl
theorem q1061 : (Jvm.Cond.methodLink "FlareSlopes$Parser" (106 : Nat) ({ cls := "FlareSlopes$Spot", name := "<init>", desc := "(Ljava/lang/String;IIII)V" } : Jvm.MethodName)) ∈ lw_all := lw_g (lw_at lw_m4 214 rfl) rfl
theorem q1089 : (Jvm.Cond.methodLink "FlareSlopes$Parser" (109 : Nat) ({ cls := "FlareSlopes$Register", name := "add", desc := "(LFlareSlopes$Named;)V" } : Jvm.MethodName)) ∈ lw_all := lw_g (lw_at lw_m5 2 rfl) rfl
theorem q1174 : (Jvm.Cond.methodLink "FlareSlopes$Parser" (158 : Nat) ({ cls := "FlareSlopes$Parser", name := "ridge", desc := "()V" } : Jvm.MethodName)) ∈ lw_all := lw_g (lw_at lw_m5 87 rfl) rfl
theorem q1176 : (Jvm.Cond.instanceMethod ({ cls := "FlareSlopes$Parser", name := "ridge", desc := "()V" } : Jvm.MethodName)) ∈ lw_all := lw_g (lw_at lw_m5 89 rfl) rfl
theorem q1177 : (Jvm.Cond.code ({ cls := "FlareSlopes$Parser", name := "ridge", desc := "()V" } : Jvm.MethodName) prog_13_method_11_code (2 : Nat) (Option.none : Option Jvm.ClassFile.FieldType)) ∈ lw_all := lw_g (lw_at lw_m5 90 rfl) rfl
theorem q1179 : (Jvm.Cond.methodLink "FlareSlopes$Parser" (117 : Nat) ({ cls := "java/util/List", name := "size", desc := "()I" } : Jvm.MethodName)) ∈ lw_all := lw_g (lw_at lw_m5 92 rfl) rfl
theorem q1180 : (Jvm.Cond.classLink "FlareSlopes$Parser" (123 : Nat) "FlareSlopes$Ridge") ∈ lw_all := lw_g (lw_at lw_m5 93 rfl) rfl
theorem q1182 : (Jvm.Cond.methodLink "FlareSlopes$Parser" (125 : Nat) ({ cls := "FlareSlopes$Ridge", name := "<init>", desc := "(II)V" } : Jvm.MethodName)) ∈ lw_all := lw_g (lw_at lw_m5 95 rfl) rfl
theorem q1196 : (Jvm.Cond.methodLink "FlareSlopes$Parser" (126 : Nat) ({ cls := "java/util/List", name := "add", desc := "(Ljava/lang/Object;)Z" } : Jvm.MethodName)) ∈ lw_all := lw_g (lw_at lw_m5 109 rfl) rfl
theorem q1197 : (Jvm.Cond.methodLink "FlareSlopes$Parser" (160 : Nat) ({ cls := "FlareSlopes$Parser", name := "fog", desc := "()V" } : Jvm.MethodName)) ∈ lw_all := lw_g (lw_at lw_m5 110 rfl) rfl
theorem q1199 : (Jvm.Cond.instanceMethod ({ cls := "FlareSlopes$Parser", name := "fog", desc := "()V" } : Jvm.MethodName)) ∈ lw_all := lw_g (lw_at lw_m5 112 rfl) rfl
theorem q1200 : (Jvm.Cond.code ({ cls := "FlareSlopes$Parser", name := "fog", desc := "()V" } : Jvm.MethodName) prog_13_method_12_code (3 : Nat) (Option.none : Option Jvm.ClassFile.FieldType)) ∈ lw_all := lw_g (lw_at lw_m5 113 rfl) rfl
theorem q1201 : (Jvm.Cond.classLink "FlareSlopes$Parser" (131 : Nat) "FlareSlopes$Fog") ∈ lw_all := lw_g (lw_at lw_m5 114 rfl) rfl
theorem q1203 : (Jvm.Cond.methodLink "FlareSlopes$Parser" (133 : Nat) ({ cls := "FlareSlopes$Fog", name := "<init>", desc := "(III)V" } : Jvm.MethodName)) ∈ lw_all := lw_g (lw_at lw_m5 116 rfl) rfl
theorem q4676 : (Jvm.Cond.castable "FlareSlopes$Parser" "java/lang/Object") ∈ lw_tbl := lw_at lw_m19 229 rfl
theorem in_X4 : ∀ w ∈ wsX40, w ∈ lw_all := lw_in wsX40 [557, 559, 561, 563, 565, 567, 569] (by decide +kernel) (by decide +kernel)
/-! X5.FlareSlopes_Mountain.lean.txt -/
def RX5 : String := "FlareSlopes$Mountain"
def TX5 : u_T := fun k => match k with
  | 0 => ("FlareSlopes$Mountain", "cabins", "LFlareSlopes$Register;", true)
  | 1 => ("FlareSlopes$Mountain", "slopes", "LFlareSlopes$Register;", true)
  | 2 => ("FlareSlopes$Mountain", "ridges", "Ljava/util/List;", true)
  | 3 => ("FlareSlopes$Mountain", "fogs", "Ljava/util/List;", true)
  | 4 => ("FlareSlopes$Mountain", "settings", "[I", true)
  | _ => ("FlareSlopes$Mountain", "keys", "[LFlareSlopes$Key;", true)
def tyX5 : Nat → FieldType := fun k => match k with
  | 0 => .object "FlareSlopes$Register"
  | 1 => .object "FlareSlopes$Register"
  | 2 => .object "java/util/List"
  | 3 => .object "java/util/List"
  | 4 => .array .int
  | _ => .array (.object "FlareSlopes$Key")
abbrev wsX50 : List Cond := u_ws RX5 TX5 6
theorem nmX5 : ∀ a, a < 6 → ∀ b, b < 6 → a ≠ b → (TX5 a).2.1 ≠ (TX5 b).2.1 := by decide +kernel
theorem tyX5_ok : ∀ k, k < 6 → parseFieldDescriptor (TX5 k).2.2.1 = some (tyX5 k) := by decide +kernel
abbrev cX5_init : ByteArray := prog_11_method_1_code
def yX5_init : MethodName := ⟨RX5, "<init>", "()V"⟩
def dkwX5_init_4 : List UInt8 := [16, 8, 112, 183, 0, 43, 83, 132, 1, 1, 167, 255, 223, 177]
abbrev dktX5_init_4 : List UInt8 := dkwX5_init_4 ++ []
def dkwX5_init_3 : List UInt8 := [60, 27, 42, 180, 0, 39, 190, 162, 0, 30, 42, 180, 0, 39, 27, 187, 0, 37, 89, 27, 16, 8, 108, 27]
abbrev dktX5_init_3 : List UInt8 := dkwX5_init_3 ++ dktX5_init_4
def dkwX5_init_2 : List UInt8 := [183, 0, 25, 181, 0, 30, 42, 16, 6, 188, 10, 181, 0, 33, 42, 16, 80, 189, 0, 37, 181, 0, 39, 3]
abbrev dktX5_init_2 : List UInt8 := dkwX5_init_2 ++ dktX5_init_3
def dkwX5_init_1 : List UInt8 := [183, 0, 11, 181, 0, 20, 42, 187, 0, 23, 89, 183, 0, 25, 181, 0, 26, 42, 187, 0, 23, 89]
abbrev dktX5_init_1 : List UInt8 := dkwX5_init_1 ++ dktX5_init_2
def dkwX5_init_0 : List UInt8 := [42, 183, 0, 3, 42, 187, 0, 9, 89, 16, 10, 183, 0, 11, 181, 0, 14, 42, 187, 0, 9, 89, 16, 8]
abbrev dktX5_init_0 : List UInt8 := dkwX5_init_0 ++ dktX5_init_1
theorem dksX5_init_0 : cX5_init.data.toList.drop 0 = dktX5_init_0 := by decide +kernel
theorem dksX5_init_1 : cX5_init.data.toList.drop 24 = dktX5_init_1 := dk_seg dksX5_init_0 24 rfl rfl
theorem dksX5_init_2 : cX5_init.data.toList.drop 46 = dktX5_init_2 := dk_seg dksX5_init_1 22 rfl rfl
theorem dksX5_init_3 : cX5_init.data.toList.drop 70 = dktX5_init_3 := dk_seg dksX5_init_2 24 rfl rfl
theorem dksX5_init_4 : cX5_init.data.toList.drop 94 = dktX5_init_4 := dk_seg dksX5_init_3 24 rfl rfl
theorem dX5_init_0 : decode cX5_init 0 = .ok (.aload_n 0, 1) := dk_42 (dk_at dksX5_init_0 0 rfl rfl)
theorem dX5_init_1 : decode cX5_init 1 = .ok (.invokespecial 3, 3) := dk_183 0 3 (dk_at dksX5_init_0 1 rfl rfl)
theorem dX5_init_4 : decode cX5_init 4 = .ok (.aload_n 0, 1) := dk_42 (dk_at dksX5_init_0 4 rfl rfl)
theorem dX5_init_5 : decode cX5_init 5 = .ok (.new 9, 3) := dk_187 0 9 (dk_at dksX5_init_0 5 rfl rfl)
theorem dX5_init_8 : decode cX5_init 8 = .ok (.dup, 1) := dk_89 (dk_at dksX5_init_0 8 rfl rfl)
theorem dX5_init_9 : decode cX5_init 9 = .ok (.bipush 10, 2) := dk_16 10 (dk_at dksX5_init_0 9 rfl rfl)
theorem dX5_init_11 : decode cX5_init 11 = .ok (.invokespecial 11, 3) := dk_183 0 11 (dk_at dksX5_init_0 11 rfl rfl)
theorem dX5_init_14 : decode cX5_init 14 = .ok (.putfield 14, 3) := dk_181 0 14 (dk_at dksX5_init_0 14 rfl rfl)
theorem dX5_init_17 : decode cX5_init 17 = .ok (.aload_n 0, 1) := dk_42 (dk_at dksX5_init_0 17 rfl rfl)
theorem dX5_init_18 : decode cX5_init 18 = .ok (.new 9, 3) := dk_187 0 9 (dk_at dksX5_init_0 18 rfl rfl)
theorem dX5_init_21 : decode cX5_init 21 = .ok (.dup, 1) := dk_89 (dk_at dksX5_init_0 21 rfl rfl)
theorem dX5_init_22 : decode cX5_init 22 = .ok (.bipush 8, 2) := dk_16 8 (dk_at dksX5_init_0 22 rfl rfl)
theorem dX5_init_24 : decode cX5_init 24 = .ok (.invokespecial 11, 3) := dk_183 0 11 (dk_at dksX5_init_1 0 rfl rfl)
theorem dX5_init_27 : decode cX5_init 27 = .ok (.putfield 20, 3) := dk_181 0 20 (dk_at dksX5_init_1 3 rfl rfl)
theorem dX5_init_30 : decode cX5_init 30 = .ok (.aload_n 0, 1) := dk_42 (dk_at dksX5_init_1 6 rfl rfl)
theorem dX5_init_31 : decode cX5_init 31 = .ok (.new 23, 3) := dk_187 0 23 (dk_at dksX5_init_1 7 rfl rfl)
theorem dX5_init_34 : decode cX5_init 34 = .ok (.dup, 1) := dk_89 (dk_at dksX5_init_1 10 rfl rfl)
theorem dX5_init_35 : decode cX5_init 35 = .ok (.invokespecial 25, 3) := dk_183 0 25 (dk_at dksX5_init_1 11 rfl rfl)
theorem dX5_init_38 : decode cX5_init 38 = .ok (.putfield 26, 3) := dk_181 0 26 (dk_at dksX5_init_1 14 rfl rfl)
theorem dX5_init_41 : decode cX5_init 41 = .ok (.aload_n 0, 1) := dk_42 (dk_at dksX5_init_1 17 rfl rfl)
theorem dX5_init_42 : decode cX5_init 42 = .ok (.new 23, 3) := dk_187 0 23 (dk_at dksX5_init_1 18 rfl rfl)
theorem dX5_init_45 : decode cX5_init 45 = .ok (.dup, 1) := dk_89 (dk_at dksX5_init_1 21 rfl rfl)
theorem dX5_init_46 : decode cX5_init 46 = .ok (.invokespecial 25, 3) := dk_183 0 25 (dk_at dksX5_init_2 0 rfl rfl)
theorem dX5_init_49 : decode cX5_init 49 = .ok (.putfield 30, 3) := dk_181 0 30 (dk_at dksX5_init_2 3 rfl rfl)
theorem dX5_init_52 : decode cX5_init 52 = .ok (.aload_n 0, 1) := dk_42 (dk_at dksX5_init_2 6 rfl rfl)
theorem dX5_init_53 : decode cX5_init 53 = .ok (.bipush 6, 2) := dk_16 6 (dk_at dksX5_init_2 7 rfl rfl)
theorem dX5_init_55 : decode cX5_init 55 = .ok (.newarray .int, 2) := dk_188_10 (dk_at dksX5_init_2 9 rfl rfl)
theorem dX5_init_57 : decode cX5_init 57 = .ok (.putfield 33, 3) := dk_181 0 33 (dk_at dksX5_init_2 11 rfl rfl)
theorem dX5_init_60 : decode cX5_init 60 = .ok (.aload_n 0, 1) := dk_42 (dk_at dksX5_init_2 14 rfl rfl)
theorem dX5_init_61 : decode cX5_init 61 = .ok (.bipush 80, 2) := dk_16 80 (dk_at dksX5_init_2 15 rfl rfl)
theorem dX5_init_63 : decode cX5_init 63 = .ok (.anewarray 37, 3) := dk_189 0 37 (dk_at dksX5_init_2 17 rfl rfl)
theorem dX5_init_66 : decode cX5_init 66 = .ok (.putfield 39, 3) := dk_181 0 39 (dk_at dksX5_init_2 20 rfl rfl)
theorem dX5_init_69 : decode cX5_init 69 = .ok (.iconst 0, 1) := dk_3 (dk_at dksX5_init_2 23 rfl rfl)
theorem dX5_init_70 : decode cX5_init 70 = .ok (.istore_n 1, 1) := dk_60 (dk_at dksX5_init_3 0 rfl rfl)
theorem dX5_init_71 : decode cX5_init 71 = .ok (.iload_n 1, 1) := dk_27 (dk_at dksX5_init_3 1 rfl rfl)
theorem dX5_init_72 : decode cX5_init 72 = .ok (.aload_n 0, 1) := dk_42 (dk_at dksX5_init_3 2 rfl rfl)
theorem dX5_init_73 : decode cX5_init 73 = .ok (.getfield 39, 3) := dk_180 0 39 (dk_at dksX5_init_3 3 rfl rfl)
theorem dX5_init_76 : decode cX5_init 76 = .ok (.arraylength, 1) := dk_190 (dk_at dksX5_init_3 6 rfl rfl)
theorem dX5_init_77 : decode cX5_init 77 = .ok (.if_icmp .ge 30, 3) := dk_162 0 30 (dk_at dksX5_init_3 7 rfl rfl)
theorem dX5_init_80 : decode cX5_init 80 = .ok (.aload_n 0, 1) := dk_42 (dk_at dksX5_init_3 10 rfl rfl)
theorem dX5_init_81 : decode cX5_init 81 = .ok (.getfield 39, 3) := dk_180 0 39 (dk_at dksX5_init_3 11 rfl rfl)
theorem dX5_init_84 : decode cX5_init 84 = .ok (.iload_n 1, 1) := dk_27 (dk_at dksX5_init_3 14 rfl rfl)
theorem dX5_init_85 : decode cX5_init 85 = .ok (.new 37, 3) := dk_187 0 37 (dk_at dksX5_init_3 15 rfl rfl)
theorem dX5_init_88 : decode cX5_init 88 = .ok (.dup, 1) := dk_89 (dk_at dksX5_init_3 18 rfl rfl)
theorem dX5_init_89 : decode cX5_init 89 = .ok (.iload_n 1, 1) := dk_27 (dk_at dksX5_init_3 19 rfl rfl)
theorem dX5_init_90 : decode cX5_init 90 = .ok (.bipush 8, 2) := dk_16 8 (dk_at dksX5_init_3 20 rfl rfl)
theorem dX5_init_92 : decode cX5_init 92 = .ok (.idiv, 1) := dk_108 (dk_at dksX5_init_3 22 rfl rfl)
theorem dX5_init_93 : decode cX5_init 93 = .ok (.iload_n 1, 1) := dk_27 (dk_at dksX5_init_3 23 rfl rfl)
theorem dX5_init_94 : decode cX5_init 94 = .ok (.bipush 8, 2) := dk_16 8 (dk_at dksX5_init_4 0 rfl rfl)
theorem dX5_init_96 : decode cX5_init 96 = .ok (.irem, 1) := dk_112 (dk_at dksX5_init_4 2 rfl rfl)
theorem dX5_init_97 : decode cX5_init 97 = .ok (.invokespecial 43, 3) := dk_183 0 43 (dk_at dksX5_init_4 3 rfl rfl)
theorem dX5_init_100 : decode cX5_init 100 = .ok (.aastore, 1) := dk_83 (dk_at dksX5_init_4 6 rfl rfl)
theorem dX5_init_101 : decode cX5_init 101 = .ok (.iinc 1 1, 3) := dk_132 1 1 (dk_at dksX5_init_4 7 rfl rfl)
theorem dX5_init_104 : decode cX5_init 104 = .ok (.goto (-33), 3) := dk_167 255 223 (dk_at dksX5_init_4 10 rfl rfl)
theorem dX5_init_107 : decode cX5_init 107 = .ok (.return_, 1) := dk_177 (dk_at dksX5_init_4 13 rfl rfl)
abbrev cX5_mist : ByteArray := prog_11_method_3_code
def yX5_mist : MethodName := ⟨RX5, "mist", "(I)I"⟩
def dkwX5_mist_1 : List UInt8 := [185, 0, 52, 2, 0, 192, 0, 56, 27, 182, 0, 58, 96, 61, 132, 3, 1, 167, 255, 220, 28, 172]
abbrev dktX5_mist_1 : List UInt8 := dkwX5_mist_1 ++ []
def dkwX5_mist_0 : List UInt8 := [3, 61, 3, 62, 29, 42, 180, 0, 30, 185, 0, 46, 1, 0, 162, 0, 29, 28, 42, 180, 0, 30, 29]
abbrev dktX5_mist_0 : List UInt8 := dkwX5_mist_0 ++ dktX5_mist_1
theorem dksX5_mist_0 : cX5_mist.data.toList.drop 0 = dktX5_mist_0 := by decide +kernel
theorem dksX5_mist_1 : cX5_mist.data.toList.drop 23 = dktX5_mist_1 := dk_seg dksX5_mist_0 23 rfl rfl
theorem dX5_mist_0 : decode cX5_mist 0 = .ok (.iconst 0, 1) := dk_3 (dk_at dksX5_mist_0 0 rfl rfl)
theorem dX5_mist_1 : decode cX5_mist 1 = .ok (.istore_n 2, 1) := dk_61 (dk_at dksX5_mist_0 1 rfl rfl)
theorem dX5_mist_2 : decode cX5_mist 2 = .ok (.iconst 0, 1) := dk_3 (dk_at dksX5_mist_0 2 rfl rfl)
theorem dX5_mist_3 : decode cX5_mist 3 = .ok (.istore_n 3, 1) := dk_62 (dk_at dksX5_mist_0 3 rfl rfl)
theorem dX5_mist_4 : decode cX5_mist 4 = .ok (.iload_n 3, 1) := dk_29 (dk_at dksX5_mist_0 4 rfl rfl)
theorem dX5_mist_5 : decode cX5_mist 5 = .ok (.aload_n 0, 1) := dk_42 (dk_at dksX5_mist_0 5 rfl rfl)
theorem dX5_mist_6 : decode cX5_mist 6 = .ok (.getfield 30, 3) := dk_180 0 30 (dk_at dksX5_mist_0 6 rfl rfl)
theorem dX5_mist_9 : decode cX5_mist 9 = .ok (.invokeinterface 46 1, 5) := by decide +kernel
theorem dX5_mist_14 : decode cX5_mist 14 = .ok (.if_icmp .ge 29, 3) := dk_162 0 29 (dk_at dksX5_mist_0 14 rfl rfl)
theorem dX5_mist_17 : decode cX5_mist 17 = .ok (.iload_n 2, 1) := dk_28 (dk_at dksX5_mist_0 17 rfl rfl)
theorem dX5_mist_18 : decode cX5_mist 18 = .ok (.aload_n 0, 1) := dk_42 (dk_at dksX5_mist_0 18 rfl rfl)
theorem dX5_mist_19 : decode cX5_mist 19 = .ok (.getfield 30, 3) := dk_180 0 30 (dk_at dksX5_mist_0 19 rfl rfl)
theorem dX5_mist_22 : decode cX5_mist 22 = .ok (.iload_n 3, 1) := dk_29 (dk_at dksX5_mist_0 22 rfl rfl)
theorem dX5_mist_23 : decode cX5_mist 23 = .ok (.invokeinterface 52 2, 5) := by decide +kernel
theorem dX5_mist_28 : decode cX5_mist 28 = .ok (.checkcast 56, 3) := dk_192 0 56 (dk_at dksX5_mist_1 5 rfl rfl)
theorem dX5_mist_31 : decode cX5_mist 31 = .ok (.iload_n 1, 1) := dk_27 (dk_at dksX5_mist_1 8 rfl rfl)
theorem dX5_mist_32 : decode cX5_mist 32 = .ok (.invokevirtual 58, 3) := dk_182 0 58 (dk_at dksX5_mist_1 9 rfl rfl)
theorem dX5_mist_35 : decode cX5_mist 35 = .ok (.iadd, 1) := dk_96 (dk_at dksX5_mist_1 12 rfl rfl)
theorem dX5_mist_36 : decode cX5_mist 36 = .ok (.istore_n 2, 1) := dk_61 (dk_at dksX5_mist_1 13 rfl rfl)
theorem dX5_mist_37 : decode cX5_mist 37 = .ok (.iinc 3 1, 3) := dk_132 3 1 (dk_at dksX5_mist_1 14 rfl rfl)
theorem dX5_mist_40 : decode cX5_mist 40 = .ok (.goto (-36), 3) := dk_167 255 220 (dk_at dksX5_mist_1 17 rfl rfl)
theorem dX5_mist_43 : decode cX5_mist 43 = .ok (.iload_n 2, 1) := dk_28 (dk_at dksX5_mist_1 20 rfl rfl)
theorem dX5_mist_44 : decode cX5_mist 44 = .ok (.ireturn, 1) := dk_172 (dk_at dksX5_mist_1 21 rfl rfl)
abbrev cX5_ridges : ByteArray := prog_11_method_4_code
def yX5_ridges : MethodName := ⟨RX5, "ridges", "(LFlareSlopes$Located;LFlareSlopes$Located;)I"⟩
def dkwX5_ridges_2 : List UInt8 := [62, 132, 4, 1, 167, 255, 209, 29, 172]
abbrev dktX5_ridges_2 : List UInt8 := dkwX5_ridges_2 ++ []
def dkwX5_ridges_1 : List UInt8 := [21, 4, 185, 0, 52, 2, 0, 192, 0, 62, 43, 44, 182, 0, 64, 153, 0, 7, 4, 167, 0, 4, 3, 96]
abbrev dktX5_ridges_1 : List UInt8 := dkwX5_ridges_1 ++ dktX5_ridges_2
def dkwX5_ridges_0 : List UInt8 := [3, 62, 3, 54, 4, 21, 4, 42, 180, 0, 26, 185, 0, 46, 1, 0, 162, 0, 39, 29, 42, 180, 0, 26]
abbrev dktX5_ridges_0 : List UInt8 := dkwX5_ridges_0 ++ dktX5_ridges_1
theorem dksX5_ridges_0 : cX5_ridges.data.toList.drop 0 = dktX5_ridges_0 := by decide +kernel
theorem dksX5_ridges_1 : cX5_ridges.data.toList.drop 24 = dktX5_ridges_1 := dk_seg dksX5_ridges_0 24 rfl rfl
theorem dksX5_ridges_2 : cX5_ridges.data.toList.drop 48 = dktX5_ridges_2 := dk_seg dksX5_ridges_1 24 rfl rfl
theorem dX5_ridges_0 : decode cX5_ridges 0 = .ok (.iconst 0, 1) := dk_3 (dk_at dksX5_ridges_0 0 rfl rfl)
theorem dX5_ridges_1 : decode cX5_ridges 1 = .ok (.istore_n 3, 1) := dk_62 (dk_at dksX5_ridges_0 1 rfl rfl)
theorem dX5_ridges_2 : decode cX5_ridges 2 = .ok (.iconst 0, 1) := dk_3 (dk_at dksX5_ridges_0 2 rfl rfl)
theorem dX5_ridges_3 : decode cX5_ridges 3 = .ok (.istore 4, 2) := dk_54 4 (dk_at dksX5_ridges_0 3 rfl rfl)
theorem dX5_ridges_5 : decode cX5_ridges 5 = .ok (.iload 4, 2) := dk_21 4 (dk_at dksX5_ridges_0 5 rfl rfl)
theorem dX5_ridges_7 : decode cX5_ridges 7 = .ok (.aload_n 0, 1) := dk_42 (dk_at dksX5_ridges_0 7 rfl rfl)
theorem dX5_ridges_8 : decode cX5_ridges 8 = .ok (.getfield 26, 3) := dk_180 0 26 (dk_at dksX5_ridges_0 8 rfl rfl)
theorem dX5_ridges_11 : decode cX5_ridges 11 = .ok (.invokeinterface 46 1, 5) := by decide +kernel
theorem dX5_ridges_16 : decode cX5_ridges 16 = .ok (.if_icmp .ge 39, 3) := dk_162 0 39 (dk_at dksX5_ridges_0 16 rfl rfl)
theorem dX5_ridges_19 : decode cX5_ridges 19 = .ok (.iload_n 3, 1) := dk_29 (dk_at dksX5_ridges_0 19 rfl rfl)
theorem dX5_ridges_20 : decode cX5_ridges 20 = .ok (.aload_n 0, 1) := dk_42 (dk_at dksX5_ridges_0 20 rfl rfl)
theorem dX5_ridges_21 : decode cX5_ridges 21 = .ok (.getfield 26, 3) := dk_180 0 26 (dk_at dksX5_ridges_0 21 rfl rfl)
theorem dX5_ridges_24 : decode cX5_ridges 24 = .ok (.iload 4, 2) := dk_21 4 (dk_at dksX5_ridges_1 0 rfl rfl)
theorem dX5_ridges_26 : decode cX5_ridges 26 = .ok (.invokeinterface 52 2, 5) := by decide +kernel
theorem dX5_ridges_31 : decode cX5_ridges 31 = .ok (.checkcast 62, 3) := dk_192 0 62 (dk_at dksX5_ridges_1 7 rfl rfl)
theorem dX5_ridges_34 : decode cX5_ridges 34 = .ok (.aload_n 1, 1) := dk_43 (dk_at dksX5_ridges_1 10 rfl rfl)
theorem dX5_ridges_35 : decode cX5_ridges 35 = .ok (.aload_n 2, 1) := dk_44 (dk_at dksX5_ridges_1 11 rfl rfl)
theorem dX5_ridges_36 : decode cX5_ridges 36 = .ok (.invokevirtual 64, 3) := dk_182 0 64 (dk_at dksX5_ridges_1 12 rfl rfl)
theorem dX5_ridges_39 : decode cX5_ridges 39 = .ok (.ifCond .eq 7, 3) := dk_153 0 7 (dk_at dksX5_ridges_1 15 rfl rfl)
theorem dX5_ridges_42 : decode cX5_ridges 42 = .ok (.iconst 1, 1) := dk_4 (dk_at dksX5_ridges_1 18 rfl rfl)
theorem dX5_ridges_43 : decode cX5_ridges 43 = .ok (.goto 4, 3) := dk_167 0 4 (dk_at dksX5_ridges_1 19 rfl rfl)
theorem dX5_ridges_46 : decode cX5_ridges 46 = .ok (.iconst 0, 1) := dk_3 (dk_at dksX5_ridges_1 22 rfl rfl)
theorem dX5_ridges_47 : decode cX5_ridges 47 = .ok (.iadd, 1) := dk_96 (dk_at dksX5_ridges_1 23 rfl rfl)
theorem dX5_ridges_48 : decode cX5_ridges 48 = .ok (.istore_n 3, 1) := dk_62 (dk_at dksX5_ridges_2 0 rfl rfl)
theorem dX5_ridges_49 : decode cX5_ridges 49 = .ok (.iinc 4 1, 3) := dk_132 4 1 (dk_at dksX5_ridges_2 1 rfl rfl)
theorem dX5_ridges_52 : decode cX5_ridges 52 = .ok (.goto (-47), 3) := dk_167 255 209 (dk_at dksX5_ridges_2 4 rfl rfl)
theorem dX5_ridges_55 : decode cX5_ridges 55 = .ok (.iload_n 3, 1) := dk_29 (dk_at dksX5_ridges_2 7 rfl rfl)
theorem dX5_ridges_56 : decode cX5_ridges 56 = .ok (.ireturn, 1) := dk_172 (dk_at dksX5_ridges_2 8 rfl rfl)
abbrev cX5_key : ByteArray := prog_11_method_2_code
def yX5_key : MethodName := ⟨RX5, "key", "(II)LFlareSlopes$Key;"⟩
def dkwX5_key_0 : List UInt8 := [42, 180, 0, 39, 16, 8, 27, 104, 28, 96, 50, 176]
abbrev dktX5_key_0 : List UInt8 := dkwX5_key_0 ++ []
theorem dksX5_key_0 : cX5_key.data.toList.drop 0 = dktX5_key_0 := by decide +kernel
theorem dX5_key_0 : decode cX5_key 0 = .ok (.aload_n 0, 1) := dk_42 (dk_at dksX5_key_0 0 rfl rfl)
theorem dX5_key_1 : decode cX5_key 1 = .ok (.getfield 39, 3) := dk_180 0 39 (dk_at dksX5_key_0 1 rfl rfl)
theorem dX5_key_4 : decode cX5_key 4 = .ok (.bipush 8, 2) := dk_16 8 (dk_at dksX5_key_0 4 rfl rfl)
theorem dX5_key_6 : decode cX5_key 6 = .ok (.iload_n 1, 1) := dk_27 (dk_at dksX5_key_0 6 rfl rfl)
theorem dX5_key_7 : decode cX5_key 7 = .ok (.imul, 1) := dk_104 (dk_at dksX5_key_0 7 rfl rfl)
theorem dX5_key_8 : decode cX5_key 8 = .ok (.iload_n 2, 1) := dk_28 (dk_at dksX5_key_0 8 rfl rfl)
theorem dX5_key_9 : decode cX5_key 9 = .ok (.iadd, 1) := dk_96 (dk_at dksX5_key_0 9 rfl rfl)
theorem dX5_key_10 : decode cX5_key 10 = .ok (.aaload, 1) := dk_50 (dk_at dksX5_key_0 10 rfl rfl)
theorem dX5_key_11 : decode cX5_key 11 = .ok (.areturn, 1) := dk_176 (dk_at dksX5_key_0 11 rfl rfl)
theorem q143 : (Jvm.Cond.initialized "FlareSlopes$Mountain") ∈ lw_all := lw_g (lw_at lw_m1 16 rfl) rfl
theorem q445 : (Jvm.Cond.instantiable "FlareSlopes$Mountain" (6 : Nat)) ∈ lw_all := lw_g (lw_at lw_m2 78 rfl) rfl
theorem q447 : (Jvm.Cond.instanceMethod ({ cls := "FlareSlopes$Mountain", name := "<init>", desc := "()V" } : Jvm.MethodName)) ∈ lw_all := lw_g (lw_at lw_m2 80 rfl) rfl
theorem q448 : (Jvm.Cond.code ({ cls := "FlareSlopes$Mountain", name := "<init>", desc := "()V" } : Jvm.MethodName) prog_11_method_1_code (2 : Nat) (Option.none : Option Jvm.ClassFile.FieldType)) ∈ lw_all := lw_g (lw_at lw_m2 81 rfl) rfl
theorem q449 : (Jvm.Cond.methodLink "FlareSlopes$Mountain" (3 : Nat) ({ cls := "java/lang/Object", name := "<init>", desc := "()V" } : Jvm.MethodName)) ∈ lw_all := lw_g (lw_at lw_m2 82 rfl) rfl
theorem q450 : (Jvm.Cond.classLink "FlareSlopes$Mountain" (9 : Nat) "FlareSlopes$Register") ∈ lw_all := lw_g (lw_at lw_m2 83 rfl) rfl
theorem q452 : (Jvm.Cond.methodLink "FlareSlopes$Mountain" (11 : Nat) ({ cls := "FlareSlopes$Register", name := "<init>", desc := "(I)V" } : Jvm.MethodName)) ∈ lw_all := lw_g (lw_at lw_m2 85 rfl) rfl
theorem q489 : (Jvm.Cond.classLink "FlareSlopes$Mountain" (23 : Nat) "java/util/ArrayList") ∈ lw_all := lw_g (lw_at lw_m2 122 rfl) rfl
theorem q490 : (Jvm.Cond.methodLink "FlareSlopes$Mountain" (25 : Nat) ({ cls := "java/util/ArrayList", name := "<init>", desc := "()V" } : Jvm.MethodName)) ∈ lw_all := lw_g (lw_at lw_m2 123 rfl) rfl
theorem q491 : (Jvm.Cond.classLink "FlareSlopes$Mountain" (37 : Nat) "FlareSlopes$Key") ∈ lw_all := lw_g (lw_at lw_m2 124 rfl) rfl
theorem q494 : (Jvm.Cond.methodLink "FlareSlopes$Mountain" (43 : Nat) ({ cls := "FlareSlopes$Key", name := "<init>", desc := "(II)V" } : Jvm.MethodName)) ∈ lw_all := lw_g (lw_at lw_m2 127 rfl) rfl
theorem q506 : (Jvm.Cond.fieldLink "FlareSlopes$Mountain" (14 : Nat) "FlareSlopes$Mountain" "cabins" "LFlareSlopes$Register;") ∈ lw_all := lw_g (lw_at lw_m2 139 rfl) rfl
theorem q510 : (Jvm.Cond.fieldLink "FlareSlopes$Mountain" (20 : Nat) "FlareSlopes$Mountain" "slopes" "LFlareSlopes$Register;") ∈ lw_all := lw_g (lw_at lw_m2 143 rfl) rfl
theorem q514 : (Jvm.Cond.fieldLink "FlareSlopes$Mountain" (26 : Nat) "FlareSlopes$Mountain" "ridges" "Ljava/util/List;") ∈ lw_all := lw_g (lw_at lw_m2 147 rfl) rfl
theorem q517 : (Jvm.Cond.fieldLink "FlareSlopes$Mountain" (30 : Nat) "FlareSlopes$Mountain" "fogs" "Ljava/util/List;") ∈ lw_all := lw_g (lw_at lw_m2 150 rfl) rfl
theorem q521 : (Jvm.Cond.fieldLink "FlareSlopes$Mountain" (33 : Nat) "FlareSlopes$Mountain" "settings" "[I") ∈ lw_all := lw_g (lw_at lw_m2 154 rfl) rfl
theorem q523 : (Jvm.Cond.fieldLink "FlareSlopes$Mountain" (39 : Nat) "FlareSlopes$Mountain" "keys" "[LFlareSlopes$Key;") ∈ lw_all := lw_g (lw_at lw_m2 156 rfl) rfl
theorem q1653 : (Jvm.Cond.instanceMethod ({ cls := "FlareSlopes$Mountain", name := "mist", desc := "(I)I" } : Jvm.MethodName)) ∈ lw_all := lw_g (lw_at lw_m7 86 rfl) rfl
theorem q1654 : (Jvm.Cond.selects "FlareSlopes$Mountain" ({ cls := "FlareSlopes$Mountain", name := "mist", desc := "(I)I" } : Jvm.MethodName) ({ cls := "FlareSlopes$Mountain", name := "mist", desc := "(I)I" } : Jvm.MethodName)) ∈ lw_all := lw_g (lw_at lw_m7 87 rfl) rfl
theorem q1655 : (Jvm.Cond.code ({ cls := "FlareSlopes$Mountain", name := "mist", desc := "(I)I" } : Jvm.MethodName) prog_11_method_3_code (4 : Nat) (Option.some Jvm.ClassFile.FieldType.int)) ∈ lw_all := lw_g (lw_at lw_m7 88 rfl) rfl
theorem q1657 : (Jvm.Cond.methodLink "FlareSlopes$Mountain" (46 : Nat) ({ cls := "java/util/List", name := "size", desc := "()I" } : Jvm.MethodName)) ∈ lw_all := lw_g (lw_at lw_m7 90 rfl) rfl
theorem q1659 : (Jvm.Cond.methodLink "FlareSlopes$Mountain" (52 : Nat) ({ cls := "java/util/List", name := "get", desc := "(I)Ljava/lang/Object;" } : Jvm.MethodName)) ∈ lw_all := lw_g (lw_at lw_m7 92 rfl) rfl
theorem q1660 : (Jvm.Cond.classLink "FlareSlopes$Mountain" (56 : Nat) "FlareSlopes$Fog") ∈ lw_all := lw_g (lw_at lw_m7 93 rfl) rfl
theorem q1661 : (Jvm.Cond.methodLink "FlareSlopes$Mountain" (58 : Nat) ({ cls := "FlareSlopes$Fog", name := "at", desc := "(I)I" } : Jvm.MethodName)) ∈ lw_all := lw_g (lw_at lw_m7 94 rfl) rfl
theorem q1710 : (Jvm.Cond.instanceMethod ({ cls := "FlareSlopes$Mountain", name := "ridges", desc := "(LFlareSlopes$Located;LFlareSlopes$Located;)I" } : Jvm.MethodName)) ∈ lw_all := lw_g (lw_at lw_m7 143 rfl) rfl
theorem q1711 : (Jvm.Cond.selects "FlareSlopes$Mountain" ({ cls := "FlareSlopes$Mountain", name := "ridges", desc := "(LFlareSlopes$Located;LFlareSlopes$Located;)I" } : Jvm.MethodName) ({ cls := "FlareSlopes$Mountain", name := "ridges", desc := "(LFlareSlopes$Located;LFlareSlopes$Located;)I" } : Jvm.MethodName)) ∈ lw_all := lw_g (lw_at lw_m7 144 rfl) rfl
theorem q1712 : (Jvm.Cond.code ({ cls := "FlareSlopes$Mountain", name := "ridges", desc := "(LFlareSlopes$Located;LFlareSlopes$Located;)I" } : Jvm.MethodName) prog_11_method_4_code (5 : Nat) (Option.some Jvm.ClassFile.FieldType.int)) ∈ lw_all := lw_g (lw_at lw_m7 145 rfl) rfl
theorem q1713 : (Jvm.Cond.classLink "FlareSlopes$Mountain" (62 : Nat) "FlareSlopes$Ridge") ∈ lw_all := lw_g (lw_at lw_m7 146 rfl) rfl
theorem q1714 : (Jvm.Cond.methodLink "FlareSlopes$Mountain" (64 : Nat) ({ cls := "FlareSlopes$Ridge", name := "hides", desc := "(LFlareSlopes$Located;LFlareSlopes$Located;)Z" } : Jvm.MethodName)) ∈ lw_all := lw_g (lw_at lw_m7 147 rfl) rfl
theorem q1995 : (Jvm.Cond.instanceMethod ({ cls := "FlareSlopes$Mountain", name := "key", desc := "(II)LFlareSlopes$Key;" } : Jvm.MethodName)) ∈ lw_all := lw_g (lw_at lw_m8 188 rfl) rfl
theorem q1996 : (Jvm.Cond.selects "FlareSlopes$Mountain" ({ cls := "FlareSlopes$Mountain", name := "key", desc := "(II)LFlareSlopes$Key;" } : Jvm.MethodName) ({ cls := "FlareSlopes$Mountain", name := "key", desc := "(II)LFlareSlopes$Key;" } : Jvm.MethodName)) ∈ lw_all := lw_g (lw_at lw_m8 189 rfl) rfl
theorem q1997 : (Jvm.Cond.code ({ cls := "FlareSlopes$Mountain", name := "key", desc := "(II)LFlareSlopes$Key;" } : Jvm.MethodName) prog_11_method_2_code (3 : Nat) (Option.some (Jvm.ClassFile.FieldType.object "FlareSlopes$Key"))) ∈ lw_all := lw_g (lw_at lw_m8 190 rfl) rfl
theorem q4677 : (Jvm.Cond.castable "FlareSlopes$Mountain" "java/lang/Object") ∈ lw_tbl := lw_at lw_m19 230 rfl
theorem in_X5 : ∀ w ∈ wsX50, w ∈ lw_all := lw_in wsX50 [524, 526, 528, 530, 532, 534] (by decide +kernel) (by decide +kernel)
/-! X6.FlareSlopes_Register.lean.txt -/
def RX6 : String := "FlareSlopes$Register"
def TX6 : u_T := fun k => match k with
  | 0 => ("FlareSlopes$Register", "all", "Ljava/util/List;", true)
  | _ => ("FlareSlopes$Register", "most", "I", true)
def tyX6 : Nat → FieldType := fun k => match k with
  | 0 => .object "java/util/List"
  | _ => .int
abbrev wsX60 : List Cond := u_ws RX6 TX6 2
theorem nmX6 : ∀ a, a < 2 → ∀ b, b < 2 → a ≠ b → (TX6 a).2.1 ≠ (TX6 b).2.1 := by decide +kernel
theorem tyX6_ok : ∀ k, k < 2 → parseFieldDescriptor (TX6 k).2.2.1 = some (tyX6 k) := by decide +kernel
abbrev cX6_init : ByteArray := prog_14_method_1_code
def yX6_init : MethodName := ⟨RX6, "<init>", "(I)V"⟩
def dkwX6_init_0 : List UInt8 := [42, 183, 0, 3, 42, 187, 0, 9, 89, 183, 0, 11, 181, 0, 12, 42, 27, 181, 0, 18, 177]
abbrev dktX6_init_0 : List UInt8 := dkwX6_init_0 ++ []
theorem dksX6_init_0 : cX6_init.data.toList.drop 0 = dktX6_init_0 := by decide +kernel
theorem dX6_init_0 : decode cX6_init 0 = .ok (.aload_n 0, 1) := dk_42 (dk_at dksX6_init_0 0 rfl rfl)
theorem dX6_init_1 : decode cX6_init 1 = .ok (.invokespecial 3, 3) := dk_183 0 3 (dk_at dksX6_init_0 1 rfl rfl)
theorem dX6_init_4 : decode cX6_init 4 = .ok (.aload_n 0, 1) := dk_42 (dk_at dksX6_init_0 4 rfl rfl)
theorem dX6_init_5 : decode cX6_init 5 = .ok (.new 9, 3) := dk_187 0 9 (dk_at dksX6_init_0 5 rfl rfl)
theorem dX6_init_8 : decode cX6_init 8 = .ok (.dup, 1) := dk_89 (dk_at dksX6_init_0 8 rfl rfl)
theorem dX6_init_9 : decode cX6_init 9 = .ok (.invokespecial 11, 3) := dk_183 0 11 (dk_at dksX6_init_0 9 rfl rfl)
theorem dX6_init_12 : decode cX6_init 12 = .ok (.putfield 12, 3) := dk_181 0 12 (dk_at dksX6_init_0 12 rfl rfl)
theorem dX6_init_15 : decode cX6_init 15 = .ok (.aload_n 0, 1) := dk_42 (dk_at dksX6_init_0 15 rfl rfl)
theorem dX6_init_16 : decode cX6_init 16 = .ok (.iload_n 1, 1) := dk_27 (dk_at dksX6_init_0 16 rfl rfl)
theorem dX6_init_17 : decode cX6_init 17 = .ok (.putfield 18, 3) := dk_181 0 18 (dk_at dksX6_init_0 17 rfl rfl)
theorem dX6_init_20 : decode cX6_init 20 = .ok (.return_, 1) := dk_177 (dk_at dksX6_init_0 20 rfl rfl)
abbrev cX6_isFull : ByteArray := prog_14_method_4_code
def yX6_isFull : MethodName := ⟨RX6, "isFull", "()Z"⟩
def dkwX6_isFull_0 : List UInt8 := [42, 182, 0, 32, 42, 180, 0, 18, 160, 0, 7, 4, 167, 0, 4, 3, 172]
abbrev dktX6_isFull_0 : List UInt8 := dkwX6_isFull_0 ++ []
theorem dksX6_isFull_0 : cX6_isFull.data.toList.drop 0 = dktX6_isFull_0 := by decide +kernel
theorem dX6_isFull_0 : decode cX6_isFull 0 = .ok (.aload_n 0, 1) := dk_42 (dk_at dksX6_isFull_0 0 rfl rfl)
theorem dX6_isFull_1 : decode cX6_isFull 1 = .ok (.invokevirtual 32, 3) := dk_182 0 32 (dk_at dksX6_isFull_0 1 rfl rfl)
theorem dX6_isFull_4 : decode cX6_isFull 4 = .ok (.aload_n 0, 1) := dk_42 (dk_at dksX6_isFull_0 4 rfl rfl)
theorem dX6_isFull_5 : decode cX6_isFull 5 = .ok (.getfield 18, 3) := dk_180 0 18 (dk_at dksX6_isFull_0 5 rfl rfl)
theorem dX6_isFull_8 : decode cX6_isFull 8 = .ok (.if_icmp .ne 7, 3) := dk_160 0 7 (dk_at dksX6_isFull_0 8 rfl rfl)
theorem dX6_isFull_11 : decode cX6_isFull 11 = .ok (.iconst 1, 1) := dk_4 (dk_at dksX6_isFull_0 11 rfl rfl)
theorem dX6_isFull_12 : decode cX6_isFull 12 = .ok (.goto 4, 3) := dk_167 0 4 (dk_at dksX6_isFull_0 12 rfl rfl)
theorem dX6_isFull_15 : decode cX6_isFull 15 = .ok (.iconst 0, 1) := dk_3 (dk_at dksX6_isFull_0 15 rfl rfl)
theorem dX6_isFull_16 : decode cX6_isFull 16 = .ok (.ireturn, 1) := dk_172 (dk_at dksX6_isFull_0 16 rfl rfl)
abbrev cX6_size : ByteArray := prog_14_method_3_code
def yX6_size : MethodName := ⟨RX6, "size", "()I"⟩
def dkwX6_size_0 : List UInt8 := [42, 180, 0, 12, 185, 0, 28, 1, 0, 172]
abbrev dktX6_size_0 : List UInt8 := dkwX6_size_0 ++ []
theorem dksX6_size_0 : cX6_size.data.toList.drop 0 = dktX6_size_0 := by decide +kernel
theorem dX6_size_0 : decode cX6_size 0 = .ok (.aload_n 0, 1) := dk_42 (dk_at dksX6_size_0 0 rfl rfl)
theorem dX6_size_1 : decode cX6_size 1 = .ok (.getfield 12, 3) := dk_180 0 12 (dk_at dksX6_size_0 1 rfl rfl)
theorem dX6_size_4 : decode cX6_size 4 = .ok (.invokeinterface 28 1, 5) := by decide +kernel
theorem dX6_size_9 : decode cX6_size 9 = .ok (.ireturn, 1) := dk_172 (dk_at dksX6_size_0 9 rfl rfl)
abbrev cX6_find : ByteArray := prog_14_method_6_code
def yX6_find : MethodName := ⟨RX6, "find", "(Ljava/lang/CharSequence;)I"⟩
def dkwX6_find_1 : List UInt8 := [153, 0, 5, 28, 172, 132, 2, 1, 167, 255, 226, 2, 172]
abbrev dktX6_find_1 : List UInt8 := dkwX6_find_1 ++ []
def dkwX6_find_0 : List UInt8 := [3, 61, 28, 42, 182, 0, 32, 162, 0, 28, 42, 28, 182, 0, 39, 185, 0, 42, 1, 0, 43, 184, 0, 46]
abbrev dktX6_find_0 : List UInt8 := dkwX6_find_0 ++ dktX6_find_1
theorem dksX6_find_0 : cX6_find.data.toList.drop 0 = dktX6_find_0 := by decide +kernel
theorem dksX6_find_1 : cX6_find.data.toList.drop 24 = dktX6_find_1 := dk_seg dksX6_find_0 24 rfl rfl
theorem dX6_find_0 : decode cX6_find 0 = .ok (.iconst 0, 1) := dk_3 (dk_at dksX6_find_0 0 rfl rfl)
theorem dX6_find_1 : decode cX6_find 1 = .ok (.istore_n 2, 1) := dk_61 (dk_at dksX6_find_0 1 rfl rfl)
theorem dX6_find_2 : decode cX6_find 2 = .ok (.iload_n 2, 1) := dk_28 (dk_at dksX6_find_0 2 rfl rfl)
theorem dX6_find_3 : decode cX6_find 3 = .ok (.aload_n 0, 1) := dk_42 (dk_at dksX6_find_0 3 rfl rfl)
theorem dX6_find_4 : decode cX6_find 4 = .ok (.invokevirtual 32, 3) := dk_182 0 32 (dk_at dksX6_find_0 4 rfl rfl)
theorem dX6_find_7 : decode cX6_find 7 = .ok (.if_icmp .ge 28, 3) := dk_162 0 28 (dk_at dksX6_find_0 7 rfl rfl)
theorem dX6_find_10 : decode cX6_find 10 = .ok (.aload_n 0, 1) := dk_42 (dk_at dksX6_find_0 10 rfl rfl)
theorem dX6_find_11 : decode cX6_find 11 = .ok (.iload_n 2, 1) := dk_28 (dk_at dksX6_find_0 11 rfl rfl)
theorem dX6_find_12 : decode cX6_find 12 = .ok (.invokevirtual 39, 3) := dk_182 0 39 (dk_at dksX6_find_0 12 rfl rfl)
theorem dX6_find_15 : decode cX6_find 15 = .ok (.invokeinterface 42 1, 5) := by decide +kernel
theorem dX6_find_20 : decode cX6_find 20 = .ok (.aload_n 1, 1) := dk_43 (dk_at dksX6_find_0 20 rfl rfl)
theorem dX6_find_21 : decode cX6_find 21 = .ok (.invokestatic 46, 3) := dk_184 0 46 (dk_at dksX6_find_0 21 rfl rfl)
theorem dX6_find_24 : decode cX6_find 24 = .ok (.ifCond .eq 5, 3) := dk_153 0 5 (dk_at dksX6_find_1 0 rfl rfl)
theorem dX6_find_27 : decode cX6_find 27 = .ok (.iload_n 2, 1) := dk_28 (dk_at dksX6_find_1 3 rfl rfl)
theorem dX6_find_28 : decode cX6_find 28 = .ok (.ireturn, 1) := dk_172 (dk_at dksX6_find_1 4 rfl rfl)
theorem dX6_find_29 : decode cX6_find 29 = .ok (.iinc 2 1, 3) := dk_132 2 1 (dk_at dksX6_find_1 5 rfl rfl)
theorem dX6_find_32 : decode cX6_find 32 = .ok (.goto (-30), 3) := dk_167 255 226 (dk_at dksX6_find_1 8 rfl rfl)
theorem dX6_find_35 : decode cX6_find 35 = .ok (.iconst (-1), 1) := dk_2 (dk_at dksX6_find_1 11 rfl rfl)
theorem dX6_find_36 : decode cX6_find 36 = .ok (.ireturn, 1) := dk_172 (dk_at dksX6_find_1 12 rfl rfl)
abbrev cX6_get : ByteArray := prog_14_method_5_code
def yX6_get : MethodName := ⟨RX6, "get", "(I)LFlareSlopes$Named;"⟩
def dkwX6_get_0 : List UInt8 := [42, 180, 0, 12, 27, 185, 0, 33, 2, 0, 192, 0, 37, 176]
abbrev dktX6_get_0 : List UInt8 := dkwX6_get_0 ++ []
theorem dksX6_get_0 : cX6_get.data.toList.drop 0 = dktX6_get_0 := by decide +kernel
theorem dX6_get_0 : decode cX6_get 0 = .ok (.aload_n 0, 1) := dk_42 (dk_at dksX6_get_0 0 rfl rfl)
theorem dX6_get_1 : decode cX6_get 1 = .ok (.getfield 12, 3) := dk_180 0 12 (dk_at dksX6_get_0 1 rfl rfl)
theorem dX6_get_4 : decode cX6_get 4 = .ok (.iload_n 1, 1) := dk_27 (dk_at dksX6_get_0 4 rfl rfl)
theorem dX6_get_5 : decode cX6_get 5 = .ok (.invokeinterface 33 2, 5) := by decide +kernel
theorem dX6_get_10 : decode cX6_get 10 = .ok (.checkcast 37, 3) := dk_192 0 37 (dk_at dksX6_get_0 10 rfl rfl)
theorem dX6_get_13 : decode cX6_get 13 = .ok (.areturn, 1) := dk_176 (dk_at dksX6_get_0 13 rfl rfl)
abbrev cX6_isSame : ByteArray := prog_14_method_7_code
def yX6_isSame : MethodName := ⟨RX6, "isSame", "(Ljava/lang/CharSequence;Ljava/lang/CharSequence;)Z"⟩
def dkwX6_isSame_2 : List UInt8 := [185, 0, 55, 2, 0, 160, 0, 7, 4, 167, 0, 4, 3, 61, 132, 3, 1, 167, 255, 216, 28, 172]
abbrev dktX6_isSame_2 : List UInt8 := dkwX6_isSame_2 ++ []
def dkwX6_isSame_1 : List UInt8 := [42, 185, 0, 50, 1, 0, 162, 0, 36, 28, 153, 0, 32, 42, 29, 185, 0, 55, 2, 0, 43, 29]
abbrev dktX6_isSame_1 : List UInt8 := dkwX6_isSame_1 ++ dktX6_isSame_2
def dkwX6_isSame_0 : List UInt8 := [42, 185, 0, 50, 1, 0, 43, 185, 0, 50, 1, 0, 160, 0, 7, 4, 167, 0, 4, 3, 61, 3, 62, 29]
abbrev dktX6_isSame_0 : List UInt8 := dkwX6_isSame_0 ++ dktX6_isSame_1
theorem dksX6_isSame_0 : cX6_isSame.data.toList.drop 0 = dktX6_isSame_0 := by decide +kernel
theorem dksX6_isSame_1 : cX6_isSame.data.toList.drop 24 = dktX6_isSame_1 := dk_seg dksX6_isSame_0 24 rfl rfl
theorem dksX6_isSame_2 : cX6_isSame.data.toList.drop 46 = dktX6_isSame_2 := dk_seg dksX6_isSame_1 22 rfl rfl
theorem dX6_isSame_0 : decode cX6_isSame 0 = .ok (.aload_n 0, 1) := dk_42 (dk_at dksX6_isSame_0 0 rfl rfl)
theorem dX6_isSame_1 : decode cX6_isSame 1 = .ok (.invokeinterface 50 1, 5) := by decide +kernel
theorem dX6_isSame_6 : decode cX6_isSame 6 = .ok (.aload_n 1, 1) := dk_43 (dk_at dksX6_isSame_0 6 rfl rfl)
theorem dX6_isSame_7 : decode cX6_isSame 7 = .ok (.invokeinterface 50 1, 5) := by decide +kernel
theorem dX6_isSame_12 : decode cX6_isSame 12 = .ok (.if_icmp .ne 7, 3) := dk_160 0 7 (dk_at dksX6_isSame_0 12 rfl rfl)
theorem dX6_isSame_15 : decode cX6_isSame 15 = .ok (.iconst 1, 1) := dk_4 (dk_at dksX6_isSame_0 15 rfl rfl)
theorem dX6_isSame_16 : decode cX6_isSame 16 = .ok (.goto 4, 3) := dk_167 0 4 (dk_at dksX6_isSame_0 16 rfl rfl)
theorem dX6_isSame_19 : decode cX6_isSame 19 = .ok (.iconst 0, 1) := dk_3 (dk_at dksX6_isSame_0 19 rfl rfl)
theorem dX6_isSame_20 : decode cX6_isSame 20 = .ok (.istore_n 2, 1) := dk_61 (dk_at dksX6_isSame_0 20 rfl rfl)
theorem dX6_isSame_21 : decode cX6_isSame 21 = .ok (.iconst 0, 1) := dk_3 (dk_at dksX6_isSame_0 21 rfl rfl)
theorem dX6_isSame_22 : decode cX6_isSame 22 = .ok (.istore_n 3, 1) := dk_62 (dk_at dksX6_isSame_0 22 rfl rfl)
theorem dX6_isSame_23 : decode cX6_isSame 23 = .ok (.iload_n 3, 1) := dk_29 (dk_at dksX6_isSame_0 23 rfl rfl)
theorem dX6_isSame_24 : decode cX6_isSame 24 = .ok (.aload_n 0, 1) := dk_42 (dk_at dksX6_isSame_1 0 rfl rfl)
theorem dX6_isSame_25 : decode cX6_isSame 25 = .ok (.invokeinterface 50 1, 5) := by decide +kernel
theorem dX6_isSame_30 : decode cX6_isSame 30 = .ok (.if_icmp .ge 36, 3) := dk_162 0 36 (dk_at dksX6_isSame_1 6 rfl rfl)
theorem dX6_isSame_33 : decode cX6_isSame 33 = .ok (.iload_n 2, 1) := dk_28 (dk_at dksX6_isSame_1 9 rfl rfl)
theorem dX6_isSame_34 : decode cX6_isSame 34 = .ok (.ifCond .eq 32, 3) := dk_153 0 32 (dk_at dksX6_isSame_1 10 rfl rfl)
theorem dX6_isSame_37 : decode cX6_isSame 37 = .ok (.aload_n 0, 1) := dk_42 (dk_at dksX6_isSame_1 13 rfl rfl)
theorem dX6_isSame_38 : decode cX6_isSame 38 = .ok (.iload_n 3, 1) := dk_29 (dk_at dksX6_isSame_1 14 rfl rfl)
theorem dX6_isSame_39 : decode cX6_isSame 39 = .ok (.invokeinterface 55 2, 5) := by decide +kernel
theorem dX6_isSame_44 : decode cX6_isSame 44 = .ok (.aload_n 1, 1) := dk_43 (dk_at dksX6_isSame_1 20 rfl rfl)
theorem dX6_isSame_45 : decode cX6_isSame 45 = .ok (.iload_n 3, 1) := dk_29 (dk_at dksX6_isSame_1 21 rfl rfl)
theorem dX6_isSame_46 : decode cX6_isSame 46 = .ok (.invokeinterface 55 2, 5) := by decide +kernel
theorem dX6_isSame_51 : decode cX6_isSame 51 = .ok (.if_icmp .ne 7, 3) := dk_160 0 7 (dk_at dksX6_isSame_2 5 rfl rfl)
theorem dX6_isSame_54 : decode cX6_isSame 54 = .ok (.iconst 1, 1) := dk_4 (dk_at dksX6_isSame_2 8 rfl rfl)
theorem dX6_isSame_55 : decode cX6_isSame 55 = .ok (.goto 4, 3) := dk_167 0 4 (dk_at dksX6_isSame_2 9 rfl rfl)
theorem dX6_isSame_58 : decode cX6_isSame 58 = .ok (.iconst 0, 1) := dk_3 (dk_at dksX6_isSame_2 12 rfl rfl)
theorem dX6_isSame_59 : decode cX6_isSame 59 = .ok (.istore_n 2, 1) := dk_61 (dk_at dksX6_isSame_2 13 rfl rfl)
theorem dX6_isSame_60 : decode cX6_isSame 60 = .ok (.iinc 3 1, 3) := dk_132 3 1 (dk_at dksX6_isSame_2 14 rfl rfl)
theorem dX6_isSame_63 : decode cX6_isSame 63 = .ok (.goto (-40), 3) := dk_167 255 216 (dk_at dksX6_isSame_2 17 rfl rfl)
theorem dX6_isSame_66 : decode cX6_isSame 66 = .ok (.iload_n 2, 1) := dk_28 (dk_at dksX6_isSame_2 20 rfl rfl)
theorem dX6_isSame_67 : decode cX6_isSame 67 = .ok (.ireturn, 1) := dk_172 (dk_at dksX6_isSame_2 21 rfl rfl)
abbrev cX6_add : ByteArray := prog_14_method_2_code
def yX6_add : MethodName := ⟨RX6, "add", "(LFlareSlopes$Named;)V"⟩
def dkwX6_add_0 : List UInt8 := [42, 180, 0, 12, 43, 185, 0, 22, 2, 0, 87, 177]
abbrev dktX6_add_0 : List UInt8 := dkwX6_add_0 ++ []
theorem dksX6_add_0 : cX6_add.data.toList.drop 0 = dktX6_add_0 := by decide +kernel
theorem dX6_add_0 : decode cX6_add 0 = .ok (.aload_n 0, 1) := dk_42 (dk_at dksX6_add_0 0 rfl rfl)
theorem dX6_add_1 : decode cX6_add 1 = .ok (.getfield 12, 3) := dk_180 0 12 (dk_at dksX6_add_0 1 rfl rfl)
theorem dX6_add_4 : decode cX6_add 4 = .ok (.aload_n 1, 1) := dk_43 (dk_at dksX6_add_0 4 rfl rfl)
theorem dX6_add_5 : decode cX6_add 5 = .ok (.invokeinterface 22 2, 5) := by decide +kernel
theorem dX6_add_10 : decode cX6_add 10 = .ok (.pop, 1) := dk_87 (dk_at dksX6_add_0 10 rfl rfl)
theorem dX6_add_11 : decode cX6_add 11 = .ok (.return_, 1) := dk_177 (dk_at dksX6_add_0 11 rfl rfl)
theorem q144 : (Jvm.Cond.initialized "FlareSlopes$Register") ∈ lw_all := lw_g (lw_at lw_m1 17 rfl) rfl
theorem q451 : (Jvm.Cond.instantiable "FlareSlopes$Register" (2 : Nat)) ∈ lw_all := lw_g (lw_at lw_m2 84 rfl) rfl
theorem q453 : (Jvm.Cond.instanceMethod ({ cls := "FlareSlopes$Register", name := "<init>", desc := "(I)V" } : Jvm.MethodName)) ∈ lw_all := lw_g (lw_at lw_m2 86 rfl) rfl
theorem q454 : (Jvm.Cond.code ({ cls := "FlareSlopes$Register", name := "<init>", desc := "(I)V" } : Jvm.MethodName) prog_14_method_1_code (2 : Nat) (Option.none : Option Jvm.ClassFile.FieldType)) ∈ lw_all := lw_g (lw_at lw_m2 87 rfl) rfl
theorem q455 : (Jvm.Cond.methodLink "FlareSlopes$Register" (3 : Nat) ({ cls := "java/lang/Object", name := "<init>", desc := "()V" } : Jvm.MethodName)) ∈ lw_all := lw_g (lw_at lw_m2 88 rfl) rfl
theorem q456 : (Jvm.Cond.classLink "FlareSlopes$Register" (9 : Nat) "java/util/ArrayList") ∈ lw_all := lw_g (lw_at lw_m2 89 rfl) rfl
theorem q458 : (Jvm.Cond.methodLink "FlareSlopes$Register" (11 : Nat) ({ cls := "java/util/ArrayList", name := "<init>", desc := "()V" } : Jvm.MethodName)) ∈ lw_all := lw_g (lw_at lw_m2 91 rfl) rfl
theorem q482 : (Jvm.Cond.fieldLink "FlareSlopes$Register" (12 : Nat) "FlareSlopes$Register" "all" "Ljava/util/List;") ∈ lw_all := lw_g (lw_at lw_m2 115 rfl) rfl
theorem q483 : (Jvm.Cond.fieldLink "FlareSlopes$Register" (18 : Nat) "FlareSlopes$Register" "most" "I") ∈ lw_all := lw_g (lw_at lw_m2 116 rfl) rfl
theorem q960 : (Jvm.Cond.instanceMethod ({ cls := "FlareSlopes$Register", name := "isFull", desc := "()Z" } : Jvm.MethodName)) ∈ lw_all := lw_g (lw_at lw_m4 113 rfl) rfl
theorem q961 : (Jvm.Cond.selects "FlareSlopes$Register" ({ cls := "FlareSlopes$Register", name := "isFull", desc := "()Z" } : Jvm.MethodName) ({ cls := "FlareSlopes$Register", name := "isFull", desc := "()Z" } : Jvm.MethodName)) ∈ lw_all := lw_g (lw_at lw_m4 114 rfl) rfl
theorem q962 : (Jvm.Cond.code ({ cls := "FlareSlopes$Register", name := "isFull", desc := "()Z" } : Jvm.MethodName) prog_14_method_4_code (1 : Nat) (Option.some Jvm.ClassFile.FieldType.boolean)) ∈ lw_all := lw_g (lw_at lw_m4 115 rfl) rfl
theorem q963 : (Jvm.Cond.methodLink "FlareSlopes$Register" (32 : Nat) ({ cls := "FlareSlopes$Register", name := "size", desc := "()I" } : Jvm.MethodName)) ∈ lw_all := lw_g (lw_at lw_m4 116 rfl) rfl
theorem q964 : (Jvm.Cond.instanceMethod ({ cls := "FlareSlopes$Register", name := "size", desc := "()I" } : Jvm.MethodName)) ∈ lw_all := lw_g (lw_at lw_m4 117 rfl) rfl
theorem q965 : (Jvm.Cond.selects "FlareSlopes$Register" ({ cls := "FlareSlopes$Register", name := "size", desc := "()I" } : Jvm.MethodName) ({ cls := "FlareSlopes$Register", name := "size", desc := "()I" } : Jvm.MethodName)) ∈ lw_all := lw_g (lw_at lw_m4 118 rfl) rfl
theorem q966 : (Jvm.Cond.code ({ cls := "FlareSlopes$Register", name := "size", desc := "()I" } : Jvm.MethodName) prog_14_method_3_code (1 : Nat) (Option.some Jvm.ClassFile.FieldType.int)) ∈ lw_all := lw_g (lw_at lw_m4 119 rfl) rfl
theorem q968 : (Jvm.Cond.methodLink "FlareSlopes$Register" (28 : Nat) ({ cls := "java/util/List", name := "size", desc := "()I" } : Jvm.MethodName)) ∈ lw_all := lw_g (lw_at lw_m4 121 rfl) rfl
theorem q982 : (Jvm.Cond.instanceMethod ({ cls := "FlareSlopes$Register", name := "find", desc := "(Ljava/lang/CharSequence;)I" } : Jvm.MethodName)) ∈ lw_all := lw_g (lw_at lw_m4 135 rfl) rfl
theorem q983 : (Jvm.Cond.selects "FlareSlopes$Register" ({ cls := "FlareSlopes$Register", name := "find", desc := "(Ljava/lang/CharSequence;)I" } : Jvm.MethodName) ({ cls := "FlareSlopes$Register", name := "find", desc := "(Ljava/lang/CharSequence;)I" } : Jvm.MethodName)) ∈ lw_all := lw_g (lw_at lw_m4 136 rfl) rfl
theorem q984 : (Jvm.Cond.code ({ cls := "FlareSlopes$Register", name := "find", desc := "(Ljava/lang/CharSequence;)I" } : Jvm.MethodName) prog_14_method_6_code (3 : Nat) (Option.some Jvm.ClassFile.FieldType.int)) ∈ lw_all := lw_g (lw_at lw_m4 137 rfl) rfl
theorem q985 : (Jvm.Cond.methodLink "FlareSlopes$Register" (39 : Nat) ({ cls := "FlareSlopes$Register", name := "get", desc := "(I)LFlareSlopes$Named;" } : Jvm.MethodName)) ∈ lw_all := lw_g (lw_at lw_m4 138 rfl) rfl
theorem q986 : (Jvm.Cond.instanceMethod ({ cls := "FlareSlopes$Register", name := "get", desc := "(I)LFlareSlopes$Named;" } : Jvm.MethodName)) ∈ lw_all := lw_g (lw_at lw_m4 139 rfl) rfl
theorem q987 : (Jvm.Cond.selects "FlareSlopes$Register" ({ cls := "FlareSlopes$Register", name := "get", desc := "(I)LFlareSlopes$Named;" } : Jvm.MethodName) ({ cls := "FlareSlopes$Register", name := "get", desc := "(I)LFlareSlopes$Named;" } : Jvm.MethodName)) ∈ lw_all := lw_g (lw_at lw_m4 140 rfl) rfl
theorem q988 : (Jvm.Cond.code ({ cls := "FlareSlopes$Register", name := "get", desc := "(I)LFlareSlopes$Named;" } : Jvm.MethodName) prog_14_method_5_code (2 : Nat) (Option.some (Jvm.ClassFile.FieldType.object "FlareSlopes$Named"))) ∈ lw_all := lw_g (lw_at lw_m4 141 rfl) rfl
theorem q990 : (Jvm.Cond.methodLink "FlareSlopes$Register" (33 : Nat) ({ cls := "java/util/List", name := "get", desc := "(I)Ljava/lang/Object;" } : Jvm.MethodName)) ∈ lw_all := lw_g (lw_at lw_m4 143 rfl) rfl
theorem q1006 : (Jvm.Cond.classLink "FlareSlopes$Register" (37 : Nat) "FlareSlopes$Named") ∈ lw_all := lw_g (lw_at lw_m4 159 rfl) rfl
theorem q1008 : (Jvm.Cond.methodLink "FlareSlopes$Register" (42 : Nat) ({ cls := "FlareSlopes$Named", name := "name", desc := "()Ljava/lang/CharSequence;" } : Jvm.MethodName)) ∈ lw_all := lw_g (lw_at lw_m4 161 rfl) rfl
theorem q1017 : (Jvm.Cond.methodLink "FlareSlopes$Register" (46 : Nat) ({ cls := "FlareSlopes$Register", name := "isSame", desc := "(Ljava/lang/CharSequence;Ljava/lang/CharSequence;)Z" } : Jvm.MethodName)) ∈ lw_all := lw_g (lw_at lw_m4 170 rfl) rfl
theorem q1018 : (Jvm.Cond.static ({ cls := "FlareSlopes$Register", name := "isSame", desc := "(Ljava/lang/CharSequence;Ljava/lang/CharSequence;)Z" } : Jvm.MethodName)) ∈ lw_all := lw_g (lw_at lw_m4 171 rfl) rfl
theorem q1019 : (Jvm.Cond.code ({ cls := "FlareSlopes$Register", name := "isSame", desc := "(Ljava/lang/CharSequence;Ljava/lang/CharSequence;)Z" } : Jvm.MethodName) prog_14_method_7_code (4 : Nat) (Option.some Jvm.ClassFile.FieldType.boolean)) ∈ lw_all := lw_g (lw_at lw_m4 172 rfl) rfl
theorem q1021 : (Jvm.Cond.methodLink "FlareSlopes$Register" (50 : Nat) ({ cls := "java/lang/CharSequence", name := "length", desc := "()I" } : Jvm.MethodName)) ∈ lw_all := lw_g (lw_at lw_m4 174 rfl) rfl
theorem q1033 : (Jvm.Cond.methodLink "FlareSlopes$Register" (55 : Nat) ({ cls := "java/lang/CharSequence", name := "charAt", desc := "(I)C" } : Jvm.MethodName)) ∈ lw_all := lw_g (lw_at lw_m4 186 rfl) rfl
theorem q1090 : (Jvm.Cond.instanceMethod ({ cls := "FlareSlopes$Register", name := "add", desc := "(LFlareSlopes$Named;)V" } : Jvm.MethodName)) ∈ lw_all := lw_g (lw_at lw_m5 3 rfl) rfl
theorem q1091 : (Jvm.Cond.selects "FlareSlopes$Register" ({ cls := "FlareSlopes$Register", name := "add", desc := "(LFlareSlopes$Named;)V" } : Jvm.MethodName) ({ cls := "FlareSlopes$Register", name := "add", desc := "(LFlareSlopes$Named;)V" } : Jvm.MethodName)) ∈ lw_all := lw_g (lw_at lw_m5 4 rfl) rfl
theorem q1092 : (Jvm.Cond.code ({ cls := "FlareSlopes$Register", name := "add", desc := "(LFlareSlopes$Named;)V" } : Jvm.MethodName) prog_14_method_2_code (2 : Nat) (Option.none : Option Jvm.ClassFile.FieldType)) ∈ lw_all := lw_g (lw_at lw_m5 5 rfl) rfl
theorem q1094 : (Jvm.Cond.methodLink "FlareSlopes$Register" (22 : Nat) ({ cls := "java/util/List", name := "add", desc := "(Ljava/lang/Object;)Z" } : Jvm.MethodName)) ∈ lw_all := lw_g (lw_at lw_m5 7 rfl) rfl
theorem q4678 : (Jvm.Cond.castable "FlareSlopes$Register" "java/lang/Object") ∈ lw_tbl := lw_at lw_m19 231 rfl
theorem in_X6 : ∀ w ∈ wsX60, w ∈ lw_all := lw_in wsX60 [484, 486] (by decide +kernel) (by decide +kernel)
/-! X7.FlareSlopes_Key.lean.txt -/
def RX7 : String := "FlareSlopes$Key"
def TX7 : u_T := fun k => match k with
  | 0 => ("FlareSlopes$Key", "cabin", "I", true)
  | _ => ("FlareSlopes$Key", "slope", "I", true)
def tyX7 : Nat → FieldType := fun k => match k with
  | 0 => .int
  | _ => .int
abbrev wsX70 : List Cond := u_ws RX7 TX7 2
theorem nmX7 : ∀ a, a < 2 → ∀ b, b < 2 → a ≠ b → (TX7 a).2.1 ≠ (TX7 b).2.1 := by decide +kernel
theorem tyX7_ok : ∀ k, k < 2 → parseFieldDescriptor (TX7 k).2.2.1 = some (tyX7 k) := by decide +kernel
abbrev cX7_init : ByteArray := prog_9_method_1_code
def yX7_init : MethodName := ⟨RX7, "<init>", "(II)V"⟩
def dkwX7_init_0 : List UInt8 := [42, 183, 0, 3, 42, 27, 181, 0, 9, 42, 28, 181, 0, 15, 177]
abbrev dktX7_init_0 : List UInt8 := dkwX7_init_0 ++ []
theorem dksX7_init_0 : cX7_init.data.toList.drop 0 = dktX7_init_0 := by decide +kernel
theorem dX7_init_0 : decode cX7_init 0 = .ok (.aload_n 0, 1) := dk_42 (dk_at dksX7_init_0 0 rfl rfl)
theorem dX7_init_1 : decode cX7_init 1 = .ok (.invokespecial 3, 3) := dk_183 0 3 (dk_at dksX7_init_0 1 rfl rfl)
theorem dX7_init_4 : decode cX7_init 4 = .ok (.aload_n 0, 1) := dk_42 (dk_at dksX7_init_0 4 rfl rfl)
theorem dX7_init_5 : decode cX7_init 5 = .ok (.iload_n 1, 1) := dk_27 (dk_at dksX7_init_0 5 rfl rfl)
theorem dX7_init_6 : decode cX7_init 6 = .ok (.putfield 9, 3) := dk_181 0 9 (dk_at dksX7_init_0 6 rfl rfl)
theorem dX7_init_9 : decode cX7_init 9 = .ok (.aload_n 0, 1) := dk_42 (dk_at dksX7_init_0 9 rfl rfl)
theorem dX7_init_10 : decode cX7_init 10 = .ok (.iload_n 2, 1) := dk_28 (dk_at dksX7_init_0 10 rfl rfl)
theorem dX7_init_11 : decode cX7_init 11 = .ok (.putfield 15, 3) := dk_181 0 15 (dk_at dksX7_init_0 11 rfl rfl)
theorem dX7_init_14 : decode cX7_init 14 = .ok (.return_, 1) := dk_177 (dk_at dksX7_init_0 14 rfl rfl)
abbrev cX7_hashCode : ByteArray := prog_9_method_3_code
def yX7_hashCode : MethodName := ⟨RX7, "hashCode", "()I"⟩
def dkwX7_hashCode_0 : List UInt8 := [16, 8, 42, 180, 0, 9, 104, 42, 180, 0, 15, 96, 172]
abbrev dktX7_hashCode_0 : List UInt8 := dkwX7_hashCode_0 ++ []
theorem dksX7_hashCode_0 : cX7_hashCode.data.toList.drop 0 = dktX7_hashCode_0 := by decide +kernel
theorem dX7_hashCode_0 : decode cX7_hashCode 0 = .ok (.bipush 8, 2) := dk_16 8 (dk_at dksX7_hashCode_0 0 rfl rfl)
theorem dX7_hashCode_2 : decode cX7_hashCode 2 = .ok (.aload_n 0, 1) := dk_42 (dk_at dksX7_hashCode_0 2 rfl rfl)
theorem dX7_hashCode_3 : decode cX7_hashCode 3 = .ok (.getfield 9, 3) := dk_180 0 9 (dk_at dksX7_hashCode_0 3 rfl rfl)
theorem dX7_hashCode_6 : decode cX7_hashCode 6 = .ok (.imul, 1) := dk_104 (dk_at dksX7_hashCode_0 6 rfl rfl)
theorem dX7_hashCode_7 : decode cX7_hashCode 7 = .ok (.aload_n 0, 1) := dk_42 (dk_at dksX7_hashCode_0 7 rfl rfl)
theorem dX7_hashCode_8 : decode cX7_hashCode 8 = .ok (.getfield 15, 3) := dk_180 0 15 (dk_at dksX7_hashCode_0 8 rfl rfl)
theorem dX7_hashCode_11 : decode cX7_hashCode 11 = .ok (.iadd, 1) := dk_96 (dk_at dksX7_hashCode_0 11 rfl rfl)
theorem dX7_hashCode_12 : decode cX7_hashCode 12 = .ok (.ireturn, 1) := dk_172 (dk_at dksX7_hashCode_0 12 rfl rfl)
abbrev cX7_equals : ByteArray := prog_9_method_2_code
def yX7_equals : MethodName := ⟨RX7, "equals", "(Ljava/lang/Object;)Z"⟩
def dkwX7_equals_1 : List UInt8 := [180, 0, 15, 42, 180, 0, 15, 160, 0, 7, 4, 167, 0, 4, 3, 172]
abbrev dktX7_equals_1 : List UInt8 := dkwX7_equals_1 ++ []
def dkwX7_equals_0 : List UInt8 := [43, 193, 0, 10, 153, 0, 34, 43, 192, 0, 10, 77, 44, 180, 0, 9, 42, 180, 0, 9, 160, 0, 18, 44]
abbrev dktX7_equals_0 : List UInt8 := dkwX7_equals_0 ++ dktX7_equals_1
theorem dksX7_equals_0 : cX7_equals.data.toList.drop 0 = dktX7_equals_0 := by decide +kernel
theorem dksX7_equals_1 : cX7_equals.data.toList.drop 24 = dktX7_equals_1 := dk_seg dksX7_equals_0 24 rfl rfl
theorem dX7_equals_0 : decode cX7_equals 0 = .ok (.aload_n 1, 1) := dk_43 (dk_at dksX7_equals_0 0 rfl rfl)
theorem dX7_equals_1 : decode cX7_equals 1 = .ok (.instanceof 10, 3) := dk_193 0 10 (dk_at dksX7_equals_0 1 rfl rfl)
theorem dX7_equals_4 : decode cX7_equals 4 = .ok (.ifCond .eq 34, 3) := dk_153 0 34 (dk_at dksX7_equals_0 4 rfl rfl)
theorem dX7_equals_7 : decode cX7_equals 7 = .ok (.aload_n 1, 1) := dk_43 (dk_at dksX7_equals_0 7 rfl rfl)
theorem dX7_equals_8 : decode cX7_equals 8 = .ok (.checkcast 10, 3) := dk_192 0 10 (dk_at dksX7_equals_0 8 rfl rfl)
theorem dX7_equals_11 : decode cX7_equals 11 = .ok (.astore_n 2, 1) := dk_77 (dk_at dksX7_equals_0 11 rfl rfl)
theorem dX7_equals_12 : decode cX7_equals 12 = .ok (.aload_n 2, 1) := dk_44 (dk_at dksX7_equals_0 12 rfl rfl)
theorem dX7_equals_13 : decode cX7_equals 13 = .ok (.getfield 9, 3) := dk_180 0 9 (dk_at dksX7_equals_0 13 rfl rfl)
theorem dX7_equals_16 : decode cX7_equals 16 = .ok (.aload_n 0, 1) := dk_42 (dk_at dksX7_equals_0 16 rfl rfl)
theorem dX7_equals_17 : decode cX7_equals 17 = .ok (.getfield 9, 3) := dk_180 0 9 (dk_at dksX7_equals_0 17 rfl rfl)
theorem dX7_equals_20 : decode cX7_equals 20 = .ok (.if_icmp .ne 18, 3) := dk_160 0 18 (dk_at dksX7_equals_0 20 rfl rfl)
theorem dX7_equals_23 : decode cX7_equals 23 = .ok (.aload_n 2, 1) := dk_44 (dk_at dksX7_equals_0 23 rfl rfl)
theorem dX7_equals_24 : decode cX7_equals 24 = .ok (.getfield 15, 3) := dk_180 0 15 (dk_at dksX7_equals_1 0 rfl rfl)
theorem dX7_equals_27 : decode cX7_equals 27 = .ok (.aload_n 0, 1) := dk_42 (dk_at dksX7_equals_1 3 rfl rfl)
theorem dX7_equals_28 : decode cX7_equals 28 = .ok (.getfield 15, 3) := dk_180 0 15 (dk_at dksX7_equals_1 4 rfl rfl)
theorem dX7_equals_31 : decode cX7_equals 31 = .ok (.if_icmp .ne 7, 3) := dk_160 0 7 (dk_at dksX7_equals_1 7 rfl rfl)
theorem dX7_equals_34 : decode cX7_equals 34 = .ok (.iconst 1, 1) := dk_4 (dk_at dksX7_equals_1 10 rfl rfl)
theorem dX7_equals_35 : decode cX7_equals 35 = .ok (.goto 4, 3) := dk_167 0 4 (dk_at dksX7_equals_1 11 rfl rfl)
theorem dX7_equals_38 : decode cX7_equals 38 = .ok (.iconst 0, 1) := dk_3 (dk_at dksX7_equals_1 14 rfl rfl)
theorem dX7_equals_39 : decode cX7_equals 39 = .ok (.ireturn, 1) := dk_172 (dk_at dksX7_equals_1 15 rfl rfl)
theorem q147 : (Jvm.Cond.initialized "FlareSlopes$Key") ∈ lw_all := lw_g (lw_at lw_m1 20 rfl) rfl
theorem q493 : (Jvm.Cond.instantiable "FlareSlopes$Key" (2 : Nat)) ∈ lw_all := lw_g (lw_at lw_m2 126 rfl) rfl
theorem q495 : (Jvm.Cond.instanceMethod ({ cls := "FlareSlopes$Key", name := "<init>", desc := "(II)V" } : Jvm.MethodName)) ∈ lw_all := lw_g (lw_at lw_m2 128 rfl) rfl
theorem q496 : (Jvm.Cond.code ({ cls := "FlareSlopes$Key", name := "<init>", desc := "(II)V" } : Jvm.MethodName) prog_9_method_1_code (3 : Nat) (Option.none : Option Jvm.ClassFile.FieldType)) ∈ lw_all := lw_g (lw_at lw_m2 129 rfl) rfl
theorem q497 : (Jvm.Cond.methodLink "FlareSlopes$Key" (3 : Nat) ({ cls := "java/lang/Object", name := "<init>", desc := "()V" } : Jvm.MethodName)) ∈ lw_all := lw_g (lw_at lw_m2 130 rfl) rfl
theorem q498 : (Jvm.Cond.fieldLink "FlareSlopes$Key" (9 : Nat) "FlareSlopes$Key" "cabin" "I") ∈ lw_all := lw_g (lw_at lw_m2 131 rfl) rfl
theorem q499 : (Jvm.Cond.fieldLink "FlareSlopes$Key" (15 : Nat) "FlareSlopes$Key" "slope" "I") ∈ lw_all := lw_g (lw_at lw_m2 132 rfl) rfl
theorem q2027 : (Jvm.Cond.selects "FlareSlopes$Key" ({ cls := "java/lang/Object", name := "hashCode", desc := "()I" } : Jvm.MethodName) ({ cls := "FlareSlopes$Key", name := "hashCode", desc := "()I" } : Jvm.MethodName)) ∈ lw_all := lw_g (lw_at lw_m8 220 rfl) rfl
theorem q2028 : (Jvm.Cond.instanceMethod ({ cls := "FlareSlopes$Key", name := "hashCode", desc := "()I" } : Jvm.MethodName)) ∈ lw_all := lw_g (lw_at lw_m8 221 rfl) rfl
theorem q2029 : (Jvm.Cond.code ({ cls := "FlareSlopes$Key", name := "hashCode", desc := "()I" } : Jvm.MethodName) prog_9_method_3_code (1 : Nat) (Option.some Jvm.ClassFile.FieldType.int)) ∈ lw_all := lw_g (lw_at lw_m8 222 rfl) rfl
theorem q2067 : (Jvm.Cond.selects "FlareSlopes$Key" ({ cls := "java/lang/Object", name := "equals", desc := "(Ljava/lang/Object;)Z" } : Jvm.MethodName) ({ cls := "FlareSlopes$Key", name := "equals", desc := "(Ljava/lang/Object;)Z" } : Jvm.MethodName)) ∈ lw_all := lw_g (lw_at lw_m9 20 rfl) rfl
theorem q2068 : (Jvm.Cond.instanceMethod ({ cls := "FlareSlopes$Key", name := "equals", desc := "(Ljava/lang/Object;)Z" } : Jvm.MethodName)) ∈ lw_all := lw_g (lw_at lw_m9 21 rfl) rfl
theorem q2069 : (Jvm.Cond.code ({ cls := "FlareSlopes$Key", name := "equals", desc := "(Ljava/lang/Object;)Z" } : Jvm.MethodName) prog_9_method_2_code (3 : Nat) (Option.some Jvm.ClassFile.FieldType.boolean)) ∈ lw_all := lw_g (lw_at lw_m9 22 rfl) rfl
theorem q2070 : (Jvm.Cond.classLink "FlareSlopes$Key" (10 : Nat) "FlareSlopes$Key") ∈ lw_all := lw_g (lw_at lw_m9 23 rfl) rfl
theorem q4668 : (Jvm.Cond.castable "FlareSlopes$Key" "java/lang/Object") ∈ lw_tbl := lw_at lw_m19 221 rfl
theorem in_X7 : ∀ w ∈ wsX70, w ∈ lw_all := lw_in wsX70 [501, 503] (by decide +kernel) (by decide +kernel)
/-! X8.FlareSlopes_Flaw.lean.txt -/
def RX8 : String := "FlareSlopes$Flaw"
def TX8 : u_T := fun k => match k with
  | 0 => ("java/lang/Throwable", "cause", "Ljava/lang/Throwable;", false)
  | 1 => ("java/lang/Throwable", "stackTrace", "[Ljava/lang/StackTraceElement;", false)
  | 2 => ("java/lang/Throwable", "suppressedExceptions", "Ljava/util/List;", false)
  | 3 => ("java/lang/Throwable", "detailMessage", "Ljava/lang/String;", false)
  | 4 => ("java/lang/Throwable", "backtrace", "Ljava/lang/Object;", false)
  | 5 => ("java/lang/Throwable", "depth", "I", false)
  | 6 => ("FlareSlopes$Flaw", "code", "I", true)
  | _ => ("FlareSlopes$Flaw", "position", "I", true)
def tyX8 : Nat → FieldType := fun k => match k with
  | 0 => .object "java/lang/Throwable"
  | 1 => .array (.object "java/lang/StackTraceElement")
  | 2 => .object "java/util/List"
  | 3 => .object "java/lang/String"
  | 4 => .object "java/lang/Object"
  | 5 => .int
  | 6 => .int
  | _ => .int
abbrev wsX80 : List Cond := u_ws RX8 TX8 8
theorem nmX8 : ∀ a, a < 8 → ∀ b, b < 8 → a ≠ b → (TX8 a).2.1 ≠ (TX8 b).2.1 := by decide +kernel
theorem tyX8_ok : ∀ k, k < 8 → parseFieldDescriptor (TX8 k).2.2.1 = some (tyX8 k) := by decide +kernel
abbrev cX8_init : ByteArray := prog_6_method_1_code
def yX8_init : MethodName := ⟨RX8, "<init>", "(II)V"⟩
def dkwX8_init_0 : List UInt8 := [42, 1, 1, 3, 3, 183, 0, 1, 42, 27, 181, 0, 7, 42, 28, 181, 0, 13, 177]
abbrev dktX8_init_0 : List UInt8 := dkwX8_init_0 ++ []
theorem dksX8_init_0 : cX8_init.data.toList.drop 0 = dktX8_init_0 := by decide +kernel
theorem dX8_init_0 : decode cX8_init 0 = .ok (.aload_n 0, 1) := dk_42 (dk_at dksX8_init_0 0 rfl rfl)
theorem dX8_init_1 : decode cX8_init 1 = .ok (.aconst_null, 1) := dk_1 (dk_at dksX8_init_0 1 rfl rfl)
theorem dX8_init_2 : decode cX8_init 2 = .ok (.aconst_null, 1) := dk_1 (dk_at dksX8_init_0 2 rfl rfl)
theorem dX8_init_3 : decode cX8_init 3 = .ok (.iconst 0, 1) := dk_3 (dk_at dksX8_init_0 3 rfl rfl)
theorem dX8_init_4 : decode cX8_init 4 = .ok (.iconst 0, 1) := dk_3 (dk_at dksX8_init_0 4 rfl rfl)
theorem dX8_init_5 : decode cX8_init 5 = .ok (.invokespecial 1, 3) := dk_183 0 1 (dk_at dksX8_init_0 5 rfl rfl)
theorem dX8_init_8 : decode cX8_init 8 = .ok (.aload_n 0, 1) := dk_42 (dk_at dksX8_init_0 8 rfl rfl)
theorem dX8_init_9 : decode cX8_init 9 = .ok (.iload_n 1, 1) := dk_27 (dk_at dksX8_init_0 9 rfl rfl)
theorem dX8_init_10 : decode cX8_init 10 = .ok (.putfield 7, 3) := dk_181 0 7 (dk_at dksX8_init_0 10 rfl rfl)
theorem dX8_init_13 : decode cX8_init 13 = .ok (.aload_n 0, 1) := dk_42 (dk_at dksX8_init_0 13 rfl rfl)
theorem dX8_init_14 : decode cX8_init 14 = .ok (.iload_n 2, 1) := dk_28 (dk_at dksX8_init_0 14 rfl rfl)
theorem dX8_init_15 : decode cX8_init 15 = .ok (.putfield 13, 3) := dk_181 0 13 (dk_at dksX8_init_0 15 rfl rfl)
theorem dX8_init_18 : decode cX8_init 18 = .ok (.return_, 1) := dk_177 (dk_at dksX8_init_0 18 rfl rfl)
theorem q148 : (Jvm.Cond.initialized "FlareSlopes$Flaw") ∈ lw_all := lw_g (lw_at lw_m1 21 rfl) rfl
theorem q590 : (Jvm.Cond.instantiable "FlareSlopes$Flaw" (8 : Nat)) ∈ lw_all := lw_g (lw_at lw_m2 223 rfl) rfl
theorem q591 : (Jvm.Cond.castable "FlareSlopes$Flaw" "FlareSlopes$Flaw") ∈ lw_tbl := lw_at lw_m2 224 rfl
theorem q599 : (Jvm.Cond.instanceMethod ({ cls := "FlareSlopes$Flaw", name := "<init>", desc := "(II)V" } : Jvm.MethodName)) ∈ lw_all := lw_g (lw_at lw_m2 232 rfl) rfl
theorem q600 : (Jvm.Cond.code ({ cls := "FlareSlopes$Flaw", name := "<init>", desc := "(II)V" } : Jvm.MethodName) prog_6_method_1_code (3 : Nat) (Option.none : Option Jvm.ClassFile.FieldType)) ∈ lw_all := lw_g (lw_at lw_m2 233 rfl) rfl
theorem q601 : (Jvm.Cond.methodLink "FlareSlopes$Flaw" (1 : Nat) ({ cls := "java/lang/Exception", name := "<init>", desc := "(Ljava/lang/String;Ljava/lang/Throwable;ZZ)V" } : Jvm.MethodName)) ∈ lw_all := lw_g (lw_at lw_m2 234 rfl) rfl
theorem q607 : (Jvm.Cond.fieldLink "FlareSlopes$Flaw" (7 : Nat) "FlareSlopes$Flaw" "code" "I") ∈ lw_all := lw_g (lw_at lw_m3 0 rfl) rfl
theorem q609 : (Jvm.Cond.fieldLink "FlareSlopes$Flaw" (13 : Nat) "FlareSlopes$Flaw" "position" "I") ∈ lw_all := lw_g (lw_at lw_m3 2 rfl) rfl
theorem q4680 : (Jvm.Cond.castable "FlareSlopes$Flaw" "java/lang/Object") ∈ lw_tbl := lw_at lw_m19 233 rfl
theorem in_X8 : ∀ w ∈ wsX80, w ∈ lw_all := lw_in wsX80 [593, 594, 595, 596, 597, 615, 611, 613] (by decide +kernel) (by decide +kernel)
/-! X9.FlareSlopes_Spot.lean.txt -/
def RX9 : String := "FlareSlopes$Spot"
def TX9 : u_T := fun k => match k with
  | 0 => ("FlareSlopes$Spot", "name", "Ljava/lang/String;", true)
  | 1 => ("FlareSlopes$Spot", "x", "I", true)
  | 2 => ("FlareSlopes$Spot", "y", "I", true)
  | 3 => ("FlareSlopes$Spot", "high", "I", true)
  | _ => ("FlareSlopes$Spot", "flares", "I", true)
def tyX9 : Nat → FieldType := fun k => match k with
  | 0 => .object "java/lang/String"
  | 1 => .int
  | 2 => .int
  | 3 => .int
  | _ => .int
abbrev wsX90 : List Cond := u_ws RX9 TX9 5
theorem nmX9 : ∀ a, a < 5 → ∀ b, b < 5 → a ≠ b → (TX9 a).2.1 ≠ (TX9 b).2.1 := by decide +kernel
theorem tyX9_ok : ∀ k, k < 5 → parseFieldDescriptor (TX9 k).2.2.1 = some (tyX9 k) := by decide +kernel
abbrev cX9_name : ByteArray := prog_16_method_2_code
def yX9_name : MethodName := ⟨RX9, "name", "()Ljava/lang/CharSequence;"⟩
theorem dX9_name_0 : decode cX9_name 0 = .ok (.aload_n 0, 1) := by decide +kernel
theorem dX9_name_1 : decode cX9_name 1 = .ok (.getfield 7, 3) := by decide +kernel
theorem dX9_name_4 : decode cX9_name 4 = .ok (.areturn, 1) := by decide +kernel
abbrev cX9_init : ByteArray := prog_16_method_1_code
def yX9_init : MethodName := ⟨RX9, "<init>", "(Ljava/lang/String;IIII)V"⟩
def dkwX9_init_1 : List UInt8 := [181, 0, 20, 42, 21, 5, 181, 0, 23, 177]
abbrev dktX9_init_1 : List UInt8 := dkwX9_init_1 ++ []
def dkwX9_init_0 : List UInt8 := [42, 183, 0, 1, 42, 43, 181, 0, 7, 42, 28, 181, 0, 13, 42, 29, 181, 0, 17, 42, 21, 4]
abbrev dktX9_init_0 : List UInt8 := dkwX9_init_0 ++ dktX9_init_1
theorem dksX9_init_0 : cX9_init.data.toList.drop 0 = dktX9_init_0 := by decide +kernel
theorem dksX9_init_1 : cX9_init.data.toList.drop 22 = dktX9_init_1 := dk_seg dksX9_init_0 22 rfl rfl
theorem dX9_init_0 : decode cX9_init 0 = .ok (.aload_n 0, 1) := dk_42 (dk_at dksX9_init_0 0 rfl rfl)
theorem dX9_init_1 : decode cX9_init 1 = .ok (.invokespecial 1, 3) := dk_183 0 1 (dk_at dksX9_init_0 1 rfl rfl)
theorem dX9_init_4 : decode cX9_init 4 = .ok (.aload_n 0, 1) := dk_42 (dk_at dksX9_init_0 4 rfl rfl)
theorem dX9_init_5 : decode cX9_init 5 = .ok (.aload_n 1, 1) := dk_43 (dk_at dksX9_init_0 5 rfl rfl)
theorem dX9_init_6 : decode cX9_init 6 = .ok (.putfield 7, 3) := dk_181 0 7 (dk_at dksX9_init_0 6 rfl rfl)
theorem dX9_init_9 : decode cX9_init 9 = .ok (.aload_n 0, 1) := dk_42 (dk_at dksX9_init_0 9 rfl rfl)
theorem dX9_init_10 : decode cX9_init 10 = .ok (.iload_n 2, 1) := dk_28 (dk_at dksX9_init_0 10 rfl rfl)
theorem dX9_init_11 : decode cX9_init 11 = .ok (.putfield 13, 3) := dk_181 0 13 (dk_at dksX9_init_0 11 rfl rfl)
theorem dX9_init_14 : decode cX9_init 14 = .ok (.aload_n 0, 1) := dk_42 (dk_at dksX9_init_0 14 rfl rfl)
theorem dX9_init_15 : decode cX9_init 15 = .ok (.iload_n 3, 1) := dk_29 (dk_at dksX9_init_0 15 rfl rfl)
theorem dX9_init_16 : decode cX9_init 16 = .ok (.putfield 17, 3) := dk_181 0 17 (dk_at dksX9_init_0 16 rfl rfl)
theorem dX9_init_19 : decode cX9_init 19 = .ok (.aload_n 0, 1) := dk_42 (dk_at dksX9_init_0 19 rfl rfl)
theorem dX9_init_20 : decode cX9_init 20 = .ok (.iload 4, 2) := dk_21 4 (dk_at dksX9_init_0 20 rfl rfl)
theorem dX9_init_22 : decode cX9_init 22 = .ok (.putfield 20, 3) := dk_181 0 20 (dk_at dksX9_init_1 0 rfl rfl)
theorem dX9_init_25 : decode cX9_init 25 = .ok (.aload_n 0, 1) := dk_42 (dk_at dksX9_init_1 3 rfl rfl)
theorem dX9_init_26 : decode cX9_init 26 = .ok (.iload 5, 2) := dk_21 5 (dk_at dksX9_init_1 4 rfl rfl)
theorem dX9_init_28 : decode cX9_init 28 = .ok (.putfield 23, 3) := dk_181 0 23 (dk_at dksX9_init_1 6 rfl rfl)
theorem dX9_init_31 : decode cX9_init 31 = .ok (.return_, 1) := dk_177 (dk_at dksX9_init_1 9 rfl rfl)
abbrev cX9_x : ByteArray := prog_16_method_3_code
def yX9_x : MethodName := ⟨RX9, "x", "()I"⟩
theorem dX9_x_0 : decode cX9_x 0 = .ok (.aload_n 0, 1) := by decide +kernel
theorem dX9_x_1 : decode cX9_x 1 = .ok (.getfield 13, 3) := by decide +kernel
theorem dX9_x_4 : decode cX9_x 4 = .ok (.ireturn, 1) := by decide +kernel
abbrev cX9_y : ByteArray := prog_16_method_4_code
def yX9_y : MethodName := ⟨RX9, "y", "()I"⟩
theorem dX9_y_0 : decode cX9_y 0 = .ok (.aload_n 0, 1) := by decide +kernel
theorem dX9_y_1 : decode cX9_y 1 = .ok (.getfield 17, 3) := by decide +kernel
theorem dX9_y_4 : decode cX9_y 4 = .ok (.ireturn, 1) := by decide +kernel
abbrev cX9_high : ByteArray := prog_16_method_5_code
def yX9_high : MethodName := ⟨RX9, "high", "()I"⟩
theorem dX9_high_0 : decode cX9_high 0 = .ok (.aload_n 0, 1) := by decide +kernel
theorem dX9_high_1 : decode cX9_high 1 = .ok (.getfield 20, 3) := by decide +kernel
theorem dX9_high_4 : decode cX9_high 4 = .ok (.ireturn, 1) := by decide +kernel
theorem q159 : (Jvm.Cond.initialized "FlareSlopes$Spot") ∈ lw_all := lw_g (lw_at lw_m1 32 rfl) rfl
theorem q1011 : (Jvm.Cond.castable "FlareSlopes$Spot" "FlareSlopes$Named") ∈ lw_tbl := lw_at lw_m4 164 rfl
theorem q1012 : (Jvm.Cond.selects "FlareSlopes$Spot" ({ cls := "FlareSlopes$Named", name := "name", desc := "()Ljava/lang/CharSequence;" } : Jvm.MethodName) ({ cls := "FlareSlopes$Spot", name := "name", desc := "()Ljava/lang/CharSequence;" } : Jvm.MethodName)) ∈ lw_all := lw_g (lw_at lw_m4 165 rfl) rfl
theorem q1013 : (Jvm.Cond.unhidden "FlareSlopes$Spot" "name" "()Ljava/lang/CharSequence;") ∈ lw_tbl := lw_at lw_m4 166 rfl
theorem q1014 : (Jvm.Cond.instanceMethod ({ cls := "FlareSlopes$Spot", name := "name", desc := "()Ljava/lang/CharSequence;" } : Jvm.MethodName)) ∈ lw_all := lw_g (lw_at lw_m4 167 rfl) rfl
theorem q1015 : (Jvm.Cond.publicMethod ({ cls := "FlareSlopes$Spot", name := "name", desc := "()Ljava/lang/CharSequence;" } : Jvm.MethodName)) ∈ lw_tbl := lw_at lw_m4 168 rfl
theorem q1016 : (Jvm.Cond.code ({ cls := "FlareSlopes$Spot", name := "name", desc := "()Ljava/lang/CharSequence;" } : Jvm.MethodName) prog_16_method_2_code (1 : Nat) (Option.some (Jvm.ClassFile.FieldType.object "java/lang/CharSequence"))) ∈ lw_all := lw_g (lw_at lw_m4 169 rfl) rfl
theorem q1060 : (Jvm.Cond.instantiable "FlareSlopes$Spot" (5 : Nat)) ∈ lw_all := lw_g (lw_at lw_m4 213 rfl) rfl
theorem q1062 : (Jvm.Cond.instanceMethod ({ cls := "FlareSlopes$Spot", name := "<init>", desc := "(Ljava/lang/String;IIII)V" } : Jvm.MethodName)) ∈ lw_all := lw_g (lw_at lw_m4 215 rfl) rfl
theorem q1063 : (Jvm.Cond.code ({ cls := "FlareSlopes$Spot", name := "<init>", desc := "(Ljava/lang/String;IIII)V" } : Jvm.MethodName) prog_16_method_1_code (6 : Nat) (Option.none : Option Jvm.ClassFile.FieldType)) ∈ lw_all := lw_g (lw_at lw_m4 216 rfl) rfl
theorem q1064 : (Jvm.Cond.methodLink "FlareSlopes$Spot" (1 : Nat) ({ cls := "java/lang/Object", name := "<init>", desc := "()V" } : Jvm.MethodName)) ∈ lw_all := lw_g (lw_at lw_m4 217 rfl) rfl
theorem q1065 : (Jvm.Cond.fieldLink "FlareSlopes$Spot" (7 : Nat) "FlareSlopes$Spot" "name" "Ljava/lang/String;") ∈ lw_all := lw_g (lw_at lw_m4 218 rfl) rfl
theorem q1067 : (Jvm.Cond.fieldLink "FlareSlopes$Spot" (13 : Nat) "FlareSlopes$Spot" "x" "I") ∈ lw_all := lw_g (lw_at lw_m4 220 rfl) rfl
theorem q1070 : (Jvm.Cond.fieldLink "FlareSlopes$Spot" (17 : Nat) "FlareSlopes$Spot" "y" "I") ∈ lw_all := lw_g (lw_at lw_m4 223 rfl) rfl
theorem q1073 : (Jvm.Cond.fieldLink "FlareSlopes$Spot" (20 : Nat) "FlareSlopes$Spot" "high" "I") ∈ lw_all := lw_g (lw_at lw_m4 226 rfl) rfl
theorem q1076 : (Jvm.Cond.fieldLink "FlareSlopes$Spot" (23 : Nat) "FlareSlopes$Spot" "flares" "I") ∈ lw_all := lw_g (lw_at lw_m4 229 rfl) rfl
theorem q1685 : (Jvm.Cond.castable "FlareSlopes$Spot" "FlareSlopes$Located") ∈ lw_tbl := lw_at lw_m7 118 rfl
theorem q1686 : (Jvm.Cond.selects "FlareSlopes$Spot" ({ cls := "FlareSlopes$Located", name := "x", desc := "()I" } : Jvm.MethodName) ({ cls := "FlareSlopes$Spot", name := "x", desc := "()I" } : Jvm.MethodName)) ∈ lw_all := lw_g (lw_at lw_m7 119 rfl) rfl
theorem q1687 : (Jvm.Cond.unhidden "FlareSlopes$Spot" "x" "()I") ∈ lw_tbl := lw_at lw_m7 120 rfl
theorem q1688 : (Jvm.Cond.instanceMethod ({ cls := "FlareSlopes$Spot", name := "x", desc := "()I" } : Jvm.MethodName)) ∈ lw_all := lw_g (lw_at lw_m7 121 rfl) rfl
theorem q1689 : (Jvm.Cond.publicMethod ({ cls := "FlareSlopes$Spot", name := "x", desc := "()I" } : Jvm.MethodName)) ∈ lw_tbl := lw_at lw_m7 122 rfl
theorem q1690 : (Jvm.Cond.code ({ cls := "FlareSlopes$Spot", name := "x", desc := "()I" } : Jvm.MethodName) prog_16_method_3_code (1 : Nat) (Option.some Jvm.ClassFile.FieldType.int)) ∈ lw_all := lw_g (lw_at lw_m7 123 rfl) rfl
theorem q1703 : (Jvm.Cond.selects "FlareSlopes$Spot" ({ cls := "FlareSlopes$Located", name := "y", desc := "()I" } : Jvm.MethodName) ({ cls := "FlareSlopes$Spot", name := "y", desc := "()I" } : Jvm.MethodName)) ∈ lw_all := lw_g (lw_at lw_m7 136 rfl) rfl
theorem q1704 : (Jvm.Cond.unhidden "FlareSlopes$Spot" "y" "()I") ∈ lw_tbl := lw_at lw_m7 137 rfl
theorem q1705 : (Jvm.Cond.instanceMethod ({ cls := "FlareSlopes$Spot", name := "y", desc := "()I" } : Jvm.MethodName)) ∈ lw_all := lw_g (lw_at lw_m7 138 rfl) rfl
theorem q1706 : (Jvm.Cond.publicMethod ({ cls := "FlareSlopes$Spot", name := "y", desc := "()I" } : Jvm.MethodName)) ∈ lw_tbl := lw_at lw_m7 139 rfl
theorem q1707 : (Jvm.Cond.code ({ cls := "FlareSlopes$Spot", name := "y", desc := "()I" } : Jvm.MethodName) prog_16_method_4_code (1 : Nat) (Option.some Jvm.ClassFile.FieldType.int)) ∈ lw_all := lw_g (lw_at lw_m7 140 rfl) rfl
theorem q1729 : (Jvm.Cond.selects "FlareSlopes$Spot" ({ cls := "FlareSlopes$Located", name := "high", desc := "()I" } : Jvm.MethodName) ({ cls := "FlareSlopes$Spot", name := "high", desc := "()I" } : Jvm.MethodName)) ∈ lw_all := lw_g (lw_at lw_m7 162 rfl) rfl
theorem q1730 : (Jvm.Cond.unhidden "FlareSlopes$Spot" "high" "()I") ∈ lw_tbl := lw_at lw_m7 163 rfl
theorem q1731 : (Jvm.Cond.instanceMethod ({ cls := "FlareSlopes$Spot", name := "high", desc := "()I" } : Jvm.MethodName)) ∈ lw_all := lw_g (lw_at lw_m7 164 rfl) rfl
theorem q1732 : (Jvm.Cond.publicMethod ({ cls := "FlareSlopes$Spot", name := "high", desc := "()I" } : Jvm.MethodName)) ∈ lw_tbl := lw_at lw_m7 165 rfl
theorem q1733 : (Jvm.Cond.code ({ cls := "FlareSlopes$Spot", name := "high", desc := "()I" } : Jvm.MethodName) prog_16_method_5_code (1 : Nat) (Option.some Jvm.ClassFile.FieldType.int)) ∈ lw_all := lw_g (lw_at lw_m7 166 rfl) rfl
theorem q4684 : (Jvm.Cond.castable "FlareSlopes$Spot" "java/lang/Object") ∈ lw_tbl := lw_at lw_m19 237 rfl
theorem in_X9 : ∀ w ∈ wsX90, w ∈ lw_all := lw_in wsX90 [1078, 1080, 1082, 1084, 1086] (by decide +kernel) (by decide +kernel)
/-! words.FlareSlopes_Named.lean.txt -/
theorem q1009 : (Jvm.Cond.interfaceMethod "FlareSlopes$Named" "FlareSlopes$Named" "name" "()Ljava/lang/CharSequence;") ∈ lw_tbl := lw_at lw_m4 162 rfl
theorem q1010 : (Jvm.Cond.declares ({ cls := "FlareSlopes$Named", name := "name", desc := "()Ljava/lang/CharSequence;" } : Jvm.MethodName)) ∈ lw_tbl := lw_at lw_m4 163 rfl
/-! words.java_lang_CharSequence.lean.txt -/
theorem q1022 : (Jvm.Cond.interfaceMethod "java/lang/CharSequence" "java/lang/CharSequence" "length" "()I") ∈ lw_tbl := lw_at lw_m4 175 rfl
theorem q1023 : (Jvm.Cond.declares ({ cls := "java/lang/CharSequence", name := "length", desc := "()I" } : Jvm.MethodName)) ∈ lw_tbl := lw_at lw_m4 176 rfl
theorem q1034 : (Jvm.Cond.interfaceMethod "java/lang/CharSequence" "java/lang/CharSequence" "charAt" "(I)C") ∈ lw_tbl := lw_at lw_m4 187 rfl
theorem q1035 : (Jvm.Cond.declares ({ cls := "java/lang/CharSequence", name := "charAt", desc := "(I)C" } : Jvm.MethodName)) ∈ lw_tbl := lw_at lw_m4 188 rfl
/-! words.java_lang_System.lean.txt -/
theorem q152 : (Jvm.Cond.initialized "java/lang/System") ∈ lw_all := lw_g (lw_at lw_m1 25 rfl) rfl
theorem q659 : (Jvm.Cond.static ({ cls := "java/lang/System", name := "arraycopy", desc := "(Ljava/lang/Object;ILjava/lang/Object;II)V" } : Jvm.MethodName)) ∈ lw_all := lw_g (lw_at lw_m3 52 rfl) rfl
theorem q660 : (Jvm.Cond.native ({ cls := "java/lang/System", name := "arraycopy", desc := "(Ljava/lang/Object;ILjava/lang/Object;II)V" } : Jvm.MethodName)) ∈ lw_all := lw_g (lw_at lw_m3 53 rfl) rfl
/-! words.java_util_Collection.lean.txt -/
theorem q1772 : (Jvm.Cond.interfaceMethod "java/util/Collection" "java/util/Collection" "iterator" "()Ljava/util/Iterator;") ∈ lw_tbl := lw_at lw_m7 205 rfl
theorem q1773 : (Jvm.Cond.declares ({ cls := "java/util/Collection", name := "iterator", desc := "()Ljava/util/Iterator;" } : Jvm.MethodName)) ∈ lw_tbl := lw_at lw_m7 206 rfl
/-! words.java_util_Iterator.lean.txt -/
theorem q1504 : (Jvm.Cond.interfaceMethod "java/util/Iterator" "java/util/Iterator" "hasNext" "()Z") ∈ lw_tbl := lw_at lw_m6 177 rfl
theorem q1505 : (Jvm.Cond.declares ({ cls := "java/util/Iterator", name := "hasNext", desc := "()Z" } : Jvm.MethodName)) ∈ lw_tbl := lw_at lw_m6 178 rfl
theorem q1538 : (Jvm.Cond.interfaceMethod "java/util/Iterator" "java/util/Iterator" "next" "()Ljava/lang/Object;") ∈ lw_tbl := lw_at lw_m6 211 rfl
theorem q1539 : (Jvm.Cond.declares ({ cls := "java/util/Iterator", name := "next", desc := "()Ljava/lang/Object;" } : Jvm.MethodName)) ∈ lw_tbl := lw_at lw_m6 212 rfl
/-! words.java_util_List.lean.txt -/
theorem q969 : (Jvm.Cond.interfaceMethod "java/util/List" "java/util/List" "size" "()I") ∈ lw_tbl := lw_at lw_m4 122 rfl
theorem q970 : (Jvm.Cond.declares ({ cls := "java/util/List", name := "size", desc := "()I" } : Jvm.MethodName)) ∈ lw_tbl := lw_at lw_m4 123 rfl
theorem q991 : (Jvm.Cond.interfaceMethod "java/util/List" "java/util/List" "get" "(I)Ljava/lang/Object;") ∈ lw_tbl := lw_at lw_m4 144 rfl
theorem q992 : (Jvm.Cond.declares ({ cls := "java/util/List", name := "get", desc := "(I)Ljava/lang/Object;" } : Jvm.MethodName)) ∈ lw_tbl := lw_at lw_m4 145 rfl
theorem q1095 : (Jvm.Cond.interfaceMethod "java/util/List" "java/util/List" "add" "(Ljava/lang/Object;)Z") ∈ lw_tbl := lw_at lw_m5 8 rfl
theorem q1096 : (Jvm.Cond.declares ({ cls := "java/util/List", name := "add", desc := "(Ljava/lang/Object;)Z" } : Jvm.MethodName)) ∈ lw_tbl := lw_at lw_m5 9 rfl
theorem q1476 : (Jvm.Cond.interfaceMethod "java/util/List" "java/util/List" "iterator" "()Ljava/util/Iterator;") ∈ lw_tbl := lw_at lw_m6 149 rfl
theorem q1477 : (Jvm.Cond.declares ({ cls := "java/util/List", name := "iterator", desc := "()Ljava/util/Iterator;" } : Jvm.MethodName)) ∈ lw_tbl := lw_at lw_m6 150 rfl
/-! words.java_util_Map.lean.txt -/
theorem q1611 : (Jvm.Cond.interfaceMethod "java/util/Map" "java/util/Map" "size" "()I") ∈ lw_tbl := lw_at lw_m7 44 rfl
theorem q1612 : (Jvm.Cond.declares ({ cls := "java/util/Map", name := "size", desc := "()I" } : Jvm.MethodName)) ∈ lw_tbl := lw_at lw_m7 45 rfl
theorem q1745 : (Jvm.Cond.interfaceMethod "java/util/Map" "java/util/Map" "values" "()Ljava/util/Collection;") ∈ lw_tbl := lw_at lw_m7 178 rfl
theorem q1746 : (Jvm.Cond.declares ({ cls := "java/util/Map", name := "values", desc := "()Ljava/util/Collection;" } : Jvm.MethodName)) ∈ lw_tbl := lw_at lw_m7 179 rfl
theorem q2000 : (Jvm.Cond.interfaceMethod "java/util/Map" "java/util/Map" "get" "(Ljava/lang/Object;)Ljava/lang/Object;") ∈ lw_tbl := lw_at lw_m8 193 rfl
theorem q2001 : (Jvm.Cond.declares ({ cls := "java/util/Map", name := "get", desc := "(Ljava/lang/Object;)Ljava/lang/Object;" } : Jvm.MethodName)) ∈ lw_tbl := lw_at lw_m8 194 rfl
theorem q2777 : (Jvm.Cond.interfaceMethod "java/util/Map" "java/util/Map" "keySet" "()Ljava/util/Set;") ∈ lw_tbl := lw_at lw_m12 10 rfl
theorem q2778 : (Jvm.Cond.declares ({ cls := "java/util/Map", name := "keySet", desc := "()Ljava/util/Set;" } : Jvm.MethodName)) ∈ lw_tbl := lw_at lw_m12 11 rfl
theorem q3077 : (Jvm.Cond.interfaceMethod "java/util/Map" "java/util/Map" "isEmpty" "()Z") ∈ lw_tbl := lw_at lw_m13 70 rfl
theorem q3078 : (Jvm.Cond.declares ({ cls := "java/util/Map", name := "isEmpty", desc := "()Z" } : Jvm.MethodName)) ∈ lw_tbl := lw_at lw_m13 71 rfl
theorem q3271 : (Jvm.Cond.interfaceMethod "java/util/Map" "java/util/Map" "entrySet" "()Ljava/util/Set;") ∈ lw_tbl := lw_at lw_m14 24 rfl
theorem q3272 : (Jvm.Cond.declares ({ cls := "java/util/Map", name := "entrySet", desc := "()Ljava/util/Set;" } : Jvm.MethodName)) ∈ lw_tbl := lw_at lw_m14 25 rfl
theorem q3490 : (Jvm.Cond.interfaceMethod "java/util/Map" "java/util/Map" "put" "(Ljava/lang/Object;Ljava/lang/Object;)Ljava/lang/Object;") ∈ lw_tbl := lw_at lw_m15 3 rfl
theorem q3491 : (Jvm.Cond.declares ({ cls := "java/util/Map", name := "put", desc := "(Ljava/lang/Object;Ljava/lang/Object;)Ljava/lang/Object;" } : Jvm.MethodName)) ∈ lw_tbl := lw_at lw_m15 4 rfl
theorem q3536 : (Jvm.Cond.interfaceMethod "java/util/Map" "java/util/Map" "remove" "(Ljava/lang/Object;)Ljava/lang/Object;") ∈ lw_tbl := lw_at lw_m15 49 rfl
theorem q3537 : (Jvm.Cond.declares ({ cls := "java/util/Map", name := "remove", desc := "(Ljava/lang/Object;)Ljava/lang/Object;" } : Jvm.MethodName)) ∈ lw_tbl := lw_at lw_m15 50 rfl
theorem q3889 : (Jvm.Cond.interfaceMethod "java/util/Map" "java/util/Map" "clear" "()V") ∈ lw_tbl := lw_at lw_m16 162 rfl
theorem q3890 : (Jvm.Cond.declares ({ cls := "java/util/Map", name := "clear", desc := "()V" } : Jvm.MethodName)) ∈ lw_tbl := lw_at lw_m16 163 rfl
/-! words.java_util_Map_Entry.lean.txt -/
theorem q3298 : (Jvm.Cond.interfaceMethod "java/util/Map$Entry" "java/util/Map$Entry" "getValue" "()Ljava/lang/Object;") ∈ lw_tbl := lw_at lw_m14 51 rfl
theorem q3299 : (Jvm.Cond.declares ({ cls := "java/util/Map$Entry", name := "getValue", desc := "()Ljava/lang/Object;" } : Jvm.MethodName)) ∈ lw_tbl := lw_at lw_m14 52 rfl
theorem q3314 : (Jvm.Cond.interfaceMethod "java/util/Map$Entry" "java/util/Map$Entry" "getKey" "()Ljava/lang/Object;") ∈ lw_tbl := lw_at lw_m14 67 rfl
theorem q3315 : (Jvm.Cond.declares ({ cls := "java/util/Map$Entry", name := "getKey", desc := "()Ljava/lang/Object;" } : Jvm.MethodName)) ∈ lw_tbl := lw_at lw_m14 68 rfl
/-! words.java_util_Set.lean.txt -/
theorem q1936 : (Jvm.Cond.interfaceMethod "java/util/Set" "java/util/Set" "iterator" "()Ljava/util/Iterator;") ∈ lw_tbl := lw_at lw_m8 129 rfl
theorem q1937 : (Jvm.Cond.declares ({ cls := "java/util/Set", name := "iterator", desc := "()Ljava/util/Iterator;" } : Jvm.MethodName)) ∈ lw_tbl := lw_at lw_m8 130 rfl
theorem q2806 : (Jvm.Cond.interfaceMethod "java/util/Set" "java/util/Set" "add" "(Ljava/lang/Object;)Z") ∈ lw_tbl := lw_at lw_m12 39 rfl
theorem q2807 : (Jvm.Cond.declares ({ cls := "java/util/Set", name := "add", desc := "(Ljava/lang/Object;)Z" } : Jvm.MethodName)) ∈ lw_tbl := lw_at lw_m12 40 rfl
theorem q3014 : (Jvm.Cond.interfaceMethod "java/util/Set" "java/util/Set" "size" "()I") ∈ lw_tbl := lw_at lw_m13 7 rfl
theorem q3015 : (Jvm.Cond.declares ({ cls := "java/util/Set", name := "size", desc := "()I" } : Jvm.MethodName)) ∈ lw_tbl := lw_at lw_m13 8 rfl
theorem q3327 : (Jvm.Cond.interfaceMethod "java/util/Set" "java/util/Set" "contains" "(Ljava/lang/Object;)Z") ∈ lw_tbl := lw_at lw_m14 80 rfl
theorem q3328 : (Jvm.Cond.declares ({ cls := "java/util/Set", name := "contains", desc := "(Ljava/lang/Object;)Z" } : Jvm.MethodName)) ∈ lw_tbl := lw_at lw_m14 81 rfl
/-! words.rest.lean.txt -/
theorem q219 : (Jvm.Cond.arrayOver (Jvm.ClassFile.FieldType.object "java/lang/Object")) ∈ lw_tbl := lw_at lw_m1 92 rfl
theorem q232 : (Jvm.Cond.arrayClass Jvm.ClassFile.FieldType.byte) ∈ lw_all := lw_g (lw_at lw_m1 105 rfl) rfl
theorem q234 : (Jvm.Cond.arrayOver (Jvm.ClassFile.FieldType.object "FlareSlopes$State")) ∈ lw_tbl := lw_at lw_m1 107 rfl
theorem q298 : (Jvm.Cond.arrayClass Jvm.ClassFile.FieldType.int) ∈ lw_all := lw_g (lw_at lw_m1 171 rfl) rfl
theorem q492 : (Jvm.Cond.arrayOver (Jvm.ClassFile.FieldType.object "FlareSlopes$Key")) ∈ lw_tbl := lw_at lw_m2 125 rfl
theorem q2842 : (Jvm.Cond.arrayOver (Jvm.ClassFile.FieldType.object "java/util/HashMap$Node")) ∈ lw_tbl := lw_at lw_m12 75 rfl
theorem q4007 : (Jvm.Cond.arrayClass Jvm.ClassFile.FieldType.boolean) ∈ lw_all := lw_g (lw_at lw_m17 40 rfl) rfl
theorem q4008 : (Jvm.Cond.arrayClass Jvm.ClassFile.FieldType.long) ∈ lw_all := lw_g (lw_at lw_m17 41 rfl) rfl
theorem q4615 : (Jvm.Cond.arrayClass Jvm.ClassFile.FieldType.double) ∈ lw_all := lw_g (lw_at lw_m19 168 rfl) rfl
