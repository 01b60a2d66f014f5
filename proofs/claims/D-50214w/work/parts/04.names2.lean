set_option maxRecDepth 100000
/-! X10.FlareSlopes_Ridge.lean.txt -/
def RX10 : String := "FlareSlopes$Ridge"
def TX10 : u_T := fun k => match k with
  | 0 => ("FlareSlopes$Ridge", "column", "I", true)
  | _ => ("FlareSlopes$Ridge", "high", "I", true)
def tyX10 : Nat → FieldType := fun k => match k with
  | 0 => .int
  | _ => .int
abbrev wsX100 : List Cond := u_ws RX10 TX10 2
theorem nmX10 : ∀ a, a < 2 → ∀ b, b < 2 → a ≠ b → (TX10 a).2.1 ≠ (TX10 b).2.1 := by decide +kernel
theorem tyX10_ok : ∀ k, k < 2 → parseFieldDescriptor (TX10 k).2.2.1 = some (tyX10 k) := by decide +kernel
abbrev cX10_init : ByteArray := prog_15_method_1_code
def yX10_init : MethodName := ⟨RX10, "<init>", "(II)V"⟩
def dkwX10_init_0 : List UInt8 := [42, 183, 0, 1, 42, 27, 181, 0, 7, 42, 28, 181, 0, 13, 177]
abbrev dktX10_init_0 : List UInt8 := dkwX10_init_0 ++ []
theorem dksX10_init_0 : cX10_init.data.toList.drop 0 = dktX10_init_0 := by decide +kernel
theorem dX10_init_0 : decode cX10_init 0 = .ok (.aload_n 0, 1) := dk_42 (dk_at dksX10_init_0 0 rfl rfl)
theorem dX10_init_1 : decode cX10_init 1 = .ok (.invokespecial 1, 3) := dk_183 0 1 (dk_at dksX10_init_0 1 rfl rfl)
theorem dX10_init_4 : decode cX10_init 4 = .ok (.aload_n 0, 1) := dk_42 (dk_at dksX10_init_0 4 rfl rfl)
theorem dX10_init_5 : decode cX10_init 5 = .ok (.iload_n 1, 1) := dk_27 (dk_at dksX10_init_0 5 rfl rfl)
theorem dX10_init_6 : decode cX10_init 6 = .ok (.putfield 7, 3) := dk_181 0 7 (dk_at dksX10_init_0 6 rfl rfl)
theorem dX10_init_9 : decode cX10_init 9 = .ok (.aload_n 0, 1) := dk_42 (dk_at dksX10_init_0 9 rfl rfl)
theorem dX10_init_10 : decode cX10_init 10 = .ok (.iload_n 2, 1) := dk_28 (dk_at dksX10_init_0 10 rfl rfl)
theorem dX10_init_11 : decode cX10_init 11 = .ok (.putfield 13, 3) := dk_181 0 13 (dk_at dksX10_init_0 11 rfl rfl)
theorem dX10_init_14 : decode cX10_init 14 = .ok (.return_, 1) := dk_177 (dk_at dksX10_init_0 14 rfl rfl)
abbrev cX10_hides : ByteArray := prog_15_method_2_code
def yX10_hides : MethodName := ⟨RX10, "hides", "(LFlareSlopes$Located;LFlareSlopes$Located;)Z"⟩
def dkwX10_hides_3 : List UInt8 := [167, 0, 4, 3, 172]
abbrev dktX10_hides_3 : List UInt8 := dkwX10_hides_3 ++ []
def dkwX10_hides_2 : List UInt8 := [185, 0, 22, 1, 0, 164, 0, 20, 42, 180, 0, 13, 44, 185, 0, 22, 1, 0, 164, 0, 7, 4]
abbrev dktX10_hides_2 : List UInt8 := dkwX10_hides_2 ++ dktX10_hides_3
def dkwX10_hides_1 : List UInt8 := [42, 180, 0, 7, 162, 0, 7, 4, 167, 0, 4, 3, 159, 0, 33, 42, 180, 0, 13, 43]
abbrev dktX10_hides_1 : List UInt8 := dkwX10_hides_1 ++ dktX10_hides_2
def dkwX10_hides_0 : List UInt8 := [43, 185, 0, 16, 1, 0, 42, 180, 0, 7, 162, 0, 7, 4, 167, 0, 4, 3, 44, 185, 0, 16, 1, 0]
abbrev dktX10_hides_0 : List UInt8 := dkwX10_hides_0 ++ dktX10_hides_1
theorem dksX10_hides_0 : cX10_hides.data.toList.drop 0 = dktX10_hides_0 := by decide +kernel
theorem dksX10_hides_1 : cX10_hides.data.toList.drop 24 = dktX10_hides_1 := dk_seg dksX10_hides_0 24 rfl rfl
theorem dksX10_hides_2 : cX10_hides.data.toList.drop 44 = dktX10_hides_2 := dk_seg dksX10_hides_1 20 rfl rfl
theorem dksX10_hides_3 : cX10_hides.data.toList.drop 66 = dktX10_hides_3 := dk_seg dksX10_hides_2 22 rfl rfl
theorem dX10_hides_0 : decode cX10_hides 0 = .ok (.aload_n 1, 1) := dk_43 (dk_at dksX10_hides_0 0 rfl rfl)
theorem dX10_hides_1 : decode cX10_hides 1 = .ok (.invokeinterface 16 1, 5) := by decide +kernel
theorem dX10_hides_6 : decode cX10_hides 6 = .ok (.aload_n 0, 1) := dk_42 (dk_at dksX10_hides_0 6 rfl rfl)
theorem dX10_hides_7 : decode cX10_hides 7 = .ok (.getfield 7, 3) := dk_180 0 7 (dk_at dksX10_hides_0 7 rfl rfl)
theorem dX10_hides_10 : decode cX10_hides 10 = .ok (.if_icmp .ge 7, 3) := dk_162 0 7 (dk_at dksX10_hides_0 10 rfl rfl)
theorem dX10_hides_13 : decode cX10_hides 13 = .ok (.iconst 1, 1) := dk_4 (dk_at dksX10_hides_0 13 rfl rfl)
theorem dX10_hides_14 : decode cX10_hides 14 = .ok (.goto 4, 3) := dk_167 0 4 (dk_at dksX10_hides_0 14 rfl rfl)
theorem dX10_hides_17 : decode cX10_hides 17 = .ok (.iconst 0, 1) := dk_3 (dk_at dksX10_hides_0 17 rfl rfl)
theorem dX10_hides_18 : decode cX10_hides 18 = .ok (.aload_n 2, 1) := dk_44 (dk_at dksX10_hides_0 18 rfl rfl)
theorem dX10_hides_19 : decode cX10_hides 19 = .ok (.invokeinterface 16 1, 5) := by decide +kernel
theorem dX10_hides_24 : decode cX10_hides 24 = .ok (.aload_n 0, 1) := dk_42 (dk_at dksX10_hides_1 0 rfl rfl)
theorem dX10_hides_25 : decode cX10_hides 25 = .ok (.getfield 7, 3) := dk_180 0 7 (dk_at dksX10_hides_1 1 rfl rfl)
theorem dX10_hides_28 : decode cX10_hides 28 = .ok (.if_icmp .ge 7, 3) := dk_162 0 7 (dk_at dksX10_hides_1 4 rfl rfl)
theorem dX10_hides_31 : decode cX10_hides 31 = .ok (.iconst 1, 1) := dk_4 (dk_at dksX10_hides_1 7 rfl rfl)
theorem dX10_hides_32 : decode cX10_hides 32 = .ok (.goto 4, 3) := dk_167 0 4 (dk_at dksX10_hides_1 8 rfl rfl)
theorem dX10_hides_35 : decode cX10_hides 35 = .ok (.iconst 0, 1) := dk_3 (dk_at dksX10_hides_1 11 rfl rfl)
theorem dX10_hides_36 : decode cX10_hides 36 = .ok (.if_icmp .eq 33, 3) := dk_159 0 33 (dk_at dksX10_hides_1 12 rfl rfl)
theorem dX10_hides_39 : decode cX10_hides 39 = .ok (.aload_n 0, 1) := dk_42 (dk_at dksX10_hides_1 15 rfl rfl)
theorem dX10_hides_40 : decode cX10_hides 40 = .ok (.getfield 13, 3) := dk_180 0 13 (dk_at dksX10_hides_1 16 rfl rfl)
theorem dX10_hides_43 : decode cX10_hides 43 = .ok (.aload_n 1, 1) := dk_43 (dk_at dksX10_hides_1 19 rfl rfl)
theorem dX10_hides_44 : decode cX10_hides 44 = .ok (.invokeinterface 22 1, 5) := by decide +kernel
theorem dX10_hides_49 : decode cX10_hides 49 = .ok (.if_icmp .le 20, 3) := dk_164 0 20 (dk_at dksX10_hides_2 5 rfl rfl)
theorem dX10_hides_52 : decode cX10_hides 52 = .ok (.aload_n 0, 1) := dk_42 (dk_at dksX10_hides_2 8 rfl rfl)
theorem dX10_hides_53 : decode cX10_hides 53 = .ok (.getfield 13, 3) := dk_180 0 13 (dk_at dksX10_hides_2 9 rfl rfl)
theorem dX10_hides_56 : decode cX10_hides 56 = .ok (.aload_n 2, 1) := dk_44 (dk_at dksX10_hides_2 12 rfl rfl)
theorem dX10_hides_57 : decode cX10_hides 57 = .ok (.invokeinterface 22 1, 5) := by decide +kernel
theorem dX10_hides_62 : decode cX10_hides 62 = .ok (.if_icmp .le 7, 3) := dk_164 0 7 (dk_at dksX10_hides_2 18 rfl rfl)
theorem dX10_hides_65 : decode cX10_hides 65 = .ok (.iconst 1, 1) := dk_4 (dk_at dksX10_hides_2 21 rfl rfl)
theorem dX10_hides_66 : decode cX10_hides 66 = .ok (.goto 4, 3) := dk_167 0 4 (dk_at dksX10_hides_3 0 rfl rfl)
theorem dX10_hides_69 : decode cX10_hides 69 = .ok (.iconst 0, 1) := dk_3 (dk_at dksX10_hides_3 3 rfl rfl)
theorem dX10_hides_70 : decode cX10_hides 70 = .ok (.ireturn, 1) := dk_172 (dk_at dksX10_hides_3 4 rfl rfl)
theorem q160 : (Jvm.Cond.initialized "FlareSlopes$Ridge") ∈ lw_all := lw_g (lw_at lw_m1 33 rfl) rfl
theorem q1181 : (Jvm.Cond.instantiable "FlareSlopes$Ridge" (2 : Nat)) ∈ lw_all := lw_g (lw_at lw_m5 94 rfl) rfl
theorem q1183 : (Jvm.Cond.instanceMethod ({ cls := "FlareSlopes$Ridge", name := "<init>", desc := "(II)V" } : Jvm.MethodName)) ∈ lw_all := lw_g (lw_at lw_m5 96 rfl) rfl
theorem q1184 : (Jvm.Cond.code ({ cls := "FlareSlopes$Ridge", name := "<init>", desc := "(II)V" } : Jvm.MethodName) prog_15_method_1_code (3 : Nat) (Option.none : Option Jvm.ClassFile.FieldType)) ∈ lw_all := lw_g (lw_at lw_m5 97 rfl) rfl
theorem q1185 : (Jvm.Cond.methodLink "FlareSlopes$Ridge" (1 : Nat) ({ cls := "java/lang/Object", name := "<init>", desc := "()V" } : Jvm.MethodName)) ∈ lw_all := lw_g (lw_at lw_m5 98 rfl) rfl
theorem q1186 : (Jvm.Cond.fieldLink "FlareSlopes$Ridge" (7 : Nat) "FlareSlopes$Ridge" "column" "I") ∈ lw_all := lw_g (lw_at lw_m5 99 rfl) rfl
theorem q1188 : (Jvm.Cond.fieldLink "FlareSlopes$Ridge" (13 : Nat) "FlareSlopes$Ridge" "high" "I") ∈ lw_all := lw_g (lw_at lw_m5 101 rfl) rfl
theorem q1715 : (Jvm.Cond.instanceMethod ({ cls := "FlareSlopes$Ridge", name := "hides", desc := "(LFlareSlopes$Located;LFlareSlopes$Located;)Z" } : Jvm.MethodName)) ∈ lw_all := lw_g (lw_at lw_m7 148 rfl) rfl
theorem q1716 : (Jvm.Cond.selects "FlareSlopes$Ridge" ({ cls := "FlareSlopes$Ridge", name := "hides", desc := "(LFlareSlopes$Located;LFlareSlopes$Located;)Z" } : Jvm.MethodName) ({ cls := "FlareSlopes$Ridge", name := "hides", desc := "(LFlareSlopes$Located;LFlareSlopes$Located;)Z" } : Jvm.MethodName)) ∈ lw_all := lw_g (lw_at lw_m7 149 rfl) rfl
theorem q1717 : (Jvm.Cond.code ({ cls := "FlareSlopes$Ridge", name := "hides", desc := "(LFlareSlopes$Located;LFlareSlopes$Located;)Z" } : Jvm.MethodName) prog_15_method_2_code (3 : Nat) (Option.some Jvm.ClassFile.FieldType.boolean)) ∈ lw_all := lw_g (lw_at lw_m7 150 rfl) rfl
theorem q1719 : (Jvm.Cond.methodLink "FlareSlopes$Ridge" (16 : Nat) ({ cls := "FlareSlopes$Located", name := "x", desc := "()I" } : Jvm.MethodName)) ∈ lw_all := lw_g (lw_at lw_m7 152 rfl) rfl
theorem q1721 : (Jvm.Cond.methodLink "FlareSlopes$Ridge" (22 : Nat) ({ cls := "FlareSlopes$Located", name := "high", desc := "()I" } : Jvm.MethodName)) ∈ lw_all := lw_g (lw_at lw_m7 154 rfl) rfl
theorem q4685 : (Jvm.Cond.castable "FlareSlopes$Ridge" "java/lang/Object") ∈ lw_tbl := lw_at lw_m19 238 rfl
theorem in_X10 : ∀ w ∈ wsX100, w ∈ lw_all := lw_in wsX100 [1190, 1192] (by decide +kernel) (by decide +kernel)
/-! X11.FlareSlopes_Fog.lean.txt -/
def RX11 : String := "FlareSlopes$Fog"
def TX11 : u_T := fun k => match k with
  | 0 => ("FlareSlopes$Fog", "from", "I", true)
  | 1 => ("FlareSlopes$Fog", "to", "I", true)
  | _ => ("FlareSlopes$Fog", "by", "I", true)
def tyX11 : Nat → FieldType := fun k => match k with
  | 0 => .int
  | 1 => .int
  | _ => .int
abbrev wsX110 : List Cond := u_ws RX11 TX11 3
theorem nmX11 : ∀ a, a < 3 → ∀ b, b < 3 → a ≠ b → (TX11 a).2.1 ≠ (TX11 b).2.1 := by decide +kernel
theorem tyX11_ok : ∀ k, k < 3 → parseFieldDescriptor (TX11 k).2.2.1 = some (tyX11 k) := by decide +kernel
abbrev cX11_init : ByteArray := prog_7_method_1_code
def yX11_init : MethodName := ⟨RX11, "<init>", "(III)V"⟩
def dkwX11_init_0 : List UInt8 := [42, 183, 0, 1, 42, 27, 181, 0, 7, 42, 28, 181, 0, 13, 42, 29, 181, 0, 16, 177]
abbrev dktX11_init_0 : List UInt8 := dkwX11_init_0 ++ []
theorem dksX11_init_0 : cX11_init.data.toList.drop 0 = dktX11_init_0 := by decide +kernel
theorem dX11_init_0 : decode cX11_init 0 = .ok (.aload_n 0, 1) := dk_42 (dk_at dksX11_init_0 0 rfl rfl)
theorem dX11_init_1 : decode cX11_init 1 = .ok (.invokespecial 1, 3) := dk_183 0 1 (dk_at dksX11_init_0 1 rfl rfl)
theorem dX11_init_4 : decode cX11_init 4 = .ok (.aload_n 0, 1) := dk_42 (dk_at dksX11_init_0 4 rfl rfl)
theorem dX11_init_5 : decode cX11_init 5 = .ok (.iload_n 1, 1) := dk_27 (dk_at dksX11_init_0 5 rfl rfl)
theorem dX11_init_6 : decode cX11_init 6 = .ok (.putfield 7, 3) := dk_181 0 7 (dk_at dksX11_init_0 6 rfl rfl)
theorem dX11_init_9 : decode cX11_init 9 = .ok (.aload_n 0, 1) := dk_42 (dk_at dksX11_init_0 9 rfl rfl)
theorem dX11_init_10 : decode cX11_init 10 = .ok (.iload_n 2, 1) := dk_28 (dk_at dksX11_init_0 10 rfl rfl)
theorem dX11_init_11 : decode cX11_init 11 = .ok (.putfield 13, 3) := dk_181 0 13 (dk_at dksX11_init_0 11 rfl rfl)
theorem dX11_init_14 : decode cX11_init 14 = .ok (.aload_n 0, 1) := dk_42 (dk_at dksX11_init_0 14 rfl rfl)
theorem dX11_init_15 : decode cX11_init 15 = .ok (.iload_n 3, 1) := dk_29 (dk_at dksX11_init_0 15 rfl rfl)
theorem dX11_init_16 : decode cX11_init 16 = .ok (.putfield 16, 3) := dk_181 0 16 (dk_at dksX11_init_0 16 rfl rfl)
theorem dX11_init_19 : decode cX11_init 19 = .ok (.return_, 1) := dk_177 (dk_at dksX11_init_0 19 rfl rfl)
abbrev cX11_at : ByteArray := prog_7_method_2_code
def yX11_at : MethodName := ⟨RX11, "at", "(I)I"⟩
def dkwX11_at_0 : List UInt8 := [27, 42, 180, 0, 7, 42, 180, 0, 13, 184, 0, 19, 153, 0, 10, 42, 180, 0, 16, 167, 0, 4, 3, 172]
abbrev dktX11_at_0 : List UInt8 := dkwX11_at_0 ++ []
theorem dksX11_at_0 : cX11_at.data.toList.drop 0 = dktX11_at_0 := by decide +kernel
theorem dX11_at_0 : decode cX11_at 0 = .ok (.iload_n 1, 1) := dk_27 (dk_at dksX11_at_0 0 rfl rfl)
theorem dX11_at_1 : decode cX11_at 1 = .ok (.aload_n 0, 1) := dk_42 (dk_at dksX11_at_0 1 rfl rfl)
theorem dX11_at_2 : decode cX11_at 2 = .ok (.getfield 7, 3) := dk_180 0 7 (dk_at dksX11_at_0 2 rfl rfl)
theorem dX11_at_5 : decode cX11_at 5 = .ok (.aload_n 0, 1) := dk_42 (dk_at dksX11_at_0 5 rfl rfl)
theorem dX11_at_6 : decode cX11_at 6 = .ok (.getfield 13, 3) := dk_180 0 13 (dk_at dksX11_at_0 6 rfl rfl)
theorem dX11_at_9 : decode cX11_at 9 = .ok (.invokestatic 19, 3) := dk_184 0 19 (dk_at dksX11_at_0 9 rfl rfl)
theorem dX11_at_12 : decode cX11_at 12 = .ok (.ifCond .eq 10, 3) := dk_153 0 10 (dk_at dksX11_at_0 12 rfl rfl)
theorem dX11_at_15 : decode cX11_at 15 = .ok (.aload_n 0, 1) := dk_42 (dk_at dksX11_at_0 15 rfl rfl)
theorem dX11_at_16 : decode cX11_at 16 = .ok (.getfield 16, 3) := dk_180 0 16 (dk_at dksX11_at_0 16 rfl rfl)
theorem dX11_at_19 : decode cX11_at 19 = .ok (.goto 4, 3) := dk_167 0 4 (dk_at dksX11_at_0 19 rfl rfl)
theorem dX11_at_22 : decode cX11_at 22 = .ok (.iconst 0, 1) := dk_3 (dk_at dksX11_at_0 22 rfl rfl)
theorem dX11_at_23 : decode cX11_at 23 = .ok (.ireturn, 1) := dk_172 (dk_at dksX11_at_0 23 rfl rfl)
theorem q161 : (Jvm.Cond.initialized "FlareSlopes$Fog") ∈ lw_all := lw_g (lw_at lw_m1 34 rfl) rfl
theorem q1202 : (Jvm.Cond.instantiable "FlareSlopes$Fog" (3 : Nat)) ∈ lw_all := lw_g (lw_at lw_m5 115 rfl) rfl
theorem q1204 : (Jvm.Cond.instanceMethod ({ cls := "FlareSlopes$Fog", name := "<init>", desc := "(III)V" } : Jvm.MethodName)) ∈ lw_all := lw_g (lw_at lw_m5 117 rfl) rfl
theorem q1205 : (Jvm.Cond.code ({ cls := "FlareSlopes$Fog", name := "<init>", desc := "(III)V" } : Jvm.MethodName) prog_7_method_1_code (4 : Nat) (Option.none : Option Jvm.ClassFile.FieldType)) ∈ lw_all := lw_g (lw_at lw_m5 118 rfl) rfl
theorem q1206 : (Jvm.Cond.methodLink "FlareSlopes$Fog" (1 : Nat) ({ cls := "java/lang/Object", name := "<init>", desc := "()V" } : Jvm.MethodName)) ∈ lw_all := lw_g (lw_at lw_m5 119 rfl) rfl
theorem q1207 : (Jvm.Cond.fieldLink "FlareSlopes$Fog" (7 : Nat) "FlareSlopes$Fog" "from" "I") ∈ lw_all := lw_g (lw_at lw_m5 120 rfl) rfl
theorem q1209 : (Jvm.Cond.fieldLink "FlareSlopes$Fog" (13 : Nat) "FlareSlopes$Fog" "to" "I") ∈ lw_all := lw_g (lw_at lw_m5 122 rfl) rfl
theorem q1211 : (Jvm.Cond.fieldLink "FlareSlopes$Fog" (16 : Nat) "FlareSlopes$Fog" "by" "I") ∈ lw_all := lw_g (lw_at lw_m5 124 rfl) rfl
theorem q1662 : (Jvm.Cond.instanceMethod ({ cls := "FlareSlopes$Fog", name := "at", desc := "(I)I" } : Jvm.MethodName)) ∈ lw_all := lw_g (lw_at lw_m7 95 rfl) rfl
theorem q1663 : (Jvm.Cond.selects "FlareSlopes$Fog" ({ cls := "FlareSlopes$Fog", name := "at", desc := "(I)I" } : Jvm.MethodName) ({ cls := "FlareSlopes$Fog", name := "at", desc := "(I)I" } : Jvm.MethodName)) ∈ lw_all := lw_g (lw_at lw_m7 96 rfl) rfl
theorem q1664 : (Jvm.Cond.code ({ cls := "FlareSlopes$Fog", name := "at", desc := "(I)I" } : Jvm.MethodName) prog_7_method_2_code (2 : Nat) (Option.some Jvm.ClassFile.FieldType.int)) ∈ lw_all := lw_g (lw_at lw_m7 97 rfl) rfl
theorem q1665 : (Jvm.Cond.methodLinkNest "FlareSlopes$Fog" (19 : Nat) ({ cls := "FlareSlopes", name := "in", desc := "(III)Z" } : Jvm.MethodName) "FlareSlopes") ∈ lw_tbl := lw_at lw_m7 98 rfl
theorem q4686 : (Jvm.Cond.castable "FlareSlopes$Fog" "java/lang/Object") ∈ lw_tbl := lw_at lw_m19 239 rfl
theorem in_X11 : ∀ w ∈ wsX110, w ∈ lw_all := lw_in wsX110 [1213, 1215, 1217] (by decide +kernel) (by decide +kernel)
/-! X12.FlareSlopes_Cabin.lean.txt -/
def RX12 : String := "FlareSlopes$Cabin"
def TX12 : u_T := fun k => match k with
  | 0 => ("FlareSlopes$Cabin", "x", "I", false)
  | 1 => ("FlareSlopes$Cabin", "y", "I", false)
  | 2 => ("FlareSlopes$Cabin", "flares", "I", false)
  | 3 => ("FlareSlopes$Cabin", "trust", "I", false)
  | 4 => ("FlareSlopes$Cabin", "fired", "I", false)
  | 5 => ("FlareSlopes$Cabin", "closed", "I", false)
  | 6 => ("FlareSlopes$Cabin", "high", "I", true)
  | 7 => ("FlareSlopes$Cabin", "runs", "[I", true)
  | _ => ("FlareSlopes$Cabin", "votes", "Ljava/util/Map;", true)
def tyX12 : Nat → FieldType := fun k => match k with
  | 0 => .int
  | 1 => .int
  | 2 => .int
  | 3 => .int
  | 4 => .int
  | 5 => .int
  | 6 => .int
  | 7 => .array .int
  | _ => .object "java/util/Map"
abbrev wsX120 : List Cond := u_ws RX12 TX12 9
theorem nmX12 : ∀ a, a < 9 → ∀ b, b < 9 → a ≠ b → (TX12 a).2.1 ≠ (TX12 b).2.1 := by decide +kernel
theorem tyX12_ok : ∀ k, k < 9 → parseFieldDescriptor (TX12 k).2.2.1 = some (tyX12 k) := by decide +kernel
abbrev cX12_init : ByteArray := prog_5_method_1_code
def yX12_init : MethodName := ⟨RX12, "<init>", "(LFlareSlopes$Spot;)V"⟩
def dkwX12_init_2 : List UInt8 := [181, 0, 38, 42, 43, 180, 0, 39, 181, 0, 42, 42, 43, 180, 0, 43, 181, 0, 46, 177]
abbrev dktX12_init_2 : List UInt8 := dkwX12_init_2 ++ []
def dkwX12_init_1 : List UInt8 := [187, 0, 22, 89, 183, 0, 24, 181, 0, 25, 42, 43, 180, 0, 29, 181, 0, 34, 42, 43, 180, 0, 35]
abbrev dktX12_init_1 : List UInt8 := dkwX12_init_1 ++ dktX12_init_2
def dkwX12_init_0 : List UInt8 := [42, 183, 0, 3, 42, 16, 100, 181, 0, 9, 42, 2, 181, 0, 15, 42, 16, 8, 188, 10, 181, 0, 18, 42]
abbrev dktX12_init_0 : List UInt8 := dkwX12_init_0 ++ dktX12_init_1
theorem dksX12_init_0 : cX12_init.data.toList.drop 0 = dktX12_init_0 := by decide +kernel
theorem dksX12_init_1 : cX12_init.data.toList.drop 24 = dktX12_init_1 := dk_seg dksX12_init_0 24 rfl rfl
theorem dksX12_init_2 : cX12_init.data.toList.drop 47 = dktX12_init_2 := dk_seg dksX12_init_1 23 rfl rfl
theorem dX12_init_0 : decode cX12_init 0 = .ok (.aload_n 0, 1) := dk_42 (dk_at dksX12_init_0 0 rfl rfl)
theorem dX12_init_1 : decode cX12_init 1 = .ok (.invokespecial 3, 3) := dk_183 0 3 (dk_at dksX12_init_0 1 rfl rfl)
theorem dX12_init_4 : decode cX12_init 4 = .ok (.aload_n 0, 1) := dk_42 (dk_at dksX12_init_0 4 rfl rfl)
theorem dX12_init_5 : decode cX12_init 5 = .ok (.bipush 100, 2) := dk_16 100 (dk_at dksX12_init_0 5 rfl rfl)
theorem dX12_init_7 : decode cX12_init 7 = .ok (.putfield 9, 3) := dk_181 0 9 (dk_at dksX12_init_0 7 rfl rfl)
theorem dX12_init_10 : decode cX12_init 10 = .ok (.aload_n 0, 1) := dk_42 (dk_at dksX12_init_0 10 rfl rfl)
theorem dX12_init_11 : decode cX12_init 11 = .ok (.iconst (-1), 1) := dk_2 (dk_at dksX12_init_0 11 rfl rfl)
theorem dX12_init_12 : decode cX12_init 12 = .ok (.putfield 15, 3) := dk_181 0 15 (dk_at dksX12_init_0 12 rfl rfl)
theorem dX12_init_15 : decode cX12_init 15 = .ok (.aload_n 0, 1) := dk_42 (dk_at dksX12_init_0 15 rfl rfl)
theorem dX12_init_16 : decode cX12_init 16 = .ok (.bipush 8, 2) := dk_16 8 (dk_at dksX12_init_0 16 rfl rfl)
theorem dX12_init_18 : decode cX12_init 18 = .ok (.newarray .int, 2) := dk_188_10 (dk_at dksX12_init_0 18 rfl rfl)
theorem dX12_init_20 : decode cX12_init 20 = .ok (.putfield 18, 3) := dk_181 0 18 (dk_at dksX12_init_0 20 rfl rfl)
theorem dX12_init_23 : decode cX12_init 23 = .ok (.aload_n 0, 1) := dk_42 (dk_at dksX12_init_0 23 rfl rfl)
theorem dX12_init_24 : decode cX12_init 24 = .ok (.new 22, 3) := dk_187 0 22 (dk_at dksX12_init_1 0 rfl rfl)
theorem dX12_init_27 : decode cX12_init 27 = .ok (.dup, 1) := dk_89 (dk_at dksX12_init_1 3 rfl rfl)
theorem dX12_init_28 : decode cX12_init 28 = .ok (.invokespecial 24, 3) := dk_183 0 24 (dk_at dksX12_init_1 4 rfl rfl)
theorem dX12_init_31 : decode cX12_init 31 = .ok (.putfield 25, 3) := dk_181 0 25 (dk_at dksX12_init_1 7 rfl rfl)
theorem dX12_init_34 : decode cX12_init 34 = .ok (.aload_n 0, 1) := dk_42 (dk_at dksX12_init_1 10 rfl rfl)
theorem dX12_init_35 : decode cX12_init 35 = .ok (.aload_n 1, 1) := dk_43 (dk_at dksX12_init_1 11 rfl rfl)
theorem dX12_init_36 : decode cX12_init 36 = .ok (.getfield 29, 3) := dk_180 0 29 (dk_at dksX12_init_1 12 rfl rfl)
theorem dX12_init_39 : decode cX12_init 39 = .ok (.putfield 34, 3) := dk_181 0 34 (dk_at dksX12_init_1 15 rfl rfl)
theorem dX12_init_42 : decode cX12_init 42 = .ok (.aload_n 0, 1) := dk_42 (dk_at dksX12_init_1 18 rfl rfl)
theorem dX12_init_43 : decode cX12_init 43 = .ok (.aload_n 1, 1) := dk_43 (dk_at dksX12_init_1 19 rfl rfl)
theorem dX12_init_44 : decode cX12_init 44 = .ok (.getfield 35, 3) := dk_180 0 35 (dk_at dksX12_init_1 20 rfl rfl)
theorem dX12_init_47 : decode cX12_init 47 = .ok (.putfield 38, 3) := dk_181 0 38 (dk_at dksX12_init_2 0 rfl rfl)
theorem dX12_init_50 : decode cX12_init 50 = .ok (.aload_n 0, 1) := dk_42 (dk_at dksX12_init_2 3 rfl rfl)
theorem dX12_init_51 : decode cX12_init 51 = .ok (.aload_n 1, 1) := dk_43 (dk_at dksX12_init_2 4 rfl rfl)
theorem dX12_init_52 : decode cX12_init 52 = .ok (.getfield 39, 3) := dk_180 0 39 (dk_at dksX12_init_2 5 rfl rfl)
theorem dX12_init_55 : decode cX12_init 55 = .ok (.putfield 42, 3) := dk_181 0 42 (dk_at dksX12_init_2 8 rfl rfl)
theorem dX12_init_58 : decode cX12_init 58 = .ok (.aload_n 0, 1) := dk_42 (dk_at dksX12_init_2 11 rfl rfl)
theorem dX12_init_59 : decode cX12_init 59 = .ok (.aload_n 1, 1) := dk_43 (dk_at dksX12_init_2 12 rfl rfl)
theorem dX12_init_60 : decode cX12_init 60 = .ok (.getfield 43, 3) := dk_180 0 43 (dk_at dksX12_init_2 13 rfl rfl)
theorem dX12_init_63 : decode cX12_init 63 = .ok (.putfield 46, 3) := dk_181 0 46 (dk_at dksX12_init_2 16 rfl rfl)
theorem dX12_init_66 : decode cX12_init 66 = .ok (.return_, 1) := dk_177 (dk_at dksX12_init_2 19 rfl rfl)
abbrev cX12_x : ByteArray := prog_5_method_3_code
def yX12_x : MethodName := ⟨RX12, "x", "()I"⟩
theorem dX12_x_0 : decode cX12_x 0 = .ok (.aload_n 0, 1) := by decide +kernel
theorem dX12_x_1 : decode cX12_x 1 = .ok (.getfield 34, 3) := by decide +kernel
theorem dX12_x_4 : decode cX12_x 4 = .ok (.ireturn, 1) := by decide +kernel
abbrev cX12_y : ByteArray := prog_5_method_4_code
def yX12_y : MethodName := ⟨RX12, "y", "()I"⟩
theorem dX12_y_0 : decode cX12_y 0 = .ok (.aload_n 0, 1) := by decide +kernel
theorem dX12_y_1 : decode cX12_y 1 = .ok (.getfield 38, 3) := by decide +kernel
theorem dX12_y_4 : decode cX12_y 4 = .ok (.ireturn, 1) := by decide +kernel
abbrev cX12_high : ByteArray := prog_5_method_5_code
def yX12_high : MethodName := ⟨RX12, "high", "()I"⟩
theorem dX12_high_0 : decode cX12_high 0 = .ok (.aload_n 0, 1) := by decide +kernel
theorem dX12_high_1 : decode cX12_high 1 = .ok (.getfield 42, 3) := by decide +kernel
theorem dX12_high_4 : decode cX12_high 4 = .ok (.ireturn, 1) := by decide +kernel
abbrev cX12_holdsClosed : ByteArray := prog_5_method_6_code
def yX12_holdsClosed : MethodName := ⟨RX12, "holdsClosed", "(I)Z"⟩
def dkwX12_holdsClosed_0 : List UInt8 := [42, 180, 0, 47, 27, 184, 0, 94, 172]
abbrev dktX12_holdsClosed_0 : List UInt8 := dkwX12_holdsClosed_0 ++ []
theorem dksX12_holdsClosed_0 : cX12_holdsClosed.data.toList.drop 0 = dktX12_holdsClosed_0 := by decide +kernel
theorem dX12_holdsClosed_0 : decode cX12_holdsClosed 0 = .ok (.aload_n 0, 1) := dk_42 (dk_at dksX12_holdsClosed_0 0 rfl rfl)
theorem dX12_holdsClosed_1 : decode cX12_holdsClosed 1 = .ok (.getfield 47, 3) := dk_180 0 47 (dk_at dksX12_holdsClosed_0 1 rfl rfl)
theorem dX12_holdsClosed_4 : decode cX12_holdsClosed 4 = .ok (.iload_n 1, 1) := dk_27 (dk_at dksX12_holdsClosed_0 4 rfl rfl)
theorem dX12_holdsClosed_5 : decode cX12_holdsClosed 5 = .ok (.invokestatic 94, 3) := dk_184 0 94 (dk_at dksX12_holdsClosed_0 5 rfl rfl)
theorem dX12_holdsClosed_8 : decode cX12_holdsClosed 8 = .ok (.ireturn, 1) := dk_172 (dk_at dksX12_holdsClosed_0 8 rfl rfl)
abbrev cX12_init_2 : ByteArray := prog_5_method_2_code
def yX12_init_2 : MethodName := ⟨RX12, "<init>", "(LFlareSlopes$Cabin;)V"⟩
def dkwX12_init_2_7 : List UInt8 := [167, 255, 209, 177]
abbrev dktX12_init_2_7 : List UInt8 := dkwX12_init_2_7 ++ []
def dkwX12_init_2_6 : List UInt8 := [45, 185, 0, 80, 1, 0, 192, 0, 83, 45, 185, 0, 85, 1, 0, 192, 0, 88, 185, 0, 90, 3, 0, 87]
abbrev dktX12_init_2_6 : List UInt8 := dkwX12_init_2_6 ++ dktX12_init_2_7
def dkwX12_init_2_5 : List UInt8 := [77, 44, 185, 0, 68, 1, 0, 153, 0, 44, 44, 185, 0, 74, 1, 0, 192, 0, 78, 78, 42, 180, 0, 25]
abbrev dktX12_init_2_5 : List UInt8 := dkwX12_init_2_5 ++ dktX12_init_2_6
def dkwX12_init_2_4 : List UInt8 := [42, 180, 0, 18, 3, 16, 8, 184, 0, 50, 43, 180, 0, 25, 185, 0, 56, 1, 0, 185, 0, 62, 1, 0]
abbrev dktX12_init_2_4 : List UInt8 := dkwX12_init_2_4 ++ dktX12_init_2_5
def dkwX12_init_2_3 : List UInt8 := [181, 0, 9, 42, 43, 180, 0, 15, 181, 0, 15, 42, 43, 180, 0, 47, 181, 0, 47, 43, 180, 0, 18, 3]
abbrev dktX12_init_2_3 : List UInt8 := dkwX12_init_2_3 ++ dktX12_init_2_4
def dkwX12_init_2_2 : List UInt8 := [181, 0, 38, 42, 43, 180, 0, 42, 181, 0, 42, 42, 43, 180, 0, 46, 181, 0, 46, 42, 43, 180, 0, 9]
abbrev dktX12_init_2_2 : List UInt8 := dkwX12_init_2_2 ++ dktX12_init_2_3
def dkwX12_init_2_1 : List UInt8 := [187, 0, 22, 89, 183, 0, 24, 181, 0, 25, 42, 43, 180, 0, 34, 181, 0, 34, 42, 43, 180, 0, 38]
abbrev dktX12_init_2_1 : List UInt8 := dkwX12_init_2_1 ++ dktX12_init_2_2
def dkwX12_init_2_0 : List UInt8 := [42, 183, 0, 3, 42, 16, 100, 181, 0, 9, 42, 2, 181, 0, 15, 42, 16, 8, 188, 10, 181, 0, 18, 42]
abbrev dktX12_init_2_0 : List UInt8 := dkwX12_init_2_0 ++ dktX12_init_2_1
theorem dksX12_init_2_0 : cX12_init_2.data.toList.drop 0 = dktX12_init_2_0 := by decide +kernel
theorem dksX12_init_2_1 : cX12_init_2.data.toList.drop 24 = dktX12_init_2_1 := dk_seg dksX12_init_2_0 24 rfl rfl
theorem dksX12_init_2_2 : cX12_init_2.data.toList.drop 47 = dktX12_init_2_2 := dk_seg dksX12_init_2_1 23 rfl rfl
theorem dksX12_init_2_3 : cX12_init_2.data.toList.drop 71 = dktX12_init_2_3 := dk_seg dksX12_init_2_2 24 rfl rfl
theorem dksX12_init_2_4 : cX12_init_2.data.toList.drop 95 = dktX12_init_2_4 := dk_seg dksX12_init_2_3 24 rfl rfl
theorem dksX12_init_2_5 : cX12_init_2.data.toList.drop 119 = dktX12_init_2_5 := dk_seg dksX12_init_2_4 24 rfl rfl
theorem dksX12_init_2_6 : cX12_init_2.data.toList.drop 143 = dktX12_init_2_6 := dk_seg dksX12_init_2_5 24 rfl rfl
theorem dksX12_init_2_7 : cX12_init_2.data.toList.drop 167 = dktX12_init_2_7 := dk_seg dksX12_init_2_6 24 rfl rfl
theorem dX12_init_2_0 : decode cX12_init_2 0 = .ok (.aload_n 0, 1) := dk_42 (dk_at dksX12_init_2_0 0 rfl rfl)
theorem dX12_init_2_1 : decode cX12_init_2 1 = .ok (.invokespecial 3, 3) := dk_183 0 3 (dk_at dksX12_init_2_0 1 rfl rfl)
theorem dX12_init_2_4 : decode cX12_init_2 4 = .ok (.aload_n 0, 1) := dk_42 (dk_at dksX12_init_2_0 4 rfl rfl)
theorem dX12_init_2_5 : decode cX12_init_2 5 = .ok (.bipush 100, 2) := dk_16 100 (dk_at dksX12_init_2_0 5 rfl rfl)
theorem dX12_init_2_7 : decode cX12_init_2 7 = .ok (.putfield 9, 3) := dk_181 0 9 (dk_at dksX12_init_2_0 7 rfl rfl)
theorem dX12_init_2_10 : decode cX12_init_2 10 = .ok (.aload_n 0, 1) := dk_42 (dk_at dksX12_init_2_0 10 rfl rfl)
theorem dX12_init_2_11 : decode cX12_init_2 11 = .ok (.iconst (-1), 1) := dk_2 (dk_at dksX12_init_2_0 11 rfl rfl)
theorem dX12_init_2_12 : decode cX12_init_2 12 = .ok (.putfield 15, 3) := dk_181 0 15 (dk_at dksX12_init_2_0 12 rfl rfl)
theorem dX12_init_2_15 : decode cX12_init_2 15 = .ok (.aload_n 0, 1) := dk_42 (dk_at dksX12_init_2_0 15 rfl rfl)
theorem dX12_init_2_16 : decode cX12_init_2 16 = .ok (.bipush 8, 2) := dk_16 8 (dk_at dksX12_init_2_0 16 rfl rfl)
theorem dX12_init_2_18 : decode cX12_init_2 18 = .ok (.newarray .int, 2) := dk_188_10 (dk_at dksX12_init_2_0 18 rfl rfl)
theorem dX12_init_2_20 : decode cX12_init_2 20 = .ok (.putfield 18, 3) := dk_181 0 18 (dk_at dksX12_init_2_0 20 rfl rfl)
theorem dX12_init_2_23 : decode cX12_init_2 23 = .ok (.aload_n 0, 1) := dk_42 (dk_at dksX12_init_2_0 23 rfl rfl)
theorem dX12_init_2_24 : decode cX12_init_2 24 = .ok (.new 22, 3) := dk_187 0 22 (dk_at dksX12_init_2_1 0 rfl rfl)
theorem dX12_init_2_27 : decode cX12_init_2 27 = .ok (.dup, 1) := dk_89 (dk_at dksX12_init_2_1 3 rfl rfl)
theorem dX12_init_2_28 : decode cX12_init_2 28 = .ok (.invokespecial 24, 3) := dk_183 0 24 (dk_at dksX12_init_2_1 4 rfl rfl)
theorem dX12_init_2_31 : decode cX12_init_2 31 = .ok (.putfield 25, 3) := dk_181 0 25 (dk_at dksX12_init_2_1 7 rfl rfl)
theorem dX12_init_2_34 : decode cX12_init_2 34 = .ok (.aload_n 0, 1) := dk_42 (dk_at dksX12_init_2_1 10 rfl rfl)
theorem dX12_init_2_35 : decode cX12_init_2 35 = .ok (.aload_n 1, 1) := dk_43 (dk_at dksX12_init_2_1 11 rfl rfl)
theorem dX12_init_2_36 : decode cX12_init_2 36 = .ok (.getfield 34, 3) := dk_180 0 34 (dk_at dksX12_init_2_1 12 rfl rfl)
theorem dX12_init_2_39 : decode cX12_init_2 39 = .ok (.putfield 34, 3) := dk_181 0 34 (dk_at dksX12_init_2_1 15 rfl rfl)
theorem dX12_init_2_42 : decode cX12_init_2 42 = .ok (.aload_n 0, 1) := dk_42 (dk_at dksX12_init_2_1 18 rfl rfl)
theorem dX12_init_2_43 : decode cX12_init_2 43 = .ok (.aload_n 1, 1) := dk_43 (dk_at dksX12_init_2_1 19 rfl rfl)
theorem dX12_init_2_44 : decode cX12_init_2 44 = .ok (.getfield 38, 3) := dk_180 0 38 (dk_at dksX12_init_2_1 20 rfl rfl)
theorem dX12_init_2_47 : decode cX12_init_2 47 = .ok (.putfield 38, 3) := dk_181 0 38 (dk_at dksX12_init_2_2 0 rfl rfl)
theorem dX12_init_2_50 : decode cX12_init_2 50 = .ok (.aload_n 0, 1) := dk_42 (dk_at dksX12_init_2_2 3 rfl rfl)
theorem dX12_init_2_51 : decode cX12_init_2 51 = .ok (.aload_n 1, 1) := dk_43 (dk_at dksX12_init_2_2 4 rfl rfl)
theorem dX12_init_2_52 : decode cX12_init_2 52 = .ok (.getfield 42, 3) := dk_180 0 42 (dk_at dksX12_init_2_2 5 rfl rfl)
theorem dX12_init_2_55 : decode cX12_init_2 55 = .ok (.putfield 42, 3) := dk_181 0 42 (dk_at dksX12_init_2_2 8 rfl rfl)
theorem dX12_init_2_58 : decode cX12_init_2 58 = .ok (.aload_n 0, 1) := dk_42 (dk_at dksX12_init_2_2 11 rfl rfl)
theorem dX12_init_2_59 : decode cX12_init_2 59 = .ok (.aload_n 1, 1) := dk_43 (dk_at dksX12_init_2_2 12 rfl rfl)
theorem dX12_init_2_60 : decode cX12_init_2 60 = .ok (.getfield 46, 3) := dk_180 0 46 (dk_at dksX12_init_2_2 13 rfl rfl)
theorem dX12_init_2_63 : decode cX12_init_2 63 = .ok (.putfield 46, 3) := dk_181 0 46 (dk_at dksX12_init_2_2 16 rfl rfl)
theorem dX12_init_2_66 : decode cX12_init_2 66 = .ok (.aload_n 0, 1) := dk_42 (dk_at dksX12_init_2_2 19 rfl rfl)
theorem dX12_init_2_67 : decode cX12_init_2 67 = .ok (.aload_n 1, 1) := dk_43 (dk_at dksX12_init_2_2 20 rfl rfl)
theorem dX12_init_2_68 : decode cX12_init_2 68 = .ok (.getfield 9, 3) := dk_180 0 9 (dk_at dksX12_init_2_2 21 rfl rfl)
theorem dX12_init_2_71 : decode cX12_init_2 71 = .ok (.putfield 9, 3) := dk_181 0 9 (dk_at dksX12_init_2_3 0 rfl rfl)
theorem dX12_init_2_74 : decode cX12_init_2 74 = .ok (.aload_n 0, 1) := dk_42 (dk_at dksX12_init_2_3 3 rfl rfl)
theorem dX12_init_2_75 : decode cX12_init_2 75 = .ok (.aload_n 1, 1) := dk_43 (dk_at dksX12_init_2_3 4 rfl rfl)
theorem dX12_init_2_76 : decode cX12_init_2 76 = .ok (.getfield 15, 3) := dk_180 0 15 (dk_at dksX12_init_2_3 5 rfl rfl)
theorem dX12_init_2_79 : decode cX12_init_2 79 = .ok (.putfield 15, 3) := dk_181 0 15 (dk_at dksX12_init_2_3 8 rfl rfl)
theorem dX12_init_2_82 : decode cX12_init_2 82 = .ok (.aload_n 0, 1) := dk_42 (dk_at dksX12_init_2_3 11 rfl rfl)
theorem dX12_init_2_83 : decode cX12_init_2 83 = .ok (.aload_n 1, 1) := dk_43 (dk_at dksX12_init_2_3 12 rfl rfl)
theorem dX12_init_2_84 : decode cX12_init_2 84 = .ok (.getfield 47, 3) := dk_180 0 47 (dk_at dksX12_init_2_3 13 rfl rfl)
theorem dX12_init_2_87 : decode cX12_init_2 87 = .ok (.putfield 47, 3) := dk_181 0 47 (dk_at dksX12_init_2_3 16 rfl rfl)
theorem dX12_init_2_90 : decode cX12_init_2 90 = .ok (.aload_n 1, 1) := dk_43 (dk_at dksX12_init_2_3 19 rfl rfl)
theorem dX12_init_2_91 : decode cX12_init_2 91 = .ok (.getfield 18, 3) := dk_180 0 18 (dk_at dksX12_init_2_3 20 rfl rfl)
theorem dX12_init_2_94 : decode cX12_init_2 94 = .ok (.iconst 0, 1) := dk_3 (dk_at dksX12_init_2_3 23 rfl rfl)
theorem dX12_init_2_95 : decode cX12_init_2 95 = .ok (.aload_n 0, 1) := dk_42 (dk_at dksX12_init_2_4 0 rfl rfl)
theorem dX12_init_2_96 : decode cX12_init_2 96 = .ok (.getfield 18, 3) := dk_180 0 18 (dk_at dksX12_init_2_4 1 rfl rfl)
theorem dX12_init_2_99 : decode cX12_init_2 99 = .ok (.iconst 0, 1) := dk_3 (dk_at dksX12_init_2_4 4 rfl rfl)
theorem dX12_init_2_100 : decode cX12_init_2 100 = .ok (.bipush 8, 2) := dk_16 8 (dk_at dksX12_init_2_4 5 rfl rfl)
theorem dX12_init_2_102 : decode cX12_init_2 102 = .ok (.invokestatic 50, 3) := dk_184 0 50 (dk_at dksX12_init_2_4 7 rfl rfl)
theorem dX12_init_2_105 : decode cX12_init_2 105 = .ok (.aload_n 1, 1) := dk_43 (dk_at dksX12_init_2_4 10 rfl rfl)
theorem dX12_init_2_106 : decode cX12_init_2 106 = .ok (.getfield 25, 3) := dk_180 0 25 (dk_at dksX12_init_2_4 11 rfl rfl)
theorem dX12_init_2_109 : decode cX12_init_2 109 = .ok (.invokeinterface 56 1, 5) := by decide +kernel
theorem dX12_init_2_114 : decode cX12_init_2 114 = .ok (.invokeinterface 62 1, 5) := by decide +kernel
theorem dX12_init_2_119 : decode cX12_init_2 119 = .ok (.astore_n 2, 1) := dk_77 (dk_at dksX12_init_2_5 0 rfl rfl)
theorem dX12_init_2_120 : decode cX12_init_2 120 = .ok (.aload_n 2, 1) := dk_44 (dk_at dksX12_init_2_5 1 rfl rfl)
theorem dX12_init_2_121 : decode cX12_init_2 121 = .ok (.invokeinterface 68 1, 5) := by decide +kernel
theorem dX12_init_2_126 : decode cX12_init_2 126 = .ok (.ifCond .eq 44, 3) := dk_153 0 44 (dk_at dksX12_init_2_5 7 rfl rfl)
theorem dX12_init_2_129 : decode cX12_init_2 129 = .ok (.aload_n 2, 1) := dk_44 (dk_at dksX12_init_2_5 10 rfl rfl)
theorem dX12_init_2_130 : decode cX12_init_2 130 = .ok (.invokeinterface 74 1, 5) := by decide +kernel
theorem dX12_init_2_135 : decode cX12_init_2 135 = .ok (.checkcast 78, 3) := dk_192 0 78 (dk_at dksX12_init_2_5 16 rfl rfl)
theorem dX12_init_2_138 : decode cX12_init_2 138 = .ok (.astore_n 3, 1) := dk_78 (dk_at dksX12_init_2_5 19 rfl rfl)
theorem dX12_init_2_139 : decode cX12_init_2 139 = .ok (.aload_n 0, 1) := dk_42 (dk_at dksX12_init_2_5 20 rfl rfl)
theorem dX12_init_2_140 : decode cX12_init_2 140 = .ok (.getfield 25, 3) := dk_180 0 25 (dk_at dksX12_init_2_5 21 rfl rfl)
theorem dX12_init_2_143 : decode cX12_init_2 143 = .ok (.aload_n 3, 1) := dk_45 (dk_at dksX12_init_2_6 0 rfl rfl)
theorem dX12_init_2_144 : decode cX12_init_2 144 = .ok (.invokeinterface 80 1, 5) := by decide +kernel
theorem dX12_init_2_149 : decode cX12_init_2 149 = .ok (.checkcast 83, 3) := dk_192 0 83 (dk_at dksX12_init_2_6 6 rfl rfl)
theorem dX12_init_2_152 : decode cX12_init_2 152 = .ok (.aload_n 3, 1) := dk_45 (dk_at dksX12_init_2_6 9 rfl rfl)
theorem dX12_init_2_153 : decode cX12_init_2 153 = .ok (.invokeinterface 85 1, 5) := by decide +kernel
theorem dX12_init_2_158 : decode cX12_init_2 158 = .ok (.checkcast 88, 3) := dk_192 0 88 (dk_at dksX12_init_2_6 15 rfl rfl)
theorem dX12_init_2_161 : decode cX12_init_2 161 = .ok (.invokeinterface 90 3, 5) := by decide +kernel
theorem dX12_init_2_166 : decode cX12_init_2 166 = .ok (.pop, 1) := dk_87 (dk_at dksX12_init_2_6 23 rfl rfl)
theorem dX12_init_2_167 : decode cX12_init_2 167 = .ok (.goto (-47), 3) := dk_167 255 209 (dk_at dksX12_init_2_7 0 rfl rfl)
theorem dX12_init_2_170 : decode cX12_init_2 170 = .ok (.return_, 1) := dk_177 (dk_at dksX12_init_2_7 3 rfl rfl)
abbrev cX12_forgets : ByteArray := prog_5_method_8_code
def yX12_forgets : MethodName := ⟨RX12, "forgets", "(LFlareSlopes$Key;II)V"⟩
def dkwX12_forgets_2 : List UInt8 := [177]
abbrev dktX12_forgets_2 : List UInt8 := dkwX12_forgets_2 ++ []
def dkwX12_forgets_1 : List UInt8 := [180, 0, 111, 100, 29, 162, 0, 4, 177, 42, 180, 0, 25, 43, 185, 0, 114, 2, 0, 192, 0, 88, 58, 5]
abbrev dktX12_forgets_1 : List UInt8 := dkwX12_forgets_1 ++ dktX12_forgets_2
def dkwX12_forgets_0 : List UInt8 := [42, 180, 0, 25, 43, 185, 0, 107, 2, 0, 192, 0, 88, 58, 4, 25, 4, 198, 0, 14, 28, 25, 4]
abbrev dktX12_forgets_0 : List UInt8 := dkwX12_forgets_0 ++ dktX12_forgets_1
theorem dksX12_forgets_0 : cX12_forgets.data.toList.drop 0 = dktX12_forgets_0 := by decide +kernel
theorem dksX12_forgets_1 : cX12_forgets.data.toList.drop 23 = dktX12_forgets_1 := dk_seg dksX12_forgets_0 23 rfl rfl
theorem dksX12_forgets_2 : cX12_forgets.data.toList.drop 47 = dktX12_forgets_2 := dk_seg dksX12_forgets_1 24 rfl rfl
theorem dX12_forgets_0 : decode cX12_forgets 0 = .ok (.aload_n 0, 1) := dk_42 (dk_at dksX12_forgets_0 0 rfl rfl)
theorem dX12_forgets_1 : decode cX12_forgets 1 = .ok (.getfield 25, 3) := dk_180 0 25 (dk_at dksX12_forgets_0 1 rfl rfl)
theorem dX12_forgets_4 : decode cX12_forgets 4 = .ok (.aload_n 1, 1) := dk_43 (dk_at dksX12_forgets_0 4 rfl rfl)
theorem dX12_forgets_5 : decode cX12_forgets 5 = .ok (.invokeinterface 107 2, 5) := by decide +kernel
theorem dX12_forgets_10 : decode cX12_forgets 10 = .ok (.checkcast 88, 3) := dk_192 0 88 (dk_at dksX12_forgets_0 10 rfl rfl)
theorem dX12_forgets_13 : decode cX12_forgets 13 = .ok (.astore 4, 2) := dk_58 4 (dk_at dksX12_forgets_0 13 rfl rfl)
theorem dX12_forgets_15 : decode cX12_forgets 15 = .ok (.aload 4, 2) := dk_25 4 (dk_at dksX12_forgets_0 15 rfl rfl)
theorem dX12_forgets_17 : decode cX12_forgets 17 = .ok (.ifnull 14, 3) := dk_198 0 14 (dk_at dksX12_forgets_0 17 rfl rfl)
theorem dX12_forgets_20 : decode cX12_forgets 20 = .ok (.iload_n 2, 1) := dk_28 (dk_at dksX12_forgets_0 20 rfl rfl)
theorem dX12_forgets_21 : decode cX12_forgets 21 = .ok (.aload 4, 2) := dk_25 4 (dk_at dksX12_forgets_0 21 rfl rfl)
theorem dX12_forgets_23 : decode cX12_forgets 23 = .ok (.getfield 111, 3) := dk_180 0 111 (dk_at dksX12_forgets_1 0 rfl rfl)
theorem dX12_forgets_26 : decode cX12_forgets 26 = .ok (.isub, 1) := dk_100 (dk_at dksX12_forgets_1 3 rfl rfl)
theorem dX12_forgets_27 : decode cX12_forgets 27 = .ok (.iload_n 3, 1) := dk_29 (dk_at dksX12_forgets_1 4 rfl rfl)
theorem dX12_forgets_28 : decode cX12_forgets 28 = .ok (.if_icmp .ge 4, 3) := dk_162 0 4 (dk_at dksX12_forgets_1 5 rfl rfl)
theorem dX12_forgets_31 : decode cX12_forgets 31 = .ok (.return_, 1) := dk_177 (dk_at dksX12_forgets_1 8 rfl rfl)
theorem dX12_forgets_32 : decode cX12_forgets 32 = .ok (.aload_n 0, 1) := dk_42 (dk_at dksX12_forgets_1 9 rfl rfl)
theorem dX12_forgets_33 : decode cX12_forgets 33 = .ok (.getfield 25, 3) := dk_180 0 25 (dk_at dksX12_forgets_1 10 rfl rfl)
theorem dX12_forgets_36 : decode cX12_forgets 36 = .ok (.aload_n 1, 1) := dk_43 (dk_at dksX12_forgets_1 13 rfl rfl)
theorem dX12_forgets_37 : decode cX12_forgets 37 = .ok (.invokeinterface 114 2, 5) := by decide +kernel
theorem dX12_forgets_42 : decode cX12_forgets 42 = .ok (.checkcast 88, 3) := dk_192 0 88 (dk_at dksX12_forgets_1 19 rfl rfl)
theorem dX12_forgets_45 : decode cX12_forgets 45 = .ok (.astore 5, 2) := dk_58 5 (dk_at dksX12_forgets_1 22 rfl rfl)
theorem dX12_forgets_47 : decode cX12_forgets 47 = .ok (.return_, 1) := dk_177 (dk_at dksX12_forgets_2 0 rfl rfl)
abbrev cX12_trusts : ByteArray := prog_5_method_7_code
def yX12_trusts : MethodName := ⟨RX12, "trusts", "(I)V"⟩
def dkwX12_trusts_0 : List UInt8 := [42, 3, 16, 100, 42, 180, 0, 9, 27, 96, 184, 0, 98, 184, 0, 104, 181, 0, 9, 177]
abbrev dktX12_trusts_0 : List UInt8 := dkwX12_trusts_0 ++ []
theorem dksX12_trusts_0 : cX12_trusts.data.toList.drop 0 = dktX12_trusts_0 := by decide +kernel
theorem dX12_trusts_0 : decode cX12_trusts 0 = .ok (.aload_n 0, 1) := dk_42 (dk_at dksX12_trusts_0 0 rfl rfl)
theorem dX12_trusts_1 : decode cX12_trusts 1 = .ok (.iconst 0, 1) := dk_3 (dk_at dksX12_trusts_0 1 rfl rfl)
theorem dX12_trusts_2 : decode cX12_trusts 2 = .ok (.bipush 100, 2) := dk_16 100 (dk_at dksX12_trusts_0 2 rfl rfl)
theorem dX12_trusts_4 : decode cX12_trusts 4 = .ok (.aload_n 0, 1) := dk_42 (dk_at dksX12_trusts_0 4 rfl rfl)
theorem dX12_trusts_5 : decode cX12_trusts 5 = .ok (.getfield 9, 3) := dk_180 0 9 (dk_at dksX12_trusts_0 5 rfl rfl)
theorem dX12_trusts_8 : decode cX12_trusts 8 = .ok (.iload_n 1, 1) := dk_27 (dk_at dksX12_trusts_0 8 rfl rfl)
theorem dX12_trusts_9 : decode cX12_trusts 9 = .ok (.iadd, 1) := dk_96 (dk_at dksX12_trusts_0 9 rfl rfl)
theorem dX12_trusts_10 : decode cX12_trusts 10 = .ok (.invokestatic 98, 3) := dk_184 0 98 (dk_at dksX12_trusts_0 10 rfl rfl)
theorem dX12_trusts_13 : decode cX12_trusts 13 = .ok (.invokestatic 104, 3) := dk_184 0 104 (dk_at dksX12_trusts_0 13 rfl rfl)
theorem dX12_trusts_16 : decode cX12_trusts 16 = .ok (.putfield 9, 3) := dk_181 0 9 (dk_at dksX12_trusts_0 16 rfl rfl)
theorem dX12_trusts_19 : decode cX12_trusts 19 = .ok (.return_, 1) := dk_177 (dk_at dksX12_trusts_0 19 rfl rfl)
theorem q162 : (Jvm.Cond.initialized "FlareSlopes$Cabin") ∈ lw_all := lw_g (lw_at lw_m1 35 rfl) rfl
theorem q1068 : (Jvm.Cond.fieldLinkNest "FlareSlopes$Cabin" (29 : Nat) "FlareSlopes$Spot" "x" "I" "FlareSlopes") ∈ lw_tbl := lw_at lw_m4 221 rfl
theorem q1071 : (Jvm.Cond.fieldLinkNest "FlareSlopes$Cabin" (35 : Nat) "FlareSlopes$Spot" "y" "I" "FlareSlopes") ∈ lw_tbl := lw_at lw_m4 224 rfl
theorem q1074 : (Jvm.Cond.fieldLinkNest "FlareSlopes$Cabin" (39 : Nat) "FlareSlopes$Spot" "high" "I" "FlareSlopes") ∈ lw_tbl := lw_at lw_m4 227 rfl
theorem q1077 : (Jvm.Cond.fieldLinkNest "FlareSlopes$Cabin" (43 : Nat) "FlareSlopes$Spot" "flares" "I" "FlareSlopes") ∈ lw_tbl := lw_at lw_m4 230 rfl
theorem q1231 : (Jvm.Cond.instantiable "FlareSlopes$Cabin" (9 : Nat)) ∈ lw_all := lw_g (lw_at lw_m5 144 rfl) rfl
theorem q1235 : (Jvm.Cond.instanceMethod ({ cls := "FlareSlopes$Cabin", name := "<init>", desc := "(LFlareSlopes$Spot;)V" } : Jvm.MethodName)) ∈ lw_all := lw_g (lw_at lw_m5 148 rfl) rfl
theorem q1236 : (Jvm.Cond.code ({ cls := "FlareSlopes$Cabin", name := "<init>", desc := "(LFlareSlopes$Spot;)V" } : Jvm.MethodName) prog_5_method_1_code (2 : Nat) (Option.none : Option Jvm.ClassFile.FieldType)) ∈ lw_all := lw_g (lw_at lw_m5 149 rfl) rfl
theorem q1237 : (Jvm.Cond.methodLink "FlareSlopes$Cabin" (3 : Nat) ({ cls := "java/lang/Object", name := "<init>", desc := "()V" } : Jvm.MethodName)) ∈ lw_all := lw_g (lw_at lw_m5 150 rfl) rfl
theorem q1238 : (Jvm.Cond.classLink "FlareSlopes$Cabin" (22 : Nat) "java/util/LinkedHashMap") ∈ lw_all := lw_g (lw_at lw_m5 151 rfl) rfl
theorem q1240 : (Jvm.Cond.methodLink "FlareSlopes$Cabin" (24 : Nat) ({ cls := "java/util/LinkedHashMap", name := "<init>", desc := "()V" } : Jvm.MethodName)) ∈ lw_all := lw_g (lw_at lw_m5 153 rfl) rfl
theorem q1305 : (Jvm.Cond.fieldLink "FlareSlopes$Cabin" (34 : Nat) "FlareSlopes$Cabin" "x" "I") ∈ lw_all := lw_g (lw_at lw_m5 218 rfl) rfl
theorem q1307 : (Jvm.Cond.fieldLink "FlareSlopes$Cabin" (38 : Nat) "FlareSlopes$Cabin" "y" "I") ∈ lw_all := lw_g (lw_at lw_m5 220 rfl) rfl
theorem q1309 : (Jvm.Cond.fieldLink "FlareSlopes$Cabin" (46 : Nat) "FlareSlopes$Cabin" "flares" "I") ∈ lw_all := lw_g (lw_at lw_m5 222 rfl) rfl
theorem q1311 : (Jvm.Cond.fieldLink "FlareSlopes$Cabin" (9 : Nat) "FlareSlopes$Cabin" "trust" "I") ∈ lw_all := lw_g (lw_at lw_m5 224 rfl) rfl
theorem q1314 : (Jvm.Cond.fieldLink "FlareSlopes$Cabin" (15 : Nat) "FlareSlopes$Cabin" "fired" "I") ∈ lw_all := lw_g (lw_at lw_m5 227 rfl) rfl
theorem q1316 : (Jvm.Cond.fieldLink "FlareSlopes$Cabin" (47 : Nat) "FlareSlopes$Cabin" "closed" "I") ∈ lw_all := lw_g (lw_at lw_m5 229 rfl) rfl
theorem q1319 : (Jvm.Cond.fieldLink "FlareSlopes$Cabin" (42 : Nat) "FlareSlopes$Cabin" "high" "I") ∈ lw_all := lw_g (lw_at lw_m5 232 rfl) rfl
theorem q1321 : (Jvm.Cond.fieldLink "FlareSlopes$Cabin" (18 : Nat) "FlareSlopes$Cabin" "runs" "[I") ∈ lw_all := lw_g (lw_at lw_m5 234 rfl) rfl
theorem q1324 : (Jvm.Cond.fieldLink "FlareSlopes$Cabin" (25 : Nat) "FlareSlopes$Cabin" "votes" "Ljava/util/Map;") ∈ lw_all := lw_g (lw_at lw_m5 237 rfl) rfl
theorem q1671 : (Jvm.Cond.castable "FlareSlopes$Cabin" "FlareSlopes$Located") ∈ lw_tbl := lw_at lw_m7 104 rfl
theorem q1672 : (Jvm.Cond.unhidden "FlareSlopes$Cabin" "isWithin" "(LFlareSlopes$Located;I)Z") ∈ lw_tbl := lw_at lw_m7 105 rfl
theorem q1680 : (Jvm.Cond.selects "FlareSlopes$Cabin" ({ cls := "FlareSlopes$Located", name := "x", desc := "()I" } : Jvm.MethodName) ({ cls := "FlareSlopes$Cabin", name := "x", desc := "()I" } : Jvm.MethodName)) ∈ lw_all := lw_g (lw_at lw_m7 113 rfl) rfl
theorem q1681 : (Jvm.Cond.unhidden "FlareSlopes$Cabin" "x" "()I") ∈ lw_tbl := lw_at lw_m7 114 rfl
theorem q1682 : (Jvm.Cond.instanceMethod ({ cls := "FlareSlopes$Cabin", name := "x", desc := "()I" } : Jvm.MethodName)) ∈ lw_all := lw_g (lw_at lw_m7 115 rfl) rfl
theorem q1683 : (Jvm.Cond.publicMethod ({ cls := "FlareSlopes$Cabin", name := "x", desc := "()I" } : Jvm.MethodName)) ∈ lw_tbl := lw_at lw_m7 116 rfl
theorem q1684 : (Jvm.Cond.code ({ cls := "FlareSlopes$Cabin", name := "x", desc := "()I" } : Jvm.MethodName) prog_5_method_3_code (1 : Nat) (Option.some Jvm.ClassFile.FieldType.int)) ∈ lw_all := lw_g (lw_at lw_m7 117 rfl) rfl
theorem q1698 : (Jvm.Cond.selects "FlareSlopes$Cabin" ({ cls := "FlareSlopes$Located", name := "y", desc := "()I" } : Jvm.MethodName) ({ cls := "FlareSlopes$Cabin", name := "y", desc := "()I" } : Jvm.MethodName)) ∈ lw_all := lw_g (lw_at lw_m7 131 rfl) rfl
theorem q1699 : (Jvm.Cond.unhidden "FlareSlopes$Cabin" "y" "()I") ∈ lw_tbl := lw_at lw_m7 132 rfl
theorem q1700 : (Jvm.Cond.instanceMethod ({ cls := "FlareSlopes$Cabin", name := "y", desc := "()I" } : Jvm.MethodName)) ∈ lw_all := lw_g (lw_at lw_m7 133 rfl) rfl
theorem q1701 : (Jvm.Cond.publicMethod ({ cls := "FlareSlopes$Cabin", name := "y", desc := "()I" } : Jvm.MethodName)) ∈ lw_tbl := lw_at lw_m7 134 rfl
theorem q1702 : (Jvm.Cond.code ({ cls := "FlareSlopes$Cabin", name := "y", desc := "()I" } : Jvm.MethodName) prog_5_method_4_code (1 : Nat) (Option.some Jvm.ClassFile.FieldType.int)) ∈ lw_all := lw_g (lw_at lw_m7 135 rfl) rfl
theorem q1724 : (Jvm.Cond.selects "FlareSlopes$Cabin" ({ cls := "FlareSlopes$Located", name := "high", desc := "()I" } : Jvm.MethodName) ({ cls := "FlareSlopes$Cabin", name := "high", desc := "()I" } : Jvm.MethodName)) ∈ lw_all := lw_g (lw_at lw_m7 157 rfl) rfl
theorem q1725 : (Jvm.Cond.unhidden "FlareSlopes$Cabin" "high" "()I") ∈ lw_tbl := lw_at lw_m7 158 rfl
theorem q1726 : (Jvm.Cond.instanceMethod ({ cls := "FlareSlopes$Cabin", name := "high", desc := "()I" } : Jvm.MethodName)) ∈ lw_all := lw_g (lw_at lw_m7 159 rfl) rfl
theorem q1727 : (Jvm.Cond.publicMethod ({ cls := "FlareSlopes$Cabin", name := "high", desc := "()I" } : Jvm.MethodName)) ∈ lw_tbl := lw_at lw_m7 160 rfl
theorem q1728 : (Jvm.Cond.code ({ cls := "FlareSlopes$Cabin", name := "high", desc := "()I" } : Jvm.MethodName) prog_5_method_5_code (1 : Nat) (Option.some Jvm.ClassFile.FieldType.int)) ∈ lw_all := lw_g (lw_at lw_m7 161 rfl) rfl
theorem q3055 : (Jvm.Cond.instanceMethod ({ cls := "FlareSlopes$Cabin", name := "holdsClosed", desc := "(I)Z" } : Jvm.MethodName)) ∈ lw_all := lw_g (lw_at lw_m13 48 rfl) rfl
theorem q3056 : (Jvm.Cond.selects "FlareSlopes$Cabin" ({ cls := "FlareSlopes$Cabin", name := "holdsClosed", desc := "(I)Z" } : Jvm.MethodName) ({ cls := "FlareSlopes$Cabin", name := "holdsClosed", desc := "(I)Z" } : Jvm.MethodName)) ∈ lw_all := lw_g (lw_at lw_m13 49 rfl) rfl
theorem q3057 : (Jvm.Cond.code ({ cls := "FlareSlopes$Cabin", name := "holdsClosed", desc := "(I)Z" } : Jvm.MethodName) prog_5_method_6_code (2 : Nat) (Option.some Jvm.ClassFile.FieldType.boolean)) ∈ lw_all := lw_g (lw_at lw_m13 50 rfl) rfl
theorem q3058 : (Jvm.Cond.methodLinkNest "FlareSlopes$Cabin" (94 : Nat) ({ cls := "FlareSlopes", name := "has", desc := "(II)Z" } : Jvm.MethodName) "FlareSlopes") ∈ lw_tbl := lw_at lw_m13 51 rfl
theorem q3470 : (Jvm.Cond.instanceMethod ({ cls := "FlareSlopes$Cabin", name := "<init>", desc := "(LFlareSlopes$Cabin;)V" } : Jvm.MethodName)) ∈ lw_all := lw_g (lw_at lw_m14 223 rfl) rfl
theorem q3471 : (Jvm.Cond.code ({ cls := "FlareSlopes$Cabin", name := "<init>", desc := "(LFlareSlopes$Cabin;)V" } : Jvm.MethodName) prog_5_method_2_code (4 : Nat) (Option.none : Option Jvm.ClassFile.FieldType)) ∈ lw_all := lw_g (lw_at lw_m14 224 rfl) rfl
theorem q3472 : (Jvm.Cond.methodLink "FlareSlopes$Cabin" (50 : Nat) ({ cls := "java/lang/System", name := "arraycopy", desc := "(Ljava/lang/Object;ILjava/lang/Object;II)V" } : Jvm.MethodName)) ∈ lw_all := lw_g (lw_at lw_m14 225 rfl) rfl
theorem q3474 : (Jvm.Cond.methodLink "FlareSlopes$Cabin" (56 : Nat) ({ cls := "java/util/Map", name := "entrySet", desc := "()Ljava/util/Set;" } : Jvm.MethodName)) ∈ lw_all := lw_g (lw_at lw_m14 227 rfl) rfl
theorem q3476 : (Jvm.Cond.methodLink "FlareSlopes$Cabin" (62 : Nat) ({ cls := "java/util/Set", name := "iterator", desc := "()Ljava/util/Iterator;" } : Jvm.MethodName)) ∈ lw_all := lw_g (lw_at lw_m14 229 rfl) rfl
theorem q3478 : (Jvm.Cond.methodLink "FlareSlopes$Cabin" (68 : Nat) ({ cls := "java/util/Iterator", name := "hasNext", desc := "()Z" } : Jvm.MethodName)) ∈ lw_all := lw_g (lw_at lw_m14 231 rfl) rfl
theorem q3480 : (Jvm.Cond.methodLink "FlareSlopes$Cabin" (74 : Nat) ({ cls := "java/util/Iterator", name := "next", desc := "()Ljava/lang/Object;" } : Jvm.MethodName)) ∈ lw_all := lw_g (lw_at lw_m14 233 rfl) rfl
theorem q3481 : (Jvm.Cond.classLink "FlareSlopes$Cabin" (78 : Nat) "java/util/Map$Entry") ∈ lw_all := lw_g (lw_at lw_m14 234 rfl) rfl
theorem q3483 : (Jvm.Cond.methodLink "FlareSlopes$Cabin" (80 : Nat) ({ cls := "java/util/Map$Entry", name := "getKey", desc := "()Ljava/lang/Object;" } : Jvm.MethodName)) ∈ lw_all := lw_g (lw_at lw_m14 236 rfl) rfl
theorem q3484 : (Jvm.Cond.classLink "FlareSlopes$Cabin" (83 : Nat) "FlareSlopes$Key") ∈ lw_all := lw_g (lw_at lw_m14 237 rfl) rfl
theorem q3486 : (Jvm.Cond.methodLink "FlareSlopes$Cabin" (85 : Nat) ({ cls := "java/util/Map$Entry", name := "getValue", desc := "()Ljava/lang/Object;" } : Jvm.MethodName)) ∈ lw_all := lw_g (lw_at lw_m14 239 rfl) rfl
theorem q3487 : (Jvm.Cond.classLink "FlareSlopes$Cabin" (88 : Nat) "FlareSlopes$Vote") ∈ lw_all := lw_g (lw_at lw_m15 0 rfl) rfl
theorem q3489 : (Jvm.Cond.methodLink "FlareSlopes$Cabin" (90 : Nat) ({ cls := "java/util/Map", name := "put", desc := "(Ljava/lang/Object;Ljava/lang/Object;)Ljava/lang/Object;" } : Jvm.MethodName)) ∈ lw_all := lw_g (lw_at lw_m15 2 rfl) rfl
theorem q3529 : (Jvm.Cond.instanceMethod ({ cls := "FlareSlopes$Cabin", name := "forgets", desc := "(LFlareSlopes$Key;II)V" } : Jvm.MethodName)) ∈ lw_all := lw_g (lw_at lw_m15 42 rfl) rfl
theorem q3530 : (Jvm.Cond.selects "FlareSlopes$Cabin" ({ cls := "FlareSlopes$Cabin", name := "forgets", desc := "(LFlareSlopes$Key;II)V" } : Jvm.MethodName) ({ cls := "FlareSlopes$Cabin", name := "forgets", desc := "(LFlareSlopes$Key;II)V" } : Jvm.MethodName)) ∈ lw_all := lw_g (lw_at lw_m15 43 rfl) rfl
theorem q3531 : (Jvm.Cond.code ({ cls := "FlareSlopes$Cabin", name := "forgets", desc := "(LFlareSlopes$Key;II)V" } : Jvm.MethodName) prog_5_method_8_code (6 : Nat) (Option.none : Option Jvm.ClassFile.FieldType)) ∈ lw_all := lw_g (lw_at lw_m15 44 rfl) rfl
theorem q3533 : (Jvm.Cond.methodLink "FlareSlopes$Cabin" (107 : Nat) ({ cls := "java/util/Map", name := "get", desc := "(Ljava/lang/Object;)Ljava/lang/Object;" } : Jvm.MethodName)) ∈ lw_all := lw_g (lw_at lw_m15 46 rfl) rfl
theorem q3535 : (Jvm.Cond.methodLink "FlareSlopes$Cabin" (114 : Nat) ({ cls := "java/util/Map", name := "remove", desc := "(Ljava/lang/Object;)Ljava/lang/Object;" } : Jvm.MethodName)) ∈ lw_all := lw_g (lw_at lw_m15 48 rfl) rfl
theorem q3630 : (Jvm.Cond.fieldLinkNest "FlareSlopes$Cabin" (111 : Nat) "FlareSlopes$Vote" "time" "I" "FlareSlopes") ∈ lw_tbl := lw_at lw_m15 143 rfl
theorem q3789 : (Jvm.Cond.instanceMethod ({ cls := "FlareSlopes$Cabin", name := "trusts", desc := "(I)V" } : Jvm.MethodName)) ∈ lw_all := lw_g (lw_at lw_m16 62 rfl) rfl
theorem q3790 : (Jvm.Cond.selects "FlareSlopes$Cabin" ({ cls := "FlareSlopes$Cabin", name := "trusts", desc := "(I)V" } : Jvm.MethodName) ({ cls := "FlareSlopes$Cabin", name := "trusts", desc := "(I)V" } : Jvm.MethodName)) ∈ lw_all := lw_g (lw_at lw_m16 63 rfl) rfl
theorem q3791 : (Jvm.Cond.code ({ cls := "FlareSlopes$Cabin", name := "trusts", desc := "(I)V" } : Jvm.MethodName) prog_5_method_7_code (2 : Nat) (Option.none : Option Jvm.ClassFile.FieldType)) ∈ lw_all := lw_g (lw_at lw_m16 64 rfl) rfl
theorem q3792 : (Jvm.Cond.methodLink "FlareSlopes$Cabin" (98 : Nat) ({ cls := "java/lang/Math", name := "min", desc := "(II)I" } : Jvm.MethodName)) ∈ lw_all := lw_g (lw_at lw_m16 65 rfl) rfl
theorem q3793 : (Jvm.Cond.methodLink "FlareSlopes$Cabin" (104 : Nat) ({ cls := "java/lang/Math", name := "max", desc := "(II)I" } : Jvm.MethodName)) ∈ lw_all := lw_g (lw_at lw_m16 66 rfl) rfl
theorem q4687 : (Jvm.Cond.castable "FlareSlopes$Cabin" "java/lang/Object") ∈ lw_tbl := lw_at lw_m20 0 rfl
theorem in_X12 : ∀ w ∈ wsX120, w ∈ lw_all := lw_in wsX120 [1327, 1329, 1331, 1333, 1335, 1337, 1339, 1341, 1343] (by decide +kernel) (by decide +kernel)
/-! X13.FlareSlopes_Located.lean.txt -/
def RX13 : String := "FlareSlopes$Located"
abbrev cX13_isWithin : ByteArray := prog_10_method_5_code
def yX13_isWithin : MethodName := ⟨RX13, "isWithin", "(LFlareSlopes$Located;I)Z"⟩
def dkwX13_isWithin_1 : List UInt8 := [185, 0, 13, 1, 0, 100, 184, 0, 16, 96, 28, 184, 0, 16, 163, 0, 7, 4, 167, 0, 4, 3, 172]
abbrev dktX13_isWithin_1 : List UInt8 := dkwX13_isWithin_1 ++ []
def dkwX13_isWithin_0 : List UInt8 := [42, 185, 0, 1, 1, 0, 43, 185, 0, 1, 1, 0, 100, 184, 0, 16, 42, 185, 0, 13, 1, 0, 43]
abbrev dktX13_isWithin_0 : List UInt8 := dkwX13_isWithin_0 ++ dktX13_isWithin_1
theorem dksX13_isWithin_0 : cX13_isWithin.data.toList.drop 0 = dktX13_isWithin_0 := by decide +kernel
theorem dksX13_isWithin_1 : cX13_isWithin.data.toList.drop 23 = dktX13_isWithin_1 := dk_seg dksX13_isWithin_0 23 rfl rfl
theorem dX13_isWithin_0 : decode cX13_isWithin 0 = .ok (.aload_n 0, 1) := dk_42 (dk_at dksX13_isWithin_0 0 rfl rfl)
theorem dX13_isWithin_1 : decode cX13_isWithin 1 = .ok (.invokeinterface 1 1, 5) := by decide +kernel
theorem dX13_isWithin_6 : decode cX13_isWithin 6 = .ok (.aload_n 1, 1) := dk_43 (dk_at dksX13_isWithin_0 6 rfl rfl)
theorem dX13_isWithin_7 : decode cX13_isWithin 7 = .ok (.invokeinterface 1 1, 5) := by decide +kernel
theorem dX13_isWithin_12 : decode cX13_isWithin 12 = .ok (.isub, 1) := dk_100 (dk_at dksX13_isWithin_0 12 rfl rfl)
theorem dX13_isWithin_13 : decode cX13_isWithin 13 = .ok (.invokestatic 16, 3) := dk_184 0 16 (dk_at dksX13_isWithin_0 13 rfl rfl)
theorem dX13_isWithin_16 : decode cX13_isWithin 16 = .ok (.aload_n 0, 1) := dk_42 (dk_at dksX13_isWithin_0 16 rfl rfl)
theorem dX13_isWithin_17 : decode cX13_isWithin 17 = .ok (.invokeinterface 13 1, 5) := by decide +kernel
theorem dX13_isWithin_22 : decode cX13_isWithin 22 = .ok (.aload_n 1, 1) := dk_43 (dk_at dksX13_isWithin_0 22 rfl rfl)
theorem dX13_isWithin_23 : decode cX13_isWithin 23 = .ok (.invokeinterface 13 1, 5) := by decide +kernel
theorem dX13_isWithin_28 : decode cX13_isWithin 28 = .ok (.isub, 1) := dk_100 (dk_at dksX13_isWithin_1 5 rfl rfl)
theorem dX13_isWithin_29 : decode cX13_isWithin 29 = .ok (.invokestatic 16, 3) := dk_184 0 16 (dk_at dksX13_isWithin_1 6 rfl rfl)
theorem dX13_isWithin_32 : decode cX13_isWithin 32 = .ok (.iadd, 1) := dk_96 (dk_at dksX13_isWithin_1 9 rfl rfl)
theorem dX13_isWithin_33 : decode cX13_isWithin 33 = .ok (.iload_n 2, 1) := dk_28 (dk_at dksX13_isWithin_1 10 rfl rfl)
theorem dX13_isWithin_34 : decode cX13_isWithin 34 = .ok (.invokestatic 16, 3) := dk_184 0 16 (dk_at dksX13_isWithin_1 11 rfl rfl)
theorem dX13_isWithin_37 : decode cX13_isWithin 37 = .ok (.if_icmp .gt 7, 3) := dk_163 0 7 (dk_at dksX13_isWithin_1 14 rfl rfl)
theorem dX13_isWithin_40 : decode cX13_isWithin 40 = .ok (.iconst 1, 1) := dk_4 (dk_at dksX13_isWithin_1 17 rfl rfl)
theorem dX13_isWithin_41 : decode cX13_isWithin 41 = .ok (.goto 4, 3) := dk_167 0 4 (dk_at dksX13_isWithin_1 18 rfl rfl)
theorem dX13_isWithin_44 : decode cX13_isWithin 44 = .ok (.iconst 0, 1) := dk_3 (dk_at dksX13_isWithin_1 21 rfl rfl)
theorem dX13_isWithin_45 : decode cX13_isWithin 45 = .ok (.ireturn, 1) := dk_172 (dk_at dksX13_isWithin_1 22 rfl rfl)
abbrev cX13_square : ByteArray := prog_10_method_6_code
def yX13_square : MethodName := ⟨RX13, "square", "(I)I"⟩
def dkwX13_square_0 : List UInt8 := [26, 26, 104, 172]
abbrev dktX13_square_0 : List UInt8 := dkwX13_square_0 ++ []
theorem dksX13_square_0 : cX13_square.data.toList.drop 0 = dktX13_square_0 := by decide +kernel
theorem dX13_square_0 : decode cX13_square 0 = .ok (.iload_n 0, 1) := dk_26 (dk_at dksX13_square_0 0 rfl rfl)
theorem dX13_square_1 : decode cX13_square 1 = .ok (.iload_n 0, 1) := dk_26 (dk_at dksX13_square_0 1 rfl rfl)
theorem dX13_square_2 : decode cX13_square 2 = .ok (.imul, 1) := dk_104 (dk_at dksX13_square_0 2 rfl rfl)
theorem dX13_square_3 : decode cX13_square 3 = .ok (.ireturn, 1) := dk_172 (dk_at dksX13_square_0 3 rfl rfl)
abbrev cX13_distance : ByteArray := prog_10_method_4_code
def yX13_distance : MethodName := ⟨RX13, "distance", "(LFlareSlopes$Located;)I"⟩
def dkwX13_distance_1 : List UInt8 := [185, 0, 13, 1, 0, 100, 184, 0, 7, 96, 172]
abbrev dktX13_distance_1 : List UInt8 := dkwX13_distance_1 ++ []
def dkwX13_distance_0 : List UInt8 := [42, 185, 0, 1, 1, 0, 43, 185, 0, 1, 1, 0, 100, 184, 0, 7, 42, 185, 0, 13, 1, 0, 43]
abbrev dktX13_distance_0 : List UInt8 := dkwX13_distance_0 ++ dktX13_distance_1
theorem dksX13_distance_0 : cX13_distance.data.toList.drop 0 = dktX13_distance_0 := by decide +kernel
theorem dksX13_distance_1 : cX13_distance.data.toList.drop 23 = dktX13_distance_1 := dk_seg dksX13_distance_0 23 rfl rfl
theorem dX13_distance_0 : decode cX13_distance 0 = .ok (.aload_n 0, 1) := dk_42 (dk_at dksX13_distance_0 0 rfl rfl)
theorem dX13_distance_1 : decode cX13_distance 1 = .ok (.invokeinterface 1 1, 5) := by decide +kernel
theorem dX13_distance_6 : decode cX13_distance 6 = .ok (.aload_n 1, 1) := dk_43 (dk_at dksX13_distance_0 6 rfl rfl)
theorem dX13_distance_7 : decode cX13_distance 7 = .ok (.invokeinterface 1 1, 5) := by decide +kernel
theorem dX13_distance_12 : decode cX13_distance 12 = .ok (.isub, 1) := dk_100 (dk_at dksX13_distance_0 12 rfl rfl)
theorem dX13_distance_13 : decode cX13_distance 13 = .ok (.invokestatic 7, 3) := dk_184 0 7 (dk_at dksX13_distance_0 13 rfl rfl)
theorem dX13_distance_16 : decode cX13_distance 16 = .ok (.aload_n 0, 1) := dk_42 (dk_at dksX13_distance_0 16 rfl rfl)
theorem dX13_distance_17 : decode cX13_distance 17 = .ok (.invokeinterface 13 1, 5) := by decide +kernel
theorem dX13_distance_22 : decode cX13_distance 22 = .ok (.aload_n 1, 1) := dk_43 (dk_at dksX13_distance_0 22 rfl rfl)
theorem dX13_distance_23 : decode cX13_distance 23 = .ok (.invokeinterface 13 1, 5) := by decide +kernel
theorem dX13_distance_28 : decode cX13_distance 28 = .ok (.isub, 1) := dk_100 (dk_at dksX13_distance_1 5 rfl rfl)
theorem dX13_distance_29 : decode cX13_distance 29 = .ok (.invokestatic 7, 3) := dk_184 0 7 (dk_at dksX13_distance_1 6 rfl rfl)
theorem dX13_distance_32 : decode cX13_distance 32 = .ok (.iadd, 1) := dk_96 (dk_at dksX13_distance_1 9 rfl rfl)
theorem dX13_distance_33 : decode cX13_distance 33 = .ok (.ireturn, 1) := dk_172 (dk_at dksX13_distance_1 10 rfl rfl)
theorem q168 : (Jvm.Cond.initialized "FlareSlopes$Located") ∈ lw_all := lw_g (lw_at lw_m1 41 rfl) rfl
theorem q1669 : (Jvm.Cond.interfaceMethod "FlareSlopes$Located" "FlareSlopes$Located" "isWithin" "(LFlareSlopes$Located;I)Z") ∈ lw_tbl := lw_at lw_m7 102 rfl
theorem q1670 : (Jvm.Cond.declares ({ cls := "FlareSlopes$Located", name := "isWithin", desc := "(LFlareSlopes$Located;I)Z" } : Jvm.MethodName)) ∈ lw_tbl := lw_at lw_m7 103 rfl
theorem q1673 : (Jvm.Cond.instanceMethod ({ cls := "FlareSlopes$Located", name := "isWithin", desc := "(LFlareSlopes$Located;I)Z" } : Jvm.MethodName)) ∈ lw_all := lw_g (lw_at lw_m7 106 rfl) rfl
theorem q1674 : (Jvm.Cond.publicMethod ({ cls := "FlareSlopes$Located", name := "isWithin", desc := "(LFlareSlopes$Located;I)Z" } : Jvm.MethodName)) ∈ lw_tbl := lw_at lw_m7 107 rfl
theorem q1675 : (Jvm.Cond.code ({ cls := "FlareSlopes$Located", name := "isWithin", desc := "(LFlareSlopes$Located;I)Z" } : Jvm.MethodName) prog_10_method_5_code (3 : Nat) (Option.some Jvm.ClassFile.FieldType.boolean)) ∈ lw_all := lw_g (lw_at lw_m7 108 rfl) rfl
theorem q1677 : (Jvm.Cond.methodLink "FlareSlopes$Located" (1 : Nat) ({ cls := "FlareSlopes$Located", name := "x", desc := "()I" } : Jvm.MethodName)) ∈ lw_all := lw_g (lw_at lw_m7 110 rfl) rfl
theorem q1678 : (Jvm.Cond.interfaceMethod "FlareSlopes$Located" "FlareSlopes$Located" "x" "()I") ∈ lw_tbl := lw_at lw_m7 111 rfl
theorem q1679 : (Jvm.Cond.declares ({ cls := "FlareSlopes$Located", name := "x", desc := "()I" } : Jvm.MethodName)) ∈ lw_tbl := lw_at lw_m7 112 rfl
theorem q1691 : (Jvm.Cond.methodLink "FlareSlopes$Located" (16 : Nat) ({ cls := "FlareSlopes$Located", name := "square", desc := "(I)I" } : Jvm.MethodName)) ∈ lw_all := lw_g (lw_at lw_m7 124 rfl) rfl
theorem q1692 : (Jvm.Cond.static ({ cls := "FlareSlopes$Located", name := "square", desc := "(I)I" } : Jvm.MethodName)) ∈ lw_all := lw_g (lw_at lw_m7 125 rfl) rfl
theorem q1693 : (Jvm.Cond.code ({ cls := "FlareSlopes$Located", name := "square", desc := "(I)I" } : Jvm.MethodName) prog_10_method_6_code (1 : Nat) (Option.some Jvm.ClassFile.FieldType.int)) ∈ lw_all := lw_g (lw_at lw_m7 126 rfl) rfl
theorem q1695 : (Jvm.Cond.methodLink "FlareSlopes$Located" (13 : Nat) ({ cls := "FlareSlopes$Located", name := "y", desc := "()I" } : Jvm.MethodName)) ∈ lw_all := lw_g (lw_at lw_m7 128 rfl) rfl
theorem q1696 : (Jvm.Cond.interfaceMethod "FlareSlopes$Located" "FlareSlopes$Located" "y" "()I") ∈ lw_tbl := lw_at lw_m7 129 rfl
theorem q1697 : (Jvm.Cond.declares ({ cls := "FlareSlopes$Located", name := "y", desc := "()I" } : Jvm.MethodName)) ∈ lw_tbl := lw_at lw_m7 130 rfl
theorem q1722 : (Jvm.Cond.interfaceMethod "FlareSlopes$Located" "FlareSlopes$Located" "high" "()I") ∈ lw_tbl := lw_at lw_m7 155 rfl
theorem q1723 : (Jvm.Cond.declares ({ cls := "FlareSlopes$Located", name := "high", desc := "()I" } : Jvm.MethodName)) ∈ lw_tbl := lw_at lw_m7 156 rfl
theorem q3090 : (Jvm.Cond.instanceMethod ({ cls := "FlareSlopes$Located", name := "distance", desc := "(LFlareSlopes$Located;)I" } : Jvm.MethodName)) ∈ lw_all := lw_g (lw_at lw_m13 83 rfl) rfl
theorem q3092 : (Jvm.Cond.code ({ cls := "FlareSlopes$Located", name := "distance", desc := "(LFlareSlopes$Located;)I" } : Jvm.MethodName) prog_10_method_4_code (2 : Nat) (Option.some Jvm.ClassFile.FieldType.int)) ∈ lw_all := lw_g (lw_at lw_m13 85 rfl) rfl
theorem q3093 : (Jvm.Cond.methodLink "FlareSlopes$Located" (7 : Nat) ({ cls := "java/lang/Math", name := "abs", desc := "(I)I" } : Jvm.MethodName)) ∈ lw_all := lw_g (lw_at lw_m13 86 rfl) rfl
/-! X14.FlareSlopes_Judge.lean.txt -/
def RX14 : String := "FlareSlopes$Judge"
abbrev cX14_init : ByteArray := prog_8_method_1_code
def yX14_init : MethodName := ⟨RX14, "<init>", "()V"⟩
theorem dX14_init_0 : decode cX14_init 0 = .ok (.aload_n 0, 1) := by decide +kernel
theorem dX14_init_1 : decode cX14_init 1 = .ok (.invokespecial 1, 3) := by decide +kernel
theorem dX14_init_4 : decode cX14_init 4 = .ok (.return_, 1) := by decide +kernel
theorem q180 : (Jvm.Cond.initialized "FlareSlopes$Judge") ∈ lw_all := lw_g (lw_at lw_m1 53 rfl) rfl
theorem q1982 : (Jvm.Cond.instanceMethod ({ cls := "FlareSlopes$Judge", name := "<init>", desc := "()V" } : Jvm.MethodName)) ∈ lw_all := lw_g (lw_at lw_m8 175 rfl) rfl
theorem q1983 : (Jvm.Cond.code ({ cls := "FlareSlopes$Judge", name := "<init>", desc := "()V" } : Jvm.MethodName) prog_8_method_1_code (1 : Nat) (Option.none : Option Jvm.ClassFile.FieldType)) ∈ lw_all := lw_g (lw_at lw_m8 176 rfl) rfl
theorem q1984 : (Jvm.Cond.methodLink "FlareSlopes$Judge" (1 : Nat) ({ cls := "java/lang/Object", name := "<init>", desc := "()V" } : Jvm.MethodName)) ∈ lw_all := lw_g (lw_at lw_m8 177 rfl) rfl
theorem q2324 : (Jvm.Cond.declares ({ cls := "FlareSlopes$Judge", name := "counts", desc := "(LFlareSlopes$Vote;I)Z" } : Jvm.MethodName)) ∈ lw_tbl := lw_at lw_m10 37 rfl
theorem q2325 : (Jvm.Cond.sameMethod "FlareSlopes$Judge" "FlareSlopes$Judge" "counts" "(LFlareSlopes$Vote;I)Z") ∈ lw_all := lw_g (lw_at lw_m10 38 rfl) rfl
/-! X15.FlareSlopes_1.lean.txt -/
def RX15 : String := "FlareSlopes$1"
def TX15 : u_T := fun k => match k with
  | _ => ("FlareSlopes$1", "this$0", "LFlareSlopes;", true)
def tyX15 : Nat → FieldType := fun k => match k with
  | _ => .object "FlareSlopes"
abbrev wsX150 : List Cond := u_ws RX15 TX15 1
theorem nmX15 : ∀ a, a < 1 → ∀ b, b < 1 → a ≠ b → (TX15 a).2.1 ≠ (TX15 b).2.1 := by decide +kernel
theorem tyX15_ok : ∀ k, k < 1 → parseFieldDescriptor (TX15 k).2.2.1 = some (tyX15 k) := by decide +kernel
abbrev cX15_init : ByteArray := prog_2_method_1_code
def yX15_init : MethodName := ⟨RX15, "<init>", "(LFlareSlopes;)V"⟩
def dkwX15_init_0 : List UInt8 := [42, 43, 181, 0, 1, 42, 183, 0, 7, 177]
abbrev dktX15_init_0 : List UInt8 := dkwX15_init_0 ++ []
theorem dksX15_init_0 : cX15_init.data.toList.drop 0 = dktX15_init_0 := by decide +kernel
theorem dX15_init_0 : decode cX15_init 0 = .ok (.aload_n 0, 1) := dk_42 (dk_at dksX15_init_0 0 rfl rfl)
theorem dX15_init_1 : decode cX15_init 1 = .ok (.aload_n 1, 1) := dk_43 (dk_at dksX15_init_0 1 rfl rfl)
theorem dX15_init_2 : decode cX15_init 2 = .ok (.putfield 1, 3) := dk_181 0 1 (dk_at dksX15_init_0 2 rfl rfl)
theorem dX15_init_5 : decode cX15_init 5 = .ok (.aload_n 0, 1) := dk_42 (dk_at dksX15_init_0 5 rfl rfl)
theorem dX15_init_6 : decode cX15_init 6 = .ok (.invokespecial 7, 3) := dk_183 0 7 (dk_at dksX15_init_0 6 rfl rfl)
theorem dX15_init_9 : decode cX15_init 9 = .ok (.return_, 1) := dk_177 (dk_at dksX15_init_0 9 rfl rfl)
abbrev cX15_counts : ByteArray := prog_2_method_2_code
def yX15_counts : MethodName := ⟨RX15, "counts", "(LFlareSlopes$Vote;I)Z"⟩
def dkwX15_counts_0 : List UInt8 := [43, 198, 0, 7, 4, 167, 0, 4, 3, 172]
abbrev dktX15_counts_0 : List UInt8 := dkwX15_counts_0 ++ []
theorem dksX15_counts_0 : cX15_counts.data.toList.drop 0 = dktX15_counts_0 := by decide +kernel
theorem dX15_counts_0 : decode cX15_counts 0 = .ok (.aload_n 1, 1) := dk_43 (dk_at dksX15_counts_0 0 rfl rfl)
theorem dX15_counts_1 : decode cX15_counts 1 = .ok (.ifnull 7, 3) := dk_198 0 7 (dk_at dksX15_counts_0 1 rfl rfl)
theorem dX15_counts_4 : decode cX15_counts 4 = .ok (.iconst 1, 1) := dk_4 (dk_at dksX15_counts_0 4 rfl rfl)
theorem dX15_counts_5 : decode cX15_counts 5 = .ok (.goto 4, 3) := dk_167 0 4 (dk_at dksX15_counts_0 5 rfl rfl)
theorem dX15_counts_8 : decode cX15_counts 8 = .ok (.iconst 0, 1) := dk_3 (dk_at dksX15_counts_0 8 rfl rfl)
theorem dX15_counts_9 : decode cX15_counts 9 = .ok (.ireturn, 1) := dk_172 (dk_at dksX15_counts_0 9 rfl rfl)
theorem q181 : (Jvm.Cond.initialized "FlareSlopes$1") ∈ lw_all := lw_g (lw_at lw_m1 54 rfl) rfl
theorem q1977 : (Jvm.Cond.instantiable "FlareSlopes$1" (1 : Nat)) ∈ lw_all := lw_g (lw_at lw_m8 170 rfl) rfl
theorem q1979 : (Jvm.Cond.instanceMethod ({ cls := "FlareSlopes$1", name := "<init>", desc := "(LFlareSlopes;)V" } : Jvm.MethodName)) ∈ lw_all := lw_g (lw_at lw_m8 172 rfl) rfl
theorem q1980 : (Jvm.Cond.code ({ cls := "FlareSlopes$1", name := "<init>", desc := "(LFlareSlopes;)V" } : Jvm.MethodName) prog_2_method_1_code (2 : Nat) (Option.none : Option Jvm.ClassFile.FieldType)) ∈ lw_all := lw_g (lw_at lw_m8 173 rfl) rfl
theorem q1981 : (Jvm.Cond.methodLinkNest "FlareSlopes$1" (7 : Nat) ({ cls := "FlareSlopes$Judge", name := "<init>", desc := "()V" } : Jvm.MethodName) "FlareSlopes") ∈ lw_tbl := lw_at lw_m8 174 rfl
theorem q1985 : (Jvm.Cond.fieldLink "FlareSlopes$1" (1 : Nat) "FlareSlopes$1" "this$0" "LFlareSlopes;") ∈ lw_all := lw_g (lw_at lw_m8 178 rfl) rfl
theorem q2326 : (Jvm.Cond.selects "FlareSlopes$1" ({ cls := "FlareSlopes$Judge", name := "counts", desc := "(LFlareSlopes$Vote;I)Z" } : Jvm.MethodName) ({ cls := "FlareSlopes$1", name := "counts", desc := "(LFlareSlopes$Vote;I)Z" } : Jvm.MethodName)) ∈ lw_all := lw_g (lw_at lw_m10 39 rfl) rfl
theorem q2327 : (Jvm.Cond.instanceMethod ({ cls := "FlareSlopes$1", name := "counts", desc := "(LFlareSlopes$Vote;I)Z" } : Jvm.MethodName)) ∈ lw_all := lw_g (lw_at lw_m10 40 rfl) rfl
theorem q2328 : (Jvm.Cond.code ({ cls := "FlareSlopes$1", name := "counts", desc := "(LFlareSlopes$Vote;I)Z" } : Jvm.MethodName) prog_2_method_2_code (3 : Nat) (Option.some Jvm.ClassFile.FieldType.boolean)) ∈ lw_all := lw_g (lw_at lw_m10 41 rfl) rfl
theorem q4694 : (Jvm.Cond.castable "FlareSlopes$1" "java/lang/Object") ∈ lw_tbl := lw_at lw_m20 7 rfl
theorem in_X15 : ∀ w ∈ wsX150, w ∈ lw_all := lw_in wsX150 [1986] (by decide +kernel) (by decide +kernel)
/-! X16.FlareSlopes_2.lean.txt -/
def RX16 : String := "FlareSlopes$2"
def TX16 : u_T := fun k => match k with
  | _ => ("FlareSlopes$2", "this$0", "LFlareSlopes;", true)
def tyX16 : Nat → FieldType := fun k => match k with
  | _ => .object "FlareSlopes"
abbrev wsX160 : List Cond := u_ws RX16 TX16 1
theorem nmX16 : ∀ a, a < 1 → ∀ b, b < 1 → a ≠ b → (TX16 a).2.1 ≠ (TX16 b).2.1 := by decide +kernel
theorem tyX16_ok : ∀ k, k < 1 → parseFieldDescriptor (TX16 k).2.2.1 = some (tyX16 k) := by decide +kernel
abbrev cX16_counts : ByteArray := prog_3_method_2_code
def yX16_counts : MethodName := ⟨RX16, "counts", "(LFlareSlopes$Vote;I)Z"⟩
def dkwX16_counts_1 : List UInt8 := [167, 0, 4, 3, 172]
abbrev dktX16_counts_1 : List UInt8 := dkwX16_counts_1 ++ []
def dkwX16_counts_0 : List UInt8 := [43, 198, 0, 25, 43, 42, 180, 0, 1, 180, 0, 13, 28, 182, 0, 19, 182, 0, 25, 153, 0, 7, 4]
abbrev dktX16_counts_0 : List UInt8 := dkwX16_counts_0 ++ dktX16_counts_1
theorem dksX16_counts_0 : cX16_counts.data.toList.drop 0 = dktX16_counts_0 := by decide +kernel
theorem dksX16_counts_1 : cX16_counts.data.toList.drop 23 = dktX16_counts_1 := dk_seg dksX16_counts_0 23 rfl rfl
theorem dX16_counts_0 : decode cX16_counts 0 = .ok (.aload_n 1, 1) := dk_43 (dk_at dksX16_counts_0 0 rfl rfl)
theorem dX16_counts_1 : decode cX16_counts 1 = .ok (.ifnull 25, 3) := dk_198 0 25 (dk_at dksX16_counts_0 1 rfl rfl)
theorem dX16_counts_4 : decode cX16_counts 4 = .ok (.aload_n 1, 1) := dk_43 (dk_at dksX16_counts_0 4 rfl rfl)
theorem dX16_counts_5 : decode cX16_counts 5 = .ok (.aload_n 0, 1) := dk_42 (dk_at dksX16_counts_0 5 rfl rfl)
theorem dX16_counts_6 : decode cX16_counts 6 = .ok (.getfield 1, 3) := dk_180 0 1 (dk_at dksX16_counts_0 6 rfl rfl)
theorem dX16_counts_9 : decode cX16_counts 9 = .ok (.getfield 13, 3) := dk_180 0 13 (dk_at dksX16_counts_0 9 rfl rfl)
theorem dX16_counts_12 : decode cX16_counts 12 = .ok (.iload_n 2, 1) := dk_28 (dk_at dksX16_counts_0 12 rfl rfl)
theorem dX16_counts_13 : decode cX16_counts 13 = .ok (.invokevirtual 19, 3) := dk_182 0 19 (dk_at dksX16_counts_0 13 rfl rfl)
theorem dX16_counts_16 : decode cX16_counts 16 = .ok (.invokevirtual 25, 3) := dk_182 0 25 (dk_at dksX16_counts_0 16 rfl rfl)
theorem dX16_counts_19 : decode cX16_counts 19 = .ok (.ifCond .eq 7, 3) := dk_153 0 7 (dk_at dksX16_counts_0 19 rfl rfl)
theorem dX16_counts_22 : decode cX16_counts 22 = .ok (.iconst 1, 1) := dk_4 (dk_at dksX16_counts_0 22 rfl rfl)
theorem dX16_counts_23 : decode cX16_counts 23 = .ok (.goto 4, 3) := dk_167 0 4 (dk_at dksX16_counts_1 0 rfl rfl)
theorem dX16_counts_26 : decode cX16_counts 26 = .ok (.iconst 0, 1) := dk_3 (dk_at dksX16_counts_1 3 rfl rfl)
theorem dX16_counts_27 : decode cX16_counts 27 = .ok (.ireturn, 1) := dk_172 (dk_at dksX16_counts_1 4 rfl rfl)
abbrev cX16_init : ByteArray := prog_3_method_1_code
def yX16_init : MethodName := ⟨RX16, "<init>", "(LFlareSlopes;)V"⟩
def dkwX16_init_0 : List UInt8 := [42, 43, 181, 0, 1, 42, 183, 0, 7, 177]
abbrev dktX16_init_0 : List UInt8 := dkwX16_init_0 ++ []
theorem dksX16_init_0 : cX16_init.data.toList.drop 0 = dktX16_init_0 := by decide +kernel
theorem dX16_init_0 : decode cX16_init 0 = .ok (.aload_n 0, 1) := dk_42 (dk_at dksX16_init_0 0 rfl rfl)
theorem dX16_init_1 : decode cX16_init 1 = .ok (.aload_n 1, 1) := dk_43 (dk_at dksX16_init_0 1 rfl rfl)
theorem dX16_init_2 : decode cX16_init 2 = .ok (.putfield 1, 3) := dk_181 0 1 (dk_at dksX16_init_0 2 rfl rfl)
theorem dX16_init_5 : decode cX16_init 5 = .ok (.aload_n 0, 1) := dk_42 (dk_at dksX16_init_0 5 rfl rfl)
theorem dX16_init_6 : decode cX16_init 6 = .ok (.invokespecial 7, 3) := dk_183 0 7 (dk_at dksX16_init_0 6 rfl rfl)
theorem dX16_init_9 : decode cX16_init 9 = .ok (.return_, 1) := dk_177 (dk_at dksX16_init_0 9 rfl rfl)
theorem q197 : (Jvm.Cond.initialized "FlareSlopes$2") ∈ lw_all := lw_g (lw_at lw_m1 70 rfl) rfl
theorem q272 : (Jvm.Cond.fieldLinkNest "FlareSlopes$2" (13 : Nat) "FlareSlopes" "now" "LFlareSlopes$State;" "FlareSlopes") ∈ lw_tbl := lw_at lw_m1 145 rfl
theorem q2329 : (Jvm.Cond.selects "FlareSlopes$2" ({ cls := "FlareSlopes$Judge", name := "counts", desc := "(LFlareSlopes$Vote;I)Z" } : Jvm.MethodName) ({ cls := "FlareSlopes$2", name := "counts", desc := "(LFlareSlopes$Vote;I)Z" } : Jvm.MethodName)) ∈ lw_all := lw_g (lw_at lw_m10 42 rfl) rfl
theorem q2330 : (Jvm.Cond.instanceMethod ({ cls := "FlareSlopes$2", name := "counts", desc := "(LFlareSlopes$Vote;I)Z" } : Jvm.MethodName)) ∈ lw_all := lw_g (lw_at lw_m10 43 rfl) rfl
theorem q2331 : (Jvm.Cond.code ({ cls := "FlareSlopes$2", name := "counts", desc := "(LFlareSlopes$Vote;I)Z" } : Jvm.MethodName) prog_3_method_2_code (3 : Nat) (Option.some Jvm.ClassFile.FieldType.boolean)) ∈ lw_all := lw_g (lw_at lw_m10 44 rfl) rfl
theorem q2332 : (Jvm.Cond.methodLink "FlareSlopes$2" (19 : Nat) ({ cls := "FlareSlopes$State", name := "isDangerous", desc := "(I)Z" } : Jvm.MethodName)) ∈ lw_all := lw_g (lw_at lw_m10 45 rfl) rfl
theorem q2339 : (Jvm.Cond.methodLink "FlareSlopes$2" (25 : Nat) ({ cls := "FlareSlopes$Vote", name := "isFalse", desc := "(Z)Z" } : Jvm.MethodName)) ∈ lw_all := lw_g (lw_at lw_m10 52 rfl) rfl
theorem q3388 : (Jvm.Cond.instantiable "FlareSlopes$2" (1 : Nat)) ∈ lw_all := lw_g (lw_at lw_m14 141 rfl) rfl
theorem q3390 : (Jvm.Cond.instanceMethod ({ cls := "FlareSlopes$2", name := "<init>", desc := "(LFlareSlopes;)V" } : Jvm.MethodName)) ∈ lw_all := lw_g (lw_at lw_m14 143 rfl) rfl
theorem q3391 : (Jvm.Cond.code ({ cls := "FlareSlopes$2", name := "<init>", desc := "(LFlareSlopes;)V" } : Jvm.MethodName) prog_3_method_1_code (2 : Nat) (Option.none : Option Jvm.ClassFile.FieldType)) ∈ lw_all := lw_g (lw_at lw_m14 144 rfl) rfl
theorem q3392 : (Jvm.Cond.methodLinkNest "FlareSlopes$2" (7 : Nat) ({ cls := "FlareSlopes$Judge", name := "<init>", desc := "()V" } : Jvm.MethodName) "FlareSlopes") ∈ lw_tbl := lw_at lw_m14 145 rfl
theorem q3393 : (Jvm.Cond.fieldLink "FlareSlopes$2" (1 : Nat) "FlareSlopes$2" "this$0" "LFlareSlopes;") ∈ lw_all := lw_g (lw_at lw_m14 146 rfl) rfl
theorem q4708 : (Jvm.Cond.castable "FlareSlopes$2" "java/lang/Object") ∈ lw_tbl := lw_at lw_m20 21 rfl
theorem in_X16 : ∀ w ∈ wsX160, w ∈ lw_all := lw_in wsX160 [3394] (by decide +kernel) (by decide +kernel)
/-! X17.FlareSlopes_Vote.lean.txt -/
def RX17 : String := "FlareSlopes$Vote"
def TX17 : u_T := fun k => match k with
  | 0 => ("FlareSlopes$Vote", "red", "Z", true)
  | _ => ("FlareSlopes$Vote", "time", "I", true)
def tyX17 : Nat → FieldType := fun k => match k with
  | 0 => .boolean
  | _ => .int
abbrev wsX170 : List Cond := u_ws RX17 TX17 2
theorem nmX17 : ∀ a, a < 2 → ∀ b, b < 2 → a ≠ b → (TX17 a).2.1 ≠ (TX17 b).2.1 := by decide +kernel
theorem tyX17_ok : ∀ k, k < 2 → parseFieldDescriptor (TX17 k).2.2.1 = some (tyX17 k) := by decide +kernel
abbrev cX17_isFalse : ByteArray := prog_18_method_2_code
def yX17_isFalse : MethodName := ⟨RX17, "isFalse", "(Z)Z"⟩
def dkwX17_isFalse_0 : List UInt8 := [42, 180, 0, 7, 27, 159, 0, 7, 4, 167, 0, 4, 3, 172]
abbrev dktX17_isFalse_0 : List UInt8 := dkwX17_isFalse_0 ++ []
theorem dksX17_isFalse_0 : cX17_isFalse.data.toList.drop 0 = dktX17_isFalse_0 := by decide +kernel
theorem dX17_isFalse_0 : decode cX17_isFalse 0 = .ok (.aload_n 0, 1) := dk_42 (dk_at dksX17_isFalse_0 0 rfl rfl)
theorem dX17_isFalse_1 : decode cX17_isFalse 1 = .ok (.getfield 7, 3) := dk_180 0 7 (dk_at dksX17_isFalse_0 1 rfl rfl)
theorem dX17_isFalse_4 : decode cX17_isFalse 4 = .ok (.iload_n 1, 1) := dk_27 (dk_at dksX17_isFalse_0 4 rfl rfl)
theorem dX17_isFalse_5 : decode cX17_isFalse 5 = .ok (.if_icmp .eq 7, 3) := dk_159 0 7 (dk_at dksX17_isFalse_0 5 rfl rfl)
theorem dX17_isFalse_8 : decode cX17_isFalse 8 = .ok (.iconst 1, 1) := dk_4 (dk_at dksX17_isFalse_0 8 rfl rfl)
theorem dX17_isFalse_9 : decode cX17_isFalse 9 = .ok (.goto 4, 3) := dk_167 0 4 (dk_at dksX17_isFalse_0 9 rfl rfl)
theorem dX17_isFalse_12 : decode cX17_isFalse 12 = .ok (.iconst 0, 1) := dk_3 (dk_at dksX17_isFalse_0 12 rfl rfl)
theorem dX17_isFalse_13 : decode cX17_isFalse 13 = .ok (.ireturn, 1) := dk_172 (dk_at dksX17_isFalse_0 13 rfl rfl)
abbrev cX17_init : ByteArray := prog_18_method_1_code
def yX17_init : MethodName := ⟨RX17, "<init>", "(ZI)V"⟩
def dkwX17_init_0 : List UInt8 := [42, 183, 0, 1, 42, 27, 181, 0, 7, 42, 28, 181, 0, 13, 177]
abbrev dktX17_init_0 : List UInt8 := dkwX17_init_0 ++ []
theorem dksX17_init_0 : cX17_init.data.toList.drop 0 = dktX17_init_0 := by decide +kernel
theorem dX17_init_0 : decode cX17_init 0 = .ok (.aload_n 0, 1) := dk_42 (dk_at dksX17_init_0 0 rfl rfl)
theorem dX17_init_1 : decode cX17_init 1 = .ok (.invokespecial 1, 3) := dk_183 0 1 (dk_at dksX17_init_0 1 rfl rfl)
theorem dX17_init_4 : decode cX17_init 4 = .ok (.aload_n 0, 1) := dk_42 (dk_at dksX17_init_0 4 rfl rfl)
theorem dX17_init_5 : decode cX17_init 5 = .ok (.iload_n 1, 1) := dk_27 (dk_at dksX17_init_0 5 rfl rfl)
theorem dX17_init_6 : decode cX17_init 6 = .ok (.putfield 7, 3) := dk_181 0 7 (dk_at dksX17_init_0 6 rfl rfl)
theorem dX17_init_9 : decode cX17_init 9 = .ok (.aload_n 0, 1) := dk_42 (dk_at dksX17_init_0 9 rfl rfl)
theorem dX17_init_10 : decode cX17_init 10 = .ok (.iload_n 2, 1) := dk_28 (dk_at dksX17_init_0 10 rfl rfl)
theorem dX17_init_11 : decode cX17_init 11 = .ok (.putfield 13, 3) := dk_181 0 13 (dk_at dksX17_init_0 11 rfl rfl)
theorem dX17_init_14 : decode cX17_init 14 = .ok (.return_, 1) := dk_177 (dk_at dksX17_init_0 14 rfl rfl)
theorem q198 : (Jvm.Cond.initialized "FlareSlopes$Vote") ∈ lw_all := lw_g (lw_at lw_m1 71 rfl) rfl
theorem q2340 : (Jvm.Cond.instanceMethod ({ cls := "FlareSlopes$Vote", name := "isFalse", desc := "(Z)Z" } : Jvm.MethodName)) ∈ lw_all := lw_g (lw_at lw_m10 53 rfl) rfl
theorem q2341 : (Jvm.Cond.selects "FlareSlopes$Vote" ({ cls := "FlareSlopes$Vote", name := "isFalse", desc := "(Z)Z" } : Jvm.MethodName) ({ cls := "FlareSlopes$Vote", name := "isFalse", desc := "(Z)Z" } : Jvm.MethodName)) ∈ lw_all := lw_g (lw_at lw_m10 54 rfl) rfl
theorem q2342 : (Jvm.Cond.code ({ cls := "FlareSlopes$Vote", name := "isFalse", desc := "(Z)Z" } : Jvm.MethodName) prog_18_method_2_code (2 : Nat) (Option.some Jvm.ClassFile.FieldType.boolean)) ∈ lw_all := lw_g (lw_at lw_m10 55 rfl) rfl
theorem q3621 : (Jvm.Cond.instantiable "FlareSlopes$Vote" (2 : Nat)) ∈ lw_all := lw_g (lw_at lw_m15 134 rfl) rfl
theorem q3623 : (Jvm.Cond.instanceMethod ({ cls := "FlareSlopes$Vote", name := "<init>", desc := "(ZI)V" } : Jvm.MethodName)) ∈ lw_all := lw_g (lw_at lw_m15 136 rfl) rfl
theorem q3624 : (Jvm.Cond.code ({ cls := "FlareSlopes$Vote", name := "<init>", desc := "(ZI)V" } : Jvm.MethodName) prog_18_method_1_code (3 : Nat) (Option.none : Option Jvm.ClassFile.FieldType)) ∈ lw_all := lw_g (lw_at lw_m15 137 rfl) rfl
theorem q3625 : (Jvm.Cond.methodLink "FlareSlopes$Vote" (1 : Nat) ({ cls := "java/lang/Object", name := "<init>", desc := "()V" } : Jvm.MethodName)) ∈ lw_all := lw_g (lw_at lw_m15 138 rfl) rfl
theorem q3626 : (Jvm.Cond.fieldLink "FlareSlopes$Vote" (7 : Nat) "FlareSlopes$Vote" "red" "Z") ∈ lw_all := lw_g (lw_at lw_m15 139 rfl) rfl
theorem q3629 : (Jvm.Cond.fieldLink "FlareSlopes$Vote" (13 : Nat) "FlareSlopes$Vote" "time" "I") ∈ lw_all := lw_g (lw_at lw_m15 142 rfl) rfl
theorem q4709 : (Jvm.Cond.castable "FlareSlopes$Vote" "java/lang/Object") ∈ lw_tbl := lw_at lw_m20 22 rfl
theorem in_X17 : ∀ w ∈ wsX170, w ∈ lw_all := lw_in wsX170 [3632, 3634] (by decide +kernel) (by decide +kernel)
/-! X18.FlareSlopes_Bulletin.lean.txt -/
def RX18 : String := "FlareSlopes$Bulletin"
def TX18 : u_T := fun k => match k with
  | 0 => ("FlareSlopes$Bulletin", "time", "I", true)
  | 1 => ("FlareSlopes$Bulletin", "cabin", "I", true)
  | 2 => ("FlareSlopes$Bulletin", "closed", "I", true)
  | _ => ("FlareSlopes$Bulletin", "dangers", "I", true)
def tyX18 : Nat → FieldType := fun k => match k with
  | 0 => .int
  | 1 => .int
  | 2 => .int
  | _ => .int
abbrev wsX180 : List Cond := u_ws RX18 TX18 4
theorem nmX18 : ∀ a, a < 4 → ∀ b, b < 4 → a ≠ b → (TX18 a).2.1 ≠ (TX18 b).2.1 := by decide +kernel
theorem tyX18_ok : ∀ k, k < 4 → parseFieldDescriptor (TX18 k).2.2.1 = some (tyX18 k) := by decide +kernel
abbrev cX18_init : ByteArray := prog_4_method_1_code
def yX18_init : MethodName := ⟨RX18, "<init>", "(IIII)V"⟩
def dkwX18_init_1 : List UInt8 := [181, 0, 19, 177]
abbrev dktX18_init_1 : List UInt8 := dkwX18_init_1 ++ []
def dkwX18_init_0 : List UInt8 := [42, 183, 0, 1, 42, 27, 181, 0, 7, 42, 28, 181, 0, 13, 42, 29, 181, 0, 16, 42, 21, 4]
abbrev dktX18_init_0 : List UInt8 := dkwX18_init_0 ++ dktX18_init_1
theorem dksX18_init_0 : cX18_init.data.toList.drop 0 = dktX18_init_0 := by decide +kernel
theorem dksX18_init_1 : cX18_init.data.toList.drop 22 = dktX18_init_1 := dk_seg dksX18_init_0 22 rfl rfl
theorem dX18_init_0 : decode cX18_init 0 = .ok (.aload_n 0, 1) := dk_42 (dk_at dksX18_init_0 0 rfl rfl)
theorem dX18_init_1 : decode cX18_init 1 = .ok (.invokespecial 1, 3) := dk_183 0 1 (dk_at dksX18_init_0 1 rfl rfl)
theorem dX18_init_4 : decode cX18_init 4 = .ok (.aload_n 0, 1) := dk_42 (dk_at dksX18_init_0 4 rfl rfl)
theorem dX18_init_5 : decode cX18_init 5 = .ok (.iload_n 1, 1) := dk_27 (dk_at dksX18_init_0 5 rfl rfl)
theorem dX18_init_6 : decode cX18_init 6 = .ok (.putfield 7, 3) := dk_181 0 7 (dk_at dksX18_init_0 6 rfl rfl)
theorem dX18_init_9 : decode cX18_init 9 = .ok (.aload_n 0, 1) := dk_42 (dk_at dksX18_init_0 9 rfl rfl)
theorem dX18_init_10 : decode cX18_init 10 = .ok (.iload_n 2, 1) := dk_28 (dk_at dksX18_init_0 10 rfl rfl)
theorem dX18_init_11 : decode cX18_init 11 = .ok (.putfield 13, 3) := dk_181 0 13 (dk_at dksX18_init_0 11 rfl rfl)
theorem dX18_init_14 : decode cX18_init 14 = .ok (.aload_n 0, 1) := dk_42 (dk_at dksX18_init_0 14 rfl rfl)
theorem dX18_init_15 : decode cX18_init 15 = .ok (.iload_n 3, 1) := dk_29 (dk_at dksX18_init_0 15 rfl rfl)
theorem dX18_init_16 : decode cX18_init 16 = .ok (.putfield 16, 3) := dk_181 0 16 (dk_at dksX18_init_0 16 rfl rfl)
theorem dX18_init_19 : decode cX18_init 19 = .ok (.aload_n 0, 1) := dk_42 (dk_at dksX18_init_0 19 rfl rfl)
theorem dX18_init_20 : decode cX18_init 20 = .ok (.iload 4, 2) := dk_21 4 (dk_at dksX18_init_0 20 rfl rfl)
theorem dX18_init_22 : decode cX18_init 22 = .ok (.putfield 19, 3) := dk_181 0 19 (dk_at dksX18_init_1 0 rfl rfl)
theorem dX18_init_25 : decode cX18_init 25 = .ok (.return_, 1) := dk_177 (dk_at dksX18_init_1 3 rfl rfl)
abbrev cX18_wrong : ByteArray := prog_4_method_2_code
def yX18_wrong : MethodName := ⟨RX18, "wrong", "()I"⟩
def dkwX18_wrong_0 : List UInt8 := [42, 180, 0, 19, 42, 180, 0, 16, 2, 130, 126, 184, 0, 22, 172]
abbrev dktX18_wrong_0 : List UInt8 := dkwX18_wrong_0 ++ []
theorem dksX18_wrong_0 : cX18_wrong.data.toList.drop 0 = dktX18_wrong_0 := by decide +kernel
theorem dX18_wrong_0 : decode cX18_wrong 0 = .ok (.aload_n 0, 1) := dk_42 (dk_at dksX18_wrong_0 0 rfl rfl)
theorem dX18_wrong_1 : decode cX18_wrong 1 = .ok (.getfield 19, 3) := dk_180 0 19 (dk_at dksX18_wrong_0 1 rfl rfl)
theorem dX18_wrong_4 : decode cX18_wrong 4 = .ok (.aload_n 0, 1) := dk_42 (dk_at dksX18_wrong_0 4 rfl rfl)
theorem dX18_wrong_5 : decode cX18_wrong 5 = .ok (.getfield 16, 3) := dk_180 0 16 (dk_at dksX18_wrong_0 5 rfl rfl)
theorem dX18_wrong_8 : decode cX18_wrong 8 = .ok (.iconst (-1), 1) := dk_2 (dk_at dksX18_wrong_0 8 rfl rfl)
theorem dX18_wrong_9 : decode cX18_wrong 9 = .ok (.ixor, 1) := dk_130 (dk_at dksX18_wrong_0 9 rfl rfl)
theorem dX18_wrong_10 : decode cX18_wrong 10 = .ok (.iand, 1) := dk_126 (dk_at dksX18_wrong_0 10 rfl rfl)
theorem dX18_wrong_11 : decode cX18_wrong 11 = .ok (.invokestatic 22, 3) := dk_184 0 22 (dk_at dksX18_wrong_0 11 rfl rfl)
theorem dX18_wrong_14 : decode cX18_wrong 14 = .ok (.ireturn, 1) := dk_172 (dk_at dksX18_wrong_0 14 rfl rfl)
theorem q200 : (Jvm.Cond.initialized "FlareSlopes$Bulletin") ∈ lw_all := lw_g (lw_at lw_m1 73 rfl) rfl
theorem q3814 : (Jvm.Cond.instantiable "FlareSlopes$Bulletin" (4 : Nat)) ∈ lw_all := lw_g (lw_at lw_m16 87 rfl) rfl
theorem q3817 : (Jvm.Cond.instanceMethod ({ cls := "FlareSlopes$Bulletin", name := "<init>", desc := "(IIII)V" } : Jvm.MethodName)) ∈ lw_all := lw_g (lw_at lw_m16 90 rfl) rfl
theorem q3818 : (Jvm.Cond.code ({ cls := "FlareSlopes$Bulletin", name := "<init>", desc := "(IIII)V" } : Jvm.MethodName) prog_4_method_1_code (5 : Nat) (Option.none : Option Jvm.ClassFile.FieldType)) ∈ lw_all := lw_g (lw_at lw_m16 91 rfl) rfl
theorem q3819 : (Jvm.Cond.methodLink "FlareSlopes$Bulletin" (1 : Nat) ({ cls := "java/lang/Object", name := "<init>", desc := "()V" } : Jvm.MethodName)) ∈ lw_all := lw_g (lw_at lw_m16 92 rfl) rfl
theorem q3820 : (Jvm.Cond.fieldLink "FlareSlopes$Bulletin" (7 : Nat) "FlareSlopes$Bulletin" "time" "I") ∈ lw_all := lw_g (lw_at lw_m16 93 rfl) rfl
theorem q3822 : (Jvm.Cond.fieldLink "FlareSlopes$Bulletin" (13 : Nat) "FlareSlopes$Bulletin" "cabin" "I") ∈ lw_all := lw_g (lw_at lw_m16 95 rfl) rfl
theorem q3824 : (Jvm.Cond.fieldLink "FlareSlopes$Bulletin" (16 : Nat) "FlareSlopes$Bulletin" "closed" "I") ∈ lw_all := lw_g (lw_at lw_m16 97 rfl) rfl
theorem q3826 : (Jvm.Cond.fieldLink "FlareSlopes$Bulletin" (19 : Nat) "FlareSlopes$Bulletin" "dangers" "I") ∈ lw_all := lw_g (lw_at lw_m16 99 rfl) rfl
theorem q3854 : (Jvm.Cond.instanceMethod ({ cls := "FlareSlopes$Bulletin", name := "wrong", desc := "()I" } : Jvm.MethodName)) ∈ lw_all := lw_g (lw_at lw_m16 127 rfl) rfl
theorem q3855 : (Jvm.Cond.selects "FlareSlopes$Bulletin" ({ cls := "FlareSlopes$Bulletin", name := "wrong", desc := "()I" } : Jvm.MethodName) ({ cls := "FlareSlopes$Bulletin", name := "wrong", desc := "()I" } : Jvm.MethodName)) ∈ lw_all := lw_g (lw_at lw_m16 128 rfl) rfl
theorem q3856 : (Jvm.Cond.code ({ cls := "FlareSlopes$Bulletin", name := "wrong", desc := "()I" } : Jvm.MethodName) prog_4_method_2_code (1 : Nat) (Option.some Jvm.ClassFile.FieldType.int)) ∈ lw_all := lw_g (lw_at lw_m16 129 rfl) rfl
theorem q3857 : (Jvm.Cond.methodLink "FlareSlopes$Bulletin" (22 : Nat) ({ cls := "java/lang/Integer", name := "bitCount", desc := "(I)I" } : Jvm.MethodName)) ∈ lw_all := lw_g (lw_at lw_m16 130 rfl) rfl
theorem q4711 : (Jvm.Cond.castable "FlareSlopes$Bulletin" "java/lang/Object") ∈ lw_tbl := lw_at lw_m20 24 rfl
theorem in_X18 : ∀ w ∈ wsX180, w ∈ lw_all := lw_in wsX180 [3828, 3830, 3832, 3834] (by decide +kernel) (by decide +kernel)
/-! X2.FlareSlopesModel.lean.txt -/
def RX2 : String := "FlareSlopesModel"
def TX2 : u_T := fun k => match k with
  | 0 => ("FlareSlopesModel", "thrown", "I", false)
  | 1 => ("FlareSlopesModel", "now", "[I", true)
  | 2 => ("FlareSlopesModel", "aside", "[I", true)
  | 3 => ("FlareSlopesModel", "undos", "[I", true)
  | 4 => ("FlareSlopesModel", "saved", "[I", true)
  | 5 => ("FlareSlopesModel", "isSaved", "[Z", true)
  | 6 => ("FlareSlopesModel", "names", "[J", true)
  | 7 => ("FlareSlopesModel", "newNames", "[J", true)
  | 8 => ("FlareSlopesModel", "isThere", "Z", false)
  | 9 => ("FlareSlopesModel", "undoMany", "I", false)
  | 10 => ("FlareSlopesModel", "buffer", "[B", true)
  | 11 => ("FlareSlopesModel", "buffered", "I", false)
  | 12 => ("FlareSlopesModel", "parseCode", "I", false)
  | 13 => ("FlareSlopesModel", "parseAt", "I", false)
  | 14 => ("FlareSlopesModel", "size", "I", false)
  | 15 => ("FlareSlopesModel", "at", "I", false)
  | 16 => ("FlareSlopesModel", "start", "I", false)
  | 17 => ("FlareSlopesModel", "token", "I", false)
  | 18 => ("FlareSlopesModel", "value", "I", false)
  | 19 => ("FlareSlopesModel", "word", "J", false)
  | 20 => ("FlareSlopesModel", "page", "[B", true)
  | _ => ("FlareSlopesModel", "pageSize", "I", false)
def tyX2 : Nat → FieldType := fun k => match k with
  | 0 => .int
  | 1 => .array .int
  | 2 => .array .int
  | 3 => .array .int
  | 4 => .array .int
  | 5 => .array .boolean
  | 6 => .array .long
  | 7 => .array .long
  | 8 => .boolean
  | 9 => .int
  | 10 => .array .byte
  | 11 => .int
  | 12 => .int
  | 13 => .int
  | 14 => .int
  | 15 => .int
  | 16 => .int
  | 17 => .int
  | 18 => .int
  | 19 => .long
  | 20 => .array .byte
  | _ => .int
abbrev wsX20 : List Cond := u_ws RX2 TX2 22
theorem nmX2 : ∀ a, a < 22 → ∀ b, b < 22 → a ≠ b → (TX2 a).2.1 ≠ (TX2 b).2.1 := by decide +kernel
theorem tyX2_ok : ∀ k, k < 22 → parseFieldDescriptor (TX2 k).2.2.1 = some (tyX2 k) := by decide +kernel
abbrev cX2_init : ByteArray := prog_20_method_1_code
def yX2_init : MethodName := ⟨RX2, "<init>", "()V"⟩
def dkwX2_init_3 : List UInt8 := [181, 0, 33, 42, 2, 181, 0, 37, 42, 17, 1, 44, 188, 8, 181, 0, 41, 177]
abbrev dktX2_init_3 : List UInt8 := dkwX2_init_3 ++ []
def dkwX2_init_2 : List UInt8 := [42, 16, 18, 188, 11, 181, 0, 26, 42, 16, 18, 188, 11, 181, 0, 30, 42, 17, 2, 188, 188, 8]
abbrev dktX2_init_2 : List UInt8 := dkwX2_init_2 ++ dktX2_init_3
def dkwX2_init_1 : List UInt8 := [17, 33, 16, 188, 10, 181, 0, 16, 42, 17, 8, 68, 188, 10, 181, 0, 19, 42, 5, 188, 4, 181, 0, 22]
abbrev dktX2_init_1 : List UInt8 := dkwX2_init_1 ++ dktX2_init_2
def dkwX2_init_0 : List UInt8 := [42, 183, 0, 1, 42, 17, 4, 34, 188, 10, 181, 0, 9, 42, 17, 4, 34, 188, 10, 181, 0, 13, 42]
abbrev dktX2_init_0 : List UInt8 := dkwX2_init_0 ++ dktX2_init_1
theorem dksX2_init_0 : cX2_init.data.toList.drop 0 = dktX2_init_0 := by decide +kernel
theorem dksX2_init_1 : cX2_init.data.toList.drop 23 = dktX2_init_1 := dk_seg dksX2_init_0 23 rfl rfl
theorem dksX2_init_2 : cX2_init.data.toList.drop 47 = dktX2_init_2 := dk_seg dksX2_init_1 24 rfl rfl
theorem dksX2_init_3 : cX2_init.data.toList.drop 69 = dktX2_init_3 := dk_seg dksX2_init_2 22 rfl rfl
theorem dX2_init_0 : decode cX2_init 0 = .ok (.aload_n 0, 1) := dk_42 (dk_at dksX2_init_0 0 rfl rfl)
theorem dX2_init_1 : decode cX2_init 1 = .ok (.invokespecial 1, 3) := dk_183 0 1 (dk_at dksX2_init_0 1 rfl rfl)
theorem dX2_init_4 : decode cX2_init 4 = .ok (.aload_n 0, 1) := dk_42 (dk_at dksX2_init_0 4 rfl rfl)
theorem dX2_init_5 : decode cX2_init 5 = .ok (.sipush 1058, 3) := dk_17 4 34 (dk_at dksX2_init_0 5 rfl rfl)
theorem dX2_init_8 : decode cX2_init 8 = .ok (.newarray .int, 2) := dk_188_10 (dk_at dksX2_init_0 8 rfl rfl)
theorem dX2_init_10 : decode cX2_init 10 = .ok (.putfield 9, 3) := dk_181 0 9 (dk_at dksX2_init_0 10 rfl rfl)
theorem dX2_init_13 : decode cX2_init 13 = .ok (.aload_n 0, 1) := dk_42 (dk_at dksX2_init_0 13 rfl rfl)
theorem dX2_init_14 : decode cX2_init 14 = .ok (.sipush 1058, 3) := dk_17 4 34 (dk_at dksX2_init_0 14 rfl rfl)
theorem dX2_init_17 : decode cX2_init 17 = .ok (.newarray .int, 2) := dk_188_10 (dk_at dksX2_init_0 17 rfl rfl)
theorem dX2_init_19 : decode cX2_init 19 = .ok (.putfield 13, 3) := dk_181 0 13 (dk_at dksX2_init_0 19 rfl rfl)
theorem dX2_init_22 : decode cX2_init 22 = .ok (.aload_n 0, 1) := dk_42 (dk_at dksX2_init_0 22 rfl rfl)
theorem dX2_init_23 : decode cX2_init 23 = .ok (.sipush 8464, 3) := dk_17 33 16 (dk_at dksX2_init_1 0 rfl rfl)
theorem dX2_init_26 : decode cX2_init 26 = .ok (.newarray .int, 2) := dk_188_10 (dk_at dksX2_init_1 3 rfl rfl)
theorem dX2_init_28 : decode cX2_init 28 = .ok (.putfield 16, 3) := dk_181 0 16 (dk_at dksX2_init_1 5 rfl rfl)
theorem dX2_init_31 : decode cX2_init 31 = .ok (.aload_n 0, 1) := dk_42 (dk_at dksX2_init_1 8 rfl rfl)
theorem dX2_init_32 : decode cX2_init 32 = .ok (.sipush 2116, 3) := dk_17 8 68 (dk_at dksX2_init_1 9 rfl rfl)
theorem dX2_init_35 : decode cX2_init 35 = .ok (.newarray .int, 2) := dk_188_10 (dk_at dksX2_init_1 12 rfl rfl)
theorem dX2_init_37 : decode cX2_init 37 = .ok (.putfield 19, 3) := dk_181 0 19 (dk_at dksX2_init_1 14 rfl rfl)
theorem dX2_init_40 : decode cX2_init 40 = .ok (.aload_n 0, 1) := dk_42 (dk_at dksX2_init_1 17 rfl rfl)
theorem dX2_init_41 : decode cX2_init 41 = .ok (.iconst 2, 1) := dk_5 (dk_at dksX2_init_1 18 rfl rfl)
theorem dX2_init_42 : decode cX2_init 42 = .ok (.newarray .boolean, 2) := dk_188_4 (dk_at dksX2_init_1 19 rfl rfl)
theorem dX2_init_44 : decode cX2_init 44 = .ok (.putfield 22, 3) := dk_181 0 22 (dk_at dksX2_init_1 21 rfl rfl)
theorem dX2_init_47 : decode cX2_init 47 = .ok (.aload_n 0, 1) := dk_42 (dk_at dksX2_init_2 0 rfl rfl)
theorem dX2_init_48 : decode cX2_init 48 = .ok (.bipush 18, 2) := dk_16 18 (dk_at dksX2_init_2 1 rfl rfl)
theorem dX2_init_50 : decode cX2_init 50 = .ok (.newarray .long, 2) := dk_188_11 (dk_at dksX2_init_2 3 rfl rfl)
theorem dX2_init_52 : decode cX2_init 52 = .ok (.putfield 26, 3) := dk_181 0 26 (dk_at dksX2_init_2 5 rfl rfl)
theorem dX2_init_55 : decode cX2_init 55 = .ok (.aload_n 0, 1) := dk_42 (dk_at dksX2_init_2 8 rfl rfl)
theorem dX2_init_56 : decode cX2_init 56 = .ok (.bipush 18, 2) := dk_16 18 (dk_at dksX2_init_2 9 rfl rfl)
theorem dX2_init_58 : decode cX2_init 58 = .ok (.newarray .long, 2) := dk_188_11 (dk_at dksX2_init_2 11 rfl rfl)
theorem dX2_init_60 : decode cX2_init 60 = .ok (.putfield 30, 3) := dk_181 0 30 (dk_at dksX2_init_2 13 rfl rfl)
theorem dX2_init_63 : decode cX2_init 63 = .ok (.aload_n 0, 1) := dk_42 (dk_at dksX2_init_2 16 rfl rfl)
theorem dX2_init_64 : decode cX2_init 64 = .ok (.sipush 700, 3) := dk_17 2 188 (dk_at dksX2_init_2 17 rfl rfl)
theorem dX2_init_67 : decode cX2_init 67 = .ok (.newarray .byte, 2) := dk_188_8 (dk_at dksX2_init_2 20 rfl rfl)
theorem dX2_init_69 : decode cX2_init 69 = .ok (.putfield 33, 3) := dk_181 0 33 (dk_at dksX2_init_3 0 rfl rfl)
theorem dX2_init_72 : decode cX2_init 72 = .ok (.aload_n 0, 1) := dk_42 (dk_at dksX2_init_3 3 rfl rfl)
theorem dX2_init_73 : decode cX2_init 73 = .ok (.iconst (-1), 1) := dk_2 (dk_at dksX2_init_3 4 rfl rfl)
theorem dX2_init_74 : decode cX2_init 74 = .ok (.putfield 37, 3) := dk_181 0 37 (dk_at dksX2_init_3 5 rfl rfl)
theorem dX2_init_77 : decode cX2_init 77 = .ok (.aload_n 0, 1) := dk_42 (dk_at dksX2_init_3 8 rfl rfl)
theorem dX2_init_78 : decode cX2_init 78 = .ok (.sipush 300, 3) := dk_17 1 44 (dk_at dksX2_init_3 9 rfl rfl)
theorem dX2_init_81 : decode cX2_init 81 = .ok (.newarray .byte, 2) := dk_188_8 (dk_at dksX2_init_3 12 rfl rfl)
theorem dX2_init_83 : decode cX2_init 83 = .ok (.putfield 41, 3) := dk_181 0 41 (dk_at dksX2_init_3 14 rfl rfl)
theorem dX2_init_86 : decode cX2_init 86 = .ok (.return_, 1) := dk_177 (dk_at dksX2_init_3 17 rfl rfl)
abbrev cX2_thrown : ByteArray := prog_20_method_2_code
def yX2_thrown : MethodName := ⟨RX2, "thrown", "()I"⟩
theorem dX2_thrown_0 : decode cX2_thrown 0 = .ok (.aload_n 0, 1) := by decide +kernel
theorem dX2_thrown_1 : decode cX2_thrown 1 = .ok (.getfield 44, 3) := by decide +kernel
theorem dX2_thrown_4 : decode cX2_thrown 4 = .ok (.ireturn, 1) := by decide +kernel
abbrev cX2_append : ByteArray := prog_20_method_7_code
def yX2_append : MethodName := ⟨RX2, "append", "(IIIII)I"⟩
def dkwX2_append_2 : List UInt8 := [172]
abbrev dktX2_append_2 : List UInt8 := dkwX2_append_2 ++ []
def dkwX2_append_1 : List UInt8 := [182, 0, 54, 42, 29, 182, 0, 54, 42, 21, 4, 182, 0, 54, 42, 21, 5, 182, 0, 54, 42, 180, 0, 51]
abbrev dktX2_append_1 : List UInt8 := dkwX2_append_1 ++ dktX2_append_2
def dkwX2_append_0 : List UInt8 := [42, 3, 181, 0, 44, 42, 180, 0, 51, 17, 2, 168, 164, 0, 5, 2, 172, 42, 27, 182, 0, 54, 42, 28]
abbrev dktX2_append_0 : List UInt8 := dkwX2_append_0 ++ dktX2_append_1
theorem dksX2_append_0 : cX2_append.data.toList.drop 0 = dktX2_append_0 := by decide +kernel
theorem dksX2_append_1 : cX2_append.data.toList.drop 24 = dktX2_append_1 := dk_seg dksX2_append_0 24 rfl rfl
theorem dksX2_append_2 : cX2_append.data.toList.drop 48 = dktX2_append_2 := dk_seg dksX2_append_1 24 rfl rfl
theorem dX2_append_0 : decode cX2_append 0 = .ok (.aload_n 0, 1) := dk_42 (dk_at dksX2_append_0 0 rfl rfl)
theorem dX2_append_1 : decode cX2_append 1 = .ok (.iconst 0, 1) := dk_3 (dk_at dksX2_append_0 1 rfl rfl)
theorem dX2_append_2 : decode cX2_append 2 = .ok (.putfield 44, 3) := dk_181 0 44 (dk_at dksX2_append_0 2 rfl rfl)
theorem dX2_append_5 : decode cX2_append 5 = .ok (.aload_n 0, 1) := dk_42 (dk_at dksX2_append_0 5 rfl rfl)
theorem dX2_append_6 : decode cX2_append 6 = .ok (.getfield 51, 3) := dk_180 0 51 (dk_at dksX2_append_0 6 rfl rfl)
theorem dX2_append_9 : decode cX2_append 9 = .ok (.sipush 680, 3) := dk_17 2 168 (dk_at dksX2_append_0 9 rfl rfl)
theorem dX2_append_12 : decode cX2_append 12 = .ok (.if_icmp .le 5, 3) := dk_164 0 5 (dk_at dksX2_append_0 12 rfl rfl)
theorem dX2_append_15 : decode cX2_append 15 = .ok (.iconst (-1), 1) := dk_2 (dk_at dksX2_append_0 15 rfl rfl)
theorem dX2_append_16 : decode cX2_append 16 = .ok (.ireturn, 1) := dk_172 (dk_at dksX2_append_0 16 rfl rfl)
theorem dX2_append_17 : decode cX2_append 17 = .ok (.aload_n 0, 1) := dk_42 (dk_at dksX2_append_0 17 rfl rfl)
theorem dX2_append_18 : decode cX2_append 18 = .ok (.iload_n 1, 1) := dk_27 (dk_at dksX2_append_0 18 rfl rfl)
theorem dX2_append_19 : decode cX2_append 19 = .ok (.invokevirtual 54, 3) := dk_182 0 54 (dk_at dksX2_append_0 19 rfl rfl)
theorem dX2_append_22 : decode cX2_append 22 = .ok (.aload_n 0, 1) := dk_42 (dk_at dksX2_append_0 22 rfl rfl)
theorem dX2_append_23 : decode cX2_append 23 = .ok (.iload_n 2, 1) := dk_28 (dk_at dksX2_append_0 23 rfl rfl)
theorem dX2_append_24 : decode cX2_append 24 = .ok (.invokevirtual 54, 3) := dk_182 0 54 (dk_at dksX2_append_1 0 rfl rfl)
theorem dX2_append_27 : decode cX2_append 27 = .ok (.aload_n 0, 1) := dk_42 (dk_at dksX2_append_1 3 rfl rfl)
theorem dX2_append_28 : decode cX2_append 28 = .ok (.iload_n 3, 1) := dk_29 (dk_at dksX2_append_1 4 rfl rfl)
theorem dX2_append_29 : decode cX2_append 29 = .ok (.invokevirtual 54, 3) := dk_182 0 54 (dk_at dksX2_append_1 5 rfl rfl)
theorem dX2_append_32 : decode cX2_append 32 = .ok (.aload_n 0, 1) := dk_42 (dk_at dksX2_append_1 8 rfl rfl)
theorem dX2_append_33 : decode cX2_append 33 = .ok (.iload 4, 2) := dk_21 4 (dk_at dksX2_append_1 9 rfl rfl)
theorem dX2_append_35 : decode cX2_append 35 = .ok (.invokevirtual 54, 3) := dk_182 0 54 (dk_at dksX2_append_1 11 rfl rfl)
theorem dX2_append_38 : decode cX2_append 38 = .ok (.aload_n 0, 1) := dk_42 (dk_at dksX2_append_1 14 rfl rfl)
theorem dX2_append_39 : decode cX2_append 39 = .ok (.iload 5, 2) := dk_21 5 (dk_at dksX2_append_1 15 rfl rfl)
theorem dX2_append_41 : decode cX2_append 41 = .ok (.invokevirtual 54, 3) := dk_182 0 54 (dk_at dksX2_append_1 17 rfl rfl)
theorem dX2_append_44 : decode cX2_append 44 = .ok (.aload_n 0, 1) := dk_42 (dk_at dksX2_append_1 20 rfl rfl)
theorem dX2_append_45 : decode cX2_append 45 = .ok (.getfield 51, 3) := dk_180 0 51 (dk_at dksX2_append_1 21 rfl rfl)
theorem dX2_append_48 : decode cX2_append 48 = .ok (.ireturn, 1) := dk_172 (dk_at dksX2_append_2 0 rfl rfl)
abbrev cX2_four : ByteArray := prog_20_method_8_code
def yX2_four : MethodName := ⟨RX2, "four", "(I)V"⟩
def dkwX2_four_1 : List UInt8 := [180, 0, 51, 4, 96, 181, 0, 51, 132, 2, 255, 167, 255, 223, 177]
abbrev dktX2_four_1 : List UInt8 := dkwX2_four_1 ++ []
def dkwX2_four_0 : List UInt8 := [6, 61, 28, 155, 0, 35, 42, 180, 0, 33, 42, 180, 0, 51, 27, 16, 8, 28, 104, 122, 145, 84, 42, 89]
abbrev dktX2_four_0 : List UInt8 := dkwX2_four_0 ++ dktX2_four_1
theorem dksX2_four_0 : cX2_four.data.toList.drop 0 = dktX2_four_0 := by decide +kernel
theorem dksX2_four_1 : cX2_four.data.toList.drop 24 = dktX2_four_1 := dk_seg dksX2_four_0 24 rfl rfl
theorem dX2_four_0 : decode cX2_four 0 = .ok (.iconst 3, 1) := dk_6 (dk_at dksX2_four_0 0 rfl rfl)
theorem dX2_four_1 : decode cX2_four 1 = .ok (.istore_n 2, 1) := dk_61 (dk_at dksX2_four_0 1 rfl rfl)
theorem dX2_four_2 : decode cX2_four 2 = .ok (.iload_n 2, 1) := dk_28 (dk_at dksX2_four_0 2 rfl rfl)
theorem dX2_four_3 : decode cX2_four 3 = .ok (.ifCond .lt 35, 3) := dk_155 0 35 (dk_at dksX2_four_0 3 rfl rfl)
theorem dX2_four_6 : decode cX2_four 6 = .ok (.aload_n 0, 1) := dk_42 (dk_at dksX2_four_0 6 rfl rfl)
theorem dX2_four_7 : decode cX2_four 7 = .ok (.getfield 33, 3) := dk_180 0 33 (dk_at dksX2_four_0 7 rfl rfl)
theorem dX2_four_10 : decode cX2_four 10 = .ok (.aload_n 0, 1) := dk_42 (dk_at dksX2_four_0 10 rfl rfl)
theorem dX2_four_11 : decode cX2_four 11 = .ok (.getfield 51, 3) := dk_180 0 51 (dk_at dksX2_four_0 11 rfl rfl)
theorem dX2_four_14 : decode cX2_four 14 = .ok (.iload_n 1, 1) := dk_27 (dk_at dksX2_four_0 14 rfl rfl)
theorem dX2_four_15 : decode cX2_four 15 = .ok (.bipush 8, 2) := dk_16 8 (dk_at dksX2_four_0 15 rfl rfl)
theorem dX2_four_17 : decode cX2_four 17 = .ok (.iload_n 2, 1) := dk_28 (dk_at dksX2_four_0 17 rfl rfl)
theorem dX2_four_18 : decode cX2_four 18 = .ok (.imul, 1) := dk_104 (dk_at dksX2_four_0 18 rfl rfl)
theorem dX2_four_19 : decode cX2_four 19 = .ok (.ishr, 1) := dk_122 (dk_at dksX2_four_0 19 rfl rfl)
theorem dX2_four_20 : decode cX2_four 20 = .ok (.i2b, 1) := dk_145 (dk_at dksX2_four_0 20 rfl rfl)
theorem dX2_four_21 : decode cX2_four 21 = .ok (.bastore, 1) := dk_84 (dk_at dksX2_four_0 21 rfl rfl)
theorem dX2_four_22 : decode cX2_four 22 = .ok (.aload_n 0, 1) := dk_42 (dk_at dksX2_four_0 22 rfl rfl)
theorem dX2_four_23 : decode cX2_four 23 = .ok (.dup, 1) := dk_89 (dk_at dksX2_four_0 23 rfl rfl)
theorem dX2_four_24 : decode cX2_four 24 = .ok (.getfield 51, 3) := dk_180 0 51 (dk_at dksX2_four_1 0 rfl rfl)
theorem dX2_four_27 : decode cX2_four 27 = .ok (.iconst 1, 1) := dk_4 (dk_at dksX2_four_1 3 rfl rfl)
theorem dX2_four_28 : decode cX2_four 28 = .ok (.iadd, 1) := dk_96 (dk_at dksX2_four_1 4 rfl rfl)
theorem dX2_four_29 : decode cX2_four 29 = .ok (.putfield 51, 3) := dk_181 0 51 (dk_at dksX2_four_1 5 rfl rfl)
theorem dX2_four_32 : decode cX2_four 32 = .ok (.iinc 2 (-1), 3) := dk_132 2 255 (dk_at dksX2_four_1 8 rfl rfl)
theorem dX2_four_35 : decode cX2_four 35 = .ok (.goto (-33), 3) := dk_167 255 223 (dk_at dksX2_four_1 11 rfl rfl)
theorem dX2_four_38 : decode cX2_four 38 = .ok (.return_, 1) := dk_177 (dk_at dksX2_four_1 14 rfl rfl)
abbrev cX2_parseError : ByteArray := prog_20_method_9_code
def yX2_parseError : MethodName := ⟨RX2, "parseError", "()I"⟩
def dkwX2_parseError_0 : List UInt8 := [42, 3, 181, 0, 44, 42, 180, 0, 58, 172]
abbrev dktX2_parseError_0 : List UInt8 := dkwX2_parseError_0 ++ []
theorem dksX2_parseError_0 : cX2_parseError.data.toList.drop 0 = dktX2_parseError_0 := by decide +kernel
theorem dX2_parseError_0 : decode cX2_parseError 0 = .ok (.aload_n 0, 1) := dk_42 (dk_at dksX2_parseError_0 0 rfl rfl)
theorem dX2_parseError_1 : decode cX2_parseError 1 = .ok (.iconst 0, 1) := dk_3 (dk_at dksX2_parseError_0 1 rfl rfl)
theorem dX2_parseError_2 : decode cX2_parseError 2 = .ok (.putfield 44, 3) := dk_181 0 44 (dk_at dksX2_parseError_0 2 rfl rfl)
theorem dX2_parseError_5 : decode cX2_parseError 5 = .ok (.aload_n 0, 1) := dk_42 (dk_at dksX2_parseError_0 5 rfl rfl)
theorem dX2_parseError_6 : decode cX2_parseError 6 = .ok (.getfield 58, 3) := dk_180 0 58 (dk_at dksX2_parseError_0 6 rfl rfl)
theorem dX2_parseError_9 : decode cX2_parseError 9 = .ok (.ireturn, 1) := dk_172 (dk_at dksX2_parseError_0 9 rfl rfl)
abbrev cX2_errorPosition : ByteArray := prog_20_method_10_code
def yX2_errorPosition : MethodName := ⟨RX2, "errorPosition", "()I"⟩
def dkwX2_errorPosition_0 : List UInt8 := [42, 3, 181, 0, 44, 42, 180, 0, 37, 172]
abbrev dktX2_errorPosition_0 : List UInt8 := dkwX2_errorPosition_0 ++ []
theorem dksX2_errorPosition_0 : cX2_errorPosition.data.toList.drop 0 = dktX2_errorPosition_0 := by decide +kernel
theorem dX2_errorPosition_0 : decode cX2_errorPosition 0 = .ok (.aload_n 0, 1) := dk_42 (dk_at dksX2_errorPosition_0 0 rfl rfl)
theorem dX2_errorPosition_1 : decode cX2_errorPosition 1 = .ok (.iconst 0, 1) := dk_3 (dk_at dksX2_errorPosition_0 1 rfl rfl)
theorem dX2_errorPosition_2 : decode cX2_errorPosition 2 = .ok (.putfield 44, 3) := dk_181 0 44 (dk_at dksX2_errorPosition_0 2 rfl rfl)
theorem dX2_errorPosition_5 : decode cX2_errorPosition 5 = .ok (.aload_n 0, 1) := dk_42 (dk_at dksX2_errorPosition_0 5 rfl rfl)
theorem dX2_errorPosition_6 : decode cX2_errorPosition 6 = .ok (.getfield 37, 3) := dk_180 0 37 (dk_at dksX2_errorPosition_0 6 rfl rfl)
theorem dX2_errorPosition_9 : decode cX2_errorPosition 9 = .ok (.ireturn, 1) := dk_172 (dk_at dksX2_errorPosition_0 9 rfl rfl)
abbrev cX2_buffered : ByteArray := prog_20_method_11_code
def yX2_buffered : MethodName := ⟨RX2, "buffered", "()I"⟩
def dkwX2_buffered_0 : List UInt8 := [42, 3, 181, 0, 44, 42, 180, 0, 51, 172]
abbrev dktX2_buffered_0 : List UInt8 := dkwX2_buffered_0 ++ []
theorem dksX2_buffered_0 : cX2_buffered.data.toList.drop 0 = dktX2_buffered_0 := by decide +kernel
theorem dX2_buffered_0 : decode cX2_buffered 0 = .ok (.aload_n 0, 1) := dk_42 (dk_at dksX2_buffered_0 0 rfl rfl)
theorem dX2_buffered_1 : decode cX2_buffered 1 = .ok (.iconst 0, 1) := dk_3 (dk_at dksX2_buffered_0 1 rfl rfl)
theorem dX2_buffered_2 : decode cX2_buffered 2 = .ok (.putfield 44, 3) := dk_181 0 44 (dk_at dksX2_buffered_0 2 rfl rfl)
theorem dX2_buffered_5 : decode cX2_buffered 5 = .ok (.aload_n 0, 1) := dk_42 (dk_at dksX2_buffered_0 5 rfl rfl)
theorem dX2_buffered_6 : decode cX2_buffered 6 = .ok (.getfield 51, 3) := dk_180 0 51 (dk_at dksX2_buffered_0 6 rfl rfl)
theorem dX2_buffered_9 : decode cX2_buffered 9 = .ok (.ireturn, 1) := dk_172 (dk_at dksX2_buffered_0 9 rfl rfl)
abbrev cX2_load : ByteArray := prog_20_method_33_code
def yX2_load : MethodName := ⟨RX2, "load", "(I)I"⟩
def dkwX2_load_7 : List UInt8 := [180, 0, 9, 16, 6, 46, 172]
abbrev dktX2_load_7 : List UInt8 := dkwX2_load_7 ++ []
def dkwX2_load_6 : List UInt8 := [181, 0, 184, 42, 3, 181, 0, 188, 42, 180, 0, 22, 3, 3, 84, 42, 180, 0, 22, 4, 3, 84, 42]
abbrev dktX2_load_6 : List UInt8 := dkwX2_load_6 ++ dktX2_load_7
def dkwX2_load_5 : List UInt8 := [162, 0, 21, 42, 180, 0, 26, 28, 42, 180, 0, 30, 28, 47, 80, 132, 2, 1, 167, 255, 235, 42, 4]
abbrev dktX2_load_5 : List UInt8 := dkwX2_load_5 ++ dktX2_load_6
def dkwX2_load_4 : List UInt8 := [180, 0, 13, 3, 42, 180, 0, 9, 3, 184, 0, 177, 42, 5, 181, 0, 44, 3, 172, 3, 61, 28, 16, 18]
abbrev dktX2_load_4 : List UInt8 := dkwX2_load_4 ++ dktX2_load_5
def dkwX2_load_3 : List UInt8 := [180, 0, 9, 28, 3, 79, 132, 2, 1, 167, 255, 239, 42, 182, 0, 181, 42, 180, 0, 58, 158, 0, 23, 42]
abbrev dktX2_load_3 : List UInt8 := dkwX2_load_3 ++ dktX2_load_4
def dkwX2_load_2 : List UInt8 := [180, 0, 9, 3, 42, 180, 0, 13, 3, 184, 0, 177, 3, 61, 28, 17, 4, 34, 162, 0, 16, 42]
abbrev dktX2_load_2 : List UInt8 := dkwX2_load_2 ++ dktX2_load_3
def dkwX2_load_1 : List UInt8 := [181, 0, 61, 42, 3, 181, 0, 72, 42, 3, 181, 0, 51, 42, 3, 181, 0, 58, 42, 2, 181, 0, 37, 42]
abbrev dktX2_load_1 : List UInt8 := dkwX2_load_1 ++ dktX2_load_2
def dkwX2_load_0 : List UInt8 := [42, 27, 3, 42, 180, 0, 51, 184, 0, 64, 4, 4, 182, 0, 47, 154, 0, 5, 3, 172, 42, 27]
abbrev dktX2_load_0 : List UInt8 := dkwX2_load_0 ++ dktX2_load_1
theorem dksX2_load_0 : cX2_load.data.toList.drop 0 = dktX2_load_0 := by decide +kernel
theorem dksX2_load_1 : cX2_load.data.toList.drop 22 = dktX2_load_1 := dk_seg dksX2_load_0 22 rfl rfl
theorem dksX2_load_2 : cX2_load.data.toList.drop 46 = dktX2_load_2 := dk_seg dksX2_load_1 24 rfl rfl
theorem dksX2_load_3 : cX2_load.data.toList.drop 68 = dktX2_load_3 := dk_seg dksX2_load_2 22 rfl rfl
theorem dksX2_load_4 : cX2_load.data.toList.drop 92 = dktX2_load_4 := dk_seg dksX2_load_3 24 rfl rfl
theorem dksX2_load_5 : cX2_load.data.toList.drop 116 = dktX2_load_5 := dk_seg dksX2_load_4 24 rfl rfl
theorem dksX2_load_6 : cX2_load.data.toList.drop 139 = dktX2_load_6 := dk_seg dksX2_load_5 23 rfl rfl
theorem dksX2_load_7 : cX2_load.data.toList.drop 162 = dktX2_load_7 := dk_seg dksX2_load_6 23 rfl rfl
theorem dX2_load_0 : decode cX2_load 0 = .ok (.aload_n 0, 1) := dk_42 (dk_at dksX2_load_0 0 rfl rfl)
theorem dX2_load_1 : decode cX2_load 1 = .ok (.iload_n 1, 1) := dk_27 (dk_at dksX2_load_0 1 rfl rfl)
theorem dX2_load_2 : decode cX2_load 2 = .ok (.iconst 0, 1) := dk_3 (dk_at dksX2_load_0 2 rfl rfl)
theorem dX2_load_3 : decode cX2_load 3 = .ok (.aload_n 0, 1) := dk_42 (dk_at dksX2_load_0 3 rfl rfl)
theorem dX2_load_4 : decode cX2_load 4 = .ok (.getfield 51, 3) := dk_180 0 51 (dk_at dksX2_load_0 4 rfl rfl)
theorem dX2_load_7 : decode cX2_load 7 = .ok (.invokestatic 64, 3) := dk_184 0 64 (dk_at dksX2_load_0 7 rfl rfl)
theorem dX2_load_10 : decode cX2_load 10 = .ok (.iconst 1, 1) := dk_4 (dk_at dksX2_load_0 10 rfl rfl)
theorem dX2_load_11 : decode cX2_load 11 = .ok (.iconst 1, 1) := dk_4 (dk_at dksX2_load_0 11 rfl rfl)
theorem dX2_load_12 : decode cX2_load 12 = .ok (.invokevirtual 47, 3) := dk_182 0 47 (dk_at dksX2_load_0 12 rfl rfl)
theorem dX2_load_15 : decode cX2_load 15 = .ok (.ifCond .ne 5, 3) := dk_154 0 5 (dk_at dksX2_load_0 15 rfl rfl)
theorem dX2_load_18 : decode cX2_load 18 = .ok (.iconst 0, 1) := dk_3 (dk_at dksX2_load_0 18 rfl rfl)
theorem dX2_load_19 : decode cX2_load 19 = .ok (.ireturn, 1) := dk_172 (dk_at dksX2_load_0 19 rfl rfl)
theorem dX2_load_20 : decode cX2_load 20 = .ok (.aload_n 0, 1) := dk_42 (dk_at dksX2_load_0 20 rfl rfl)
theorem dX2_load_21 : decode cX2_load 21 = .ok (.iload_n 1, 1) := dk_27 (dk_at dksX2_load_0 21 rfl rfl)
theorem dX2_load_22 : decode cX2_load 22 = .ok (.putfield 61, 3) := dk_181 0 61 (dk_at dksX2_load_1 0 rfl rfl)
theorem dX2_load_25 : decode cX2_load 25 = .ok (.aload_n 0, 1) := dk_42 (dk_at dksX2_load_1 3 rfl rfl)
theorem dX2_load_26 : decode cX2_load 26 = .ok (.iconst 0, 1) := dk_3 (dk_at dksX2_load_1 4 rfl rfl)
theorem dX2_load_27 : decode cX2_load 27 = .ok (.putfield 72, 3) := dk_181 0 72 (dk_at dksX2_load_1 5 rfl rfl)
theorem dX2_load_30 : decode cX2_load 30 = .ok (.aload_n 0, 1) := dk_42 (dk_at dksX2_load_1 8 rfl rfl)
theorem dX2_load_31 : decode cX2_load 31 = .ok (.iconst 0, 1) := dk_3 (dk_at dksX2_load_1 9 rfl rfl)
theorem dX2_load_32 : decode cX2_load 32 = .ok (.putfield 51, 3) := dk_181 0 51 (dk_at dksX2_load_1 10 rfl rfl)
theorem dX2_load_35 : decode cX2_load 35 = .ok (.aload_n 0, 1) := dk_42 (dk_at dksX2_load_1 13 rfl rfl)
theorem dX2_load_36 : decode cX2_load 36 = .ok (.iconst 0, 1) := dk_3 (dk_at dksX2_load_1 14 rfl rfl)
theorem dX2_load_37 : decode cX2_load 37 = .ok (.putfield 58, 3) := dk_181 0 58 (dk_at dksX2_load_1 15 rfl rfl)
theorem dX2_load_40 : decode cX2_load 40 = .ok (.aload_n 0, 1) := dk_42 (dk_at dksX2_load_1 18 rfl rfl)
theorem dX2_load_41 : decode cX2_load 41 = .ok (.iconst (-1), 1) := dk_2 (dk_at dksX2_load_1 19 rfl rfl)
theorem dX2_load_42 : decode cX2_load 42 = .ok (.putfield 37, 3) := dk_181 0 37 (dk_at dksX2_load_1 20 rfl rfl)
theorem dX2_load_45 : decode cX2_load 45 = .ok (.aload_n 0, 1) := dk_42 (dk_at dksX2_load_1 23 rfl rfl)
theorem dX2_load_46 : decode cX2_load 46 = .ok (.getfield 9, 3) := dk_180 0 9 (dk_at dksX2_load_2 0 rfl rfl)
theorem dX2_load_49 : decode cX2_load 49 = .ok (.iconst 0, 1) := dk_3 (dk_at dksX2_load_2 3 rfl rfl)
theorem dX2_load_50 : decode cX2_load 50 = .ok (.aload_n 0, 1) := dk_42 (dk_at dksX2_load_2 4 rfl rfl)
theorem dX2_load_51 : decode cX2_load 51 = .ok (.getfield 13, 3) := dk_180 0 13 (dk_at dksX2_load_2 5 rfl rfl)
theorem dX2_load_54 : decode cX2_load 54 = .ok (.iconst 0, 1) := dk_3 (dk_at dksX2_load_2 8 rfl rfl)
theorem dX2_load_55 : decode cX2_load 55 = .ok (.invokestatic 177, 3) := dk_184 0 177 (dk_at dksX2_load_2 9 rfl rfl)
theorem dX2_load_58 : decode cX2_load 58 = .ok (.iconst 0, 1) := dk_3 (dk_at dksX2_load_2 12 rfl rfl)
theorem dX2_load_59 : decode cX2_load 59 = .ok (.istore_n 2, 1) := dk_61 (dk_at dksX2_load_2 13 rfl rfl)
theorem dX2_load_60 : decode cX2_load 60 = .ok (.iload_n 2, 1) := dk_28 (dk_at dksX2_load_2 14 rfl rfl)
theorem dX2_load_61 : decode cX2_load 61 = .ok (.sipush 1058, 3) := dk_17 4 34 (dk_at dksX2_load_2 15 rfl rfl)
theorem dX2_load_64 : decode cX2_load 64 = .ok (.if_icmp .ge 16, 3) := dk_162 0 16 (dk_at dksX2_load_2 18 rfl rfl)
theorem dX2_load_67 : decode cX2_load 67 = .ok (.aload_n 0, 1) := dk_42 (dk_at dksX2_load_2 21 rfl rfl)
theorem dX2_load_68 : decode cX2_load 68 = .ok (.getfield 9, 3) := dk_180 0 9 (dk_at dksX2_load_3 0 rfl rfl)
theorem dX2_load_71 : decode cX2_load 71 = .ok (.iload_n 2, 1) := dk_28 (dk_at dksX2_load_3 3 rfl rfl)
theorem dX2_load_72 : decode cX2_load 72 = .ok (.iconst 0, 1) := dk_3 (dk_at dksX2_load_3 4 rfl rfl)
theorem dX2_load_73 : decode cX2_load 73 = .ok (.iastore, 1) := dk_79 (dk_at dksX2_load_3 5 rfl rfl)
theorem dX2_load_74 : decode cX2_load 74 = .ok (.iinc 2 1, 3) := dk_132 2 1 (dk_at dksX2_load_3 6 rfl rfl)
theorem dX2_load_77 : decode cX2_load 77 = .ok (.goto (-17), 3) := dk_167 255 239 (dk_at dksX2_load_3 9 rfl rfl)
theorem dX2_load_80 : decode cX2_load 80 = .ok (.aload_n 0, 1) := dk_42 (dk_at dksX2_load_3 12 rfl rfl)
theorem dX2_load_81 : decode cX2_load 81 = .ok (.invokevirtual 181, 3) := dk_182 0 181 (dk_at dksX2_load_3 13 rfl rfl)
theorem dX2_load_84 : decode cX2_load 84 = .ok (.aload_n 0, 1) := dk_42 (dk_at dksX2_load_3 16 rfl rfl)
theorem dX2_load_85 : decode cX2_load 85 = .ok (.getfield 58, 3) := dk_180 0 58 (dk_at dksX2_load_3 17 rfl rfl)
theorem dX2_load_88 : decode cX2_load 88 = .ok (.ifCond .le 23, 3) := dk_158 0 23 (dk_at dksX2_load_3 20 rfl rfl)
theorem dX2_load_91 : decode cX2_load 91 = .ok (.aload_n 0, 1) := dk_42 (dk_at dksX2_load_3 23 rfl rfl)
theorem dX2_load_92 : decode cX2_load 92 = .ok (.getfield 13, 3) := dk_180 0 13 (dk_at dksX2_load_4 0 rfl rfl)
theorem dX2_load_95 : decode cX2_load 95 = .ok (.iconst 0, 1) := dk_3 (dk_at dksX2_load_4 3 rfl rfl)
theorem dX2_load_96 : decode cX2_load 96 = .ok (.aload_n 0, 1) := dk_42 (dk_at dksX2_load_4 4 rfl rfl)
theorem dX2_load_97 : decode cX2_load 97 = .ok (.getfield 9, 3) := dk_180 0 9 (dk_at dksX2_load_4 5 rfl rfl)
theorem dX2_load_100 : decode cX2_load 100 = .ok (.iconst 0, 1) := dk_3 (dk_at dksX2_load_4 8 rfl rfl)
theorem dX2_load_101 : decode cX2_load 101 = .ok (.invokestatic 177, 3) := dk_184 0 177 (dk_at dksX2_load_4 9 rfl rfl)
theorem dX2_load_104 : decode cX2_load 104 = .ok (.aload_n 0, 1) := dk_42 (dk_at dksX2_load_4 12 rfl rfl)
theorem dX2_load_105 : decode cX2_load 105 = .ok (.iconst 2, 1) := dk_5 (dk_at dksX2_load_4 13 rfl rfl)
theorem dX2_load_106 : decode cX2_load 106 = .ok (.putfield 44, 3) := dk_181 0 44 (dk_at dksX2_load_4 14 rfl rfl)
theorem dX2_load_109 : decode cX2_load 109 = .ok (.iconst 0, 1) := dk_3 (dk_at dksX2_load_4 17 rfl rfl)
theorem dX2_load_110 : decode cX2_load 110 = .ok (.ireturn, 1) := dk_172 (dk_at dksX2_load_4 18 rfl rfl)
theorem dX2_load_111 : decode cX2_load 111 = .ok (.iconst 0, 1) := dk_3 (dk_at dksX2_load_4 19 rfl rfl)
theorem dX2_load_112 : decode cX2_load 112 = .ok (.istore_n 2, 1) := dk_61 (dk_at dksX2_load_4 20 rfl rfl)
theorem dX2_load_113 : decode cX2_load 113 = .ok (.iload_n 2, 1) := dk_28 (dk_at dksX2_load_4 21 rfl rfl)
theorem dX2_load_114 : decode cX2_load 114 = .ok (.bipush 18, 2) := dk_16 18 (dk_at dksX2_load_4 22 rfl rfl)
theorem dX2_load_116 : decode cX2_load 116 = .ok (.if_icmp .ge 21, 3) := dk_162 0 21 (dk_at dksX2_load_5 0 rfl rfl)
theorem dX2_load_119 : decode cX2_load 119 = .ok (.aload_n 0, 1) := dk_42 (dk_at dksX2_load_5 3 rfl rfl)
theorem dX2_load_120 : decode cX2_load 120 = .ok (.getfield 26, 3) := dk_180 0 26 (dk_at dksX2_load_5 4 rfl rfl)
theorem dX2_load_123 : decode cX2_load 123 = .ok (.iload_n 2, 1) := dk_28 (dk_at dksX2_load_5 7 rfl rfl)
theorem dX2_load_124 : decode cX2_load 124 = .ok (.aload_n 0, 1) := dk_42 (dk_at dksX2_load_5 8 rfl rfl)
theorem dX2_load_125 : decode cX2_load 125 = .ok (.getfield 30, 3) := dk_180 0 30 (dk_at dksX2_load_5 9 rfl rfl)
theorem dX2_load_128 : decode cX2_load 128 = .ok (.iload_n 2, 1) := dk_28 (dk_at dksX2_load_5 12 rfl rfl)
theorem dX2_load_129 : decode cX2_load 129 = .ok (.laload, 1) := dk_47 (dk_at dksX2_load_5 13 rfl rfl)
theorem dX2_load_130 : decode cX2_load 130 = .ok (.lastore, 1) := dk_80 (dk_at dksX2_load_5 14 rfl rfl)
theorem dX2_load_131 : decode cX2_load 131 = .ok (.iinc 2 1, 3) := dk_132 2 1 (dk_at dksX2_load_5 15 rfl rfl)
theorem dX2_load_134 : decode cX2_load 134 = .ok (.goto (-21), 3) := dk_167 255 235 (dk_at dksX2_load_5 18 rfl rfl)
theorem dX2_load_137 : decode cX2_load 137 = .ok (.aload_n 0, 1) := dk_42 (dk_at dksX2_load_5 21 rfl rfl)
theorem dX2_load_138 : decode cX2_load 138 = .ok (.iconst 1, 1) := dk_4 (dk_at dksX2_load_5 22 rfl rfl)
theorem dX2_load_139 : decode cX2_load 139 = .ok (.putfield 184, 3) := dk_181 0 184 (dk_at dksX2_load_6 0 rfl rfl)
theorem dX2_load_142 : decode cX2_load 142 = .ok (.aload_n 0, 1) := dk_42 (dk_at dksX2_load_6 3 rfl rfl)
theorem dX2_load_143 : decode cX2_load 143 = .ok (.iconst 0, 1) := dk_3 (dk_at dksX2_load_6 4 rfl rfl)
theorem dX2_load_144 : decode cX2_load 144 = .ok (.putfield 188, 3) := dk_181 0 188 (dk_at dksX2_load_6 5 rfl rfl)
theorem dX2_load_147 : decode cX2_load 147 = .ok (.aload_n 0, 1) := dk_42 (dk_at dksX2_load_6 8 rfl rfl)
theorem dX2_load_148 : decode cX2_load 148 = .ok (.getfield 22, 3) := dk_180 0 22 (dk_at dksX2_load_6 9 rfl rfl)
theorem dX2_load_151 : decode cX2_load 151 = .ok (.iconst 0, 1) := dk_3 (dk_at dksX2_load_6 12 rfl rfl)
theorem dX2_load_152 : decode cX2_load 152 = .ok (.iconst 0, 1) := dk_3 (dk_at dksX2_load_6 13 rfl rfl)
theorem dX2_load_153 : decode cX2_load 153 = .ok (.bastore, 1) := dk_84 (dk_at dksX2_load_6 14 rfl rfl)
theorem dX2_load_154 : decode cX2_load 154 = .ok (.aload_n 0, 1) := dk_42 (dk_at dksX2_load_6 15 rfl rfl)
theorem dX2_load_155 : decode cX2_load 155 = .ok (.getfield 22, 3) := dk_180 0 22 (dk_at dksX2_load_6 16 rfl rfl)
theorem dX2_load_158 : decode cX2_load 158 = .ok (.iconst 1, 1) := dk_4 (dk_at dksX2_load_6 19 rfl rfl)
theorem dX2_load_159 : decode cX2_load 159 = .ok (.iconst 0, 1) := dk_3 (dk_at dksX2_load_6 20 rfl rfl)
theorem dX2_load_160 : decode cX2_load 160 = .ok (.bastore, 1) := dk_84 (dk_at dksX2_load_6 21 rfl rfl)
theorem dX2_load_161 : decode cX2_load 161 = .ok (.aload_n 0, 1) := dk_42 (dk_at dksX2_load_6 22 rfl rfl)
theorem dX2_load_162 : decode cX2_load 162 = .ok (.getfield 9, 3) := dk_180 0 9 (dk_at dksX2_load_7 0 rfl rfl)
theorem dX2_load_165 : decode cX2_load 165 = .ok (.bipush 6, 2) := dk_16 6 (dk_at dksX2_load_7 3 rfl rfl)
theorem dX2_load_167 : decode cX2_load 167 = .ok (.iaload, 1) := dk_46 (dk_at dksX2_load_7 5 rfl rfl)
theorem dX2_load_168 : decode cX2_load 168 = .ok (.ireturn, 1) := dk_172 (dk_at dksX2_load_7 6 rfl rfl)
abbrev cX2_in : ByteArray := prog_20_method_3_code
def yX2_in : MethodName := ⟨RX2, "in", "(III)Z"⟩
def dkwX2_in_0 : List UInt8 := [26, 27, 161, 0, 12, 26, 28, 163, 0, 7, 4, 167, 0, 4, 3, 172]
abbrev dktX2_in_0 : List UInt8 := dkwX2_in_0 ++ []
theorem dksX2_in_0 : cX2_in.data.toList.drop 0 = dktX2_in_0 := by decide +kernel
theorem dX2_in_0 : decode cX2_in 0 = .ok (.iload_n 0, 1) := dk_26 (dk_at dksX2_in_0 0 rfl rfl)
theorem dX2_in_1 : decode cX2_in 1 = .ok (.iload_n 1, 1) := dk_27 (dk_at dksX2_in_0 1 rfl rfl)
theorem dX2_in_2 : decode cX2_in 2 = .ok (.if_icmp .lt 12, 3) := dk_161 0 12 (dk_at dksX2_in_0 2 rfl rfl)
theorem dX2_in_5 : decode cX2_in 5 = .ok (.iload_n 0, 1) := dk_26 (dk_at dksX2_in_0 5 rfl rfl)
theorem dX2_in_6 : decode cX2_in 6 = .ok (.iload_n 2, 1) := dk_28 (dk_at dksX2_in_0 6 rfl rfl)
theorem dX2_in_7 : decode cX2_in 7 = .ok (.if_icmp .gt 7, 3) := dk_163 0 7 (dk_at dksX2_in_0 7 rfl rfl)
theorem dX2_in_10 : decode cX2_in 10 = .ok (.iconst 1, 1) := dk_4 (dk_at dksX2_in_0 10 rfl rfl)
theorem dX2_in_11 : decode cX2_in 11 = .ok (.goto 4, 3) := dk_167 0 4 (dk_at dksX2_in_0 11 rfl rfl)
theorem dX2_in_14 : decode cX2_in 14 = .ok (.iconst 0, 1) := dk_3 (dk_at dksX2_in_0 14 rfl rfl)
theorem dX2_in_15 : decode cX2_in 15 = .ok (.ireturn, 1) := dk_172 (dk_at dksX2_in_0 15 rfl rfl)
abbrev cX2_may : ByteArray := prog_20_method_4_code
def yX2_may : MethodName := ⟨RX2, "may", "(ZZZ)Z"⟩
def dkwX2_may_1 : List UInt8 := [167, 0, 4, 6, 181, 0, 44, 42, 180, 0, 44, 154, 0, 7, 4, 167, 0, 4, 3, 172]
abbrev dktX2_may_1 : List UInt8 := dkwX2_may_1 ++ []
def dkwX2_may_0 : List UInt8 := [42, 27, 154, 0, 7, 4, 167, 0, 20, 28, 154, 0, 7, 5, 167, 0, 12, 29, 153, 0, 7, 3]
abbrev dktX2_may_0 : List UInt8 := dkwX2_may_0 ++ dktX2_may_1
theorem dksX2_may_0 : cX2_may.data.toList.drop 0 = dktX2_may_0 := by decide +kernel
theorem dksX2_may_1 : cX2_may.data.toList.drop 22 = dktX2_may_1 := dk_seg dksX2_may_0 22 rfl rfl
theorem dX2_may_0 : decode cX2_may 0 = .ok (.aload_n 0, 1) := dk_42 (dk_at dksX2_may_0 0 rfl rfl)
theorem dX2_may_1 : decode cX2_may 1 = .ok (.iload_n 1, 1) := dk_27 (dk_at dksX2_may_0 1 rfl rfl)
theorem dX2_may_2 : decode cX2_may 2 = .ok (.ifCond .ne 7, 3) := dk_154 0 7 (dk_at dksX2_may_0 2 rfl rfl)
theorem dX2_may_5 : decode cX2_may 5 = .ok (.iconst 1, 1) := dk_4 (dk_at dksX2_may_0 5 rfl rfl)
theorem dX2_may_6 : decode cX2_may 6 = .ok (.goto 20, 3) := dk_167 0 20 (dk_at dksX2_may_0 6 rfl rfl)
theorem dX2_may_9 : decode cX2_may 9 = .ok (.iload_n 2, 1) := dk_28 (dk_at dksX2_may_0 9 rfl rfl)
theorem dX2_may_10 : decode cX2_may 10 = .ok (.ifCond .ne 7, 3) := dk_154 0 7 (dk_at dksX2_may_0 10 rfl rfl)
theorem dX2_may_13 : decode cX2_may 13 = .ok (.iconst 2, 1) := dk_5 (dk_at dksX2_may_0 13 rfl rfl)
theorem dX2_may_14 : decode cX2_may 14 = .ok (.goto 12, 3) := dk_167 0 12 (dk_at dksX2_may_0 14 rfl rfl)
theorem dX2_may_17 : decode cX2_may 17 = .ok (.iload_n 3, 1) := dk_29 (dk_at dksX2_may_0 17 rfl rfl)
theorem dX2_may_18 : decode cX2_may 18 = .ok (.ifCond .eq 7, 3) := dk_153 0 7 (dk_at dksX2_may_0 18 rfl rfl)
theorem dX2_may_21 : decode cX2_may 21 = .ok (.iconst 0, 1) := dk_3 (dk_at dksX2_may_0 21 rfl rfl)
theorem dX2_may_22 : decode cX2_may 22 = .ok (.goto 4, 3) := dk_167 0 4 (dk_at dksX2_may_1 0 rfl rfl)
theorem dX2_may_25 : decode cX2_may 25 = .ok (.iconst 3, 1) := dk_6 (dk_at dksX2_may_1 3 rfl rfl)
theorem dX2_may_26 : decode cX2_may 26 = .ok (.putfield 44, 3) := dk_181 0 44 (dk_at dksX2_may_1 4 rfl rfl)
theorem dX2_may_29 : decode cX2_may 29 = .ok (.aload_n 0, 1) := dk_42 (dk_at dksX2_may_1 7 rfl rfl)
theorem dX2_may_30 : decode cX2_may 30 = .ok (.getfield 44, 3) := dk_180 0 44 (dk_at dksX2_may_1 8 rfl rfl)
theorem dX2_may_33 : decode cX2_may 33 = .ok (.ifCond .ne 7, 3) := dk_154 0 7 (dk_at dksX2_may_1 11 rfl rfl)
theorem dX2_may_36 : decode cX2_may 36 = .ok (.iconst 1, 1) := dk_4 (dk_at dksX2_may_1 14 rfl rfl)
theorem dX2_may_37 : decode cX2_may 37 = .ok (.goto 4, 3) := dk_167 0 4 (dk_at dksX2_may_1 15 rfl rfl)
theorem dX2_may_40 : decode cX2_may 40 = .ok (.iconst 0, 1) := dk_3 (dk_at dksX2_may_1 18 rfl rfl)
theorem dX2_may_41 : decode cX2_may 41 = .ok (.ireturn, 1) := dk_172 (dk_at dksX2_may_1 19 rfl rfl)
abbrev cX2_copies : ByteArray := prog_20_method_6_code
def yX2_copies : MethodName := ⟨RX2, "copies", "([II[II)V"⟩
def dkwX2_copies_1 : List UInt8 := [132, 4, 1, 167, 255, 233, 177]
abbrev dktX2_copies_1 : List UInt8 := dkwX2_copies_1 ++ []
def dkwX2_copies_0 : List UInt8 := [3, 54, 4, 21, 4, 17, 4, 34, 162, 0, 21, 44, 29, 21, 4, 96, 42, 27, 21, 4, 96, 46, 79]
abbrev dktX2_copies_0 : List UInt8 := dkwX2_copies_0 ++ dktX2_copies_1
theorem dksX2_copies_0 : cX2_copies.data.toList.drop 0 = dktX2_copies_0 := by decide +kernel
theorem dksX2_copies_1 : cX2_copies.data.toList.drop 23 = dktX2_copies_1 := dk_seg dksX2_copies_0 23 rfl rfl
theorem dX2_copies_0 : decode cX2_copies 0 = .ok (.iconst 0, 1) := dk_3 (dk_at dksX2_copies_0 0 rfl rfl)
theorem dX2_copies_1 : decode cX2_copies 1 = .ok (.istore 4, 2) := dk_54 4 (dk_at dksX2_copies_0 1 rfl rfl)
theorem dX2_copies_3 : decode cX2_copies 3 = .ok (.iload 4, 2) := dk_21 4 (dk_at dksX2_copies_0 3 rfl rfl)
theorem dX2_copies_5 : decode cX2_copies 5 = .ok (.sipush 1058, 3) := dk_17 4 34 (dk_at dksX2_copies_0 5 rfl rfl)
theorem dX2_copies_8 : decode cX2_copies 8 = .ok (.if_icmp .ge 21, 3) := dk_162 0 21 (dk_at dksX2_copies_0 8 rfl rfl)
theorem dX2_copies_11 : decode cX2_copies 11 = .ok (.aload_n 2, 1) := dk_44 (dk_at dksX2_copies_0 11 rfl rfl)
theorem dX2_copies_12 : decode cX2_copies 12 = .ok (.iload_n 3, 1) := dk_29 (dk_at dksX2_copies_0 12 rfl rfl)
theorem dX2_copies_13 : decode cX2_copies 13 = .ok (.iload 4, 2) := dk_21 4 (dk_at dksX2_copies_0 13 rfl rfl)
theorem dX2_copies_15 : decode cX2_copies 15 = .ok (.iadd, 1) := dk_96 (dk_at dksX2_copies_0 15 rfl rfl)
theorem dX2_copies_16 : decode cX2_copies 16 = .ok (.aload_n 0, 1) := dk_42 (dk_at dksX2_copies_0 16 rfl rfl)
theorem dX2_copies_17 : decode cX2_copies 17 = .ok (.iload_n 1, 1) := dk_27 (dk_at dksX2_copies_0 17 rfl rfl)
theorem dX2_copies_18 : decode cX2_copies 18 = .ok (.iload 4, 2) := dk_21 4 (dk_at dksX2_copies_0 18 rfl rfl)
theorem dX2_copies_20 : decode cX2_copies 20 = .ok (.iadd, 1) := dk_96 (dk_at dksX2_copies_0 20 rfl rfl)
theorem dX2_copies_21 : decode cX2_copies 21 = .ok (.iaload, 1) := dk_46 (dk_at dksX2_copies_0 21 rfl rfl)
theorem dX2_copies_22 : decode cX2_copies 22 = .ok (.iastore, 1) := dk_79 (dk_at dksX2_copies_0 22 rfl rfl)
theorem dX2_copies_23 : decode cX2_copies 23 = .ok (.iinc 4 1, 3) := dk_132 4 1 (dk_at dksX2_copies_1 0 rfl rfl)
theorem dX2_copies_26 : decode cX2_copies 26 = .ok (.goto (-23), 3) := dk_167 255 233 (dk_at dksX2_copies_1 3 rfl rfl)
theorem dX2_copies_29 : decode cX2_copies 29 = .ok (.return_, 1) := dk_177 (dk_at dksX2_copies_1 6 rfl rfl)
abbrev cX2_reads : ByteArray := prog_20_method_32_code
def yX2_reads : MethodName := ⟨RX2, "reads", "()V"⟩
def dkwX2_reads_5 : List UInt8 := [4, 182, 0, 99, 154, 0, 8, 42, 4, 182, 0, 116, 177]
abbrev dktX2_reads_5 : List UInt8 := dkwX2_reads_5 ++ []
def dkwX2_reads_4 : List UInt8 := [18, 172, 182, 0, 112, 153, 0, 10, 42, 182, 0, 174, 167, 255, 183, 42, 4, 182, 0, 116, 167, 255, 175, 42]
abbrev dktX2_reads_4 : List UInt8 := dkwX2_reads_4 ++ dktX2_reads_5
def dkwX2_reads_3 : List UInt8 := [182, 0, 164, 167, 255, 215, 42, 18, 167, 182, 0, 112, 153, 0, 10, 42, 182, 0, 169, 167, 255, 199, 42]
abbrev dktX2_reads_3 : List UInt8 := dkwX2_reads_3 ++ dktX2_reads_4
def dkwX2_reads_2 : List UInt8 := [182, 0, 112, 153, 0, 10, 42, 182, 0, 159, 167, 255, 231, 42, 18, 162, 182, 0, 112, 153, 0, 10, 42]
abbrev dktX2_reads_2 : List UInt8 := dkwX2_reads_2 ++ dktX2_reads_3
def dkwX2_reads_1 : List UInt8 := [182, 0, 145, 42, 5, 8, 182, 0, 149, 42, 7, 182, 0, 99, 153, 0, 79, 42, 182, 0, 119, 42, 18, 157]
abbrev dktX2_reads_1 : List UInt8 := dkwX2_reads_1 ++ dktX2_reads_2
def dkwX2_reads_0 : List UInt8 := [42, 182, 0, 119, 42, 18, 143, 182, 0, 145, 42, 3, 4, 182, 0, 149, 42, 182, 0, 152, 42, 18, 155]
abbrev dktX2_reads_0 : List UInt8 := dkwX2_reads_0 ++ dktX2_reads_1
theorem dksX2_reads_0 : cX2_reads.data.toList.drop 0 = dktX2_reads_0 := by decide +kernel
theorem dksX2_reads_1 : cX2_reads.data.toList.drop 23 = dktX2_reads_1 := dk_seg dksX2_reads_0 23 rfl rfl
theorem dksX2_reads_2 : cX2_reads.data.toList.drop 47 = dktX2_reads_2 := dk_seg dksX2_reads_1 24 rfl rfl
theorem dksX2_reads_3 : cX2_reads.data.toList.drop 70 = dktX2_reads_3 := dk_seg dksX2_reads_2 23 rfl rfl
theorem dksX2_reads_4 : cX2_reads.data.toList.drop 93 = dktX2_reads_4 := dk_seg dksX2_reads_3 23 rfl rfl
theorem dksX2_reads_5 : cX2_reads.data.toList.drop 117 = dktX2_reads_5 := dk_seg dksX2_reads_4 24 rfl rfl
theorem dX2_reads_0 : decode cX2_reads 0 = .ok (.aload_n 0, 1) := dk_42 (dk_at dksX2_reads_0 0 rfl rfl)
theorem dX2_reads_1 : decode cX2_reads 1 = .ok (.invokevirtual 119, 3) := dk_182 0 119 (dk_at dksX2_reads_0 1 rfl rfl)
theorem dX2_reads_4 : decode cX2_reads 4 = .ok (.aload_n 0, 1) := dk_42 (dk_at dksX2_reads_0 4 rfl rfl)
theorem dX2_reads_5 : decode cX2_reads 5 = .ok (.ldc 143, 2) := dk_18 143 (dk_at dksX2_reads_0 5 rfl rfl)
theorem dX2_reads_7 : decode cX2_reads 7 = .ok (.invokevirtual 145, 3) := dk_182 0 145 (dk_at dksX2_reads_0 7 rfl rfl)
theorem dX2_reads_10 : decode cX2_reads 10 = .ok (.aload_n 0, 1) := dk_42 (dk_at dksX2_reads_0 10 rfl rfl)
theorem dX2_reads_11 : decode cX2_reads 11 = .ok (.iconst 0, 1) := dk_3 (dk_at dksX2_reads_0 11 rfl rfl)
theorem dX2_reads_12 : decode cX2_reads 12 = .ok (.iconst 1, 1) := dk_4 (dk_at dksX2_reads_0 12 rfl rfl)
theorem dX2_reads_13 : decode cX2_reads 13 = .ok (.invokevirtual 149, 3) := dk_182 0 149 (dk_at dksX2_reads_0 13 rfl rfl)
theorem dX2_reads_16 : decode cX2_reads 16 = .ok (.aload_n 0, 1) := dk_42 (dk_at dksX2_reads_0 16 rfl rfl)
theorem dX2_reads_17 : decode cX2_reads 17 = .ok (.invokevirtual 152, 3) := dk_182 0 152 (dk_at dksX2_reads_0 17 rfl rfl)
theorem dX2_reads_20 : decode cX2_reads 20 = .ok (.aload_n 0, 1) := dk_42 (dk_at dksX2_reads_0 20 rfl rfl)
theorem dX2_reads_21 : decode cX2_reads 21 = .ok (.ldc 155, 2) := dk_18 155 (dk_at dksX2_reads_0 21 rfl rfl)
theorem dX2_reads_23 : decode cX2_reads 23 = .ok (.invokevirtual 145, 3) := dk_182 0 145 (dk_at dksX2_reads_1 0 rfl rfl)
theorem dX2_reads_26 : decode cX2_reads 26 = .ok (.aload_n 0, 1) := dk_42 (dk_at dksX2_reads_1 3 rfl rfl)
theorem dX2_reads_27 : decode cX2_reads 27 = .ok (.iconst 2, 1) := dk_5 (dk_at dksX2_reads_1 4 rfl rfl)
theorem dX2_reads_28 : decode cX2_reads 28 = .ok (.iconst 5, 1) := dk_8 (dk_at dksX2_reads_1 5 rfl rfl)
theorem dX2_reads_29 : decode cX2_reads 29 = .ok (.invokevirtual 149, 3) := dk_182 0 149 (dk_at dksX2_reads_1 6 rfl rfl)
theorem dX2_reads_32 : decode cX2_reads 32 = .ok (.aload_n 0, 1) := dk_42 (dk_at dksX2_reads_1 9 rfl rfl)
theorem dX2_reads_33 : decode cX2_reads 33 = .ok (.iconst 4, 1) := dk_7 (dk_at dksX2_reads_1 10 rfl rfl)
theorem dX2_reads_34 : decode cX2_reads 34 = .ok (.invokevirtual 99, 3) := dk_182 0 99 (dk_at dksX2_reads_1 11 rfl rfl)
theorem dX2_reads_37 : decode cX2_reads 37 = .ok (.ifCond .eq 79, 3) := dk_153 0 79 (dk_at dksX2_reads_1 14 rfl rfl)
theorem dX2_reads_40 : decode cX2_reads 40 = .ok (.aload_n 0, 1) := dk_42 (dk_at dksX2_reads_1 17 rfl rfl)
theorem dX2_reads_41 : decode cX2_reads 41 = .ok (.invokevirtual 119, 3) := dk_182 0 119 (dk_at dksX2_reads_1 18 rfl rfl)
theorem dX2_reads_44 : decode cX2_reads 44 = .ok (.aload_n 0, 1) := dk_42 (dk_at dksX2_reads_1 21 rfl rfl)
theorem dX2_reads_45 : decode cX2_reads 45 = .ok (.ldc 157, 2) := dk_18 157 (dk_at dksX2_reads_1 22 rfl rfl)
theorem dX2_reads_47 : decode cX2_reads 47 = .ok (.invokevirtual 112, 3) := dk_182 0 112 (dk_at dksX2_reads_2 0 rfl rfl)
theorem dX2_reads_50 : decode cX2_reads 50 = .ok (.ifCond .eq 10, 3) := dk_153 0 10 (dk_at dksX2_reads_2 3 rfl rfl)
theorem dX2_reads_53 : decode cX2_reads 53 = .ok (.aload_n 0, 1) := dk_42 (dk_at dksX2_reads_2 6 rfl rfl)
theorem dX2_reads_54 : decode cX2_reads 54 = .ok (.invokevirtual 159, 3) := dk_182 0 159 (dk_at dksX2_reads_2 7 rfl rfl)
theorem dX2_reads_57 : decode cX2_reads 57 = .ok (.goto (-25), 3) := dk_167 255 231 (dk_at dksX2_reads_2 10 rfl rfl)
theorem dX2_reads_60 : decode cX2_reads 60 = .ok (.aload_n 0, 1) := dk_42 (dk_at dksX2_reads_2 13 rfl rfl)
theorem dX2_reads_61 : decode cX2_reads 61 = .ok (.ldc 162, 2) := dk_18 162 (dk_at dksX2_reads_2 14 rfl rfl)
theorem dX2_reads_63 : decode cX2_reads 63 = .ok (.invokevirtual 112, 3) := dk_182 0 112 (dk_at dksX2_reads_2 16 rfl rfl)
theorem dX2_reads_66 : decode cX2_reads 66 = .ok (.ifCond .eq 10, 3) := dk_153 0 10 (dk_at dksX2_reads_2 19 rfl rfl)
theorem dX2_reads_69 : decode cX2_reads 69 = .ok (.aload_n 0, 1) := dk_42 (dk_at dksX2_reads_2 22 rfl rfl)
theorem dX2_reads_70 : decode cX2_reads 70 = .ok (.invokevirtual 164, 3) := dk_182 0 164 (dk_at dksX2_reads_3 0 rfl rfl)
theorem dX2_reads_73 : decode cX2_reads 73 = .ok (.goto (-41), 3) := dk_167 255 215 (dk_at dksX2_reads_3 3 rfl rfl)
theorem dX2_reads_76 : decode cX2_reads 76 = .ok (.aload_n 0, 1) := dk_42 (dk_at dksX2_reads_3 6 rfl rfl)
theorem dX2_reads_77 : decode cX2_reads 77 = .ok (.ldc 167, 2) := dk_18 167 (dk_at dksX2_reads_3 7 rfl rfl)
theorem dX2_reads_79 : decode cX2_reads 79 = .ok (.invokevirtual 112, 3) := dk_182 0 112 (dk_at dksX2_reads_3 9 rfl rfl)
theorem dX2_reads_82 : decode cX2_reads 82 = .ok (.ifCond .eq 10, 3) := dk_153 0 10 (dk_at dksX2_reads_3 12 rfl rfl)
theorem dX2_reads_85 : decode cX2_reads 85 = .ok (.aload_n 0, 1) := dk_42 (dk_at dksX2_reads_3 15 rfl rfl)
theorem dX2_reads_86 : decode cX2_reads 86 = .ok (.invokevirtual 169, 3) := dk_182 0 169 (dk_at dksX2_reads_3 16 rfl rfl)
theorem dX2_reads_89 : decode cX2_reads 89 = .ok (.goto (-57), 3) := dk_167 255 199 (dk_at dksX2_reads_3 19 rfl rfl)
theorem dX2_reads_92 : decode cX2_reads 92 = .ok (.aload_n 0, 1) := dk_42 (dk_at dksX2_reads_3 22 rfl rfl)
theorem dX2_reads_93 : decode cX2_reads 93 = .ok (.ldc 172, 2) := dk_18 172 (dk_at dksX2_reads_4 0 rfl rfl)
theorem dX2_reads_95 : decode cX2_reads 95 = .ok (.invokevirtual 112, 3) := dk_182 0 112 (dk_at dksX2_reads_4 2 rfl rfl)
theorem dX2_reads_98 : decode cX2_reads 98 = .ok (.ifCond .eq 10, 3) := dk_153 0 10 (dk_at dksX2_reads_4 5 rfl rfl)
theorem dX2_reads_101 : decode cX2_reads 101 = .ok (.aload_n 0, 1) := dk_42 (dk_at dksX2_reads_4 8 rfl rfl)
theorem dX2_reads_102 : decode cX2_reads 102 = .ok (.invokevirtual 174, 3) := dk_182 0 174 (dk_at dksX2_reads_4 9 rfl rfl)
theorem dX2_reads_105 : decode cX2_reads 105 = .ok (.goto (-73), 3) := dk_167 255 183 (dk_at dksX2_reads_4 12 rfl rfl)
theorem dX2_reads_108 : decode cX2_reads 108 = .ok (.aload_n 0, 1) := dk_42 (dk_at dksX2_reads_4 15 rfl rfl)
theorem dX2_reads_109 : decode cX2_reads 109 = .ok (.iconst 1, 1) := dk_4 (dk_at dksX2_reads_4 16 rfl rfl)
theorem dX2_reads_110 : decode cX2_reads 110 = .ok (.invokevirtual 116, 3) := dk_182 0 116 (dk_at dksX2_reads_4 17 rfl rfl)
theorem dX2_reads_113 : decode cX2_reads 113 = .ok (.goto (-81), 3) := dk_167 255 175 (dk_at dksX2_reads_4 20 rfl rfl)
theorem dX2_reads_116 : decode cX2_reads 116 = .ok (.aload_n 0, 1) := dk_42 (dk_at dksX2_reads_4 23 rfl rfl)
theorem dX2_reads_117 : decode cX2_reads 117 = .ok (.iconst 1, 1) := dk_4 (dk_at dksX2_reads_5 0 rfl rfl)
theorem dX2_reads_118 : decode cX2_reads 118 = .ok (.invokevirtual 99, 3) := dk_182 0 99 (dk_at dksX2_reads_5 1 rfl rfl)
theorem dX2_reads_121 : decode cX2_reads 121 = .ok (.ifCond .ne 8, 3) := dk_154 0 8 (dk_at dksX2_reads_5 4 rfl rfl)
theorem dX2_reads_124 : decode cX2_reads 124 = .ok (.aload_n 0, 1) := dk_42 (dk_at dksX2_reads_5 7 rfl rfl)
theorem dX2_reads_125 : decode cX2_reads 125 = .ok (.iconst 1, 1) := dk_4 (dk_at dksX2_reads_5 8 rfl rfl)
theorem dX2_reads_126 : decode cX2_reads 126 = .ok (.invokevirtual 116, 3) := dk_182 0 116 (dk_at dksX2_reads_5 9 rfl rfl)
theorem dX2_reads_129 : decode cX2_reads 129 = .ok (.return_, 1) := dk_177 (dk_at dksX2_reads_5 12 rfl rfl)
abbrev cX2_next : ByteArray := prog_20_method_15_code
def yX2_next : MethodName := ⟨RX2, "next", "()V"⟩
def dkwX2_next_12 : List UInt8 := [177]
abbrev dktX2_next_12 : List UInt8 := dkwX2_next_12 ++ []
def dkwX2_next_11 : List UInt8 := [180, 0, 72, 51, 16, 59, 160, 0, 8, 42, 7, 181, 0, 78, 42, 89, 180, 0, 72, 4, 96, 181, 0, 72]
abbrev dktX2_next_11 : List UInt8 := dkwX2_next_11 ++ dktX2_next_12
def dkwX2_next_10 : List UInt8 := [180, 0, 75, 100, 7, 163, 0, 7, 6, 167, 0, 4, 3, 181, 0, 78, 177, 42, 180, 0, 33, 42]
abbrev dktX2_next_10 : List UInt8 := dkwX2_next_10 ++ dktX2_next_11
def dkwX2_next_9 : List UInt8 := [181, 0, 96, 42, 89, 180, 0, 72, 4, 96, 181, 0, 72, 167, 255, 198, 42, 42, 180, 0, 72, 42]
abbrev dktX2_next_9 : List UInt8 := dkwX2_next_9 ++ dktX2_next_10
def dkwX2_next_8 : List UInt8 := [162, 0, 27, 42, 16, 10, 42, 180, 0, 96, 104, 42, 180, 0, 33, 42, 180, 0, 72, 51, 96, 16, 48, 100]
abbrev dktX2_next_8 : List UInt8 := dkwX2_next_8 ++ dktX2_next_9
def dkwX2_next_7 : List UInt8 := [181, 0, 96, 42, 42, 180, 0, 72, 182, 0, 93, 153, 0, 53, 42, 180, 0, 72, 42, 180, 0, 75, 100, 7]
abbrev dktX2_next_7 : List UInt8 := dkwX2_next_7 ++ dktX2_next_8
def dkwX2_next_6 : List UInt8 := [42, 180, 0, 72, 182, 0, 85, 181, 0, 89, 177, 42, 42, 180, 0, 72, 182, 0, 93, 153, 0, 92, 42, 3]
abbrev dktX2_next_6 : List UInt8 := dkwX2_next_6 ++ dktX2_next_7
def dkwX2_next_5 : List UInt8 := [180, 0, 72, 42, 180, 0, 75, 100, 16, 6, 163, 0, 24, 42, 5, 181, 0, 78, 42, 42, 42, 180, 0, 75]
abbrev dktX2_next_5 : List UInt8 := dkwX2_next_5 ++ dktX2_next_6
def dkwX2_next_4 : List UInt8 := [42, 180, 0, 72, 182, 0, 81, 153, 0, 16, 42, 89, 180, 0, 72, 4, 96, 181, 0, 72, 167, 255, 235, 42]
abbrev dktX2_next_4 : List UInt8 := dkwX2_next_4 ++ dktX2_next_5
def dkwX2_next_3 : List UInt8 := [181, 0, 78, 42, 180, 0, 78, 4, 160, 0, 4, 177, 42, 42, 180, 0, 72, 182, 0, 81, 153, 0, 63, 42]
abbrev dktX2_next_3 : List UInt8 := dkwX2_next_3 ++ dktX2_next_4
def dkwX2_next_2 : List UInt8 := [180, 0, 72, 181, 0, 75, 42, 42, 180, 0, 72, 42, 180, 0, 61, 160, 0, 7, 4, 167, 0, 4, 3]
abbrev dktX2_next_2 : List UInt8 := dkwX2_next_2 ++ dktX2_next_3
def dkwX2_next_1 : List UInt8 := [180, 0, 72, 51, 16, 32, 160, 0, 16, 42, 89, 180, 0, 72, 4, 96, 181, 0, 72, 167, 255, 221, 42, 42]
abbrev dktX2_next_1 : List UInt8 := dkwX2_next_1 ++ dktX2_next_2
def dkwX2_next_0 : List UInt8 := [42, 180, 0, 58, 158, 0, 4, 177, 42, 180, 0, 72, 42, 180, 0, 61, 162, 0, 30, 42, 180, 0, 33, 42]
abbrev dktX2_next_0 : List UInt8 := dkwX2_next_0 ++ dktX2_next_1
theorem dksX2_next_0 : cX2_next.data.toList.drop 0 = dktX2_next_0 := by decide +kernel
theorem dksX2_next_1 : cX2_next.data.toList.drop 24 = dktX2_next_1 := dk_seg dksX2_next_0 24 rfl rfl
theorem dksX2_next_2 : cX2_next.data.toList.drop 48 = dktX2_next_2 := dk_seg dksX2_next_1 24 rfl rfl
theorem dksX2_next_3 : cX2_next.data.toList.drop 71 = dktX2_next_3 := dk_seg dksX2_next_2 23 rfl rfl
theorem dksX2_next_4 : cX2_next.data.toList.drop 95 = dktX2_next_4 := dk_seg dksX2_next_3 24 rfl rfl
theorem dksX2_next_5 : cX2_next.data.toList.drop 119 = dktX2_next_5 := dk_seg dksX2_next_4 24 rfl rfl
theorem dksX2_next_6 : cX2_next.data.toList.drop 143 = dktX2_next_6 := dk_seg dksX2_next_5 24 rfl rfl
theorem dksX2_next_7 : cX2_next.data.toList.drop 167 = dktX2_next_7 := dk_seg dksX2_next_6 24 rfl rfl
theorem dksX2_next_8 : cX2_next.data.toList.drop 191 = dktX2_next_8 := dk_seg dksX2_next_7 24 rfl rfl
theorem dksX2_next_9 : cX2_next.data.toList.drop 215 = dktX2_next_9 := dk_seg dksX2_next_8 24 rfl rfl
theorem dksX2_next_10 : cX2_next.data.toList.drop 237 = dktX2_next_10 := dk_seg dksX2_next_9 22 rfl rfl
theorem dksX2_next_11 : cX2_next.data.toList.drop 259 = dktX2_next_11 := dk_seg dksX2_next_10 22 rfl rfl
theorem dksX2_next_12 : cX2_next.data.toList.drop 283 = dktX2_next_12 := dk_seg dksX2_next_11 24 rfl rfl
theorem dX2_next_0 : decode cX2_next 0 = .ok (.aload_n 0, 1) := dk_42 (dk_at dksX2_next_0 0 rfl rfl)
theorem dX2_next_1 : decode cX2_next 1 = .ok (.getfield 58, 3) := dk_180 0 58 (dk_at dksX2_next_0 1 rfl rfl)
theorem dX2_next_4 : decode cX2_next 4 = .ok (.ifCond .le 4, 3) := dk_158 0 4 (dk_at dksX2_next_0 4 rfl rfl)
theorem dX2_next_7 : decode cX2_next 7 = .ok (.return_, 1) := dk_177 (dk_at dksX2_next_0 7 rfl rfl)
theorem dX2_next_8 : decode cX2_next 8 = .ok (.aload_n 0, 1) := dk_42 (dk_at dksX2_next_0 8 rfl rfl)
theorem dX2_next_9 : decode cX2_next 9 = .ok (.getfield 72, 3) := dk_180 0 72 (dk_at dksX2_next_0 9 rfl rfl)
theorem dX2_next_12 : decode cX2_next 12 = .ok (.aload_n 0, 1) := dk_42 (dk_at dksX2_next_0 12 rfl rfl)
theorem dX2_next_13 : decode cX2_next 13 = .ok (.getfield 61, 3) := dk_180 0 61 (dk_at dksX2_next_0 13 rfl rfl)
theorem dX2_next_16 : decode cX2_next 16 = .ok (.if_icmp .ge 30, 3) := dk_162 0 30 (dk_at dksX2_next_0 16 rfl rfl)
theorem dX2_next_19 : decode cX2_next 19 = .ok (.aload_n 0, 1) := dk_42 (dk_at dksX2_next_0 19 rfl rfl)
theorem dX2_next_20 : decode cX2_next 20 = .ok (.getfield 33, 3) := dk_180 0 33 (dk_at dksX2_next_0 20 rfl rfl)
theorem dX2_next_23 : decode cX2_next 23 = .ok (.aload_n 0, 1) := dk_42 (dk_at dksX2_next_0 23 rfl rfl)
theorem dX2_next_24 : decode cX2_next 24 = .ok (.getfield 72, 3) := dk_180 0 72 (dk_at dksX2_next_1 0 rfl rfl)
theorem dX2_next_27 : decode cX2_next 27 = .ok (.baload, 1) := dk_51 (dk_at dksX2_next_1 3 rfl rfl)
theorem dX2_next_28 : decode cX2_next 28 = .ok (.bipush 32, 2) := dk_16 32 (dk_at dksX2_next_1 4 rfl rfl)
theorem dX2_next_30 : decode cX2_next 30 = .ok (.if_icmp .ne 16, 3) := dk_160 0 16 (dk_at dksX2_next_1 6 rfl rfl)
theorem dX2_next_33 : decode cX2_next 33 = .ok (.aload_n 0, 1) := dk_42 (dk_at dksX2_next_1 9 rfl rfl)
theorem dX2_next_34 : decode cX2_next 34 = .ok (.dup, 1) := dk_89 (dk_at dksX2_next_1 10 rfl rfl)
theorem dX2_next_35 : decode cX2_next 35 = .ok (.getfield 72, 3) := dk_180 0 72 (dk_at dksX2_next_1 11 rfl rfl)
theorem dX2_next_38 : decode cX2_next 38 = .ok (.iconst 1, 1) := dk_4 (dk_at dksX2_next_1 14 rfl rfl)
theorem dX2_next_39 : decode cX2_next 39 = .ok (.iadd, 1) := dk_96 (dk_at dksX2_next_1 15 rfl rfl)
theorem dX2_next_40 : decode cX2_next 40 = .ok (.putfield 72, 3) := dk_181 0 72 (dk_at dksX2_next_1 16 rfl rfl)
theorem dX2_next_43 : decode cX2_next 43 = .ok (.goto (-35), 3) := dk_167 255 221 (dk_at dksX2_next_1 19 rfl rfl)
theorem dX2_next_46 : decode cX2_next 46 = .ok (.aload_n 0, 1) := dk_42 (dk_at dksX2_next_1 22 rfl rfl)
theorem dX2_next_47 : decode cX2_next 47 = .ok (.aload_n 0, 1) := dk_42 (dk_at dksX2_next_1 23 rfl rfl)
theorem dX2_next_48 : decode cX2_next 48 = .ok (.getfield 72, 3) := dk_180 0 72 (dk_at dksX2_next_2 0 rfl rfl)
theorem dX2_next_51 : decode cX2_next 51 = .ok (.putfield 75, 3) := dk_181 0 75 (dk_at dksX2_next_2 3 rfl rfl)
theorem dX2_next_54 : decode cX2_next 54 = .ok (.aload_n 0, 1) := dk_42 (dk_at dksX2_next_2 6 rfl rfl)
theorem dX2_next_55 : decode cX2_next 55 = .ok (.aload_n 0, 1) := dk_42 (dk_at dksX2_next_2 7 rfl rfl)
theorem dX2_next_56 : decode cX2_next 56 = .ok (.getfield 72, 3) := dk_180 0 72 (dk_at dksX2_next_2 8 rfl rfl)
theorem dX2_next_59 : decode cX2_next 59 = .ok (.aload_n 0, 1) := dk_42 (dk_at dksX2_next_2 11 rfl rfl)
theorem dX2_next_60 : decode cX2_next 60 = .ok (.getfield 61, 3) := dk_180 0 61 (dk_at dksX2_next_2 12 rfl rfl)
theorem dX2_next_63 : decode cX2_next 63 = .ok (.if_icmp .ne 7, 3) := dk_160 0 7 (dk_at dksX2_next_2 15 rfl rfl)
theorem dX2_next_66 : decode cX2_next 66 = .ok (.iconst 1, 1) := dk_4 (dk_at dksX2_next_2 18 rfl rfl)
theorem dX2_next_67 : decode cX2_next 67 = .ok (.goto 4, 3) := dk_167 0 4 (dk_at dksX2_next_2 19 rfl rfl)
theorem dX2_next_70 : decode cX2_next 70 = .ok (.iconst 0, 1) := dk_3 (dk_at dksX2_next_2 22 rfl rfl)
theorem dX2_next_71 : decode cX2_next 71 = .ok (.putfield 78, 3) := dk_181 0 78 (dk_at dksX2_next_3 0 rfl rfl)
theorem dX2_next_74 : decode cX2_next 74 = .ok (.aload_n 0, 1) := dk_42 (dk_at dksX2_next_3 3 rfl rfl)
theorem dX2_next_75 : decode cX2_next 75 = .ok (.getfield 78, 3) := dk_180 0 78 (dk_at dksX2_next_3 4 rfl rfl)
theorem dX2_next_78 : decode cX2_next 78 = .ok (.iconst 1, 1) := dk_4 (dk_at dksX2_next_3 7 rfl rfl)
theorem dX2_next_79 : decode cX2_next 79 = .ok (.if_icmp .ne 4, 3) := dk_160 0 4 (dk_at dksX2_next_3 8 rfl rfl)
theorem dX2_next_82 : decode cX2_next 82 = .ok (.return_, 1) := dk_177 (dk_at dksX2_next_3 11 rfl rfl)
theorem dX2_next_83 : decode cX2_next 83 = .ok (.aload_n 0, 1) := dk_42 (dk_at dksX2_next_3 12 rfl rfl)
theorem dX2_next_84 : decode cX2_next 84 = .ok (.aload_n 0, 1) := dk_42 (dk_at dksX2_next_3 13 rfl rfl)
theorem dX2_next_85 : decode cX2_next 85 = .ok (.getfield 72, 3) := dk_180 0 72 (dk_at dksX2_next_3 14 rfl rfl)
theorem dX2_next_88 : decode cX2_next 88 = .ok (.invokevirtual 81, 3) := dk_182 0 81 (dk_at dksX2_next_3 17 rfl rfl)
theorem dX2_next_91 : decode cX2_next 91 = .ok (.ifCond .eq 63, 3) := dk_153 0 63 (dk_at dksX2_next_3 20 rfl rfl)
theorem dX2_next_94 : decode cX2_next 94 = .ok (.aload_n 0, 1) := dk_42 (dk_at dksX2_next_3 23 rfl rfl)
theorem dX2_next_95 : decode cX2_next 95 = .ok (.aload_n 0, 1) := dk_42 (dk_at dksX2_next_4 0 rfl rfl)
theorem dX2_next_96 : decode cX2_next 96 = .ok (.getfield 72, 3) := dk_180 0 72 (dk_at dksX2_next_4 1 rfl rfl)
theorem dX2_next_99 : decode cX2_next 99 = .ok (.invokevirtual 81, 3) := dk_182 0 81 (dk_at dksX2_next_4 4 rfl rfl)
theorem dX2_next_102 : decode cX2_next 102 = .ok (.ifCond .eq 16, 3) := dk_153 0 16 (dk_at dksX2_next_4 7 rfl rfl)
theorem dX2_next_105 : decode cX2_next 105 = .ok (.aload_n 0, 1) := dk_42 (dk_at dksX2_next_4 10 rfl rfl)
theorem dX2_next_106 : decode cX2_next 106 = .ok (.dup, 1) := dk_89 (dk_at dksX2_next_4 11 rfl rfl)
theorem dX2_next_107 : decode cX2_next 107 = .ok (.getfield 72, 3) := dk_180 0 72 (dk_at dksX2_next_4 12 rfl rfl)
theorem dX2_next_110 : decode cX2_next 110 = .ok (.iconst 1, 1) := dk_4 (dk_at dksX2_next_4 15 rfl rfl)
theorem dX2_next_111 : decode cX2_next 111 = .ok (.iadd, 1) := dk_96 (dk_at dksX2_next_4 16 rfl rfl)
theorem dX2_next_112 : decode cX2_next 112 = .ok (.putfield 72, 3) := dk_181 0 72 (dk_at dksX2_next_4 17 rfl rfl)
theorem dX2_next_115 : decode cX2_next 115 = .ok (.goto (-21), 3) := dk_167 255 235 (dk_at dksX2_next_4 20 rfl rfl)
theorem dX2_next_118 : decode cX2_next 118 = .ok (.aload_n 0, 1) := dk_42 (dk_at dksX2_next_4 23 rfl rfl)
theorem dX2_next_119 : decode cX2_next 119 = .ok (.getfield 72, 3) := dk_180 0 72 (dk_at dksX2_next_5 0 rfl rfl)
theorem dX2_next_122 : decode cX2_next 122 = .ok (.aload_n 0, 1) := dk_42 (dk_at dksX2_next_5 3 rfl rfl)
theorem dX2_next_123 : decode cX2_next 123 = .ok (.getfield 75, 3) := dk_180 0 75 (dk_at dksX2_next_5 4 rfl rfl)
theorem dX2_next_126 : decode cX2_next 126 = .ok (.isub, 1) := dk_100 (dk_at dksX2_next_5 7 rfl rfl)
theorem dX2_next_127 : decode cX2_next 127 = .ok (.bipush 6, 2) := dk_16 6 (dk_at dksX2_next_5 8 rfl rfl)
theorem dX2_next_129 : decode cX2_next 129 = .ok (.if_icmp .gt 24, 3) := dk_163 0 24 (dk_at dksX2_next_5 10 rfl rfl)
theorem dX2_next_132 : decode cX2_next 132 = .ok (.aload_n 0, 1) := dk_42 (dk_at dksX2_next_5 13 rfl rfl)
theorem dX2_next_133 : decode cX2_next 133 = .ok (.iconst 2, 1) := dk_5 (dk_at dksX2_next_5 14 rfl rfl)
theorem dX2_next_134 : decode cX2_next 134 = .ok (.putfield 78, 3) := dk_181 0 78 (dk_at dksX2_next_5 15 rfl rfl)
theorem dX2_next_137 : decode cX2_next 137 = .ok (.aload_n 0, 1) := dk_42 (dk_at dksX2_next_5 18 rfl rfl)
theorem dX2_next_138 : decode cX2_next 138 = .ok (.aload_n 0, 1) := dk_42 (dk_at dksX2_next_5 19 rfl rfl)
theorem dX2_next_139 : decode cX2_next 139 = .ok (.aload_n 0, 1) := dk_42 (dk_at dksX2_next_5 20 rfl rfl)
theorem dX2_next_140 : decode cX2_next 140 = .ok (.getfield 75, 3) := dk_180 0 75 (dk_at dksX2_next_5 21 rfl rfl)
theorem dX2_next_143 : decode cX2_next 143 = .ok (.aload_n 0, 1) := dk_42 (dk_at dksX2_next_6 0 rfl rfl)
theorem dX2_next_144 : decode cX2_next 144 = .ok (.getfield 72, 3) := dk_180 0 72 (dk_at dksX2_next_6 1 rfl rfl)
theorem dX2_next_147 : decode cX2_next 147 = .ok (.invokevirtual 85, 3) := dk_182 0 85 (dk_at dksX2_next_6 4 rfl rfl)
theorem dX2_next_150 : decode cX2_next 150 = .ok (.putfield 89, 3) := dk_181 0 89 (dk_at dksX2_next_6 7 rfl rfl)
theorem dX2_next_153 : decode cX2_next 153 = .ok (.return_, 1) := dk_177 (dk_at dksX2_next_6 10 rfl rfl)
theorem dX2_next_154 : decode cX2_next 154 = .ok (.aload_n 0, 1) := dk_42 (dk_at dksX2_next_6 11 rfl rfl)
theorem dX2_next_155 : decode cX2_next 155 = .ok (.aload_n 0, 1) := dk_42 (dk_at dksX2_next_6 12 rfl rfl)
theorem dX2_next_156 : decode cX2_next 156 = .ok (.getfield 72, 3) := dk_180 0 72 (dk_at dksX2_next_6 13 rfl rfl)
theorem dX2_next_159 : decode cX2_next 159 = .ok (.invokevirtual 93, 3) := dk_182 0 93 (dk_at dksX2_next_6 16 rfl rfl)
theorem dX2_next_162 : decode cX2_next 162 = .ok (.ifCond .eq 92, 3) := dk_153 0 92 (dk_at dksX2_next_6 19 rfl rfl)
theorem dX2_next_165 : decode cX2_next 165 = .ok (.aload_n 0, 1) := dk_42 (dk_at dksX2_next_6 22 rfl rfl)
theorem dX2_next_166 : decode cX2_next 166 = .ok (.iconst 0, 1) := dk_3 (dk_at dksX2_next_6 23 rfl rfl)
theorem dX2_next_167 : decode cX2_next 167 = .ok (.putfield 96, 3) := dk_181 0 96 (dk_at dksX2_next_7 0 rfl rfl)
theorem dX2_next_170 : decode cX2_next 170 = .ok (.aload_n 0, 1) := dk_42 (dk_at dksX2_next_7 3 rfl rfl)
theorem dX2_next_171 : decode cX2_next 171 = .ok (.aload_n 0, 1) := dk_42 (dk_at dksX2_next_7 4 rfl rfl)
theorem dX2_next_172 : decode cX2_next 172 = .ok (.getfield 72, 3) := dk_180 0 72 (dk_at dksX2_next_7 5 rfl rfl)
theorem dX2_next_175 : decode cX2_next 175 = .ok (.invokevirtual 93, 3) := dk_182 0 93 (dk_at dksX2_next_7 8 rfl rfl)
theorem dX2_next_178 : decode cX2_next 178 = .ok (.ifCond .eq 53, 3) := dk_153 0 53 (dk_at dksX2_next_7 11 rfl rfl)
theorem dX2_next_181 : decode cX2_next 181 = .ok (.aload_n 0, 1) := dk_42 (dk_at dksX2_next_7 14 rfl rfl)
theorem dX2_next_182 : decode cX2_next 182 = .ok (.getfield 72, 3) := dk_180 0 72 (dk_at dksX2_next_7 15 rfl rfl)
theorem dX2_next_185 : decode cX2_next 185 = .ok (.aload_n 0, 1) := dk_42 (dk_at dksX2_next_7 18 rfl rfl)
theorem dX2_next_186 : decode cX2_next 186 = .ok (.getfield 75, 3) := dk_180 0 75 (dk_at dksX2_next_7 19 rfl rfl)
theorem dX2_next_189 : decode cX2_next 189 = .ok (.isub, 1) := dk_100 (dk_at dksX2_next_7 22 rfl rfl)
theorem dX2_next_190 : decode cX2_next 190 = .ok (.iconst 4, 1) := dk_7 (dk_at dksX2_next_7 23 rfl rfl)
theorem dX2_next_191 : decode cX2_next 191 = .ok (.if_icmp .ge 27, 3) := dk_162 0 27 (dk_at dksX2_next_8 0 rfl rfl)
theorem dX2_next_194 : decode cX2_next 194 = .ok (.aload_n 0, 1) := dk_42 (dk_at dksX2_next_8 3 rfl rfl)
theorem dX2_next_195 : decode cX2_next 195 = .ok (.bipush 10, 2) := dk_16 10 (dk_at dksX2_next_8 4 rfl rfl)
theorem dX2_next_197 : decode cX2_next 197 = .ok (.aload_n 0, 1) := dk_42 (dk_at dksX2_next_8 6 rfl rfl)
theorem dX2_next_198 : decode cX2_next 198 = .ok (.getfield 96, 3) := dk_180 0 96 (dk_at dksX2_next_8 7 rfl rfl)
theorem dX2_next_201 : decode cX2_next 201 = .ok (.imul, 1) := dk_104 (dk_at dksX2_next_8 10 rfl rfl)
theorem dX2_next_202 : decode cX2_next 202 = .ok (.aload_n 0, 1) := dk_42 (dk_at dksX2_next_8 11 rfl rfl)
theorem dX2_next_203 : decode cX2_next 203 = .ok (.getfield 33, 3) := dk_180 0 33 (dk_at dksX2_next_8 12 rfl rfl)
theorem dX2_next_206 : decode cX2_next 206 = .ok (.aload_n 0, 1) := dk_42 (dk_at dksX2_next_8 15 rfl rfl)
theorem dX2_next_207 : decode cX2_next 207 = .ok (.getfield 72, 3) := dk_180 0 72 (dk_at dksX2_next_8 16 rfl rfl)
theorem dX2_next_210 : decode cX2_next 210 = .ok (.baload, 1) := dk_51 (dk_at dksX2_next_8 19 rfl rfl)
theorem dX2_next_211 : decode cX2_next 211 = .ok (.iadd, 1) := dk_96 (dk_at dksX2_next_8 20 rfl rfl)
theorem dX2_next_212 : decode cX2_next 212 = .ok (.bipush 48, 2) := dk_16 48 (dk_at dksX2_next_8 21 rfl rfl)
theorem dX2_next_214 : decode cX2_next 214 = .ok (.isub, 1) := dk_100 (dk_at dksX2_next_8 23 rfl rfl)
theorem dX2_next_215 : decode cX2_next 215 = .ok (.putfield 96, 3) := dk_181 0 96 (dk_at dksX2_next_9 0 rfl rfl)
theorem dX2_next_218 : decode cX2_next 218 = .ok (.aload_n 0, 1) := dk_42 (dk_at dksX2_next_9 3 rfl rfl)
theorem dX2_next_219 : decode cX2_next 219 = .ok (.dup, 1) := dk_89 (dk_at dksX2_next_9 4 rfl rfl)
theorem dX2_next_220 : decode cX2_next 220 = .ok (.getfield 72, 3) := dk_180 0 72 (dk_at dksX2_next_9 5 rfl rfl)
theorem dX2_next_223 : decode cX2_next 223 = .ok (.iconst 1, 1) := dk_4 (dk_at dksX2_next_9 8 rfl rfl)
theorem dX2_next_224 : decode cX2_next 224 = .ok (.iadd, 1) := dk_96 (dk_at dksX2_next_9 9 rfl rfl)
theorem dX2_next_225 : decode cX2_next 225 = .ok (.putfield 72, 3) := dk_181 0 72 (dk_at dksX2_next_9 10 rfl rfl)
theorem dX2_next_228 : decode cX2_next 228 = .ok (.goto (-58), 3) := dk_167 255 198 (dk_at dksX2_next_9 13 rfl rfl)
theorem dX2_next_231 : decode cX2_next 231 = .ok (.aload_n 0, 1) := dk_42 (dk_at dksX2_next_9 16 rfl rfl)
theorem dX2_next_232 : decode cX2_next 232 = .ok (.aload_n 0, 1) := dk_42 (dk_at dksX2_next_9 17 rfl rfl)
theorem dX2_next_233 : decode cX2_next 233 = .ok (.getfield 72, 3) := dk_180 0 72 (dk_at dksX2_next_9 18 rfl rfl)
theorem dX2_next_236 : decode cX2_next 236 = .ok (.aload_n 0, 1) := dk_42 (dk_at dksX2_next_9 21 rfl rfl)
theorem dX2_next_237 : decode cX2_next 237 = .ok (.getfield 75, 3) := dk_180 0 75 (dk_at dksX2_next_10 0 rfl rfl)
theorem dX2_next_240 : decode cX2_next 240 = .ok (.isub, 1) := dk_100 (dk_at dksX2_next_10 3 rfl rfl)
theorem dX2_next_241 : decode cX2_next 241 = .ok (.iconst 4, 1) := dk_7 (dk_at dksX2_next_10 4 rfl rfl)
theorem dX2_next_242 : decode cX2_next 242 = .ok (.if_icmp .gt 7, 3) := dk_163 0 7 (dk_at dksX2_next_10 5 rfl rfl)
theorem dX2_next_245 : decode cX2_next 245 = .ok (.iconst 3, 1) := dk_6 (dk_at dksX2_next_10 8 rfl rfl)
theorem dX2_next_246 : decode cX2_next 246 = .ok (.goto 4, 3) := dk_167 0 4 (dk_at dksX2_next_10 9 rfl rfl)
theorem dX2_next_249 : decode cX2_next 249 = .ok (.iconst 0, 1) := dk_3 (dk_at dksX2_next_10 12 rfl rfl)
theorem dX2_next_250 : decode cX2_next 250 = .ok (.putfield 78, 3) := dk_181 0 78 (dk_at dksX2_next_10 13 rfl rfl)
theorem dX2_next_253 : decode cX2_next 253 = .ok (.return_, 1) := dk_177 (dk_at dksX2_next_10 16 rfl rfl)
theorem dX2_next_254 : decode cX2_next 254 = .ok (.aload_n 0, 1) := dk_42 (dk_at dksX2_next_10 17 rfl rfl)
theorem dX2_next_255 : decode cX2_next 255 = .ok (.getfield 33, 3) := dk_180 0 33 (dk_at dksX2_next_10 18 rfl rfl)
theorem dX2_next_258 : decode cX2_next 258 = .ok (.aload_n 0, 1) := dk_42 (dk_at dksX2_next_10 21 rfl rfl)
theorem dX2_next_259 : decode cX2_next 259 = .ok (.getfield 72, 3) := dk_180 0 72 (dk_at dksX2_next_11 0 rfl rfl)
theorem dX2_next_262 : decode cX2_next 262 = .ok (.baload, 1) := dk_51 (dk_at dksX2_next_11 3 rfl rfl)
theorem dX2_next_263 : decode cX2_next 263 = .ok (.bipush 59, 2) := dk_16 59 (dk_at dksX2_next_11 4 rfl rfl)
theorem dX2_next_265 : decode cX2_next 265 = .ok (.if_icmp .ne 8, 3) := dk_160 0 8 (dk_at dksX2_next_11 6 rfl rfl)
theorem dX2_next_268 : decode cX2_next 268 = .ok (.aload_n 0, 1) := dk_42 (dk_at dksX2_next_11 9 rfl rfl)
theorem dX2_next_269 : decode cX2_next 269 = .ok (.iconst 4, 1) := dk_7 (dk_at dksX2_next_11 10 rfl rfl)
theorem dX2_next_270 : decode cX2_next 270 = .ok (.putfield 78, 3) := dk_181 0 78 (dk_at dksX2_next_11 11 rfl rfl)
theorem dX2_next_273 : decode cX2_next 273 = .ok (.aload_n 0, 1) := dk_42 (dk_at dksX2_next_11 14 rfl rfl)
theorem dX2_next_274 : decode cX2_next 274 = .ok (.dup, 1) := dk_89 (dk_at dksX2_next_11 15 rfl rfl)
theorem dX2_next_275 : decode cX2_next 275 = .ok (.getfield 72, 3) := dk_180 0 72 (dk_at dksX2_next_11 16 rfl rfl)
theorem dX2_next_278 : decode cX2_next 278 = .ok (.iconst 1, 1) := dk_4 (dk_at dksX2_next_11 19 rfl rfl)
theorem dX2_next_279 : decode cX2_next 279 = .ok (.iadd, 1) := dk_96 (dk_at dksX2_next_11 20 rfl rfl)
theorem dX2_next_280 : decode cX2_next 280 = .ok (.putfield 72, 3) := dk_181 0 72 (dk_at dksX2_next_11 21 rfl rfl)
theorem dX2_next_283 : decode cX2_next 283 = .ok (.return_, 1) := dk_177 (dk_at dksX2_next_12 0 rfl rfl)
abbrev cX2_isLetter : ByteArray := prog_20_method_12_code
def yX2_isLetter : MethodName := ⟨RX2, "isLetter", "(I)Z"⟩
def dkwX2_isLetter_1 : List UInt8 := [4, 167, 0, 4, 3, 172]
abbrev dktX2_isLetter_1 : List UInt8 := dkwX2_isLetter_1 ++ []
def dkwX2_isLetter_0 : List UInt8 := [27, 42, 180, 0, 61, 162, 0, 23, 42, 180, 0, 33, 27, 51, 16, 97, 16, 122, 184, 0, 64, 153, 0, 7]
abbrev dktX2_isLetter_0 : List UInt8 := dkwX2_isLetter_0 ++ dktX2_isLetter_1
theorem dksX2_isLetter_0 : cX2_isLetter.data.toList.drop 0 = dktX2_isLetter_0 := by decide +kernel
theorem dksX2_isLetter_1 : cX2_isLetter.data.toList.drop 24 = dktX2_isLetter_1 := dk_seg dksX2_isLetter_0 24 rfl rfl
theorem dX2_isLetter_0 : decode cX2_isLetter 0 = .ok (.iload_n 1, 1) := dk_27 (dk_at dksX2_isLetter_0 0 rfl rfl)
theorem dX2_isLetter_1 : decode cX2_isLetter 1 = .ok (.aload_n 0, 1) := dk_42 (dk_at dksX2_isLetter_0 1 rfl rfl)
theorem dX2_isLetter_2 : decode cX2_isLetter 2 = .ok (.getfield 61, 3) := dk_180 0 61 (dk_at dksX2_isLetter_0 2 rfl rfl)
theorem dX2_isLetter_5 : decode cX2_isLetter 5 = .ok (.if_icmp .ge 23, 3) := dk_162 0 23 (dk_at dksX2_isLetter_0 5 rfl rfl)
theorem dX2_isLetter_8 : decode cX2_isLetter 8 = .ok (.aload_n 0, 1) := dk_42 (dk_at dksX2_isLetter_0 8 rfl rfl)
theorem dX2_isLetter_9 : decode cX2_isLetter 9 = .ok (.getfield 33, 3) := dk_180 0 33 (dk_at dksX2_isLetter_0 9 rfl rfl)
theorem dX2_isLetter_12 : decode cX2_isLetter 12 = .ok (.iload_n 1, 1) := dk_27 (dk_at dksX2_isLetter_0 12 rfl rfl)
theorem dX2_isLetter_13 : decode cX2_isLetter 13 = .ok (.baload, 1) := dk_51 (dk_at dksX2_isLetter_0 13 rfl rfl)
theorem dX2_isLetter_14 : decode cX2_isLetter 14 = .ok (.bipush 97, 2) := dk_16 97 (dk_at dksX2_isLetter_0 14 rfl rfl)
theorem dX2_isLetter_16 : decode cX2_isLetter 16 = .ok (.bipush 122, 2) := dk_16 122 (dk_at dksX2_isLetter_0 16 rfl rfl)
theorem dX2_isLetter_18 : decode cX2_isLetter 18 = .ok (.invokestatic 64, 3) := dk_184 0 64 (dk_at dksX2_isLetter_0 18 rfl rfl)
theorem dX2_isLetter_21 : decode cX2_isLetter 21 = .ok (.ifCond .eq 7, 3) := dk_153 0 7 (dk_at dksX2_isLetter_0 21 rfl rfl)
theorem dX2_isLetter_24 : decode cX2_isLetter 24 = .ok (.iconst 1, 1) := dk_4 (dk_at dksX2_isLetter_1 0 rfl rfl)
theorem dX2_isLetter_25 : decode cX2_isLetter 25 = .ok (.goto 4, 3) := dk_167 0 4 (dk_at dksX2_isLetter_1 1 rfl rfl)
theorem dX2_isLetter_28 : decode cX2_isLetter 28 = .ok (.iconst 0, 1) := dk_3 (dk_at dksX2_isLetter_1 4 rfl rfl)
theorem dX2_isLetter_29 : decode cX2_isLetter 29 = .ok (.ireturn, 1) := dk_172 (dk_at dksX2_isLetter_1 5 rfl rfl)
abbrev cX2_wordOf : ByteArray := prog_20_method_14_code
def yX2_wordOf : MethodName := ⟨RX2, "wordOf", "(II)J"⟩
def dkwX2_wordOf_1 : List UInt8 := [97, 20, 0, 70, 101, 10, 97, 66, 132, 5, 1, 167, 255, 226, 33, 173]
abbrev dktX2_wordOf_1 : List UInt8 := dkwX2_wordOf_1 ++ []
def dkwX2_wordOf_0 : List UInt8 := [9, 66, 27, 54, 5, 21, 5, 28, 162, 0, 30, 20, 0, 68, 33, 105, 42, 180, 0, 33, 21, 5, 51, 133]
abbrev dktX2_wordOf_0 : List UInt8 := dkwX2_wordOf_0 ++ dktX2_wordOf_1
theorem dksX2_wordOf_0 : cX2_wordOf.data.toList.drop 0 = dktX2_wordOf_0 := by decide +kernel
theorem dksX2_wordOf_1 : cX2_wordOf.data.toList.drop 24 = dktX2_wordOf_1 := dk_seg dksX2_wordOf_0 24 rfl rfl
theorem dX2_wordOf_0 : decode cX2_wordOf 0 = .ok (.lconst 0, 1) := dk_9 (dk_at dksX2_wordOf_0 0 rfl rfl)
theorem dX2_wordOf_1 : decode cX2_wordOf 1 = .ok (.lstore_n 3, 1) := dk_66 (dk_at dksX2_wordOf_0 1 rfl rfl)
theorem dX2_wordOf_2 : decode cX2_wordOf 2 = .ok (.iload_n 1, 1) := dk_27 (dk_at dksX2_wordOf_0 2 rfl rfl)
theorem dX2_wordOf_3 : decode cX2_wordOf 3 = .ok (.istore 5, 2) := dk_54 5 (dk_at dksX2_wordOf_0 3 rfl rfl)
theorem dX2_wordOf_5 : decode cX2_wordOf 5 = .ok (.iload 5, 2) := dk_21 5 (dk_at dksX2_wordOf_0 5 rfl rfl)
theorem dX2_wordOf_7 : decode cX2_wordOf 7 = .ok (.iload_n 2, 1) := dk_28 (dk_at dksX2_wordOf_0 7 rfl rfl)
theorem dX2_wordOf_8 : decode cX2_wordOf 8 = .ok (.if_icmp .ge 30, 3) := dk_162 0 30 (dk_at dksX2_wordOf_0 8 rfl rfl)
theorem dX2_wordOf_11 : decode cX2_wordOf 11 = .ok (.ldc2_w 68, 3) := dk_20 0 68 (dk_at dksX2_wordOf_0 11 rfl rfl)
theorem dX2_wordOf_14 : decode cX2_wordOf 14 = .ok (.lload_n 3, 1) := dk_33 (dk_at dksX2_wordOf_0 14 rfl rfl)
theorem dX2_wordOf_15 : decode cX2_wordOf 15 = .ok (.lmul, 1) := dk_105 (dk_at dksX2_wordOf_0 15 rfl rfl)
theorem dX2_wordOf_16 : decode cX2_wordOf 16 = .ok (.aload_n 0, 1) := dk_42 (dk_at dksX2_wordOf_0 16 rfl rfl)
theorem dX2_wordOf_17 : decode cX2_wordOf 17 = .ok (.getfield 33, 3) := dk_180 0 33 (dk_at dksX2_wordOf_0 17 rfl rfl)
theorem dX2_wordOf_20 : decode cX2_wordOf 20 = .ok (.iload 5, 2) := dk_21 5 (dk_at dksX2_wordOf_0 20 rfl rfl)
theorem dX2_wordOf_22 : decode cX2_wordOf 22 = .ok (.baload, 1) := dk_51 (dk_at dksX2_wordOf_0 22 rfl rfl)
theorem dX2_wordOf_23 : decode cX2_wordOf 23 = .ok (.i2l, 1) := dk_133 (dk_at dksX2_wordOf_0 23 rfl rfl)
theorem dX2_wordOf_24 : decode cX2_wordOf 24 = .ok (.ladd, 1) := dk_97 (dk_at dksX2_wordOf_1 0 rfl rfl)
theorem dX2_wordOf_25 : decode cX2_wordOf 25 = .ok (.ldc2_w 70, 3) := dk_20 0 70 (dk_at dksX2_wordOf_1 1 rfl rfl)
theorem dX2_wordOf_28 : decode cX2_wordOf 28 = .ok (.lsub, 1) := dk_101 (dk_at dksX2_wordOf_1 4 rfl rfl)
theorem dX2_wordOf_29 : decode cX2_wordOf 29 = .ok (.lconst 1, 1) := dk_10 (dk_at dksX2_wordOf_1 5 rfl rfl)
theorem dX2_wordOf_30 : decode cX2_wordOf 30 = .ok (.ladd, 1) := dk_97 (dk_at dksX2_wordOf_1 6 rfl rfl)
theorem dX2_wordOf_31 : decode cX2_wordOf 31 = .ok (.lstore_n 3, 1) := dk_66 (dk_at dksX2_wordOf_1 7 rfl rfl)
theorem dX2_wordOf_32 : decode cX2_wordOf 32 = .ok (.iinc 5 1, 3) := dk_132 5 1 (dk_at dksX2_wordOf_1 8 rfl rfl)
theorem dX2_wordOf_35 : decode cX2_wordOf 35 = .ok (.goto (-30), 3) := dk_167 255 226 (dk_at dksX2_wordOf_1 11 rfl rfl)
theorem dX2_wordOf_38 : decode cX2_wordOf 38 = .ok (.lload_n 3, 1) := dk_33 (dk_at dksX2_wordOf_1 14 rfl rfl)
theorem dX2_wordOf_39 : decode cX2_wordOf 39 = .ok (.lreturn, 1) := dk_173 (dk_at dksX2_wordOf_1 15 rfl rfl)
abbrev cX2_isDigit : ByteArray := prog_20_method_13_code
def yX2_isDigit : MethodName := ⟨RX2, "isDigit", "(I)Z"⟩
def dkwX2_isDigit_1 : List UInt8 := [4, 167, 0, 4, 3, 172]
abbrev dktX2_isDigit_1 : List UInt8 := dkwX2_isDigit_1 ++ []
def dkwX2_isDigit_0 : List UInt8 := [27, 42, 180, 0, 61, 162, 0, 23, 42, 180, 0, 33, 27, 51, 16, 48, 16, 57, 184, 0, 64, 153, 0, 7]
abbrev dktX2_isDigit_0 : List UInt8 := dkwX2_isDigit_0 ++ dktX2_isDigit_1
theorem dksX2_isDigit_0 : cX2_isDigit.data.toList.drop 0 = dktX2_isDigit_0 := by decide +kernel
theorem dksX2_isDigit_1 : cX2_isDigit.data.toList.drop 24 = dktX2_isDigit_1 := dk_seg dksX2_isDigit_0 24 rfl rfl
theorem dX2_isDigit_0 : decode cX2_isDigit 0 = .ok (.iload_n 1, 1) := dk_27 (dk_at dksX2_isDigit_0 0 rfl rfl)
theorem dX2_isDigit_1 : decode cX2_isDigit 1 = .ok (.aload_n 0, 1) := dk_42 (dk_at dksX2_isDigit_0 1 rfl rfl)
theorem dX2_isDigit_2 : decode cX2_isDigit 2 = .ok (.getfield 61, 3) := dk_180 0 61 (dk_at dksX2_isDigit_0 2 rfl rfl)
theorem dX2_isDigit_5 : decode cX2_isDigit 5 = .ok (.if_icmp .ge 23, 3) := dk_162 0 23 (dk_at dksX2_isDigit_0 5 rfl rfl)
theorem dX2_isDigit_8 : decode cX2_isDigit 8 = .ok (.aload_n 0, 1) := dk_42 (dk_at dksX2_isDigit_0 8 rfl rfl)
theorem dX2_isDigit_9 : decode cX2_isDigit 9 = .ok (.getfield 33, 3) := dk_180 0 33 (dk_at dksX2_isDigit_0 9 rfl rfl)
theorem dX2_isDigit_12 : decode cX2_isDigit 12 = .ok (.iload_n 1, 1) := dk_27 (dk_at dksX2_isDigit_0 12 rfl rfl)
theorem dX2_isDigit_13 : decode cX2_isDigit 13 = .ok (.baload, 1) := dk_51 (dk_at dksX2_isDigit_0 13 rfl rfl)
theorem dX2_isDigit_14 : decode cX2_isDigit 14 = .ok (.bipush 48, 2) := dk_16 48 (dk_at dksX2_isDigit_0 14 rfl rfl)
theorem dX2_isDigit_16 : decode cX2_isDigit 16 = .ok (.bipush 57, 2) := dk_16 57 (dk_at dksX2_isDigit_0 16 rfl rfl)
theorem dX2_isDigit_18 : decode cX2_isDigit 18 = .ok (.invokestatic 64, 3) := dk_184 0 64 (dk_at dksX2_isDigit_0 18 rfl rfl)
theorem dX2_isDigit_21 : decode cX2_isDigit 21 = .ok (.ifCond .eq 7, 3) := dk_153 0 7 (dk_at dksX2_isDigit_0 21 rfl rfl)
theorem dX2_isDigit_24 : decode cX2_isDigit 24 = .ok (.iconst 1, 1) := dk_4 (dk_at dksX2_isDigit_1 0 rfl rfl)
theorem dX2_isDigit_25 : decode cX2_isDigit 25 = .ok (.goto 4, 3) := dk_167 0 4 (dk_at dksX2_isDigit_1 1 rfl rfl)
theorem dX2_isDigit_28 : decode cX2_isDigit 28 = .ok (.iconst 0, 1) := dk_3 (dk_at dksX2_isDigit_1 4 rfl rfl)
theorem dX2_isDigit_29 : decode cX2_isDigit 29 = .ok (.ireturn, 1) := dk_172 (dk_at dksX2_isDigit_1 5 rfl rfl)
abbrev cX2_takes : ByteArray := prog_20_method_19_code
def yX2_takes : MethodName := ⟨RX2, "takes", "(Ljava/lang/String;)V"⟩
def dkwX2_takes_0 : List UInt8 := [42, 43, 182, 0, 112, 154, 0, 8, 42, 4, 182, 0, 116, 42, 182, 0, 119, 177]
abbrev dktX2_takes_0 : List UInt8 := dkwX2_takes_0 ++ []
theorem dksX2_takes_0 : cX2_takes.data.toList.drop 0 = dktX2_takes_0 := by decide +kernel
theorem dX2_takes_0 : decode cX2_takes 0 = .ok (.aload_n 0, 1) := dk_42 (dk_at dksX2_takes_0 0 rfl rfl)
theorem dX2_takes_1 : decode cX2_takes 1 = .ok (.aload_n 1, 1) := dk_43 (dk_at dksX2_takes_0 1 rfl rfl)
theorem dX2_takes_2 : decode cX2_takes 2 = .ok (.invokevirtual 112, 3) := dk_182 0 112 (dk_at dksX2_takes_0 2 rfl rfl)
theorem dX2_takes_5 : decode cX2_takes 5 = .ok (.ifCond .ne 8, 3) := dk_154 0 8 (dk_at dksX2_takes_0 5 rfl rfl)
theorem dX2_takes_8 : decode cX2_takes 8 = .ok (.aload_n 0, 1) := dk_42 (dk_at dksX2_takes_0 8 rfl rfl)
theorem dX2_takes_9 : decode cX2_takes 9 = .ok (.iconst 1, 1) := dk_4 (dk_at dksX2_takes_0 9 rfl rfl)
theorem dX2_takes_10 : decode cX2_takes 10 = .ok (.invokevirtual 116, 3) := dk_182 0 116 (dk_at dksX2_takes_0 10 rfl rfl)
theorem dX2_takes_13 : decode cX2_takes 13 = .ok (.aload_n 0, 1) := dk_42 (dk_at dksX2_takes_0 13 rfl rfl)
theorem dX2_takes_14 : decode cX2_takes 14 = .ok (.invokevirtual 119, 3) := dk_182 0 119 (dk_at dksX2_takes_0 14 rfl rfl)
theorem dX2_takes_17 : decode cX2_takes 17 = .ok (.return_, 1) := dk_177 (dk_at dksX2_takes_0 17 rfl rfl)
abbrev cX2_isWord : ByteArray := prog_20_method_18_code
def yX2_isWord : MethodName := ⟨RX2, "isWord", "(Ljava/lang/String;)Z"⟩
def dkwX2_isWord_2 : List UInt8 := [28, 182, 0, 108, 159, 0, 5, 3, 172, 132, 2, 1, 167, 255, 224, 4, 172]
abbrev dktX2_isWord_2 : List UInt8 := dkwX2_isWord_2 ++ []
def dkwX2_isWord_1 : List UInt8 := [3, 172, 3, 61, 28, 43, 182, 0, 102, 162, 0, 30, 42, 180, 0, 33, 42, 180, 0, 75, 28, 96, 51, 43]
abbrev dktX2_isWord_1 : List UInt8 := dkwX2_isWord_1 ++ dktX2_isWord_2
def dkwX2_isWord_0 : List UInt8 := [42, 5, 182, 0, 99, 153, 0, 19, 42, 180, 0, 72, 42, 180, 0, 75, 100, 43, 182, 0, 102, 159, 0, 5]
abbrev dktX2_isWord_0 : List UInt8 := dkwX2_isWord_0 ++ dktX2_isWord_1
theorem dksX2_isWord_0 : cX2_isWord.data.toList.drop 0 = dktX2_isWord_0 := by decide +kernel
theorem dksX2_isWord_1 : cX2_isWord.data.toList.drop 24 = dktX2_isWord_1 := dk_seg dksX2_isWord_0 24 rfl rfl
theorem dksX2_isWord_2 : cX2_isWord.data.toList.drop 48 = dktX2_isWord_2 := dk_seg dksX2_isWord_1 24 rfl rfl
theorem dX2_isWord_0 : decode cX2_isWord 0 = .ok (.aload_n 0, 1) := dk_42 (dk_at dksX2_isWord_0 0 rfl rfl)
theorem dX2_isWord_1 : decode cX2_isWord 1 = .ok (.iconst 2, 1) := dk_5 (dk_at dksX2_isWord_0 1 rfl rfl)
theorem dX2_isWord_2 : decode cX2_isWord 2 = .ok (.invokevirtual 99, 3) := dk_182 0 99 (dk_at dksX2_isWord_0 2 rfl rfl)
theorem dX2_isWord_5 : decode cX2_isWord 5 = .ok (.ifCond .eq 19, 3) := dk_153 0 19 (dk_at dksX2_isWord_0 5 rfl rfl)
theorem dX2_isWord_8 : decode cX2_isWord 8 = .ok (.aload_n 0, 1) := dk_42 (dk_at dksX2_isWord_0 8 rfl rfl)
theorem dX2_isWord_9 : decode cX2_isWord 9 = .ok (.getfield 72, 3) := dk_180 0 72 (dk_at dksX2_isWord_0 9 rfl rfl)
theorem dX2_isWord_12 : decode cX2_isWord 12 = .ok (.aload_n 0, 1) := dk_42 (dk_at dksX2_isWord_0 12 rfl rfl)
theorem dX2_isWord_13 : decode cX2_isWord 13 = .ok (.getfield 75, 3) := dk_180 0 75 (dk_at dksX2_isWord_0 13 rfl rfl)
theorem dX2_isWord_16 : decode cX2_isWord 16 = .ok (.isub, 1) := dk_100 (dk_at dksX2_isWord_0 16 rfl rfl)
theorem dX2_isWord_17 : decode cX2_isWord 17 = .ok (.aload_n 1, 1) := dk_43 (dk_at dksX2_isWord_0 17 rfl rfl)
theorem dX2_isWord_18 : decode cX2_isWord 18 = .ok (.invokevirtual 102, 3) := dk_182 0 102 (dk_at dksX2_isWord_0 18 rfl rfl)
theorem dX2_isWord_21 : decode cX2_isWord 21 = .ok (.if_icmp .eq 5, 3) := dk_159 0 5 (dk_at dksX2_isWord_0 21 rfl rfl)
theorem dX2_isWord_24 : decode cX2_isWord 24 = .ok (.iconst 0, 1) := dk_3 (dk_at dksX2_isWord_1 0 rfl rfl)
theorem dX2_isWord_25 : decode cX2_isWord 25 = .ok (.ireturn, 1) := dk_172 (dk_at dksX2_isWord_1 1 rfl rfl)
theorem dX2_isWord_26 : decode cX2_isWord 26 = .ok (.iconst 0, 1) := dk_3 (dk_at dksX2_isWord_1 2 rfl rfl)
theorem dX2_isWord_27 : decode cX2_isWord 27 = .ok (.istore_n 2, 1) := dk_61 (dk_at dksX2_isWord_1 3 rfl rfl)
theorem dX2_isWord_28 : decode cX2_isWord 28 = .ok (.iload_n 2, 1) := dk_28 (dk_at dksX2_isWord_1 4 rfl rfl)
theorem dX2_isWord_29 : decode cX2_isWord 29 = .ok (.aload_n 1, 1) := dk_43 (dk_at dksX2_isWord_1 5 rfl rfl)
theorem dX2_isWord_30 : decode cX2_isWord 30 = .ok (.invokevirtual 102, 3) := dk_182 0 102 (dk_at dksX2_isWord_1 6 rfl rfl)
theorem dX2_isWord_33 : decode cX2_isWord 33 = .ok (.if_icmp .ge 30, 3) := dk_162 0 30 (dk_at dksX2_isWord_1 9 rfl rfl)
theorem dX2_isWord_36 : decode cX2_isWord 36 = .ok (.aload_n 0, 1) := dk_42 (dk_at dksX2_isWord_1 12 rfl rfl)
theorem dX2_isWord_37 : decode cX2_isWord 37 = .ok (.getfield 33, 3) := dk_180 0 33 (dk_at dksX2_isWord_1 13 rfl rfl)
theorem dX2_isWord_40 : decode cX2_isWord 40 = .ok (.aload_n 0, 1) := dk_42 (dk_at dksX2_isWord_1 16 rfl rfl)
theorem dX2_isWord_41 : decode cX2_isWord 41 = .ok (.getfield 75, 3) := dk_180 0 75 (dk_at dksX2_isWord_1 17 rfl rfl)
theorem dX2_isWord_44 : decode cX2_isWord 44 = .ok (.iload_n 2, 1) := dk_28 (dk_at dksX2_isWord_1 20 rfl rfl)
theorem dX2_isWord_45 : decode cX2_isWord 45 = .ok (.iadd, 1) := dk_96 (dk_at dksX2_isWord_1 21 rfl rfl)
theorem dX2_isWord_46 : decode cX2_isWord 46 = .ok (.baload, 1) := dk_51 (dk_at dksX2_isWord_1 22 rfl rfl)
theorem dX2_isWord_47 : decode cX2_isWord 47 = .ok (.aload_n 1, 1) := dk_43 (dk_at dksX2_isWord_1 23 rfl rfl)
theorem dX2_isWord_48 : decode cX2_isWord 48 = .ok (.iload_n 2, 1) := dk_28 (dk_at dksX2_isWord_2 0 rfl rfl)
theorem dX2_isWord_49 : decode cX2_isWord 49 = .ok (.invokevirtual 108, 3) := dk_182 0 108 (dk_at dksX2_isWord_2 1 rfl rfl)
theorem dX2_isWord_52 : decode cX2_isWord 52 = .ok (.if_icmp .eq 5, 3) := dk_159 0 5 (dk_at dksX2_isWord_2 4 rfl rfl)
theorem dX2_isWord_55 : decode cX2_isWord 55 = .ok (.iconst 0, 1) := dk_3 (dk_at dksX2_isWord_2 7 rfl rfl)
theorem dX2_isWord_56 : decode cX2_isWord 56 = .ok (.ireturn, 1) := dk_172 (dk_at dksX2_isWord_2 8 rfl rfl)
theorem dX2_isWord_57 : decode cX2_isWord 57 = .ok (.iinc 2 1, 3) := dk_132 2 1 (dk_at dksX2_isWord_2 9 rfl rfl)
theorem dX2_isWord_60 : decode cX2_isWord 60 = .ok (.goto (-32), 3) := dk_167 255 224 (dk_at dksX2_isWord_2 12 rfl rfl)
theorem dX2_isWord_63 : decode cX2_isWord 63 = .ok (.iconst 1, 1) := dk_4 (dk_at dksX2_isWord_2 15 rfl rfl)
theorem dX2_isWord_64 : decode cX2_isWord 64 = .ok (.ireturn, 1) := dk_172 (dk_at dksX2_isWord_2 16 rfl rfl)
abbrev cX2_is : ByteArray := prog_20_method_17_code
def yX2_is : MethodName := ⟨RX2, "is", "(I)Z"⟩
def dkwX2_is_0 : List UInt8 := [42, 180, 0, 58, 154, 0, 15, 42, 180, 0, 78, 27, 160, 0, 7, 4, 167, 0, 4, 3, 172]
abbrev dktX2_is_0 : List UInt8 := dkwX2_is_0 ++ []
theorem dksX2_is_0 : cX2_is.data.toList.drop 0 = dktX2_is_0 := by decide +kernel
theorem dX2_is_0 : decode cX2_is 0 = .ok (.aload_n 0, 1) := dk_42 (dk_at dksX2_is_0 0 rfl rfl)
theorem dX2_is_1 : decode cX2_is 1 = .ok (.getfield 58, 3) := dk_180 0 58 (dk_at dksX2_is_0 1 rfl rfl)
theorem dX2_is_4 : decode cX2_is 4 = .ok (.ifCond .ne 15, 3) := dk_154 0 15 (dk_at dksX2_is_0 4 rfl rfl)
theorem dX2_is_7 : decode cX2_is 7 = .ok (.aload_n 0, 1) := dk_42 (dk_at dksX2_is_0 7 rfl rfl)
theorem dX2_is_8 : decode cX2_is 8 = .ok (.getfield 78, 3) := dk_180 0 78 (dk_at dksX2_is_0 8 rfl rfl)
theorem dX2_is_11 : decode cX2_is 11 = .ok (.iload_n 1, 1) := dk_27 (dk_at dksX2_is_0 11 rfl rfl)
theorem dX2_is_12 : decode cX2_is 12 = .ok (.if_icmp .ne 7, 3) := dk_160 0 7 (dk_at dksX2_is_0 12 rfl rfl)
theorem dX2_is_15 : decode cX2_is 15 = .ok (.iconst 1, 1) := dk_4 (dk_at dksX2_is_0 15 rfl rfl)
theorem dX2_is_16 : decode cX2_is 16 = .ok (.goto 4, 3) := dk_167 0 4 (dk_at dksX2_is_0 16 rfl rfl)
theorem dX2_is_19 : decode cX2_is 19 = .ok (.iconst 0, 1) := dk_3 (dk_at dksX2_is_0 19 rfl rfl)
theorem dX2_is_20 : decode cX2_is 20 = .ok (.ireturn, 1) := dk_172 (dk_at dksX2_is_0 20 rfl rfl)
abbrev cX2_faults : ByteArray := prog_20_method_16_code
def yX2_faults : MethodName := ⟨RX2, "faults", "(I)V"⟩
def dkwX2_faults_0 : List UInt8 := [42, 180, 0, 58, 158, 0, 4, 177, 42, 27, 181, 0, 58, 42, 42, 180, 0, 75, 181, 0, 37, 177]
abbrev dktX2_faults_0 : List UInt8 := dkwX2_faults_0 ++ []
theorem dksX2_faults_0 : cX2_faults.data.toList.drop 0 = dktX2_faults_0 := by decide +kernel
theorem dX2_faults_0 : decode cX2_faults 0 = .ok (.aload_n 0, 1) := dk_42 (dk_at dksX2_faults_0 0 rfl rfl)
theorem dX2_faults_1 : decode cX2_faults 1 = .ok (.getfield 58, 3) := dk_180 0 58 (dk_at dksX2_faults_0 1 rfl rfl)
theorem dX2_faults_4 : decode cX2_faults 4 = .ok (.ifCond .le 4, 3) := dk_158 0 4 (dk_at dksX2_faults_0 4 rfl rfl)
theorem dX2_faults_7 : decode cX2_faults 7 = .ok (.return_, 1) := dk_177 (dk_at dksX2_faults_0 7 rfl rfl)
theorem dX2_faults_8 : decode cX2_faults 8 = .ok (.aload_n 0, 1) := dk_42 (dk_at dksX2_faults_0 8 rfl rfl)
theorem dX2_faults_9 : decode cX2_faults 9 = .ok (.iload_n 1, 1) := dk_27 (dk_at dksX2_faults_0 9 rfl rfl)
theorem dX2_faults_10 : decode cX2_faults 10 = .ok (.putfield 58, 3) := dk_181 0 58 (dk_at dksX2_faults_0 10 rfl rfl)
theorem dX2_faults_13 : decode cX2_faults 13 = .ok (.aload_n 0, 1) := dk_42 (dk_at dksX2_faults_0 13 rfl rfl)
theorem dX2_faults_14 : decode cX2_faults 14 = .ok (.aload_n 0, 1) := dk_42 (dk_at dksX2_faults_0 14 rfl rfl)
theorem dX2_faults_15 : decode cX2_faults 15 = .ok (.getfield 75, 3) := dk_180 0 75 (dk_at dksX2_faults_0 15 rfl rfl)
theorem dX2_faults_18 : decode cX2_faults 18 = .ok (.putfield 37, 3) := dk_181 0 37 (dk_at dksX2_faults_0 18 rfl rfl)
theorem dX2_faults_21 : decode cX2_faults 21 = .ok (.return_, 1) := dk_177 (dk_at dksX2_faults_0 21 rfl rfl)
abbrev cX2_readsSettings : ByteArray := prog_20_method_24_code
def yX2_readsSettings : MethodName := ⟨RX2, "readsSettings", "(II)V"⟩
def dkwX2_readsSettings_1 : List UInt8 := [182, 0, 129, 79, 132, 3, 1, 167, 255, 228, 177]
abbrev dktX2_readsSettings_1 : List UInt8 := dkwX2_readsSettings_1 ++ []
def dkwX2_readsSettings_0 : List UInt8 := [27, 62, 29, 28, 163, 0, 29, 42, 180, 0, 9, 29, 42, 42, 29, 182, 0, 122, 42, 29, 182, 0, 126]
abbrev dktX2_readsSettings_0 : List UInt8 := dkwX2_readsSettings_0 ++ dktX2_readsSettings_1
theorem dksX2_readsSettings_0 : cX2_readsSettings.data.toList.drop 0 = dktX2_readsSettings_0 := by decide +kernel
theorem dksX2_readsSettings_1 : cX2_readsSettings.data.toList.drop 23 = dktX2_readsSettings_1 := dk_seg dksX2_readsSettings_0 23 rfl rfl
theorem dX2_readsSettings_0 : decode cX2_readsSettings 0 = .ok (.iload_n 1, 1) := dk_27 (dk_at dksX2_readsSettings_0 0 rfl rfl)
theorem dX2_readsSettings_1 : decode cX2_readsSettings 1 = .ok (.istore_n 3, 1) := dk_62 (dk_at dksX2_readsSettings_0 1 rfl rfl)
theorem dX2_readsSettings_2 : decode cX2_readsSettings 2 = .ok (.iload_n 3, 1) := dk_29 (dk_at dksX2_readsSettings_0 2 rfl rfl)
theorem dX2_readsSettings_3 : decode cX2_readsSettings 3 = .ok (.iload_n 2, 1) := dk_28 (dk_at dksX2_readsSettings_0 3 rfl rfl)
theorem dX2_readsSettings_4 : decode cX2_readsSettings 4 = .ok (.if_icmp .gt 29, 3) := dk_163 0 29 (dk_at dksX2_readsSettings_0 4 rfl rfl)
theorem dX2_readsSettings_7 : decode cX2_readsSettings 7 = .ok (.aload_n 0, 1) := dk_42 (dk_at dksX2_readsSettings_0 7 rfl rfl)
theorem dX2_readsSettings_8 : decode cX2_readsSettings 8 = .ok (.getfield 9, 3) := dk_180 0 9 (dk_at dksX2_readsSettings_0 8 rfl rfl)
theorem dX2_readsSettings_11 : decode cX2_readsSettings 11 = .ok (.iload_n 3, 1) := dk_29 (dk_at dksX2_readsSettings_0 11 rfl rfl)
theorem dX2_readsSettings_12 : decode cX2_readsSettings 12 = .ok (.aload_n 0, 1) := dk_42 (dk_at dksX2_readsSettings_0 12 rfl rfl)
theorem dX2_readsSettings_13 : decode cX2_readsSettings 13 = .ok (.aload_n 0, 1) := dk_42 (dk_at dksX2_readsSettings_0 13 rfl rfl)
theorem dX2_readsSettings_14 : decode cX2_readsSettings 14 = .ok (.iload_n 3, 1) := dk_29 (dk_at dksX2_readsSettings_0 14 rfl rfl)
theorem dX2_readsSettings_15 : decode cX2_readsSettings 15 = .ok (.invokevirtual 122, 3) := dk_182 0 122 (dk_at dksX2_readsSettings_0 15 rfl rfl)
theorem dX2_readsSettings_18 : decode cX2_readsSettings 18 = .ok (.aload_n 0, 1) := dk_42 (dk_at dksX2_readsSettings_0 18 rfl rfl)
theorem dX2_readsSettings_19 : decode cX2_readsSettings 19 = .ok (.iload_n 3, 1) := dk_29 (dk_at dksX2_readsSettings_0 19 rfl rfl)
theorem dX2_readsSettings_20 : decode cX2_readsSettings 20 = .ok (.invokevirtual 126, 3) := dk_182 0 126 (dk_at dksX2_readsSettings_0 20 rfl rfl)
theorem dX2_readsSettings_23 : decode cX2_readsSettings 23 = .ok (.invokevirtual 129, 3) := dk_182 0 129 (dk_at dksX2_readsSettings_1 0 rfl rfl)
theorem dX2_readsSettings_26 : decode cX2_readsSettings 26 = .ok (.iastore, 1) := dk_79 (dk_at dksX2_readsSettings_1 3 rfl rfl)
theorem dX2_readsSettings_27 : decode cX2_readsSettings 27 = .ok (.iinc 3 1, 3) := dk_132 3 1 (dk_at dksX2_readsSettings_1 4 rfl rfl)
theorem dX2_readsSettings_30 : decode cX2_readsSettings 30 = .ok (.goto (-28), 3) := dk_167 255 228 (dk_at dksX2_readsSettings_1 7 rfl rfl)
theorem dX2_readsSettings_33 : decode cX2_readsSettings 33 = .ok (.return_, 1) := dk_177 (dk_at dksX2_readsSettings_1 10 rfl rfl)
abbrev cX2_lowOf : ByteArray := prog_20_method_22_code
def yX2_lowOf : MethodName := ⟨RX2, "lowOf", "(I)I"⟩
def dkwX2_lowOf_1 : List UInt8 := [172]
abbrev dktX2_lowOf_1 : List UInt8 := dkwX2_lowOf_1 ++ []
def dkwX2_lowOf_0 : List UInt8 := [27, 7, 160, 0, 12, 42, 180, 0, 9, 6, 46, 167, 0, 13, 27, 8, 160, 0, 7, 3, 167, 0, 4, 4]
abbrev dktX2_lowOf_0 : List UInt8 := dkwX2_lowOf_0 ++ dktX2_lowOf_1
theorem dksX2_lowOf_0 : cX2_lowOf.data.toList.drop 0 = dktX2_lowOf_0 := by decide +kernel
theorem dksX2_lowOf_1 : cX2_lowOf.data.toList.drop 24 = dktX2_lowOf_1 := dk_seg dksX2_lowOf_0 24 rfl rfl
theorem dX2_lowOf_0 : decode cX2_lowOf 0 = .ok (.iload_n 1, 1) := dk_27 (dk_at dksX2_lowOf_0 0 rfl rfl)
theorem dX2_lowOf_1 : decode cX2_lowOf 1 = .ok (.iconst 4, 1) := dk_7 (dk_at dksX2_lowOf_0 1 rfl rfl)
theorem dX2_lowOf_2 : decode cX2_lowOf 2 = .ok (.if_icmp .ne 12, 3) := dk_160 0 12 (dk_at dksX2_lowOf_0 2 rfl rfl)
theorem dX2_lowOf_5 : decode cX2_lowOf 5 = .ok (.aload_n 0, 1) := dk_42 (dk_at dksX2_lowOf_0 5 rfl rfl)
theorem dX2_lowOf_6 : decode cX2_lowOf 6 = .ok (.getfield 9, 3) := dk_180 0 9 (dk_at dksX2_lowOf_0 6 rfl rfl)
theorem dX2_lowOf_9 : decode cX2_lowOf 9 = .ok (.iconst 3, 1) := dk_6 (dk_at dksX2_lowOf_0 9 rfl rfl)
theorem dX2_lowOf_10 : decode cX2_lowOf 10 = .ok (.iaload, 1) := dk_46 (dk_at dksX2_lowOf_0 10 rfl rfl)
theorem dX2_lowOf_11 : decode cX2_lowOf 11 = .ok (.goto 13, 3) := dk_167 0 13 (dk_at dksX2_lowOf_0 11 rfl rfl)
theorem dX2_lowOf_14 : decode cX2_lowOf 14 = .ok (.iload_n 1, 1) := dk_27 (dk_at dksX2_lowOf_0 14 rfl rfl)
theorem dX2_lowOf_15 : decode cX2_lowOf 15 = .ok (.iconst 5, 1) := dk_8 (dk_at dksX2_lowOf_0 15 rfl rfl)
theorem dX2_lowOf_16 : decode cX2_lowOf 16 = .ok (.if_icmp .ne 7, 3) := dk_160 0 7 (dk_at dksX2_lowOf_0 16 rfl rfl)
theorem dX2_lowOf_19 : decode cX2_lowOf 19 = .ok (.iconst 0, 1) := dk_3 (dk_at dksX2_lowOf_0 19 rfl rfl)
theorem dX2_lowOf_20 : decode cX2_lowOf 20 = .ok (.goto 4, 3) := dk_167 0 4 (dk_at dksX2_lowOf_0 20 rfl rfl)
theorem dX2_lowOf_23 : decode cX2_lowOf 23 = .ok (.iconst 1, 1) := dk_4 (dk_at dksX2_lowOf_0 23 rfl rfl)
theorem dX2_lowOf_24 : decode cX2_lowOf 24 = .ok (.ireturn, 1) := dk_172 (dk_at dksX2_lowOf_1 0 rfl rfl)
abbrev cX2_highOf : ByteArray := prog_20_method_23_code
def yX2_highOf : MethodName := ⟨RX2, "highOf", "(I)I"⟩
def dkwX2_highOf_2 : List UInt8 := [17, 0, 200, 172, 16, 99, 172, 16, 100, 172, 16, 9, 172, 16, 30, 172, 16, 50, 172]
abbrev dktX2_highOf_2 : List UInt8 := dkwX2_highOf_2 ++ []
def dkwX2_highOf_1 : List UInt8 := [170, 0, 0, 0, 0, 0, 51, 0, 0, 0, 0, 0, 0, 0, 4, 0, 0, 0, 35, 0, 0, 0, 39, 0, 0, 0, 42, 0, 0, 0, 45, 0, 0, 0, 48]
abbrev dktX2_highOf_1 : List UInt8 := dkwX2_highOf_1 ++ dktX2_highOf_2
def dkwX2_highOf_0 : List UInt8 := [27]
abbrev dktX2_highOf_0 : List UInt8 := dkwX2_highOf_0 ++ dktX2_highOf_1
theorem dksX2_highOf_0 : cX2_highOf.data.toList.drop 0 = dktX2_highOf_0 := by decide +kernel
theorem dksX2_highOf_1 : cX2_highOf.data.toList.drop 1 = dktX2_highOf_1 := dk_seg dksX2_highOf_0 1 rfl rfl
theorem dksX2_highOf_2 : cX2_highOf.data.toList.drop 36 = dktX2_highOf_2 := dk_seg dksX2_highOf_1 35 rfl rfl
theorem dX2_highOf_0 : decode cX2_highOf 0 = .ok (.iload_n 1, 1) := dk_27 (dk_at dksX2_highOf_0 0 rfl rfl)
theorem dX2_highOf_1 : decode cX2_highOf 1 = .ok (.tableswitch 51 0 4 #[35, 39, 42, 45, 48], 35) := by decide +kernel
theorem dX2_highOf_36 : decode cX2_highOf 36 = .ok (.sipush 200, 3) := dk_17 0 200 (dk_at dksX2_highOf_2 0 rfl rfl)
theorem dX2_highOf_39 : decode cX2_highOf 39 = .ok (.ireturn, 1) := dk_172 (dk_at dksX2_highOf_2 3 rfl rfl)
theorem dX2_highOf_40 : decode cX2_highOf 40 = .ok (.bipush 99, 2) := dk_16 99 (dk_at dksX2_highOf_2 4 rfl rfl)
theorem dX2_highOf_42 : decode cX2_highOf 42 = .ok (.ireturn, 1) := dk_172 (dk_at dksX2_highOf_2 6 rfl rfl)
theorem dX2_highOf_43 : decode cX2_highOf 43 = .ok (.bipush 100, 2) := dk_16 100 (dk_at dksX2_highOf_2 7 rfl rfl)
theorem dX2_highOf_45 : decode cX2_highOf 45 = .ok (.ireturn, 1) := dk_172 (dk_at dksX2_highOf_2 9 rfl rfl)
theorem dX2_highOf_46 : decode cX2_highOf 46 = .ok (.bipush 9, 2) := dk_16 9 (dk_at dksX2_highOf_2 10 rfl rfl)
theorem dX2_highOf_48 : decode cX2_highOf 48 = .ok (.ireturn, 1) := dk_172 (dk_at dksX2_highOf_2 12 rfl rfl)
theorem dX2_highOf_49 : decode cX2_highOf 49 = .ok (.bipush 30, 2) := dk_16 30 (dk_at dksX2_highOf_2 13 rfl rfl)
theorem dX2_highOf_51 : decode cX2_highOf 51 = .ok (.ireturn, 1) := dk_172 (dk_at dksX2_highOf_2 15 rfl rfl)
theorem dX2_highOf_52 : decode cX2_highOf 52 = .ok (.bipush 50, 2) := dk_16 50 (dk_at dksX2_highOf_2 16 rfl rfl)
theorem dX2_highOf_54 : decode cX2_highOf 54 = .ok (.ireturn, 1) := dk_172 (dk_at dksX2_highOf_2 18 rfl rfl)
abbrev cX2_number : ByteArray := prog_20_method_21_code
def yX2_number : MethodName := ⟨RX2, "number", "(II)I"⟩
def dkwX2_number_2 : List UInt8 := [158, 0, 7, 27, 167, 0, 4, 29, 172]
abbrev dktX2_number_2 : List UInt8 := dkwX2_number_2 ++ []
def dkwX2_number_1 : List UInt8 := [184, 0, 64, 154, 0, 8, 42, 5, 182, 0, 116, 42, 180, 0, 96, 62, 42, 182, 0, 119, 42, 180, 0, 58]
abbrev dktX2_number_1 : List UInt8 := dkwX2_number_1 ++ dktX2_number_2
def dkwX2_number_0 : List UInt8 := [42, 6, 182, 0, 99, 154, 0, 11, 42, 4, 182, 0, 116, 167, 0, 20, 42, 180, 0, 96, 27, 28]
abbrev dktX2_number_0 : List UInt8 := dkwX2_number_0 ++ dktX2_number_1
theorem dksX2_number_0 : cX2_number.data.toList.drop 0 = dktX2_number_0 := by decide +kernel
theorem dksX2_number_1 : cX2_number.data.toList.drop 22 = dktX2_number_1 := dk_seg dksX2_number_0 22 rfl rfl
theorem dksX2_number_2 : cX2_number.data.toList.drop 46 = dktX2_number_2 := dk_seg dksX2_number_1 24 rfl rfl
theorem dX2_number_0 : decode cX2_number 0 = .ok (.aload_n 0, 1) := dk_42 (dk_at dksX2_number_0 0 rfl rfl)
theorem dX2_number_1 : decode cX2_number 1 = .ok (.iconst 3, 1) := dk_6 (dk_at dksX2_number_0 1 rfl rfl)
theorem dX2_number_2 : decode cX2_number 2 = .ok (.invokevirtual 99, 3) := dk_182 0 99 (dk_at dksX2_number_0 2 rfl rfl)
theorem dX2_number_5 : decode cX2_number 5 = .ok (.ifCond .ne 11, 3) := dk_154 0 11 (dk_at dksX2_number_0 5 rfl rfl)
theorem dX2_number_8 : decode cX2_number 8 = .ok (.aload_n 0, 1) := dk_42 (dk_at dksX2_number_0 8 rfl rfl)
theorem dX2_number_9 : decode cX2_number 9 = .ok (.iconst 1, 1) := dk_4 (dk_at dksX2_number_0 9 rfl rfl)
theorem dX2_number_10 : decode cX2_number 10 = .ok (.invokevirtual 116, 3) := dk_182 0 116 (dk_at dksX2_number_0 10 rfl rfl)
theorem dX2_number_13 : decode cX2_number 13 = .ok (.goto 20, 3) := dk_167 0 20 (dk_at dksX2_number_0 13 rfl rfl)
theorem dX2_number_16 : decode cX2_number 16 = .ok (.aload_n 0, 1) := dk_42 (dk_at dksX2_number_0 16 rfl rfl)
theorem dX2_number_17 : decode cX2_number 17 = .ok (.getfield 96, 3) := dk_180 0 96 (dk_at dksX2_number_0 17 rfl rfl)
theorem dX2_number_20 : decode cX2_number 20 = .ok (.iload_n 1, 1) := dk_27 (dk_at dksX2_number_0 20 rfl rfl)
theorem dX2_number_21 : decode cX2_number 21 = .ok (.iload_n 2, 1) := dk_28 (dk_at dksX2_number_0 21 rfl rfl)
theorem dX2_number_22 : decode cX2_number 22 = .ok (.invokestatic 64, 3) := dk_184 0 64 (dk_at dksX2_number_1 0 rfl rfl)
theorem dX2_number_25 : decode cX2_number 25 = .ok (.ifCond .ne 8, 3) := dk_154 0 8 (dk_at dksX2_number_1 3 rfl rfl)
theorem dX2_number_28 : decode cX2_number 28 = .ok (.aload_n 0, 1) := dk_42 (dk_at dksX2_number_1 6 rfl rfl)
theorem dX2_number_29 : decode cX2_number 29 = .ok (.iconst 2, 1) := dk_5 (dk_at dksX2_number_1 7 rfl rfl)
theorem dX2_number_30 : decode cX2_number 30 = .ok (.invokevirtual 116, 3) := dk_182 0 116 (dk_at dksX2_number_1 8 rfl rfl)
theorem dX2_number_33 : decode cX2_number 33 = .ok (.aload_n 0, 1) := dk_42 (dk_at dksX2_number_1 11 rfl rfl)
theorem dX2_number_34 : decode cX2_number 34 = .ok (.getfield 96, 3) := dk_180 0 96 (dk_at dksX2_number_1 12 rfl rfl)
theorem dX2_number_37 : decode cX2_number 37 = .ok (.istore_n 3, 1) := dk_62 (dk_at dksX2_number_1 15 rfl rfl)
theorem dX2_number_38 : decode cX2_number 38 = .ok (.aload_n 0, 1) := dk_42 (dk_at dksX2_number_1 16 rfl rfl)
theorem dX2_number_39 : decode cX2_number 39 = .ok (.invokevirtual 119, 3) := dk_182 0 119 (dk_at dksX2_number_1 17 rfl rfl)
theorem dX2_number_42 : decode cX2_number 42 = .ok (.aload_n 0, 1) := dk_42 (dk_at dksX2_number_1 20 rfl rfl)
theorem dX2_number_43 : decode cX2_number 43 = .ok (.getfield 58, 3) := dk_180 0 58 (dk_at dksX2_number_1 21 rfl rfl)
theorem dX2_number_46 : decode cX2_number 46 = .ok (.ifCond .le 7, 3) := dk_158 0 7 (dk_at dksX2_number_2 0 rfl rfl)
theorem dX2_number_49 : decode cX2_number 49 = .ok (.iload_n 1, 1) := dk_27 (dk_at dksX2_number_2 3 rfl rfl)
theorem dX2_number_50 : decode cX2_number 50 = .ok (.goto 4, 3) := dk_167 0 4 (dk_at dksX2_number_2 4 rfl rfl)
theorem dX2_number_53 : decode cX2_number 53 = .ok (.iload_n 3, 1) := dk_29 (dk_at dksX2_number_2 7 rfl rfl)
theorem dX2_number_54 : decode cX2_number 54 = .ok (.ireturn, 1) := dk_172 (dk_at dksX2_number_2 8 rfl rfl)
abbrev cX2_takesSemi : ByteArray := prog_20_method_20_code
def yX2_takesSemi : MethodName := ⟨RX2, "takesSemi", "()V"⟩
def dkwX2_takesSemi_0 : List UInt8 := [42, 7, 182, 0, 99, 154, 0, 8, 42, 4, 182, 0, 116, 42, 182, 0, 119, 177]
abbrev dktX2_takesSemi_0 : List UInt8 := dkwX2_takesSemi_0 ++ []
theorem dksX2_takesSemi_0 : cX2_takesSemi.data.toList.drop 0 = dktX2_takesSemi_0 := by decide +kernel
theorem dX2_takesSemi_0 : decode cX2_takesSemi 0 = .ok (.aload_n 0, 1) := dk_42 (dk_at dksX2_takesSemi_0 0 rfl rfl)
theorem dX2_takesSemi_1 : decode cX2_takesSemi 1 = .ok (.iconst 4, 1) := dk_7 (dk_at dksX2_takesSemi_0 1 rfl rfl)
theorem dX2_takesSemi_2 : decode cX2_takesSemi 2 = .ok (.invokevirtual 99, 3) := dk_182 0 99 (dk_at dksX2_takesSemi_0 2 rfl rfl)
theorem dX2_takesSemi_5 : decode cX2_takesSemi 5 = .ok (.ifCond .ne 8, 3) := dk_154 0 8 (dk_at dksX2_takesSemi_0 5 rfl rfl)
theorem dX2_takesSemi_8 : decode cX2_takesSemi 8 = .ok (.aload_n 0, 1) := dk_42 (dk_at dksX2_takesSemi_0 8 rfl rfl)
theorem dX2_takesSemi_9 : decode cX2_takesSemi 9 = .ok (.iconst 1, 1) := dk_4 (dk_at dksX2_takesSemi_0 9 rfl rfl)
theorem dX2_takesSemi_10 : decode cX2_takesSemi 10 = .ok (.invokevirtual 116, 3) := dk_182 0 116 (dk_at dksX2_takesSemi_0 10 rfl rfl)
theorem dX2_takesSemi_13 : decode cX2_takesSemi 13 = .ok (.aload_n 0, 1) := dk_42 (dk_at dksX2_takesSemi_0 13 rfl rfl)
theorem dX2_takesSemi_14 : decode cX2_takesSemi 14 = .ok (.invokevirtual 119, 3) := dk_182 0 119 (dk_at dksX2_takesSemi_0 14 rfl rfl)
theorem dX2_takesSemi_17 : decode cX2_takesSemi 17 = .ok (.return_, 1) := dk_177 (dk_at dksX2_takesSemi_0 17 rfl rfl)
abbrev cX2_readsCabin : ByteArray := prog_20_method_28_code
def yX2_readsCabin : MethodName := ⟨RX2, "readsCabin", "()V"⟩
def dkwX2_readsCabin_4 : List UInt8 := [96, 79, 177]
abbrev dktX2_readsCabin_4 : List UInt8 := dkwX2_readsCabin_4 ++ []
def dkwX2_readsCabin_3 : List UInt8 := [96, 16, 100, 79, 42, 180, 0, 9, 17, 0, 168, 27, 96, 2, 79, 42, 180, 0, 9, 16, 6, 92, 46, 4]
abbrev dktX2_readsCabin_3 : List UInt8 := dkwX2_readsCabin_3 ++ dktX2_readsCabin_4
def dkwX2_readsCabin_2 : List UInt8 := [180, 0, 9, 17, 0, 148, 27, 96, 42, 3, 16, 99, 182, 0, 129, 79, 42, 180, 0, 9, 17, 0, 158, 27]
abbrev dktX2_readsCabin_2 : List UInt8 := dkwX2_readsCabin_2 ++ dktX2_readsCabin_3
def dkwX2_readsCabin_1 : List UInt8 := [42, 180, 0, 30, 27, 42, 3, 27, 182, 0, 137, 80, 42, 16, 10, 6, 27, 104, 96, 182, 0, 140, 42]
abbrev dktX2_readsCabin_1 : List UInt8 := dkwX2_readsCabin_1 ++ dktX2_readsCabin_2
def dkwX2_readsCabin_0 : List UInt8 := [42, 16, 6, 16, 10, 182, 0, 133, 42, 180, 0, 9, 16, 6, 46, 60, 42, 180, 0, 58, 158, 0, 4, 177]
abbrev dktX2_readsCabin_0 : List UInt8 := dkwX2_readsCabin_0 ++ dktX2_readsCabin_1
theorem dksX2_readsCabin_0 : cX2_readsCabin.data.toList.drop 0 = dktX2_readsCabin_0 := by decide +kernel
theorem dksX2_readsCabin_1 : cX2_readsCabin.data.toList.drop 24 = dktX2_readsCabin_1 := dk_seg dksX2_readsCabin_0 24 rfl rfl
theorem dksX2_readsCabin_2 : cX2_readsCabin.data.toList.drop 47 = dktX2_readsCabin_2 := dk_seg dksX2_readsCabin_1 23 rfl rfl
theorem dksX2_readsCabin_3 : cX2_readsCabin.data.toList.drop 71 = dktX2_readsCabin_3 := dk_seg dksX2_readsCabin_2 24 rfl rfl
theorem dksX2_readsCabin_4 : cX2_readsCabin.data.toList.drop 95 = dktX2_readsCabin_4 := dk_seg dksX2_readsCabin_3 24 rfl rfl
theorem dX2_readsCabin_0 : decode cX2_readsCabin 0 = .ok (.aload_n 0, 1) := dk_42 (dk_at dksX2_readsCabin_0 0 rfl rfl)
theorem dX2_readsCabin_1 : decode cX2_readsCabin 1 = .ok (.bipush 6, 2) := dk_16 6 (dk_at dksX2_readsCabin_0 1 rfl rfl)
theorem dX2_readsCabin_3 : decode cX2_readsCabin 3 = .ok (.bipush 10, 2) := dk_16 10 (dk_at dksX2_readsCabin_0 3 rfl rfl)
theorem dX2_readsCabin_5 : decode cX2_readsCabin 5 = .ok (.invokevirtual 133, 3) := dk_182 0 133 (dk_at dksX2_readsCabin_0 5 rfl rfl)
theorem dX2_readsCabin_8 : decode cX2_readsCabin 8 = .ok (.aload_n 0, 1) := dk_42 (dk_at dksX2_readsCabin_0 8 rfl rfl)
theorem dX2_readsCabin_9 : decode cX2_readsCabin 9 = .ok (.getfield 9, 3) := dk_180 0 9 (dk_at dksX2_readsCabin_0 9 rfl rfl)
theorem dX2_readsCabin_12 : decode cX2_readsCabin 12 = .ok (.bipush 6, 2) := dk_16 6 (dk_at dksX2_readsCabin_0 12 rfl rfl)
theorem dX2_readsCabin_14 : decode cX2_readsCabin 14 = .ok (.iaload, 1) := dk_46 (dk_at dksX2_readsCabin_0 14 rfl rfl)
theorem dX2_readsCabin_15 : decode cX2_readsCabin 15 = .ok (.istore_n 1, 1) := dk_60 (dk_at dksX2_readsCabin_0 15 rfl rfl)
theorem dX2_readsCabin_16 : decode cX2_readsCabin 16 = .ok (.aload_n 0, 1) := dk_42 (dk_at dksX2_readsCabin_0 16 rfl rfl)
theorem dX2_readsCabin_17 : decode cX2_readsCabin 17 = .ok (.getfield 58, 3) := dk_180 0 58 (dk_at dksX2_readsCabin_0 17 rfl rfl)
theorem dX2_readsCabin_20 : decode cX2_readsCabin 20 = .ok (.ifCond .le 4, 3) := dk_158 0 4 (dk_at dksX2_readsCabin_0 20 rfl rfl)
theorem dX2_readsCabin_23 : decode cX2_readsCabin 23 = .ok (.return_, 1) := dk_177 (dk_at dksX2_readsCabin_0 23 rfl rfl)
theorem dX2_readsCabin_24 : decode cX2_readsCabin 24 = .ok (.aload_n 0, 1) := dk_42 (dk_at dksX2_readsCabin_1 0 rfl rfl)
theorem dX2_readsCabin_25 : decode cX2_readsCabin 25 = .ok (.getfield 30, 3) := dk_180 0 30 (dk_at dksX2_readsCabin_1 1 rfl rfl)
theorem dX2_readsCabin_28 : decode cX2_readsCabin 28 = .ok (.iload_n 1, 1) := dk_27 (dk_at dksX2_readsCabin_1 4 rfl rfl)
theorem dX2_readsCabin_29 : decode cX2_readsCabin 29 = .ok (.aload_n 0, 1) := dk_42 (dk_at dksX2_readsCabin_1 5 rfl rfl)
theorem dX2_readsCabin_30 : decode cX2_readsCabin 30 = .ok (.iconst 0, 1) := dk_3 (dk_at dksX2_readsCabin_1 6 rfl rfl)
theorem dX2_readsCabin_31 : decode cX2_readsCabin 31 = .ok (.iload_n 1, 1) := dk_27 (dk_at dksX2_readsCabin_1 7 rfl rfl)
theorem dX2_readsCabin_32 : decode cX2_readsCabin 32 = .ok (.invokevirtual 137, 3) := dk_182 0 137 (dk_at dksX2_readsCabin_1 8 rfl rfl)
theorem dX2_readsCabin_35 : decode cX2_readsCabin 35 = .ok (.lastore, 1) := dk_80 (dk_at dksX2_readsCabin_1 11 rfl rfl)
theorem dX2_readsCabin_36 : decode cX2_readsCabin 36 = .ok (.aload_n 0, 1) := dk_42 (dk_at dksX2_readsCabin_1 12 rfl rfl)
theorem dX2_readsCabin_37 : decode cX2_readsCabin 37 = .ok (.bipush 10, 2) := dk_16 10 (dk_at dksX2_readsCabin_1 13 rfl rfl)
theorem dX2_readsCabin_39 : decode cX2_readsCabin 39 = .ok (.iconst 3, 1) := dk_6 (dk_at dksX2_readsCabin_1 15 rfl rfl)
theorem dX2_readsCabin_40 : decode cX2_readsCabin 40 = .ok (.iload_n 1, 1) := dk_27 (dk_at dksX2_readsCabin_1 16 rfl rfl)
theorem dX2_readsCabin_41 : decode cX2_readsCabin 41 = .ok (.imul, 1) := dk_104 (dk_at dksX2_readsCabin_1 17 rfl rfl)
theorem dX2_readsCabin_42 : decode cX2_readsCabin 42 = .ok (.iadd, 1) := dk_96 (dk_at dksX2_readsCabin_1 18 rfl rfl)
theorem dX2_readsCabin_43 : decode cX2_readsCabin 43 = .ok (.invokevirtual 140, 3) := dk_182 0 140 (dk_at dksX2_readsCabin_1 19 rfl rfl)
theorem dX2_readsCabin_46 : decode cX2_readsCabin 46 = .ok (.aload_n 0, 1) := dk_42 (dk_at dksX2_readsCabin_1 22 rfl rfl)
theorem dX2_readsCabin_47 : decode cX2_readsCabin 47 = .ok (.getfield 9, 3) := dk_180 0 9 (dk_at dksX2_readsCabin_2 0 rfl rfl)
theorem dX2_readsCabin_50 : decode cX2_readsCabin 50 = .ok (.sipush 148, 3) := dk_17 0 148 (dk_at dksX2_readsCabin_2 3 rfl rfl)
theorem dX2_readsCabin_53 : decode cX2_readsCabin 53 = .ok (.iload_n 1, 1) := dk_27 (dk_at dksX2_readsCabin_2 6 rfl rfl)
theorem dX2_readsCabin_54 : decode cX2_readsCabin 54 = .ok (.iadd, 1) := dk_96 (dk_at dksX2_readsCabin_2 7 rfl rfl)
theorem dX2_readsCabin_55 : decode cX2_readsCabin 55 = .ok (.aload_n 0, 1) := dk_42 (dk_at dksX2_readsCabin_2 8 rfl rfl)
theorem dX2_readsCabin_56 : decode cX2_readsCabin 56 = .ok (.iconst 0, 1) := dk_3 (dk_at dksX2_readsCabin_2 9 rfl rfl)
theorem dX2_readsCabin_57 : decode cX2_readsCabin 57 = .ok (.bipush 99, 2) := dk_16 99 (dk_at dksX2_readsCabin_2 10 rfl rfl)
theorem dX2_readsCabin_59 : decode cX2_readsCabin 59 = .ok (.invokevirtual 129, 3) := dk_182 0 129 (dk_at dksX2_readsCabin_2 12 rfl rfl)
theorem dX2_readsCabin_62 : decode cX2_readsCabin 62 = .ok (.iastore, 1) := dk_79 (dk_at dksX2_readsCabin_2 15 rfl rfl)
theorem dX2_readsCabin_63 : decode cX2_readsCabin 63 = .ok (.aload_n 0, 1) := dk_42 (dk_at dksX2_readsCabin_2 16 rfl rfl)
theorem dX2_readsCabin_64 : decode cX2_readsCabin 64 = .ok (.getfield 9, 3) := dk_180 0 9 (dk_at dksX2_readsCabin_2 17 rfl rfl)
theorem dX2_readsCabin_67 : decode cX2_readsCabin 67 = .ok (.sipush 158, 3) := dk_17 0 158 (dk_at dksX2_readsCabin_2 20 rfl rfl)
theorem dX2_readsCabin_70 : decode cX2_readsCabin 70 = .ok (.iload_n 1, 1) := dk_27 (dk_at dksX2_readsCabin_2 23 rfl rfl)
theorem dX2_readsCabin_71 : decode cX2_readsCabin 71 = .ok (.iadd, 1) := dk_96 (dk_at dksX2_readsCabin_3 0 rfl rfl)
theorem dX2_readsCabin_72 : decode cX2_readsCabin 72 = .ok (.bipush 100, 2) := dk_16 100 (dk_at dksX2_readsCabin_3 1 rfl rfl)
theorem dX2_readsCabin_74 : decode cX2_readsCabin 74 = .ok (.iastore, 1) := dk_79 (dk_at dksX2_readsCabin_3 3 rfl rfl)
theorem dX2_readsCabin_75 : decode cX2_readsCabin 75 = .ok (.aload_n 0, 1) := dk_42 (dk_at dksX2_readsCabin_3 4 rfl rfl)
theorem dX2_readsCabin_76 : decode cX2_readsCabin 76 = .ok (.getfield 9, 3) := dk_180 0 9 (dk_at dksX2_readsCabin_3 5 rfl rfl)
theorem dX2_readsCabin_79 : decode cX2_readsCabin 79 = .ok (.sipush 168, 3) := dk_17 0 168 (dk_at dksX2_readsCabin_3 8 rfl rfl)
theorem dX2_readsCabin_82 : decode cX2_readsCabin 82 = .ok (.iload_n 1, 1) := dk_27 (dk_at dksX2_readsCabin_3 11 rfl rfl)
theorem dX2_readsCabin_83 : decode cX2_readsCabin 83 = .ok (.iadd, 1) := dk_96 (dk_at dksX2_readsCabin_3 12 rfl rfl)
theorem dX2_readsCabin_84 : decode cX2_readsCabin 84 = .ok (.iconst (-1), 1) := dk_2 (dk_at dksX2_readsCabin_3 13 rfl rfl)
theorem dX2_readsCabin_85 : decode cX2_readsCabin 85 = .ok (.iastore, 1) := dk_79 (dk_at dksX2_readsCabin_3 14 rfl rfl)
theorem dX2_readsCabin_86 : decode cX2_readsCabin 86 = .ok (.aload_n 0, 1) := dk_42 (dk_at dksX2_readsCabin_3 15 rfl rfl)
theorem dX2_readsCabin_87 : decode cX2_readsCabin 87 = .ok (.getfield 9, 3) := dk_180 0 9 (dk_at dksX2_readsCabin_3 16 rfl rfl)
theorem dX2_readsCabin_90 : decode cX2_readsCabin 90 = .ok (.bipush 6, 2) := dk_16 6 (dk_at dksX2_readsCabin_3 19 rfl rfl)
theorem dX2_readsCabin_92 : decode cX2_readsCabin 92 = .ok (.dup2, 1) := dk_92 (dk_at dksX2_readsCabin_3 21 rfl rfl)
theorem dX2_readsCabin_93 : decode cX2_readsCabin 93 = .ok (.iaload, 1) := dk_46 (dk_at dksX2_readsCabin_3 22 rfl rfl)
theorem dX2_readsCabin_94 : decode cX2_readsCabin 94 = .ok (.iconst 1, 1) := dk_4 (dk_at dksX2_readsCabin_3 23 rfl rfl)
theorem dX2_readsCabin_95 : decode cX2_readsCabin 95 = .ok (.iadd, 1) := dk_96 (dk_at dksX2_readsCabin_4 0 rfl rfl)
theorem dX2_readsCabin_96 : decode cX2_readsCabin 96 = .ok (.iastore, 1) := dk_79 (dk_at dksX2_readsCabin_4 1 rfl rfl)
theorem dX2_readsCabin_97 : decode cX2_readsCabin 97 = .ok (.return_, 1) := dk_177 (dk_at dksX2_readsCabin_4 2 rfl rfl)
abbrev cX2_begins : ByteArray := prog_20_method_25_code
def yX2_begins : MethodName := ⟨RX2, "begins", "(II)V"⟩
def dkwX2_begins_0 : List UInt8 := [42, 180, 0, 9, 27, 46, 28, 160, 0, 8, 42, 7, 182, 0, 116, 42, 182, 0, 119, 177]
abbrev dktX2_begins_0 : List UInt8 := dkwX2_begins_0 ++ []
theorem dksX2_begins_0 : cX2_begins.data.toList.drop 0 = dktX2_begins_0 := by decide +kernel
theorem dX2_begins_0 : decode cX2_begins 0 = .ok (.aload_n 0, 1) := dk_42 (dk_at dksX2_begins_0 0 rfl rfl)
theorem dX2_begins_1 : decode cX2_begins 1 = .ok (.getfield 9, 3) := dk_180 0 9 (dk_at dksX2_begins_0 1 rfl rfl)
theorem dX2_begins_4 : decode cX2_begins 4 = .ok (.iload_n 1, 1) := dk_27 (dk_at dksX2_begins_0 4 rfl rfl)
theorem dX2_begins_5 : decode cX2_begins 5 = .ok (.iaload, 1) := dk_46 (dk_at dksX2_begins_0 5 rfl rfl)
theorem dX2_begins_6 : decode cX2_begins 6 = .ok (.iload_n 2, 1) := dk_28 (dk_at dksX2_begins_0 6 rfl rfl)
theorem dX2_begins_7 : decode cX2_begins 7 = .ok (.if_icmp .ne 8, 3) := dk_160 0 8 (dk_at dksX2_begins_0 7 rfl rfl)
theorem dX2_begins_10 : decode cX2_begins 10 = .ok (.aload_n 0, 1) := dk_42 (dk_at dksX2_begins_0 10 rfl rfl)
theorem dX2_begins_11 : decode cX2_begins 11 = .ok (.iconst 4, 1) := dk_7 (dk_at dksX2_begins_0 11 rfl rfl)
theorem dX2_begins_12 : decode cX2_begins 12 = .ok (.invokevirtual 116, 3) := dk_182 0 116 (dk_at dksX2_begins_0 12 rfl rfl)
theorem dX2_begins_15 : decode cX2_begins 15 = .ok (.aload_n 0, 1) := dk_42 (dk_at dksX2_begins_0 15 rfl rfl)
theorem dX2_begins_16 : decode cX2_begins 16 = .ok (.invokevirtual 119, 3) := dk_182 0 119 (dk_at dksX2_begins_0 16 rfl rfl)
theorem dX2_begins_19 : decode cX2_begins 19 = .ok (.return_, 1) := dk_177 (dk_at dksX2_begins_0 19 rfl rfl)
abbrev cX2_newName : ByteArray := prog_20_method_26_code
def yX2_newName : MethodName := ⟨RX2, "newName", "(II)J"⟩
def dkwX2_newName_2 : List UInt8 := [182, 0, 116, 132, 3, 1, 167, 255, 219, 42, 180, 0, 89, 66, 42, 182, 0, 119, 33, 173]
abbrev dktX2_newName_2 : List UInt8 := dkwX2_newName_2 ++ []
def dkwX2_newName_1 : List UInt8 := [182, 0, 99, 153, 0, 22, 42, 180, 0, 30, 29, 47, 42, 180, 0, 89, 148, 154, 0, 8, 42, 6]
abbrev dktX2_newName_1 : List UInt8 := dkwX2_newName_1 ++ dktX2_newName_2
def dkwX2_newName_0 : List UInt8 := [42, 5, 182, 0, 99, 154, 0, 8, 42, 4, 182, 0, 116, 27, 62, 29, 27, 28, 96, 162, 0, 36, 42, 5]
abbrev dktX2_newName_0 : List UInt8 := dkwX2_newName_0 ++ dktX2_newName_1
theorem dksX2_newName_0 : cX2_newName.data.toList.drop 0 = dktX2_newName_0 := by decide +kernel
theorem dksX2_newName_1 : cX2_newName.data.toList.drop 24 = dktX2_newName_1 := dk_seg dksX2_newName_0 24 rfl rfl
theorem dksX2_newName_2 : cX2_newName.data.toList.drop 46 = dktX2_newName_2 := dk_seg dksX2_newName_1 22 rfl rfl
theorem dX2_newName_0 : decode cX2_newName 0 = .ok (.aload_n 0, 1) := dk_42 (dk_at dksX2_newName_0 0 rfl rfl)
theorem dX2_newName_1 : decode cX2_newName 1 = .ok (.iconst 2, 1) := dk_5 (dk_at dksX2_newName_0 1 rfl rfl)
theorem dX2_newName_2 : decode cX2_newName 2 = .ok (.invokevirtual 99, 3) := dk_182 0 99 (dk_at dksX2_newName_0 2 rfl rfl)
theorem dX2_newName_5 : decode cX2_newName 5 = .ok (.ifCond .ne 8, 3) := dk_154 0 8 (dk_at dksX2_newName_0 5 rfl rfl)
theorem dX2_newName_8 : decode cX2_newName 8 = .ok (.aload_n 0, 1) := dk_42 (dk_at dksX2_newName_0 8 rfl rfl)
theorem dX2_newName_9 : decode cX2_newName 9 = .ok (.iconst 1, 1) := dk_4 (dk_at dksX2_newName_0 9 rfl rfl)
theorem dX2_newName_10 : decode cX2_newName 10 = .ok (.invokevirtual 116, 3) := dk_182 0 116 (dk_at dksX2_newName_0 10 rfl rfl)
theorem dX2_newName_13 : decode cX2_newName 13 = .ok (.iload_n 1, 1) := dk_27 (dk_at dksX2_newName_0 13 rfl rfl)
theorem dX2_newName_14 : decode cX2_newName 14 = .ok (.istore_n 3, 1) := dk_62 (dk_at dksX2_newName_0 14 rfl rfl)
theorem dX2_newName_15 : decode cX2_newName 15 = .ok (.iload_n 3, 1) := dk_29 (dk_at dksX2_newName_0 15 rfl rfl)
theorem dX2_newName_16 : decode cX2_newName 16 = .ok (.iload_n 1, 1) := dk_27 (dk_at dksX2_newName_0 16 rfl rfl)
theorem dX2_newName_17 : decode cX2_newName 17 = .ok (.iload_n 2, 1) := dk_28 (dk_at dksX2_newName_0 17 rfl rfl)
theorem dX2_newName_18 : decode cX2_newName 18 = .ok (.iadd, 1) := dk_96 (dk_at dksX2_newName_0 18 rfl rfl)
theorem dX2_newName_19 : decode cX2_newName 19 = .ok (.if_icmp .ge 36, 3) := dk_162 0 36 (dk_at dksX2_newName_0 19 rfl rfl)
theorem dX2_newName_22 : decode cX2_newName 22 = .ok (.aload_n 0, 1) := dk_42 (dk_at dksX2_newName_0 22 rfl rfl)
theorem dX2_newName_23 : decode cX2_newName 23 = .ok (.iconst 2, 1) := dk_5 (dk_at dksX2_newName_0 23 rfl rfl)
theorem dX2_newName_24 : decode cX2_newName 24 = .ok (.invokevirtual 99, 3) := dk_182 0 99 (dk_at dksX2_newName_1 0 rfl rfl)
theorem dX2_newName_27 : decode cX2_newName 27 = .ok (.ifCond .eq 22, 3) := dk_153 0 22 (dk_at dksX2_newName_1 3 rfl rfl)
theorem dX2_newName_30 : decode cX2_newName 30 = .ok (.aload_n 0, 1) := dk_42 (dk_at dksX2_newName_1 6 rfl rfl)
theorem dX2_newName_31 : decode cX2_newName 31 = .ok (.getfield 30, 3) := dk_180 0 30 (dk_at dksX2_newName_1 7 rfl rfl)
theorem dX2_newName_34 : decode cX2_newName 34 = .ok (.iload_n 3, 1) := dk_29 (dk_at dksX2_newName_1 10 rfl rfl)
theorem dX2_newName_35 : decode cX2_newName 35 = .ok (.laload, 1) := dk_47 (dk_at dksX2_newName_1 11 rfl rfl)
theorem dX2_newName_36 : decode cX2_newName 36 = .ok (.aload_n 0, 1) := dk_42 (dk_at dksX2_newName_1 12 rfl rfl)
theorem dX2_newName_37 : decode cX2_newName 37 = .ok (.getfield 89, 3) := dk_180 0 89 (dk_at dksX2_newName_1 13 rfl rfl)
theorem dX2_newName_40 : decode cX2_newName 40 = .ok (.lcmp, 1) := dk_148 (dk_at dksX2_newName_1 16 rfl rfl)
theorem dX2_newName_41 : decode cX2_newName 41 = .ok (.ifCond .ne 8, 3) := dk_154 0 8 (dk_at dksX2_newName_1 17 rfl rfl)
theorem dX2_newName_44 : decode cX2_newName 44 = .ok (.aload_n 0, 1) := dk_42 (dk_at dksX2_newName_1 20 rfl rfl)
theorem dX2_newName_45 : decode cX2_newName 45 = .ok (.iconst 3, 1) := dk_6 (dk_at dksX2_newName_1 21 rfl rfl)
theorem dX2_newName_46 : decode cX2_newName 46 = .ok (.invokevirtual 116, 3) := dk_182 0 116 (dk_at dksX2_newName_2 0 rfl rfl)
theorem dX2_newName_49 : decode cX2_newName 49 = .ok (.iinc 3 1, 3) := dk_132 3 1 (dk_at dksX2_newName_2 3 rfl rfl)
theorem dX2_newName_52 : decode cX2_newName 52 = .ok (.goto (-37), 3) := dk_167 255 219 (dk_at dksX2_newName_2 6 rfl rfl)
theorem dX2_newName_55 : decode cX2_newName 55 = .ok (.aload_n 0, 1) := dk_42 (dk_at dksX2_newName_2 9 rfl rfl)
theorem dX2_newName_56 : decode cX2_newName 56 = .ok (.getfield 89, 3) := dk_180 0 89 (dk_at dksX2_newName_2 10 rfl rfl)
theorem dX2_newName_59 : decode cX2_newName 59 = .ok (.lstore_n 3, 1) := dk_66 (dk_at dksX2_newName_2 13 rfl rfl)
theorem dX2_newName_60 : decode cX2_newName 60 = .ok (.aload_n 0, 1) := dk_42 (dk_at dksX2_newName_2 14 rfl rfl)
theorem dX2_newName_61 : decode cX2_newName 61 = .ok (.invokevirtual 119, 3) := dk_182 0 119 (dk_at dksX2_newName_2 15 rfl rfl)
theorem dX2_newName_64 : decode cX2_newName 64 = .ok (.lload_n 3, 1) := dk_33 (dk_at dksX2_newName_2 18 rfl rfl)
theorem dX2_newName_65 : decode cX2_newName 65 = .ok (.lreturn, 1) := dk_173 (dk_at dksX2_newName_2 19 rfl rfl)
abbrev cX2_readsPlace : ByteArray := prog_20_method_27_code
def yX2_readsPlace : MethodName := ⟨RX2, "readsPlace", "(I)V"⟩
def dkwX2_readsPlace_1 : List UInt8 := [182, 0, 129, 79, 42, 180, 0, 9, 27, 5, 96, 42, 3, 17, 3, 231, 182, 0, 129, 79, 177]
abbrev dktX2_readsPlace_1 : List UInt8 := dkwX2_readsPlace_1 ++ []
def dkwX2_readsPlace_0 : List UInt8 := [42, 180, 0, 9, 27, 42, 3, 16, 99, 182, 0, 129, 79, 42, 180, 0, 9, 27, 4, 96, 42, 3, 16, 99]
abbrev dktX2_readsPlace_0 : List UInt8 := dkwX2_readsPlace_0 ++ dktX2_readsPlace_1
theorem dksX2_readsPlace_0 : cX2_readsPlace.data.toList.drop 0 = dktX2_readsPlace_0 := by decide +kernel
theorem dksX2_readsPlace_1 : cX2_readsPlace.data.toList.drop 24 = dktX2_readsPlace_1 := dk_seg dksX2_readsPlace_0 24 rfl rfl
theorem dX2_readsPlace_0 : decode cX2_readsPlace 0 = .ok (.aload_n 0, 1) := dk_42 (dk_at dksX2_readsPlace_0 0 rfl rfl)
theorem dX2_readsPlace_1 : decode cX2_readsPlace 1 = .ok (.getfield 9, 3) := dk_180 0 9 (dk_at dksX2_readsPlace_0 1 rfl rfl)
theorem dX2_readsPlace_4 : decode cX2_readsPlace 4 = .ok (.iload_n 1, 1) := dk_27 (dk_at dksX2_readsPlace_0 4 rfl rfl)
theorem dX2_readsPlace_5 : decode cX2_readsPlace 5 = .ok (.aload_n 0, 1) := dk_42 (dk_at dksX2_readsPlace_0 5 rfl rfl)
theorem dX2_readsPlace_6 : decode cX2_readsPlace 6 = .ok (.iconst 0, 1) := dk_3 (dk_at dksX2_readsPlace_0 6 rfl rfl)
theorem dX2_readsPlace_7 : decode cX2_readsPlace 7 = .ok (.bipush 99, 2) := dk_16 99 (dk_at dksX2_readsPlace_0 7 rfl rfl)
theorem dX2_readsPlace_9 : decode cX2_readsPlace 9 = .ok (.invokevirtual 129, 3) := dk_182 0 129 (dk_at dksX2_readsPlace_0 9 rfl rfl)
theorem dX2_readsPlace_12 : decode cX2_readsPlace 12 = .ok (.iastore, 1) := dk_79 (dk_at dksX2_readsPlace_0 12 rfl rfl)
theorem dX2_readsPlace_13 : decode cX2_readsPlace 13 = .ok (.aload_n 0, 1) := dk_42 (dk_at dksX2_readsPlace_0 13 rfl rfl)
theorem dX2_readsPlace_14 : decode cX2_readsPlace 14 = .ok (.getfield 9, 3) := dk_180 0 9 (dk_at dksX2_readsPlace_0 14 rfl rfl)
theorem dX2_readsPlace_17 : decode cX2_readsPlace 17 = .ok (.iload_n 1, 1) := dk_27 (dk_at dksX2_readsPlace_0 17 rfl rfl)
theorem dX2_readsPlace_18 : decode cX2_readsPlace 18 = .ok (.iconst 1, 1) := dk_4 (dk_at dksX2_readsPlace_0 18 rfl rfl)
theorem dX2_readsPlace_19 : decode cX2_readsPlace 19 = .ok (.iadd, 1) := dk_96 (dk_at dksX2_readsPlace_0 19 rfl rfl)
theorem dX2_readsPlace_20 : decode cX2_readsPlace 20 = .ok (.aload_n 0, 1) := dk_42 (dk_at dksX2_readsPlace_0 20 rfl rfl)
theorem dX2_readsPlace_21 : decode cX2_readsPlace 21 = .ok (.iconst 0, 1) := dk_3 (dk_at dksX2_readsPlace_0 21 rfl rfl)
theorem dX2_readsPlace_22 : decode cX2_readsPlace 22 = .ok (.bipush 99, 2) := dk_16 99 (dk_at dksX2_readsPlace_0 22 rfl rfl)
theorem dX2_readsPlace_24 : decode cX2_readsPlace 24 = .ok (.invokevirtual 129, 3) := dk_182 0 129 (dk_at dksX2_readsPlace_1 0 rfl rfl)
theorem dX2_readsPlace_27 : decode cX2_readsPlace 27 = .ok (.iastore, 1) := dk_79 (dk_at dksX2_readsPlace_1 3 rfl rfl)
theorem dX2_readsPlace_28 : decode cX2_readsPlace 28 = .ok (.aload_n 0, 1) := dk_42 (dk_at dksX2_readsPlace_1 4 rfl rfl)
theorem dX2_readsPlace_29 : decode cX2_readsPlace 29 = .ok (.getfield 9, 3) := dk_180 0 9 (dk_at dksX2_readsPlace_1 5 rfl rfl)
theorem dX2_readsPlace_32 : decode cX2_readsPlace 32 = .ok (.iload_n 1, 1) := dk_27 (dk_at dksX2_readsPlace_1 8 rfl rfl)
theorem dX2_readsPlace_33 : decode cX2_readsPlace 33 = .ok (.iconst 2, 1) := dk_5 (dk_at dksX2_readsPlace_1 9 rfl rfl)
theorem dX2_readsPlace_34 : decode cX2_readsPlace 34 = .ok (.iadd, 1) := dk_96 (dk_at dksX2_readsPlace_1 10 rfl rfl)
theorem dX2_readsPlace_35 : decode cX2_readsPlace 35 = .ok (.aload_n 0, 1) := dk_42 (dk_at dksX2_readsPlace_1 11 rfl rfl)
theorem dX2_readsPlace_36 : decode cX2_readsPlace 36 = .ok (.iconst 0, 1) := dk_3 (dk_at dksX2_readsPlace_1 12 rfl rfl)
theorem dX2_readsPlace_37 : decode cX2_readsPlace 37 = .ok (.sipush 999, 3) := dk_17 3 231 (dk_at dksX2_readsPlace_1 13 rfl rfl)
theorem dX2_readsPlace_40 : decode cX2_readsPlace 40 = .ok (.invokevirtual 129, 3) := dk_182 0 129 (dk_at dksX2_readsPlace_1 16 rfl rfl)
theorem dX2_readsPlace_43 : decode cX2_readsPlace 43 = .ok (.iastore, 1) := dk_79 (dk_at dksX2_readsPlace_1 19 rfl rfl)
theorem dX2_readsPlace_44 : decode cX2_readsPlace 44 = .ok (.return_, 1) := dk_177 (dk_at dksX2_readsPlace_1 20 rfl rfl)
abbrev cX2_readsSlope : ByteArray := prog_20_method_29_code
def yX2_readsSlope : MethodName := ⟨RX2, "readsSlope", "()V"⟩
def dkwX2_readsSlope_2 : List UInt8 := [182, 0, 140, 42, 180, 0, 9, 16, 7, 92, 46, 4, 96, 79, 177]
abbrev dktX2_readsSlope_2 : List UInt8 := dkwX2_readsSlope_2 ++ []
def dkwX2_readsSlope_1 : List UInt8 := [42, 180, 0, 30, 16, 10, 27, 96, 42, 16, 10, 27, 182, 0, 137, 80, 42, 16, 40, 6, 27, 104, 96]
abbrev dktX2_readsSlope_1 : List UInt8 := dkwX2_readsSlope_1 ++ dktX2_readsSlope_2
def dkwX2_readsSlope_0 : List UInt8 := [42, 16, 7, 16, 8, 182, 0, 133, 42, 180, 0, 9, 16, 7, 46, 60, 42, 180, 0, 58, 158, 0, 4, 177]
abbrev dktX2_readsSlope_0 : List UInt8 := dkwX2_readsSlope_0 ++ dktX2_readsSlope_1
theorem dksX2_readsSlope_0 : cX2_readsSlope.data.toList.drop 0 = dktX2_readsSlope_0 := by decide +kernel
theorem dksX2_readsSlope_1 : cX2_readsSlope.data.toList.drop 24 = dktX2_readsSlope_1 := dk_seg dksX2_readsSlope_0 24 rfl rfl
theorem dksX2_readsSlope_2 : cX2_readsSlope.data.toList.drop 47 = dktX2_readsSlope_2 := dk_seg dksX2_readsSlope_1 23 rfl rfl
theorem dX2_readsSlope_0 : decode cX2_readsSlope 0 = .ok (.aload_n 0, 1) := dk_42 (dk_at dksX2_readsSlope_0 0 rfl rfl)
theorem dX2_readsSlope_1 : decode cX2_readsSlope 1 = .ok (.bipush 7, 2) := dk_16 7 (dk_at dksX2_readsSlope_0 1 rfl rfl)
theorem dX2_readsSlope_3 : decode cX2_readsSlope 3 = .ok (.bipush 8, 2) := dk_16 8 (dk_at dksX2_readsSlope_0 3 rfl rfl)
theorem dX2_readsSlope_5 : decode cX2_readsSlope 5 = .ok (.invokevirtual 133, 3) := dk_182 0 133 (dk_at dksX2_readsSlope_0 5 rfl rfl)
theorem dX2_readsSlope_8 : decode cX2_readsSlope 8 = .ok (.aload_n 0, 1) := dk_42 (dk_at dksX2_readsSlope_0 8 rfl rfl)
theorem dX2_readsSlope_9 : decode cX2_readsSlope 9 = .ok (.getfield 9, 3) := dk_180 0 9 (dk_at dksX2_readsSlope_0 9 rfl rfl)
theorem dX2_readsSlope_12 : decode cX2_readsSlope 12 = .ok (.bipush 7, 2) := dk_16 7 (dk_at dksX2_readsSlope_0 12 rfl rfl)
theorem dX2_readsSlope_14 : decode cX2_readsSlope 14 = .ok (.iaload, 1) := dk_46 (dk_at dksX2_readsSlope_0 14 rfl rfl)
theorem dX2_readsSlope_15 : decode cX2_readsSlope 15 = .ok (.istore_n 1, 1) := dk_60 (dk_at dksX2_readsSlope_0 15 rfl rfl)
theorem dX2_readsSlope_16 : decode cX2_readsSlope 16 = .ok (.aload_n 0, 1) := dk_42 (dk_at dksX2_readsSlope_0 16 rfl rfl)
theorem dX2_readsSlope_17 : decode cX2_readsSlope 17 = .ok (.getfield 58, 3) := dk_180 0 58 (dk_at dksX2_readsSlope_0 17 rfl rfl)
theorem dX2_readsSlope_20 : decode cX2_readsSlope 20 = .ok (.ifCond .le 4, 3) := dk_158 0 4 (dk_at dksX2_readsSlope_0 20 rfl rfl)
theorem dX2_readsSlope_23 : decode cX2_readsSlope 23 = .ok (.return_, 1) := dk_177 (dk_at dksX2_readsSlope_0 23 rfl rfl)
theorem dX2_readsSlope_24 : decode cX2_readsSlope 24 = .ok (.aload_n 0, 1) := dk_42 (dk_at dksX2_readsSlope_1 0 rfl rfl)
theorem dX2_readsSlope_25 : decode cX2_readsSlope 25 = .ok (.getfield 30, 3) := dk_180 0 30 (dk_at dksX2_readsSlope_1 1 rfl rfl)
theorem dX2_readsSlope_28 : decode cX2_readsSlope 28 = .ok (.bipush 10, 2) := dk_16 10 (dk_at dksX2_readsSlope_1 4 rfl rfl)
theorem dX2_readsSlope_30 : decode cX2_readsSlope 30 = .ok (.iload_n 1, 1) := dk_27 (dk_at dksX2_readsSlope_1 6 rfl rfl)
theorem dX2_readsSlope_31 : decode cX2_readsSlope 31 = .ok (.iadd, 1) := dk_96 (dk_at dksX2_readsSlope_1 7 rfl rfl)
theorem dX2_readsSlope_32 : decode cX2_readsSlope 32 = .ok (.aload_n 0, 1) := dk_42 (dk_at dksX2_readsSlope_1 8 rfl rfl)
theorem dX2_readsSlope_33 : decode cX2_readsSlope 33 = .ok (.bipush 10, 2) := dk_16 10 (dk_at dksX2_readsSlope_1 9 rfl rfl)
theorem dX2_readsSlope_35 : decode cX2_readsSlope 35 = .ok (.iload_n 1, 1) := dk_27 (dk_at dksX2_readsSlope_1 11 rfl rfl)
theorem dX2_readsSlope_36 : decode cX2_readsSlope 36 = .ok (.invokevirtual 137, 3) := dk_182 0 137 (dk_at dksX2_readsSlope_1 12 rfl rfl)
theorem dX2_readsSlope_39 : decode cX2_readsSlope 39 = .ok (.lastore, 1) := dk_80 (dk_at dksX2_readsSlope_1 15 rfl rfl)
theorem dX2_readsSlope_40 : decode cX2_readsSlope 40 = .ok (.aload_n 0, 1) := dk_42 (dk_at dksX2_readsSlope_1 16 rfl rfl)
theorem dX2_readsSlope_41 : decode cX2_readsSlope 41 = .ok (.bipush 40, 2) := dk_16 40 (dk_at dksX2_readsSlope_1 17 rfl rfl)
theorem dX2_readsSlope_43 : decode cX2_readsSlope 43 = .ok (.iconst 3, 1) := dk_6 (dk_at dksX2_readsSlope_1 19 rfl rfl)
theorem dX2_readsSlope_44 : decode cX2_readsSlope 44 = .ok (.iload_n 1, 1) := dk_27 (dk_at dksX2_readsSlope_1 20 rfl rfl)
theorem dX2_readsSlope_45 : decode cX2_readsSlope 45 = .ok (.imul, 1) := dk_104 (dk_at dksX2_readsSlope_1 21 rfl rfl)
theorem dX2_readsSlope_46 : decode cX2_readsSlope 46 = .ok (.iadd, 1) := dk_96 (dk_at dksX2_readsSlope_1 22 rfl rfl)
theorem dX2_readsSlope_47 : decode cX2_readsSlope 47 = .ok (.invokevirtual 140, 3) := dk_182 0 140 (dk_at dksX2_readsSlope_2 0 rfl rfl)
theorem dX2_readsSlope_50 : decode cX2_readsSlope 50 = .ok (.aload_n 0, 1) := dk_42 (dk_at dksX2_readsSlope_2 3 rfl rfl)
theorem dX2_readsSlope_51 : decode cX2_readsSlope 51 = .ok (.getfield 9, 3) := dk_180 0 9 (dk_at dksX2_readsSlope_2 4 rfl rfl)
theorem dX2_readsSlope_54 : decode cX2_readsSlope 54 = .ok (.bipush 7, 2) := dk_16 7 (dk_at dksX2_readsSlope_2 7 rfl rfl)
theorem dX2_readsSlope_56 : decode cX2_readsSlope 56 = .ok (.dup2, 1) := dk_92 (dk_at dksX2_readsSlope_2 9 rfl rfl)
theorem dX2_readsSlope_57 : decode cX2_readsSlope 57 = .ok (.iaload, 1) := dk_46 (dk_at dksX2_readsSlope_2 10 rfl rfl)
theorem dX2_readsSlope_58 : decode cX2_readsSlope 58 = .ok (.iconst 1, 1) := dk_4 (dk_at dksX2_readsSlope_2 11 rfl rfl)
theorem dX2_readsSlope_59 : decode cX2_readsSlope 59 = .ok (.iadd, 1) := dk_96 (dk_at dksX2_readsSlope_2 12 rfl rfl)
theorem dX2_readsSlope_60 : decode cX2_readsSlope 60 = .ok (.iastore, 1) := dk_79 (dk_at dksX2_readsSlope_2 13 rfl rfl)
theorem dX2_readsSlope_61 : decode cX2_readsSlope 61 = .ok (.return_, 1) := dk_177 (dk_at dksX2_readsSlope_2 14 rfl rfl)
abbrev cX2_readsRidge : ByteArray := prog_20_method_30_code
def yX2_readsRidge : MethodName := ⟨RX2, "readsRidge", "()V"⟩
def dkwX2_readsRidge_2 : List UInt8 := [42, 3, 17, 3, 231, 182, 0, 129, 79, 42, 180, 0, 9, 16, 8, 92, 46, 4, 96, 79, 177]
abbrev dktX2_readsRidge_2 : List UInt8 := dkwX2_readsRidge_2 ++ []
def dkwX2_readsRidge_1 : List UInt8 := [158, 0, 4, 177, 42, 180, 0, 9, 27, 42, 4, 16, 99, 182, 0, 129, 79, 42, 180, 0, 9, 27, 4, 96]
abbrev dktX2_readsRidge_1 : List UInt8 := dkwX2_readsRidge_1 ++ dktX2_readsRidge_2
def dkwX2_readsRidge_0 : List UInt8 := [42, 16, 8, 7, 182, 0, 133, 16, 64, 5, 42, 180, 0, 9, 16, 8, 46, 104, 96, 60, 42, 180, 0, 58]
abbrev dktX2_readsRidge_0 : List UInt8 := dkwX2_readsRidge_0 ++ dktX2_readsRidge_1
theorem dksX2_readsRidge_0 : cX2_readsRidge.data.toList.drop 0 = dktX2_readsRidge_0 := by decide +kernel
theorem dksX2_readsRidge_1 : cX2_readsRidge.data.toList.drop 24 = dktX2_readsRidge_1 := dk_seg dksX2_readsRidge_0 24 rfl rfl
theorem dksX2_readsRidge_2 : cX2_readsRidge.data.toList.drop 48 = dktX2_readsRidge_2 := dk_seg dksX2_readsRidge_1 24 rfl rfl
theorem dX2_readsRidge_0 : decode cX2_readsRidge 0 = .ok (.aload_n 0, 1) := dk_42 (dk_at dksX2_readsRidge_0 0 rfl rfl)
theorem dX2_readsRidge_1 : decode cX2_readsRidge 1 = .ok (.bipush 8, 2) := dk_16 8 (dk_at dksX2_readsRidge_0 1 rfl rfl)
theorem dX2_readsRidge_3 : decode cX2_readsRidge 3 = .ok (.iconst 4, 1) := dk_7 (dk_at dksX2_readsRidge_0 3 rfl rfl)
theorem dX2_readsRidge_4 : decode cX2_readsRidge 4 = .ok (.invokevirtual 133, 3) := dk_182 0 133 (dk_at dksX2_readsRidge_0 4 rfl rfl)
theorem dX2_readsRidge_7 : decode cX2_readsRidge 7 = .ok (.bipush 64, 2) := dk_16 64 (dk_at dksX2_readsRidge_0 7 rfl rfl)
theorem dX2_readsRidge_9 : decode cX2_readsRidge 9 = .ok (.iconst 2, 1) := dk_5 (dk_at dksX2_readsRidge_0 9 rfl rfl)
theorem dX2_readsRidge_10 : decode cX2_readsRidge 10 = .ok (.aload_n 0, 1) := dk_42 (dk_at dksX2_readsRidge_0 10 rfl rfl)
theorem dX2_readsRidge_11 : decode cX2_readsRidge 11 = .ok (.getfield 9, 3) := dk_180 0 9 (dk_at dksX2_readsRidge_0 11 rfl rfl)
theorem dX2_readsRidge_14 : decode cX2_readsRidge 14 = .ok (.bipush 8, 2) := dk_16 8 (dk_at dksX2_readsRidge_0 14 rfl rfl)
theorem dX2_readsRidge_16 : decode cX2_readsRidge 16 = .ok (.iaload, 1) := dk_46 (dk_at dksX2_readsRidge_0 16 rfl rfl)
theorem dX2_readsRidge_17 : decode cX2_readsRidge 17 = .ok (.imul, 1) := dk_104 (dk_at dksX2_readsRidge_0 17 rfl rfl)
theorem dX2_readsRidge_18 : decode cX2_readsRidge 18 = .ok (.iadd, 1) := dk_96 (dk_at dksX2_readsRidge_0 18 rfl rfl)
theorem dX2_readsRidge_19 : decode cX2_readsRidge 19 = .ok (.istore_n 1, 1) := dk_60 (dk_at dksX2_readsRidge_0 19 rfl rfl)
theorem dX2_readsRidge_20 : decode cX2_readsRidge 20 = .ok (.aload_n 0, 1) := dk_42 (dk_at dksX2_readsRidge_0 20 rfl rfl)
theorem dX2_readsRidge_21 : decode cX2_readsRidge 21 = .ok (.getfield 58, 3) := dk_180 0 58 (dk_at dksX2_readsRidge_0 21 rfl rfl)
theorem dX2_readsRidge_24 : decode cX2_readsRidge 24 = .ok (.ifCond .le 4, 3) := dk_158 0 4 (dk_at dksX2_readsRidge_1 0 rfl rfl)
theorem dX2_readsRidge_27 : decode cX2_readsRidge 27 = .ok (.return_, 1) := dk_177 (dk_at dksX2_readsRidge_1 3 rfl rfl)
theorem dX2_readsRidge_28 : decode cX2_readsRidge 28 = .ok (.aload_n 0, 1) := dk_42 (dk_at dksX2_readsRidge_1 4 rfl rfl)
theorem dX2_readsRidge_29 : decode cX2_readsRidge 29 = .ok (.getfield 9, 3) := dk_180 0 9 (dk_at dksX2_readsRidge_1 5 rfl rfl)
theorem dX2_readsRidge_32 : decode cX2_readsRidge 32 = .ok (.iload_n 1, 1) := dk_27 (dk_at dksX2_readsRidge_1 8 rfl rfl)
theorem dX2_readsRidge_33 : decode cX2_readsRidge 33 = .ok (.aload_n 0, 1) := dk_42 (dk_at dksX2_readsRidge_1 9 rfl rfl)
theorem dX2_readsRidge_34 : decode cX2_readsRidge 34 = .ok (.iconst 1, 1) := dk_4 (dk_at dksX2_readsRidge_1 10 rfl rfl)
theorem dX2_readsRidge_35 : decode cX2_readsRidge 35 = .ok (.bipush 99, 2) := dk_16 99 (dk_at dksX2_readsRidge_1 11 rfl rfl)
theorem dX2_readsRidge_37 : decode cX2_readsRidge 37 = .ok (.invokevirtual 129, 3) := dk_182 0 129 (dk_at dksX2_readsRidge_1 13 rfl rfl)
theorem dX2_readsRidge_40 : decode cX2_readsRidge 40 = .ok (.iastore, 1) := dk_79 (dk_at dksX2_readsRidge_1 16 rfl rfl)
theorem dX2_readsRidge_41 : decode cX2_readsRidge 41 = .ok (.aload_n 0, 1) := dk_42 (dk_at dksX2_readsRidge_1 17 rfl rfl)
theorem dX2_readsRidge_42 : decode cX2_readsRidge 42 = .ok (.getfield 9, 3) := dk_180 0 9 (dk_at dksX2_readsRidge_1 18 rfl rfl)
theorem dX2_readsRidge_45 : decode cX2_readsRidge 45 = .ok (.iload_n 1, 1) := dk_27 (dk_at dksX2_readsRidge_1 21 rfl rfl)
theorem dX2_readsRidge_46 : decode cX2_readsRidge 46 = .ok (.iconst 1, 1) := dk_4 (dk_at dksX2_readsRidge_1 22 rfl rfl)
theorem dX2_readsRidge_47 : decode cX2_readsRidge 47 = .ok (.iadd, 1) := dk_96 (dk_at dksX2_readsRidge_1 23 rfl rfl)
theorem dX2_readsRidge_48 : decode cX2_readsRidge 48 = .ok (.aload_n 0, 1) := dk_42 (dk_at dksX2_readsRidge_2 0 rfl rfl)
theorem dX2_readsRidge_49 : decode cX2_readsRidge 49 = .ok (.iconst 0, 1) := dk_3 (dk_at dksX2_readsRidge_2 1 rfl rfl)
theorem dX2_readsRidge_50 : decode cX2_readsRidge 50 = .ok (.sipush 999, 3) := dk_17 3 231 (dk_at dksX2_readsRidge_2 2 rfl rfl)
theorem dX2_readsRidge_53 : decode cX2_readsRidge 53 = .ok (.invokevirtual 129, 3) := dk_182 0 129 (dk_at dksX2_readsRidge_2 5 rfl rfl)
theorem dX2_readsRidge_56 : decode cX2_readsRidge 56 = .ok (.iastore, 1) := dk_79 (dk_at dksX2_readsRidge_2 8 rfl rfl)
theorem dX2_readsRidge_57 : decode cX2_readsRidge 57 = .ok (.aload_n 0, 1) := dk_42 (dk_at dksX2_readsRidge_2 9 rfl rfl)
theorem dX2_readsRidge_58 : decode cX2_readsRidge 58 = .ok (.getfield 9, 3) := dk_180 0 9 (dk_at dksX2_readsRidge_2 10 rfl rfl)
theorem dX2_readsRidge_61 : decode cX2_readsRidge 61 = .ok (.bipush 8, 2) := dk_16 8 (dk_at dksX2_readsRidge_2 13 rfl rfl)
theorem dX2_readsRidge_63 : decode cX2_readsRidge 63 = .ok (.dup2, 1) := dk_92 (dk_at dksX2_readsRidge_2 15 rfl rfl)
theorem dX2_readsRidge_64 : decode cX2_readsRidge 64 = .ok (.iaload, 1) := dk_46 (dk_at dksX2_readsRidge_2 16 rfl rfl)
theorem dX2_readsRidge_65 : decode cX2_readsRidge 65 = .ok (.iconst 1, 1) := dk_4 (dk_at dksX2_readsRidge_2 17 rfl rfl)
theorem dX2_readsRidge_66 : decode cX2_readsRidge 66 = .ok (.iadd, 1) := dk_96 (dk_at dksX2_readsRidge_2 18 rfl rfl)
theorem dX2_readsRidge_67 : decode cX2_readsRidge 67 = .ok (.iastore, 1) := dk_79 (dk_at dksX2_readsRidge_2 19 rfl rfl)
theorem dX2_readsRidge_68 : decode cX2_readsRidge 68 = .ok (.return_, 1) := dk_177 (dk_at dksX2_readsRidge_2 20 rfl rfl)
abbrev cX2_readsFog : ByteArray := prog_20_method_31_code
def yX2_readsFog : MethodName := ⟨RX2, "readsFog", "()V"⟩
def dkwX2_readsFog_3 : List UInt8 := [27, 5, 96, 42, 4, 17, 0, 200, 182, 0, 129, 79, 42, 180, 0, 9, 16, 9, 92, 46, 4, 96, 79, 177]
abbrev dktX2_readsFog_3 : List UInt8 := dkwX2_readsFog_3 ++ []
def dkwX2_readsFog_2 : List UInt8 := [180, 0, 9, 27, 4, 96, 42, 42, 180, 0, 9, 27, 46, 17, 19, 136, 182, 0, 129, 79, 42, 180, 0, 9]
abbrev dktX2_readsFog_2 : List UInt8 := dkwX2_readsFog_2 ++ dktX2_readsFog_3
def dkwX2_readsFog_1 : List UInt8 := [180, 0, 58, 158, 0, 4, 177, 42, 180, 0, 9, 27, 42, 3, 17, 19, 136, 182, 0, 129, 79, 42]
abbrev dktX2_readsFog_1 : List UInt8 := dkwX2_readsFog_1 ++ dktX2_readsFog_2
def dkwX2_readsFog_0 : List UInt8 := [42, 16, 9, 16, 6, 182, 0, 133, 16, 72, 6, 42, 180, 0, 9, 16, 9, 46, 104, 96, 60, 42]
abbrev dktX2_readsFog_0 : List UInt8 := dkwX2_readsFog_0 ++ dktX2_readsFog_1
theorem dksX2_readsFog_0 : cX2_readsFog.data.toList.drop 0 = dktX2_readsFog_0 := by decide +kernel
theorem dksX2_readsFog_1 : cX2_readsFog.data.toList.drop 22 = dktX2_readsFog_1 := dk_seg dksX2_readsFog_0 22 rfl rfl
theorem dksX2_readsFog_2 : cX2_readsFog.data.toList.drop 44 = dktX2_readsFog_2 := dk_seg dksX2_readsFog_1 22 rfl rfl
theorem dksX2_readsFog_3 : cX2_readsFog.data.toList.drop 68 = dktX2_readsFog_3 := dk_seg dksX2_readsFog_2 24 rfl rfl
theorem dX2_readsFog_0 : decode cX2_readsFog 0 = .ok (.aload_n 0, 1) := dk_42 (dk_at dksX2_readsFog_0 0 rfl rfl)
theorem dX2_readsFog_1 : decode cX2_readsFog 1 = .ok (.bipush 9, 2) := dk_16 9 (dk_at dksX2_readsFog_0 1 rfl rfl)
theorem dX2_readsFog_3 : decode cX2_readsFog 3 = .ok (.bipush 6, 2) := dk_16 6 (dk_at dksX2_readsFog_0 3 rfl rfl)
theorem dX2_readsFog_5 : decode cX2_readsFog 5 = .ok (.invokevirtual 133, 3) := dk_182 0 133 (dk_at dksX2_readsFog_0 5 rfl rfl)
theorem dX2_readsFog_8 : decode cX2_readsFog 8 = .ok (.bipush 72, 2) := dk_16 72 (dk_at dksX2_readsFog_0 8 rfl rfl)
theorem dX2_readsFog_10 : decode cX2_readsFog 10 = .ok (.iconst 3, 1) := dk_6 (dk_at dksX2_readsFog_0 10 rfl rfl)
theorem dX2_readsFog_11 : decode cX2_readsFog 11 = .ok (.aload_n 0, 1) := dk_42 (dk_at dksX2_readsFog_0 11 rfl rfl)
theorem dX2_readsFog_12 : decode cX2_readsFog 12 = .ok (.getfield 9, 3) := dk_180 0 9 (dk_at dksX2_readsFog_0 12 rfl rfl)
theorem dX2_readsFog_15 : decode cX2_readsFog 15 = .ok (.bipush 9, 2) := dk_16 9 (dk_at dksX2_readsFog_0 15 rfl rfl)
theorem dX2_readsFog_17 : decode cX2_readsFog 17 = .ok (.iaload, 1) := dk_46 (dk_at dksX2_readsFog_0 17 rfl rfl)
theorem dX2_readsFog_18 : decode cX2_readsFog 18 = .ok (.imul, 1) := dk_104 (dk_at dksX2_readsFog_0 18 rfl rfl)
theorem dX2_readsFog_19 : decode cX2_readsFog 19 = .ok (.iadd, 1) := dk_96 (dk_at dksX2_readsFog_0 19 rfl rfl)
theorem dX2_readsFog_20 : decode cX2_readsFog 20 = .ok (.istore_n 1, 1) := dk_60 (dk_at dksX2_readsFog_0 20 rfl rfl)
theorem dX2_readsFog_21 : decode cX2_readsFog 21 = .ok (.aload_n 0, 1) := dk_42 (dk_at dksX2_readsFog_0 21 rfl rfl)
theorem dX2_readsFog_22 : decode cX2_readsFog 22 = .ok (.getfield 58, 3) := dk_180 0 58 (dk_at dksX2_readsFog_1 0 rfl rfl)
theorem dX2_readsFog_25 : decode cX2_readsFog 25 = .ok (.ifCond .le 4, 3) := dk_158 0 4 (dk_at dksX2_readsFog_1 3 rfl rfl)
theorem dX2_readsFog_28 : decode cX2_readsFog 28 = .ok (.return_, 1) := dk_177 (dk_at dksX2_readsFog_1 6 rfl rfl)
theorem dX2_readsFog_29 : decode cX2_readsFog 29 = .ok (.aload_n 0, 1) := dk_42 (dk_at dksX2_readsFog_1 7 rfl rfl)
theorem dX2_readsFog_30 : decode cX2_readsFog 30 = .ok (.getfield 9, 3) := dk_180 0 9 (dk_at dksX2_readsFog_1 8 rfl rfl)
theorem dX2_readsFog_33 : decode cX2_readsFog 33 = .ok (.iload_n 1, 1) := dk_27 (dk_at dksX2_readsFog_1 11 rfl rfl)
theorem dX2_readsFog_34 : decode cX2_readsFog 34 = .ok (.aload_n 0, 1) := dk_42 (dk_at dksX2_readsFog_1 12 rfl rfl)
theorem dX2_readsFog_35 : decode cX2_readsFog 35 = .ok (.iconst 0, 1) := dk_3 (dk_at dksX2_readsFog_1 13 rfl rfl)
theorem dX2_readsFog_36 : decode cX2_readsFog 36 = .ok (.sipush 5000, 3) := dk_17 19 136 (dk_at dksX2_readsFog_1 14 rfl rfl)
theorem dX2_readsFog_39 : decode cX2_readsFog 39 = .ok (.invokevirtual 129, 3) := dk_182 0 129 (dk_at dksX2_readsFog_1 17 rfl rfl)
theorem dX2_readsFog_42 : decode cX2_readsFog 42 = .ok (.iastore, 1) := dk_79 (dk_at dksX2_readsFog_1 20 rfl rfl)
theorem dX2_readsFog_43 : decode cX2_readsFog 43 = .ok (.aload_n 0, 1) := dk_42 (dk_at dksX2_readsFog_1 21 rfl rfl)
theorem dX2_readsFog_44 : decode cX2_readsFog 44 = .ok (.getfield 9, 3) := dk_180 0 9 (dk_at dksX2_readsFog_2 0 rfl rfl)
theorem dX2_readsFog_47 : decode cX2_readsFog 47 = .ok (.iload_n 1, 1) := dk_27 (dk_at dksX2_readsFog_2 3 rfl rfl)
theorem dX2_readsFog_48 : decode cX2_readsFog 48 = .ok (.iconst 1, 1) := dk_4 (dk_at dksX2_readsFog_2 4 rfl rfl)
theorem dX2_readsFog_49 : decode cX2_readsFog 49 = .ok (.iadd, 1) := dk_96 (dk_at dksX2_readsFog_2 5 rfl rfl)
theorem dX2_readsFog_50 : decode cX2_readsFog 50 = .ok (.aload_n 0, 1) := dk_42 (dk_at dksX2_readsFog_2 6 rfl rfl)
theorem dX2_readsFog_51 : decode cX2_readsFog 51 = .ok (.aload_n 0, 1) := dk_42 (dk_at dksX2_readsFog_2 7 rfl rfl)
theorem dX2_readsFog_52 : decode cX2_readsFog 52 = .ok (.getfield 9, 3) := dk_180 0 9 (dk_at dksX2_readsFog_2 8 rfl rfl)
theorem dX2_readsFog_55 : decode cX2_readsFog 55 = .ok (.iload_n 1, 1) := dk_27 (dk_at dksX2_readsFog_2 11 rfl rfl)
theorem dX2_readsFog_56 : decode cX2_readsFog 56 = .ok (.iaload, 1) := dk_46 (dk_at dksX2_readsFog_2 12 rfl rfl)
theorem dX2_readsFog_57 : decode cX2_readsFog 57 = .ok (.sipush 5000, 3) := dk_17 19 136 (dk_at dksX2_readsFog_2 13 rfl rfl)
theorem dX2_readsFog_60 : decode cX2_readsFog 60 = .ok (.invokevirtual 129, 3) := dk_182 0 129 (dk_at dksX2_readsFog_2 16 rfl rfl)
theorem dX2_readsFog_63 : decode cX2_readsFog 63 = .ok (.iastore, 1) := dk_79 (dk_at dksX2_readsFog_2 19 rfl rfl)
theorem dX2_readsFog_64 : decode cX2_readsFog 64 = .ok (.aload_n 0, 1) := dk_42 (dk_at dksX2_readsFog_2 20 rfl rfl)
theorem dX2_readsFog_65 : decode cX2_readsFog 65 = .ok (.getfield 9, 3) := dk_180 0 9 (dk_at dksX2_readsFog_2 21 rfl rfl)
theorem dX2_readsFog_68 : decode cX2_readsFog 68 = .ok (.iload_n 1, 1) := dk_27 (dk_at dksX2_readsFog_3 0 rfl rfl)
theorem dX2_readsFog_69 : decode cX2_readsFog 69 = .ok (.iconst 2, 1) := dk_5 (dk_at dksX2_readsFog_3 1 rfl rfl)
theorem dX2_readsFog_70 : decode cX2_readsFog 70 = .ok (.iadd, 1) := dk_96 (dk_at dksX2_readsFog_3 2 rfl rfl)
theorem dX2_readsFog_71 : decode cX2_readsFog 71 = .ok (.aload_n 0, 1) := dk_42 (dk_at dksX2_readsFog_3 3 rfl rfl)
theorem dX2_readsFog_72 : decode cX2_readsFog 72 = .ok (.iconst 1, 1) := dk_4 (dk_at dksX2_readsFog_3 4 rfl rfl)
theorem dX2_readsFog_73 : decode cX2_readsFog 73 = .ok (.sipush 200, 3) := dk_17 0 200 (dk_at dksX2_readsFog_3 5 rfl rfl)
theorem dX2_readsFog_76 : decode cX2_readsFog 76 = .ok (.invokevirtual 129, 3) := dk_182 0 129 (dk_at dksX2_readsFog_3 8 rfl rfl)
theorem dX2_readsFog_79 : decode cX2_readsFog 79 = .ok (.iastore, 1) := dk_79 (dk_at dksX2_readsFog_3 11 rfl rfl)
theorem dX2_readsFog_80 : decode cX2_readsFog 80 = .ok (.aload_n 0, 1) := dk_42 (dk_at dksX2_readsFog_3 12 rfl rfl)
theorem dX2_readsFog_81 : decode cX2_readsFog 81 = .ok (.getfield 9, 3) := dk_180 0 9 (dk_at dksX2_readsFog_3 13 rfl rfl)
theorem dX2_readsFog_84 : decode cX2_readsFog 84 = .ok (.bipush 9, 2) := dk_16 9 (dk_at dksX2_readsFog_3 16 rfl rfl)
theorem dX2_readsFog_86 : decode cX2_readsFog 86 = .ok (.dup2, 1) := dk_92 (dk_at dksX2_readsFog_3 18 rfl rfl)
theorem dX2_readsFog_87 : decode cX2_readsFog 87 = .ok (.iaload, 1) := dk_46 (dk_at dksX2_readsFog_3 19 rfl rfl)
theorem dX2_readsFog_88 : decode cX2_readsFog 88 = .ok (.iconst 1, 1) := dk_4 (dk_at dksX2_readsFog_3 20 rfl rfl)
theorem dX2_readsFog_89 : decode cX2_readsFog 89 = .ok (.iadd, 1) := dk_96 (dk_at dksX2_readsFog_3 21 rfl rfl)
theorem dX2_readsFog_90 : decode cX2_readsFog 90 = .ok (.iastore, 1) := dk_79 (dk_at dksX2_readsFog_3 22 rfl rfl)
theorem dX2_readsFog_91 : decode cX2_readsFog 91 = .ok (.return_, 1) := dk_177 (dk_at dksX2_readsFog_3 23 rfl rfl)
abbrev cX2_find : ByteArray := prog_20_method_35_code
def yX2_find : MethodName := ⟨RX2, "find", "(IZ)I"⟩
def dkwX2_find_2 : List UInt8 := [42, 27, 3, 42, 180, 0, 9, 16, 6, 46, 182, 0, 195, 172]
abbrev dktX2_find_2 : List UInt8 := dkwX2_find_2 ++ []
def dkwX2_find_1 : List UInt8 := [181, 0, 51, 28, 153, 0, 20, 42, 27, 16, 10, 42, 180, 0, 9, 16, 7, 46, 182, 0, 195, 167, 0, 16]
abbrev dktX2_find_1 : List UInt8 := dkwX2_find_1 ++ dktX2_find_2
def dkwX2_find_0 : List UInt8 := [42, 42, 180, 0, 184, 27, 3, 42, 180, 0, 51, 184, 0, 64, 182, 0, 191, 154, 0, 5, 3, 172, 42, 3]
abbrev dktX2_find_0 : List UInt8 := dkwX2_find_0 ++ dktX2_find_1
theorem dksX2_find_0 : cX2_find.data.toList.drop 0 = dktX2_find_0 := by decide +kernel
theorem dksX2_find_1 : cX2_find.data.toList.drop 24 = dktX2_find_1 := dk_seg dksX2_find_0 24 rfl rfl
theorem dksX2_find_2 : cX2_find.data.toList.drop 48 = dktX2_find_2 := dk_seg dksX2_find_1 24 rfl rfl
theorem dX2_find_0 : decode cX2_find 0 = .ok (.aload_n 0, 1) := dk_42 (dk_at dksX2_find_0 0 rfl rfl)
theorem dX2_find_1 : decode cX2_find 1 = .ok (.aload_n 0, 1) := dk_42 (dk_at dksX2_find_0 1 rfl rfl)
theorem dX2_find_2 : decode cX2_find 2 = .ok (.getfield 184, 3) := dk_180 0 184 (dk_at dksX2_find_0 2 rfl rfl)
theorem dX2_find_5 : decode cX2_find 5 = .ok (.iload_n 1, 1) := dk_27 (dk_at dksX2_find_0 5 rfl rfl)
theorem dX2_find_6 : decode cX2_find 6 = .ok (.iconst 0, 1) := dk_3 (dk_at dksX2_find_0 6 rfl rfl)
theorem dX2_find_7 : decode cX2_find 7 = .ok (.aload_n 0, 1) := dk_42 (dk_at dksX2_find_0 7 rfl rfl)
theorem dX2_find_8 : decode cX2_find 8 = .ok (.getfield 51, 3) := dk_180 0 51 (dk_at dksX2_find_0 8 rfl rfl)
theorem dX2_find_11 : decode cX2_find 11 = .ok (.invokestatic 64, 3) := dk_184 0 64 (dk_at dksX2_find_0 11 rfl rfl)
theorem dX2_find_14 : decode cX2_find 14 = .ok (.invokevirtual 191, 3) := dk_182 0 191 (dk_at dksX2_find_0 14 rfl rfl)
theorem dX2_find_17 : decode cX2_find 17 = .ok (.ifCond .ne 5, 3) := dk_154 0 5 (dk_at dksX2_find_0 17 rfl rfl)
theorem dX2_find_20 : decode cX2_find 20 = .ok (.iconst 0, 1) := dk_3 (dk_at dksX2_find_0 20 rfl rfl)
theorem dX2_find_21 : decode cX2_find 21 = .ok (.ireturn, 1) := dk_172 (dk_at dksX2_find_0 21 rfl rfl)
theorem dX2_find_22 : decode cX2_find 22 = .ok (.aload_n 0, 1) := dk_42 (dk_at dksX2_find_0 22 rfl rfl)
theorem dX2_find_23 : decode cX2_find 23 = .ok (.iconst 0, 1) := dk_3 (dk_at dksX2_find_0 23 rfl rfl)
theorem dX2_find_24 : decode cX2_find 24 = .ok (.putfield 51, 3) := dk_181 0 51 (dk_at dksX2_find_1 0 rfl rfl)
theorem dX2_find_27 : decode cX2_find 27 = .ok (.iload_n 2, 1) := dk_28 (dk_at dksX2_find_1 3 rfl rfl)
theorem dX2_find_28 : decode cX2_find 28 = .ok (.ifCond .eq 20, 3) := dk_153 0 20 (dk_at dksX2_find_1 4 rfl rfl)
theorem dX2_find_31 : decode cX2_find 31 = .ok (.aload_n 0, 1) := dk_42 (dk_at dksX2_find_1 7 rfl rfl)
theorem dX2_find_32 : decode cX2_find 32 = .ok (.iload_n 1, 1) := dk_27 (dk_at dksX2_find_1 8 rfl rfl)
theorem dX2_find_33 : decode cX2_find 33 = .ok (.bipush 10, 2) := dk_16 10 (dk_at dksX2_find_1 9 rfl rfl)
theorem dX2_find_35 : decode cX2_find 35 = .ok (.aload_n 0, 1) := dk_42 (dk_at dksX2_find_1 11 rfl rfl)
theorem dX2_find_36 : decode cX2_find 36 = .ok (.getfield 9, 3) := dk_180 0 9 (dk_at dksX2_find_1 12 rfl rfl)
theorem dX2_find_39 : decode cX2_find 39 = .ok (.bipush 7, 2) := dk_16 7 (dk_at dksX2_find_1 15 rfl rfl)
theorem dX2_find_41 : decode cX2_find 41 = .ok (.iaload, 1) := dk_46 (dk_at dksX2_find_1 17 rfl rfl)
theorem dX2_find_42 : decode cX2_find 42 = .ok (.invokevirtual 195, 3) := dk_182 0 195 (dk_at dksX2_find_1 18 rfl rfl)
theorem dX2_find_45 : decode cX2_find 45 = .ok (.goto 16, 3) := dk_167 0 16 (dk_at dksX2_find_1 21 rfl rfl)
theorem dX2_find_48 : decode cX2_find 48 = .ok (.aload_n 0, 1) := dk_42 (dk_at dksX2_find_2 0 rfl rfl)
theorem dX2_find_49 : decode cX2_find 49 = .ok (.iload_n 1, 1) := dk_27 (dk_at dksX2_find_2 1 rfl rfl)
theorem dX2_find_50 : decode cX2_find 50 = .ok (.iconst 0, 1) := dk_3 (dk_at dksX2_find_2 2 rfl rfl)
theorem dX2_find_51 : decode cX2_find 51 = .ok (.aload_n 0, 1) := dk_42 (dk_at dksX2_find_2 3 rfl rfl)
theorem dX2_find_52 : decode cX2_find 52 = .ok (.getfield 9, 3) := dk_180 0 9 (dk_at dksX2_find_2 4 rfl rfl)
theorem dX2_find_55 : decode cX2_find 55 = .ok (.bipush 6, 2) := dk_16 6 (dk_at dksX2_find_2 7 rfl rfl)
theorem dX2_find_57 : decode cX2_find 57 = .ok (.iaload, 1) := dk_46 (dk_at dksX2_find_2 9 rfl rfl)
theorem dX2_find_58 : decode cX2_find 58 = .ok (.invokevirtual 195, 3) := dk_182 0 195 (dk_at dksX2_find_2 10 rfl rfl)
theorem dX2_find_61 : decode cX2_find 61 = .ok (.ireturn, 1) := dk_172 (dk_at dksX2_find_2 13 rfl rfl)
abbrev cX2_mayTwo : ByteArray := prog_20_method_5_code
def yX2_mayTwo : MethodName := ⟨RX2, "mayTwo", "(ZZ)Z"⟩
def dkwX2_mayTwo_0 : List UInt8 := [42, 27, 28, 4, 182, 0, 47, 172]
abbrev dktX2_mayTwo_0 : List UInt8 := dkwX2_mayTwo_0 ++ []
theorem dksX2_mayTwo_0 : cX2_mayTwo.data.toList.drop 0 = dktX2_mayTwo_0 := by decide +kernel
theorem dX2_mayTwo_0 : decode cX2_mayTwo 0 = .ok (.aload_n 0, 1) := dk_42 (dk_at dksX2_mayTwo_0 0 rfl rfl)
theorem dX2_mayTwo_1 : decode cX2_mayTwo 1 = .ok (.iload_n 1, 1) := dk_27 (dk_at dksX2_mayTwo_0 1 rfl rfl)
theorem dX2_mayTwo_2 : decode cX2_mayTwo 2 = .ok (.iload_n 2, 1) := dk_28 (dk_at dksX2_mayTwo_0 2 rfl rfl)
theorem dX2_mayTwo_3 : decode cX2_mayTwo 3 = .ok (.iconst 1, 1) := dk_4 (dk_at dksX2_mayTwo_0 3 rfl rfl)
theorem dX2_mayTwo_4 : decode cX2_mayTwo 4 = .ok (.invokevirtual 47, 3) := dk_182 0 47 (dk_at dksX2_mayTwo_0 4 rfl rfl)
theorem dX2_mayTwo_7 : decode cX2_mayTwo 7 = .ok (.ireturn, 1) := dk_172 (dk_at dksX2_mayTwo_0 7 rfl rfl)
abbrev cX2_named : ByteArray := prog_20_method_34_code
def yX2_named : MethodName := ⟨RX2, "named", "(III)I"⟩
def dkwX2_named_3 : List UInt8 := [148, 154, 0, 6, 21, 4, 172, 132, 4, 1, 167, 255, 225, 2, 172]
abbrev dktX2_named_3 : List UInt8 := dkwX2_named_3 ++ []
def dkwX2_named_2 : List UInt8 := [3, 54, 4, 21, 4, 29, 162, 0, 31, 42, 180, 0, 26, 28, 21, 4, 96, 47, 42, 3, 27, 182, 0, 85]
abbrev dktX2_named_2 : List UInt8 := dkwX2_named_2 ++ dktX2_named_3
def dkwX2_named_1 : List UInt8 := [180, 0, 33, 21, 4, 51, 16, 97, 16, 122, 184, 0, 64, 154, 0, 5, 2, 172, 132, 4, 1, 167, 255, 228]
abbrev dktX2_named_1 : List UInt8 := dkwX2_named_1 ++ dktX2_named_2
def dkwX2_named_0 : List UInt8 := [27, 4, 16, 6, 184, 0, 64, 154, 0, 5, 2, 172, 3, 54, 4, 21, 4, 27, 162, 0, 28, 42]
abbrev dktX2_named_0 : List UInt8 := dkwX2_named_0 ++ dktX2_named_1
theorem dksX2_named_0 : cX2_named.data.toList.drop 0 = dktX2_named_0 := by decide +kernel
theorem dksX2_named_1 : cX2_named.data.toList.drop 22 = dktX2_named_1 := dk_seg dksX2_named_0 22 rfl rfl
theorem dksX2_named_2 : cX2_named.data.toList.drop 46 = dktX2_named_2 := dk_seg dksX2_named_1 24 rfl rfl
theorem dksX2_named_3 : cX2_named.data.toList.drop 70 = dktX2_named_3 := dk_seg dksX2_named_2 24 rfl rfl
theorem dX2_named_0 : decode cX2_named 0 = .ok (.iload_n 1, 1) := dk_27 (dk_at dksX2_named_0 0 rfl rfl)
theorem dX2_named_1 : decode cX2_named 1 = .ok (.iconst 1, 1) := dk_4 (dk_at dksX2_named_0 1 rfl rfl)
theorem dX2_named_2 : decode cX2_named 2 = .ok (.bipush 6, 2) := dk_16 6 (dk_at dksX2_named_0 2 rfl rfl)
theorem dX2_named_4 : decode cX2_named 4 = .ok (.invokestatic 64, 3) := dk_184 0 64 (dk_at dksX2_named_0 4 rfl rfl)
theorem dX2_named_7 : decode cX2_named 7 = .ok (.ifCond .ne 5, 3) := dk_154 0 5 (dk_at dksX2_named_0 7 rfl rfl)
theorem dX2_named_10 : decode cX2_named 10 = .ok (.iconst (-1), 1) := dk_2 (dk_at dksX2_named_0 10 rfl rfl)
theorem dX2_named_11 : decode cX2_named 11 = .ok (.ireturn, 1) := dk_172 (dk_at dksX2_named_0 11 rfl rfl)
theorem dX2_named_12 : decode cX2_named 12 = .ok (.iconst 0, 1) := dk_3 (dk_at dksX2_named_0 12 rfl rfl)
theorem dX2_named_13 : decode cX2_named 13 = .ok (.istore 4, 2) := dk_54 4 (dk_at dksX2_named_0 13 rfl rfl)
theorem dX2_named_15 : decode cX2_named 15 = .ok (.iload 4, 2) := dk_21 4 (dk_at dksX2_named_0 15 rfl rfl)
theorem dX2_named_17 : decode cX2_named 17 = .ok (.iload_n 1, 1) := dk_27 (dk_at dksX2_named_0 17 rfl rfl)
theorem dX2_named_18 : decode cX2_named 18 = .ok (.if_icmp .ge 28, 3) := dk_162 0 28 (dk_at dksX2_named_0 18 rfl rfl)
theorem dX2_named_21 : decode cX2_named 21 = .ok (.aload_n 0, 1) := dk_42 (dk_at dksX2_named_0 21 rfl rfl)
theorem dX2_named_22 : decode cX2_named 22 = .ok (.getfield 33, 3) := dk_180 0 33 (dk_at dksX2_named_1 0 rfl rfl)
theorem dX2_named_25 : decode cX2_named 25 = .ok (.iload 4, 2) := dk_21 4 (dk_at dksX2_named_1 3 rfl rfl)
theorem dX2_named_27 : decode cX2_named 27 = .ok (.baload, 1) := dk_51 (dk_at dksX2_named_1 5 rfl rfl)
theorem dX2_named_28 : decode cX2_named 28 = .ok (.bipush 97, 2) := dk_16 97 (dk_at dksX2_named_1 6 rfl rfl)
theorem dX2_named_30 : decode cX2_named 30 = .ok (.bipush 122, 2) := dk_16 122 (dk_at dksX2_named_1 8 rfl rfl)
theorem dX2_named_32 : decode cX2_named 32 = .ok (.invokestatic 64, 3) := dk_184 0 64 (dk_at dksX2_named_1 10 rfl rfl)
theorem dX2_named_35 : decode cX2_named 35 = .ok (.ifCond .ne 5, 3) := dk_154 0 5 (dk_at dksX2_named_1 13 rfl rfl)
theorem dX2_named_38 : decode cX2_named 38 = .ok (.iconst (-1), 1) := dk_2 (dk_at dksX2_named_1 16 rfl rfl)
theorem dX2_named_39 : decode cX2_named 39 = .ok (.ireturn, 1) := dk_172 (dk_at dksX2_named_1 17 rfl rfl)
theorem dX2_named_40 : decode cX2_named 40 = .ok (.iinc 4 1, 3) := dk_132 4 1 (dk_at dksX2_named_1 18 rfl rfl)
theorem dX2_named_43 : decode cX2_named 43 = .ok (.goto (-28), 3) := dk_167 255 228 (dk_at dksX2_named_1 21 rfl rfl)
theorem dX2_named_46 : decode cX2_named 46 = .ok (.iconst 0, 1) := dk_3 (dk_at dksX2_named_2 0 rfl rfl)
theorem dX2_named_47 : decode cX2_named 47 = .ok (.istore 4, 2) := dk_54 4 (dk_at dksX2_named_2 1 rfl rfl)
theorem dX2_named_49 : decode cX2_named 49 = .ok (.iload 4, 2) := dk_21 4 (dk_at dksX2_named_2 3 rfl rfl)
theorem dX2_named_51 : decode cX2_named 51 = .ok (.iload_n 3, 1) := dk_29 (dk_at dksX2_named_2 5 rfl rfl)
theorem dX2_named_52 : decode cX2_named 52 = .ok (.if_icmp .ge 31, 3) := dk_162 0 31 (dk_at dksX2_named_2 6 rfl rfl)
theorem dX2_named_55 : decode cX2_named 55 = .ok (.aload_n 0, 1) := dk_42 (dk_at dksX2_named_2 9 rfl rfl)
theorem dX2_named_56 : decode cX2_named 56 = .ok (.getfield 26, 3) := dk_180 0 26 (dk_at dksX2_named_2 10 rfl rfl)
theorem dX2_named_59 : decode cX2_named 59 = .ok (.iload_n 2, 1) := dk_28 (dk_at dksX2_named_2 13 rfl rfl)
theorem dX2_named_60 : decode cX2_named 60 = .ok (.iload 4, 2) := dk_21 4 (dk_at dksX2_named_2 14 rfl rfl)
theorem dX2_named_62 : decode cX2_named 62 = .ok (.iadd, 1) := dk_96 (dk_at dksX2_named_2 16 rfl rfl)
theorem dX2_named_63 : decode cX2_named 63 = .ok (.laload, 1) := dk_47 (dk_at dksX2_named_2 17 rfl rfl)
theorem dX2_named_64 : decode cX2_named 64 = .ok (.aload_n 0, 1) := dk_42 (dk_at dksX2_named_2 18 rfl rfl)
theorem dX2_named_65 : decode cX2_named 65 = .ok (.iconst 0, 1) := dk_3 (dk_at dksX2_named_2 19 rfl rfl)
theorem dX2_named_66 : decode cX2_named 66 = .ok (.iload_n 1, 1) := dk_27 (dk_at dksX2_named_2 20 rfl rfl)
theorem dX2_named_67 : decode cX2_named 67 = .ok (.invokevirtual 85, 3) := dk_182 0 85 (dk_at dksX2_named_2 21 rfl rfl)
theorem dX2_named_70 : decode cX2_named 70 = .ok (.lcmp, 1) := dk_148 (dk_at dksX2_named_3 0 rfl rfl)
theorem dX2_named_71 : decode cX2_named 71 = .ok (.ifCond .ne 6, 3) := dk_154 0 6 (dk_at dksX2_named_3 1 rfl rfl)
theorem dX2_named_74 : decode cX2_named 74 = .ok (.iload 4, 2) := dk_21 4 (dk_at dksX2_named_3 4 rfl rfl)
theorem dX2_named_76 : decode cX2_named 76 = .ok (.ireturn, 1) := dk_172 (dk_at dksX2_named_3 6 rfl rfl)
theorem dX2_named_77 : decode cX2_named 77 = .ok (.iinc 4 1, 3) := dk_132 4 1 (dk_at dksX2_named_3 7 rfl rfl)
theorem dX2_named_80 : decode cX2_named 80 = .ok (.goto (-31), 3) := dk_167 255 225 (dk_at dksX2_named_3 10 rfl rfl)
theorem dX2_named_83 : decode cX2_named 83 = .ok (.iconst (-1), 1) := dk_2 (dk_at dksX2_named_3 13 rfl rfl)
theorem dX2_named_84 : decode cX2_named 84 = .ok (.ireturn, 1) := dk_172 (dk_at dksX2_named_3 14 rfl rfl)
abbrev cX2_count : ByteArray := prog_20_method_74_code
def yX2_count : MethodName := ⟨RX2, "count", "(I)I"⟩
def dkwX2_count_5 : List UInt8 := [182, 1, 34, 172, 42, 182, 1, 37, 172, 42, 180, 0, 9, 16, 92, 27, 96, 16, 7, 100, 46, 172]
abbrev dktX2_count_5 : List UInt8 := dkwX2_count_5 ++ []
def dkwX2_count_4 : List UInt8 := [42, 182, 1, 25, 172, 42, 180, 0, 9, 16, 97, 46, 184, 1, 28, 172, 42, 182, 1, 31, 172, 42]
abbrev dktX2_count_4 : List UInt8 := dkwX2_count_4 ++ dktX2_count_5
def dkwX2_count_3 : List UInt8 := [42, 180, 0, 9, 16, 9, 46, 172, 42, 180, 0, 9, 16, 90, 46, 172, 42, 180, 0, 9, 16, 91, 46, 172]
abbrev dktX2_count_3 : List UInt8 := dkwX2_count_3 ++ dktX2_count_4
def dkwX2_count_2 : List UInt8 := [42, 180, 0, 9, 16, 6, 46, 172, 42, 180, 0, 9, 16, 7, 46, 172, 42, 180, 0, 9, 16, 8, 46, 172]
abbrev dktX2_count_2 : List UInt8 := dkwX2_count_2 ++ dktX2_count_3
def dkwX2_count_1 : List UInt8 := [170, 0, 0, 0, 0, 0, 158, 0, 0, 0, 0, 0, 0, 0, 15, 0, 0, 0, 79, 0, 0, 0, 87, 0, 0, 0, 95, 0, 0, 0, 103, 0, 0, 0, 111, 0, 0, 0, 119, 0, 0, 0, 127, 0, 0, 0, 158, 0, 0, 0, 158, 0, 0, 0, 158, 0, 0, 0, 158, 0, 0, 0, 158, 0, 0, 0, 132, 0, 0, 0, 143, 0, 0, 0, 148, 0, 0, 0, 153]
abbrev dktX2_count_1 : List UInt8 := dkwX2_count_1 ++ dktX2_count_2
def dkwX2_count_0 : List UInt8 := [42, 42, 180, 0, 184, 27, 3, 16, 15, 184, 0, 64, 182, 0, 191, 154, 0, 5, 3, 172, 27]
abbrev dktX2_count_0 : List UInt8 := dkwX2_count_0 ++ dktX2_count_1
theorem dksX2_count_0 : cX2_count.data.toList.drop 0 = dktX2_count_0 := by decide +kernel
theorem dksX2_count_1 : cX2_count.data.toList.drop 21 = dktX2_count_1 := dk_seg dksX2_count_0 21 rfl rfl
theorem dksX2_count_2 : cX2_count.data.toList.drop 100 = dktX2_count_2 := dk_seg dksX2_count_1 79 rfl rfl
theorem dksX2_count_3 : cX2_count.data.toList.drop 124 = dktX2_count_3 := dk_seg dksX2_count_2 24 rfl rfl
theorem dksX2_count_4 : cX2_count.data.toList.drop 148 = dktX2_count_4 := dk_seg dksX2_count_3 24 rfl rfl
theorem dksX2_count_5 : cX2_count.data.toList.drop 170 = dktX2_count_5 := dk_seg dksX2_count_4 22 rfl rfl
theorem dX2_count_0 : decode cX2_count 0 = .ok (.aload_n 0, 1) := dk_42 (dk_at dksX2_count_0 0 rfl rfl)
theorem dX2_count_1 : decode cX2_count 1 = .ok (.aload_n 0, 1) := dk_42 (dk_at dksX2_count_0 1 rfl rfl)
theorem dX2_count_2 : decode cX2_count 2 = .ok (.getfield 184, 3) := dk_180 0 184 (dk_at dksX2_count_0 2 rfl rfl)
theorem dX2_count_5 : decode cX2_count 5 = .ok (.iload_n 1, 1) := dk_27 (dk_at dksX2_count_0 5 rfl rfl)
theorem dX2_count_6 : decode cX2_count 6 = .ok (.iconst 0, 1) := dk_3 (dk_at dksX2_count_0 6 rfl rfl)
theorem dX2_count_7 : decode cX2_count 7 = .ok (.bipush 15, 2) := dk_16 15 (dk_at dksX2_count_0 7 rfl rfl)
theorem dX2_count_9 : decode cX2_count 9 = .ok (.invokestatic 64, 3) := dk_184 0 64 (dk_at dksX2_count_0 9 rfl rfl)
theorem dX2_count_12 : decode cX2_count 12 = .ok (.invokevirtual 191, 3) := dk_182 0 191 (dk_at dksX2_count_0 12 rfl rfl)
theorem dX2_count_15 : decode cX2_count 15 = .ok (.ifCond .ne 5, 3) := dk_154 0 5 (dk_at dksX2_count_0 15 rfl rfl)
theorem dX2_count_18 : decode cX2_count 18 = .ok (.iconst 0, 1) := dk_3 (dk_at dksX2_count_0 18 rfl rfl)
theorem dX2_count_19 : decode cX2_count 19 = .ok (.ireturn, 1) := dk_172 (dk_at dksX2_count_0 19 rfl rfl)
theorem dX2_count_20 : decode cX2_count 20 = .ok (.iload_n 1, 1) := dk_27 (dk_at dksX2_count_0 20 rfl rfl)
theorem dX2_count_21 : decode cX2_count 21 = .ok (.tableswitch 158 0 15 #[79, 87, 95, 103, 111, 119, 127, 158, 158, 158, 158, 158, 132, 143, 148, 153], 79) := by decide +kernel
theorem dX2_count_100 : decode cX2_count 100 = .ok (.aload_n 0, 1) := dk_42 (dk_at dksX2_count_2 0 rfl rfl)
theorem dX2_count_101 : decode cX2_count 101 = .ok (.getfield 9, 3) := dk_180 0 9 (dk_at dksX2_count_2 1 rfl rfl)
theorem dX2_count_104 : decode cX2_count 104 = .ok (.bipush 6, 2) := dk_16 6 (dk_at dksX2_count_2 4 rfl rfl)
theorem dX2_count_106 : decode cX2_count 106 = .ok (.iaload, 1) := dk_46 (dk_at dksX2_count_2 6 rfl rfl)
theorem dX2_count_107 : decode cX2_count 107 = .ok (.ireturn, 1) := dk_172 (dk_at dksX2_count_2 7 rfl rfl)
theorem dX2_count_108 : decode cX2_count 108 = .ok (.aload_n 0, 1) := dk_42 (dk_at dksX2_count_2 8 rfl rfl)
theorem dX2_count_109 : decode cX2_count 109 = .ok (.getfield 9, 3) := dk_180 0 9 (dk_at dksX2_count_2 9 rfl rfl)
theorem dX2_count_112 : decode cX2_count 112 = .ok (.bipush 7, 2) := dk_16 7 (dk_at dksX2_count_2 12 rfl rfl)
theorem dX2_count_114 : decode cX2_count 114 = .ok (.iaload, 1) := dk_46 (dk_at dksX2_count_2 14 rfl rfl)
theorem dX2_count_115 : decode cX2_count 115 = .ok (.ireturn, 1) := dk_172 (dk_at dksX2_count_2 15 rfl rfl)
theorem dX2_count_116 : decode cX2_count 116 = .ok (.aload_n 0, 1) := dk_42 (dk_at dksX2_count_2 16 rfl rfl)
theorem dX2_count_117 : decode cX2_count 117 = .ok (.getfield 9, 3) := dk_180 0 9 (dk_at dksX2_count_2 17 rfl rfl)
theorem dX2_count_120 : decode cX2_count 120 = .ok (.bipush 8, 2) := dk_16 8 (dk_at dksX2_count_2 20 rfl rfl)
theorem dX2_count_122 : decode cX2_count 122 = .ok (.iaload, 1) := dk_46 (dk_at dksX2_count_2 22 rfl rfl)
theorem dX2_count_123 : decode cX2_count 123 = .ok (.ireturn, 1) := dk_172 (dk_at dksX2_count_2 23 rfl rfl)
theorem dX2_count_124 : decode cX2_count 124 = .ok (.aload_n 0, 1) := dk_42 (dk_at dksX2_count_3 0 rfl rfl)
theorem dX2_count_125 : decode cX2_count 125 = .ok (.getfield 9, 3) := dk_180 0 9 (dk_at dksX2_count_3 1 rfl rfl)
theorem dX2_count_128 : decode cX2_count 128 = .ok (.bipush 9, 2) := dk_16 9 (dk_at dksX2_count_3 4 rfl rfl)
theorem dX2_count_130 : decode cX2_count 130 = .ok (.iaload, 1) := dk_46 (dk_at dksX2_count_3 6 rfl rfl)
theorem dX2_count_131 : decode cX2_count 131 = .ok (.ireturn, 1) := dk_172 (dk_at dksX2_count_3 7 rfl rfl)
theorem dX2_count_132 : decode cX2_count 132 = .ok (.aload_n 0, 1) := dk_42 (dk_at dksX2_count_3 8 rfl rfl)
theorem dX2_count_133 : decode cX2_count 133 = .ok (.getfield 9, 3) := dk_180 0 9 (dk_at dksX2_count_3 9 rfl rfl)
theorem dX2_count_136 : decode cX2_count 136 = .ok (.bipush 90, 2) := dk_16 90 (dk_at dksX2_count_3 12 rfl rfl)
theorem dX2_count_138 : decode cX2_count 138 = .ok (.iaload, 1) := dk_46 (dk_at dksX2_count_3 14 rfl rfl)
theorem dX2_count_139 : decode cX2_count 139 = .ok (.ireturn, 1) := dk_172 (dk_at dksX2_count_3 15 rfl rfl)
theorem dX2_count_140 : decode cX2_count 140 = .ok (.aload_n 0, 1) := dk_42 (dk_at dksX2_count_3 16 rfl rfl)
theorem dX2_count_141 : decode cX2_count 141 = .ok (.getfield 9, 3) := dk_180 0 9 (dk_at dksX2_count_3 17 rfl rfl)
theorem dX2_count_144 : decode cX2_count 144 = .ok (.bipush 91, 2) := dk_16 91 (dk_at dksX2_count_3 20 rfl rfl)
theorem dX2_count_146 : decode cX2_count 146 = .ok (.iaload, 1) := dk_46 (dk_at dksX2_count_3 22 rfl rfl)
theorem dX2_count_147 : decode cX2_count 147 = .ok (.ireturn, 1) := dk_172 (dk_at dksX2_count_3 23 rfl rfl)
theorem dX2_count_148 : decode cX2_count 148 = .ok (.aload_n 0, 1) := dk_42 (dk_at dksX2_count_4 0 rfl rfl)
theorem dX2_count_149 : decode cX2_count 149 = .ok (.invokevirtual 281, 3) := dk_182 1 25 (dk_at dksX2_count_4 1 rfl rfl)
theorem dX2_count_152 : decode cX2_count 152 = .ok (.ireturn, 1) := dk_172 (dk_at dksX2_count_4 4 rfl rfl)
theorem dX2_count_153 : decode cX2_count 153 = .ok (.aload_n 0, 1) := dk_42 (dk_at dksX2_count_4 5 rfl rfl)
theorem dX2_count_154 : decode cX2_count 154 = .ok (.getfield 9, 3) := dk_180 0 9 (dk_at dksX2_count_4 6 rfl rfl)
theorem dX2_count_157 : decode cX2_count 157 = .ok (.bipush 97, 2) := dk_16 97 (dk_at dksX2_count_4 9 rfl rfl)
theorem dX2_count_159 : decode cX2_count 159 = .ok (.iaload, 1) := dk_46 (dk_at dksX2_count_4 11 rfl rfl)
theorem dX2_count_160 : decode cX2_count 160 = .ok (.invokestatic 284, 3) := dk_184 1 28 (dk_at dksX2_count_4 12 rfl rfl)
theorem dX2_count_163 : decode cX2_count 163 = .ok (.ireturn, 1) := dk_172 (dk_at dksX2_count_4 15 rfl rfl)
theorem dX2_count_164 : decode cX2_count 164 = .ok (.aload_n 0, 1) := dk_42 (dk_at dksX2_count_4 16 rfl rfl)
theorem dX2_count_165 : decode cX2_count 165 = .ok (.invokevirtual 287, 3) := dk_182 1 31 (dk_at dksX2_count_4 17 rfl rfl)
theorem dX2_count_168 : decode cX2_count 168 = .ok (.ireturn, 1) := dk_172 (dk_at dksX2_count_4 20 rfl rfl)
theorem dX2_count_169 : decode cX2_count 169 = .ok (.aload_n 0, 1) := dk_42 (dk_at dksX2_count_4 21 rfl rfl)
theorem dX2_count_170 : decode cX2_count 170 = .ok (.invokevirtual 290, 3) := dk_182 1 34 (dk_at dksX2_count_5 0 rfl rfl)
theorem dX2_count_173 : decode cX2_count 173 = .ok (.ireturn, 1) := dk_172 (dk_at dksX2_count_5 3 rfl rfl)
theorem dX2_count_174 : decode cX2_count 174 = .ok (.aload_n 0, 1) := dk_42 (dk_at dksX2_count_5 4 rfl rfl)
theorem dX2_count_175 : decode cX2_count 175 = .ok (.invokevirtual 293, 3) := dk_182 1 37 (dk_at dksX2_count_5 5 rfl rfl)
theorem dX2_count_178 : decode cX2_count 178 = .ok (.ireturn, 1) := dk_172 (dk_at dksX2_count_5 8 rfl rfl)
theorem dX2_count_179 : decode cX2_count 179 = .ok (.aload_n 0, 1) := dk_42 (dk_at dksX2_count_5 9 rfl rfl)
theorem dX2_count_180 : decode cX2_count 180 = .ok (.getfield 9, 3) := dk_180 0 9 (dk_at dksX2_count_5 10 rfl rfl)
theorem dX2_count_183 : decode cX2_count 183 = .ok (.bipush 92, 2) := dk_16 92 (dk_at dksX2_count_5 13 rfl rfl)
theorem dX2_count_185 : decode cX2_count 185 = .ok (.iload_n 1, 1) := dk_27 (dk_at dksX2_count_5 15 rfl rfl)
theorem dX2_count_186 : decode cX2_count 186 = .ok (.iadd, 1) := dk_96 (dk_at dksX2_count_5 16 rfl rfl)
theorem dX2_count_187 : decode cX2_count 187 = .ok (.bipush 7, 2) := dk_16 7 (dk_at dksX2_count_5 17 rfl rfl)
theorem dX2_count_189 : decode cX2_count 189 = .ok (.isub, 1) := dk_100 (dk_at dksX2_count_5 19 rfl rfl)
theorem dX2_count_190 : decode cX2_count 190 = .ok (.iaload, 1) := dk_46 (dk_at dksX2_count_5 20 rfl rfl)
theorem dX2_count_191 : decode cX2_count 191 = .ok (.ireturn, 1) := dk_172 (dk_at dksX2_count_5 21 rfl rfl)
abbrev cX2_allVotes : ByteArray := prog_20_method_61_code
def yX2_allVotes : MethodName := ⟨RX2, "allVotes", "()I"⟩
def dkwX2_allVotes_1 : List UInt8 := [27, 172]
abbrev dktX2_allVotes_1 : List UInt8 := dkwX2_allVotes_1 ++ []
def dkwX2_allVotes_0 : List UInt8 := [3, 60, 3, 61, 28, 16, 10, 162, 0, 17, 27, 42, 28, 182, 0, 251, 96, 60, 132, 2, 1, 167, 255, 239]
abbrev dktX2_allVotes_0 : List UInt8 := dkwX2_allVotes_0 ++ dktX2_allVotes_1
theorem dksX2_allVotes_0 : cX2_allVotes.data.toList.drop 0 = dktX2_allVotes_0 := by decide +kernel
theorem dksX2_allVotes_1 : cX2_allVotes.data.toList.drop 24 = dktX2_allVotes_1 := dk_seg dksX2_allVotes_0 24 rfl rfl
theorem dX2_allVotes_0 : decode cX2_allVotes 0 = .ok (.iconst 0, 1) := dk_3 (dk_at dksX2_allVotes_0 0 rfl rfl)
theorem dX2_allVotes_1 : decode cX2_allVotes 1 = .ok (.istore_n 1, 1) := dk_60 (dk_at dksX2_allVotes_0 1 rfl rfl)
theorem dX2_allVotes_2 : decode cX2_allVotes 2 = .ok (.iconst 0, 1) := dk_3 (dk_at dksX2_allVotes_0 2 rfl rfl)
theorem dX2_allVotes_3 : decode cX2_allVotes 3 = .ok (.istore_n 2, 1) := dk_61 (dk_at dksX2_allVotes_0 3 rfl rfl)
theorem dX2_allVotes_4 : decode cX2_allVotes 4 = .ok (.iload_n 2, 1) := dk_28 (dk_at dksX2_allVotes_0 4 rfl rfl)
theorem dX2_allVotes_5 : decode cX2_allVotes 5 = .ok (.bipush 10, 2) := dk_16 10 (dk_at dksX2_allVotes_0 5 rfl rfl)
theorem dX2_allVotes_7 : decode cX2_allVotes 7 = .ok (.if_icmp .ge 17, 3) := dk_162 0 17 (dk_at dksX2_allVotes_0 7 rfl rfl)
theorem dX2_allVotes_10 : decode cX2_allVotes 10 = .ok (.iload_n 1, 1) := dk_27 (dk_at dksX2_allVotes_0 10 rfl rfl)
theorem dX2_allVotes_11 : decode cX2_allVotes 11 = .ok (.aload_n 0, 1) := dk_42 (dk_at dksX2_allVotes_0 11 rfl rfl)
theorem dX2_allVotes_12 : decode cX2_allVotes 12 = .ok (.iload_n 2, 1) := dk_28 (dk_at dksX2_allVotes_0 12 rfl rfl)
theorem dX2_allVotes_13 : decode cX2_allVotes 13 = .ok (.invokevirtual 251, 3) := dk_182 0 251 (dk_at dksX2_allVotes_0 13 rfl rfl)
theorem dX2_allVotes_16 : decode cX2_allVotes 16 = .ok (.iadd, 1) := dk_96 (dk_at dksX2_allVotes_0 16 rfl rfl)
theorem dX2_allVotes_17 : decode cX2_allVotes 17 = .ok (.istore_n 1, 1) := dk_60 (dk_at dksX2_allVotes_0 17 rfl rfl)
theorem dX2_allVotes_18 : decode cX2_allVotes 18 = .ok (.iinc 2 1, 3) := dk_132 2 1 (dk_at dksX2_allVotes_0 18 rfl rfl)
theorem dX2_allVotes_21 : decode cX2_allVotes 21 = .ok (.goto (-17), 3) := dk_167 255 239 (dk_at dksX2_allVotes_0 21 rfl rfl)
theorem dX2_allVotes_24 : decode cX2_allVotes 24 = .ok (.iload_n 1, 1) := dk_27 (dk_at dksX2_allVotes_1 0 rfl rfl)
theorem dX2_allVotes_25 : decode cX2_allVotes 25 = .ok (.ireturn, 1) := dk_172 (dk_at dksX2_allVotes_1 1 rfl rfl)
abbrev cX2_votesBy : ByteArray := prog_20_method_59_code
def yX2_votesBy : MethodName := ⟨RX2, "votesBy", "(I)I"⟩
def dkwX2_votesBy_1 : List UInt8 := [180, 0, 9, 29, 46, 158, 0, 7, 4, 167, 0, 4, 3, 96, 61, 132, 3, 1, 167, 255, 224, 28, 172]
abbrev dktX2_votesBy_1 : List UInt8 := dkwX2_votesBy_1 ++ []
def dkwX2_votesBy_0 : List UInt8 := [3, 61, 27, 3, 3, 184, 0, 226, 62, 29, 27, 4, 96, 3, 3, 184, 0, 226, 162, 0, 26, 28, 42]
abbrev dktX2_votesBy_0 : List UInt8 := dkwX2_votesBy_0 ++ dktX2_votesBy_1
theorem dksX2_votesBy_0 : cX2_votesBy.data.toList.drop 0 = dktX2_votesBy_0 := by decide +kernel
theorem dksX2_votesBy_1 : cX2_votesBy.data.toList.drop 23 = dktX2_votesBy_1 := dk_seg dksX2_votesBy_0 23 rfl rfl
theorem dX2_votesBy_0 : decode cX2_votesBy 0 = .ok (.iconst 0, 1) := dk_3 (dk_at dksX2_votesBy_0 0 rfl rfl)
theorem dX2_votesBy_1 : decode cX2_votesBy 1 = .ok (.istore_n 2, 1) := dk_61 (dk_at dksX2_votesBy_0 1 rfl rfl)
theorem dX2_votesBy_2 : decode cX2_votesBy 2 = .ok (.iload_n 1, 1) := dk_27 (dk_at dksX2_votesBy_0 2 rfl rfl)
theorem dX2_votesBy_3 : decode cX2_votesBy 3 = .ok (.iconst 0, 1) := dk_3 (dk_at dksX2_votesBy_0 3 rfl rfl)
theorem dX2_votesBy_4 : decode cX2_votesBy 4 = .ok (.iconst 0, 1) := dk_3 (dk_at dksX2_votesBy_0 4 rfl rfl)
theorem dX2_votesBy_5 : decode cX2_votesBy 5 = .ok (.invokestatic 226, 3) := dk_184 0 226 (dk_at dksX2_votesBy_0 5 rfl rfl)
theorem dX2_votesBy_8 : decode cX2_votesBy 8 = .ok (.istore_n 3, 1) := dk_62 (dk_at dksX2_votesBy_0 8 rfl rfl)
theorem dX2_votesBy_9 : decode cX2_votesBy 9 = .ok (.iload_n 3, 1) := dk_29 (dk_at dksX2_votesBy_0 9 rfl rfl)
theorem dX2_votesBy_10 : decode cX2_votesBy 10 = .ok (.iload_n 1, 1) := dk_27 (dk_at dksX2_votesBy_0 10 rfl rfl)
theorem dX2_votesBy_11 : decode cX2_votesBy 11 = .ok (.iconst 1, 1) := dk_4 (dk_at dksX2_votesBy_0 11 rfl rfl)
theorem dX2_votesBy_12 : decode cX2_votesBy 12 = .ok (.iadd, 1) := dk_96 (dk_at dksX2_votesBy_0 12 rfl rfl)
theorem dX2_votesBy_13 : decode cX2_votesBy 13 = .ok (.iconst 0, 1) := dk_3 (dk_at dksX2_votesBy_0 13 rfl rfl)
theorem dX2_votesBy_14 : decode cX2_votesBy 14 = .ok (.iconst 0, 1) := dk_3 (dk_at dksX2_votesBy_0 14 rfl rfl)
theorem dX2_votesBy_15 : decode cX2_votesBy 15 = .ok (.invokestatic 226, 3) := dk_184 0 226 (dk_at dksX2_votesBy_0 15 rfl rfl)
theorem dX2_votesBy_18 : decode cX2_votesBy 18 = .ok (.if_icmp .ge 26, 3) := dk_162 0 26 (dk_at dksX2_votesBy_0 18 rfl rfl)
theorem dX2_votesBy_21 : decode cX2_votesBy 21 = .ok (.iload_n 2, 1) := dk_28 (dk_at dksX2_votesBy_0 21 rfl rfl)
theorem dX2_votesBy_22 : decode cX2_votesBy 22 = .ok (.aload_n 0, 1) := dk_42 (dk_at dksX2_votesBy_0 22 rfl rfl)
theorem dX2_votesBy_23 : decode cX2_votesBy 23 = .ok (.getfield 9, 3) := dk_180 0 9 (dk_at dksX2_votesBy_1 0 rfl rfl)
theorem dX2_votesBy_26 : decode cX2_votesBy 26 = .ok (.iload_n 3, 1) := dk_29 (dk_at dksX2_votesBy_1 3 rfl rfl)
theorem dX2_votesBy_27 : decode cX2_votesBy 27 = .ok (.iaload, 1) := dk_46 (dk_at dksX2_votesBy_1 4 rfl rfl)
theorem dX2_votesBy_28 : decode cX2_votesBy 28 = .ok (.ifCond .le 7, 3) := dk_158 0 7 (dk_at dksX2_votesBy_1 5 rfl rfl)
theorem dX2_votesBy_31 : decode cX2_votesBy 31 = .ok (.iconst 1, 1) := dk_4 (dk_at dksX2_votesBy_1 8 rfl rfl)
theorem dX2_votesBy_32 : decode cX2_votesBy 32 = .ok (.goto 4, 3) := dk_167 0 4 (dk_at dksX2_votesBy_1 9 rfl rfl)
theorem dX2_votesBy_35 : decode cX2_votesBy 35 = .ok (.iconst 0, 1) := dk_3 (dk_at dksX2_votesBy_1 12 rfl rfl)
theorem dX2_votesBy_36 : decode cX2_votesBy 36 = .ok (.iadd, 1) := dk_96 (dk_at dksX2_votesBy_1 13 rfl rfl)
theorem dX2_votesBy_37 : decode cX2_votesBy 37 = .ok (.istore_n 2, 1) := dk_61 (dk_at dksX2_votesBy_1 14 rfl rfl)
theorem dX2_votesBy_38 : decode cX2_votesBy 38 = .ok (.iinc 3 1, 3) := dk_132 3 1 (dk_at dksX2_votesBy_1 15 rfl rfl)
theorem dX2_votesBy_41 : decode cX2_votesBy 41 = .ok (.goto (-32), 3) := dk_167 255 224 (dk_at dksX2_votesBy_1 18 rfl rfl)
theorem dX2_votesBy_44 : decode cX2_votesBy 44 = .ok (.iload_n 2, 1) := dk_28 (dk_at dksX2_votesBy_1 21 rfl rfl)
theorem dX2_votesBy_45 : decode cX2_votesBy 45 = .ok (.ireturn, 1) := dk_172 (dk_at dksX2_votesBy_1 22 rfl rfl)
abbrev cX2_voteAt : ByteArray := prog_20_method_48_code
def yX2_voteAt : MethodName := ⟨RX2, "voteAt", "(III)I"⟩
def dkwX2_voteAt_0 : List UInt8 := [17, 1, 2, 16, 80, 26, 104, 96, 16, 8, 27, 104, 96, 28, 96, 172]
abbrev dktX2_voteAt_0 : List UInt8 := dkwX2_voteAt_0 ++ []
theorem dksX2_voteAt_0 : cX2_voteAt.data.toList.drop 0 = dktX2_voteAt_0 := by decide +kernel
theorem dX2_voteAt_0 : decode cX2_voteAt 0 = .ok (.sipush 258, 3) := dk_17 1 2 (dk_at dksX2_voteAt_0 0 rfl rfl)
theorem dX2_voteAt_3 : decode cX2_voteAt 3 = .ok (.bipush 80, 2) := dk_16 80 (dk_at dksX2_voteAt_0 3 rfl rfl)
theorem dX2_voteAt_5 : decode cX2_voteAt 5 = .ok (.iload_n 0, 1) := dk_26 (dk_at dksX2_voteAt_0 5 rfl rfl)
theorem dX2_voteAt_6 : decode cX2_voteAt 6 = .ok (.imul, 1) := dk_104 (dk_at dksX2_voteAt_0 6 rfl rfl)
theorem dX2_voteAt_7 : decode cX2_voteAt 7 = .ok (.iadd, 1) := dk_96 (dk_at dksX2_voteAt_0 7 rfl rfl)
theorem dX2_voteAt_8 : decode cX2_voteAt 8 = .ok (.bipush 8, 2) := dk_16 8 (dk_at dksX2_voteAt_0 8 rfl rfl)
theorem dX2_voteAt_10 : decode cX2_voteAt 10 = .ok (.iload_n 1, 1) := dk_27 (dk_at dksX2_voteAt_0 10 rfl rfl)
theorem dX2_voteAt_11 : decode cX2_voteAt 11 = .ok (.imul, 1) := dk_104 (dk_at dksX2_voteAt_0 11 rfl rfl)
theorem dX2_voteAt_12 : decode cX2_voteAt 12 = .ok (.iadd, 1) := dk_96 (dk_at dksX2_voteAt_0 12 rfl rfl)
theorem dX2_voteAt_13 : decode cX2_voteAt 13 = .ok (.iload_n 2, 1) := dk_28 (dk_at dksX2_voteAt_0 13 rfl rfl)
theorem dX2_voteAt_14 : decode cX2_voteAt 14 = .ok (.iadd, 1) := dk_96 (dk_at dksX2_voteAt_0 14 rfl rfl)
theorem dX2_voteAt_15 : decode cX2_voteAt 15 = .ok (.ireturn, 1) := dk_172 (dk_at dksX2_voteAt_0 15 rfl rfl)
abbrev cX2_bitsOfSlopes : ByteArray := prog_20_method_70_code
def yX2_bitsOfSlopes : MethodName := ⟨RX2, "bitsOfSlopes", "(I)I"⟩
def dkwX2_bitsOfSlopes_1 : List UInt8 := [27, 172]
abbrev dktX2_bitsOfSlopes_1 : List UInt8 := dkwX2_bitsOfSlopes_1 ++ []
def dkwX2_bitsOfSlopes_0 : List UInt8 := [3, 60, 3, 61, 28, 16, 8, 162, 0, 17, 27, 26, 28, 122, 4, 126, 96, 60, 132, 2, 1, 167, 255, 239]
abbrev dktX2_bitsOfSlopes_0 : List UInt8 := dkwX2_bitsOfSlopes_0 ++ dktX2_bitsOfSlopes_1
theorem dksX2_bitsOfSlopes_0 : cX2_bitsOfSlopes.data.toList.drop 0 = dktX2_bitsOfSlopes_0 := by decide +kernel
theorem dksX2_bitsOfSlopes_1 : cX2_bitsOfSlopes.data.toList.drop 24 = dktX2_bitsOfSlopes_1 := dk_seg dksX2_bitsOfSlopes_0 24 rfl rfl
theorem dX2_bitsOfSlopes_0 : decode cX2_bitsOfSlopes 0 = .ok (.iconst 0, 1) := dk_3 (dk_at dksX2_bitsOfSlopes_0 0 rfl rfl)
theorem dX2_bitsOfSlopes_1 : decode cX2_bitsOfSlopes 1 = .ok (.istore_n 1, 1) := dk_60 (dk_at dksX2_bitsOfSlopes_0 1 rfl rfl)
theorem dX2_bitsOfSlopes_2 : decode cX2_bitsOfSlopes 2 = .ok (.iconst 0, 1) := dk_3 (dk_at dksX2_bitsOfSlopes_0 2 rfl rfl)
theorem dX2_bitsOfSlopes_3 : decode cX2_bitsOfSlopes 3 = .ok (.istore_n 2, 1) := dk_61 (dk_at dksX2_bitsOfSlopes_0 3 rfl rfl)
theorem dX2_bitsOfSlopes_4 : decode cX2_bitsOfSlopes 4 = .ok (.iload_n 2, 1) := dk_28 (dk_at dksX2_bitsOfSlopes_0 4 rfl rfl)
theorem dX2_bitsOfSlopes_5 : decode cX2_bitsOfSlopes 5 = .ok (.bipush 8, 2) := dk_16 8 (dk_at dksX2_bitsOfSlopes_0 5 rfl rfl)
theorem dX2_bitsOfSlopes_7 : decode cX2_bitsOfSlopes 7 = .ok (.if_icmp .ge 17, 3) := dk_162 0 17 (dk_at dksX2_bitsOfSlopes_0 7 rfl rfl)
theorem dX2_bitsOfSlopes_10 : decode cX2_bitsOfSlopes 10 = .ok (.iload_n 1, 1) := dk_27 (dk_at dksX2_bitsOfSlopes_0 10 rfl rfl)
theorem dX2_bitsOfSlopes_11 : decode cX2_bitsOfSlopes 11 = .ok (.iload_n 0, 1) := dk_26 (dk_at dksX2_bitsOfSlopes_0 11 rfl rfl)
theorem dX2_bitsOfSlopes_12 : decode cX2_bitsOfSlopes 12 = .ok (.iload_n 2, 1) := dk_28 (dk_at dksX2_bitsOfSlopes_0 12 rfl rfl)
theorem dX2_bitsOfSlopes_13 : decode cX2_bitsOfSlopes 13 = .ok (.ishr, 1) := dk_122 (dk_at dksX2_bitsOfSlopes_0 13 rfl rfl)
theorem dX2_bitsOfSlopes_14 : decode cX2_bitsOfSlopes 14 = .ok (.iconst 1, 1) := dk_4 (dk_at dksX2_bitsOfSlopes_0 14 rfl rfl)
theorem dX2_bitsOfSlopes_15 : decode cX2_bitsOfSlopes 15 = .ok (.iand, 1) := dk_126 (dk_at dksX2_bitsOfSlopes_0 15 rfl rfl)
theorem dX2_bitsOfSlopes_16 : decode cX2_bitsOfSlopes 16 = .ok (.iadd, 1) := dk_96 (dk_at dksX2_bitsOfSlopes_0 16 rfl rfl)
theorem dX2_bitsOfSlopes_17 : decode cX2_bitsOfSlopes 17 = .ok (.istore_n 1, 1) := dk_60 (dk_at dksX2_bitsOfSlopes_0 17 rfl rfl)
theorem dX2_bitsOfSlopes_18 : decode cX2_bitsOfSlopes 18 = .ok (.iinc 2 1, 3) := dk_132 2 1 (dk_at dksX2_bitsOfSlopes_0 18 rfl rfl)
theorem dX2_bitsOfSlopes_21 : decode cX2_bitsOfSlopes 21 = .ok (.goto (-17), 3) := dk_167 255 239 (dk_at dksX2_bitsOfSlopes_0 21 rfl rfl)
theorem dX2_bitsOfSlopes_24 : decode cX2_bitsOfSlopes 24 = .ok (.iload_n 1, 1) := dk_27 (dk_at dksX2_bitsOfSlopes_1 0 rfl rfl)
theorem dX2_bitsOfSlopes_25 : decode cX2_bitsOfSlopes 25 = .ok (.ireturn, 1) := dk_172 (dk_at dksX2_bitsOfSlopes_1 1 rfl rfl)
abbrev cX2_pairs : ByteArray := prog_20_method_71_code
def yX2_pairs : MethodName := ⟨RX2, "pairs", "()I"⟩
def dkwX2_pairs_2 : List UInt8 := [167, 255, 212, 27, 172]
abbrev dktX2_pairs_2 : List UInt8 := dkwX2_pairs_2 ++ []
def dkwX2_pairs_1 : List UInt8 := [28, 29, 182, 0, 217, 153, 0, 7, 4, 167, 0, 4, 3, 96, 60, 132, 3, 1, 167, 255, 231, 132, 2, 1]
abbrev dktX2_pairs_1 : List UInt8 := dkwX2_pairs_1 ++ dktX2_pairs_2
def dkwX2_pairs_0 : List UInt8 := [3, 60, 3, 61, 28, 42, 180, 0, 9, 16, 6, 46, 162, 0, 39, 3, 62, 29, 28, 162, 0, 26, 27, 42]
abbrev dktX2_pairs_0 : List UInt8 := dkwX2_pairs_0 ++ dktX2_pairs_1
theorem dksX2_pairs_0 : cX2_pairs.data.toList.drop 0 = dktX2_pairs_0 := by decide +kernel
theorem dksX2_pairs_1 : cX2_pairs.data.toList.drop 24 = dktX2_pairs_1 := dk_seg dksX2_pairs_0 24 rfl rfl
theorem dksX2_pairs_2 : cX2_pairs.data.toList.drop 48 = dktX2_pairs_2 := dk_seg dksX2_pairs_1 24 rfl rfl
theorem dX2_pairs_0 : decode cX2_pairs 0 = .ok (.iconst 0, 1) := dk_3 (dk_at dksX2_pairs_0 0 rfl rfl)
theorem dX2_pairs_1 : decode cX2_pairs 1 = .ok (.istore_n 1, 1) := dk_60 (dk_at dksX2_pairs_0 1 rfl rfl)
theorem dX2_pairs_2 : decode cX2_pairs 2 = .ok (.iconst 0, 1) := dk_3 (dk_at dksX2_pairs_0 2 rfl rfl)
theorem dX2_pairs_3 : decode cX2_pairs 3 = .ok (.istore_n 2, 1) := dk_61 (dk_at dksX2_pairs_0 3 rfl rfl)
theorem dX2_pairs_4 : decode cX2_pairs 4 = .ok (.iload_n 2, 1) := dk_28 (dk_at dksX2_pairs_0 4 rfl rfl)
theorem dX2_pairs_5 : decode cX2_pairs 5 = .ok (.aload_n 0, 1) := dk_42 (dk_at dksX2_pairs_0 5 rfl rfl)
theorem dX2_pairs_6 : decode cX2_pairs 6 = .ok (.getfield 9, 3) := dk_180 0 9 (dk_at dksX2_pairs_0 6 rfl rfl)
theorem dX2_pairs_9 : decode cX2_pairs 9 = .ok (.bipush 6, 2) := dk_16 6 (dk_at dksX2_pairs_0 9 rfl rfl)
theorem dX2_pairs_11 : decode cX2_pairs 11 = .ok (.iaload, 1) := dk_46 (dk_at dksX2_pairs_0 11 rfl rfl)
theorem dX2_pairs_12 : decode cX2_pairs 12 = .ok (.if_icmp .ge 39, 3) := dk_162 0 39 (dk_at dksX2_pairs_0 12 rfl rfl)
theorem dX2_pairs_15 : decode cX2_pairs 15 = .ok (.iconst 0, 1) := dk_3 (dk_at dksX2_pairs_0 15 rfl rfl)
theorem dX2_pairs_16 : decode cX2_pairs 16 = .ok (.istore_n 3, 1) := dk_62 (dk_at dksX2_pairs_0 16 rfl rfl)
theorem dX2_pairs_17 : decode cX2_pairs 17 = .ok (.iload_n 3, 1) := dk_29 (dk_at dksX2_pairs_0 17 rfl rfl)
theorem dX2_pairs_18 : decode cX2_pairs 18 = .ok (.iload_n 2, 1) := dk_28 (dk_at dksX2_pairs_0 18 rfl rfl)
theorem dX2_pairs_19 : decode cX2_pairs 19 = .ok (.if_icmp .ge 26, 3) := dk_162 0 26 (dk_at dksX2_pairs_0 19 rfl rfl)
theorem dX2_pairs_22 : decode cX2_pairs 22 = .ok (.iload_n 1, 1) := dk_27 (dk_at dksX2_pairs_0 22 rfl rfl)
theorem dX2_pairs_23 : decode cX2_pairs 23 = .ok (.aload_n 0, 1) := dk_42 (dk_at dksX2_pairs_0 23 rfl rfl)
theorem dX2_pairs_24 : decode cX2_pairs 24 = .ok (.iload_n 2, 1) := dk_28 (dk_at dksX2_pairs_1 0 rfl rfl)
theorem dX2_pairs_25 : decode cX2_pairs 25 = .ok (.iload_n 3, 1) := dk_29 (dk_at dksX2_pairs_1 1 rfl rfl)
theorem dX2_pairs_26 : decode cX2_pairs 26 = .ok (.invokevirtual 217, 3) := dk_182 0 217 (dk_at dksX2_pairs_1 2 rfl rfl)
theorem dX2_pairs_29 : decode cX2_pairs 29 = .ok (.ifCond .eq 7, 3) := dk_153 0 7 (dk_at dksX2_pairs_1 5 rfl rfl)
theorem dX2_pairs_32 : decode cX2_pairs 32 = .ok (.iconst 1, 1) := dk_4 (dk_at dksX2_pairs_1 8 rfl rfl)
theorem dX2_pairs_33 : decode cX2_pairs 33 = .ok (.goto 4, 3) := dk_167 0 4 (dk_at dksX2_pairs_1 9 rfl rfl)
theorem dX2_pairs_36 : decode cX2_pairs 36 = .ok (.iconst 0, 1) := dk_3 (dk_at dksX2_pairs_1 12 rfl rfl)
theorem dX2_pairs_37 : decode cX2_pairs 37 = .ok (.iadd, 1) := dk_96 (dk_at dksX2_pairs_1 13 rfl rfl)
theorem dX2_pairs_38 : decode cX2_pairs 38 = .ok (.istore_n 1, 1) := dk_60 (dk_at dksX2_pairs_1 14 rfl rfl)
theorem dX2_pairs_39 : decode cX2_pairs 39 = .ok (.iinc 3 1, 3) := dk_132 3 1 (dk_at dksX2_pairs_1 15 rfl rfl)
theorem dX2_pairs_42 : decode cX2_pairs 42 = .ok (.goto (-25), 3) := dk_167 255 231 (dk_at dksX2_pairs_1 18 rfl rfl)
theorem dX2_pairs_45 : decode cX2_pairs 45 = .ok (.iinc 2 1, 3) := dk_132 2 1 (dk_at dksX2_pairs_1 21 rfl rfl)
theorem dX2_pairs_48 : decode cX2_pairs 48 = .ok (.goto (-44), 3) := dk_167 255 212 (dk_at dksX2_pairs_2 0 rfl rfl)
theorem dX2_pairs_51 : decode cX2_pairs 51 = .ok (.iload_n 1, 1) := dk_27 (dk_at dksX2_pairs_2 3 rfl rfl)
theorem dX2_pairs_52 : decode cX2_pairs 52 = .ok (.ireturn, 1) := dk_172 (dk_at dksX2_pairs_2 4 rfl rfl)
abbrev cX2_seeOneAnother : ByteArray := prog_20_method_43_code
def yX2_seeOneAnother : MethodName := ⟨RX2, "seeOneAnother", "(II)Z"⟩
def dkwX2_seeOneAnother_1 : List UInt8 := [3, 172]
abbrev dktX2_seeOneAnother_1 : List UInt8 := dkwX2_seeOneAnother_1 ++ []
def dkwX2_seeOneAnother_0 : List UInt8 := [27, 28, 159, 0, 18, 42, 27, 184, 0, 210, 28, 184, 0, 210, 182, 0, 213, 153, 0, 7, 4, 167, 0, 4]
abbrev dktX2_seeOneAnother_0 : List UInt8 := dkwX2_seeOneAnother_0 ++ dktX2_seeOneAnother_1
theorem dksX2_seeOneAnother_0 : cX2_seeOneAnother.data.toList.drop 0 = dktX2_seeOneAnother_0 := by decide +kernel
theorem dksX2_seeOneAnother_1 : cX2_seeOneAnother.data.toList.drop 24 = dktX2_seeOneAnother_1 := dk_seg dksX2_seeOneAnother_0 24 rfl rfl
theorem dX2_seeOneAnother_0 : decode cX2_seeOneAnother 0 = .ok (.iload_n 1, 1) := dk_27 (dk_at dksX2_seeOneAnother_0 0 rfl rfl)
theorem dX2_seeOneAnother_1 : decode cX2_seeOneAnother 1 = .ok (.iload_n 2, 1) := dk_28 (dk_at dksX2_seeOneAnother_0 1 rfl rfl)
theorem dX2_seeOneAnother_2 : decode cX2_seeOneAnother 2 = .ok (.if_icmp .eq 18, 3) := dk_159 0 18 (dk_at dksX2_seeOneAnother_0 2 rfl rfl)
theorem dX2_seeOneAnother_5 : decode cX2_seeOneAnother 5 = .ok (.aload_n 0, 1) := dk_42 (dk_at dksX2_seeOneAnother_0 5 rfl rfl)
theorem dX2_seeOneAnother_6 : decode cX2_seeOneAnother 6 = .ok (.iload_n 1, 1) := dk_27 (dk_at dksX2_seeOneAnother_0 6 rfl rfl)
theorem dX2_seeOneAnother_7 : decode cX2_seeOneAnother 7 = .ok (.invokestatic 210, 3) := dk_184 0 210 (dk_at dksX2_seeOneAnother_0 7 rfl rfl)
theorem dX2_seeOneAnother_10 : decode cX2_seeOneAnother 10 = .ok (.iload_n 2, 1) := dk_28 (dk_at dksX2_seeOneAnother_0 10 rfl rfl)
theorem dX2_seeOneAnother_11 : decode cX2_seeOneAnother 11 = .ok (.invokestatic 210, 3) := dk_184 0 210 (dk_at dksX2_seeOneAnother_0 11 rfl rfl)
theorem dX2_seeOneAnother_14 : decode cX2_seeOneAnother 14 = .ok (.invokevirtual 213, 3) := dk_182 0 213 (dk_at dksX2_seeOneAnother_0 14 rfl rfl)
theorem dX2_seeOneAnother_17 : decode cX2_seeOneAnother 17 = .ok (.ifCond .eq 7, 3) := dk_153 0 7 (dk_at dksX2_seeOneAnother_0 17 rfl rfl)
theorem dX2_seeOneAnother_20 : decode cX2_seeOneAnother 20 = .ok (.iconst 1, 1) := dk_4 (dk_at dksX2_seeOneAnother_0 20 rfl rfl)
theorem dX2_seeOneAnother_21 : decode cX2_seeOneAnother 21 = .ok (.goto 4, 3) := dk_167 0 4 (dk_at dksX2_seeOneAnother_0 21 rfl rfl)
theorem dX2_seeOneAnother_24 : decode cX2_seeOneAnother 24 = .ok (.iconst 0, 1) := dk_3 (dk_at dksX2_seeOneAnother_1 0 rfl rfl)
theorem dX2_seeOneAnother_25 : decode cX2_seeOneAnother 25 = .ok (.ireturn, 1) := dk_172 (dk_at dksX2_seeOneAnother_1 1 rfl rfl)
abbrev cX2_cabinAt : ByteArray := prog_20_method_38_code
def yX2_cabinAt : MethodName := ⟨RX2, "cabinAt", "(I)I"⟩
def dkwX2_cabinAt_0 : List UInt8 := [16, 10, 6, 26, 104, 96, 172]
abbrev dktX2_cabinAt_0 : List UInt8 := dkwX2_cabinAt_0 ++ []
theorem dksX2_cabinAt_0 : cX2_cabinAt.data.toList.drop 0 = dktX2_cabinAt_0 := by decide +kernel
theorem dX2_cabinAt_0 : decode cX2_cabinAt 0 = .ok (.bipush 10, 2) := dk_16 10 (dk_at dksX2_cabinAt_0 0 rfl rfl)
theorem dX2_cabinAt_2 : decode cX2_cabinAt 2 = .ok (.iconst 3, 1) := dk_6 (dk_at dksX2_cabinAt_0 2 rfl rfl)
theorem dX2_cabinAt_3 : decode cX2_cabinAt 3 = .ok (.iload_n 0, 1) := dk_26 (dk_at dksX2_cabinAt_0 3 rfl rfl)
theorem dX2_cabinAt_4 : decode cX2_cabinAt 4 = .ok (.imul, 1) := dk_104 (dk_at dksX2_cabinAt_0 4 rfl rfl)
theorem dX2_cabinAt_5 : decode cX2_cabinAt 5 = .ok (.iadd, 1) := dk_96 (dk_at dksX2_cabinAt_0 5 rfl rfl)
theorem dX2_cabinAt_6 : decode cX2_cabinAt 6 = .ok (.ireturn, 1) := dk_172 (dk_at dksX2_cabinAt_0 6 rfl rfl)
abbrev cX2_see : ByteArray := prog_20_method_42_code
def yX2_see : MethodName := ⟨RX2, "see", "(II)Z"⟩
def dkwX2_see_2 : List UInt8 := [96, 21, 5, 21, 5, 104, 163, 0, 16, 42, 27, 28, 182, 0, 207, 154, 0, 7, 4, 167, 0, 4, 3, 172]
abbrev dktX2_see_2 : List UInt8 := dkwX2_see_2 ++ []
def dkwX2_see_1 : List UInt8 := [180, 0, 9, 28, 4, 96, 46, 100, 54, 4, 42, 182, 0, 204, 54, 5, 29, 29, 104, 21, 4, 21, 4, 104]
abbrev dktX2_see_1 : List UInt8 := dkwX2_see_1 ++ dktX2_see_2
def dkwX2_see_0 : List UInt8 := [42, 180, 0, 9, 27, 46, 42, 180, 0, 9, 28, 46, 100, 62, 42, 180, 0, 9, 27, 4, 96, 46, 42]
abbrev dktX2_see_0 : List UInt8 := dkwX2_see_0 ++ dktX2_see_1
theorem dksX2_see_0 : cX2_see.data.toList.drop 0 = dktX2_see_0 := by decide +kernel
theorem dksX2_see_1 : cX2_see.data.toList.drop 23 = dktX2_see_1 := dk_seg dksX2_see_0 23 rfl rfl
theorem dksX2_see_2 : cX2_see.data.toList.drop 47 = dktX2_see_2 := dk_seg dksX2_see_1 24 rfl rfl
theorem dX2_see_0 : decode cX2_see 0 = .ok (.aload_n 0, 1) := dk_42 (dk_at dksX2_see_0 0 rfl rfl)
theorem dX2_see_1 : decode cX2_see 1 = .ok (.getfield 9, 3) := dk_180 0 9 (dk_at dksX2_see_0 1 rfl rfl)
theorem dX2_see_4 : decode cX2_see 4 = .ok (.iload_n 1, 1) := dk_27 (dk_at dksX2_see_0 4 rfl rfl)
theorem dX2_see_5 : decode cX2_see 5 = .ok (.iaload, 1) := dk_46 (dk_at dksX2_see_0 5 rfl rfl)
theorem dX2_see_6 : decode cX2_see 6 = .ok (.aload_n 0, 1) := dk_42 (dk_at dksX2_see_0 6 rfl rfl)
theorem dX2_see_7 : decode cX2_see 7 = .ok (.getfield 9, 3) := dk_180 0 9 (dk_at dksX2_see_0 7 rfl rfl)
theorem dX2_see_10 : decode cX2_see 10 = .ok (.iload_n 2, 1) := dk_28 (dk_at dksX2_see_0 10 rfl rfl)
theorem dX2_see_11 : decode cX2_see 11 = .ok (.iaload, 1) := dk_46 (dk_at dksX2_see_0 11 rfl rfl)
theorem dX2_see_12 : decode cX2_see 12 = .ok (.isub, 1) := dk_100 (dk_at dksX2_see_0 12 rfl rfl)
theorem dX2_see_13 : decode cX2_see 13 = .ok (.istore_n 3, 1) := dk_62 (dk_at dksX2_see_0 13 rfl rfl)
theorem dX2_see_14 : decode cX2_see 14 = .ok (.aload_n 0, 1) := dk_42 (dk_at dksX2_see_0 14 rfl rfl)
theorem dX2_see_15 : decode cX2_see 15 = .ok (.getfield 9, 3) := dk_180 0 9 (dk_at dksX2_see_0 15 rfl rfl)
theorem dX2_see_18 : decode cX2_see 18 = .ok (.iload_n 1, 1) := dk_27 (dk_at dksX2_see_0 18 rfl rfl)
theorem dX2_see_19 : decode cX2_see 19 = .ok (.iconst 1, 1) := dk_4 (dk_at dksX2_see_0 19 rfl rfl)
theorem dX2_see_20 : decode cX2_see 20 = .ok (.iadd, 1) := dk_96 (dk_at dksX2_see_0 20 rfl rfl)
theorem dX2_see_21 : decode cX2_see 21 = .ok (.iaload, 1) := dk_46 (dk_at dksX2_see_0 21 rfl rfl)
theorem dX2_see_22 : decode cX2_see 22 = .ok (.aload_n 0, 1) := dk_42 (dk_at dksX2_see_0 22 rfl rfl)
theorem dX2_see_23 : decode cX2_see 23 = .ok (.getfield 9, 3) := dk_180 0 9 (dk_at dksX2_see_1 0 rfl rfl)
theorem dX2_see_26 : decode cX2_see 26 = .ok (.iload_n 2, 1) := dk_28 (dk_at dksX2_see_1 3 rfl rfl)
theorem dX2_see_27 : decode cX2_see 27 = .ok (.iconst 1, 1) := dk_4 (dk_at dksX2_see_1 4 rfl rfl)
theorem dX2_see_28 : decode cX2_see 28 = .ok (.iadd, 1) := dk_96 (dk_at dksX2_see_1 5 rfl rfl)
theorem dX2_see_29 : decode cX2_see 29 = .ok (.iaload, 1) := dk_46 (dk_at dksX2_see_1 6 rfl rfl)
theorem dX2_see_30 : decode cX2_see 30 = .ok (.isub, 1) := dk_100 (dk_at dksX2_see_1 7 rfl rfl)
theorem dX2_see_31 : decode cX2_see 31 = .ok (.istore 4, 2) := dk_54 4 (dk_at dksX2_see_1 8 rfl rfl)
theorem dX2_see_33 : decode cX2_see 33 = .ok (.aload_n 0, 1) := dk_42 (dk_at dksX2_see_1 10 rfl rfl)
theorem dX2_see_34 : decode cX2_see 34 = .ok (.invokevirtual 204, 3) := dk_182 0 204 (dk_at dksX2_see_1 11 rfl rfl)
theorem dX2_see_37 : decode cX2_see 37 = .ok (.istore 5, 2) := dk_54 5 (dk_at dksX2_see_1 14 rfl rfl)
theorem dX2_see_39 : decode cX2_see 39 = .ok (.iload_n 3, 1) := dk_29 (dk_at dksX2_see_1 16 rfl rfl)
theorem dX2_see_40 : decode cX2_see 40 = .ok (.iload_n 3, 1) := dk_29 (dk_at dksX2_see_1 17 rfl rfl)
theorem dX2_see_41 : decode cX2_see 41 = .ok (.imul, 1) := dk_104 (dk_at dksX2_see_1 18 rfl rfl)
theorem dX2_see_42 : decode cX2_see 42 = .ok (.iload 4, 2) := dk_21 4 (dk_at dksX2_see_1 19 rfl rfl)
theorem dX2_see_44 : decode cX2_see 44 = .ok (.iload 4, 2) := dk_21 4 (dk_at dksX2_see_1 21 rfl rfl)
theorem dX2_see_46 : decode cX2_see 46 = .ok (.imul, 1) := dk_104 (dk_at dksX2_see_1 23 rfl rfl)
theorem dX2_see_47 : decode cX2_see 47 = .ok (.iadd, 1) := dk_96 (dk_at dksX2_see_2 0 rfl rfl)
theorem dX2_see_48 : decode cX2_see 48 = .ok (.iload 5, 2) := dk_21 5 (dk_at dksX2_see_2 1 rfl rfl)
theorem dX2_see_50 : decode cX2_see 50 = .ok (.iload 5, 2) := dk_21 5 (dk_at dksX2_see_2 3 rfl rfl)
theorem dX2_see_52 : decode cX2_see 52 = .ok (.imul, 1) := dk_104 (dk_at dksX2_see_2 5 rfl rfl)
theorem dX2_see_53 : decode cX2_see 53 = .ok (.if_icmp .gt 16, 3) := dk_163 0 16 (dk_at dksX2_see_2 6 rfl rfl)
theorem dX2_see_56 : decode cX2_see 56 = .ok (.aload_n 0, 1) := dk_42 (dk_at dksX2_see_2 9 rfl rfl)
theorem dX2_see_57 : decode cX2_see 57 = .ok (.iload_n 1, 1) := dk_27 (dk_at dksX2_see_2 10 rfl rfl)
theorem dX2_see_58 : decode cX2_see 58 = .ok (.iload_n 2, 1) := dk_28 (dk_at dksX2_see_2 11 rfl rfl)
theorem dX2_see_59 : decode cX2_see 59 = .ok (.invokevirtual 207, 3) := dk_182 0 207 (dk_at dksX2_see_2 12 rfl rfl)
theorem dX2_see_62 : decode cX2_see 62 = .ok (.ifCond .ne 7, 3) := dk_154 0 7 (dk_at dksX2_see_2 15 rfl rfl)
theorem dX2_see_65 : decode cX2_see 65 = .ok (.iconst 1, 1) := dk_4 (dk_at dksX2_see_2 18 rfl rfl)
theorem dX2_see_66 : decode cX2_see 66 = .ok (.goto 4, 3) := dk_167 0 4 (dk_at dksX2_see_2 19 rfl rfl)
theorem dX2_see_69 : decode cX2_see 69 = .ok (.iconst 0, 1) := dk_3 (dk_at dksX2_see_2 22 rfl rfl)
theorem dX2_see_70 : decode cX2_see 70 = .ok (.ireturn, 1) := dk_172 (dk_at dksX2_see_2 23 rfl rfl)
abbrev cX2_sightNow : ByteArray := prog_20_method_40_code
def yX2_sightNow : MethodName := ⟨RX2, "sightNow", "()I"⟩
def dkwX2_sightNow_3 : List UInt8 := [167, 255, 195, 3, 27, 184, 0, 199, 172]
abbrev dktX2_sightNow_3 : List UInt8 := dkwX2_sightNow_3 ++ []
def dkwX2_sightNow_2 : List UInt8 := [46, 184, 0, 64, 153, 0, 14, 42, 180, 0, 9, 28, 5, 96, 46, 167, 0, 4, 3, 100, 60, 132, 2, 3]
abbrev dktX2_sightNow_2 : List UInt8 := dkwX2_sightNow_2 ++ dktX2_sightNow_3
def dkwX2_sightNow_1 : List UInt8 := [162, 0, 51, 27, 42, 180, 0, 9, 16, 90, 46, 42, 180, 0, 9, 28, 46, 42, 180, 0, 9, 28, 4, 96]
abbrev dktX2_sightNow_1 : List UInt8 := dkwX2_sightNow_1 ++ dktX2_sightNow_2
def dkwX2_sightNow_0 : List UInt8 := [42, 180, 0, 9, 3, 46, 60, 16, 72, 61, 28, 16, 72, 6, 42, 180, 0, 9, 16, 9, 46, 104, 96]
abbrev dktX2_sightNow_0 : List UInt8 := dkwX2_sightNow_0 ++ dktX2_sightNow_1
theorem dksX2_sightNow_0 : cX2_sightNow.data.toList.drop 0 = dktX2_sightNow_0 := by decide +kernel
theorem dksX2_sightNow_1 : cX2_sightNow.data.toList.drop 23 = dktX2_sightNow_1 := dk_seg dksX2_sightNow_0 23 rfl rfl
theorem dksX2_sightNow_2 : cX2_sightNow.data.toList.drop 47 = dktX2_sightNow_2 := dk_seg dksX2_sightNow_1 24 rfl rfl
theorem dksX2_sightNow_3 : cX2_sightNow.data.toList.drop 71 = dktX2_sightNow_3 := dk_seg dksX2_sightNow_2 24 rfl rfl
theorem dX2_sightNow_0 : decode cX2_sightNow 0 = .ok (.aload_n 0, 1) := dk_42 (dk_at dksX2_sightNow_0 0 rfl rfl)
theorem dX2_sightNow_1 : decode cX2_sightNow 1 = .ok (.getfield 9, 3) := dk_180 0 9 (dk_at dksX2_sightNow_0 1 rfl rfl)
theorem dX2_sightNow_4 : decode cX2_sightNow 4 = .ok (.iconst 0, 1) := dk_3 (dk_at dksX2_sightNow_0 4 rfl rfl)
theorem dX2_sightNow_5 : decode cX2_sightNow 5 = .ok (.iaload, 1) := dk_46 (dk_at dksX2_sightNow_0 5 rfl rfl)
theorem dX2_sightNow_6 : decode cX2_sightNow 6 = .ok (.istore_n 1, 1) := dk_60 (dk_at dksX2_sightNow_0 6 rfl rfl)
theorem dX2_sightNow_7 : decode cX2_sightNow 7 = .ok (.bipush 72, 2) := dk_16 72 (dk_at dksX2_sightNow_0 7 rfl rfl)
theorem dX2_sightNow_9 : decode cX2_sightNow 9 = .ok (.istore_n 2, 1) := dk_61 (dk_at dksX2_sightNow_0 9 rfl rfl)
theorem dX2_sightNow_10 : decode cX2_sightNow 10 = .ok (.iload_n 2, 1) := dk_28 (dk_at dksX2_sightNow_0 10 rfl rfl)
theorem dX2_sightNow_11 : decode cX2_sightNow 11 = .ok (.bipush 72, 2) := dk_16 72 (dk_at dksX2_sightNow_0 11 rfl rfl)
theorem dX2_sightNow_13 : decode cX2_sightNow 13 = .ok (.iconst 3, 1) := dk_6 (dk_at dksX2_sightNow_0 13 rfl rfl)
theorem dX2_sightNow_14 : decode cX2_sightNow 14 = .ok (.aload_n 0, 1) := dk_42 (dk_at dksX2_sightNow_0 14 rfl rfl)
theorem dX2_sightNow_15 : decode cX2_sightNow 15 = .ok (.getfield 9, 3) := dk_180 0 9 (dk_at dksX2_sightNow_0 15 rfl rfl)
theorem dX2_sightNow_18 : decode cX2_sightNow 18 = .ok (.bipush 9, 2) := dk_16 9 (dk_at dksX2_sightNow_0 18 rfl rfl)
theorem dX2_sightNow_20 : decode cX2_sightNow 20 = .ok (.iaload, 1) := dk_46 (dk_at dksX2_sightNow_0 20 rfl rfl)
theorem dX2_sightNow_21 : decode cX2_sightNow 21 = .ok (.imul, 1) := dk_104 (dk_at dksX2_sightNow_0 21 rfl rfl)
theorem dX2_sightNow_22 : decode cX2_sightNow 22 = .ok (.iadd, 1) := dk_96 (dk_at dksX2_sightNow_0 22 rfl rfl)
theorem dX2_sightNow_23 : decode cX2_sightNow 23 = .ok (.if_icmp .ge 51, 3) := dk_162 0 51 (dk_at dksX2_sightNow_1 0 rfl rfl)
theorem dX2_sightNow_26 : decode cX2_sightNow 26 = .ok (.iload_n 1, 1) := dk_27 (dk_at dksX2_sightNow_1 3 rfl rfl)
theorem dX2_sightNow_27 : decode cX2_sightNow 27 = .ok (.aload_n 0, 1) := dk_42 (dk_at dksX2_sightNow_1 4 rfl rfl)
theorem dX2_sightNow_28 : decode cX2_sightNow 28 = .ok (.getfield 9, 3) := dk_180 0 9 (dk_at dksX2_sightNow_1 5 rfl rfl)
theorem dX2_sightNow_31 : decode cX2_sightNow 31 = .ok (.bipush 90, 2) := dk_16 90 (dk_at dksX2_sightNow_1 8 rfl rfl)
theorem dX2_sightNow_33 : decode cX2_sightNow 33 = .ok (.iaload, 1) := dk_46 (dk_at dksX2_sightNow_1 10 rfl rfl)
theorem dX2_sightNow_34 : decode cX2_sightNow 34 = .ok (.aload_n 0, 1) := dk_42 (dk_at dksX2_sightNow_1 11 rfl rfl)
theorem dX2_sightNow_35 : decode cX2_sightNow 35 = .ok (.getfield 9, 3) := dk_180 0 9 (dk_at dksX2_sightNow_1 12 rfl rfl)
theorem dX2_sightNow_38 : decode cX2_sightNow 38 = .ok (.iload_n 2, 1) := dk_28 (dk_at dksX2_sightNow_1 15 rfl rfl)
theorem dX2_sightNow_39 : decode cX2_sightNow 39 = .ok (.iaload, 1) := dk_46 (dk_at dksX2_sightNow_1 16 rfl rfl)
theorem dX2_sightNow_40 : decode cX2_sightNow 40 = .ok (.aload_n 0, 1) := dk_42 (dk_at dksX2_sightNow_1 17 rfl rfl)
theorem dX2_sightNow_41 : decode cX2_sightNow 41 = .ok (.getfield 9, 3) := dk_180 0 9 (dk_at dksX2_sightNow_1 18 rfl rfl)
theorem dX2_sightNow_44 : decode cX2_sightNow 44 = .ok (.iload_n 2, 1) := dk_28 (dk_at dksX2_sightNow_1 21 rfl rfl)
theorem dX2_sightNow_45 : decode cX2_sightNow 45 = .ok (.iconst 1, 1) := dk_4 (dk_at dksX2_sightNow_1 22 rfl rfl)
theorem dX2_sightNow_46 : decode cX2_sightNow 46 = .ok (.iadd, 1) := dk_96 (dk_at dksX2_sightNow_1 23 rfl rfl)
theorem dX2_sightNow_47 : decode cX2_sightNow 47 = .ok (.iaload, 1) := dk_46 (dk_at dksX2_sightNow_2 0 rfl rfl)
theorem dX2_sightNow_48 : decode cX2_sightNow 48 = .ok (.invokestatic 64, 3) := dk_184 0 64 (dk_at dksX2_sightNow_2 1 rfl rfl)
theorem dX2_sightNow_51 : decode cX2_sightNow 51 = .ok (.ifCond .eq 14, 3) := dk_153 0 14 (dk_at dksX2_sightNow_2 4 rfl rfl)
theorem dX2_sightNow_54 : decode cX2_sightNow 54 = .ok (.aload_n 0, 1) := dk_42 (dk_at dksX2_sightNow_2 7 rfl rfl)
theorem dX2_sightNow_55 : decode cX2_sightNow 55 = .ok (.getfield 9, 3) := dk_180 0 9 (dk_at dksX2_sightNow_2 8 rfl rfl)
theorem dX2_sightNow_58 : decode cX2_sightNow 58 = .ok (.iload_n 2, 1) := dk_28 (dk_at dksX2_sightNow_2 11 rfl rfl)
theorem dX2_sightNow_59 : decode cX2_sightNow 59 = .ok (.iconst 2, 1) := dk_5 (dk_at dksX2_sightNow_2 12 rfl rfl)
theorem dX2_sightNow_60 : decode cX2_sightNow 60 = .ok (.iadd, 1) := dk_96 (dk_at dksX2_sightNow_2 13 rfl rfl)
theorem dX2_sightNow_61 : decode cX2_sightNow 61 = .ok (.iaload, 1) := dk_46 (dk_at dksX2_sightNow_2 14 rfl rfl)
theorem dX2_sightNow_62 : decode cX2_sightNow 62 = .ok (.goto 4, 3) := dk_167 0 4 (dk_at dksX2_sightNow_2 15 rfl rfl)
theorem dX2_sightNow_65 : decode cX2_sightNow 65 = .ok (.iconst 0, 1) := dk_3 (dk_at dksX2_sightNow_2 18 rfl rfl)
theorem dX2_sightNow_66 : decode cX2_sightNow 66 = .ok (.isub, 1) := dk_100 (dk_at dksX2_sightNow_2 19 rfl rfl)
theorem dX2_sightNow_67 : decode cX2_sightNow 67 = .ok (.istore_n 1, 1) := dk_60 (dk_at dksX2_sightNow_2 20 rfl rfl)
theorem dX2_sightNow_68 : decode cX2_sightNow 68 = .ok (.iinc 2 3, 3) := dk_132 2 3 (dk_at dksX2_sightNow_2 21 rfl rfl)
theorem dX2_sightNow_71 : decode cX2_sightNow 71 = .ok (.goto (-61), 3) := dk_167 255 195 (dk_at dksX2_sightNow_3 0 rfl rfl)
theorem dX2_sightNow_74 : decode cX2_sightNow 74 = .ok (.iconst 0, 1) := dk_3 (dk_at dksX2_sightNow_3 3 rfl rfl)
theorem dX2_sightNow_75 : decode cX2_sightNow 75 = .ok (.iload_n 1, 1) := dk_27 (dk_at dksX2_sightNow_3 4 rfl rfl)
theorem dX2_sightNow_76 : decode cX2_sightNow 76 = .ok (.invokestatic 199, 3) := dk_184 0 199 (dk_at dksX2_sightNow_3 5 rfl rfl)
theorem dX2_sightNow_79 : decode cX2_sightNow 79 = .ok (.ireturn, 1) := dk_172 (dk_at dksX2_sightNow_3 8 rfl rfl)
abbrev cX2_parting : ByteArray := prog_20_method_41_code
def yX2_parting : MethodName := ⟨RX2, "parting", "(II)I"⟩
def dkwX2_parting_5 : List UInt8 := [21, 4, 172]
abbrev dktX2_parting_5 : List UInt8 := dkwX2_parting_5 ++ []
def dkwX2_parting_4 : List UInt8 := [21, 5, 4, 96, 46, 29, 164, 0, 7, 4, 167, 0, 4, 3, 96, 54, 4, 132, 5, 2, 167, 255, 168]
abbrev dktX2_parting_4 : List UInt8 := dkwX2_parting_4 ++ dktX2_parting_5
def dkwX2_parting_3 : List UInt8 := [28, 46, 42, 180, 0, 9, 21, 5, 46, 162, 0, 7, 4, 167, 0, 4, 3, 159, 0, 20, 42, 180, 0, 9]
abbrev dktX2_parting_3 : List UInt8 := dkwX2_parting_3 ++ dktX2_parting_4
def dkwX2_parting_2 : List UInt8 := [180, 0, 9, 27, 46, 42, 180, 0, 9, 21, 5, 46, 162, 0, 7, 4, 167, 0, 4, 3, 42, 180, 0, 9]
abbrev dktX2_parting_2 : List UInt8 := dkwX2_parting_2 ++ dktX2_parting_3
def dkwX2_parting_1 : List UInt8 := [16, 64, 54, 5, 21, 5, 16, 64, 5, 42, 180, 0, 9, 16, 8, 46, 104, 96, 162, 0, 77, 21, 4, 42]
abbrev dktX2_parting_1 : List UInt8 := dkwX2_parting_1 ++ dktX2_parting_2
def dkwX2_parting_0 : List UInt8 := [42, 180, 0, 9, 27, 5, 96, 46, 42, 180, 0, 9, 28, 5, 96, 46, 184, 0, 199, 62, 3, 54, 4]
abbrev dktX2_parting_0 : List UInt8 := dkwX2_parting_0 ++ dktX2_parting_1
theorem dksX2_parting_0 : cX2_parting.data.toList.drop 0 = dktX2_parting_0 := by decide +kernel
theorem dksX2_parting_1 : cX2_parting.data.toList.drop 23 = dktX2_parting_1 := dk_seg dksX2_parting_0 23 rfl rfl
theorem dksX2_parting_2 : cX2_parting.data.toList.drop 47 = dktX2_parting_2 := dk_seg dksX2_parting_1 24 rfl rfl
theorem dksX2_parting_3 : cX2_parting.data.toList.drop 71 = dktX2_parting_3 := dk_seg dksX2_parting_2 24 rfl rfl
theorem dksX2_parting_4 : cX2_parting.data.toList.drop 95 = dktX2_parting_4 := dk_seg dksX2_parting_3 24 rfl rfl
theorem dksX2_parting_5 : cX2_parting.data.toList.drop 118 = dktX2_parting_5 := dk_seg dksX2_parting_4 23 rfl rfl
theorem dX2_parting_0 : decode cX2_parting 0 = .ok (.aload_n 0, 1) := dk_42 (dk_at dksX2_parting_0 0 rfl rfl)
theorem dX2_parting_1 : decode cX2_parting 1 = .ok (.getfield 9, 3) := dk_180 0 9 (dk_at dksX2_parting_0 1 rfl rfl)
theorem dX2_parting_4 : decode cX2_parting 4 = .ok (.iload_n 1, 1) := dk_27 (dk_at dksX2_parting_0 4 rfl rfl)
theorem dX2_parting_5 : decode cX2_parting 5 = .ok (.iconst 2, 1) := dk_5 (dk_at dksX2_parting_0 5 rfl rfl)
theorem dX2_parting_6 : decode cX2_parting 6 = .ok (.iadd, 1) := dk_96 (dk_at dksX2_parting_0 6 rfl rfl)
theorem dX2_parting_7 : decode cX2_parting 7 = .ok (.iaload, 1) := dk_46 (dk_at dksX2_parting_0 7 rfl rfl)
theorem dX2_parting_8 : decode cX2_parting 8 = .ok (.aload_n 0, 1) := dk_42 (dk_at dksX2_parting_0 8 rfl rfl)
theorem dX2_parting_9 : decode cX2_parting 9 = .ok (.getfield 9, 3) := dk_180 0 9 (dk_at dksX2_parting_0 9 rfl rfl)
theorem dX2_parting_12 : decode cX2_parting 12 = .ok (.iload_n 2, 1) := dk_28 (dk_at dksX2_parting_0 12 rfl rfl)
theorem dX2_parting_13 : decode cX2_parting 13 = .ok (.iconst 2, 1) := dk_5 (dk_at dksX2_parting_0 13 rfl rfl)
theorem dX2_parting_14 : decode cX2_parting 14 = .ok (.iadd, 1) := dk_96 (dk_at dksX2_parting_0 14 rfl rfl)
theorem dX2_parting_15 : decode cX2_parting 15 = .ok (.iaload, 1) := dk_46 (dk_at dksX2_parting_0 15 rfl rfl)
theorem dX2_parting_16 : decode cX2_parting 16 = .ok (.invokestatic 199, 3) := dk_184 0 199 (dk_at dksX2_parting_0 16 rfl rfl)
theorem dX2_parting_19 : decode cX2_parting 19 = .ok (.istore_n 3, 1) := dk_62 (dk_at dksX2_parting_0 19 rfl rfl)
theorem dX2_parting_20 : decode cX2_parting 20 = .ok (.iconst 0, 1) := dk_3 (dk_at dksX2_parting_0 20 rfl rfl)
theorem dX2_parting_21 : decode cX2_parting 21 = .ok (.istore 4, 2) := dk_54 4 (dk_at dksX2_parting_0 21 rfl rfl)
theorem dX2_parting_23 : decode cX2_parting 23 = .ok (.bipush 64, 2) := dk_16 64 (dk_at dksX2_parting_1 0 rfl rfl)
theorem dX2_parting_25 : decode cX2_parting 25 = .ok (.istore 5, 2) := dk_54 5 (dk_at dksX2_parting_1 2 rfl rfl)
theorem dX2_parting_27 : decode cX2_parting 27 = .ok (.iload 5, 2) := dk_21 5 (dk_at dksX2_parting_1 4 rfl rfl)
theorem dX2_parting_29 : decode cX2_parting 29 = .ok (.bipush 64, 2) := dk_16 64 (dk_at dksX2_parting_1 6 rfl rfl)
theorem dX2_parting_31 : decode cX2_parting 31 = .ok (.iconst 2, 1) := dk_5 (dk_at dksX2_parting_1 8 rfl rfl)
theorem dX2_parting_32 : decode cX2_parting 32 = .ok (.aload_n 0, 1) := dk_42 (dk_at dksX2_parting_1 9 rfl rfl)
theorem dX2_parting_33 : decode cX2_parting 33 = .ok (.getfield 9, 3) := dk_180 0 9 (dk_at dksX2_parting_1 10 rfl rfl)
theorem dX2_parting_36 : decode cX2_parting 36 = .ok (.bipush 8, 2) := dk_16 8 (dk_at dksX2_parting_1 13 rfl rfl)
theorem dX2_parting_38 : decode cX2_parting 38 = .ok (.iaload, 1) := dk_46 (dk_at dksX2_parting_1 15 rfl rfl)
theorem dX2_parting_39 : decode cX2_parting 39 = .ok (.imul, 1) := dk_104 (dk_at dksX2_parting_1 16 rfl rfl)
theorem dX2_parting_40 : decode cX2_parting 40 = .ok (.iadd, 1) := dk_96 (dk_at dksX2_parting_1 17 rfl rfl)
theorem dX2_parting_41 : decode cX2_parting 41 = .ok (.if_icmp .ge 77, 3) := dk_162 0 77 (dk_at dksX2_parting_1 18 rfl rfl)
theorem dX2_parting_44 : decode cX2_parting 44 = .ok (.iload 4, 2) := dk_21 4 (dk_at dksX2_parting_1 21 rfl rfl)
theorem dX2_parting_46 : decode cX2_parting 46 = .ok (.aload_n 0, 1) := dk_42 (dk_at dksX2_parting_1 23 rfl rfl)
theorem dX2_parting_47 : decode cX2_parting 47 = .ok (.getfield 9, 3) := dk_180 0 9 (dk_at dksX2_parting_2 0 rfl rfl)
theorem dX2_parting_50 : decode cX2_parting 50 = .ok (.iload_n 1, 1) := dk_27 (dk_at dksX2_parting_2 3 rfl rfl)
theorem dX2_parting_51 : decode cX2_parting 51 = .ok (.iaload, 1) := dk_46 (dk_at dksX2_parting_2 4 rfl rfl)
theorem dX2_parting_52 : decode cX2_parting 52 = .ok (.aload_n 0, 1) := dk_42 (dk_at dksX2_parting_2 5 rfl rfl)
theorem dX2_parting_53 : decode cX2_parting 53 = .ok (.getfield 9, 3) := dk_180 0 9 (dk_at dksX2_parting_2 6 rfl rfl)
theorem dX2_parting_56 : decode cX2_parting 56 = .ok (.iload 5, 2) := dk_21 5 (dk_at dksX2_parting_2 9 rfl rfl)
theorem dX2_parting_58 : decode cX2_parting 58 = .ok (.iaload, 1) := dk_46 (dk_at dksX2_parting_2 11 rfl rfl)
theorem dX2_parting_59 : decode cX2_parting 59 = .ok (.if_icmp .ge 7, 3) := dk_162 0 7 (dk_at dksX2_parting_2 12 rfl rfl)
theorem dX2_parting_62 : decode cX2_parting 62 = .ok (.iconst 1, 1) := dk_4 (dk_at dksX2_parting_2 15 rfl rfl)
theorem dX2_parting_63 : decode cX2_parting 63 = .ok (.goto 4, 3) := dk_167 0 4 (dk_at dksX2_parting_2 16 rfl rfl)
theorem dX2_parting_66 : decode cX2_parting 66 = .ok (.iconst 0, 1) := dk_3 (dk_at dksX2_parting_2 19 rfl rfl)
theorem dX2_parting_67 : decode cX2_parting 67 = .ok (.aload_n 0, 1) := dk_42 (dk_at dksX2_parting_2 20 rfl rfl)
theorem dX2_parting_68 : decode cX2_parting 68 = .ok (.getfield 9, 3) := dk_180 0 9 (dk_at dksX2_parting_2 21 rfl rfl)
theorem dX2_parting_71 : decode cX2_parting 71 = .ok (.iload_n 2, 1) := dk_28 (dk_at dksX2_parting_3 0 rfl rfl)
theorem dX2_parting_72 : decode cX2_parting 72 = .ok (.iaload, 1) := dk_46 (dk_at dksX2_parting_3 1 rfl rfl)
theorem dX2_parting_73 : decode cX2_parting 73 = .ok (.aload_n 0, 1) := dk_42 (dk_at dksX2_parting_3 2 rfl rfl)
theorem dX2_parting_74 : decode cX2_parting 74 = .ok (.getfield 9, 3) := dk_180 0 9 (dk_at dksX2_parting_3 3 rfl rfl)
theorem dX2_parting_77 : decode cX2_parting 77 = .ok (.iload 5, 2) := dk_21 5 (dk_at dksX2_parting_3 6 rfl rfl)
theorem dX2_parting_79 : decode cX2_parting 79 = .ok (.iaload, 1) := dk_46 (dk_at dksX2_parting_3 8 rfl rfl)
theorem dX2_parting_80 : decode cX2_parting 80 = .ok (.if_icmp .ge 7, 3) := dk_162 0 7 (dk_at dksX2_parting_3 9 rfl rfl)
theorem dX2_parting_83 : decode cX2_parting 83 = .ok (.iconst 1, 1) := dk_4 (dk_at dksX2_parting_3 12 rfl rfl)
theorem dX2_parting_84 : decode cX2_parting 84 = .ok (.goto 4, 3) := dk_167 0 4 (dk_at dksX2_parting_3 13 rfl rfl)
theorem dX2_parting_87 : decode cX2_parting 87 = .ok (.iconst 0, 1) := dk_3 (dk_at dksX2_parting_3 16 rfl rfl)
theorem dX2_parting_88 : decode cX2_parting 88 = .ok (.if_icmp .eq 20, 3) := dk_159 0 20 (dk_at dksX2_parting_3 17 rfl rfl)
theorem dX2_parting_91 : decode cX2_parting 91 = .ok (.aload_n 0, 1) := dk_42 (dk_at dksX2_parting_3 20 rfl rfl)
theorem dX2_parting_92 : decode cX2_parting 92 = .ok (.getfield 9, 3) := dk_180 0 9 (dk_at dksX2_parting_3 21 rfl rfl)
theorem dX2_parting_95 : decode cX2_parting 95 = .ok (.iload 5, 2) := dk_21 5 (dk_at dksX2_parting_4 0 rfl rfl)
theorem dX2_parting_97 : decode cX2_parting 97 = .ok (.iconst 1, 1) := dk_4 (dk_at dksX2_parting_4 2 rfl rfl)
theorem dX2_parting_98 : decode cX2_parting 98 = .ok (.iadd, 1) := dk_96 (dk_at dksX2_parting_4 3 rfl rfl)
theorem dX2_parting_99 : decode cX2_parting 99 = .ok (.iaload, 1) := dk_46 (dk_at dksX2_parting_4 4 rfl rfl)
theorem dX2_parting_100 : decode cX2_parting 100 = .ok (.iload_n 3, 1) := dk_29 (dk_at dksX2_parting_4 5 rfl rfl)
theorem dX2_parting_101 : decode cX2_parting 101 = .ok (.if_icmp .le 7, 3) := dk_164 0 7 (dk_at dksX2_parting_4 6 rfl rfl)
theorem dX2_parting_104 : decode cX2_parting 104 = .ok (.iconst 1, 1) := dk_4 (dk_at dksX2_parting_4 9 rfl rfl)
theorem dX2_parting_105 : decode cX2_parting 105 = .ok (.goto 4, 3) := dk_167 0 4 (dk_at dksX2_parting_4 10 rfl rfl)
theorem dX2_parting_108 : decode cX2_parting 108 = .ok (.iconst 0, 1) := dk_3 (dk_at dksX2_parting_4 13 rfl rfl)
theorem dX2_parting_109 : decode cX2_parting 109 = .ok (.iadd, 1) := dk_96 (dk_at dksX2_parting_4 14 rfl rfl)
theorem dX2_parting_110 : decode cX2_parting 110 = .ok (.istore 4, 2) := dk_54 4 (dk_at dksX2_parting_4 15 rfl rfl)
theorem dX2_parting_112 : decode cX2_parting 112 = .ok (.iinc 5 2, 3) := dk_132 5 2 (dk_at dksX2_parting_4 17 rfl rfl)
theorem dX2_parting_115 : decode cX2_parting 115 = .ok (.goto (-88), 3) := dk_167 255 168 (dk_at dksX2_parting_4 20 rfl rfl)
theorem dX2_parting_118 : decode cX2_parting 118 = .ok (.iload 4, 2) := dk_21 4 (dk_at dksX2_parting_5 0 rfl rfl)
theorem dX2_parting_120 : decode cX2_parting 120 = .ok (.ireturn, 1) := dk_172 (dk_at dksX2_parting_5 2 rfl rfl)
abbrev cX2_withoutFlares : ByteArray := prog_20_method_72_code
def yX2_withoutFlares : MethodName := ⟨RX2, "withoutFlares", "()I"⟩
def dkwX2_withoutFlares_1 : List UInt8 := [96, 46, 154, 0, 7, 4, 167, 0, 4, 3, 96, 60, 132, 2, 1, 167, 255, 221, 27, 172]
abbrev dktX2_withoutFlares_1 : List UInt8 := dkwX2_withoutFlares_1 ++ []
def dkwX2_withoutFlares_0 : List UInt8 := [3, 60, 3, 61, 28, 42, 180, 0, 9, 16, 6, 46, 162, 0, 30, 27, 42, 180, 0, 9, 17, 0, 148, 28]
abbrev dktX2_withoutFlares_0 : List UInt8 := dkwX2_withoutFlares_0 ++ dktX2_withoutFlares_1
theorem dksX2_withoutFlares_0 : cX2_withoutFlares.data.toList.drop 0 = dktX2_withoutFlares_0 := by decide +kernel
theorem dksX2_withoutFlares_1 : cX2_withoutFlares.data.toList.drop 24 = dktX2_withoutFlares_1 := dk_seg dksX2_withoutFlares_0 24 rfl rfl
theorem dX2_withoutFlares_0 : decode cX2_withoutFlares 0 = .ok (.iconst 0, 1) := dk_3 (dk_at dksX2_withoutFlares_0 0 rfl rfl)
theorem dX2_withoutFlares_1 : decode cX2_withoutFlares 1 = .ok (.istore_n 1, 1) := dk_60 (dk_at dksX2_withoutFlares_0 1 rfl rfl)
theorem dX2_withoutFlares_2 : decode cX2_withoutFlares 2 = .ok (.iconst 0, 1) := dk_3 (dk_at dksX2_withoutFlares_0 2 rfl rfl)
theorem dX2_withoutFlares_3 : decode cX2_withoutFlares 3 = .ok (.istore_n 2, 1) := dk_61 (dk_at dksX2_withoutFlares_0 3 rfl rfl)
theorem dX2_withoutFlares_4 : decode cX2_withoutFlares 4 = .ok (.iload_n 2, 1) := dk_28 (dk_at dksX2_withoutFlares_0 4 rfl rfl)
theorem dX2_withoutFlares_5 : decode cX2_withoutFlares 5 = .ok (.aload_n 0, 1) := dk_42 (dk_at dksX2_withoutFlares_0 5 rfl rfl)
theorem dX2_withoutFlares_6 : decode cX2_withoutFlares 6 = .ok (.getfield 9, 3) := dk_180 0 9 (dk_at dksX2_withoutFlares_0 6 rfl rfl)
theorem dX2_withoutFlares_9 : decode cX2_withoutFlares 9 = .ok (.bipush 6, 2) := dk_16 6 (dk_at dksX2_withoutFlares_0 9 rfl rfl)
theorem dX2_withoutFlares_11 : decode cX2_withoutFlares 11 = .ok (.iaload, 1) := dk_46 (dk_at dksX2_withoutFlares_0 11 rfl rfl)
theorem dX2_withoutFlares_12 : decode cX2_withoutFlares 12 = .ok (.if_icmp .ge 30, 3) := dk_162 0 30 (dk_at dksX2_withoutFlares_0 12 rfl rfl)
theorem dX2_withoutFlares_15 : decode cX2_withoutFlares 15 = .ok (.iload_n 1, 1) := dk_27 (dk_at dksX2_withoutFlares_0 15 rfl rfl)
theorem dX2_withoutFlares_16 : decode cX2_withoutFlares 16 = .ok (.aload_n 0, 1) := dk_42 (dk_at dksX2_withoutFlares_0 16 rfl rfl)
theorem dX2_withoutFlares_17 : decode cX2_withoutFlares 17 = .ok (.getfield 9, 3) := dk_180 0 9 (dk_at dksX2_withoutFlares_0 17 rfl rfl)
theorem dX2_withoutFlares_20 : decode cX2_withoutFlares 20 = .ok (.sipush 148, 3) := dk_17 0 148 (dk_at dksX2_withoutFlares_0 20 rfl rfl)
theorem dX2_withoutFlares_23 : decode cX2_withoutFlares 23 = .ok (.iload_n 2, 1) := dk_28 (dk_at dksX2_withoutFlares_0 23 rfl rfl)
theorem dX2_withoutFlares_24 : decode cX2_withoutFlares 24 = .ok (.iadd, 1) := dk_96 (dk_at dksX2_withoutFlares_1 0 rfl rfl)
theorem dX2_withoutFlares_25 : decode cX2_withoutFlares 25 = .ok (.iaload, 1) := dk_46 (dk_at dksX2_withoutFlares_1 1 rfl rfl)
theorem dX2_withoutFlares_26 : decode cX2_withoutFlares 26 = .ok (.ifCond .ne 7, 3) := dk_154 0 7 (dk_at dksX2_withoutFlares_1 2 rfl rfl)
theorem dX2_withoutFlares_29 : decode cX2_withoutFlares 29 = .ok (.iconst 1, 1) := dk_4 (dk_at dksX2_withoutFlares_1 5 rfl rfl)
theorem dX2_withoutFlares_30 : decode cX2_withoutFlares 30 = .ok (.goto 4, 3) := dk_167 0 4 (dk_at dksX2_withoutFlares_1 6 rfl rfl)
theorem dX2_withoutFlares_33 : decode cX2_withoutFlares 33 = .ok (.iconst 0, 1) := dk_3 (dk_at dksX2_withoutFlares_1 9 rfl rfl)
theorem dX2_withoutFlares_34 : decode cX2_withoutFlares 34 = .ok (.iadd, 1) := dk_96 (dk_at dksX2_withoutFlares_1 10 rfl rfl)
theorem dX2_withoutFlares_35 : decode cX2_withoutFlares 35 = .ok (.istore_n 1, 1) := dk_60 (dk_at dksX2_withoutFlares_1 11 rfl rfl)
theorem dX2_withoutFlares_36 : decode cX2_withoutFlares 36 = .ok (.iinc 2 1, 3) := dk_132 2 1 (dk_at dksX2_withoutFlares_1 12 rfl rfl)
theorem dX2_withoutFlares_39 : decode cX2_withoutFlares 39 = .ok (.goto (-35), 3) := dk_167 255 221 (dk_at dksX2_withoutFlares_1 15 rfl rfl)
theorem dX2_withoutFlares_42 : decode cX2_withoutFlares 42 = .ok (.iload_n 1, 1) := dk_27 (dk_at dksX2_withoutFlares_1 18 rfl rfl)
theorem dX2_withoutFlares_43 : decode cX2_withoutFlares 43 = .ok (.ireturn, 1) := dk_172 (dk_at dksX2_withoutFlares_1 19 rfl rfl)
abbrev cX2_redVotes : ByteArray := prog_20_method_73_code
def yX2_redVotes : MethodName := ⟨RX2, "redVotes", "()I"⟩
def dkwX2_redVotes_2 : List UInt8 := [27, 172]
abbrev dktX2_redVotes_2 : List UInt8 := dkwX2_redVotes_2 ++ []
def dkwX2_redVotes_1 : List UInt8 := [180, 0, 9, 28, 46, 184, 0, 235, 153, 0, 7, 4, 167, 0, 4, 3, 96, 60, 132, 2, 1, 167, 255, 217]
abbrev dktX2_redVotes_1 : List UInt8 := dkwX2_redVotes_1 ++ dktX2_redVotes_2
def dkwX2_redVotes_0 : List UInt8 := [3, 60, 17, 1, 2, 61, 28, 17, 4, 34, 162, 0, 38, 27, 42, 180, 0, 9, 28, 46, 158, 0, 19, 42]
abbrev dktX2_redVotes_0 : List UInt8 := dkwX2_redVotes_0 ++ dktX2_redVotes_1
theorem dksX2_redVotes_0 : cX2_redVotes.data.toList.drop 0 = dktX2_redVotes_0 := by decide +kernel
theorem dksX2_redVotes_1 : cX2_redVotes.data.toList.drop 24 = dktX2_redVotes_1 := dk_seg dksX2_redVotes_0 24 rfl rfl
theorem dksX2_redVotes_2 : cX2_redVotes.data.toList.drop 48 = dktX2_redVotes_2 := dk_seg dksX2_redVotes_1 24 rfl rfl
theorem dX2_redVotes_0 : decode cX2_redVotes 0 = .ok (.iconst 0, 1) := dk_3 (dk_at dksX2_redVotes_0 0 rfl rfl)
theorem dX2_redVotes_1 : decode cX2_redVotes 1 = .ok (.istore_n 1, 1) := dk_60 (dk_at dksX2_redVotes_0 1 rfl rfl)
theorem dX2_redVotes_2 : decode cX2_redVotes 2 = .ok (.sipush 258, 3) := dk_17 1 2 (dk_at dksX2_redVotes_0 2 rfl rfl)
theorem dX2_redVotes_5 : decode cX2_redVotes 5 = .ok (.istore_n 2, 1) := dk_61 (dk_at dksX2_redVotes_0 5 rfl rfl)
theorem dX2_redVotes_6 : decode cX2_redVotes 6 = .ok (.iload_n 2, 1) := dk_28 (dk_at dksX2_redVotes_0 6 rfl rfl)
theorem dX2_redVotes_7 : decode cX2_redVotes 7 = .ok (.sipush 1058, 3) := dk_17 4 34 (dk_at dksX2_redVotes_0 7 rfl rfl)
theorem dX2_redVotes_10 : decode cX2_redVotes 10 = .ok (.if_icmp .ge 38, 3) := dk_162 0 38 (dk_at dksX2_redVotes_0 10 rfl rfl)
theorem dX2_redVotes_13 : decode cX2_redVotes 13 = .ok (.iload_n 1, 1) := dk_27 (dk_at dksX2_redVotes_0 13 rfl rfl)
theorem dX2_redVotes_14 : decode cX2_redVotes 14 = .ok (.aload_n 0, 1) := dk_42 (dk_at dksX2_redVotes_0 14 rfl rfl)
theorem dX2_redVotes_15 : decode cX2_redVotes 15 = .ok (.getfield 9, 3) := dk_180 0 9 (dk_at dksX2_redVotes_0 15 rfl rfl)
theorem dX2_redVotes_18 : decode cX2_redVotes 18 = .ok (.iload_n 2, 1) := dk_28 (dk_at dksX2_redVotes_0 18 rfl rfl)
theorem dX2_redVotes_19 : decode cX2_redVotes 19 = .ok (.iaload, 1) := dk_46 (dk_at dksX2_redVotes_0 19 rfl rfl)
theorem dX2_redVotes_20 : decode cX2_redVotes 20 = .ok (.ifCond .le 19, 3) := dk_158 0 19 (dk_at dksX2_redVotes_0 20 rfl rfl)
theorem dX2_redVotes_23 : decode cX2_redVotes 23 = .ok (.aload_n 0, 1) := dk_42 (dk_at dksX2_redVotes_0 23 rfl rfl)
theorem dX2_redVotes_24 : decode cX2_redVotes 24 = .ok (.getfield 9, 3) := dk_180 0 9 (dk_at dksX2_redVotes_1 0 rfl rfl)
theorem dX2_redVotes_27 : decode cX2_redVotes 27 = .ok (.iload_n 2, 1) := dk_28 (dk_at dksX2_redVotes_1 3 rfl rfl)
theorem dX2_redVotes_28 : decode cX2_redVotes 28 = .ok (.iaload, 1) := dk_46 (dk_at dksX2_redVotes_1 4 rfl rfl)
theorem dX2_redVotes_29 : decode cX2_redVotes 29 = .ok (.invokestatic 235, 3) := dk_184 0 235 (dk_at dksX2_redVotes_1 5 rfl rfl)
theorem dX2_redVotes_32 : decode cX2_redVotes 32 = .ok (.ifCond .eq 7, 3) := dk_153 0 7 (dk_at dksX2_redVotes_1 8 rfl rfl)
theorem dX2_redVotes_35 : decode cX2_redVotes 35 = .ok (.iconst 1, 1) := dk_4 (dk_at dksX2_redVotes_1 11 rfl rfl)
theorem dX2_redVotes_36 : decode cX2_redVotes 36 = .ok (.goto 4, 3) := dk_167 0 4 (dk_at dksX2_redVotes_1 12 rfl rfl)
theorem dX2_redVotes_39 : decode cX2_redVotes 39 = .ok (.iconst 0, 1) := dk_3 (dk_at dksX2_redVotes_1 15 rfl rfl)
theorem dX2_redVotes_40 : decode cX2_redVotes 40 = .ok (.iadd, 1) := dk_96 (dk_at dksX2_redVotes_1 16 rfl rfl)
theorem dX2_redVotes_41 : decode cX2_redVotes 41 = .ok (.istore_n 1, 1) := dk_60 (dk_at dksX2_redVotes_1 17 rfl rfl)
theorem dX2_redVotes_42 : decode cX2_redVotes 42 = .ok (.iinc 2 1, 3) := dk_132 2 1 (dk_at dksX2_redVotes_1 18 rfl rfl)
theorem dX2_redVotes_45 : decode cX2_redVotes 45 = .ok (.goto (-39), 3) := dk_167 255 217 (dk_at dksX2_redVotes_1 21 rfl rfl)
theorem dX2_redVotes_48 : decode cX2_redVotes 48 = .ok (.iload_n 1, 1) := dk_27 (dk_at dksX2_redVotes_2 0 rfl rfl)
theorem dX2_redVotes_49 : decode cX2_redVotes 49 = .ok (.ireturn, 1) := dk_172 (dk_at dksX2_redVotes_2 1 rfl rfl)
abbrev cX2_isRed : ByteArray := prog_20_method_51_code
def yX2_isRed : MethodName := ⟨RX2, "isRed", "(I)Z"⟩
def dkwX2_isRed_0 : List UInt8 := [26, 5, 112, 154, 0, 7, 4, 167, 0, 4, 3, 172]
abbrev dktX2_isRed_0 : List UInt8 := dkwX2_isRed_0 ++ []
theorem dksX2_isRed_0 : cX2_isRed.data.toList.drop 0 = dktX2_isRed_0 := by decide +kernel
theorem dX2_isRed_0 : decode cX2_isRed 0 = .ok (.iload_n 0, 1) := dk_26 (dk_at dksX2_isRed_0 0 rfl rfl)
theorem dX2_isRed_1 : decode cX2_isRed 1 = .ok (.iconst 2, 1) := dk_5 (dk_at dksX2_isRed_0 1 rfl rfl)
theorem dX2_isRed_2 : decode cX2_isRed 2 = .ok (.irem, 1) := dk_112 (dk_at dksX2_isRed_0 2 rfl rfl)
theorem dX2_isRed_3 : decode cX2_isRed 3 = .ok (.ifCond .ne 7, 3) := dk_154 0 7 (dk_at dksX2_isRed_0 3 rfl rfl)
theorem dX2_isRed_6 : decode cX2_isRed 6 = .ok (.iconst 1, 1) := dk_4 (dk_at dksX2_isRed_0 6 rfl rfl)
theorem dX2_isRed_7 : decode cX2_isRed 7 = .ok (.goto 4, 3) := dk_167 0 4 (dk_at dksX2_isRed_0 7 rfl rfl)
theorem dX2_isRed_10 : decode cX2_isRed 10 = .ok (.iconst 0, 1) := dk_3 (dk_at dksX2_isRed_0 10 rfl rfl)
theorem dX2_isRed_11 : decode cX2_isRed 11 = .ok (.ireturn, 1) := dk_172 (dk_at dksX2_isRed_0 11 rfl rfl)
abbrev cX2_setting : ByteArray := prog_20_method_75_code
def yX2_setting : MethodName := ⟨RX2, "setting", "(I)I"⟩
def dkwX2_setting_1 : List UInt8 := [167, 0, 4, 3, 172]
abbrev dktX2_setting_1 : List UInt8 := dkwX2_setting_1 ++ []
def dkwX2_setting_0 : List UInt8 := [42, 42, 180, 0, 184, 27, 3, 8, 184, 0, 64, 182, 0, 191, 153, 0, 12, 42, 180, 0, 9, 27, 46]
abbrev dktX2_setting_0 : List UInt8 := dkwX2_setting_0 ++ dktX2_setting_1
theorem dksX2_setting_0 : cX2_setting.data.toList.drop 0 = dktX2_setting_0 := by decide +kernel
theorem dksX2_setting_1 : cX2_setting.data.toList.drop 23 = dktX2_setting_1 := dk_seg dksX2_setting_0 23 rfl rfl
theorem dX2_setting_0 : decode cX2_setting 0 = .ok (.aload_n 0, 1) := dk_42 (dk_at dksX2_setting_0 0 rfl rfl)
theorem dX2_setting_1 : decode cX2_setting 1 = .ok (.aload_n 0, 1) := dk_42 (dk_at dksX2_setting_0 1 rfl rfl)
theorem dX2_setting_2 : decode cX2_setting 2 = .ok (.getfield 184, 3) := dk_180 0 184 (dk_at dksX2_setting_0 2 rfl rfl)
theorem dX2_setting_5 : decode cX2_setting 5 = .ok (.iload_n 1, 1) := dk_27 (dk_at dksX2_setting_0 5 rfl rfl)
theorem dX2_setting_6 : decode cX2_setting 6 = .ok (.iconst 0, 1) := dk_3 (dk_at dksX2_setting_0 6 rfl rfl)
theorem dX2_setting_7 : decode cX2_setting 7 = .ok (.iconst 5, 1) := dk_8 (dk_at dksX2_setting_0 7 rfl rfl)
theorem dX2_setting_8 : decode cX2_setting 8 = .ok (.invokestatic 64, 3) := dk_184 0 64 (dk_at dksX2_setting_0 8 rfl rfl)
theorem dX2_setting_11 : decode cX2_setting 11 = .ok (.invokevirtual 191, 3) := dk_182 0 191 (dk_at dksX2_setting_0 11 rfl rfl)
theorem dX2_setting_14 : decode cX2_setting 14 = .ok (.ifCond .eq 12, 3) := dk_153 0 12 (dk_at dksX2_setting_0 14 rfl rfl)
theorem dX2_setting_17 : decode cX2_setting 17 = .ok (.aload_n 0, 1) := dk_42 (dk_at dksX2_setting_0 17 rfl rfl)
theorem dX2_setting_18 : decode cX2_setting 18 = .ok (.getfield 9, 3) := dk_180 0 9 (dk_at dksX2_setting_0 18 rfl rfl)
theorem dX2_setting_21 : decode cX2_setting 21 = .ok (.iload_n 1, 1) := dk_27 (dk_at dksX2_setting_0 21 rfl rfl)
theorem dX2_setting_22 : decode cX2_setting 22 = .ok (.iaload, 1) := dk_46 (dk_at dksX2_setting_0 22 rfl rfl)
theorem dX2_setting_23 : decode cX2_setting 23 = .ok (.goto 4, 3) := dk_167 0 4 (dk_at dksX2_setting_1 0 rfl rfl)
theorem dX2_setting_26 : decode cX2_setting 26 = .ok (.iconst 0, 1) := dk_3 (dk_at dksX2_setting_1 3 rfl rfl)
theorem dX2_setting_27 : decode cX2_setting 27 = .ok (.ireturn, 1) := dk_172 (dk_at dksX2_setting_1 4 rfl rfl)
abbrev cX2_cabin : ByteArray := prog_20_method_78_code
def yX2_cabin : MethodName := ⟨RX2, "cabin", "(II)I"⟩
def dkwX2_cabin_6 : List UInt8 := [172, 42, 180, 0, 9, 27, 184, 0, 210, 28, 96, 46, 172]
abbrev dktX2_cabin_6 : List UInt8 := dkwX2_cabin_6 ++ []
def dkwX2_cabin_5 : List UInt8 := [180, 0, 9, 17, 0, 138, 27, 96, 46, 184, 1, 28, 172, 42, 27, 182, 1, 47, 172, 42, 27, 182, 1, 50]
abbrev dktX2_cabin_5 : List UInt8 := dkwX2_cabin_5 ++ dktX2_cabin_6
def dkwX2_cabin_4 : List UInt8 := [180, 0, 9, 17, 0, 168, 27, 96, 46, 172, 42, 27, 182, 1, 44, 172, 42, 27, 182, 0, 251, 172, 42]
abbrev dktX2_cabin_4 : List UInt8 := dkwX2_cabin_4 ++ dktX2_cabin_5
def dkwX2_cabin_3 : List UInt8 := [42, 180, 0, 9, 17, 0, 148, 27, 96, 46, 172, 42, 180, 0, 9, 17, 0, 158, 27, 96, 46, 172, 42]
abbrev dktX2_cabin_3 : List UInt8 := dkwX2_cabin_3 ++ dktX2_cabin_4
def dkwX2_cabin_2 : List UInt8 := [170, 0, 0, 0, 0, 117, 0, 0, 0, 3, 0, 0, 0, 10, 0, 0, 0, 46, 0, 0, 0, 57, 0, 0, 0, 68, 0, 0, 0, 79, 0, 0, 0, 85, 0, 0, 0, 91, 0, 0, 0, 105, 0, 0, 0, 111]
abbrev dktX2_cabin_2 : List UInt8 := dkwX2_cabin_2 ++ dktX2_cabin_3
def dkwX2_cabin_1 : List UInt8 := [172, 28]
abbrev dktX2_cabin_1 : List UInt8 := dkwX2_cabin_1 ++ dktX2_cabin_2
def dkwX2_cabin_0 : List UInt8 := [42, 42, 180, 0, 184, 42, 27, 182, 1, 19, 28, 3, 16, 10, 184, 0, 64, 182, 0, 47, 154, 0, 5, 3]
abbrev dktX2_cabin_0 : List UInt8 := dkwX2_cabin_0 ++ dktX2_cabin_1
theorem dksX2_cabin_0 : cX2_cabin.data.toList.drop 0 = dktX2_cabin_0 := by decide +kernel
theorem dksX2_cabin_1 : cX2_cabin.data.toList.drop 24 = dktX2_cabin_1 := dk_seg dksX2_cabin_0 24 rfl rfl
theorem dksX2_cabin_2 : cX2_cabin.data.toList.drop 26 = dktX2_cabin_2 := dk_seg dksX2_cabin_1 2 rfl rfl
theorem dksX2_cabin_3 : cX2_cabin.data.toList.drop 72 = dktX2_cabin_3 := dk_seg dksX2_cabin_2 46 rfl rfl
theorem dksX2_cabin_4 : cX2_cabin.data.toList.drop 95 = dktX2_cabin_4 := dk_seg dksX2_cabin_3 23 rfl rfl
theorem dksX2_cabin_5 : cX2_cabin.data.toList.drop 118 = dktX2_cabin_5 := dk_seg dksX2_cabin_4 23 rfl rfl
theorem dksX2_cabin_6 : cX2_cabin.data.toList.drop 142 = dktX2_cabin_6 := dk_seg dksX2_cabin_5 24 rfl rfl
theorem dX2_cabin_0 : decode cX2_cabin 0 = .ok (.aload_n 0, 1) := dk_42 (dk_at dksX2_cabin_0 0 rfl rfl)
theorem dX2_cabin_1 : decode cX2_cabin 1 = .ok (.aload_n 0, 1) := dk_42 (dk_at dksX2_cabin_0 1 rfl rfl)
theorem dX2_cabin_2 : decode cX2_cabin 2 = .ok (.getfield 184, 3) := dk_180 0 184 (dk_at dksX2_cabin_0 2 rfl rfl)
theorem dX2_cabin_5 : decode cX2_cabin 5 = .ok (.aload_n 0, 1) := dk_42 (dk_at dksX2_cabin_0 5 rfl rfl)
theorem dX2_cabin_6 : decode cX2_cabin 6 = .ok (.iload_n 1, 1) := dk_27 (dk_at dksX2_cabin_0 6 rfl rfl)
theorem dX2_cabin_7 : decode cX2_cabin 7 = .ok (.invokevirtual 275, 3) := dk_182 1 19 (dk_at dksX2_cabin_0 7 rfl rfl)
theorem dX2_cabin_10 : decode cX2_cabin 10 = .ok (.iload_n 2, 1) := dk_28 (dk_at dksX2_cabin_0 10 rfl rfl)
theorem dX2_cabin_11 : decode cX2_cabin 11 = .ok (.iconst 0, 1) := dk_3 (dk_at dksX2_cabin_0 11 rfl rfl)
theorem dX2_cabin_12 : decode cX2_cabin 12 = .ok (.bipush 10, 2) := dk_16 10 (dk_at dksX2_cabin_0 12 rfl rfl)
theorem dX2_cabin_14 : decode cX2_cabin 14 = .ok (.invokestatic 64, 3) := dk_184 0 64 (dk_at dksX2_cabin_0 14 rfl rfl)
theorem dX2_cabin_17 : decode cX2_cabin 17 = .ok (.invokevirtual 47, 3) := dk_182 0 47 (dk_at dksX2_cabin_0 17 rfl rfl)
theorem dX2_cabin_20 : decode cX2_cabin 20 = .ok (.ifCond .ne 5, 3) := dk_154 0 5 (dk_at dksX2_cabin_0 20 rfl rfl)
theorem dX2_cabin_23 : decode cX2_cabin 23 = .ok (.iconst 0, 1) := dk_3 (dk_at dksX2_cabin_0 23 rfl rfl)
theorem dX2_cabin_24 : decode cX2_cabin 24 = .ok (.ireturn, 1) := dk_172 (dk_at dksX2_cabin_1 0 rfl rfl)
theorem dX2_cabin_25 : decode cX2_cabin 25 = .ok (.iload_n 2, 1) := dk_28 (dk_at dksX2_cabin_1 1 rfl rfl)
theorem dX2_cabin_26 : decode cX2_cabin 26 = .ok (.tableswitch 117 3 10 #[46, 57, 68, 79, 85, 91, 105, 111], 46) := by decide +kernel
theorem dX2_cabin_72 : decode cX2_cabin 72 = .ok (.aload_n 0, 1) := dk_42 (dk_at dksX2_cabin_3 0 rfl rfl)
theorem dX2_cabin_73 : decode cX2_cabin 73 = .ok (.getfield 9, 3) := dk_180 0 9 (dk_at dksX2_cabin_3 1 rfl rfl)
theorem dX2_cabin_76 : decode cX2_cabin 76 = .ok (.sipush 148, 3) := dk_17 0 148 (dk_at dksX2_cabin_3 4 rfl rfl)
theorem dX2_cabin_79 : decode cX2_cabin 79 = .ok (.iload_n 1, 1) := dk_27 (dk_at dksX2_cabin_3 7 rfl rfl)
theorem dX2_cabin_80 : decode cX2_cabin 80 = .ok (.iadd, 1) := dk_96 (dk_at dksX2_cabin_3 8 rfl rfl)
theorem dX2_cabin_81 : decode cX2_cabin 81 = .ok (.iaload, 1) := dk_46 (dk_at dksX2_cabin_3 9 rfl rfl)
theorem dX2_cabin_82 : decode cX2_cabin 82 = .ok (.ireturn, 1) := dk_172 (dk_at dksX2_cabin_3 10 rfl rfl)
theorem dX2_cabin_83 : decode cX2_cabin 83 = .ok (.aload_n 0, 1) := dk_42 (dk_at dksX2_cabin_3 11 rfl rfl)
theorem dX2_cabin_84 : decode cX2_cabin 84 = .ok (.getfield 9, 3) := dk_180 0 9 (dk_at dksX2_cabin_3 12 rfl rfl)
theorem dX2_cabin_87 : decode cX2_cabin 87 = .ok (.sipush 158, 3) := dk_17 0 158 (dk_at dksX2_cabin_3 15 rfl rfl)
theorem dX2_cabin_90 : decode cX2_cabin 90 = .ok (.iload_n 1, 1) := dk_27 (dk_at dksX2_cabin_3 18 rfl rfl)
theorem dX2_cabin_91 : decode cX2_cabin 91 = .ok (.iadd, 1) := dk_96 (dk_at dksX2_cabin_3 19 rfl rfl)
theorem dX2_cabin_92 : decode cX2_cabin 92 = .ok (.iaload, 1) := dk_46 (dk_at dksX2_cabin_3 20 rfl rfl)
theorem dX2_cabin_93 : decode cX2_cabin 93 = .ok (.ireturn, 1) := dk_172 (dk_at dksX2_cabin_3 21 rfl rfl)
theorem dX2_cabin_94 : decode cX2_cabin 94 = .ok (.aload_n 0, 1) := dk_42 (dk_at dksX2_cabin_3 22 rfl rfl)
theorem dX2_cabin_95 : decode cX2_cabin 95 = .ok (.getfield 9, 3) := dk_180 0 9 (dk_at dksX2_cabin_4 0 rfl rfl)
theorem dX2_cabin_98 : decode cX2_cabin 98 = .ok (.sipush 168, 3) := dk_17 0 168 (dk_at dksX2_cabin_4 3 rfl rfl)
theorem dX2_cabin_101 : decode cX2_cabin 101 = .ok (.iload_n 1, 1) := dk_27 (dk_at dksX2_cabin_4 6 rfl rfl)
theorem dX2_cabin_102 : decode cX2_cabin 102 = .ok (.iadd, 1) := dk_96 (dk_at dksX2_cabin_4 7 rfl rfl)
theorem dX2_cabin_103 : decode cX2_cabin 103 = .ok (.iaload, 1) := dk_46 (dk_at dksX2_cabin_4 8 rfl rfl)
theorem dX2_cabin_104 : decode cX2_cabin 104 = .ok (.ireturn, 1) := dk_172 (dk_at dksX2_cabin_4 9 rfl rfl)
theorem dX2_cabin_105 : decode cX2_cabin 105 = .ok (.aload_n 0, 1) := dk_42 (dk_at dksX2_cabin_4 10 rfl rfl)
theorem dX2_cabin_106 : decode cX2_cabin 106 = .ok (.iload_n 1, 1) := dk_27 (dk_at dksX2_cabin_4 11 rfl rfl)
theorem dX2_cabin_107 : decode cX2_cabin 107 = .ok (.invokevirtual 300, 3) := dk_182 1 44 (dk_at dksX2_cabin_4 12 rfl rfl)
theorem dX2_cabin_110 : decode cX2_cabin 110 = .ok (.ireturn, 1) := dk_172 (dk_at dksX2_cabin_4 15 rfl rfl)
theorem dX2_cabin_111 : decode cX2_cabin 111 = .ok (.aload_n 0, 1) := dk_42 (dk_at dksX2_cabin_4 16 rfl rfl)
theorem dX2_cabin_112 : decode cX2_cabin 112 = .ok (.iload_n 1, 1) := dk_27 (dk_at dksX2_cabin_4 17 rfl rfl)
theorem dX2_cabin_113 : decode cX2_cabin 113 = .ok (.invokevirtual 251, 3) := dk_182 0 251 (dk_at dksX2_cabin_4 18 rfl rfl)
theorem dX2_cabin_116 : decode cX2_cabin 116 = .ok (.ireturn, 1) := dk_172 (dk_at dksX2_cabin_4 21 rfl rfl)
theorem dX2_cabin_117 : decode cX2_cabin 117 = .ok (.aload_n 0, 1) := dk_42 (dk_at dksX2_cabin_4 22 rfl rfl)
theorem dX2_cabin_118 : decode cX2_cabin 118 = .ok (.getfield 9, 3) := dk_180 0 9 (dk_at dksX2_cabin_5 0 rfl rfl)
theorem dX2_cabin_121 : decode cX2_cabin 121 = .ok (.sipush 138, 3) := dk_17 0 138 (dk_at dksX2_cabin_5 3 rfl rfl)
theorem dX2_cabin_124 : decode cX2_cabin 124 = .ok (.iload_n 1, 1) := dk_27 (dk_at dksX2_cabin_5 6 rfl rfl)
theorem dX2_cabin_125 : decode cX2_cabin 125 = .ok (.iadd, 1) := dk_96 (dk_at dksX2_cabin_5 7 rfl rfl)
theorem dX2_cabin_126 : decode cX2_cabin 126 = .ok (.iaload, 1) := dk_46 (dk_at dksX2_cabin_5 8 rfl rfl)
theorem dX2_cabin_127 : decode cX2_cabin 127 = .ok (.invokestatic 284, 3) := dk_184 1 28 (dk_at dksX2_cabin_5 9 rfl rfl)
theorem dX2_cabin_130 : decode cX2_cabin 130 = .ok (.ireturn, 1) := dk_172 (dk_at dksX2_cabin_5 12 rfl rfl)
theorem dX2_cabin_131 : decode cX2_cabin 131 = .ok (.aload_n 0, 1) := dk_42 (dk_at dksX2_cabin_5 13 rfl rfl)
theorem dX2_cabin_132 : decode cX2_cabin 132 = .ok (.iload_n 1, 1) := dk_27 (dk_at dksX2_cabin_5 14 rfl rfl)
theorem dX2_cabin_133 : decode cX2_cabin 133 = .ok (.invokevirtual 303, 3) := dk_182 1 47 (dk_at dksX2_cabin_5 15 rfl rfl)
theorem dX2_cabin_136 : decode cX2_cabin 136 = .ok (.ireturn, 1) := dk_172 (dk_at dksX2_cabin_5 18 rfl rfl)
theorem dX2_cabin_137 : decode cX2_cabin 137 = .ok (.aload_n 0, 1) := dk_42 (dk_at dksX2_cabin_5 19 rfl rfl)
theorem dX2_cabin_138 : decode cX2_cabin 138 = .ok (.iload_n 1, 1) := dk_27 (dk_at dksX2_cabin_5 20 rfl rfl)
theorem dX2_cabin_139 : decode cX2_cabin 139 = .ok (.invokevirtual 306, 3) := dk_182 1 50 (dk_at dksX2_cabin_5 21 rfl rfl)
theorem dX2_cabin_142 : decode cX2_cabin 142 = .ok (.ireturn, 1) := dk_172 (dk_at dksX2_cabin_6 0 rfl rfl)
theorem dX2_cabin_143 : decode cX2_cabin 143 = .ok (.aload_n 0, 1) := dk_42 (dk_at dksX2_cabin_6 1 rfl rfl)
theorem dX2_cabin_144 : decode cX2_cabin 144 = .ok (.getfield 9, 3) := dk_180 0 9 (dk_at dksX2_cabin_6 2 rfl rfl)
theorem dX2_cabin_147 : decode cX2_cabin 147 = .ok (.iload_n 1, 1) := dk_27 (dk_at dksX2_cabin_6 5 rfl rfl)
theorem dX2_cabin_148 : decode cX2_cabin 148 = .ok (.invokestatic 210, 3) := dk_184 0 210 (dk_at dksX2_cabin_6 6 rfl rfl)
theorem dX2_cabin_151 : decode cX2_cabin 151 = .ok (.iload_n 2, 1) := dk_28 (dk_at dksX2_cabin_6 9 rfl rfl)
theorem dX2_cabin_152 : decode cX2_cabin 152 = .ok (.iadd, 1) := dk_96 (dk_at dksX2_cabin_6 10 rfl rfl)
theorem dX2_cabin_153 : decode cX2_cabin 153 = .ok (.iaload, 1) := dk_46 (dk_at dksX2_cabin_6 11 rfl rfl)
theorem dX2_cabin_154 : decode cX2_cabin 154 = .ok (.ireturn, 1) := dk_172 (dk_at dksX2_cabin_6 12 rfl rfl)
abbrev cX2_isCabin : ByteArray := prog_20_method_36_code
def yX2_isCabin : MethodName := ⟨RX2, "isCabin", "(I)Z"⟩
def dkwX2_isCabin_0 : List UInt8 := [27, 3, 42, 180, 0, 9, 16, 6, 46, 4, 100, 184, 0, 64, 172]
abbrev dktX2_isCabin_0 : List UInt8 := dkwX2_isCabin_0 ++ []
theorem dksX2_isCabin_0 : cX2_isCabin.data.toList.drop 0 = dktX2_isCabin_0 := by decide +kernel
theorem dX2_isCabin_0 : decode cX2_isCabin 0 = .ok (.iload_n 1, 1) := dk_27 (dk_at dksX2_isCabin_0 0 rfl rfl)
theorem dX2_isCabin_1 : decode cX2_isCabin 1 = .ok (.iconst 0, 1) := dk_3 (dk_at dksX2_isCabin_0 1 rfl rfl)
theorem dX2_isCabin_2 : decode cX2_isCabin 2 = .ok (.aload_n 0, 1) := dk_42 (dk_at dksX2_isCabin_0 2 rfl rfl)
theorem dX2_isCabin_3 : decode cX2_isCabin 3 = .ok (.getfield 9, 3) := dk_180 0 9 (dk_at dksX2_isCabin_0 3 rfl rfl)
theorem dX2_isCabin_6 : decode cX2_isCabin 6 = .ok (.bipush 6, 2) := dk_16 6 (dk_at dksX2_isCabin_0 6 rfl rfl)
theorem dX2_isCabin_8 : decode cX2_isCabin 8 = .ok (.iaload, 1) := dk_46 (dk_at dksX2_isCabin_0 8 rfl rfl)
theorem dX2_isCabin_9 : decode cX2_isCabin 9 = .ok (.iconst 1, 1) := dk_4 (dk_at dksX2_isCabin_0 9 rfl rfl)
theorem dX2_isCabin_10 : decode cX2_isCabin 10 = .ok (.isub, 1) := dk_100 (dk_at dksX2_isCabin_0 10 rfl rfl)
theorem dX2_isCabin_11 : decode cX2_isCabin 11 = .ok (.invokestatic 64, 3) := dk_184 0 64 (dk_at dksX2_isCabin_0 11 rfl rfl)
theorem dX2_isCabin_14 : decode cX2_isCabin 14 = .ok (.ireturn, 1) := dk_172 (dk_at dksX2_isCabin_0 14 rfl rfl)
abbrev cX2_votesOf : ByteArray := prog_20_method_60_code
def yX2_votesOf : MethodName := ⟨RX2, "votesOf", "(I)I"⟩
def dkwX2_votesOf_2 : List UInt8 := [167, 255, 212, 28, 172]
abbrev dktX2_votesOf_2 : List UInt8 := dkwX2_votesOf_2 ++ []
def dkwX2_votesOf_1 : List UInt8 := [21, 4, 182, 0, 232, 158, 0, 7, 4, 167, 0, 4, 3, 96, 61, 132, 4, 1, 167, 255, 227, 132, 3, 1]
abbrev dktX2_votesOf_1 : List UInt8 := dkwX2_votesOf_1 ++ dktX2_votesOf_2
def dkwX2_votesOf_0 : List UInt8 := [3, 61, 3, 62, 29, 16, 10, 162, 0, 44, 3, 54, 4, 21, 4, 16, 8, 162, 0, 28, 28, 42, 29, 27]
abbrev dktX2_votesOf_0 : List UInt8 := dkwX2_votesOf_0 ++ dktX2_votesOf_1
theorem dksX2_votesOf_0 : cX2_votesOf.data.toList.drop 0 = dktX2_votesOf_0 := by decide +kernel
theorem dksX2_votesOf_1 : cX2_votesOf.data.toList.drop 24 = dktX2_votesOf_1 := dk_seg dksX2_votesOf_0 24 rfl rfl
theorem dksX2_votesOf_2 : cX2_votesOf.data.toList.drop 48 = dktX2_votesOf_2 := dk_seg dksX2_votesOf_1 24 rfl rfl
theorem dX2_votesOf_0 : decode cX2_votesOf 0 = .ok (.iconst 0, 1) := dk_3 (dk_at dksX2_votesOf_0 0 rfl rfl)
theorem dX2_votesOf_1 : decode cX2_votesOf 1 = .ok (.istore_n 2, 1) := dk_61 (dk_at dksX2_votesOf_0 1 rfl rfl)
theorem dX2_votesOf_2 : decode cX2_votesOf 2 = .ok (.iconst 0, 1) := dk_3 (dk_at dksX2_votesOf_0 2 rfl rfl)
theorem dX2_votesOf_3 : decode cX2_votesOf 3 = .ok (.istore_n 3, 1) := dk_62 (dk_at dksX2_votesOf_0 3 rfl rfl)
theorem dX2_votesOf_4 : decode cX2_votesOf 4 = .ok (.iload_n 3, 1) := dk_29 (dk_at dksX2_votesOf_0 4 rfl rfl)
theorem dX2_votesOf_5 : decode cX2_votesOf 5 = .ok (.bipush 10, 2) := dk_16 10 (dk_at dksX2_votesOf_0 5 rfl rfl)
theorem dX2_votesOf_7 : decode cX2_votesOf 7 = .ok (.if_icmp .ge 44, 3) := dk_162 0 44 (dk_at dksX2_votesOf_0 7 rfl rfl)
theorem dX2_votesOf_10 : decode cX2_votesOf 10 = .ok (.iconst 0, 1) := dk_3 (dk_at dksX2_votesOf_0 10 rfl rfl)
theorem dX2_votesOf_11 : decode cX2_votesOf 11 = .ok (.istore 4, 2) := dk_54 4 (dk_at dksX2_votesOf_0 11 rfl rfl)
theorem dX2_votesOf_13 : decode cX2_votesOf 13 = .ok (.iload 4, 2) := dk_21 4 (dk_at dksX2_votesOf_0 13 rfl rfl)
theorem dX2_votesOf_15 : decode cX2_votesOf 15 = .ok (.bipush 8, 2) := dk_16 8 (dk_at dksX2_votesOf_0 15 rfl rfl)
theorem dX2_votesOf_17 : decode cX2_votesOf 17 = .ok (.if_icmp .ge 28, 3) := dk_162 0 28 (dk_at dksX2_votesOf_0 17 rfl rfl)
theorem dX2_votesOf_20 : decode cX2_votesOf 20 = .ok (.iload_n 2, 1) := dk_28 (dk_at dksX2_votesOf_0 20 rfl rfl)
theorem dX2_votesOf_21 : decode cX2_votesOf 21 = .ok (.aload_n 0, 1) := dk_42 (dk_at dksX2_votesOf_0 21 rfl rfl)
theorem dX2_votesOf_22 : decode cX2_votesOf 22 = .ok (.iload_n 3, 1) := dk_29 (dk_at dksX2_votesOf_0 22 rfl rfl)
theorem dX2_votesOf_23 : decode cX2_votesOf 23 = .ok (.iload_n 1, 1) := dk_27 (dk_at dksX2_votesOf_0 23 rfl rfl)
theorem dX2_votesOf_24 : decode cX2_votesOf 24 = .ok (.iload 4, 2) := dk_21 4 (dk_at dksX2_votesOf_1 0 rfl rfl)
theorem dX2_votesOf_26 : decode cX2_votesOf 26 = .ok (.invokevirtual 232, 3) := dk_182 0 232 (dk_at dksX2_votesOf_1 2 rfl rfl)
theorem dX2_votesOf_29 : decode cX2_votesOf 29 = .ok (.ifCond .le 7, 3) := dk_158 0 7 (dk_at dksX2_votesOf_1 5 rfl rfl)
theorem dX2_votesOf_32 : decode cX2_votesOf 32 = .ok (.iconst 1, 1) := dk_4 (dk_at dksX2_votesOf_1 8 rfl rfl)
theorem dX2_votesOf_33 : decode cX2_votesOf 33 = .ok (.goto 4, 3) := dk_167 0 4 (dk_at dksX2_votesOf_1 9 rfl rfl)
theorem dX2_votesOf_36 : decode cX2_votesOf 36 = .ok (.iconst 0, 1) := dk_3 (dk_at dksX2_votesOf_1 12 rfl rfl)
theorem dX2_votesOf_37 : decode cX2_votesOf 37 = .ok (.iadd, 1) := dk_96 (dk_at dksX2_votesOf_1 13 rfl rfl)
theorem dX2_votesOf_38 : decode cX2_votesOf 38 = .ok (.istore_n 2, 1) := dk_61 (dk_at dksX2_votesOf_1 14 rfl rfl)
theorem dX2_votesOf_39 : decode cX2_votesOf 39 = .ok (.iinc 4 1, 3) := dk_132 4 1 (dk_at dksX2_votesOf_1 15 rfl rfl)
theorem dX2_votesOf_42 : decode cX2_votesOf 42 = .ok (.goto (-29), 3) := dk_167 255 227 (dk_at dksX2_votesOf_1 18 rfl rfl)
theorem dX2_votesOf_45 : decode cX2_votesOf 45 = .ok (.iinc 3 1, 3) := dk_132 3 1 (dk_at dksX2_votesOf_1 21 rfl rfl)
theorem dX2_votesOf_48 : decode cX2_votesOf 48 = .ok (.goto (-44), 3) := dk_167 255 212 (dk_at dksX2_votesOf_2 0 rfl rfl)
theorem dX2_votesOf_51 : decode cX2_votesOf 51 = .ok (.iload_n 2, 1) := dk_28 (dk_at dksX2_votesOf_2 3 rfl rfl)
theorem dX2_votesOf_52 : decode cX2_votesOf 52 = .ok (.ireturn, 1) := dk_172 (dk_at dksX2_votesOf_2 4 rfl rfl)
abbrev cX2_voteOf : ByteArray := prog_20_method_49_code
def yX2_voteOf : MethodName := ⟨RX2, "voteOf", "(III)I"⟩
def dkwX2_voteOf_0 : List UInt8 := [42, 180, 0, 9, 27, 28, 29, 184, 0, 226, 46, 172]
abbrev dktX2_voteOf_0 : List UInt8 := dkwX2_voteOf_0 ++ []
theorem dksX2_voteOf_0 : cX2_voteOf.data.toList.drop 0 = dktX2_voteOf_0 := by decide +kernel
theorem dX2_voteOf_0 : decode cX2_voteOf 0 = .ok (.aload_n 0, 1) := dk_42 (dk_at dksX2_voteOf_0 0 rfl rfl)
theorem dX2_voteOf_1 : decode cX2_voteOf 1 = .ok (.getfield 9, 3) := dk_180 0 9 (dk_at dksX2_voteOf_0 1 rfl rfl)
theorem dX2_voteOf_4 : decode cX2_voteOf 4 = .ok (.iload_n 1, 1) := dk_27 (dk_at dksX2_voteOf_0 4 rfl rfl)
theorem dX2_voteOf_5 : decode cX2_voteOf 5 = .ok (.iload_n 2, 1) := dk_28 (dk_at dksX2_voteOf_0 5 rfl rfl)
theorem dX2_voteOf_6 : decode cX2_voteOf 6 = .ok (.iload_n 3, 1) := dk_29 (dk_at dksX2_voteOf_0 6 rfl rfl)
theorem dX2_voteOf_7 : decode cX2_voteOf 7 = .ok (.invokestatic 226, 3) := dk_184 0 226 (dk_at dksX2_voteOf_0 7 rfl rfl)
theorem dX2_voteOf_10 : decode cX2_voteOf 10 = .ok (.iaload, 1) := dk_46 (dk_at dksX2_voteOf_0 10 rfl rfl)
theorem dX2_voteOf_11 : decode cX2_voteOf 11 = .ok (.ireturn, 1) := dk_172 (dk_at dksX2_voteOf_0 11 rfl rfl)
abbrev cX2_slopesSeen : ByteArray := prog_20_method_76_code
def yX2_slopesSeen : MethodName := ⟨RX2, "slopesSeen", "(I)I"⟩
def dkwX2_slopesSeen_1 : List UInt8 := [184, 0, 220, 182, 0, 213, 153, 0, 7, 4, 167, 0, 4, 3, 96, 61, 132, 3, 1, 167, 255, 219, 28, 172]
abbrev dktX2_slopesSeen_1 : List UInt8 := dkwX2_slopesSeen_1 ++ []
def dkwX2_slopesSeen_0 : List UInt8 := [3, 61, 3, 62, 29, 42, 180, 0, 9, 16, 7, 46, 162, 0, 32, 28, 42, 27, 184, 0, 210, 29]
abbrev dktX2_slopesSeen_0 : List UInt8 := dkwX2_slopesSeen_0 ++ dktX2_slopesSeen_1
theorem dksX2_slopesSeen_0 : cX2_slopesSeen.data.toList.drop 0 = dktX2_slopesSeen_0 := by decide +kernel
theorem dksX2_slopesSeen_1 : cX2_slopesSeen.data.toList.drop 22 = dktX2_slopesSeen_1 := dk_seg dksX2_slopesSeen_0 22 rfl rfl
theorem dX2_slopesSeen_0 : decode cX2_slopesSeen 0 = .ok (.iconst 0, 1) := dk_3 (dk_at dksX2_slopesSeen_0 0 rfl rfl)
theorem dX2_slopesSeen_1 : decode cX2_slopesSeen 1 = .ok (.istore_n 2, 1) := dk_61 (dk_at dksX2_slopesSeen_0 1 rfl rfl)
theorem dX2_slopesSeen_2 : decode cX2_slopesSeen 2 = .ok (.iconst 0, 1) := dk_3 (dk_at dksX2_slopesSeen_0 2 rfl rfl)
theorem dX2_slopesSeen_3 : decode cX2_slopesSeen 3 = .ok (.istore_n 3, 1) := dk_62 (dk_at dksX2_slopesSeen_0 3 rfl rfl)
theorem dX2_slopesSeen_4 : decode cX2_slopesSeen 4 = .ok (.iload_n 3, 1) := dk_29 (dk_at dksX2_slopesSeen_0 4 rfl rfl)
theorem dX2_slopesSeen_5 : decode cX2_slopesSeen 5 = .ok (.aload_n 0, 1) := dk_42 (dk_at dksX2_slopesSeen_0 5 rfl rfl)
theorem dX2_slopesSeen_6 : decode cX2_slopesSeen 6 = .ok (.getfield 9, 3) := dk_180 0 9 (dk_at dksX2_slopesSeen_0 6 rfl rfl)
theorem dX2_slopesSeen_9 : decode cX2_slopesSeen 9 = .ok (.bipush 7, 2) := dk_16 7 (dk_at dksX2_slopesSeen_0 9 rfl rfl)
theorem dX2_slopesSeen_11 : decode cX2_slopesSeen 11 = .ok (.iaload, 1) := dk_46 (dk_at dksX2_slopesSeen_0 11 rfl rfl)
theorem dX2_slopesSeen_12 : decode cX2_slopesSeen 12 = .ok (.if_icmp .ge 32, 3) := dk_162 0 32 (dk_at dksX2_slopesSeen_0 12 rfl rfl)
theorem dX2_slopesSeen_15 : decode cX2_slopesSeen 15 = .ok (.iload_n 2, 1) := dk_28 (dk_at dksX2_slopesSeen_0 15 rfl rfl)
theorem dX2_slopesSeen_16 : decode cX2_slopesSeen 16 = .ok (.aload_n 0, 1) := dk_42 (dk_at dksX2_slopesSeen_0 16 rfl rfl)
theorem dX2_slopesSeen_17 : decode cX2_slopesSeen 17 = .ok (.iload_n 1, 1) := dk_27 (dk_at dksX2_slopesSeen_0 17 rfl rfl)
theorem dX2_slopesSeen_18 : decode cX2_slopesSeen 18 = .ok (.invokestatic 210, 3) := dk_184 0 210 (dk_at dksX2_slopesSeen_0 18 rfl rfl)
theorem dX2_slopesSeen_21 : decode cX2_slopesSeen 21 = .ok (.iload_n 3, 1) := dk_29 (dk_at dksX2_slopesSeen_0 21 rfl rfl)
theorem dX2_slopesSeen_22 : decode cX2_slopesSeen 22 = .ok (.invokestatic 220, 3) := dk_184 0 220 (dk_at dksX2_slopesSeen_1 0 rfl rfl)
theorem dX2_slopesSeen_25 : decode cX2_slopesSeen 25 = .ok (.invokevirtual 213, 3) := dk_182 0 213 (dk_at dksX2_slopesSeen_1 3 rfl rfl)
theorem dX2_slopesSeen_28 : decode cX2_slopesSeen 28 = .ok (.ifCond .eq 7, 3) := dk_153 0 7 (dk_at dksX2_slopesSeen_1 6 rfl rfl)
theorem dX2_slopesSeen_31 : decode cX2_slopesSeen 31 = .ok (.iconst 1, 1) := dk_4 (dk_at dksX2_slopesSeen_1 9 rfl rfl)
theorem dX2_slopesSeen_32 : decode cX2_slopesSeen 32 = .ok (.goto 4, 3) := dk_167 0 4 (dk_at dksX2_slopesSeen_1 10 rfl rfl)
theorem dX2_slopesSeen_35 : decode cX2_slopesSeen 35 = .ok (.iconst 0, 1) := dk_3 (dk_at dksX2_slopesSeen_1 13 rfl rfl)
theorem dX2_slopesSeen_36 : decode cX2_slopesSeen 36 = .ok (.iadd, 1) := dk_96 (dk_at dksX2_slopesSeen_1 14 rfl rfl)
theorem dX2_slopesSeen_37 : decode cX2_slopesSeen 37 = .ok (.istore_n 2, 1) := dk_61 (dk_at dksX2_slopesSeen_1 15 rfl rfl)
theorem dX2_slopesSeen_38 : decode cX2_slopesSeen 38 = .ok (.iinc 3 1, 3) := dk_132 3 1 (dk_at dksX2_slopesSeen_1 16 rfl rfl)
theorem dX2_slopesSeen_41 : decode cX2_slopesSeen 41 = .ok (.goto (-37), 3) := dk_167 255 219 (dk_at dksX2_slopesSeen_1 19 rfl rfl)
theorem dX2_slopesSeen_44 : decode cX2_slopesSeen 44 = .ok (.iload_n 2, 1) := dk_28 (dk_at dksX2_slopesSeen_1 22 rfl rfl)
theorem dX2_slopesSeen_45 : decode cX2_slopesSeen 45 = .ok (.ireturn, 1) := dk_172 (dk_at dksX2_slopesSeen_1 23 rfl rfl)
abbrev cX2_slopeAt : ByteArray := prog_20_method_39_code
def yX2_slopeAt : MethodName := ⟨RX2, "slopeAt", "(I)I"⟩
def dkwX2_slopeAt_0 : List UInt8 := [16, 40, 6, 26, 104, 96, 172]
abbrev dktX2_slopeAt_0 : List UInt8 := dkwX2_slopeAt_0 ++ []
theorem dksX2_slopeAt_0 : cX2_slopeAt.data.toList.drop 0 = dktX2_slopeAt_0 := by decide +kernel
theorem dX2_slopeAt_0 : decode cX2_slopeAt 0 = .ok (.bipush 40, 2) := dk_16 40 (dk_at dksX2_slopeAt_0 0 rfl rfl)
theorem dX2_slopeAt_2 : decode cX2_slopeAt 2 = .ok (.iconst 3, 1) := dk_6 (dk_at dksX2_slopeAt_0 2 rfl rfl)
theorem dX2_slopeAt_3 : decode cX2_slopeAt 3 = .ok (.iload_n 0, 1) := dk_26 (dk_at dksX2_slopeAt_0 3 rfl rfl)
theorem dX2_slopeAt_4 : decode cX2_slopeAt 4 = .ok (.imul, 1) := dk_104 (dk_at dksX2_slopeAt_0 4 rfl rfl)
theorem dX2_slopeAt_5 : decode cX2_slopeAt 5 = .ok (.iadd, 1) := dk_96 (dk_at dksX2_slopeAt_0 5 rfl rfl)
theorem dX2_slopeAt_6 : decode cX2_slopeAt 6 = .ok (.ireturn, 1) := dk_172 (dk_at dksX2_slopeAt_0 6 rfl rfl)
abbrev cX2_slopesKnown : ByteArray := prog_20_method_77_code
def yX2_slopesKnown : MethodName := ⟨RX2, "slopesKnown", "(I)I"⟩
def dkwX2_slopesKnown_2 : List UInt8 := [167, 255, 214, 28, 172]
abbrev dktX2_slopesKnown_2 : List UInt8 := dkwX2_slopesKnown_2 ++ []
def dkwX2_slopesKnown_1 : List UInt8 := [154, 0, 13, 42, 27, 29, 3, 182, 1, 40, 153, 0, 7, 4, 167, 0, 4, 3, 96, 61, 132, 3, 1]
abbrev dktX2_slopesKnown_1 : List UInt8 := dkwX2_slopesKnown_1 ++ dktX2_slopesKnown_2
def dkwX2_slopesKnown_0 : List UInt8 := [3, 61, 3, 62, 29, 42, 180, 0, 9, 16, 7, 46, 162, 0, 37, 28, 42, 27, 29, 4, 182, 1, 40]
abbrev dktX2_slopesKnown_0 : List UInt8 := dkwX2_slopesKnown_0 ++ dktX2_slopesKnown_1
theorem dksX2_slopesKnown_0 : cX2_slopesKnown.data.toList.drop 0 = dktX2_slopesKnown_0 := by decide +kernel
theorem dksX2_slopesKnown_1 : cX2_slopesKnown.data.toList.drop 23 = dktX2_slopesKnown_1 := dk_seg dksX2_slopesKnown_0 23 rfl rfl
theorem dksX2_slopesKnown_2 : cX2_slopesKnown.data.toList.drop 46 = dktX2_slopesKnown_2 := dk_seg dksX2_slopesKnown_1 23 rfl rfl
theorem dX2_slopesKnown_0 : decode cX2_slopesKnown 0 = .ok (.iconst 0, 1) := dk_3 (dk_at dksX2_slopesKnown_0 0 rfl rfl)
theorem dX2_slopesKnown_1 : decode cX2_slopesKnown 1 = .ok (.istore_n 2, 1) := dk_61 (dk_at dksX2_slopesKnown_0 1 rfl rfl)
theorem dX2_slopesKnown_2 : decode cX2_slopesKnown 2 = .ok (.iconst 0, 1) := dk_3 (dk_at dksX2_slopesKnown_0 2 rfl rfl)
theorem dX2_slopesKnown_3 : decode cX2_slopesKnown 3 = .ok (.istore_n 3, 1) := dk_62 (dk_at dksX2_slopesKnown_0 3 rfl rfl)
theorem dX2_slopesKnown_4 : decode cX2_slopesKnown 4 = .ok (.iload_n 3, 1) := dk_29 (dk_at dksX2_slopesKnown_0 4 rfl rfl)
theorem dX2_slopesKnown_5 : decode cX2_slopesKnown 5 = .ok (.aload_n 0, 1) := dk_42 (dk_at dksX2_slopesKnown_0 5 rfl rfl)
theorem dX2_slopesKnown_6 : decode cX2_slopesKnown 6 = .ok (.getfield 9, 3) := dk_180 0 9 (dk_at dksX2_slopesKnown_0 6 rfl rfl)
theorem dX2_slopesKnown_9 : decode cX2_slopesKnown 9 = .ok (.bipush 7, 2) := dk_16 7 (dk_at dksX2_slopesKnown_0 9 rfl rfl)
theorem dX2_slopesKnown_11 : decode cX2_slopesKnown 11 = .ok (.iaload, 1) := dk_46 (dk_at dksX2_slopesKnown_0 11 rfl rfl)
theorem dX2_slopesKnown_12 : decode cX2_slopesKnown 12 = .ok (.if_icmp .ge 37, 3) := dk_162 0 37 (dk_at dksX2_slopesKnown_0 12 rfl rfl)
theorem dX2_slopesKnown_15 : decode cX2_slopesKnown 15 = .ok (.iload_n 2, 1) := dk_28 (dk_at dksX2_slopesKnown_0 15 rfl rfl)
theorem dX2_slopesKnown_16 : decode cX2_slopesKnown 16 = .ok (.aload_n 0, 1) := dk_42 (dk_at dksX2_slopesKnown_0 16 rfl rfl)
theorem dX2_slopesKnown_17 : decode cX2_slopesKnown 17 = .ok (.iload_n 1, 1) := dk_27 (dk_at dksX2_slopesKnown_0 17 rfl rfl)
theorem dX2_slopesKnown_18 : decode cX2_slopesKnown 18 = .ok (.iload_n 3, 1) := dk_29 (dk_at dksX2_slopesKnown_0 18 rfl rfl)
theorem dX2_slopesKnown_19 : decode cX2_slopesKnown 19 = .ok (.iconst 1, 1) := dk_4 (dk_at dksX2_slopesKnown_0 19 rfl rfl)
theorem dX2_slopesKnown_20 : decode cX2_slopesKnown 20 = .ok (.invokevirtual 296, 3) := dk_182 1 40 (dk_at dksX2_slopesKnown_0 20 rfl rfl)
theorem dX2_slopesKnown_23 : decode cX2_slopesKnown 23 = .ok (.ifCond .ne 13, 3) := dk_154 0 13 (dk_at dksX2_slopesKnown_1 0 rfl rfl)
theorem dX2_slopesKnown_26 : decode cX2_slopesKnown 26 = .ok (.aload_n 0, 1) := dk_42 (dk_at dksX2_slopesKnown_1 3 rfl rfl)
theorem dX2_slopesKnown_27 : decode cX2_slopesKnown 27 = .ok (.iload_n 1, 1) := dk_27 (dk_at dksX2_slopesKnown_1 4 rfl rfl)
theorem dX2_slopesKnown_28 : decode cX2_slopesKnown 28 = .ok (.iload_n 3, 1) := dk_29 (dk_at dksX2_slopesKnown_1 5 rfl rfl)
theorem dX2_slopesKnown_29 : decode cX2_slopesKnown 29 = .ok (.iconst 0, 1) := dk_3 (dk_at dksX2_slopesKnown_1 6 rfl rfl)
theorem dX2_slopesKnown_30 : decode cX2_slopesKnown 30 = .ok (.invokevirtual 296, 3) := dk_182 1 40 (dk_at dksX2_slopesKnown_1 7 rfl rfl)
theorem dX2_slopesKnown_33 : decode cX2_slopesKnown 33 = .ok (.ifCond .eq 7, 3) := dk_153 0 7 (dk_at dksX2_slopesKnown_1 10 rfl rfl)
theorem dX2_slopesKnown_36 : decode cX2_slopesKnown 36 = .ok (.iconst 1, 1) := dk_4 (dk_at dksX2_slopesKnown_1 13 rfl rfl)
theorem dX2_slopesKnown_37 : decode cX2_slopesKnown 37 = .ok (.goto 4, 3) := dk_167 0 4 (dk_at dksX2_slopesKnown_1 14 rfl rfl)
theorem dX2_slopesKnown_40 : decode cX2_slopesKnown 40 = .ok (.iconst 0, 1) := dk_3 (dk_at dksX2_slopesKnown_1 17 rfl rfl)
theorem dX2_slopesKnown_41 : decode cX2_slopesKnown 41 = .ok (.iadd, 1) := dk_96 (dk_at dksX2_slopesKnown_1 18 rfl rfl)
theorem dX2_slopesKnown_42 : decode cX2_slopesKnown 42 = .ok (.istore_n 2, 1) := dk_61 (dk_at dksX2_slopesKnown_1 19 rfl rfl)
theorem dX2_slopesKnown_43 : decode cX2_slopesKnown 43 = .ok (.iinc 3 1, 3) := dk_132 3 1 (dk_at dksX2_slopesKnown_1 20 rfl rfl)
theorem dX2_slopesKnown_46 : decode cX2_slopesKnown 46 = .ok (.goto (-42), 3) := dk_167 255 214 (dk_at dksX2_slopesKnown_2 0 rfl rfl)
theorem dX2_slopesKnown_49 : decode cX2_slopesKnown 49 = .ok (.iload_n 2, 1) := dk_28 (dk_at dksX2_slopesKnown_2 3 rfl rfl)
theorem dX2_slopesKnown_50 : decode cX2_slopesKnown 50 = .ok (.ireturn, 1) := dk_172 (dk_at dksX2_slopesKnown_2 4 rfl rfl)
abbrev cX2_hasVote : ByteArray := prog_20_method_102_code
def yX2_hasVote : MethodName := ⟨RX2, "hasVote", "(IIZ)Z"⟩
def dkwX2_hasVote_2 : List UInt8 := [167, 0, 4, 3, 128, 54, 4, 132, 5, 1, 167, 255, 205, 21, 4, 172]
abbrev dktX2_hasVote_2 : List UInt8 := dkwX2_hasVote_2 ++ []
def dkwX2_hasVote_1 : List UInt8 := [28, 182, 0, 232, 158, 0, 22, 42, 27, 21, 5, 28, 182, 0, 232, 184, 0, 235, 29, 160, 0, 7, 4]
abbrev dktX2_hasVote_1 : List UInt8 := dkwX2_hasVote_1 ++ dktX2_hasVote_2
def dkwX2_hasVote_0 : List UInt8 := [3, 54, 4, 3, 54, 5, 21, 5, 42, 180, 0, 9, 16, 6, 46, 162, 0, 45, 21, 4, 42, 27, 21, 5]
abbrev dktX2_hasVote_0 : List UInt8 := dkwX2_hasVote_0 ++ dktX2_hasVote_1
theorem dksX2_hasVote_0 : cX2_hasVote.data.toList.drop 0 = dktX2_hasVote_0 := by decide +kernel
theorem dksX2_hasVote_1 : cX2_hasVote.data.toList.drop 24 = dktX2_hasVote_1 := dk_seg dksX2_hasVote_0 24 rfl rfl
theorem dksX2_hasVote_2 : cX2_hasVote.data.toList.drop 47 = dktX2_hasVote_2 := dk_seg dksX2_hasVote_1 23 rfl rfl
theorem dX2_hasVote_0 : decode cX2_hasVote 0 = .ok (.iconst 0, 1) := dk_3 (dk_at dksX2_hasVote_0 0 rfl rfl)
theorem dX2_hasVote_1 : decode cX2_hasVote 1 = .ok (.istore 4, 2) := dk_54 4 (dk_at dksX2_hasVote_0 1 rfl rfl)
theorem dX2_hasVote_3 : decode cX2_hasVote 3 = .ok (.iconst 0, 1) := dk_3 (dk_at dksX2_hasVote_0 3 rfl rfl)
theorem dX2_hasVote_4 : decode cX2_hasVote 4 = .ok (.istore 5, 2) := dk_54 5 (dk_at dksX2_hasVote_0 4 rfl rfl)
theorem dX2_hasVote_6 : decode cX2_hasVote 6 = .ok (.iload 5, 2) := dk_21 5 (dk_at dksX2_hasVote_0 6 rfl rfl)
theorem dX2_hasVote_8 : decode cX2_hasVote 8 = .ok (.aload_n 0, 1) := dk_42 (dk_at dksX2_hasVote_0 8 rfl rfl)
theorem dX2_hasVote_9 : decode cX2_hasVote 9 = .ok (.getfield 9, 3) := dk_180 0 9 (dk_at dksX2_hasVote_0 9 rfl rfl)
theorem dX2_hasVote_12 : decode cX2_hasVote 12 = .ok (.bipush 6, 2) := dk_16 6 (dk_at dksX2_hasVote_0 12 rfl rfl)
theorem dX2_hasVote_14 : decode cX2_hasVote 14 = .ok (.iaload, 1) := dk_46 (dk_at dksX2_hasVote_0 14 rfl rfl)
theorem dX2_hasVote_15 : decode cX2_hasVote 15 = .ok (.if_icmp .ge 45, 3) := dk_162 0 45 (dk_at dksX2_hasVote_0 15 rfl rfl)
theorem dX2_hasVote_18 : decode cX2_hasVote 18 = .ok (.iload 4, 2) := dk_21 4 (dk_at dksX2_hasVote_0 18 rfl rfl)
theorem dX2_hasVote_20 : decode cX2_hasVote 20 = .ok (.aload_n 0, 1) := dk_42 (dk_at dksX2_hasVote_0 20 rfl rfl)
theorem dX2_hasVote_21 : decode cX2_hasVote 21 = .ok (.iload_n 1, 1) := dk_27 (dk_at dksX2_hasVote_0 21 rfl rfl)
theorem dX2_hasVote_22 : decode cX2_hasVote 22 = .ok (.iload 5, 2) := dk_21 5 (dk_at dksX2_hasVote_0 22 rfl rfl)
theorem dX2_hasVote_24 : decode cX2_hasVote 24 = .ok (.iload_n 2, 1) := dk_28 (dk_at dksX2_hasVote_1 0 rfl rfl)
theorem dX2_hasVote_25 : decode cX2_hasVote 25 = .ok (.invokevirtual 232, 3) := dk_182 0 232 (dk_at dksX2_hasVote_1 1 rfl rfl)
theorem dX2_hasVote_28 : decode cX2_hasVote 28 = .ok (.ifCond .le 22, 3) := dk_158 0 22 (dk_at dksX2_hasVote_1 4 rfl rfl)
theorem dX2_hasVote_31 : decode cX2_hasVote 31 = .ok (.aload_n 0, 1) := dk_42 (dk_at dksX2_hasVote_1 7 rfl rfl)
theorem dX2_hasVote_32 : decode cX2_hasVote 32 = .ok (.iload_n 1, 1) := dk_27 (dk_at dksX2_hasVote_1 8 rfl rfl)
theorem dX2_hasVote_33 : decode cX2_hasVote 33 = .ok (.iload 5, 2) := dk_21 5 (dk_at dksX2_hasVote_1 9 rfl rfl)
theorem dX2_hasVote_35 : decode cX2_hasVote 35 = .ok (.iload_n 2, 1) := dk_28 (dk_at dksX2_hasVote_1 11 rfl rfl)
theorem dX2_hasVote_36 : decode cX2_hasVote 36 = .ok (.invokevirtual 232, 3) := dk_182 0 232 (dk_at dksX2_hasVote_1 12 rfl rfl)
theorem dX2_hasVote_39 : decode cX2_hasVote 39 = .ok (.invokestatic 235, 3) := dk_184 0 235 (dk_at dksX2_hasVote_1 15 rfl rfl)
theorem dX2_hasVote_42 : decode cX2_hasVote 42 = .ok (.iload_n 3, 1) := dk_29 (dk_at dksX2_hasVote_1 18 rfl rfl)
theorem dX2_hasVote_43 : decode cX2_hasVote 43 = .ok (.if_icmp .ne 7, 3) := dk_160 0 7 (dk_at dksX2_hasVote_1 19 rfl rfl)
theorem dX2_hasVote_46 : decode cX2_hasVote 46 = .ok (.iconst 1, 1) := dk_4 (dk_at dksX2_hasVote_1 22 rfl rfl)
theorem dX2_hasVote_47 : decode cX2_hasVote 47 = .ok (.goto 4, 3) := dk_167 0 4 (dk_at dksX2_hasVote_2 0 rfl rfl)
theorem dX2_hasVote_50 : decode cX2_hasVote 50 = .ok (.iconst 0, 1) := dk_3 (dk_at dksX2_hasVote_2 3 rfl rfl)
theorem dX2_hasVote_51 : decode cX2_hasVote 51 = .ok (.ior, 1) := dk_128 (dk_at dksX2_hasVote_2 4 rfl rfl)
theorem dX2_hasVote_52 : decode cX2_hasVote 52 = .ok (.istore 4, 2) := dk_54 4 (dk_at dksX2_hasVote_2 5 rfl rfl)
theorem dX2_hasVote_54 : decode cX2_hasVote 54 = .ok (.iinc 5 1, 3) := dk_132 5 1 (dk_at dksX2_hasVote_2 7 rfl rfl)
theorem dX2_hasVote_57 : decode cX2_hasVote 57 = .ok (.goto (-51), 3) := dk_167 255 205 (dk_at dksX2_hasVote_2 10 rfl rfl)
theorem dX2_hasVote_60 : decode cX2_hasVote 60 = .ok (.iload 4, 2) := dk_21 4 (dk_at dksX2_hasVote_2 13 rfl rfl)
theorem dX2_hasVote_62 : decode cX2_hasVote 62 = .ok (.ireturn, 1) := dk_172 (dk_at dksX2_hasVote_2 15 rfl rfl)
abbrev cX2_slope : ByteArray := prog_20_method_82_code
def yX2_slope : MethodName := ⟨RX2, "slope", "(II)I"⟩
def dkwX2_slope_5 : List UInt8 := [42, 180, 0, 9, 27, 184, 0, 220, 28, 96, 46, 172]
abbrev dktX2_slope_5 : List UInt8 := dkwX2_slope_5 ++ []
def dkwX2_slope_4 : List UInt8 := [182, 1, 59, 172, 42, 27, 182, 1, 62, 172, 42, 27, 4, 182, 1, 65, 172, 42, 27, 3, 182, 1, 65, 172]
abbrev dktX2_slope_4 : List UInt8 := dkwX2_slope_4 ++ dktX2_slope_5
def dkwX2_slope_3 : List UInt8 := [42, 180, 0, 9, 16, 97, 46, 27, 122, 4, 126, 172, 42, 27, 182, 1, 53, 184, 1, 56, 172, 42, 27]
abbrev dktX2_slope_3 : List UInt8 := dkwX2_slope_3 ++ dktX2_slope_4
def dkwX2_slope_2 : List UInt8 := [170, 0, 0, 0, 0, 85, 0, 0, 0, 3, 0, 0, 0, 8, 0, 0, 0, 38, 0, 0, 0, 50, 0, 0, 0, 59, 0, 0, 0, 65, 0, 0, 0, 71, 0, 0, 0, 78]
abbrev dktX2_slope_2 : List UInt8 := dkwX2_slope_2 ++ dktX2_slope_3
def dkwX2_slope_1 : List UInt8 := [172, 28]
abbrev dktX2_slope_1 : List UInt8 := dkwX2_slope_1 ++ dktX2_slope_2
def dkwX2_slope_0 : List UInt8 := [42, 42, 180, 0, 184, 42, 27, 182, 1, 22, 28, 3, 16, 8, 184, 0, 64, 182, 0, 47, 154, 0, 5, 3]
abbrev dktX2_slope_0 : List UInt8 := dkwX2_slope_0 ++ dktX2_slope_1
theorem dksX2_slope_0 : cX2_slope.data.toList.drop 0 = dktX2_slope_0 := by decide +kernel
theorem dksX2_slope_1 : cX2_slope.data.toList.drop 24 = dktX2_slope_1 := dk_seg dksX2_slope_0 24 rfl rfl
theorem dksX2_slope_2 : cX2_slope.data.toList.drop 26 = dktX2_slope_2 := dk_seg dksX2_slope_1 2 rfl rfl
theorem dksX2_slope_3 : cX2_slope.data.toList.drop 64 = dktX2_slope_3 := dk_seg dksX2_slope_2 38 rfl rfl
theorem dksX2_slope_4 : cX2_slope.data.toList.drop 87 = dktX2_slope_4 := dk_seg dksX2_slope_3 23 rfl rfl
theorem dksX2_slope_5 : cX2_slope.data.toList.drop 111 = dktX2_slope_5 := dk_seg dksX2_slope_4 24 rfl rfl
theorem dX2_slope_0 : decode cX2_slope 0 = .ok (.aload_n 0, 1) := dk_42 (dk_at dksX2_slope_0 0 rfl rfl)
theorem dX2_slope_1 : decode cX2_slope 1 = .ok (.aload_n 0, 1) := dk_42 (dk_at dksX2_slope_0 1 rfl rfl)
theorem dX2_slope_2 : decode cX2_slope 2 = .ok (.getfield 184, 3) := dk_180 0 184 (dk_at dksX2_slope_0 2 rfl rfl)
theorem dX2_slope_5 : decode cX2_slope 5 = .ok (.aload_n 0, 1) := dk_42 (dk_at dksX2_slope_0 5 rfl rfl)
theorem dX2_slope_6 : decode cX2_slope 6 = .ok (.iload_n 1, 1) := dk_27 (dk_at dksX2_slope_0 6 rfl rfl)
theorem dX2_slope_7 : decode cX2_slope 7 = .ok (.invokevirtual 278, 3) := dk_182 1 22 (dk_at dksX2_slope_0 7 rfl rfl)
theorem dX2_slope_10 : decode cX2_slope 10 = .ok (.iload_n 2, 1) := dk_28 (dk_at dksX2_slope_0 10 rfl rfl)
theorem dX2_slope_11 : decode cX2_slope 11 = .ok (.iconst 0, 1) := dk_3 (dk_at dksX2_slope_0 11 rfl rfl)
theorem dX2_slope_12 : decode cX2_slope 12 = .ok (.bipush 8, 2) := dk_16 8 (dk_at dksX2_slope_0 12 rfl rfl)
theorem dX2_slope_14 : decode cX2_slope 14 = .ok (.invokestatic 64, 3) := dk_184 0 64 (dk_at dksX2_slope_0 14 rfl rfl)
theorem dX2_slope_17 : decode cX2_slope 17 = .ok (.invokevirtual 47, 3) := dk_182 0 47 (dk_at dksX2_slope_0 17 rfl rfl)
theorem dX2_slope_20 : decode cX2_slope 20 = .ok (.ifCond .ne 5, 3) := dk_154 0 5 (dk_at dksX2_slope_0 20 rfl rfl)
theorem dX2_slope_23 : decode cX2_slope 23 = .ok (.iconst 0, 1) := dk_3 (dk_at dksX2_slope_0 23 rfl rfl)
theorem dX2_slope_24 : decode cX2_slope 24 = .ok (.ireturn, 1) := dk_172 (dk_at dksX2_slope_1 0 rfl rfl)
theorem dX2_slope_25 : decode cX2_slope 25 = .ok (.iload_n 2, 1) := dk_28 (dk_at dksX2_slope_1 1 rfl rfl)
theorem dX2_slope_26 : decode cX2_slope 26 = .ok (.tableswitch 85 3 8 #[38, 50, 59, 65, 71, 78], 38) := by decide +kernel
theorem dX2_slope_64 : decode cX2_slope 64 = .ok (.aload_n 0, 1) := dk_42 (dk_at dksX2_slope_3 0 rfl rfl)
theorem dX2_slope_65 : decode cX2_slope 65 = .ok (.getfield 9, 3) := dk_180 0 9 (dk_at dksX2_slope_3 1 rfl rfl)
theorem dX2_slope_68 : decode cX2_slope 68 = .ok (.bipush 97, 2) := dk_16 97 (dk_at dksX2_slope_3 4 rfl rfl)
theorem dX2_slope_70 : decode cX2_slope 70 = .ok (.iaload, 1) := dk_46 (dk_at dksX2_slope_3 6 rfl rfl)
theorem dX2_slope_71 : decode cX2_slope 71 = .ok (.iload_n 1, 1) := dk_27 (dk_at dksX2_slope_3 7 rfl rfl)
theorem dX2_slope_72 : decode cX2_slope 72 = .ok (.ishr, 1) := dk_122 (dk_at dksX2_slope_3 8 rfl rfl)
theorem dX2_slope_73 : decode cX2_slope 73 = .ok (.iconst 1, 1) := dk_4 (dk_at dksX2_slope_3 9 rfl rfl)
theorem dX2_slope_74 : decode cX2_slope 74 = .ok (.iand, 1) := dk_126 (dk_at dksX2_slope_3 10 rfl rfl)
theorem dX2_slope_75 : decode cX2_slope 75 = .ok (.ireturn, 1) := dk_172 (dk_at dksX2_slope_3 11 rfl rfl)
theorem dX2_slope_76 : decode cX2_slope 76 = .ok (.aload_n 0, 1) := dk_42 (dk_at dksX2_slope_3 12 rfl rfl)
theorem dX2_slope_77 : decode cX2_slope 77 = .ok (.iload_n 1, 1) := dk_27 (dk_at dksX2_slope_3 13 rfl rfl)
theorem dX2_slope_78 : decode cX2_slope 78 = .ok (.invokevirtual 309, 3) := dk_182 1 53 (dk_at dksX2_slope_3 14 rfl rfl)
theorem dX2_slope_81 : decode cX2_slope 81 = .ok (.invokestatic 312, 3) := dk_184 1 56 (dk_at dksX2_slope_3 17 rfl rfl)
theorem dX2_slope_84 : decode cX2_slope 84 = .ok (.ireturn, 1) := dk_172 (dk_at dksX2_slope_3 20 rfl rfl)
theorem dX2_slope_85 : decode cX2_slope 85 = .ok (.aload_n 0, 1) := dk_42 (dk_at dksX2_slope_3 21 rfl rfl)
theorem dX2_slope_86 : decode cX2_slope 86 = .ok (.iload_n 1, 1) := dk_27 (dk_at dksX2_slope_3 22 rfl rfl)
theorem dX2_slope_87 : decode cX2_slope 87 = .ok (.invokevirtual 315, 3) := dk_182 1 59 (dk_at dksX2_slope_4 0 rfl rfl)
theorem dX2_slope_90 : decode cX2_slope 90 = .ok (.ireturn, 1) := dk_172 (dk_at dksX2_slope_4 3 rfl rfl)
theorem dX2_slope_91 : decode cX2_slope 91 = .ok (.aload_n 0, 1) := dk_42 (dk_at dksX2_slope_4 4 rfl rfl)
theorem dX2_slope_92 : decode cX2_slope 92 = .ok (.iload_n 1, 1) := dk_27 (dk_at dksX2_slope_4 5 rfl rfl)
theorem dX2_slope_93 : decode cX2_slope 93 = .ok (.invokevirtual 318, 3) := dk_182 1 62 (dk_at dksX2_slope_4 6 rfl rfl)
theorem dX2_slope_96 : decode cX2_slope 96 = .ok (.ireturn, 1) := dk_172 (dk_at dksX2_slope_4 9 rfl rfl)
theorem dX2_slope_97 : decode cX2_slope 97 = .ok (.aload_n 0, 1) := dk_42 (dk_at dksX2_slope_4 10 rfl rfl)
theorem dX2_slope_98 : decode cX2_slope 98 = .ok (.iload_n 1, 1) := dk_27 (dk_at dksX2_slope_4 11 rfl rfl)
theorem dX2_slope_99 : decode cX2_slope 99 = .ok (.iconst 1, 1) := dk_4 (dk_at dksX2_slope_4 12 rfl rfl)
theorem dX2_slope_100 : decode cX2_slope 100 = .ok (.invokevirtual 321, 3) := dk_182 1 65 (dk_at dksX2_slope_4 13 rfl rfl)
theorem dX2_slope_103 : decode cX2_slope 103 = .ok (.ireturn, 1) := dk_172 (dk_at dksX2_slope_4 16 rfl rfl)
theorem dX2_slope_104 : decode cX2_slope 104 = .ok (.aload_n 0, 1) := dk_42 (dk_at dksX2_slope_4 17 rfl rfl)
theorem dX2_slope_105 : decode cX2_slope 105 = .ok (.iload_n 1, 1) := dk_27 (dk_at dksX2_slope_4 18 rfl rfl)
theorem dX2_slope_106 : decode cX2_slope 106 = .ok (.iconst 0, 1) := dk_3 (dk_at dksX2_slope_4 19 rfl rfl)
theorem dX2_slope_107 : decode cX2_slope 107 = .ok (.invokevirtual 321, 3) := dk_182 1 65 (dk_at dksX2_slope_4 20 rfl rfl)
theorem dX2_slope_110 : decode cX2_slope 110 = .ok (.ireturn, 1) := dk_172 (dk_at dksX2_slope_4 23 rfl rfl)
theorem dX2_slope_111 : decode cX2_slope 111 = .ok (.aload_n 0, 1) := dk_42 (dk_at dksX2_slope_5 0 rfl rfl)
theorem dX2_slope_112 : decode cX2_slope 112 = .ok (.getfield 9, 3) := dk_180 0 9 (dk_at dksX2_slope_5 1 rfl rfl)
theorem dX2_slope_115 : decode cX2_slope 115 = .ok (.iload_n 1, 1) := dk_27 (dk_at dksX2_slope_5 4 rfl rfl)
theorem dX2_slope_116 : decode cX2_slope 116 = .ok (.invokestatic 220, 3) := dk_184 0 220 (dk_at dksX2_slope_5 5 rfl rfl)
theorem dX2_slope_119 : decode cX2_slope 119 = .ok (.iload_n 2, 1) := dk_28 (dk_at dksX2_slope_5 8 rfl rfl)
theorem dX2_slope_120 : decode cX2_slope 120 = .ok (.iadd, 1) := dk_96 (dk_at dksX2_slope_5 9 rfl rfl)
theorem dX2_slope_121 : decode cX2_slope 121 = .ok (.iaload, 1) := dk_46 (dk_at dksX2_slope_5 10 rfl rfl)
theorem dX2_slope_122 : decode cX2_slope 122 = .ok (.ireturn, 1) := dk_172 (dk_at dksX2_slope_5 11 rfl rfl)
abbrev cX2_isSlope : ByteArray := prog_20_method_37_code
def yX2_isSlope : MethodName := ⟨RX2, "isSlope", "(I)Z"⟩
def dkwX2_isSlope_0 : List UInt8 := [27, 3, 42, 180, 0, 9, 16, 7, 46, 4, 100, 184, 0, 64, 172]
abbrev dktX2_isSlope_0 : List UInt8 := dkwX2_isSlope_0 ++ []
theorem dksX2_isSlope_0 : cX2_isSlope.data.toList.drop 0 = dktX2_isSlope_0 := by decide +kernel
theorem dX2_isSlope_0 : decode cX2_isSlope 0 = .ok (.iload_n 1, 1) := dk_27 (dk_at dksX2_isSlope_0 0 rfl rfl)
theorem dX2_isSlope_1 : decode cX2_isSlope 1 = .ok (.iconst 0, 1) := dk_3 (dk_at dksX2_isSlope_0 1 rfl rfl)
theorem dX2_isSlope_2 : decode cX2_isSlope 2 = .ok (.aload_n 0, 1) := dk_42 (dk_at dksX2_isSlope_0 2 rfl rfl)
theorem dX2_isSlope_3 : decode cX2_isSlope 3 = .ok (.getfield 9, 3) := dk_180 0 9 (dk_at dksX2_isSlope_0 3 rfl rfl)
theorem dX2_isSlope_6 : decode cX2_isSlope 6 = .ok (.bipush 7, 2) := dk_16 7 (dk_at dksX2_isSlope_0 6 rfl rfl)
theorem dX2_isSlope_8 : decode cX2_isSlope 8 = .ok (.iaload, 1) := dk_46 (dk_at dksX2_isSlope_0 8 rfl rfl)
theorem dX2_isSlope_9 : decode cX2_isSlope 9 = .ok (.iconst 1, 1) := dk_4 (dk_at dksX2_isSlope_0 9 rfl rfl)
theorem dX2_isSlope_10 : decode cX2_isSlope 10 = .ok (.isub, 1) := dk_100 (dk_at dksX2_isSlope_0 10 rfl rfl)
theorem dX2_isSlope_11 : decode cX2_isSlope 11 = .ok (.invokestatic 64, 3) := dk_184 0 64 (dk_at dksX2_isSlope_0 11 rfl rfl)
theorem dX2_isSlope_14 : decode cX2_isSlope 14 = .ok (.ireturn, 1) := dk_172 (dk_at dksX2_isSlope_0 14 rfl rfl)
abbrev cX2_closersOf : ByteArray := prog_20_method_58_code
def yX2_closersOf : MethodName := ⟨RX2, "closersOf", "(I)I"⟩
def dkwX2_closersOf_1 : List UInt8 := [153, 0, 9, 4, 29, 120, 167, 0, 4, 3, 128, 61, 132, 3, 1, 167, 255, 223, 28, 172]
abbrev dktX2_closersOf_1 : List UInt8 := dkwX2_closersOf_1 ++ []
def dkwX2_closersOf_0 : List UInt8 := [3, 61, 3, 62, 29, 42, 180, 0, 9, 16, 6, 46, 162, 0, 28, 28, 42, 29, 27, 182, 0, 248]
abbrev dktX2_closersOf_0 : List UInt8 := dkwX2_closersOf_0 ++ dktX2_closersOf_1
theorem dksX2_closersOf_0 : cX2_closersOf.data.toList.drop 0 = dktX2_closersOf_0 := by decide +kernel
theorem dksX2_closersOf_1 : cX2_closersOf.data.toList.drop 22 = dktX2_closersOf_1 := dk_seg dksX2_closersOf_0 22 rfl rfl
theorem dX2_closersOf_0 : decode cX2_closersOf 0 = .ok (.iconst 0, 1) := dk_3 (dk_at dksX2_closersOf_0 0 rfl rfl)
theorem dX2_closersOf_1 : decode cX2_closersOf 1 = .ok (.istore_n 2, 1) := dk_61 (dk_at dksX2_closersOf_0 1 rfl rfl)
theorem dX2_closersOf_2 : decode cX2_closersOf 2 = .ok (.iconst 0, 1) := dk_3 (dk_at dksX2_closersOf_0 2 rfl rfl)
theorem dX2_closersOf_3 : decode cX2_closersOf 3 = .ok (.istore_n 3, 1) := dk_62 (dk_at dksX2_closersOf_0 3 rfl rfl)
theorem dX2_closersOf_4 : decode cX2_closersOf 4 = .ok (.iload_n 3, 1) := dk_29 (dk_at dksX2_closersOf_0 4 rfl rfl)
theorem dX2_closersOf_5 : decode cX2_closersOf 5 = .ok (.aload_n 0, 1) := dk_42 (dk_at dksX2_closersOf_0 5 rfl rfl)
theorem dX2_closersOf_6 : decode cX2_closersOf 6 = .ok (.getfield 9, 3) := dk_180 0 9 (dk_at dksX2_closersOf_0 6 rfl rfl)
theorem dX2_closersOf_9 : decode cX2_closersOf 9 = .ok (.bipush 6, 2) := dk_16 6 (dk_at dksX2_closersOf_0 9 rfl rfl)
theorem dX2_closersOf_11 : decode cX2_closersOf 11 = .ok (.iaload, 1) := dk_46 (dk_at dksX2_closersOf_0 11 rfl rfl)
theorem dX2_closersOf_12 : decode cX2_closersOf 12 = .ok (.if_icmp .ge 28, 3) := dk_162 0 28 (dk_at dksX2_closersOf_0 12 rfl rfl)
theorem dX2_closersOf_15 : decode cX2_closersOf 15 = .ok (.iload_n 2, 1) := dk_28 (dk_at dksX2_closersOf_0 15 rfl rfl)
theorem dX2_closersOf_16 : decode cX2_closersOf 16 = .ok (.aload_n 0, 1) := dk_42 (dk_at dksX2_closersOf_0 16 rfl rfl)
theorem dX2_closersOf_17 : decode cX2_closersOf 17 = .ok (.iload_n 3, 1) := dk_29 (dk_at dksX2_closersOf_0 17 rfl rfl)
theorem dX2_closersOf_18 : decode cX2_closersOf 18 = .ok (.iload_n 1, 1) := dk_27 (dk_at dksX2_closersOf_0 18 rfl rfl)
theorem dX2_closersOf_19 : decode cX2_closersOf 19 = .ok (.invokevirtual 248, 3) := dk_182 0 248 (dk_at dksX2_closersOf_0 19 rfl rfl)
theorem dX2_closersOf_22 : decode cX2_closersOf 22 = .ok (.ifCond .eq 9, 3) := dk_153 0 9 (dk_at dksX2_closersOf_1 0 rfl rfl)
theorem dX2_closersOf_25 : decode cX2_closersOf 25 = .ok (.iconst 1, 1) := dk_4 (dk_at dksX2_closersOf_1 3 rfl rfl)
theorem dX2_closersOf_26 : decode cX2_closersOf 26 = .ok (.iload_n 3, 1) := dk_29 (dk_at dksX2_closersOf_1 4 rfl rfl)
theorem dX2_closersOf_27 : decode cX2_closersOf 27 = .ok (.ishl, 1) := dk_120 (dk_at dksX2_closersOf_1 5 rfl rfl)
theorem dX2_closersOf_28 : decode cX2_closersOf 28 = .ok (.goto 4, 3) := dk_167 0 4 (dk_at dksX2_closersOf_1 6 rfl rfl)
theorem dX2_closersOf_31 : decode cX2_closersOf 31 = .ok (.iconst 0, 1) := dk_3 (dk_at dksX2_closersOf_1 9 rfl rfl)
theorem dX2_closersOf_32 : decode cX2_closersOf 32 = .ok (.ior, 1) := dk_128 (dk_at dksX2_closersOf_1 10 rfl rfl)
theorem dX2_closersOf_33 : decode cX2_closersOf 33 = .ok (.istore_n 2, 1) := dk_61 (dk_at dksX2_closersOf_1 11 rfl rfl)
theorem dX2_closersOf_34 : decode cX2_closersOf 34 = .ok (.iinc 3 1, 3) := dk_132 3 1 (dk_at dksX2_closersOf_1 12 rfl rfl)
theorem dX2_closersOf_37 : decode cX2_closersOf 37 = .ok (.goto (-33), 3) := dk_167 255 223 (dk_at dksX2_closersOf_1 15 rfl rfl)
theorem dX2_closersOf_40 : decode cX2_closersOf 40 = .ok (.iload_n 2, 1) := dk_28 (dk_at dksX2_closersOf_1 18 rfl rfl)
theorem dX2_closersOf_41 : decode cX2_closersOf 41 = .ok (.ireturn, 1) := dk_172 (dk_at dksX2_closersOf_1 19 rfl rfl)
abbrev cX2_holds : ByteArray := prog_20_method_56_code
def yX2_holds : MethodName := ⟨RX2, "holds", "(II)Z"⟩
def dkwX2_holds_0 : List UInt8 := [42, 180, 0, 9, 17, 0, 138, 27, 96, 46, 28, 184, 0, 245, 172]
abbrev dktX2_holds_0 : List UInt8 := dkwX2_holds_0 ++ []
theorem dksX2_holds_0 : cX2_holds.data.toList.drop 0 = dktX2_holds_0 := by decide +kernel
theorem dX2_holds_0 : decode cX2_holds 0 = .ok (.aload_n 0, 1) := dk_42 (dk_at dksX2_holds_0 0 rfl rfl)
theorem dX2_holds_1 : decode cX2_holds 1 = .ok (.getfield 9, 3) := dk_180 0 9 (dk_at dksX2_holds_0 1 rfl rfl)
theorem dX2_holds_4 : decode cX2_holds 4 = .ok (.sipush 138, 3) := dk_17 0 138 (dk_at dksX2_holds_0 4 rfl rfl)
theorem dX2_holds_7 : decode cX2_holds 7 = .ok (.iload_n 1, 1) := dk_27 (dk_at dksX2_holds_0 7 rfl rfl)
theorem dX2_holds_8 : decode cX2_holds 8 = .ok (.iadd, 1) := dk_96 (dk_at dksX2_holds_0 8 rfl rfl)
theorem dX2_holds_9 : decode cX2_holds 9 = .ok (.iaload, 1) := dk_46 (dk_at dksX2_holds_0 9 rfl rfl)
theorem dX2_holds_10 : decode cX2_holds 10 = .ok (.iload_n 2, 1) := dk_28 (dk_at dksX2_holds_0 10 rfl rfl)
theorem dX2_holds_11 : decode cX2_holds 11 = .ok (.invokestatic 245, 3) := dk_184 0 245 (dk_at dksX2_holds_0 11 rfl rfl)
theorem dX2_holds_14 : decode cX2_holds 14 = .ok (.ireturn, 1) := dk_172 (dk_at dksX2_holds_0 14 rfl rfl)
abbrev cX2_has : ByteArray := prog_20_method_45_code
def yX2_has : MethodName := ⟨RX2, "has", "(II)Z"⟩
def dkwX2_has_0 : List UInt8 := [26, 27, 122, 4, 126, 4, 160, 0, 7, 4, 167, 0, 4, 3, 172]
abbrev dktX2_has_0 : List UInt8 := dkwX2_has_0 ++ []
theorem dksX2_has_0 : cX2_has.data.toList.drop 0 = dktX2_has_0 := by decide +kernel
theorem dX2_has_0 : decode cX2_has 0 = .ok (.iload_n 0, 1) := dk_26 (dk_at dksX2_has_0 0 rfl rfl)
theorem dX2_has_1 : decode cX2_has 1 = .ok (.iload_n 1, 1) := dk_27 (dk_at dksX2_has_0 1 rfl rfl)
theorem dX2_has_2 : decode cX2_has 2 = .ok (.ishr, 1) := dk_122 (dk_at dksX2_has_0 2 rfl rfl)
theorem dX2_has_3 : decode cX2_has 3 = .ok (.iconst 1, 1) := dk_4 (dk_at dksX2_has_0 3 rfl rfl)
theorem dX2_has_4 : decode cX2_has 4 = .ok (.iand, 1) := dk_126 (dk_at dksX2_has_0 4 rfl rfl)
theorem dX2_has_5 : decode cX2_has 5 = .ok (.iconst 1, 1) := dk_4 (dk_at dksX2_has_0 5 rfl rfl)
theorem dX2_has_6 : decode cX2_has 6 = .ok (.if_icmp .ne 7, 3) := dk_160 0 7 (dk_at dksX2_has_0 6 rfl rfl)
theorem dX2_has_9 : decode cX2_has 9 = .ok (.iconst 1, 1) := dk_4 (dk_at dksX2_has_0 9 rfl rfl)
theorem dX2_has_10 : decode cX2_has 10 = .ok (.goto 4, 3) := dk_167 0 4 (dk_at dksX2_has_0 10 rfl rfl)
theorem dX2_has_13 : decode cX2_has 13 = .ok (.iconst 0, 1) := dk_3 (dk_at dksX2_has_0 13 rfl rfl)
theorem dX2_has_14 : decode cX2_has 14 = .ok (.ireturn, 1) := dk_172 (dk_at dksX2_has_0 14 rfl rfl)
abbrev cX2_bits : ByteArray := prog_20_method_46_code
def yX2_bits : MethodName := ⟨RX2, "bits", "(I)I"⟩
def dkwX2_bits_1 : List UInt8 := [27, 172]
abbrev dktX2_bits_1 : List UInt8 := dkwX2_bits_1 ++ []
def dkwX2_bits_0 : List UInt8 := [3, 60, 3, 61, 28, 16, 10, 162, 0, 17, 27, 26, 28, 122, 4, 126, 96, 60, 132, 2, 1, 167, 255, 239]
abbrev dktX2_bits_0 : List UInt8 := dkwX2_bits_0 ++ dktX2_bits_1
theorem dksX2_bits_0 : cX2_bits.data.toList.drop 0 = dktX2_bits_0 := by decide +kernel
theorem dksX2_bits_1 : cX2_bits.data.toList.drop 24 = dktX2_bits_1 := dk_seg dksX2_bits_0 24 rfl rfl
theorem dX2_bits_0 : decode cX2_bits 0 = .ok (.iconst 0, 1) := dk_3 (dk_at dksX2_bits_0 0 rfl rfl)
theorem dX2_bits_1 : decode cX2_bits 1 = .ok (.istore_n 1, 1) := dk_60 (dk_at dksX2_bits_0 1 rfl rfl)
theorem dX2_bits_2 : decode cX2_bits 2 = .ok (.iconst 0, 1) := dk_3 (dk_at dksX2_bits_0 2 rfl rfl)
theorem dX2_bits_3 : decode cX2_bits 3 = .ok (.istore_n 2, 1) := dk_61 (dk_at dksX2_bits_0 3 rfl rfl)
theorem dX2_bits_4 : decode cX2_bits 4 = .ok (.iload_n 2, 1) := dk_28 (dk_at dksX2_bits_0 4 rfl rfl)
theorem dX2_bits_5 : decode cX2_bits 5 = .ok (.bipush 10, 2) := dk_16 10 (dk_at dksX2_bits_0 5 rfl rfl)
theorem dX2_bits_7 : decode cX2_bits 7 = .ok (.if_icmp .ge 17, 3) := dk_162 0 17 (dk_at dksX2_bits_0 7 rfl rfl)
theorem dX2_bits_10 : decode cX2_bits 10 = .ok (.iload_n 1, 1) := dk_27 (dk_at dksX2_bits_0 10 rfl rfl)
theorem dX2_bits_11 : decode cX2_bits 11 = .ok (.iload_n 0, 1) := dk_26 (dk_at dksX2_bits_0 11 rfl rfl)
theorem dX2_bits_12 : decode cX2_bits 12 = .ok (.iload_n 2, 1) := dk_28 (dk_at dksX2_bits_0 12 rfl rfl)
theorem dX2_bits_13 : decode cX2_bits 13 = .ok (.ishr, 1) := dk_122 (dk_at dksX2_bits_0 13 rfl rfl)
theorem dX2_bits_14 : decode cX2_bits 14 = .ok (.iconst 1, 1) := dk_4 (dk_at dksX2_bits_0 14 rfl rfl)
theorem dX2_bits_15 : decode cX2_bits 15 = .ok (.iand, 1) := dk_126 (dk_at dksX2_bits_0 15 rfl rfl)
theorem dX2_bits_16 : decode cX2_bits 16 = .ok (.iadd, 1) := dk_96 (dk_at dksX2_bits_0 16 rfl rfl)
theorem dX2_bits_17 : decode cX2_bits 17 = .ok (.istore_n 1, 1) := dk_60 (dk_at dksX2_bits_0 17 rfl rfl)
theorem dX2_bits_18 : decode cX2_bits 18 = .ok (.iinc 2 1, 3) := dk_132 2 1 (dk_at dksX2_bits_0 18 rfl rfl)
theorem dX2_bits_21 : decode cX2_bits 21 = .ok (.goto (-17), 3) := dk_167 255 239 (dk_at dksX2_bits_0 21 rfl rfl)
theorem dX2_bits_24 : decode cX2_bits 24 = .ok (.iload_n 1, 1) := dk_27 (dk_at dksX2_bits_1 0 rfl rfl)
theorem dX2_bits_25 : decode cX2_bits 25 = .ok (.ireturn, 1) := dk_172 (dk_at dksX2_bits_1 1 rfl rfl)
abbrev cX2_seers0 : ByteArray := prog_20_method_79_code
def yX2_seers0 : MethodName := ⟨RX2, "seers0", "(I)I"⟩
def dkwX2_seers0_1 : List UInt8 := [184, 0, 220, 182, 0, 213, 153, 0, 7, 4, 167, 0, 4, 3, 96, 61, 132, 3, 1, 167, 255, 219, 28, 172]
abbrev dktX2_seers0_1 : List UInt8 := dkwX2_seers0_1 ++ []
def dkwX2_seers0_0 : List UInt8 := [3, 61, 3, 62, 29, 42, 180, 0, 9, 16, 6, 46, 162, 0, 32, 28, 42, 29, 184, 0, 210, 27]
abbrev dktX2_seers0_0 : List UInt8 := dkwX2_seers0_0 ++ dktX2_seers0_1
theorem dksX2_seers0_0 : cX2_seers0.data.toList.drop 0 = dktX2_seers0_0 := by decide +kernel
theorem dksX2_seers0_1 : cX2_seers0.data.toList.drop 22 = dktX2_seers0_1 := dk_seg dksX2_seers0_0 22 rfl rfl
theorem dX2_seers0_0 : decode cX2_seers0 0 = .ok (.iconst 0, 1) := dk_3 (dk_at dksX2_seers0_0 0 rfl rfl)
theorem dX2_seers0_1 : decode cX2_seers0 1 = .ok (.istore_n 2, 1) := dk_61 (dk_at dksX2_seers0_0 1 rfl rfl)
theorem dX2_seers0_2 : decode cX2_seers0 2 = .ok (.iconst 0, 1) := dk_3 (dk_at dksX2_seers0_0 2 rfl rfl)
theorem dX2_seers0_3 : decode cX2_seers0 3 = .ok (.istore_n 3, 1) := dk_62 (dk_at dksX2_seers0_0 3 rfl rfl)
theorem dX2_seers0_4 : decode cX2_seers0 4 = .ok (.iload_n 3, 1) := dk_29 (dk_at dksX2_seers0_0 4 rfl rfl)
theorem dX2_seers0_5 : decode cX2_seers0 5 = .ok (.aload_n 0, 1) := dk_42 (dk_at dksX2_seers0_0 5 rfl rfl)
theorem dX2_seers0_6 : decode cX2_seers0 6 = .ok (.getfield 9, 3) := dk_180 0 9 (dk_at dksX2_seers0_0 6 rfl rfl)
theorem dX2_seers0_9 : decode cX2_seers0 9 = .ok (.bipush 6, 2) := dk_16 6 (dk_at dksX2_seers0_0 9 rfl rfl)
theorem dX2_seers0_11 : decode cX2_seers0 11 = .ok (.iaload, 1) := dk_46 (dk_at dksX2_seers0_0 11 rfl rfl)
theorem dX2_seers0_12 : decode cX2_seers0 12 = .ok (.if_icmp .ge 32, 3) := dk_162 0 32 (dk_at dksX2_seers0_0 12 rfl rfl)
theorem dX2_seers0_15 : decode cX2_seers0 15 = .ok (.iload_n 2, 1) := dk_28 (dk_at dksX2_seers0_0 15 rfl rfl)
theorem dX2_seers0_16 : decode cX2_seers0 16 = .ok (.aload_n 0, 1) := dk_42 (dk_at dksX2_seers0_0 16 rfl rfl)
theorem dX2_seers0_17 : decode cX2_seers0 17 = .ok (.iload_n 3, 1) := dk_29 (dk_at dksX2_seers0_0 17 rfl rfl)
theorem dX2_seers0_18 : decode cX2_seers0 18 = .ok (.invokestatic 210, 3) := dk_184 0 210 (dk_at dksX2_seers0_0 18 rfl rfl)
theorem dX2_seers0_21 : decode cX2_seers0 21 = .ok (.iload_n 1, 1) := dk_27 (dk_at dksX2_seers0_0 21 rfl rfl)
theorem dX2_seers0_22 : decode cX2_seers0 22 = .ok (.invokestatic 220, 3) := dk_184 0 220 (dk_at dksX2_seers0_1 0 rfl rfl)
theorem dX2_seers0_25 : decode cX2_seers0 25 = .ok (.invokevirtual 213, 3) := dk_182 0 213 (dk_at dksX2_seers0_1 3 rfl rfl)
theorem dX2_seers0_28 : decode cX2_seers0 28 = .ok (.ifCond .eq 7, 3) := dk_153 0 7 (dk_at dksX2_seers0_1 6 rfl rfl)
theorem dX2_seers0_31 : decode cX2_seers0 31 = .ok (.iconst 1, 1) := dk_4 (dk_at dksX2_seers0_1 9 rfl rfl)
theorem dX2_seers0_32 : decode cX2_seers0 32 = .ok (.goto 4, 3) := dk_167 0 4 (dk_at dksX2_seers0_1 10 rfl rfl)
theorem dX2_seers0_35 : decode cX2_seers0 35 = .ok (.iconst 0, 1) := dk_3 (dk_at dksX2_seers0_1 13 rfl rfl)
theorem dX2_seers0_36 : decode cX2_seers0 36 = .ok (.iadd, 1) := dk_96 (dk_at dksX2_seers0_1 14 rfl rfl)
theorem dX2_seers0_37 : decode cX2_seers0 37 = .ok (.istore_n 2, 1) := dk_61 (dk_at dksX2_seers0_1 15 rfl rfl)
theorem dX2_seers0_38 : decode cX2_seers0 38 = .ok (.iinc 3 1, 3) := dk_132 3 1 (dk_at dksX2_seers0_1 16 rfl rfl)
theorem dX2_seers0_41 : decode cX2_seers0 41 = .ok (.goto (-37), 3) := dk_167 255 219 (dk_at dksX2_seers0_1 19 rfl rfl)
theorem dX2_seers0_44 : decode cX2_seers0 44 = .ok (.iload_n 2, 1) := dk_28 (dk_at dksX2_seers0_1 22 rfl rfl)
theorem dX2_seers0_45 : decode cX2_seers0 45 = .ok (.ireturn, 1) := dk_172 (dk_at dksX2_seers0_1 23 rfl rfl)
abbrev cX2_votesOn : ByteArray := prog_20_method_80_code
def yX2_votesOn : MethodName := ⟨RX2, "votesOn", "(I)I"⟩
def dkwX2_votesOn_1 : List UInt8 := [158, 0, 7, 4, 167, 0, 4, 3, 96, 61, 132, 3, 8, 167, 255, 229, 28, 172]
abbrev dktX2_votesOn_1 : List UInt8 := dkwX2_votesOn_1 ++ []
def dkwX2_votesOn_0 : List UInt8 := [3, 61, 17, 1, 2, 27, 96, 62, 29, 17, 4, 34, 162, 0, 26, 28, 42, 180, 0, 9, 29, 46]
abbrev dktX2_votesOn_0 : List UInt8 := dkwX2_votesOn_0 ++ dktX2_votesOn_1
theorem dksX2_votesOn_0 : cX2_votesOn.data.toList.drop 0 = dktX2_votesOn_0 := by decide +kernel
theorem dksX2_votesOn_1 : cX2_votesOn.data.toList.drop 22 = dktX2_votesOn_1 := dk_seg dksX2_votesOn_0 22 rfl rfl
theorem dX2_votesOn_0 : decode cX2_votesOn 0 = .ok (.iconst 0, 1) := dk_3 (dk_at dksX2_votesOn_0 0 rfl rfl)
theorem dX2_votesOn_1 : decode cX2_votesOn 1 = .ok (.istore_n 2, 1) := dk_61 (dk_at dksX2_votesOn_0 1 rfl rfl)
theorem dX2_votesOn_2 : decode cX2_votesOn 2 = .ok (.sipush 258, 3) := dk_17 1 2 (dk_at dksX2_votesOn_0 2 rfl rfl)
theorem dX2_votesOn_5 : decode cX2_votesOn 5 = .ok (.iload_n 1, 1) := dk_27 (dk_at dksX2_votesOn_0 5 rfl rfl)
theorem dX2_votesOn_6 : decode cX2_votesOn 6 = .ok (.iadd, 1) := dk_96 (dk_at dksX2_votesOn_0 6 rfl rfl)
theorem dX2_votesOn_7 : decode cX2_votesOn 7 = .ok (.istore_n 3, 1) := dk_62 (dk_at dksX2_votesOn_0 7 rfl rfl)
theorem dX2_votesOn_8 : decode cX2_votesOn 8 = .ok (.iload_n 3, 1) := dk_29 (dk_at dksX2_votesOn_0 8 rfl rfl)
theorem dX2_votesOn_9 : decode cX2_votesOn 9 = .ok (.sipush 1058, 3) := dk_17 4 34 (dk_at dksX2_votesOn_0 9 rfl rfl)
theorem dX2_votesOn_12 : decode cX2_votesOn 12 = .ok (.if_icmp .ge 26, 3) := dk_162 0 26 (dk_at dksX2_votesOn_0 12 rfl rfl)
theorem dX2_votesOn_15 : decode cX2_votesOn 15 = .ok (.iload_n 2, 1) := dk_28 (dk_at dksX2_votesOn_0 15 rfl rfl)
theorem dX2_votesOn_16 : decode cX2_votesOn 16 = .ok (.aload_n 0, 1) := dk_42 (dk_at dksX2_votesOn_0 16 rfl rfl)
theorem dX2_votesOn_17 : decode cX2_votesOn 17 = .ok (.getfield 9, 3) := dk_180 0 9 (dk_at dksX2_votesOn_0 17 rfl rfl)
theorem dX2_votesOn_20 : decode cX2_votesOn 20 = .ok (.iload_n 3, 1) := dk_29 (dk_at dksX2_votesOn_0 20 rfl rfl)
theorem dX2_votesOn_21 : decode cX2_votesOn 21 = .ok (.iaload, 1) := dk_46 (dk_at dksX2_votesOn_0 21 rfl rfl)
theorem dX2_votesOn_22 : decode cX2_votesOn 22 = .ok (.ifCond .le 7, 3) := dk_158 0 7 (dk_at dksX2_votesOn_1 0 rfl rfl)
theorem dX2_votesOn_25 : decode cX2_votesOn 25 = .ok (.iconst 1, 1) := dk_4 (dk_at dksX2_votesOn_1 3 rfl rfl)
theorem dX2_votesOn_26 : decode cX2_votesOn 26 = .ok (.goto 4, 3) := dk_167 0 4 (dk_at dksX2_votesOn_1 4 rfl rfl)
theorem dX2_votesOn_29 : decode cX2_votesOn 29 = .ok (.iconst 0, 1) := dk_3 (dk_at dksX2_votesOn_1 7 rfl rfl)
theorem dX2_votesOn_30 : decode cX2_votesOn 30 = .ok (.iadd, 1) := dk_96 (dk_at dksX2_votesOn_1 8 rfl rfl)
theorem dX2_votesOn_31 : decode cX2_votesOn 31 = .ok (.istore_n 2, 1) := dk_61 (dk_at dksX2_votesOn_1 9 rfl rfl)
theorem dX2_votesOn_32 : decode cX2_votesOn 32 = .ok (.iinc 3 8, 3) := dk_132 3 8 (dk_at dksX2_votesOn_1 10 rfl rfl)
theorem dX2_votesOn_35 : decode cX2_votesOn 35 = .ok (.goto (-27), 3) := dk_167 255 229 (dk_at dksX2_votesOn_1 13 rfl rfl)
theorem dX2_votesOn_38 : decode cX2_votesOn 38 = .ok (.iload_n 2, 1) := dk_28 (dk_at dksX2_votesOn_1 16 rfl rfl)
theorem dX2_votesOn_39 : decode cX2_votesOn 39 = .ok (.ireturn, 1) := dk_172 (dk_at dksX2_votesOn_1 17 rfl rfl)
abbrev cX2_allWeights : ByteArray := prog_20_method_81_code
def yX2_allWeights : MethodName := ⟨RX2, "allWeights", "(IZ)I"⟩
def dkwX2_allWeights_1 : List UInt8 := [182, 0, 241, 96, 62, 132, 4, 1, 167, 255, 230, 29, 172]
abbrev dktX2_allWeights_1 : List UInt8 := dkwX2_allWeights_1 ++ []
def dkwX2_allWeights_0 : List UInt8 := [3, 62, 3, 54, 4, 21, 4, 42, 180, 0, 9, 16, 6, 46, 162, 0, 20, 29, 42, 21, 4, 27, 28]
abbrev dktX2_allWeights_0 : List UInt8 := dkwX2_allWeights_0 ++ dktX2_allWeights_1
theorem dksX2_allWeights_0 : cX2_allWeights.data.toList.drop 0 = dktX2_allWeights_0 := by decide +kernel
theorem dksX2_allWeights_1 : cX2_allWeights.data.toList.drop 23 = dktX2_allWeights_1 := dk_seg dksX2_allWeights_0 23 rfl rfl
theorem dX2_allWeights_0 : decode cX2_allWeights 0 = .ok (.iconst 0, 1) := dk_3 (dk_at dksX2_allWeights_0 0 rfl rfl)
theorem dX2_allWeights_1 : decode cX2_allWeights 1 = .ok (.istore_n 3, 1) := dk_62 (dk_at dksX2_allWeights_0 1 rfl rfl)
theorem dX2_allWeights_2 : decode cX2_allWeights 2 = .ok (.iconst 0, 1) := dk_3 (dk_at dksX2_allWeights_0 2 rfl rfl)
theorem dX2_allWeights_3 : decode cX2_allWeights 3 = .ok (.istore 4, 2) := dk_54 4 (dk_at dksX2_allWeights_0 3 rfl rfl)
theorem dX2_allWeights_5 : decode cX2_allWeights 5 = .ok (.iload 4, 2) := dk_21 4 (dk_at dksX2_allWeights_0 5 rfl rfl)
theorem dX2_allWeights_7 : decode cX2_allWeights 7 = .ok (.aload_n 0, 1) := dk_42 (dk_at dksX2_allWeights_0 7 rfl rfl)
theorem dX2_allWeights_8 : decode cX2_allWeights 8 = .ok (.getfield 9, 3) := dk_180 0 9 (dk_at dksX2_allWeights_0 8 rfl rfl)
theorem dX2_allWeights_11 : decode cX2_allWeights 11 = .ok (.bipush 6, 2) := dk_16 6 (dk_at dksX2_allWeights_0 11 rfl rfl)
theorem dX2_allWeights_13 : decode cX2_allWeights 13 = .ok (.iaload, 1) := dk_46 (dk_at dksX2_allWeights_0 13 rfl rfl)
theorem dX2_allWeights_14 : decode cX2_allWeights 14 = .ok (.if_icmp .ge 20, 3) := dk_162 0 20 (dk_at dksX2_allWeights_0 14 rfl rfl)
theorem dX2_allWeights_17 : decode cX2_allWeights 17 = .ok (.iload_n 3, 1) := dk_29 (dk_at dksX2_allWeights_0 17 rfl rfl)
theorem dX2_allWeights_18 : decode cX2_allWeights 18 = .ok (.aload_n 0, 1) := dk_42 (dk_at dksX2_allWeights_0 18 rfl rfl)
theorem dX2_allWeights_19 : decode cX2_allWeights 19 = .ok (.iload 4, 2) := dk_21 4 (dk_at dksX2_allWeights_0 19 rfl rfl)
theorem dX2_allWeights_21 : decode cX2_allWeights 21 = .ok (.iload_n 1, 1) := dk_27 (dk_at dksX2_allWeights_0 21 rfl rfl)
theorem dX2_allWeights_22 : decode cX2_allWeights 22 = .ok (.iload_n 2, 1) := dk_28 (dk_at dksX2_allWeights_0 22 rfl rfl)
theorem dX2_allWeights_23 : decode cX2_allWeights 23 = .ok (.invokevirtual 241, 3) := dk_182 0 241 (dk_at dksX2_allWeights_1 0 rfl rfl)
theorem dX2_allWeights_26 : decode cX2_allWeights 26 = .ok (.iadd, 1) := dk_96 (dk_at dksX2_allWeights_1 3 rfl rfl)
theorem dX2_allWeights_27 : decode cX2_allWeights 27 = .ok (.istore_n 3, 1) := dk_62 (dk_at dksX2_allWeights_1 4 rfl rfl)
theorem dX2_allWeights_28 : decode cX2_allWeights 28 = .ok (.iinc 4 1, 3) := dk_132 4 1 (dk_at dksX2_allWeights_1 5 rfl rfl)
theorem dX2_allWeights_31 : decode cX2_allWeights 31 = .ok (.goto (-26), 3) := dk_167 255 230 (dk_at dksX2_allWeights_1 8 rfl rfl)
theorem dX2_allWeights_34 : decode cX2_allWeights 34 = .ok (.iload_n 3, 1) := dk_29 (dk_at dksX2_allWeights_1 11 rfl rfl)
theorem dX2_allWeights_35 : decode cX2_allWeights 35 = .ok (.ireturn, 1) := dk_172 (dk_at dksX2_allWeights_1 12 rfl rfl)
abbrev cX2_sum : ByteArray := prog_20_method_54_code
def yX2_sum : MethodName := ⟨RX2, "sum", "(IIZ)I"⟩
def dkwX2_sum_2 : List UInt8 := [21, 5, 28, 182, 0, 238, 167, 0, 4, 3, 96, 54, 4, 132, 5, 1, 167, 255, 199, 21, 4, 172]
abbrev dktX2_sum_2 : List UInt8 := dkwX2_sum_2 ++ []
def dkwX2_sum_1 : List UInt8 := [28, 182, 0, 232, 158, 0, 28, 42, 27, 21, 5, 28, 182, 0, 232, 184, 0, 235, 29, 160, 0, 13, 42]
abbrev dktX2_sum_1 : List UInt8 := dkwX2_sum_1 ++ dktX2_sum_2
def dkwX2_sum_0 : List UInt8 := [3, 54, 4, 3, 54, 5, 21, 5, 42, 180, 0, 9, 16, 6, 46, 162, 0, 51, 21, 4, 42, 27, 21, 5]
abbrev dktX2_sum_0 : List UInt8 := dkwX2_sum_0 ++ dktX2_sum_1
theorem dksX2_sum_0 : cX2_sum.data.toList.drop 0 = dktX2_sum_0 := by decide +kernel
theorem dksX2_sum_1 : cX2_sum.data.toList.drop 24 = dktX2_sum_1 := dk_seg dksX2_sum_0 24 rfl rfl
theorem dksX2_sum_2 : cX2_sum.data.toList.drop 47 = dktX2_sum_2 := dk_seg dksX2_sum_1 23 rfl rfl
theorem dX2_sum_0 : decode cX2_sum 0 = .ok (.iconst 0, 1) := dk_3 (dk_at dksX2_sum_0 0 rfl rfl)
theorem dX2_sum_1 : decode cX2_sum 1 = .ok (.istore 4, 2) := dk_54 4 (dk_at dksX2_sum_0 1 rfl rfl)
theorem dX2_sum_3 : decode cX2_sum 3 = .ok (.iconst 0, 1) := dk_3 (dk_at dksX2_sum_0 3 rfl rfl)
theorem dX2_sum_4 : decode cX2_sum 4 = .ok (.istore 5, 2) := dk_54 5 (dk_at dksX2_sum_0 4 rfl rfl)
theorem dX2_sum_6 : decode cX2_sum 6 = .ok (.iload 5, 2) := dk_21 5 (dk_at dksX2_sum_0 6 rfl rfl)
theorem dX2_sum_8 : decode cX2_sum 8 = .ok (.aload_n 0, 1) := dk_42 (dk_at dksX2_sum_0 8 rfl rfl)
theorem dX2_sum_9 : decode cX2_sum 9 = .ok (.getfield 9, 3) := dk_180 0 9 (dk_at dksX2_sum_0 9 rfl rfl)
theorem dX2_sum_12 : decode cX2_sum 12 = .ok (.bipush 6, 2) := dk_16 6 (dk_at dksX2_sum_0 12 rfl rfl)
theorem dX2_sum_14 : decode cX2_sum 14 = .ok (.iaload, 1) := dk_46 (dk_at dksX2_sum_0 14 rfl rfl)
theorem dX2_sum_15 : decode cX2_sum 15 = .ok (.if_icmp .ge 51, 3) := dk_162 0 51 (dk_at dksX2_sum_0 15 rfl rfl)
theorem dX2_sum_18 : decode cX2_sum 18 = .ok (.iload 4, 2) := dk_21 4 (dk_at dksX2_sum_0 18 rfl rfl)
theorem dX2_sum_20 : decode cX2_sum 20 = .ok (.aload_n 0, 1) := dk_42 (dk_at dksX2_sum_0 20 rfl rfl)
theorem dX2_sum_21 : decode cX2_sum 21 = .ok (.iload_n 1, 1) := dk_27 (dk_at dksX2_sum_0 21 rfl rfl)
theorem dX2_sum_22 : decode cX2_sum 22 = .ok (.iload 5, 2) := dk_21 5 (dk_at dksX2_sum_0 22 rfl rfl)
theorem dX2_sum_24 : decode cX2_sum 24 = .ok (.iload_n 2, 1) := dk_28 (dk_at dksX2_sum_1 0 rfl rfl)
theorem dX2_sum_25 : decode cX2_sum 25 = .ok (.invokevirtual 232, 3) := dk_182 0 232 (dk_at dksX2_sum_1 1 rfl rfl)
theorem dX2_sum_28 : decode cX2_sum 28 = .ok (.ifCond .le 28, 3) := dk_158 0 28 (dk_at dksX2_sum_1 4 rfl rfl)
theorem dX2_sum_31 : decode cX2_sum 31 = .ok (.aload_n 0, 1) := dk_42 (dk_at dksX2_sum_1 7 rfl rfl)
theorem dX2_sum_32 : decode cX2_sum 32 = .ok (.iload_n 1, 1) := dk_27 (dk_at dksX2_sum_1 8 rfl rfl)
theorem dX2_sum_33 : decode cX2_sum 33 = .ok (.iload 5, 2) := dk_21 5 (dk_at dksX2_sum_1 9 rfl rfl)
theorem dX2_sum_35 : decode cX2_sum 35 = .ok (.iload_n 2, 1) := dk_28 (dk_at dksX2_sum_1 11 rfl rfl)
theorem dX2_sum_36 : decode cX2_sum 36 = .ok (.invokevirtual 232, 3) := dk_182 0 232 (dk_at dksX2_sum_1 12 rfl rfl)
theorem dX2_sum_39 : decode cX2_sum 39 = .ok (.invokestatic 235, 3) := dk_184 0 235 (dk_at dksX2_sum_1 15 rfl rfl)
theorem dX2_sum_42 : decode cX2_sum 42 = .ok (.iload_n 3, 1) := dk_29 (dk_at dksX2_sum_1 18 rfl rfl)
theorem dX2_sum_43 : decode cX2_sum 43 = .ok (.if_icmp .ne 13, 3) := dk_160 0 13 (dk_at dksX2_sum_1 19 rfl rfl)
theorem dX2_sum_46 : decode cX2_sum 46 = .ok (.aload_n 0, 1) := dk_42 (dk_at dksX2_sum_1 22 rfl rfl)
theorem dX2_sum_47 : decode cX2_sum 47 = .ok (.iload 5, 2) := dk_21 5 (dk_at dksX2_sum_2 0 rfl rfl)
theorem dX2_sum_49 : decode cX2_sum 49 = .ok (.iload_n 2, 1) := dk_28 (dk_at dksX2_sum_2 2 rfl rfl)
theorem dX2_sum_50 : decode cX2_sum 50 = .ok (.invokevirtual 238, 3) := dk_182 0 238 (dk_at dksX2_sum_2 3 rfl rfl)
theorem dX2_sum_53 : decode cX2_sum 53 = .ok (.goto 4, 3) := dk_167 0 4 (dk_at dksX2_sum_2 6 rfl rfl)
theorem dX2_sum_56 : decode cX2_sum 56 = .ok (.iconst 0, 1) := dk_3 (dk_at dksX2_sum_2 9 rfl rfl)
theorem dX2_sum_57 : decode cX2_sum 57 = .ok (.iadd, 1) := dk_96 (dk_at dksX2_sum_2 10 rfl rfl)
theorem dX2_sum_58 : decode cX2_sum 58 = .ok (.istore 4, 2) := dk_54 4 (dk_at dksX2_sum_2 11 rfl rfl)
theorem dX2_sum_60 : decode cX2_sum 60 = .ok (.iinc 5 1, 3) := dk_132 5 1 (dk_at dksX2_sum_2 13 rfl rfl)
theorem dX2_sum_63 : decode cX2_sum 63 = .ok (.goto (-57), 3) := dk_167 255 199 (dk_at dksX2_sum_2 16 rfl rfl)
theorem dX2_sum_66 : decode cX2_sum 66 = .ok (.iload 4, 2) := dk_21 4 (dk_at dksX2_sum_2 19 rfl rfl)
theorem dX2_sum_68 : decode cX2_sum 68 = .ok (.ireturn, 1) := dk_172 (dk_at dksX2_sum_2 21 rfl rfl)
abbrev cX2_weight : ByteArray := prog_20_method_53_code
def yX2_weight : MethodName := ⟨RX2, "weight", "(II)I"⟩
def dkwX2_weight_1 : List UInt8 := [172]
abbrev dktX2_weight_1 : List UInt8 := dkwX2_weight_1 ++ []
def dkwX2_weight_0 : List UInt8 := [42, 180, 0, 9, 17, 0, 158, 27, 96, 46, 17, 0, 200, 42, 27, 28, 182, 0, 229, 100, 104, 16, 100, 108]
abbrev dktX2_weight_0 : List UInt8 := dkwX2_weight_0 ++ dktX2_weight_1
theorem dksX2_weight_0 : cX2_weight.data.toList.drop 0 = dktX2_weight_0 := by decide +kernel
theorem dksX2_weight_1 : cX2_weight.data.toList.drop 24 = dktX2_weight_1 := dk_seg dksX2_weight_0 24 rfl rfl
theorem dX2_weight_0 : decode cX2_weight 0 = .ok (.aload_n 0, 1) := dk_42 (dk_at dksX2_weight_0 0 rfl rfl)
theorem dX2_weight_1 : decode cX2_weight 1 = .ok (.getfield 9, 3) := dk_180 0 9 (dk_at dksX2_weight_0 1 rfl rfl)
theorem dX2_weight_4 : decode cX2_weight 4 = .ok (.sipush 158, 3) := dk_17 0 158 (dk_at dksX2_weight_0 4 rfl rfl)
theorem dX2_weight_7 : decode cX2_weight 7 = .ok (.iload_n 1, 1) := dk_27 (dk_at dksX2_weight_0 7 rfl rfl)
theorem dX2_weight_8 : decode cX2_weight 8 = .ok (.iadd, 1) := dk_96 (dk_at dksX2_weight_0 8 rfl rfl)
theorem dX2_weight_9 : decode cX2_weight 9 = .ok (.iaload, 1) := dk_46 (dk_at dksX2_weight_0 9 rfl rfl)
theorem dX2_weight_10 : decode cX2_weight 10 = .ok (.sipush 200, 3) := dk_17 0 200 (dk_at dksX2_weight_0 10 rfl rfl)
theorem dX2_weight_13 : decode cX2_weight 13 = .ok (.aload_n 0, 1) := dk_42 (dk_at dksX2_weight_0 13 rfl rfl)
theorem dX2_weight_14 : decode cX2_weight 14 = .ok (.iload_n 1, 1) := dk_27 (dk_at dksX2_weight_0 14 rfl rfl)
theorem dX2_weight_15 : decode cX2_weight 15 = .ok (.iload_n 2, 1) := dk_28 (dk_at dksX2_weight_0 15 rfl rfl)
theorem dX2_weight_16 : decode cX2_weight 16 = .ok (.invokevirtual 229, 3) := dk_182 0 229 (dk_at dksX2_weight_0 16 rfl rfl)
theorem dX2_weight_19 : decode cX2_weight 19 = .ok (.isub, 1) := dk_100 (dk_at dksX2_weight_0 19 rfl rfl)
theorem dX2_weight_20 : decode cX2_weight 20 = .ok (.imul, 1) := dk_104 (dk_at dksX2_weight_0 20 rfl rfl)
theorem dX2_weight_21 : decode cX2_weight 21 = .ok (.bipush 100, 2) := dk_16 100 (dk_at dksX2_weight_0 21 rfl rfl)
theorem dX2_weight_23 : decode cX2_weight 23 = .ok (.idiv, 1) := dk_108 (dk_at dksX2_weight_0 23 rfl rfl)
theorem dX2_weight_24 : decode cX2_weight 24 = .ok (.ireturn, 1) := dk_172 (dk_at dksX2_weight_1 0 rfl rfl)
abbrev cX2_far : ByteArray := prog_20_method_47_code
def yX2_far : MethodName := ⟨RX2, "far", "(II)I"⟩
def dkwX2_far_2 : List UInt8 := [184, 0, 223, 96, 172]
abbrev dktX2_far_2 : List UInt8 := dkwX2_far_2 ++ []
def dkwX2_far_1 : List UInt8 := [180, 0, 9, 27, 184, 0, 210, 4, 96, 46, 42, 180, 0, 9, 28, 184, 0, 220, 4, 96, 46, 100]
abbrev dktX2_far_1 : List UInt8 := dkwX2_far_1 ++ dktX2_far_2
def dkwX2_far_0 : List UInt8 := [42, 180, 0, 9, 27, 184, 0, 210, 46, 42, 180, 0, 9, 28, 184, 0, 220, 46, 100, 184, 0, 223, 42]
abbrev dktX2_far_0 : List UInt8 := dkwX2_far_0 ++ dktX2_far_1
theorem dksX2_far_0 : cX2_far.data.toList.drop 0 = dktX2_far_0 := by decide +kernel
theorem dksX2_far_1 : cX2_far.data.toList.drop 23 = dktX2_far_1 := dk_seg dksX2_far_0 23 rfl rfl
theorem dksX2_far_2 : cX2_far.data.toList.drop 45 = dktX2_far_2 := dk_seg dksX2_far_1 22 rfl rfl
theorem dX2_far_0 : decode cX2_far 0 = .ok (.aload_n 0, 1) := dk_42 (dk_at dksX2_far_0 0 rfl rfl)
theorem dX2_far_1 : decode cX2_far 1 = .ok (.getfield 9, 3) := dk_180 0 9 (dk_at dksX2_far_0 1 rfl rfl)
theorem dX2_far_4 : decode cX2_far 4 = .ok (.iload_n 1, 1) := dk_27 (dk_at dksX2_far_0 4 rfl rfl)
theorem dX2_far_5 : decode cX2_far 5 = .ok (.invokestatic 210, 3) := dk_184 0 210 (dk_at dksX2_far_0 5 rfl rfl)
theorem dX2_far_8 : decode cX2_far 8 = .ok (.iaload, 1) := dk_46 (dk_at dksX2_far_0 8 rfl rfl)
theorem dX2_far_9 : decode cX2_far 9 = .ok (.aload_n 0, 1) := dk_42 (dk_at dksX2_far_0 9 rfl rfl)
theorem dX2_far_10 : decode cX2_far 10 = .ok (.getfield 9, 3) := dk_180 0 9 (dk_at dksX2_far_0 10 rfl rfl)
theorem dX2_far_13 : decode cX2_far 13 = .ok (.iload_n 2, 1) := dk_28 (dk_at dksX2_far_0 13 rfl rfl)
theorem dX2_far_14 : decode cX2_far 14 = .ok (.invokestatic 220, 3) := dk_184 0 220 (dk_at dksX2_far_0 14 rfl rfl)
theorem dX2_far_17 : decode cX2_far 17 = .ok (.iaload, 1) := dk_46 (dk_at dksX2_far_0 17 rfl rfl)
theorem dX2_far_18 : decode cX2_far 18 = .ok (.isub, 1) := dk_100 (dk_at dksX2_far_0 18 rfl rfl)
theorem dX2_far_19 : decode cX2_far 19 = .ok (.invokestatic 223, 3) := dk_184 0 223 (dk_at dksX2_far_0 19 rfl rfl)
theorem dX2_far_22 : decode cX2_far 22 = .ok (.aload_n 0, 1) := dk_42 (dk_at dksX2_far_0 22 rfl rfl)
theorem dX2_far_23 : decode cX2_far 23 = .ok (.getfield 9, 3) := dk_180 0 9 (dk_at dksX2_far_1 0 rfl rfl)
theorem dX2_far_26 : decode cX2_far 26 = .ok (.iload_n 1, 1) := dk_27 (dk_at dksX2_far_1 3 rfl rfl)
theorem dX2_far_27 : decode cX2_far 27 = .ok (.invokestatic 210, 3) := dk_184 0 210 (dk_at dksX2_far_1 4 rfl rfl)
theorem dX2_far_30 : decode cX2_far 30 = .ok (.iconst 1, 1) := dk_4 (dk_at dksX2_far_1 7 rfl rfl)
theorem dX2_far_31 : decode cX2_far 31 = .ok (.iadd, 1) := dk_96 (dk_at dksX2_far_1 8 rfl rfl)
theorem dX2_far_32 : decode cX2_far 32 = .ok (.iaload, 1) := dk_46 (dk_at dksX2_far_1 9 rfl rfl)
theorem dX2_far_33 : decode cX2_far 33 = .ok (.aload_n 0, 1) := dk_42 (dk_at dksX2_far_1 10 rfl rfl)
theorem dX2_far_34 : decode cX2_far 34 = .ok (.getfield 9, 3) := dk_180 0 9 (dk_at dksX2_far_1 11 rfl rfl)
theorem dX2_far_37 : decode cX2_far 37 = .ok (.iload_n 2, 1) := dk_28 (dk_at dksX2_far_1 14 rfl rfl)
theorem dX2_far_38 : decode cX2_far 38 = .ok (.invokestatic 220, 3) := dk_184 0 220 (dk_at dksX2_far_1 15 rfl rfl)
theorem dX2_far_41 : decode cX2_far 41 = .ok (.iconst 1, 1) := dk_4 (dk_at dksX2_far_1 18 rfl rfl)
theorem dX2_far_42 : decode cX2_far 42 = .ok (.iadd, 1) := dk_96 (dk_at dksX2_far_1 19 rfl rfl)
theorem dX2_far_43 : decode cX2_far 43 = .ok (.iaload, 1) := dk_46 (dk_at dksX2_far_1 20 rfl rfl)
theorem dX2_far_44 : decode cX2_far 44 = .ok (.isub, 1) := dk_100 (dk_at dksX2_far_1 21 rfl rfl)
theorem dX2_far_45 : decode cX2_far 45 = .ok (.invokestatic 223, 3) := dk_184 0 223 (dk_at dksX2_far_2 0 rfl rfl)
theorem dX2_far_48 : decode cX2_far 48 = .ok (.iadd, 1) := dk_96 (dk_at dksX2_far_2 3 rfl rfl)
theorem dX2_far_49 : decode cX2_far 49 = .ok (.ireturn, 1) := dk_172 (dk_at dksX2_far_2 4 rfl rfl)
abbrev cX2_ridge : ByteArray := prog_20_method_83_code
def yX2_ridge : MethodName := ⟨RX2, "ridge", "(II)I"⟩
def dkwX2_ridge_2 : List UInt8 := [167, 0, 4, 3, 172]
abbrev dktX2_ridge_2 : List UInt8 := dkwX2_ridge_2 ++ []
def dkwX2_ridge_1 : List UInt8 := [184, 0, 64, 182, 0, 47, 153, 0, 19, 42, 180, 0, 9, 16, 64, 5, 27, 104, 96, 28, 96, 46]
abbrev dktX2_ridge_1 : List UInt8 := dkwX2_ridge_1 ++ dktX2_ridge_2
def dkwX2_ridge_0 : List UInt8 := [42, 42, 180, 0, 184, 27, 3, 42, 180, 0, 9, 16, 8, 46, 4, 100, 184, 0, 64, 28, 3, 4]
abbrev dktX2_ridge_0 : List UInt8 := dkwX2_ridge_0 ++ dktX2_ridge_1
theorem dksX2_ridge_0 : cX2_ridge.data.toList.drop 0 = dktX2_ridge_0 := by decide +kernel
theorem dksX2_ridge_1 : cX2_ridge.data.toList.drop 22 = dktX2_ridge_1 := dk_seg dksX2_ridge_0 22 rfl rfl
theorem dksX2_ridge_2 : cX2_ridge.data.toList.drop 44 = dktX2_ridge_2 := dk_seg dksX2_ridge_1 22 rfl rfl
theorem dX2_ridge_0 : decode cX2_ridge 0 = .ok (.aload_n 0, 1) := dk_42 (dk_at dksX2_ridge_0 0 rfl rfl)
theorem dX2_ridge_1 : decode cX2_ridge 1 = .ok (.aload_n 0, 1) := dk_42 (dk_at dksX2_ridge_0 1 rfl rfl)
theorem dX2_ridge_2 : decode cX2_ridge 2 = .ok (.getfield 184, 3) := dk_180 0 184 (dk_at dksX2_ridge_0 2 rfl rfl)
theorem dX2_ridge_5 : decode cX2_ridge 5 = .ok (.iload_n 1, 1) := dk_27 (dk_at dksX2_ridge_0 5 rfl rfl)
theorem dX2_ridge_6 : decode cX2_ridge 6 = .ok (.iconst 0, 1) := dk_3 (dk_at dksX2_ridge_0 6 rfl rfl)
theorem dX2_ridge_7 : decode cX2_ridge 7 = .ok (.aload_n 0, 1) := dk_42 (dk_at dksX2_ridge_0 7 rfl rfl)
theorem dX2_ridge_8 : decode cX2_ridge 8 = .ok (.getfield 9, 3) := dk_180 0 9 (dk_at dksX2_ridge_0 8 rfl rfl)
theorem dX2_ridge_11 : decode cX2_ridge 11 = .ok (.bipush 8, 2) := dk_16 8 (dk_at dksX2_ridge_0 11 rfl rfl)
theorem dX2_ridge_13 : decode cX2_ridge 13 = .ok (.iaload, 1) := dk_46 (dk_at dksX2_ridge_0 13 rfl rfl)
theorem dX2_ridge_14 : decode cX2_ridge 14 = .ok (.iconst 1, 1) := dk_4 (dk_at dksX2_ridge_0 14 rfl rfl)
theorem dX2_ridge_15 : decode cX2_ridge 15 = .ok (.isub, 1) := dk_100 (dk_at dksX2_ridge_0 15 rfl rfl)
theorem dX2_ridge_16 : decode cX2_ridge 16 = .ok (.invokestatic 64, 3) := dk_184 0 64 (dk_at dksX2_ridge_0 16 rfl rfl)
theorem dX2_ridge_19 : decode cX2_ridge 19 = .ok (.iload_n 2, 1) := dk_28 (dk_at dksX2_ridge_0 19 rfl rfl)
theorem dX2_ridge_20 : decode cX2_ridge 20 = .ok (.iconst 0, 1) := dk_3 (dk_at dksX2_ridge_0 20 rfl rfl)
theorem dX2_ridge_21 : decode cX2_ridge 21 = .ok (.iconst 1, 1) := dk_4 (dk_at dksX2_ridge_0 21 rfl rfl)
theorem dX2_ridge_22 : decode cX2_ridge 22 = .ok (.invokestatic 64, 3) := dk_184 0 64 (dk_at dksX2_ridge_1 0 rfl rfl)
theorem dX2_ridge_25 : decode cX2_ridge 25 = .ok (.invokevirtual 47, 3) := dk_182 0 47 (dk_at dksX2_ridge_1 3 rfl rfl)
theorem dX2_ridge_28 : decode cX2_ridge 28 = .ok (.ifCond .eq 19, 3) := dk_153 0 19 (dk_at dksX2_ridge_1 6 rfl rfl)
theorem dX2_ridge_31 : decode cX2_ridge 31 = .ok (.aload_n 0, 1) := dk_42 (dk_at dksX2_ridge_1 9 rfl rfl)
theorem dX2_ridge_32 : decode cX2_ridge 32 = .ok (.getfield 9, 3) := dk_180 0 9 (dk_at dksX2_ridge_1 10 rfl rfl)
theorem dX2_ridge_35 : decode cX2_ridge 35 = .ok (.bipush 64, 2) := dk_16 64 (dk_at dksX2_ridge_1 13 rfl rfl)
theorem dX2_ridge_37 : decode cX2_ridge 37 = .ok (.iconst 2, 1) := dk_5 (dk_at dksX2_ridge_1 15 rfl rfl)
theorem dX2_ridge_38 : decode cX2_ridge 38 = .ok (.iload_n 1, 1) := dk_27 (dk_at dksX2_ridge_1 16 rfl rfl)
theorem dX2_ridge_39 : decode cX2_ridge 39 = .ok (.imul, 1) := dk_104 (dk_at dksX2_ridge_1 17 rfl rfl)
theorem dX2_ridge_40 : decode cX2_ridge 40 = .ok (.iadd, 1) := dk_96 (dk_at dksX2_ridge_1 18 rfl rfl)
theorem dX2_ridge_41 : decode cX2_ridge 41 = .ok (.iload_n 2, 1) := dk_28 (dk_at dksX2_ridge_1 19 rfl rfl)
theorem dX2_ridge_42 : decode cX2_ridge 42 = .ok (.iadd, 1) := dk_96 (dk_at dksX2_ridge_1 20 rfl rfl)
theorem dX2_ridge_43 : decode cX2_ridge 43 = .ok (.iaload, 1) := dk_46 (dk_at dksX2_ridge_1 21 rfl rfl)
theorem dX2_ridge_44 : decode cX2_ridge 44 = .ok (.goto 4, 3) := dk_167 0 4 (dk_at dksX2_ridge_2 0 rfl rfl)
theorem dX2_ridge_47 : decode cX2_ridge 47 = .ok (.iconst 0, 1) := dk_3 (dk_at dksX2_ridge_2 3 rfl rfl)
theorem dX2_ridge_48 : decode cX2_ridge 48 = .ok (.ireturn, 1) := dk_172 (dk_at dksX2_ridge_2 4 rfl rfl)
abbrev cX2_fog : ByteArray := prog_20_method_84_code
def yX2_fog : MethodName := ⟨RX2, "fog", "(II)I"⟩
def dkwX2_fog_2 : List UInt8 := [167, 0, 4, 3, 172]
abbrev dktX2_fog_2 : List UInt8 := dkwX2_fog_2 ++ []
def dkwX2_fog_1 : List UInt8 := [184, 0, 64, 182, 0, 47, 153, 0, 19, 42, 180, 0, 9, 16, 72, 6, 27, 104, 96, 28, 96, 46]
abbrev dktX2_fog_1 : List UInt8 := dkwX2_fog_1 ++ dktX2_fog_2
def dkwX2_fog_0 : List UInt8 := [42, 42, 180, 0, 184, 27, 3, 42, 180, 0, 9, 16, 9, 46, 4, 100, 184, 0, 64, 28, 3, 5]
abbrev dktX2_fog_0 : List UInt8 := dkwX2_fog_0 ++ dktX2_fog_1
theorem dksX2_fog_0 : cX2_fog.data.toList.drop 0 = dktX2_fog_0 := by decide +kernel
theorem dksX2_fog_1 : cX2_fog.data.toList.drop 22 = dktX2_fog_1 := dk_seg dksX2_fog_0 22 rfl rfl
theorem dksX2_fog_2 : cX2_fog.data.toList.drop 44 = dktX2_fog_2 := dk_seg dksX2_fog_1 22 rfl rfl
theorem dX2_fog_0 : decode cX2_fog 0 = .ok (.aload_n 0, 1) := dk_42 (dk_at dksX2_fog_0 0 rfl rfl)
theorem dX2_fog_1 : decode cX2_fog 1 = .ok (.aload_n 0, 1) := dk_42 (dk_at dksX2_fog_0 1 rfl rfl)
theorem dX2_fog_2 : decode cX2_fog 2 = .ok (.getfield 184, 3) := dk_180 0 184 (dk_at dksX2_fog_0 2 rfl rfl)
theorem dX2_fog_5 : decode cX2_fog 5 = .ok (.iload_n 1, 1) := dk_27 (dk_at dksX2_fog_0 5 rfl rfl)
theorem dX2_fog_6 : decode cX2_fog 6 = .ok (.iconst 0, 1) := dk_3 (dk_at dksX2_fog_0 6 rfl rfl)
theorem dX2_fog_7 : decode cX2_fog 7 = .ok (.aload_n 0, 1) := dk_42 (dk_at dksX2_fog_0 7 rfl rfl)
theorem dX2_fog_8 : decode cX2_fog 8 = .ok (.getfield 9, 3) := dk_180 0 9 (dk_at dksX2_fog_0 8 rfl rfl)
theorem dX2_fog_11 : decode cX2_fog 11 = .ok (.bipush 9, 2) := dk_16 9 (dk_at dksX2_fog_0 11 rfl rfl)
theorem dX2_fog_13 : decode cX2_fog 13 = .ok (.iaload, 1) := dk_46 (dk_at dksX2_fog_0 13 rfl rfl)
theorem dX2_fog_14 : decode cX2_fog 14 = .ok (.iconst 1, 1) := dk_4 (dk_at dksX2_fog_0 14 rfl rfl)
theorem dX2_fog_15 : decode cX2_fog 15 = .ok (.isub, 1) := dk_100 (dk_at dksX2_fog_0 15 rfl rfl)
theorem dX2_fog_16 : decode cX2_fog 16 = .ok (.invokestatic 64, 3) := dk_184 0 64 (dk_at dksX2_fog_0 16 rfl rfl)
theorem dX2_fog_19 : decode cX2_fog 19 = .ok (.iload_n 2, 1) := dk_28 (dk_at dksX2_fog_0 19 rfl rfl)
theorem dX2_fog_20 : decode cX2_fog 20 = .ok (.iconst 0, 1) := dk_3 (dk_at dksX2_fog_0 20 rfl rfl)
theorem dX2_fog_21 : decode cX2_fog 21 = .ok (.iconst 2, 1) := dk_5 (dk_at dksX2_fog_0 21 rfl rfl)
theorem dX2_fog_22 : decode cX2_fog 22 = .ok (.invokestatic 64, 3) := dk_184 0 64 (dk_at dksX2_fog_1 0 rfl rfl)
theorem dX2_fog_25 : decode cX2_fog 25 = .ok (.invokevirtual 47, 3) := dk_182 0 47 (dk_at dksX2_fog_1 3 rfl rfl)
theorem dX2_fog_28 : decode cX2_fog 28 = .ok (.ifCond .eq 19, 3) := dk_153 0 19 (dk_at dksX2_fog_1 6 rfl rfl)
theorem dX2_fog_31 : decode cX2_fog 31 = .ok (.aload_n 0, 1) := dk_42 (dk_at dksX2_fog_1 9 rfl rfl)
theorem dX2_fog_32 : decode cX2_fog 32 = .ok (.getfield 9, 3) := dk_180 0 9 (dk_at dksX2_fog_1 10 rfl rfl)
theorem dX2_fog_35 : decode cX2_fog 35 = .ok (.bipush 72, 2) := dk_16 72 (dk_at dksX2_fog_1 13 rfl rfl)
theorem dX2_fog_37 : decode cX2_fog 37 = .ok (.iconst 3, 1) := dk_6 (dk_at dksX2_fog_1 15 rfl rfl)
theorem dX2_fog_38 : decode cX2_fog 38 = .ok (.iload_n 1, 1) := dk_27 (dk_at dksX2_fog_1 16 rfl rfl)
theorem dX2_fog_39 : decode cX2_fog 39 = .ok (.imul, 1) := dk_104 (dk_at dksX2_fog_1 17 rfl rfl)
theorem dX2_fog_40 : decode cX2_fog 40 = .ok (.iadd, 1) := dk_96 (dk_at dksX2_fog_1 18 rfl rfl)
theorem dX2_fog_41 : decode cX2_fog 41 = .ok (.iload_n 2, 1) := dk_28 (dk_at dksX2_fog_1 19 rfl rfl)
theorem dX2_fog_42 : decode cX2_fog 42 = .ok (.iadd, 1) := dk_96 (dk_at dksX2_fog_1 20 rfl rfl)
theorem dX2_fog_43 : decode cX2_fog 43 = .ok (.iaload, 1) := dk_46 (dk_at dksX2_fog_1 21 rfl rfl)
theorem dX2_fog_44 : decode cX2_fog 44 = .ok (.goto 4, 3) := dk_167 0 4 (dk_at dksX2_fog_2 0 rfl rfl)
theorem dX2_fog_47 : decode cX2_fog 47 = .ok (.iconst 0, 1) := dk_3 (dk_at dksX2_fog_2 3 rfl rfl)
theorem dX2_fog_48 : decode cX2_fog 48 = .ok (.ireturn, 1) := dk_172 (dk_at dksX2_fog_2 4 rfl rfl)
abbrev cX2_sight : ByteArray := prog_20_method_86_code
def yX2_sight : MethodName := ⟨RX2, "sight", "()I"⟩
def dkwX2_sight_0 : List UInt8 := [42, 182, 1, 69, 153, 0, 10, 42, 182, 0, 204, 167, 0, 4, 3, 172]
abbrev dktX2_sight_0 : List UInt8 := dkwX2_sight_0 ++ []
theorem dksX2_sight_0 : cX2_sight.data.toList.drop 0 = dktX2_sight_0 := by decide +kernel
theorem dX2_sight_0 : decode cX2_sight 0 = .ok (.aload_n 0, 1) := dk_42 (dk_at dksX2_sight_0 0 rfl rfl)
theorem dX2_sight_1 : decode cX2_sight 1 = .ok (.invokevirtual 325, 3) := dk_182 1 69 (dk_at dksX2_sight_0 1 rfl rfl)
theorem dX2_sight_4 : decode cX2_sight 4 = .ok (.ifCond .eq 10, 3) := dk_153 0 10 (dk_at dksX2_sight_0 4 rfl rfl)
theorem dX2_sight_7 : decode cX2_sight 7 = .ok (.aload_n 0, 1) := dk_42 (dk_at dksX2_sight_0 7 rfl rfl)
theorem dX2_sight_8 : decode cX2_sight 8 = .ok (.invokevirtual 204, 3) := dk_182 0 204 (dk_at dksX2_sight_0 8 rfl rfl)
theorem dX2_sight_11 : decode cX2_sight 11 = .ok (.goto 4, 3) := dk_167 0 4 (dk_at dksX2_sight_0 11 rfl rfl)
theorem dX2_sight_14 : decode cX2_sight 14 = .ok (.iconst 0, 1) := dk_3 (dk_at dksX2_sight_0 14 rfl rfl)
theorem dX2_sight_15 : decode cX2_sight 15 = .ok (.ireturn, 1) := dk_172 (dk_at dksX2_sight_0 15 rfl rfl)
abbrev cX2_mayAsk : ByteArray := prog_20_method_85_code
def yX2_mayAsk : MethodName := ⟨RX2, "mayAsk", "()Z"⟩
def dkwX2_mayAsk_0 : List UInt8 := [42, 42, 180, 0, 184, 4, 4, 182, 0, 47, 172]
abbrev dktX2_mayAsk_0 : List UInt8 := dkwX2_mayAsk_0 ++ []
theorem dksX2_mayAsk_0 : cX2_mayAsk.data.toList.drop 0 = dktX2_mayAsk_0 := by decide +kernel
theorem dX2_mayAsk_0 : decode cX2_mayAsk 0 = .ok (.aload_n 0, 1) := dk_42 (dk_at dksX2_mayAsk_0 0 rfl rfl)
theorem dX2_mayAsk_1 : decode cX2_mayAsk 1 = .ok (.aload_n 0, 1) := dk_42 (dk_at dksX2_mayAsk_0 1 rfl rfl)
theorem dX2_mayAsk_2 : decode cX2_mayAsk 2 = .ok (.getfield 184, 3) := dk_180 0 184 (dk_at dksX2_mayAsk_0 2 rfl rfl)
theorem dX2_mayAsk_5 : decode cX2_mayAsk 5 = .ok (.iconst 1, 1) := dk_4 (dk_at dksX2_mayAsk_0 5 rfl rfl)
theorem dX2_mayAsk_6 : decode cX2_mayAsk 6 = .ok (.iconst 1, 1) := dk_4 (dk_at dksX2_mayAsk_0 6 rfl rfl)
theorem dX2_mayAsk_7 : decode cX2_mayAsk 7 = .ok (.invokevirtual 47, 3) := dk_182 0 47 (dk_at dksX2_mayAsk_0 7 rfl rfl)
theorem dX2_mayAsk_10 : decode cX2_mayAsk 10 = .ok (.ireturn, 1) := dk_172 (dk_at dksX2_mayAsk_0 10 rfl rfl)
abbrev cX2_sees : ByteArray := prog_20_method_87_code
def yX2_sees : MethodName := ⟨RX2, "sees", "(II)Z"⟩
def dkwX2_sees_0 : List UInt8 := [42, 27, 28, 182, 1, 73, 153, 0, 16, 42, 27, 28, 182, 0, 217, 153, 0, 7, 4, 167, 0, 4, 3, 172]
abbrev dktX2_sees_0 : List UInt8 := dkwX2_sees_0 ++ []
theorem dksX2_sees_0 : cX2_sees.data.toList.drop 0 = dktX2_sees_0 := by decide +kernel
theorem dX2_sees_0 : decode cX2_sees 0 = .ok (.aload_n 0, 1) := dk_42 (dk_at dksX2_sees_0 0 rfl rfl)
theorem dX2_sees_1 : decode cX2_sees 1 = .ok (.iload_n 1, 1) := dk_27 (dk_at dksX2_sees_0 1 rfl rfl)
theorem dX2_sees_2 : decode cX2_sees 2 = .ok (.iload_n 2, 1) := dk_28 (dk_at dksX2_sees_0 2 rfl rfl)
theorem dX2_sees_3 : decode cX2_sees 3 = .ok (.invokevirtual 329, 3) := dk_182 1 73 (dk_at dksX2_sees_0 3 rfl rfl)
theorem dX2_sees_6 : decode cX2_sees 6 = .ok (.ifCond .eq 16, 3) := dk_153 0 16 (dk_at dksX2_sees_0 6 rfl rfl)
theorem dX2_sees_9 : decode cX2_sees 9 = .ok (.aload_n 0, 1) := dk_42 (dk_at dksX2_sees_0 9 rfl rfl)
theorem dX2_sees_10 : decode cX2_sees 10 = .ok (.iload_n 1, 1) := dk_27 (dk_at dksX2_sees_0 10 rfl rfl)
theorem dX2_sees_11 : decode cX2_sees 11 = .ok (.iload_n 2, 1) := dk_28 (dk_at dksX2_sees_0 11 rfl rfl)
theorem dX2_sees_12 : decode cX2_sees 12 = .ok (.invokevirtual 217, 3) := dk_182 0 217 (dk_at dksX2_sees_0 12 rfl rfl)
theorem dX2_sees_15 : decode cX2_sees 15 = .ok (.ifCond .eq 7, 3) := dk_153 0 7 (dk_at dksX2_sees_0 15 rfl rfl)
theorem dX2_sees_18 : decode cX2_sees 18 = .ok (.iconst 1, 1) := dk_4 (dk_at dksX2_sees_0 18 rfl rfl)
theorem dX2_sees_19 : decode cX2_sees 19 = .ok (.goto 4, 3) := dk_167 0 4 (dk_at dksX2_sees_0 19 rfl rfl)
theorem dX2_sees_22 : decode cX2_sees 22 = .ok (.iconst 0, 1) := dk_3 (dk_at dksX2_sees_0 22 rfl rfl)
theorem dX2_sees_23 : decode cX2_sees 23 = .ok (.ireturn, 1) := dk_172 (dk_at dksX2_sees_0 23 rfl rfl)
abbrev cX2_mayCabins : ByteArray := prog_20_method_69_code
def yX2_mayCabins : MethodName := ⟨RX2, "mayCabins", "(II)Z"⟩
def dkwX2_mayCabins_1 : List UInt8 := [167, 0, 4, 3, 182, 0, 191, 172]
abbrev dktX2_mayCabins_1 : List UInt8 := dkwX2_mayCabins_1 ++ []
def dkwX2_mayCabins_0 : List UInt8 := [42, 42, 180, 0, 184, 42, 27, 182, 1, 19, 153, 0, 15, 42, 28, 182, 1, 19, 153, 0, 7, 4]
abbrev dktX2_mayCabins_0 : List UInt8 := dkwX2_mayCabins_0 ++ dktX2_mayCabins_1
theorem dksX2_mayCabins_0 : cX2_mayCabins.data.toList.drop 0 = dktX2_mayCabins_0 := by decide +kernel
theorem dksX2_mayCabins_1 : cX2_mayCabins.data.toList.drop 22 = dktX2_mayCabins_1 := dk_seg dksX2_mayCabins_0 22 rfl rfl
theorem dX2_mayCabins_0 : decode cX2_mayCabins 0 = .ok (.aload_n 0, 1) := dk_42 (dk_at dksX2_mayCabins_0 0 rfl rfl)
theorem dX2_mayCabins_1 : decode cX2_mayCabins 1 = .ok (.aload_n 0, 1) := dk_42 (dk_at dksX2_mayCabins_0 1 rfl rfl)
theorem dX2_mayCabins_2 : decode cX2_mayCabins 2 = .ok (.getfield 184, 3) := dk_180 0 184 (dk_at dksX2_mayCabins_0 2 rfl rfl)
theorem dX2_mayCabins_5 : decode cX2_mayCabins 5 = .ok (.aload_n 0, 1) := dk_42 (dk_at dksX2_mayCabins_0 5 rfl rfl)
theorem dX2_mayCabins_6 : decode cX2_mayCabins 6 = .ok (.iload_n 1, 1) := dk_27 (dk_at dksX2_mayCabins_0 6 rfl rfl)
theorem dX2_mayCabins_7 : decode cX2_mayCabins 7 = .ok (.invokevirtual 275, 3) := dk_182 1 19 (dk_at dksX2_mayCabins_0 7 rfl rfl)
theorem dX2_mayCabins_10 : decode cX2_mayCabins 10 = .ok (.ifCond .eq 15, 3) := dk_153 0 15 (dk_at dksX2_mayCabins_0 10 rfl rfl)
theorem dX2_mayCabins_13 : decode cX2_mayCabins 13 = .ok (.aload_n 0, 1) := dk_42 (dk_at dksX2_mayCabins_0 13 rfl rfl)
theorem dX2_mayCabins_14 : decode cX2_mayCabins 14 = .ok (.iload_n 2, 1) := dk_28 (dk_at dksX2_mayCabins_0 14 rfl rfl)
theorem dX2_mayCabins_15 : decode cX2_mayCabins 15 = .ok (.invokevirtual 275, 3) := dk_182 1 19 (dk_at dksX2_mayCabins_0 15 rfl rfl)
theorem dX2_mayCabins_18 : decode cX2_mayCabins 18 = .ok (.ifCond .eq 7, 3) := dk_153 0 7 (dk_at dksX2_mayCabins_0 18 rfl rfl)
theorem dX2_mayCabins_21 : decode cX2_mayCabins 21 = .ok (.iconst 1, 1) := dk_4 (dk_at dksX2_mayCabins_0 21 rfl rfl)
theorem dX2_mayCabins_22 : decode cX2_mayCabins 22 = .ok (.goto 4, 3) := dk_167 0 4 (dk_at dksX2_mayCabins_1 0 rfl rfl)
theorem dX2_mayCabins_25 : decode cX2_mayCabins 25 = .ok (.iconst 0, 1) := dk_3 (dk_at dksX2_mayCabins_1 3 rfl rfl)
theorem dX2_mayCabins_26 : decode cX2_mayCabins 26 = .ok (.invokevirtual 191, 3) := dk_182 0 191 (dk_at dksX2_mayCabins_1 4 rfl rfl)
theorem dX2_mayCabins_29 : decode cX2_mayCabins 29 = .ok (.ireturn, 1) := dk_172 (dk_at dksX2_mayCabins_1 7 rfl rfl)
abbrev cX2_seesSlope : ByteArray := prog_20_method_88_code
def yX2_seesSlope : MethodName := ⟨RX2, "seesSlope", "(II)Z"⟩
def dkwX2_seesSlope_1 : List UInt8 := [4, 167, 0, 4, 3, 172]
abbrev dktX2_seesSlope_1 : List UInt8 := dkwX2_seesSlope_1 ++ []
def dkwX2_seesSlope_0 : List UInt8 := [42, 27, 28, 182, 1, 76, 153, 0, 22, 42, 27, 184, 0, 210, 28, 184, 0, 220, 182, 0, 213, 153, 0, 7]
abbrev dktX2_seesSlope_0 : List UInt8 := dkwX2_seesSlope_0 ++ dktX2_seesSlope_1
theorem dksX2_seesSlope_0 : cX2_seesSlope.data.toList.drop 0 = dktX2_seesSlope_0 := by decide +kernel
theorem dksX2_seesSlope_1 : cX2_seesSlope.data.toList.drop 24 = dktX2_seesSlope_1 := dk_seg dksX2_seesSlope_0 24 rfl rfl
theorem dX2_seesSlope_0 : decode cX2_seesSlope 0 = .ok (.aload_n 0, 1) := dk_42 (dk_at dksX2_seesSlope_0 0 rfl rfl)
theorem dX2_seesSlope_1 : decode cX2_seesSlope 1 = .ok (.iload_n 1, 1) := dk_27 (dk_at dksX2_seesSlope_0 1 rfl rfl)
theorem dX2_seesSlope_2 : decode cX2_seesSlope 2 = .ok (.iload_n 2, 1) := dk_28 (dk_at dksX2_seesSlope_0 2 rfl rfl)
theorem dX2_seesSlope_3 : decode cX2_seesSlope 3 = .ok (.invokevirtual 332, 3) := dk_182 1 76 (dk_at dksX2_seesSlope_0 3 rfl rfl)
theorem dX2_seesSlope_6 : decode cX2_seesSlope 6 = .ok (.ifCond .eq 22, 3) := dk_153 0 22 (dk_at dksX2_seesSlope_0 6 rfl rfl)
theorem dX2_seesSlope_9 : decode cX2_seesSlope 9 = .ok (.aload_n 0, 1) := dk_42 (dk_at dksX2_seesSlope_0 9 rfl rfl)
theorem dX2_seesSlope_10 : decode cX2_seesSlope 10 = .ok (.iload_n 1, 1) := dk_27 (dk_at dksX2_seesSlope_0 10 rfl rfl)
theorem dX2_seesSlope_11 : decode cX2_seesSlope 11 = .ok (.invokestatic 210, 3) := dk_184 0 210 (dk_at dksX2_seesSlope_0 11 rfl rfl)
theorem dX2_seesSlope_14 : decode cX2_seesSlope 14 = .ok (.iload_n 2, 1) := dk_28 (dk_at dksX2_seesSlope_0 14 rfl rfl)
theorem dX2_seesSlope_15 : decode cX2_seesSlope 15 = .ok (.invokestatic 220, 3) := dk_184 0 220 (dk_at dksX2_seesSlope_0 15 rfl rfl)
theorem dX2_seesSlope_18 : decode cX2_seesSlope 18 = .ok (.invokevirtual 213, 3) := dk_182 0 213 (dk_at dksX2_seesSlope_0 18 rfl rfl)
theorem dX2_seesSlope_21 : decode cX2_seesSlope 21 = .ok (.ifCond .eq 7, 3) := dk_153 0 7 (dk_at dksX2_seesSlope_0 21 rfl rfl)
theorem dX2_seesSlope_24 : decode cX2_seesSlope 24 = .ok (.iconst 1, 1) := dk_4 (dk_at dksX2_seesSlope_1 0 rfl rfl)
theorem dX2_seesSlope_25 : decode cX2_seesSlope 25 = .ok (.goto 4, 3) := dk_167 0 4 (dk_at dksX2_seesSlope_1 1 rfl rfl)
theorem dX2_seesSlope_28 : decode cX2_seesSlope 28 = .ok (.iconst 0, 1) := dk_3 (dk_at dksX2_seesSlope_1 4 rfl rfl)
theorem dX2_seesSlope_29 : decode cX2_seesSlope 29 = .ok (.ireturn, 1) := dk_172 (dk_at dksX2_seesSlope_1 5 rfl rfl)
abbrev cX2_mayBoth : ByteArray := prog_20_method_68_code
def yX2_mayBoth : MethodName := ⟨RX2, "mayBoth", "(II)Z"⟩
def dkwX2_mayBoth_1 : List UInt8 := [167, 0, 4, 3, 182, 0, 191, 172]
abbrev dktX2_mayBoth_1 : List UInt8 := dkwX2_mayBoth_1 ++ []
def dkwX2_mayBoth_0 : List UInt8 := [42, 42, 180, 0, 184, 42, 27, 182, 1, 19, 153, 0, 15, 42, 28, 182, 1, 22, 153, 0, 7, 4]
abbrev dktX2_mayBoth_0 : List UInt8 := dkwX2_mayBoth_0 ++ dktX2_mayBoth_1
theorem dksX2_mayBoth_0 : cX2_mayBoth.data.toList.drop 0 = dktX2_mayBoth_0 := by decide +kernel
theorem dksX2_mayBoth_1 : cX2_mayBoth.data.toList.drop 22 = dktX2_mayBoth_1 := dk_seg dksX2_mayBoth_0 22 rfl rfl
theorem dX2_mayBoth_0 : decode cX2_mayBoth 0 = .ok (.aload_n 0, 1) := dk_42 (dk_at dksX2_mayBoth_0 0 rfl rfl)
theorem dX2_mayBoth_1 : decode cX2_mayBoth 1 = .ok (.aload_n 0, 1) := dk_42 (dk_at dksX2_mayBoth_0 1 rfl rfl)
theorem dX2_mayBoth_2 : decode cX2_mayBoth 2 = .ok (.getfield 184, 3) := dk_180 0 184 (dk_at dksX2_mayBoth_0 2 rfl rfl)
theorem dX2_mayBoth_5 : decode cX2_mayBoth 5 = .ok (.aload_n 0, 1) := dk_42 (dk_at dksX2_mayBoth_0 5 rfl rfl)
theorem dX2_mayBoth_6 : decode cX2_mayBoth 6 = .ok (.iload_n 1, 1) := dk_27 (dk_at dksX2_mayBoth_0 6 rfl rfl)
theorem dX2_mayBoth_7 : decode cX2_mayBoth 7 = .ok (.invokevirtual 275, 3) := dk_182 1 19 (dk_at dksX2_mayBoth_0 7 rfl rfl)
theorem dX2_mayBoth_10 : decode cX2_mayBoth 10 = .ok (.ifCond .eq 15, 3) := dk_153 0 15 (dk_at dksX2_mayBoth_0 10 rfl rfl)
theorem dX2_mayBoth_13 : decode cX2_mayBoth 13 = .ok (.aload_n 0, 1) := dk_42 (dk_at dksX2_mayBoth_0 13 rfl rfl)
theorem dX2_mayBoth_14 : decode cX2_mayBoth 14 = .ok (.iload_n 2, 1) := dk_28 (dk_at dksX2_mayBoth_0 14 rfl rfl)
theorem dX2_mayBoth_15 : decode cX2_mayBoth 15 = .ok (.invokevirtual 278, 3) := dk_182 1 22 (dk_at dksX2_mayBoth_0 15 rfl rfl)
theorem dX2_mayBoth_18 : decode cX2_mayBoth 18 = .ok (.ifCond .eq 7, 3) := dk_153 0 7 (dk_at dksX2_mayBoth_0 18 rfl rfl)
theorem dX2_mayBoth_21 : decode cX2_mayBoth 21 = .ok (.iconst 1, 1) := dk_4 (dk_at dksX2_mayBoth_0 21 rfl rfl)
theorem dX2_mayBoth_22 : decode cX2_mayBoth 22 = .ok (.goto 4, 3) := dk_167 0 4 (dk_at dksX2_mayBoth_1 0 rfl rfl)
theorem dX2_mayBoth_25 : decode cX2_mayBoth 25 = .ok (.iconst 0, 1) := dk_3 (dk_at dksX2_mayBoth_1 3 rfl rfl)
theorem dX2_mayBoth_26 : decode cX2_mayBoth 26 = .ok (.invokevirtual 191, 3) := dk_182 0 191 (dk_at dksX2_mayBoth_1 4 rfl rfl)
theorem dX2_mayBoth_29 : decode cX2_mayBoth 29 = .ok (.ireturn, 1) := dk_172 (dk_at dksX2_mayBoth_1 7 rfl rfl)
abbrev cX2_seers : ByteArray := prog_20_method_89_code
def yX2_seers : MethodName := ⟨RX2, "seers", "(I)I"⟩
def dkwX2_seers_0 : List UInt8 := [42, 27, 182, 1, 79, 153, 0, 11, 42, 27, 182, 1, 82, 167, 0, 4, 3, 172]
abbrev dktX2_seers_0 : List UInt8 := dkwX2_seers_0 ++ []
theorem dksX2_seers_0 : cX2_seers.data.toList.drop 0 = dktX2_seers_0 := by decide +kernel
theorem dX2_seers_0 : decode cX2_seers 0 = .ok (.aload_n 0, 1) := dk_42 (dk_at dksX2_seers_0 0 rfl rfl)
theorem dX2_seers_1 : decode cX2_seers 1 = .ok (.iload_n 1, 1) := dk_27 (dk_at dksX2_seers_0 1 rfl rfl)
theorem dX2_seers_2 : decode cX2_seers 2 = .ok (.invokevirtual 335, 3) := dk_182 1 79 (dk_at dksX2_seers_0 2 rfl rfl)
theorem dX2_seers_5 : decode cX2_seers 5 = .ok (.ifCond .eq 11, 3) := dk_153 0 11 (dk_at dksX2_seers_0 5 rfl rfl)
theorem dX2_seers_8 : decode cX2_seers 8 = .ok (.aload_n 0, 1) := dk_42 (dk_at dksX2_seers_0 8 rfl rfl)
theorem dX2_seers_9 : decode cX2_seers 9 = .ok (.iload_n 1, 1) := dk_27 (dk_at dksX2_seers_0 9 rfl rfl)
theorem dX2_seers_10 : decode cX2_seers 10 = .ok (.invokevirtual 338, 3) := dk_182 1 82 (dk_at dksX2_seers_0 10 rfl rfl)
theorem dX2_seers_13 : decode cX2_seers 13 = .ok (.goto 4, 3) := dk_167 0 4 (dk_at dksX2_seers_0 13 rfl rfl)
theorem dX2_seers_16 : decode cX2_seers 16 = .ok (.iconst 0, 1) := dk_3 (dk_at dksX2_seers_0 16 rfl rfl)
theorem dX2_seers_17 : decode cX2_seers 17 = .ok (.ireturn, 1) := dk_172 (dk_at dksX2_seers_0 17 rfl rfl)
abbrev cX2_mayCabin : ByteArray := prog_20_method_66_code
def yX2_mayCabin : MethodName := ⟨RX2, "mayCabin", "(I)Z"⟩
def dkwX2_mayCabin_0 : List UInt8 := [42, 42, 180, 0, 184, 42, 27, 182, 1, 19, 182, 0, 191, 172]
abbrev dktX2_mayCabin_0 : List UInt8 := dkwX2_mayCabin_0 ++ []
theorem dksX2_mayCabin_0 : cX2_mayCabin.data.toList.drop 0 = dktX2_mayCabin_0 := by decide +kernel
theorem dX2_mayCabin_0 : decode cX2_mayCabin 0 = .ok (.aload_n 0, 1) := dk_42 (dk_at dksX2_mayCabin_0 0 rfl rfl)
theorem dX2_mayCabin_1 : decode cX2_mayCabin 1 = .ok (.aload_n 0, 1) := dk_42 (dk_at dksX2_mayCabin_0 1 rfl rfl)
theorem dX2_mayCabin_2 : decode cX2_mayCabin 2 = .ok (.getfield 184, 3) := dk_180 0 184 (dk_at dksX2_mayCabin_0 2 rfl rfl)
theorem dX2_mayCabin_5 : decode cX2_mayCabin 5 = .ok (.aload_n 0, 1) := dk_42 (dk_at dksX2_mayCabin_0 5 rfl rfl)
theorem dX2_mayCabin_6 : decode cX2_mayCabin 6 = .ok (.iload_n 1, 1) := dk_27 (dk_at dksX2_mayCabin_0 6 rfl rfl)
theorem dX2_mayCabin_7 : decode cX2_mayCabin 7 = .ok (.invokevirtual 275, 3) := dk_182 1 19 (dk_at dksX2_mayCabin_0 7 rfl rfl)
theorem dX2_mayCabin_10 : decode cX2_mayCabin 10 = .ok (.invokevirtual 191, 3) := dk_182 0 191 (dk_at dksX2_mayCabin_0 10 rfl rfl)
theorem dX2_mayCabin_13 : decode cX2_mayCabin 13 = .ok (.ireturn, 1) := dk_172 (dk_at dksX2_mayCabin_0 13 rfl rfl)
abbrev cX2_seen : ByteArray := prog_20_method_44_code
def yX2_seen : MethodName := ⟨RX2, "seen", "(I)I"⟩
def dkwX2_seen_1 : List UInt8 := [153, 0, 9, 4, 29, 120, 167, 0, 4, 3, 128, 61, 132, 3, 1, 167, 255, 223, 28, 172]
abbrev dktX2_seen_1 : List UInt8 := dkwX2_seen_1 ++ []
def dkwX2_seen_0 : List UInt8 := [3, 61, 3, 62, 29, 42, 180, 0, 9, 16, 6, 46, 162, 0, 28, 28, 42, 27, 29, 182, 0, 217]
abbrev dktX2_seen_0 : List UInt8 := dkwX2_seen_0 ++ dktX2_seen_1
theorem dksX2_seen_0 : cX2_seen.data.toList.drop 0 = dktX2_seen_0 := by decide +kernel
theorem dksX2_seen_1 : cX2_seen.data.toList.drop 22 = dktX2_seen_1 := dk_seg dksX2_seen_0 22 rfl rfl
theorem dX2_seen_0 : decode cX2_seen 0 = .ok (.iconst 0, 1) := dk_3 (dk_at dksX2_seen_0 0 rfl rfl)
theorem dX2_seen_1 : decode cX2_seen 1 = .ok (.istore_n 2, 1) := dk_61 (dk_at dksX2_seen_0 1 rfl rfl)
theorem dX2_seen_2 : decode cX2_seen 2 = .ok (.iconst 0, 1) := dk_3 (dk_at dksX2_seen_0 2 rfl rfl)
theorem dX2_seen_3 : decode cX2_seen 3 = .ok (.istore_n 3, 1) := dk_62 (dk_at dksX2_seen_0 3 rfl rfl)
theorem dX2_seen_4 : decode cX2_seen 4 = .ok (.iload_n 3, 1) := dk_29 (dk_at dksX2_seen_0 4 rfl rfl)
theorem dX2_seen_5 : decode cX2_seen 5 = .ok (.aload_n 0, 1) := dk_42 (dk_at dksX2_seen_0 5 rfl rfl)
theorem dX2_seen_6 : decode cX2_seen 6 = .ok (.getfield 9, 3) := dk_180 0 9 (dk_at dksX2_seen_0 6 rfl rfl)
theorem dX2_seen_9 : decode cX2_seen 9 = .ok (.bipush 6, 2) := dk_16 6 (dk_at dksX2_seen_0 9 rfl rfl)
theorem dX2_seen_11 : decode cX2_seen 11 = .ok (.iaload, 1) := dk_46 (dk_at dksX2_seen_0 11 rfl rfl)
theorem dX2_seen_12 : decode cX2_seen 12 = .ok (.if_icmp .ge 28, 3) := dk_162 0 28 (dk_at dksX2_seen_0 12 rfl rfl)
theorem dX2_seen_15 : decode cX2_seen 15 = .ok (.iload_n 2, 1) := dk_28 (dk_at dksX2_seen_0 15 rfl rfl)
theorem dX2_seen_16 : decode cX2_seen 16 = .ok (.aload_n 0, 1) := dk_42 (dk_at dksX2_seen_0 16 rfl rfl)
theorem dX2_seen_17 : decode cX2_seen 17 = .ok (.iload_n 1, 1) := dk_27 (dk_at dksX2_seen_0 17 rfl rfl)
theorem dX2_seen_18 : decode cX2_seen 18 = .ok (.iload_n 3, 1) := dk_29 (dk_at dksX2_seen_0 18 rfl rfl)
theorem dX2_seen_19 : decode cX2_seen 19 = .ok (.invokevirtual 217, 3) := dk_182 0 217 (dk_at dksX2_seen_0 19 rfl rfl)
theorem dX2_seen_22 : decode cX2_seen 22 = .ok (.ifCond .eq 9, 3) := dk_153 0 9 (dk_at dksX2_seen_1 0 rfl rfl)
theorem dX2_seen_25 : decode cX2_seen 25 = .ok (.iconst 1, 1) := dk_4 (dk_at dksX2_seen_1 3 rfl rfl)
theorem dX2_seen_26 : decode cX2_seen 26 = .ok (.iload_n 3, 1) := dk_29 (dk_at dksX2_seen_1 4 rfl rfl)
theorem dX2_seen_27 : decode cX2_seen 27 = .ok (.ishl, 1) := dk_120 (dk_at dksX2_seen_1 5 rfl rfl)
theorem dX2_seen_28 : decode cX2_seen 28 = .ok (.goto 4, 3) := dk_167 0 4 (dk_at dksX2_seen_1 6 rfl rfl)
theorem dX2_seen_31 : decode cX2_seen 31 = .ok (.iconst 0, 1) := dk_3 (dk_at dksX2_seen_1 9 rfl rfl)
theorem dX2_seen_32 : decode cX2_seen 32 = .ok (.ior, 1) := dk_128 (dk_at dksX2_seen_1 10 rfl rfl)
theorem dX2_seen_33 : decode cX2_seen 33 = .ok (.istore_n 2, 1) := dk_61 (dk_at dksX2_seen_1 11 rfl rfl)
theorem dX2_seen_34 : decode cX2_seen 34 = .ok (.iinc 3 1, 3) := dk_132 3 1 (dk_at dksX2_seen_1 12 rfl rfl)
theorem dX2_seen_37 : decode cX2_seen 37 = .ok (.goto (-33), 3) := dk_167 255 223 (dk_at dksX2_seen_1 15 rfl rfl)
theorem dX2_seen_40 : decode cX2_seen 40 = .ok (.iload_n 2, 1) := dk_28 (dk_at dksX2_seen_1 18 rfl rfl)
theorem dX2_seen_41 : decode cX2_seen 41 = .ok (.ireturn, 1) := dk_172 (dk_at dksX2_seen_1 19 rfl rfl)
abbrev cX2_reached : ByteArray := prog_20_method_91_code
def yX2_reached : MethodName := ⟨RX2, "reached", "(I)I"⟩
def dkwX2_reached_1 : List UInt8 := [182, 1, 85, 61, 132, 3, 1, 167, 255, 241, 28, 172]
abbrev dktX2_reached_1 : List UInt8 := dkwX2_reached_1 ++ []
def dkwX2_reached_0 : List UInt8 := [42, 27, 182, 1, 79, 154, 0, 5, 3, 172, 4, 27, 120, 61, 3, 62, 29, 16, 10, 162, 0, 15, 42, 28]
abbrev dktX2_reached_0 : List UInt8 := dkwX2_reached_0 ++ dktX2_reached_1
theorem dksX2_reached_0 : cX2_reached.data.toList.drop 0 = dktX2_reached_0 := by decide +kernel
theorem dksX2_reached_1 : cX2_reached.data.toList.drop 24 = dktX2_reached_1 := dk_seg dksX2_reached_0 24 rfl rfl
theorem dX2_reached_0 : decode cX2_reached 0 = .ok (.aload_n 0, 1) := dk_42 (dk_at dksX2_reached_0 0 rfl rfl)
theorem dX2_reached_1 : decode cX2_reached 1 = .ok (.iload_n 1, 1) := dk_27 (dk_at dksX2_reached_0 1 rfl rfl)
theorem dX2_reached_2 : decode cX2_reached 2 = .ok (.invokevirtual 335, 3) := dk_182 1 79 (dk_at dksX2_reached_0 2 rfl rfl)
theorem dX2_reached_5 : decode cX2_reached 5 = .ok (.ifCond .ne 5, 3) := dk_154 0 5 (dk_at dksX2_reached_0 5 rfl rfl)
theorem dX2_reached_8 : decode cX2_reached 8 = .ok (.iconst 0, 1) := dk_3 (dk_at dksX2_reached_0 8 rfl rfl)
theorem dX2_reached_9 : decode cX2_reached 9 = .ok (.ireturn, 1) := dk_172 (dk_at dksX2_reached_0 9 rfl rfl)
theorem dX2_reached_10 : decode cX2_reached 10 = .ok (.iconst 1, 1) := dk_4 (dk_at dksX2_reached_0 10 rfl rfl)
theorem dX2_reached_11 : decode cX2_reached 11 = .ok (.iload_n 1, 1) := dk_27 (dk_at dksX2_reached_0 11 rfl rfl)
theorem dX2_reached_12 : decode cX2_reached 12 = .ok (.ishl, 1) := dk_120 (dk_at dksX2_reached_0 12 rfl rfl)
theorem dX2_reached_13 : decode cX2_reached 13 = .ok (.istore_n 2, 1) := dk_61 (dk_at dksX2_reached_0 13 rfl rfl)
theorem dX2_reached_14 : decode cX2_reached 14 = .ok (.iconst 0, 1) := dk_3 (dk_at dksX2_reached_0 14 rfl rfl)
theorem dX2_reached_15 : decode cX2_reached 15 = .ok (.istore_n 3, 1) := dk_62 (dk_at dksX2_reached_0 15 rfl rfl)
theorem dX2_reached_16 : decode cX2_reached 16 = .ok (.iload_n 3, 1) := dk_29 (dk_at dksX2_reached_0 16 rfl rfl)
theorem dX2_reached_17 : decode cX2_reached 17 = .ok (.bipush 10, 2) := dk_16 10 (dk_at dksX2_reached_0 17 rfl rfl)
theorem dX2_reached_19 : decode cX2_reached 19 = .ok (.if_icmp .ge 15, 3) := dk_162 0 15 (dk_at dksX2_reached_0 19 rfl rfl)
theorem dX2_reached_22 : decode cX2_reached 22 = .ok (.aload_n 0, 1) := dk_42 (dk_at dksX2_reached_0 22 rfl rfl)
theorem dX2_reached_23 : decode cX2_reached 23 = .ok (.iload_n 2, 1) := dk_28 (dk_at dksX2_reached_0 23 rfl rfl)
theorem dX2_reached_24 : decode cX2_reached 24 = .ok (.invokevirtual 341, 3) := dk_182 1 85 (dk_at dksX2_reached_1 0 rfl rfl)
theorem dX2_reached_27 : decode cX2_reached 27 = .ok (.istore_n 2, 1) := dk_61 (dk_at dksX2_reached_1 3 rfl rfl)
theorem dX2_reached_28 : decode cX2_reached 28 = .ok (.iinc 3 1, 3) := dk_132 3 1 (dk_at dksX2_reached_1 4 rfl rfl)
theorem dX2_reached_31 : decode cX2_reached 31 = .ok (.goto (-15), 3) := dk_167 255 241 (dk_at dksX2_reached_1 7 rfl rfl)
theorem dX2_reached_34 : decode cX2_reached 34 = .ok (.iload_n 2, 1) := dk_28 (dk_at dksX2_reached_1 10 rfl rfl)
theorem dX2_reached_35 : decode cX2_reached 35 = .ok (.ireturn, 1) := dk_172 (dk_at dksX2_reached_1 11 rfl rfl)
abbrev cX2_spread : ByteArray := prog_20_method_90_code
def yX2_spread : MethodName := ⟨RX2, "spread", "(I)I"⟩
def dkwX2_spread_1 : List UInt8 := [42, 29, 182, 1, 82, 167, 0, 4, 3, 128, 61, 132, 3, 1, 167, 255, 222, 28, 172]
abbrev dktX2_spread_1 : List UInt8 := dkwX2_spread_1 ++ []
def dkwX2_spread_0 : List UInt8 := [27, 61, 3, 62, 29, 42, 180, 0, 9, 16, 6, 46, 162, 0, 29, 28, 27, 29, 184, 0, 245, 153, 0, 11]
abbrev dktX2_spread_0 : List UInt8 := dkwX2_spread_0 ++ dktX2_spread_1
theorem dksX2_spread_0 : cX2_spread.data.toList.drop 0 = dktX2_spread_0 := by decide +kernel
theorem dksX2_spread_1 : cX2_spread.data.toList.drop 24 = dktX2_spread_1 := dk_seg dksX2_spread_0 24 rfl rfl
theorem dX2_spread_0 : decode cX2_spread 0 = .ok (.iload_n 1, 1) := dk_27 (dk_at dksX2_spread_0 0 rfl rfl)
theorem dX2_spread_1 : decode cX2_spread 1 = .ok (.istore_n 2, 1) := dk_61 (dk_at dksX2_spread_0 1 rfl rfl)
theorem dX2_spread_2 : decode cX2_spread 2 = .ok (.iconst 0, 1) := dk_3 (dk_at dksX2_spread_0 2 rfl rfl)
theorem dX2_spread_3 : decode cX2_spread 3 = .ok (.istore_n 3, 1) := dk_62 (dk_at dksX2_spread_0 3 rfl rfl)
theorem dX2_spread_4 : decode cX2_spread 4 = .ok (.iload_n 3, 1) := dk_29 (dk_at dksX2_spread_0 4 rfl rfl)
theorem dX2_spread_5 : decode cX2_spread 5 = .ok (.aload_n 0, 1) := dk_42 (dk_at dksX2_spread_0 5 rfl rfl)
theorem dX2_spread_6 : decode cX2_spread 6 = .ok (.getfield 9, 3) := dk_180 0 9 (dk_at dksX2_spread_0 6 rfl rfl)
theorem dX2_spread_9 : decode cX2_spread 9 = .ok (.bipush 6, 2) := dk_16 6 (dk_at dksX2_spread_0 9 rfl rfl)
theorem dX2_spread_11 : decode cX2_spread 11 = .ok (.iaload, 1) := dk_46 (dk_at dksX2_spread_0 11 rfl rfl)
theorem dX2_spread_12 : decode cX2_spread 12 = .ok (.if_icmp .ge 29, 3) := dk_162 0 29 (dk_at dksX2_spread_0 12 rfl rfl)
theorem dX2_spread_15 : decode cX2_spread 15 = .ok (.iload_n 2, 1) := dk_28 (dk_at dksX2_spread_0 15 rfl rfl)
theorem dX2_spread_16 : decode cX2_spread 16 = .ok (.iload_n 1, 1) := dk_27 (dk_at dksX2_spread_0 16 rfl rfl)
theorem dX2_spread_17 : decode cX2_spread 17 = .ok (.iload_n 3, 1) := dk_29 (dk_at dksX2_spread_0 17 rfl rfl)
theorem dX2_spread_18 : decode cX2_spread 18 = .ok (.invokestatic 245, 3) := dk_184 0 245 (dk_at dksX2_spread_0 18 rfl rfl)
theorem dX2_spread_21 : decode cX2_spread 21 = .ok (.ifCond .eq 11, 3) := dk_153 0 11 (dk_at dksX2_spread_0 21 rfl rfl)
theorem dX2_spread_24 : decode cX2_spread 24 = .ok (.aload_n 0, 1) := dk_42 (dk_at dksX2_spread_1 0 rfl rfl)
theorem dX2_spread_25 : decode cX2_spread 25 = .ok (.iload_n 3, 1) := dk_29 (dk_at dksX2_spread_1 1 rfl rfl)
theorem dX2_spread_26 : decode cX2_spread 26 = .ok (.invokevirtual 338, 3) := dk_182 1 82 (dk_at dksX2_spread_1 2 rfl rfl)
theorem dX2_spread_29 : decode cX2_spread 29 = .ok (.goto 4, 3) := dk_167 0 4 (dk_at dksX2_spread_1 5 rfl rfl)
theorem dX2_spread_32 : decode cX2_spread 32 = .ok (.iconst 0, 1) := dk_3 (dk_at dksX2_spread_1 8 rfl rfl)
theorem dX2_spread_33 : decode cX2_spread 33 = .ok (.ior, 1) := dk_128 (dk_at dksX2_spread_1 9 rfl rfl)
theorem dX2_spread_34 : decode cX2_spread 34 = .ok (.istore_n 2, 1) := dk_61 (dk_at dksX2_spread_1 10 rfl rfl)
theorem dX2_spread_35 : decode cX2_spread 35 = .ok (.iinc 3 1, 3) := dk_132 3 1 (dk_at dksX2_spread_1 11 rfl rfl)
theorem dX2_spread_38 : decode cX2_spread 38 = .ok (.goto (-34), 3) := dk_167 255 222 (dk_at dksX2_spread_1 14 rfl rfl)
theorem dX2_spread_41 : decode cX2_spread 41 = .ok (.iload_n 2, 1) := dk_28 (dk_at dksX2_spread_1 17 rfl rfl)
theorem dX2_spread_42 : decode cX2_spread 42 = .ok (.ireturn, 1) := dk_172 (dk_at dksX2_spread_1 18 rfl rfl)
abbrev cX2_steps : ByteArray := prog_20_method_92_code
def yX2_steps : MethodName := ⟨RX2, "steps", "(II)I"⟩
def dkwX2_steps_2 : List UInt8 := [167, 255, 229, 2, 172]
abbrev dktX2_steps_2 : List UInt8 := dkwX2_steps_2 ++ []
def dkwX2_steps_1 : List UInt8 := [162, 0, 26, 29, 28, 184, 0, 245, 153, 0, 6, 21, 4, 172, 42, 29, 182, 1, 85, 62, 132, 4, 1]
abbrev dktX2_steps_1 : List UInt8 := dkwX2_steps_1 ++ dktX2_steps_2
def dkwX2_steps_0 : List UInt8 := [42, 27, 28, 182, 1, 73, 154, 0, 5, 3, 172, 4, 27, 120, 62, 3, 54, 4, 21, 4, 16, 10]
abbrev dktX2_steps_0 : List UInt8 := dkwX2_steps_0 ++ dktX2_steps_1
theorem dksX2_steps_0 : cX2_steps.data.toList.drop 0 = dktX2_steps_0 := by decide +kernel
theorem dksX2_steps_1 : cX2_steps.data.toList.drop 22 = dktX2_steps_1 := dk_seg dksX2_steps_0 22 rfl rfl
theorem dksX2_steps_2 : cX2_steps.data.toList.drop 45 = dktX2_steps_2 := dk_seg dksX2_steps_1 23 rfl rfl
theorem dX2_steps_0 : decode cX2_steps 0 = .ok (.aload_n 0, 1) := dk_42 (dk_at dksX2_steps_0 0 rfl rfl)
theorem dX2_steps_1 : decode cX2_steps 1 = .ok (.iload_n 1, 1) := dk_27 (dk_at dksX2_steps_0 1 rfl rfl)
theorem dX2_steps_2 : decode cX2_steps 2 = .ok (.iload_n 2, 1) := dk_28 (dk_at dksX2_steps_0 2 rfl rfl)
theorem dX2_steps_3 : decode cX2_steps 3 = .ok (.invokevirtual 329, 3) := dk_182 1 73 (dk_at dksX2_steps_0 3 rfl rfl)
theorem dX2_steps_6 : decode cX2_steps 6 = .ok (.ifCond .ne 5, 3) := dk_154 0 5 (dk_at dksX2_steps_0 6 rfl rfl)
theorem dX2_steps_9 : decode cX2_steps 9 = .ok (.iconst 0, 1) := dk_3 (dk_at dksX2_steps_0 9 rfl rfl)
theorem dX2_steps_10 : decode cX2_steps 10 = .ok (.ireturn, 1) := dk_172 (dk_at dksX2_steps_0 10 rfl rfl)
theorem dX2_steps_11 : decode cX2_steps 11 = .ok (.iconst 1, 1) := dk_4 (dk_at dksX2_steps_0 11 rfl rfl)
theorem dX2_steps_12 : decode cX2_steps 12 = .ok (.iload_n 1, 1) := dk_27 (dk_at dksX2_steps_0 12 rfl rfl)
theorem dX2_steps_13 : decode cX2_steps 13 = .ok (.ishl, 1) := dk_120 (dk_at dksX2_steps_0 13 rfl rfl)
theorem dX2_steps_14 : decode cX2_steps 14 = .ok (.istore_n 3, 1) := dk_62 (dk_at dksX2_steps_0 14 rfl rfl)
theorem dX2_steps_15 : decode cX2_steps 15 = .ok (.iconst 0, 1) := dk_3 (dk_at dksX2_steps_0 15 rfl rfl)
theorem dX2_steps_16 : decode cX2_steps 16 = .ok (.istore 4, 2) := dk_54 4 (dk_at dksX2_steps_0 16 rfl rfl)
theorem dX2_steps_18 : decode cX2_steps 18 = .ok (.iload 4, 2) := dk_21 4 (dk_at dksX2_steps_0 18 rfl rfl)
theorem dX2_steps_20 : decode cX2_steps 20 = .ok (.bipush 10, 2) := dk_16 10 (dk_at dksX2_steps_0 20 rfl rfl)
theorem dX2_steps_22 : decode cX2_steps 22 = .ok (.if_icmp .ge 26, 3) := dk_162 0 26 (dk_at dksX2_steps_1 0 rfl rfl)
theorem dX2_steps_25 : decode cX2_steps 25 = .ok (.iload_n 3, 1) := dk_29 (dk_at dksX2_steps_1 3 rfl rfl)
theorem dX2_steps_26 : decode cX2_steps 26 = .ok (.iload_n 2, 1) := dk_28 (dk_at dksX2_steps_1 4 rfl rfl)
theorem dX2_steps_27 : decode cX2_steps 27 = .ok (.invokestatic 245, 3) := dk_184 0 245 (dk_at dksX2_steps_1 5 rfl rfl)
theorem dX2_steps_30 : decode cX2_steps 30 = .ok (.ifCond .eq 6, 3) := dk_153 0 6 (dk_at dksX2_steps_1 8 rfl rfl)
theorem dX2_steps_33 : decode cX2_steps 33 = .ok (.iload 4, 2) := dk_21 4 (dk_at dksX2_steps_1 11 rfl rfl)
theorem dX2_steps_35 : decode cX2_steps 35 = .ok (.ireturn, 1) := dk_172 (dk_at dksX2_steps_1 13 rfl rfl)
theorem dX2_steps_36 : decode cX2_steps 36 = .ok (.aload_n 0, 1) := dk_42 (dk_at dksX2_steps_1 14 rfl rfl)
theorem dX2_steps_37 : decode cX2_steps 37 = .ok (.iload_n 3, 1) := dk_29 (dk_at dksX2_steps_1 15 rfl rfl)
theorem dX2_steps_38 : decode cX2_steps 38 = .ok (.invokevirtual 341, 3) := dk_182 1 85 (dk_at dksX2_steps_1 16 rfl rfl)
theorem dX2_steps_41 : decode cX2_steps 41 = .ok (.istore_n 3, 1) := dk_62 (dk_at dksX2_steps_1 19 rfl rfl)
theorem dX2_steps_42 : decode cX2_steps 42 = .ok (.iinc 4 1, 3) := dk_132 4 1 (dk_at dksX2_steps_1 20 rfl rfl)
theorem dX2_steps_45 : decode cX2_steps 45 = .ok (.goto (-27), 3) := dk_167 255 229 (dk_at dksX2_steps_2 0 rfl rfl)
theorem dX2_steps_48 : decode cX2_steps 48 = .ok (.iconst (-1), 1) := dk_2 (dk_at dksX2_steps_2 3 rfl rfl)
theorem dX2_steps_49 : decode cX2_steps 49 = .ok (.ireturn, 1) := dk_172 (dk_at dksX2_steps_2 4 rfl rfl)
abbrev cX2_ridgesBetween : ByteArray := prog_20_method_93_code
def yX2_ridgesBetween : MethodName := ⟨RX2, "ridgesBetween", "(II)I"⟩
def dkwX2_ridgesBetween_1 : List UInt8 := [3, 172]
abbrev dktX2_ridgesBetween_1 : List UInt8 := dkwX2_ridgesBetween_1 ++ []
def dkwX2_ridgesBetween_0 : List UInt8 := [42, 27, 28, 182, 1, 73, 153, 0, 18, 42, 27, 184, 0, 210, 28, 184, 0, 210, 182, 0, 207, 167, 0, 4]
abbrev dktX2_ridgesBetween_0 : List UInt8 := dkwX2_ridgesBetween_0 ++ dktX2_ridgesBetween_1
theorem dksX2_ridgesBetween_0 : cX2_ridgesBetween.data.toList.drop 0 = dktX2_ridgesBetween_0 := by decide +kernel
theorem dksX2_ridgesBetween_1 : cX2_ridgesBetween.data.toList.drop 24 = dktX2_ridgesBetween_1 := dk_seg dksX2_ridgesBetween_0 24 rfl rfl
theorem dX2_ridgesBetween_0 : decode cX2_ridgesBetween 0 = .ok (.aload_n 0, 1) := dk_42 (dk_at dksX2_ridgesBetween_0 0 rfl rfl)
theorem dX2_ridgesBetween_1 : decode cX2_ridgesBetween 1 = .ok (.iload_n 1, 1) := dk_27 (dk_at dksX2_ridgesBetween_0 1 rfl rfl)
theorem dX2_ridgesBetween_2 : decode cX2_ridgesBetween 2 = .ok (.iload_n 2, 1) := dk_28 (dk_at dksX2_ridgesBetween_0 2 rfl rfl)
theorem dX2_ridgesBetween_3 : decode cX2_ridgesBetween 3 = .ok (.invokevirtual 329, 3) := dk_182 1 73 (dk_at dksX2_ridgesBetween_0 3 rfl rfl)
theorem dX2_ridgesBetween_6 : decode cX2_ridgesBetween 6 = .ok (.ifCond .eq 18, 3) := dk_153 0 18 (dk_at dksX2_ridgesBetween_0 6 rfl rfl)
theorem dX2_ridgesBetween_9 : decode cX2_ridgesBetween 9 = .ok (.aload_n 0, 1) := dk_42 (dk_at dksX2_ridgesBetween_0 9 rfl rfl)
theorem dX2_ridgesBetween_10 : decode cX2_ridgesBetween 10 = .ok (.iload_n 1, 1) := dk_27 (dk_at dksX2_ridgesBetween_0 10 rfl rfl)
theorem dX2_ridgesBetween_11 : decode cX2_ridgesBetween 11 = .ok (.invokestatic 210, 3) := dk_184 0 210 (dk_at dksX2_ridgesBetween_0 11 rfl rfl)
theorem dX2_ridgesBetween_14 : decode cX2_ridgesBetween 14 = .ok (.iload_n 2, 1) := dk_28 (dk_at dksX2_ridgesBetween_0 14 rfl rfl)
theorem dX2_ridgesBetween_15 : decode cX2_ridgesBetween 15 = .ok (.invokestatic 210, 3) := dk_184 0 210 (dk_at dksX2_ridgesBetween_0 15 rfl rfl)
theorem dX2_ridgesBetween_18 : decode cX2_ridgesBetween 18 = .ok (.invokevirtual 207, 3) := dk_182 0 207 (dk_at dksX2_ridgesBetween_0 18 rfl rfl)
theorem dX2_ridgesBetween_21 : decode cX2_ridgesBetween 21 = .ok (.goto 4, 3) := dk_167 0 4 (dk_at dksX2_ridgesBetween_0 21 rfl rfl)
theorem dX2_ridgesBetween_24 : decode cX2_ridgesBetween 24 = .ok (.iconst 0, 1) := dk_3 (dk_at dksX2_ridgesBetween_1 0 rfl rfl)
theorem dX2_ridgesBetween_25 : decode cX2_ridgesBetween 25 = .ok (.ireturn, 1) := dk_172 (dk_at dksX2_ridgesBetween_1 1 rfl rfl)
abbrev cX2_distance : ByteArray := prog_20_method_94_code
def yX2_distance : MethodName := ⟨RX2, "distance", "(II)I"⟩
def dkwX2_distance_0 : List UInt8 := [42, 27, 28, 182, 1, 76, 153, 0, 12, 42, 27, 28, 182, 0, 229, 167, 0, 4, 3, 172]
abbrev dktX2_distance_0 : List UInt8 := dkwX2_distance_0 ++ []
theorem dksX2_distance_0 : cX2_distance.data.toList.drop 0 = dktX2_distance_0 := by decide +kernel
theorem dX2_distance_0 : decode cX2_distance 0 = .ok (.aload_n 0, 1) := dk_42 (dk_at dksX2_distance_0 0 rfl rfl)
theorem dX2_distance_1 : decode cX2_distance 1 = .ok (.iload_n 1, 1) := dk_27 (dk_at dksX2_distance_0 1 rfl rfl)
theorem dX2_distance_2 : decode cX2_distance 2 = .ok (.iload_n 2, 1) := dk_28 (dk_at dksX2_distance_0 2 rfl rfl)
theorem dX2_distance_3 : decode cX2_distance 3 = .ok (.invokevirtual 332, 3) := dk_182 1 76 (dk_at dksX2_distance_0 3 rfl rfl)
theorem dX2_distance_6 : decode cX2_distance 6 = .ok (.ifCond .eq 12, 3) := dk_153 0 12 (dk_at dksX2_distance_0 6 rfl rfl)
theorem dX2_distance_9 : decode cX2_distance 9 = .ok (.aload_n 0, 1) := dk_42 (dk_at dksX2_distance_0 9 rfl rfl)
theorem dX2_distance_10 : decode cX2_distance 10 = .ok (.iload_n 1, 1) := dk_27 (dk_at dksX2_distance_0 10 rfl rfl)
theorem dX2_distance_11 : decode cX2_distance 11 = .ok (.iload_n 2, 1) := dk_28 (dk_at dksX2_distance_0 11 rfl rfl)
theorem dX2_distance_12 : decode cX2_distance 12 = .ok (.invokevirtual 229, 3) := dk_182 0 229 (dk_at dksX2_distance_0 12 rfl rfl)
theorem dX2_distance_15 : decode cX2_distance 15 = .ok (.goto 4, 3) := dk_167 0 4 (dk_at dksX2_distance_0 15 rfl rfl)
theorem dX2_distance_18 : decode cX2_distance 18 = .ok (.iconst 0, 1) := dk_3 (dk_at dksX2_distance_0 18 rfl rfl)
theorem dX2_distance_19 : decode cX2_distance 19 = .ok (.ireturn, 1) := dk_172 (dk_at dksX2_distance_0 19 rfl rfl)
abbrev cX2_vote : ByteArray := prog_20_method_95_code
def yX2_vote : MethodName := ⟨RX2, "vote", "(IIII)I"⟩
def dkwX2_vote_4 : List UInt8 := [184, 0, 254, 167, 0, 9, 42, 28, 29, 182, 0, 238, 172]
abbrev dktX2_vote_4 : List UInt8 := dkwX2_vote_4 ++ []
def dkwX2_vote_3 : List UInt8 := [21, 5, 184, 0, 235, 153, 0, 7, 4, 167, 0, 27, 3, 167, 0, 23, 21, 4, 4, 160, 0, 11, 21, 5]
abbrev dktX2_vote_3 : List UInt8 := dkwX2_vote_3 ++ dktX2_vote_4
def dkwX2_vote_2 : List UInt8 := [3, 172, 42, 27, 28, 29, 182, 0, 232, 54, 5, 21, 5, 154, 0, 5, 2, 172, 21, 4, 154, 0, 19]
abbrev dktX2_vote_2 : List UInt8 := dkwX2_vote_2 ++ dktX2_vote_3
def dkwX2_vote_1 : List UInt8 := [182, 1, 22, 153, 0, 7, 4, 167, 0, 4, 3, 21, 4, 3, 5, 184, 0, 64, 182, 0, 47, 154, 0, 5]
abbrev dktX2_vote_1 : List UInt8 := dkwX2_vote_1 ++ dktX2_vote_2
def dkwX2_vote_0 : List UInt8 := [42, 42, 180, 0, 184, 42, 27, 182, 1, 19, 153, 0, 23, 42, 28, 182, 1, 19, 153, 0, 15, 42, 29]
abbrev dktX2_vote_0 : List UInt8 := dkwX2_vote_0 ++ dktX2_vote_1
theorem dksX2_vote_0 : cX2_vote.data.toList.drop 0 = dktX2_vote_0 := by decide +kernel
theorem dksX2_vote_1 : cX2_vote.data.toList.drop 23 = dktX2_vote_1 := dk_seg dksX2_vote_0 23 rfl rfl
theorem dksX2_vote_2 : cX2_vote.data.toList.drop 47 = dktX2_vote_2 := dk_seg dksX2_vote_1 24 rfl rfl
theorem dksX2_vote_3 : cX2_vote.data.toList.drop 70 = dktX2_vote_3 := dk_seg dksX2_vote_2 23 rfl rfl
theorem dksX2_vote_4 : cX2_vote.data.toList.drop 94 = dktX2_vote_4 := dk_seg dksX2_vote_3 24 rfl rfl
theorem dX2_vote_0 : decode cX2_vote 0 = .ok (.aload_n 0, 1) := dk_42 (dk_at dksX2_vote_0 0 rfl rfl)
theorem dX2_vote_1 : decode cX2_vote 1 = .ok (.aload_n 0, 1) := dk_42 (dk_at dksX2_vote_0 1 rfl rfl)
theorem dX2_vote_2 : decode cX2_vote 2 = .ok (.getfield 184, 3) := dk_180 0 184 (dk_at dksX2_vote_0 2 rfl rfl)
theorem dX2_vote_5 : decode cX2_vote 5 = .ok (.aload_n 0, 1) := dk_42 (dk_at dksX2_vote_0 5 rfl rfl)
theorem dX2_vote_6 : decode cX2_vote 6 = .ok (.iload_n 1, 1) := dk_27 (dk_at dksX2_vote_0 6 rfl rfl)
theorem dX2_vote_7 : decode cX2_vote 7 = .ok (.invokevirtual 275, 3) := dk_182 1 19 (dk_at dksX2_vote_0 7 rfl rfl)
theorem dX2_vote_10 : decode cX2_vote 10 = .ok (.ifCond .eq 23, 3) := dk_153 0 23 (dk_at dksX2_vote_0 10 rfl rfl)
theorem dX2_vote_13 : decode cX2_vote 13 = .ok (.aload_n 0, 1) := dk_42 (dk_at dksX2_vote_0 13 rfl rfl)
theorem dX2_vote_14 : decode cX2_vote 14 = .ok (.iload_n 2, 1) := dk_28 (dk_at dksX2_vote_0 14 rfl rfl)
theorem dX2_vote_15 : decode cX2_vote 15 = .ok (.invokevirtual 275, 3) := dk_182 1 19 (dk_at dksX2_vote_0 15 rfl rfl)
theorem dX2_vote_18 : decode cX2_vote 18 = .ok (.ifCond .eq 15, 3) := dk_153 0 15 (dk_at dksX2_vote_0 18 rfl rfl)
theorem dX2_vote_21 : decode cX2_vote 21 = .ok (.aload_n 0, 1) := dk_42 (dk_at dksX2_vote_0 21 rfl rfl)
theorem dX2_vote_22 : decode cX2_vote 22 = .ok (.iload_n 3, 1) := dk_29 (dk_at dksX2_vote_0 22 rfl rfl)
theorem dX2_vote_23 : decode cX2_vote 23 = .ok (.invokevirtual 278, 3) := dk_182 1 22 (dk_at dksX2_vote_1 0 rfl rfl)
theorem dX2_vote_26 : decode cX2_vote 26 = .ok (.ifCond .eq 7, 3) := dk_153 0 7 (dk_at dksX2_vote_1 3 rfl rfl)
theorem dX2_vote_29 : decode cX2_vote 29 = .ok (.iconst 1, 1) := dk_4 (dk_at dksX2_vote_1 6 rfl rfl)
theorem dX2_vote_30 : decode cX2_vote 30 = .ok (.goto 4, 3) := dk_167 0 4 (dk_at dksX2_vote_1 7 rfl rfl)
theorem dX2_vote_33 : decode cX2_vote 33 = .ok (.iconst 0, 1) := dk_3 (dk_at dksX2_vote_1 10 rfl rfl)
theorem dX2_vote_34 : decode cX2_vote 34 = .ok (.iload 4, 2) := dk_21 4 (dk_at dksX2_vote_1 11 rfl rfl)
theorem dX2_vote_36 : decode cX2_vote 36 = .ok (.iconst 0, 1) := dk_3 (dk_at dksX2_vote_1 13 rfl rfl)
theorem dX2_vote_37 : decode cX2_vote 37 = .ok (.iconst 2, 1) := dk_5 (dk_at dksX2_vote_1 14 rfl rfl)
theorem dX2_vote_38 : decode cX2_vote 38 = .ok (.invokestatic 64, 3) := dk_184 0 64 (dk_at dksX2_vote_1 15 rfl rfl)
theorem dX2_vote_41 : decode cX2_vote 41 = .ok (.invokevirtual 47, 3) := dk_182 0 47 (dk_at dksX2_vote_1 18 rfl rfl)
theorem dX2_vote_44 : decode cX2_vote 44 = .ok (.ifCond .ne 5, 3) := dk_154 0 5 (dk_at dksX2_vote_1 21 rfl rfl)
theorem dX2_vote_47 : decode cX2_vote 47 = .ok (.iconst 0, 1) := dk_3 (dk_at dksX2_vote_2 0 rfl rfl)
theorem dX2_vote_48 : decode cX2_vote 48 = .ok (.ireturn, 1) := dk_172 (dk_at dksX2_vote_2 1 rfl rfl)
theorem dX2_vote_49 : decode cX2_vote 49 = .ok (.aload_n 0, 1) := dk_42 (dk_at dksX2_vote_2 2 rfl rfl)
theorem dX2_vote_50 : decode cX2_vote 50 = .ok (.iload_n 1, 1) := dk_27 (dk_at dksX2_vote_2 3 rfl rfl)
theorem dX2_vote_51 : decode cX2_vote 51 = .ok (.iload_n 2, 1) := dk_28 (dk_at dksX2_vote_2 4 rfl rfl)
theorem dX2_vote_52 : decode cX2_vote 52 = .ok (.iload_n 3, 1) := dk_29 (dk_at dksX2_vote_2 5 rfl rfl)
theorem dX2_vote_53 : decode cX2_vote 53 = .ok (.invokevirtual 232, 3) := dk_182 0 232 (dk_at dksX2_vote_2 6 rfl rfl)
theorem dX2_vote_56 : decode cX2_vote 56 = .ok (.istore 5, 2) := dk_54 5 (dk_at dksX2_vote_2 9 rfl rfl)
theorem dX2_vote_58 : decode cX2_vote 58 = .ok (.iload 5, 2) := dk_21 5 (dk_at dksX2_vote_2 11 rfl rfl)
theorem dX2_vote_60 : decode cX2_vote 60 = .ok (.ifCond .ne 5, 3) := dk_154 0 5 (dk_at dksX2_vote_2 13 rfl rfl)
theorem dX2_vote_63 : decode cX2_vote 63 = .ok (.iconst (-1), 1) := dk_2 (dk_at dksX2_vote_2 16 rfl rfl)
theorem dX2_vote_64 : decode cX2_vote 64 = .ok (.ireturn, 1) := dk_172 (dk_at dksX2_vote_2 17 rfl rfl)
theorem dX2_vote_65 : decode cX2_vote 65 = .ok (.iload 4, 2) := dk_21 4 (dk_at dksX2_vote_2 18 rfl rfl)
theorem dX2_vote_67 : decode cX2_vote 67 = .ok (.ifCond .ne 19, 3) := dk_154 0 19 (dk_at dksX2_vote_2 20 rfl rfl)
theorem dX2_vote_70 : decode cX2_vote 70 = .ok (.iload 5, 2) := dk_21 5 (dk_at dksX2_vote_3 0 rfl rfl)
theorem dX2_vote_72 : decode cX2_vote 72 = .ok (.invokestatic 235, 3) := dk_184 0 235 (dk_at dksX2_vote_3 2 rfl rfl)
theorem dX2_vote_75 : decode cX2_vote 75 = .ok (.ifCond .eq 7, 3) := dk_153 0 7 (dk_at dksX2_vote_3 5 rfl rfl)
theorem dX2_vote_78 : decode cX2_vote 78 = .ok (.iconst 1, 1) := dk_4 (dk_at dksX2_vote_3 8 rfl rfl)
theorem dX2_vote_79 : decode cX2_vote 79 = .ok (.goto 27, 3) := dk_167 0 27 (dk_at dksX2_vote_3 9 rfl rfl)
theorem dX2_vote_82 : decode cX2_vote 82 = .ok (.iconst 0, 1) := dk_3 (dk_at dksX2_vote_3 12 rfl rfl)
theorem dX2_vote_83 : decode cX2_vote 83 = .ok (.goto 23, 3) := dk_167 0 23 (dk_at dksX2_vote_3 13 rfl rfl)
theorem dX2_vote_86 : decode cX2_vote 86 = .ok (.iload 4, 2) := dk_21 4 (dk_at dksX2_vote_3 16 rfl rfl)
theorem dX2_vote_88 : decode cX2_vote 88 = .ok (.iconst 1, 1) := dk_4 (dk_at dksX2_vote_3 18 rfl rfl)
theorem dX2_vote_89 : decode cX2_vote 89 = .ok (.if_icmp .ne 11, 3) := dk_160 0 11 (dk_at dksX2_vote_3 19 rfl rfl)
theorem dX2_vote_92 : decode cX2_vote 92 = .ok (.iload 5, 2) := dk_21 5 (dk_at dksX2_vote_3 22 rfl rfl)
theorem dX2_vote_94 : decode cX2_vote 94 = .ok (.invokestatic 254, 3) := dk_184 0 254 (dk_at dksX2_vote_4 0 rfl rfl)
theorem dX2_vote_97 : decode cX2_vote 97 = .ok (.goto 9, 3) := dk_167 0 9 (dk_at dksX2_vote_4 3 rfl rfl)
theorem dX2_vote_100 : decode cX2_vote 100 = .ok (.aload_n 0, 1) := dk_42 (dk_at dksX2_vote_4 6 rfl rfl)
theorem dX2_vote_101 : decode cX2_vote 101 = .ok (.iload_n 2, 1) := dk_28 (dk_at dksX2_vote_4 7 rfl rfl)
theorem dX2_vote_102 : decode cX2_vote 102 = .ok (.iload_n 3, 1) := dk_29 (dk_at dksX2_vote_4 8 rfl rfl)
theorem dX2_vote_103 : decode cX2_vote 103 = .ok (.invokevirtual 238, 3) := dk_182 0 238 (dk_at dksX2_vote_4 9 rfl rfl)
theorem dX2_vote_106 : decode cX2_vote 106 = .ok (.ireturn, 1) := dk_172 (dk_at dksX2_vote_4 12 rfl rfl)
abbrev cX2_timeOf : ByteArray := prog_20_method_52_code
def yX2_timeOf : MethodName := ⟨RX2, "timeOf", "(I)I"⟩
def dkwX2_timeOf_0 : List UInt8 := [26, 4, 100, 5, 108, 172]
abbrev dktX2_timeOf_0 : List UInt8 := dkwX2_timeOf_0 ++ []
theorem dksX2_timeOf_0 : cX2_timeOf.data.toList.drop 0 = dktX2_timeOf_0 := by decide +kernel
theorem dX2_timeOf_0 : decode cX2_timeOf 0 = .ok (.iload_n 0, 1) := dk_26 (dk_at dksX2_timeOf_0 0 rfl rfl)
theorem dX2_timeOf_1 : decode cX2_timeOf 1 = .ok (.iconst 1, 1) := dk_4 (dk_at dksX2_timeOf_0 1 rfl rfl)
theorem dX2_timeOf_2 : decode cX2_timeOf 2 = .ok (.isub, 1) := dk_100 (dk_at dksX2_timeOf_0 2 rfl rfl)
theorem dX2_timeOf_3 : decode cX2_timeOf 3 = .ok (.iconst 2, 1) := dk_5 (dk_at dksX2_timeOf_0 3 rfl rfl)
theorem dX2_timeOf_4 : decode cX2_timeOf 4 = .ok (.idiv, 1) := dk_108 (dk_at dksX2_timeOf_0 4 rfl rfl)
theorem dX2_timeOf_5 : decode cX2_timeOf 5 = .ok (.ireturn, 1) := dk_172 (dk_at dksX2_timeOf_0 5 rfl rfl)
abbrev cX2_weights : ByteArray := prog_20_method_96_code
def yX2_weights : MethodName := ⟨RX2, "weights", "(IIZ)I"⟩
def dkwX2_weights_0 : List UInt8 := [42, 27, 28, 182, 1, 76, 153, 0, 13, 42, 27, 28, 29, 182, 0, 241, 167, 0, 4, 3, 172]
abbrev dktX2_weights_0 : List UInt8 := dkwX2_weights_0 ++ []
theorem dksX2_weights_0 : cX2_weights.data.toList.drop 0 = dktX2_weights_0 := by decide +kernel
theorem dX2_weights_0 : decode cX2_weights 0 = .ok (.aload_n 0, 1) := dk_42 (dk_at dksX2_weights_0 0 rfl rfl)
theorem dX2_weights_1 : decode cX2_weights 1 = .ok (.iload_n 1, 1) := dk_27 (dk_at dksX2_weights_0 1 rfl rfl)
theorem dX2_weights_2 : decode cX2_weights 2 = .ok (.iload_n 2, 1) := dk_28 (dk_at dksX2_weights_0 2 rfl rfl)
theorem dX2_weights_3 : decode cX2_weights 3 = .ok (.invokevirtual 332, 3) := dk_182 1 76 (dk_at dksX2_weights_0 3 rfl rfl)
theorem dX2_weights_6 : decode cX2_weights 6 = .ok (.ifCond .eq 13, 3) := dk_153 0 13 (dk_at dksX2_weights_0 6 rfl rfl)
theorem dX2_weights_9 : decode cX2_weights 9 = .ok (.aload_n 0, 1) := dk_42 (dk_at dksX2_weights_0 9 rfl rfl)
theorem dX2_weights_10 : decode cX2_weights 10 = .ok (.iload_n 1, 1) := dk_27 (dk_at dksX2_weights_0 10 rfl rfl)
theorem dX2_weights_11 : decode cX2_weights 11 = .ok (.iload_n 2, 1) := dk_28 (dk_at dksX2_weights_0 11 rfl rfl)
theorem dX2_weights_12 : decode cX2_weights 12 = .ok (.iload_n 3, 1) := dk_29 (dk_at dksX2_weights_0 12 rfl rfl)
theorem dX2_weights_13 : decode cX2_weights 13 = .ok (.invokevirtual 241, 3) := dk_182 0 241 (dk_at dksX2_weights_0 13 rfl rfl)
theorem dX2_weights_16 : decode cX2_weights 16 = .ok (.goto 4, 3) := dk_167 0 4 (dk_at dksX2_weights_0 16 rfl rfl)
theorem dX2_weights_19 : decode cX2_weights 19 = .ok (.iconst 0, 1) := dk_3 (dk_at dksX2_weights_0 19 rfl rfl)
theorem dX2_weights_20 : decode cX2_weights 20 = .ok (.ireturn, 1) := dk_172 (dk_at dksX2_weights_0 20 rfl rfl)
abbrev cX2_rules : ByteArray := prog_20_method_97_code
def yX2_rules : MethodName := ⟨RX2, "rules", "(II)I"⟩
def dkwX2_rules_0 : List UInt8 := [42, 27, 28, 182, 1, 76, 153, 0, 12, 42, 27, 28, 182, 1, 1, 167, 0, 4, 3, 172]
abbrev dktX2_rules_0 : List UInt8 := dkwX2_rules_0 ++ []
theorem dksX2_rules_0 : cX2_rules.data.toList.drop 0 = dktX2_rules_0 := by decide +kernel
theorem dX2_rules_0 : decode cX2_rules 0 = .ok (.aload_n 0, 1) := dk_42 (dk_at dksX2_rules_0 0 rfl rfl)
theorem dX2_rules_1 : decode cX2_rules 1 = .ok (.iload_n 1, 1) := dk_27 (dk_at dksX2_rules_0 1 rfl rfl)
theorem dX2_rules_2 : decode cX2_rules 2 = .ok (.iload_n 2, 1) := dk_28 (dk_at dksX2_rules_0 2 rfl rfl)
theorem dX2_rules_3 : decode cX2_rules 3 = .ok (.invokevirtual 332, 3) := dk_182 1 76 (dk_at dksX2_rules_0 3 rfl rfl)
theorem dX2_rules_6 : decode cX2_rules 6 = .ok (.ifCond .eq 12, 3) := dk_153 0 12 (dk_at dksX2_rules_0 6 rfl rfl)
theorem dX2_rules_9 : decode cX2_rules 9 = .ok (.aload_n 0, 1) := dk_42 (dk_at dksX2_rules_0 9 rfl rfl)
theorem dX2_rules_10 : decode cX2_rules 10 = .ok (.iload_n 1, 1) := dk_27 (dk_at dksX2_rules_0 10 rfl rfl)
theorem dX2_rules_11 : decode cX2_rules 11 = .ok (.iload_n 2, 1) := dk_28 (dk_at dksX2_rules_0 11 rfl rfl)
theorem dX2_rules_12 : decode cX2_rules 12 = .ok (.invokevirtual 257, 3) := dk_182 1 1 (dk_at dksX2_rules_0 12 rfl rfl)
theorem dX2_rules_15 : decode cX2_rules 15 = .ok (.goto 4, 3) := dk_167 0 4 (dk_at dksX2_rules_0 15 rfl rfl)
theorem dX2_rules_18 : decode cX2_rules 18 = .ok (.iconst 0, 1) := dk_3 (dk_at dksX2_rules_0 18 rfl rfl)
theorem dX2_rules_19 : decode cX2_rules 19 = .ok (.ireturn, 1) := dk_172 (dk_at dksX2_rules_0 19 rfl rfl)
abbrev cX2_ruling : ByteArray := prog_20_method_55_code
def yX2_ruling : MethodName := ⟨RX2, "ruling", "(II)I"⟩
def dkwX2_ruling_2 : List UInt8 := [167, 0, 4, 3, 172]
abbrev dktX2_ruling_2 : List UInt8 := dkwX2_ruling_2 ++ []
def dkwX2_ruling_1 : List UInt8 := [104, 42, 180, 0, 9, 5, 46, 29, 21, 4, 96, 104, 161, 0, 5, 4, 172, 21, 4, 158, 0, 7, 2]
abbrev dktX2_ruling_1 : List UInt8 := dkwX2_ruling_1 ++ dktX2_ruling_2
def dkwX2_ruling_0 : List UInt8 := [42, 27, 28, 4, 182, 0, 241, 62, 42, 27, 28, 3, 182, 0, 241, 54, 4, 29, 158, 0, 23, 16, 100, 29]
abbrev dktX2_ruling_0 : List UInt8 := dkwX2_ruling_0 ++ dktX2_ruling_1
theorem dksX2_ruling_0 : cX2_ruling.data.toList.drop 0 = dktX2_ruling_0 := by decide +kernel
theorem dksX2_ruling_1 : cX2_ruling.data.toList.drop 24 = dktX2_ruling_1 := dk_seg dksX2_ruling_0 24 rfl rfl
theorem dksX2_ruling_2 : cX2_ruling.data.toList.drop 47 = dktX2_ruling_2 := dk_seg dksX2_ruling_1 23 rfl rfl
theorem dX2_ruling_0 : decode cX2_ruling 0 = .ok (.aload_n 0, 1) := dk_42 (dk_at dksX2_ruling_0 0 rfl rfl)
theorem dX2_ruling_1 : decode cX2_ruling 1 = .ok (.iload_n 1, 1) := dk_27 (dk_at dksX2_ruling_0 1 rfl rfl)
theorem dX2_ruling_2 : decode cX2_ruling 2 = .ok (.iload_n 2, 1) := dk_28 (dk_at dksX2_ruling_0 2 rfl rfl)
theorem dX2_ruling_3 : decode cX2_ruling 3 = .ok (.iconst 1, 1) := dk_4 (dk_at dksX2_ruling_0 3 rfl rfl)
theorem dX2_ruling_4 : decode cX2_ruling 4 = .ok (.invokevirtual 241, 3) := dk_182 0 241 (dk_at dksX2_ruling_0 4 rfl rfl)
theorem dX2_ruling_7 : decode cX2_ruling 7 = .ok (.istore_n 3, 1) := dk_62 (dk_at dksX2_ruling_0 7 rfl rfl)
theorem dX2_ruling_8 : decode cX2_ruling 8 = .ok (.aload_n 0, 1) := dk_42 (dk_at dksX2_ruling_0 8 rfl rfl)
theorem dX2_ruling_9 : decode cX2_ruling 9 = .ok (.iload_n 1, 1) := dk_27 (dk_at dksX2_ruling_0 9 rfl rfl)
theorem dX2_ruling_10 : decode cX2_ruling 10 = .ok (.iload_n 2, 1) := dk_28 (dk_at dksX2_ruling_0 10 rfl rfl)
theorem dX2_ruling_11 : decode cX2_ruling 11 = .ok (.iconst 0, 1) := dk_3 (dk_at dksX2_ruling_0 11 rfl rfl)
theorem dX2_ruling_12 : decode cX2_ruling 12 = .ok (.invokevirtual 241, 3) := dk_182 0 241 (dk_at dksX2_ruling_0 12 rfl rfl)
theorem dX2_ruling_15 : decode cX2_ruling 15 = .ok (.istore 4, 2) := dk_54 4 (dk_at dksX2_ruling_0 15 rfl rfl)
theorem dX2_ruling_17 : decode cX2_ruling 17 = .ok (.iload_n 3, 1) := dk_29 (dk_at dksX2_ruling_0 17 rfl rfl)
theorem dX2_ruling_18 : decode cX2_ruling 18 = .ok (.ifCond .le 23, 3) := dk_158 0 23 (dk_at dksX2_ruling_0 18 rfl rfl)
theorem dX2_ruling_21 : decode cX2_ruling 21 = .ok (.bipush 100, 2) := dk_16 100 (dk_at dksX2_ruling_0 21 rfl rfl)
theorem dX2_ruling_23 : decode cX2_ruling 23 = .ok (.iload_n 3, 1) := dk_29 (dk_at dksX2_ruling_0 23 rfl rfl)
theorem dX2_ruling_24 : decode cX2_ruling 24 = .ok (.imul, 1) := dk_104 (dk_at dksX2_ruling_1 0 rfl rfl)
theorem dX2_ruling_25 : decode cX2_ruling 25 = .ok (.aload_n 0, 1) := dk_42 (dk_at dksX2_ruling_1 1 rfl rfl)
theorem dX2_ruling_26 : decode cX2_ruling 26 = .ok (.getfield 9, 3) := dk_180 0 9 (dk_at dksX2_ruling_1 2 rfl rfl)
theorem dX2_ruling_29 : decode cX2_ruling 29 = .ok (.iconst 2, 1) := dk_5 (dk_at dksX2_ruling_1 5 rfl rfl)
theorem dX2_ruling_30 : decode cX2_ruling 30 = .ok (.iaload, 1) := dk_46 (dk_at dksX2_ruling_1 6 rfl rfl)
theorem dX2_ruling_31 : decode cX2_ruling 31 = .ok (.iload_n 3, 1) := dk_29 (dk_at dksX2_ruling_1 7 rfl rfl)
theorem dX2_ruling_32 : decode cX2_ruling 32 = .ok (.iload 4, 2) := dk_21 4 (dk_at dksX2_ruling_1 8 rfl rfl)
theorem dX2_ruling_34 : decode cX2_ruling 34 = .ok (.iadd, 1) := dk_96 (dk_at dksX2_ruling_1 10 rfl rfl)
theorem dX2_ruling_35 : decode cX2_ruling 35 = .ok (.imul, 1) := dk_104 (dk_at dksX2_ruling_1 11 rfl rfl)
theorem dX2_ruling_36 : decode cX2_ruling 36 = .ok (.if_icmp .lt 5, 3) := dk_161 0 5 (dk_at dksX2_ruling_1 12 rfl rfl)
theorem dX2_ruling_39 : decode cX2_ruling 39 = .ok (.iconst 1, 1) := dk_4 (dk_at dksX2_ruling_1 15 rfl rfl)
theorem dX2_ruling_40 : decode cX2_ruling 40 = .ok (.ireturn, 1) := dk_172 (dk_at dksX2_ruling_1 16 rfl rfl)
theorem dX2_ruling_41 : decode cX2_ruling 41 = .ok (.iload 4, 2) := dk_21 4 (dk_at dksX2_ruling_1 17 rfl rfl)
theorem dX2_ruling_43 : decode cX2_ruling 43 = .ok (.ifCond .le 7, 3) := dk_158 0 7 (dk_at dksX2_ruling_1 19 rfl rfl)
theorem dX2_ruling_46 : decode cX2_ruling 46 = .ok (.iconst (-1), 1) := dk_2 (dk_at dksX2_ruling_1 22 rfl rfl)
theorem dX2_ruling_47 : decode cX2_ruling 47 = .ok (.goto 4, 3) := dk_167 0 4 (dk_at dksX2_ruling_2 0 rfl rfl)
theorem dX2_ruling_50 : decode cX2_ruling 50 = .ok (.iconst 0, 1) := dk_3 (dk_at dksX2_ruling_2 3 rfl rfl)
theorem dX2_ruling_51 : decode cX2_ruling 51 = .ok (.ireturn, 1) := dk_172 (dk_at dksX2_ruling_2 4 rfl rfl)
abbrev cX2_run : ByteArray := prog_20_method_98_code
def yX2_run : MethodName := ⟨RX2, "run", "(II)I"⟩
def dkwX2_run_0 : List UInt8 := [42, 27, 28, 182, 1, 76, 153, 0, 12, 42, 27, 28, 182, 1, 4, 167, 0, 4, 3, 172]
abbrev dktX2_run_0 : List UInt8 := dkwX2_run_0 ++ []
theorem dksX2_run_0 : cX2_run.data.toList.drop 0 = dktX2_run_0 := by decide +kernel
theorem dX2_run_0 : decode cX2_run 0 = .ok (.aload_n 0, 1) := dk_42 (dk_at dksX2_run_0 0 rfl rfl)
theorem dX2_run_1 : decode cX2_run 1 = .ok (.iload_n 1, 1) := dk_27 (dk_at dksX2_run_0 1 rfl rfl)
theorem dX2_run_2 : decode cX2_run 2 = .ok (.iload_n 2, 1) := dk_28 (dk_at dksX2_run_0 2 rfl rfl)
theorem dX2_run_3 : decode cX2_run 3 = .ok (.invokevirtual 332, 3) := dk_182 1 76 (dk_at dksX2_run_0 3 rfl rfl)
theorem dX2_run_6 : decode cX2_run 6 = .ok (.ifCond .eq 12, 3) := dk_153 0 12 (dk_at dksX2_run_0 6 rfl rfl)
theorem dX2_run_9 : decode cX2_run 9 = .ok (.aload_n 0, 1) := dk_42 (dk_at dksX2_run_0 9 rfl rfl)
theorem dX2_run_10 : decode cX2_run 10 = .ok (.iload_n 1, 1) := dk_27 (dk_at dksX2_run_0 10 rfl rfl)
theorem dX2_run_11 : decode cX2_run 11 = .ok (.iload_n 2, 1) := dk_28 (dk_at dksX2_run_0 11 rfl rfl)
theorem dX2_run_12 : decode cX2_run 12 = .ok (.invokevirtual 260, 3) := dk_182 1 4 (dk_at dksX2_run_0 12 rfl rfl)
theorem dX2_run_15 : decode cX2_run 15 = .ok (.goto 4, 3) := dk_167 0 4 (dk_at dksX2_run_0 15 rfl rfl)
theorem dX2_run_18 : decode cX2_run 18 = .ok (.iconst 0, 1) := dk_3 (dk_at dksX2_run_0 18 rfl rfl)
theorem dX2_run_19 : decode cX2_run 19 = .ok (.ireturn, 1) := dk_172 (dk_at dksX2_run_0 19 rfl rfl)
abbrev cX2_runOf : ByteArray := prog_20_method_57_code
def yX2_runOf : MethodName := ⟨RX2, "runOf", "(II)I"⟩
def dkwX2_runOf_0 : List UInt8 := [42, 180, 0, 9, 17, 0, 178, 16, 8, 27, 104, 96, 28, 96, 46, 172]
abbrev dktX2_runOf_0 : List UInt8 := dkwX2_runOf_0 ++ []
theorem dksX2_runOf_0 : cX2_runOf.data.toList.drop 0 = dktX2_runOf_0 := by decide +kernel
theorem dX2_runOf_0 : decode cX2_runOf 0 = .ok (.aload_n 0, 1) := dk_42 (dk_at dksX2_runOf_0 0 rfl rfl)
theorem dX2_runOf_1 : decode cX2_runOf 1 = .ok (.getfield 9, 3) := dk_180 0 9 (dk_at dksX2_runOf_0 1 rfl rfl)
theorem dX2_runOf_4 : decode cX2_runOf 4 = .ok (.sipush 178, 3) := dk_17 0 178 (dk_at dksX2_runOf_0 4 rfl rfl)
theorem dX2_runOf_7 : decode cX2_runOf 7 = .ok (.bipush 8, 2) := dk_16 8 (dk_at dksX2_runOf_0 7 rfl rfl)
theorem dX2_runOf_9 : decode cX2_runOf 9 = .ok (.iload_n 1, 1) := dk_27 (dk_at dksX2_runOf_0 9 rfl rfl)
theorem dX2_runOf_10 : decode cX2_runOf 10 = .ok (.imul, 1) := dk_104 (dk_at dksX2_runOf_0 10 rfl rfl)
theorem dX2_runOf_11 : decode cX2_runOf 11 = .ok (.iadd, 1) := dk_96 (dk_at dksX2_runOf_0 11 rfl rfl)
theorem dX2_runOf_12 : decode cX2_runOf 12 = .ok (.iload_n 2, 1) := dk_28 (dk_at dksX2_runOf_0 12 rfl rfl)
theorem dX2_runOf_13 : decode cX2_runOf 13 = .ok (.iadd, 1) := dk_96 (dk_at dksX2_runOf_0 13 rfl rfl)
theorem dX2_runOf_14 : decode cX2_runOf 14 = .ok (.iaload, 1) := dk_46 (dk_at dksX2_runOf_0 14 rfl rfl)
theorem dX2_runOf_15 : decode cX2_runOf 15 = .ok (.ireturn, 1) := dk_172 (dk_at dksX2_runOf_0 15 rfl rfl)
abbrev cX2_isClosed : ByteArray := prog_20_method_99_code
def yX2_isClosed : MethodName := ⟨RX2, "isClosed", "(II)Z"⟩
def dkwX2_isClosed_0 : List UInt8 := [42, 27, 28, 182, 1, 76, 153, 0, 16, 42, 27, 28, 182, 0, 248, 153, 0, 7, 4, 167, 0, 4, 3, 172]
abbrev dktX2_isClosed_0 : List UInt8 := dkwX2_isClosed_0 ++ []
theorem dksX2_isClosed_0 : cX2_isClosed.data.toList.drop 0 = dktX2_isClosed_0 := by decide +kernel
theorem dX2_isClosed_0 : decode cX2_isClosed 0 = .ok (.aload_n 0, 1) := dk_42 (dk_at dksX2_isClosed_0 0 rfl rfl)
theorem dX2_isClosed_1 : decode cX2_isClosed 1 = .ok (.iload_n 1, 1) := dk_27 (dk_at dksX2_isClosed_0 1 rfl rfl)
theorem dX2_isClosed_2 : decode cX2_isClosed 2 = .ok (.iload_n 2, 1) := dk_28 (dk_at dksX2_isClosed_0 2 rfl rfl)
theorem dX2_isClosed_3 : decode cX2_isClosed 3 = .ok (.invokevirtual 332, 3) := dk_182 1 76 (dk_at dksX2_isClosed_0 3 rfl rfl)
theorem dX2_isClosed_6 : decode cX2_isClosed 6 = .ok (.ifCond .eq 16, 3) := dk_153 0 16 (dk_at dksX2_isClosed_0 6 rfl rfl)
theorem dX2_isClosed_9 : decode cX2_isClosed 9 = .ok (.aload_n 0, 1) := dk_42 (dk_at dksX2_isClosed_0 9 rfl rfl)
theorem dX2_isClosed_10 : decode cX2_isClosed 10 = .ok (.iload_n 1, 1) := dk_27 (dk_at dksX2_isClosed_0 10 rfl rfl)
theorem dX2_isClosed_11 : decode cX2_isClosed 11 = .ok (.iload_n 2, 1) := dk_28 (dk_at dksX2_isClosed_0 11 rfl rfl)
theorem dX2_isClosed_12 : decode cX2_isClosed 12 = .ok (.invokevirtual 248, 3) := dk_182 0 248 (dk_at dksX2_isClosed_0 12 rfl rfl)
theorem dX2_isClosed_15 : decode cX2_isClosed 15 = .ok (.ifCond .eq 7, 3) := dk_153 0 7 (dk_at dksX2_isClosed_0 15 rfl rfl)
theorem dX2_isClosed_18 : decode cX2_isClosed 18 = .ok (.iconst 1, 1) := dk_4 (dk_at dksX2_isClosed_0 18 rfl rfl)
theorem dX2_isClosed_19 : decode cX2_isClosed 19 = .ok (.goto 4, 3) := dk_167 0 4 (dk_at dksX2_isClosed_0 19 rfl rfl)
theorem dX2_isClosed_22 : decode cX2_isClosed 22 = .ok (.iconst 0, 1) := dk_3 (dk_at dksX2_isClosed_0 22 rfl rfl)
theorem dX2_isClosed_23 : decode cX2_isClosed 23 = .ok (.ireturn, 1) := dk_172 (dk_at dksX2_isClosed_0 23 rfl rfl)
abbrev cX2_toldClosed : ByteArray := prog_20_method_101_code
def yX2_toldClosed : MethodName := ⟨RX2, "toldClosed", "(II)Z"⟩
def dkwX2_toldClosed_0 : List UInt8 := [42, 27, 28, 182, 1, 76, 153, 0, 16, 42, 27, 28, 182, 1, 88, 153, 0, 7, 4, 167, 0, 4, 3, 172]
abbrev dktX2_toldClosed_0 : List UInt8 := dkwX2_toldClosed_0 ++ []
theorem dksX2_toldClosed_0 : cX2_toldClosed.data.toList.drop 0 = dktX2_toldClosed_0 := by decide +kernel
theorem dX2_toldClosed_0 : decode cX2_toldClosed 0 = .ok (.aload_n 0, 1) := dk_42 (dk_at dksX2_toldClosed_0 0 rfl rfl)
theorem dX2_toldClosed_1 : decode cX2_toldClosed 1 = .ok (.iload_n 1, 1) := dk_27 (dk_at dksX2_toldClosed_0 1 rfl rfl)
theorem dX2_toldClosed_2 : decode cX2_toldClosed 2 = .ok (.iload_n 2, 1) := dk_28 (dk_at dksX2_toldClosed_0 2 rfl rfl)
theorem dX2_toldClosed_3 : decode cX2_toldClosed 3 = .ok (.invokevirtual 332, 3) := dk_182 1 76 (dk_at dksX2_toldClosed_0 3 rfl rfl)
theorem dX2_toldClosed_6 : decode cX2_toldClosed 6 = .ok (.ifCond .eq 16, 3) := dk_153 0 16 (dk_at dksX2_toldClosed_0 6 rfl rfl)
theorem dX2_toldClosed_9 : decode cX2_toldClosed 9 = .ok (.aload_n 0, 1) := dk_42 (dk_at dksX2_toldClosed_0 9 rfl rfl)
theorem dX2_toldClosed_10 : decode cX2_toldClosed 10 = .ok (.iload_n 1, 1) := dk_27 (dk_at dksX2_toldClosed_0 10 rfl rfl)
theorem dX2_toldClosed_11 : decode cX2_toldClosed 11 = .ok (.iload_n 2, 1) := dk_28 (dk_at dksX2_toldClosed_0 11 rfl rfl)
theorem dX2_toldClosed_12 : decode cX2_toldClosed 12 = .ok (.invokevirtual 344, 3) := dk_182 1 88 (dk_at dksX2_toldClosed_0 12 rfl rfl)
theorem dX2_toldClosed_15 : decode cX2_toldClosed 15 = .ok (.ifCond .eq 7, 3) := dk_153 0 7 (dk_at dksX2_toldClosed_0 15 rfl rfl)
theorem dX2_toldClosed_18 : decode cX2_toldClosed 18 = .ok (.iconst 1, 1) := dk_4 (dk_at dksX2_toldClosed_0 18 rfl rfl)
theorem dX2_toldClosed_19 : decode cX2_toldClosed 19 = .ok (.goto 4, 3) := dk_167 0 4 (dk_at dksX2_toldClosed_0 19 rfl rfl)
theorem dX2_toldClosed_22 : decode cX2_toldClosed 22 = .ok (.iconst 0, 1) := dk_3 (dk_at dksX2_toldClosed_0 22 rfl rfl)
theorem dX2_toldClosed_23 : decode cX2_toldClosed 23 = .ok (.ireturn, 1) := dk_172 (dk_at dksX2_toldClosed_0 23 rfl rfl)
abbrev cX2_tellsClosed : ByteArray := prog_20_method_100_code
def yX2_tellsClosed : MethodName := ⟨RX2, "tellsClosed", "(II)Z"⟩
def dkwX2_tellsClosed_1 : List UInt8 := [184, 1, 56, 104, 29, 184, 1, 56, 164, 0, 7, 4, 167, 0, 4, 3, 172]
abbrev dktX2_tellsClosed_1 : List UInt8 := dkwX2_tellsClosed_1 ++ []
def dkwX2_tellsClosed_0 : List UInt8 := [42, 27, 182, 1, 82, 62, 42, 27, 28, 182, 0, 248, 154, 0, 22, 5, 29, 42, 28, 182, 1, 53, 126]
abbrev dktX2_tellsClosed_0 : List UInt8 := dkwX2_tellsClosed_0 ++ dktX2_tellsClosed_1
theorem dksX2_tellsClosed_0 : cX2_tellsClosed.data.toList.drop 0 = dktX2_tellsClosed_0 := by decide +kernel
theorem dksX2_tellsClosed_1 : cX2_tellsClosed.data.toList.drop 23 = dktX2_tellsClosed_1 := dk_seg dksX2_tellsClosed_0 23 rfl rfl
theorem dX2_tellsClosed_0 : decode cX2_tellsClosed 0 = .ok (.aload_n 0, 1) := dk_42 (dk_at dksX2_tellsClosed_0 0 rfl rfl)
theorem dX2_tellsClosed_1 : decode cX2_tellsClosed 1 = .ok (.iload_n 1, 1) := dk_27 (dk_at dksX2_tellsClosed_0 1 rfl rfl)
theorem dX2_tellsClosed_2 : decode cX2_tellsClosed 2 = .ok (.invokevirtual 338, 3) := dk_182 1 82 (dk_at dksX2_tellsClosed_0 2 rfl rfl)
theorem dX2_tellsClosed_5 : decode cX2_tellsClosed 5 = .ok (.istore_n 3, 1) := dk_62 (dk_at dksX2_tellsClosed_0 5 rfl rfl)
theorem dX2_tellsClosed_6 : decode cX2_tellsClosed 6 = .ok (.aload_n 0, 1) := dk_42 (dk_at dksX2_tellsClosed_0 6 rfl rfl)
theorem dX2_tellsClosed_7 : decode cX2_tellsClosed 7 = .ok (.iload_n 1, 1) := dk_27 (dk_at dksX2_tellsClosed_0 7 rfl rfl)
theorem dX2_tellsClosed_8 : decode cX2_tellsClosed 8 = .ok (.iload_n 2, 1) := dk_28 (dk_at dksX2_tellsClosed_0 8 rfl rfl)
theorem dX2_tellsClosed_9 : decode cX2_tellsClosed 9 = .ok (.invokevirtual 248, 3) := dk_182 0 248 (dk_at dksX2_tellsClosed_0 9 rfl rfl)
theorem dX2_tellsClosed_12 : decode cX2_tellsClosed 12 = .ok (.ifCond .ne 22, 3) := dk_154 0 22 (dk_at dksX2_tellsClosed_0 12 rfl rfl)
theorem dX2_tellsClosed_15 : decode cX2_tellsClosed 15 = .ok (.iconst 2, 1) := dk_5 (dk_at dksX2_tellsClosed_0 15 rfl rfl)
theorem dX2_tellsClosed_16 : decode cX2_tellsClosed 16 = .ok (.iload_n 3, 1) := dk_29 (dk_at dksX2_tellsClosed_0 16 rfl rfl)
theorem dX2_tellsClosed_17 : decode cX2_tellsClosed 17 = .ok (.aload_n 0, 1) := dk_42 (dk_at dksX2_tellsClosed_0 17 rfl rfl)
theorem dX2_tellsClosed_18 : decode cX2_tellsClosed 18 = .ok (.iload_n 2, 1) := dk_28 (dk_at dksX2_tellsClosed_0 18 rfl rfl)
theorem dX2_tellsClosed_19 : decode cX2_tellsClosed 19 = .ok (.invokevirtual 309, 3) := dk_182 1 53 (dk_at dksX2_tellsClosed_0 19 rfl rfl)
theorem dX2_tellsClosed_22 : decode cX2_tellsClosed 22 = .ok (.iand, 1) := dk_126 (dk_at dksX2_tellsClosed_0 22 rfl rfl)
theorem dX2_tellsClosed_23 : decode cX2_tellsClosed 23 = .ok (.invokestatic 312, 3) := dk_184 1 56 (dk_at dksX2_tellsClosed_1 0 rfl rfl)
theorem dX2_tellsClosed_26 : decode cX2_tellsClosed 26 = .ok (.imul, 1) := dk_104 (dk_at dksX2_tellsClosed_1 3 rfl rfl)
theorem dX2_tellsClosed_27 : decode cX2_tellsClosed 27 = .ok (.iload_n 3, 1) := dk_29 (dk_at dksX2_tellsClosed_1 4 rfl rfl)
theorem dX2_tellsClosed_28 : decode cX2_tellsClosed 28 = .ok (.invokestatic 312, 3) := dk_184 1 56 (dk_at dksX2_tellsClosed_1 5 rfl rfl)
theorem dX2_tellsClosed_31 : decode cX2_tellsClosed 31 = .ok (.if_icmp .le 7, 3) := dk_164 0 7 (dk_at dksX2_tellsClosed_1 8 rfl rfl)
theorem dX2_tellsClosed_34 : decode cX2_tellsClosed 34 = .ok (.iconst 1, 1) := dk_4 (dk_at dksX2_tellsClosed_1 11 rfl rfl)
theorem dX2_tellsClosed_35 : decode cX2_tellsClosed 35 = .ok (.goto 4, 3) := dk_167 0 4 (dk_at dksX2_tellsClosed_1 12 rfl rfl)
theorem dX2_tellsClosed_38 : decode cX2_tellsClosed 38 = .ok (.iconst 0, 1) := dk_3 (dk_at dksX2_tellsClosed_1 15 rfl rfl)
theorem dX2_tellsClosed_39 : decode cX2_tellsClosed 39 = .ok (.ireturn, 1) := dk_172 (dk_at dksX2_tellsClosed_1 16 rfl rfl)
abbrev cX2_disputes : ByteArray := prog_20_method_103_code
def yX2_disputes : MethodName := ⟨RX2, "disputes", "(I)I"⟩
def dkwX2_disputes_2 : List UInt8 := [4, 29, 120, 167, 0, 4, 3, 128, 61, 132, 3, 1, 167, 255, 212, 28, 172]
abbrev dktX2_disputes_2 : List UInt8 := dkwX2_disputes_2 ++ []
def dkwX2_disputes_1 : List UInt8 := [162, 0, 39, 28, 42, 27, 29, 4, 182, 1, 40, 153, 0, 19, 42, 27, 29, 3, 182, 1, 40, 153, 0, 9]
abbrev dktX2_disputes_1 : List UInt8 := dkwX2_disputes_1 ++ dktX2_disputes_2
def dkwX2_disputes_0 : List UInt8 := [42, 27, 182, 1, 79, 154, 0, 5, 3, 172, 3, 61, 3, 62, 29, 42, 180, 0, 9, 16, 7, 46]
abbrev dktX2_disputes_0 : List UInt8 := dkwX2_disputes_0 ++ dktX2_disputes_1
theorem dksX2_disputes_0 : cX2_disputes.data.toList.drop 0 = dktX2_disputes_0 := by decide +kernel
theorem dksX2_disputes_1 : cX2_disputes.data.toList.drop 22 = dktX2_disputes_1 := dk_seg dksX2_disputes_0 22 rfl rfl
theorem dksX2_disputes_2 : cX2_disputes.data.toList.drop 46 = dktX2_disputes_2 := dk_seg dksX2_disputes_1 24 rfl rfl
theorem dX2_disputes_0 : decode cX2_disputes 0 = .ok (.aload_n 0, 1) := dk_42 (dk_at dksX2_disputes_0 0 rfl rfl)
theorem dX2_disputes_1 : decode cX2_disputes 1 = .ok (.iload_n 1, 1) := dk_27 (dk_at dksX2_disputes_0 1 rfl rfl)
theorem dX2_disputes_2 : decode cX2_disputes 2 = .ok (.invokevirtual 335, 3) := dk_182 1 79 (dk_at dksX2_disputes_0 2 rfl rfl)
theorem dX2_disputes_5 : decode cX2_disputes 5 = .ok (.ifCond .ne 5, 3) := dk_154 0 5 (dk_at dksX2_disputes_0 5 rfl rfl)
theorem dX2_disputes_8 : decode cX2_disputes 8 = .ok (.iconst 0, 1) := dk_3 (dk_at dksX2_disputes_0 8 rfl rfl)
theorem dX2_disputes_9 : decode cX2_disputes 9 = .ok (.ireturn, 1) := dk_172 (dk_at dksX2_disputes_0 9 rfl rfl)
theorem dX2_disputes_10 : decode cX2_disputes 10 = .ok (.iconst 0, 1) := dk_3 (dk_at dksX2_disputes_0 10 rfl rfl)
theorem dX2_disputes_11 : decode cX2_disputes 11 = .ok (.istore_n 2, 1) := dk_61 (dk_at dksX2_disputes_0 11 rfl rfl)
theorem dX2_disputes_12 : decode cX2_disputes 12 = .ok (.iconst 0, 1) := dk_3 (dk_at dksX2_disputes_0 12 rfl rfl)
theorem dX2_disputes_13 : decode cX2_disputes 13 = .ok (.istore_n 3, 1) := dk_62 (dk_at dksX2_disputes_0 13 rfl rfl)
theorem dX2_disputes_14 : decode cX2_disputes 14 = .ok (.iload_n 3, 1) := dk_29 (dk_at dksX2_disputes_0 14 rfl rfl)
theorem dX2_disputes_15 : decode cX2_disputes 15 = .ok (.aload_n 0, 1) := dk_42 (dk_at dksX2_disputes_0 15 rfl rfl)
theorem dX2_disputes_16 : decode cX2_disputes 16 = .ok (.getfield 9, 3) := dk_180 0 9 (dk_at dksX2_disputes_0 16 rfl rfl)
theorem dX2_disputes_19 : decode cX2_disputes 19 = .ok (.bipush 7, 2) := dk_16 7 (dk_at dksX2_disputes_0 19 rfl rfl)
theorem dX2_disputes_21 : decode cX2_disputes 21 = .ok (.iaload, 1) := dk_46 (dk_at dksX2_disputes_0 21 rfl rfl)
theorem dX2_disputes_22 : decode cX2_disputes 22 = .ok (.if_icmp .ge 39, 3) := dk_162 0 39 (dk_at dksX2_disputes_1 0 rfl rfl)
theorem dX2_disputes_25 : decode cX2_disputes 25 = .ok (.iload_n 2, 1) := dk_28 (dk_at dksX2_disputes_1 3 rfl rfl)
theorem dX2_disputes_26 : decode cX2_disputes 26 = .ok (.aload_n 0, 1) := dk_42 (dk_at dksX2_disputes_1 4 rfl rfl)
theorem dX2_disputes_27 : decode cX2_disputes 27 = .ok (.iload_n 1, 1) := dk_27 (dk_at dksX2_disputes_1 5 rfl rfl)
theorem dX2_disputes_28 : decode cX2_disputes 28 = .ok (.iload_n 3, 1) := dk_29 (dk_at dksX2_disputes_1 6 rfl rfl)
theorem dX2_disputes_29 : decode cX2_disputes 29 = .ok (.iconst 1, 1) := dk_4 (dk_at dksX2_disputes_1 7 rfl rfl)
theorem dX2_disputes_30 : decode cX2_disputes 30 = .ok (.invokevirtual 296, 3) := dk_182 1 40 (dk_at dksX2_disputes_1 8 rfl rfl)
theorem dX2_disputes_33 : decode cX2_disputes 33 = .ok (.ifCond .eq 19, 3) := dk_153 0 19 (dk_at dksX2_disputes_1 11 rfl rfl)
theorem dX2_disputes_36 : decode cX2_disputes 36 = .ok (.aload_n 0, 1) := dk_42 (dk_at dksX2_disputes_1 14 rfl rfl)
theorem dX2_disputes_37 : decode cX2_disputes 37 = .ok (.iload_n 1, 1) := dk_27 (dk_at dksX2_disputes_1 15 rfl rfl)
theorem dX2_disputes_38 : decode cX2_disputes 38 = .ok (.iload_n 3, 1) := dk_29 (dk_at dksX2_disputes_1 16 rfl rfl)
theorem dX2_disputes_39 : decode cX2_disputes 39 = .ok (.iconst 0, 1) := dk_3 (dk_at dksX2_disputes_1 17 rfl rfl)
theorem dX2_disputes_40 : decode cX2_disputes 40 = .ok (.invokevirtual 296, 3) := dk_182 1 40 (dk_at dksX2_disputes_1 18 rfl rfl)
theorem dX2_disputes_43 : decode cX2_disputes 43 = .ok (.ifCond .eq 9, 3) := dk_153 0 9 (dk_at dksX2_disputes_1 21 rfl rfl)
theorem dX2_disputes_46 : decode cX2_disputes 46 = .ok (.iconst 1, 1) := dk_4 (dk_at dksX2_disputes_2 0 rfl rfl)
theorem dX2_disputes_47 : decode cX2_disputes 47 = .ok (.iload_n 3, 1) := dk_29 (dk_at dksX2_disputes_2 1 rfl rfl)
theorem dX2_disputes_48 : decode cX2_disputes 48 = .ok (.ishl, 1) := dk_120 (dk_at dksX2_disputes_2 2 rfl rfl)
theorem dX2_disputes_49 : decode cX2_disputes 49 = .ok (.goto 4, 3) := dk_167 0 4 (dk_at dksX2_disputes_2 3 rfl rfl)
theorem dX2_disputes_52 : decode cX2_disputes 52 = .ok (.iconst 0, 1) := dk_3 (dk_at dksX2_disputes_2 6 rfl rfl)
theorem dX2_disputes_53 : decode cX2_disputes 53 = .ok (.ior, 1) := dk_128 (dk_at dksX2_disputes_2 7 rfl rfl)
theorem dX2_disputes_54 : decode cX2_disputes 54 = .ok (.istore_n 2, 1) := dk_61 (dk_at dksX2_disputes_2 8 rfl rfl)
theorem dX2_disputes_55 : decode cX2_disputes 55 = .ok (.iinc 3 1, 3) := dk_132 3 1 (dk_at dksX2_disputes_2 9 rfl rfl)
theorem dX2_disputes_58 : decode cX2_disputes 58 = .ok (.goto (-44), 3) := dk_167 255 212 (dk_at dksX2_disputes_2 12 rfl rfl)
theorem dX2_disputes_61 : decode cX2_disputes 61 = .ok (.iload_n 2, 1) := dk_28 (dk_at dksX2_disputes_2 15 rfl rfl)
theorem dX2_disputes_62 : decode cX2_disputes 62 = .ok (.ireturn, 1) := dk_172 (dk_at dksX2_disputes_2 16 rfl rfl)
abbrev cX2_falseVotes : ByteArray := prog_20_method_104_code
def yX2_falseVotes : MethodName := ⟨RX2, "falseVotes", "(I)I"⟩
def dkwX2_falseVotes_4 : List UInt8 := [167, 255, 176, 28, 172]
abbrev dktX2_falseVotes_4 : List UInt8 := dkwX2_falseVotes_4 ++ []
def dkwX2_falseVotes_3 : List UInt8 := [21, 4, 184, 0, 245, 159, 0, 7, 4, 167, 0, 4, 3, 96, 61, 132, 4, 1, 167, 255, 196, 132, 3, 1]
abbrev dktX2_falseVotes_3 : List UInt8 := dkwX2_falseVotes_3 ++ dktX2_falseVotes_4
def dkwX2_falseVotes_2 : List UInt8 := [182, 0, 232, 158, 0, 33, 42, 29, 27, 21, 4, 182, 0, 232, 184, 0, 235, 42, 180, 0, 9, 16, 97, 46]
abbrev dktX2_falseVotes_2 : List UInt8 := dkwX2_falseVotes_2 ++ dktX2_falseVotes_3
def dkwX2_falseVotes_1 : List UInt8 := [162, 0, 75, 3, 54, 4, 21, 4, 42, 180, 0, 9, 16, 7, 46, 162, 0, 54, 28, 42, 29, 27, 21, 4]
abbrev dktX2_falseVotes_1 : List UInt8 := dkwX2_falseVotes_1 ++ dktX2_falseVotes_2
def dkwX2_falseVotes_0 : List UInt8 := [42, 27, 182, 1, 79, 154, 0, 5, 3, 172, 3, 61, 3, 62, 29, 42, 180, 0, 9, 16, 6, 46]
abbrev dktX2_falseVotes_0 : List UInt8 := dkwX2_falseVotes_0 ++ dktX2_falseVotes_1
theorem dksX2_falseVotes_0 : cX2_falseVotes.data.toList.drop 0 = dktX2_falseVotes_0 := by decide +kernel
theorem dksX2_falseVotes_1 : cX2_falseVotes.data.toList.drop 22 = dktX2_falseVotes_1 := dk_seg dksX2_falseVotes_0 22 rfl rfl
theorem dksX2_falseVotes_2 : cX2_falseVotes.data.toList.drop 46 = dktX2_falseVotes_2 := dk_seg dksX2_falseVotes_1 24 rfl rfl
theorem dksX2_falseVotes_3 : cX2_falseVotes.data.toList.drop 70 = dktX2_falseVotes_3 := dk_seg dksX2_falseVotes_2 24 rfl rfl
theorem dksX2_falseVotes_4 : cX2_falseVotes.data.toList.drop 94 = dktX2_falseVotes_4 := dk_seg dksX2_falseVotes_3 24 rfl rfl
theorem dX2_falseVotes_0 : decode cX2_falseVotes 0 = .ok (.aload_n 0, 1) := dk_42 (dk_at dksX2_falseVotes_0 0 rfl rfl)
theorem dX2_falseVotes_1 : decode cX2_falseVotes 1 = .ok (.iload_n 1, 1) := dk_27 (dk_at dksX2_falseVotes_0 1 rfl rfl)
theorem dX2_falseVotes_2 : decode cX2_falseVotes 2 = .ok (.invokevirtual 335, 3) := dk_182 1 79 (dk_at dksX2_falseVotes_0 2 rfl rfl)
theorem dX2_falseVotes_5 : decode cX2_falseVotes 5 = .ok (.ifCond .ne 5, 3) := dk_154 0 5 (dk_at dksX2_falseVotes_0 5 rfl rfl)
theorem dX2_falseVotes_8 : decode cX2_falseVotes 8 = .ok (.iconst 0, 1) := dk_3 (dk_at dksX2_falseVotes_0 8 rfl rfl)
theorem dX2_falseVotes_9 : decode cX2_falseVotes 9 = .ok (.ireturn, 1) := dk_172 (dk_at dksX2_falseVotes_0 9 rfl rfl)
theorem dX2_falseVotes_10 : decode cX2_falseVotes 10 = .ok (.iconst 0, 1) := dk_3 (dk_at dksX2_falseVotes_0 10 rfl rfl)
theorem dX2_falseVotes_11 : decode cX2_falseVotes 11 = .ok (.istore_n 2, 1) := dk_61 (dk_at dksX2_falseVotes_0 11 rfl rfl)
theorem dX2_falseVotes_12 : decode cX2_falseVotes 12 = .ok (.iconst 0, 1) := dk_3 (dk_at dksX2_falseVotes_0 12 rfl rfl)
theorem dX2_falseVotes_13 : decode cX2_falseVotes 13 = .ok (.istore_n 3, 1) := dk_62 (dk_at dksX2_falseVotes_0 13 rfl rfl)
theorem dX2_falseVotes_14 : decode cX2_falseVotes 14 = .ok (.iload_n 3, 1) := dk_29 (dk_at dksX2_falseVotes_0 14 rfl rfl)
theorem dX2_falseVotes_15 : decode cX2_falseVotes 15 = .ok (.aload_n 0, 1) := dk_42 (dk_at dksX2_falseVotes_0 15 rfl rfl)
theorem dX2_falseVotes_16 : decode cX2_falseVotes 16 = .ok (.getfield 9, 3) := dk_180 0 9 (dk_at dksX2_falseVotes_0 16 rfl rfl)
theorem dX2_falseVotes_19 : decode cX2_falseVotes 19 = .ok (.bipush 6, 2) := dk_16 6 (dk_at dksX2_falseVotes_0 19 rfl rfl)
theorem dX2_falseVotes_21 : decode cX2_falseVotes 21 = .ok (.iaload, 1) := dk_46 (dk_at dksX2_falseVotes_0 21 rfl rfl)
theorem dX2_falseVotes_22 : decode cX2_falseVotes 22 = .ok (.if_icmp .ge 75, 3) := dk_162 0 75 (dk_at dksX2_falseVotes_1 0 rfl rfl)
theorem dX2_falseVotes_25 : decode cX2_falseVotes 25 = .ok (.iconst 0, 1) := dk_3 (dk_at dksX2_falseVotes_1 3 rfl rfl)
theorem dX2_falseVotes_26 : decode cX2_falseVotes 26 = .ok (.istore 4, 2) := dk_54 4 (dk_at dksX2_falseVotes_1 4 rfl rfl)
theorem dX2_falseVotes_28 : decode cX2_falseVotes 28 = .ok (.iload 4, 2) := dk_21 4 (dk_at dksX2_falseVotes_1 6 rfl rfl)
theorem dX2_falseVotes_30 : decode cX2_falseVotes 30 = .ok (.aload_n 0, 1) := dk_42 (dk_at dksX2_falseVotes_1 8 rfl rfl)
theorem dX2_falseVotes_31 : decode cX2_falseVotes 31 = .ok (.getfield 9, 3) := dk_180 0 9 (dk_at dksX2_falseVotes_1 9 rfl rfl)
theorem dX2_falseVotes_34 : decode cX2_falseVotes 34 = .ok (.bipush 7, 2) := dk_16 7 (dk_at dksX2_falseVotes_1 12 rfl rfl)
theorem dX2_falseVotes_36 : decode cX2_falseVotes 36 = .ok (.iaload, 1) := dk_46 (dk_at dksX2_falseVotes_1 14 rfl rfl)
theorem dX2_falseVotes_37 : decode cX2_falseVotes 37 = .ok (.if_icmp .ge 54, 3) := dk_162 0 54 (dk_at dksX2_falseVotes_1 15 rfl rfl)
theorem dX2_falseVotes_40 : decode cX2_falseVotes 40 = .ok (.iload_n 2, 1) := dk_28 (dk_at dksX2_falseVotes_1 18 rfl rfl)
theorem dX2_falseVotes_41 : decode cX2_falseVotes 41 = .ok (.aload_n 0, 1) := dk_42 (dk_at dksX2_falseVotes_1 19 rfl rfl)
theorem dX2_falseVotes_42 : decode cX2_falseVotes 42 = .ok (.iload_n 3, 1) := dk_29 (dk_at dksX2_falseVotes_1 20 rfl rfl)
theorem dX2_falseVotes_43 : decode cX2_falseVotes 43 = .ok (.iload_n 1, 1) := dk_27 (dk_at dksX2_falseVotes_1 21 rfl rfl)
theorem dX2_falseVotes_44 : decode cX2_falseVotes 44 = .ok (.iload 4, 2) := dk_21 4 (dk_at dksX2_falseVotes_1 22 rfl rfl)
theorem dX2_falseVotes_46 : decode cX2_falseVotes 46 = .ok (.invokevirtual 232, 3) := dk_182 0 232 (dk_at dksX2_falseVotes_2 0 rfl rfl)
theorem dX2_falseVotes_49 : decode cX2_falseVotes 49 = .ok (.ifCond .le 33, 3) := dk_158 0 33 (dk_at dksX2_falseVotes_2 3 rfl rfl)
theorem dX2_falseVotes_52 : decode cX2_falseVotes 52 = .ok (.aload_n 0, 1) := dk_42 (dk_at dksX2_falseVotes_2 6 rfl rfl)
theorem dX2_falseVotes_53 : decode cX2_falseVotes 53 = .ok (.iload_n 3, 1) := dk_29 (dk_at dksX2_falseVotes_2 7 rfl rfl)
theorem dX2_falseVotes_54 : decode cX2_falseVotes 54 = .ok (.iload_n 1, 1) := dk_27 (dk_at dksX2_falseVotes_2 8 rfl rfl)
theorem dX2_falseVotes_55 : decode cX2_falseVotes 55 = .ok (.iload 4, 2) := dk_21 4 (dk_at dksX2_falseVotes_2 9 rfl rfl)
theorem dX2_falseVotes_57 : decode cX2_falseVotes 57 = .ok (.invokevirtual 232, 3) := dk_182 0 232 (dk_at dksX2_falseVotes_2 11 rfl rfl)
theorem dX2_falseVotes_60 : decode cX2_falseVotes 60 = .ok (.invokestatic 235, 3) := dk_184 0 235 (dk_at dksX2_falseVotes_2 14 rfl rfl)
theorem dX2_falseVotes_63 : decode cX2_falseVotes 63 = .ok (.aload_n 0, 1) := dk_42 (dk_at dksX2_falseVotes_2 17 rfl rfl)
theorem dX2_falseVotes_64 : decode cX2_falseVotes 64 = .ok (.getfield 9, 3) := dk_180 0 9 (dk_at dksX2_falseVotes_2 18 rfl rfl)
theorem dX2_falseVotes_67 : decode cX2_falseVotes 67 = .ok (.bipush 97, 2) := dk_16 97 (dk_at dksX2_falseVotes_2 21 rfl rfl)
theorem dX2_falseVotes_69 : decode cX2_falseVotes 69 = .ok (.iaload, 1) := dk_46 (dk_at dksX2_falseVotes_2 23 rfl rfl)
theorem dX2_falseVotes_70 : decode cX2_falseVotes 70 = .ok (.iload 4, 2) := dk_21 4 (dk_at dksX2_falseVotes_3 0 rfl rfl)
theorem dX2_falseVotes_72 : decode cX2_falseVotes 72 = .ok (.invokestatic 245, 3) := dk_184 0 245 (dk_at dksX2_falseVotes_3 2 rfl rfl)
theorem dX2_falseVotes_75 : decode cX2_falseVotes 75 = .ok (.if_icmp .eq 7, 3) := dk_159 0 7 (dk_at dksX2_falseVotes_3 5 rfl rfl)
theorem dX2_falseVotes_78 : decode cX2_falseVotes 78 = .ok (.iconst 1, 1) := dk_4 (dk_at dksX2_falseVotes_3 8 rfl rfl)
theorem dX2_falseVotes_79 : decode cX2_falseVotes 79 = .ok (.goto 4, 3) := dk_167 0 4 (dk_at dksX2_falseVotes_3 9 rfl rfl)
theorem dX2_falseVotes_82 : decode cX2_falseVotes 82 = .ok (.iconst 0, 1) := dk_3 (dk_at dksX2_falseVotes_3 12 rfl rfl)
theorem dX2_falseVotes_83 : decode cX2_falseVotes 83 = .ok (.iadd, 1) := dk_96 (dk_at dksX2_falseVotes_3 13 rfl rfl)
theorem dX2_falseVotes_84 : decode cX2_falseVotes 84 = .ok (.istore_n 2, 1) := dk_61 (dk_at dksX2_falseVotes_3 14 rfl rfl)
theorem dX2_falseVotes_85 : decode cX2_falseVotes 85 = .ok (.iinc 4 1, 3) := dk_132 4 1 (dk_at dksX2_falseVotes_3 15 rfl rfl)
theorem dX2_falseVotes_88 : decode cX2_falseVotes 88 = .ok (.goto (-60), 3) := dk_167 255 196 (dk_at dksX2_falseVotes_3 18 rfl rfl)
theorem dX2_falseVotes_91 : decode cX2_falseVotes 91 = .ok (.iinc 3 1, 3) := dk_132 3 1 (dk_at dksX2_falseVotes_3 21 rfl rfl)
theorem dX2_falseVotes_94 : decode cX2_falseVotes 94 = .ok (.goto (-80), 3) := dk_167 255 176 (dk_at dksX2_falseVotes_4 0 rfl rfl)
theorem dX2_falseVotes_97 : decode cX2_falseVotes 97 = .ok (.iload_n 2, 1) := dk_28 (dk_at dksX2_falseVotes_4 3 rfl rfl)
theorem dX2_falseVotes_98 : decode cX2_falseVotes 98 = .ok (.ireturn, 1) := dk_172 (dk_at dksX2_falseVotes_4 4 rfl rfl)
abbrev cX2_oldestVote : ByteArray := prog_20_method_105_code
def yX2_oldestVote : MethodName := ⟨RX2, "oldestVote", "(I)I"⟩
def dkwX2_oldestVote_3 : List UInt8 := [132, 3, 1, 167, 255, 204, 28, 172]
abbrev dktX2_oldestVote_3 : List UInt8 := dkwX2_oldestVote_3 ++ []
def dkwX2_oldestVote_2 : List UInt8 := [180, 0, 9, 29, 46, 184, 0, 254, 28, 162, 0, 13, 42, 180, 0, 9, 29, 46, 184, 0, 254, 61]
abbrev dktX2_oldestVote_2 : List UInt8 := dkwX2_oldestVote_2 ++ dktX2_oldestVote_3
def dkwX2_oldestVote_1 : List UInt8 := [3, 184, 0, 226, 162, 0, 46, 42, 180, 0, 9, 29, 46, 158, 0, 31, 28, 2, 159, 0, 16, 42]
abbrev dktX2_oldestVote_1 : List UInt8 := dkwX2_oldestVote_1 ++ dktX2_oldestVote_2
def dkwX2_oldestVote_0 : List UInt8 := [42, 27, 182, 1, 79, 154, 0, 5, 3, 172, 2, 61, 27, 3, 3, 184, 0, 226, 62, 29, 27, 4, 96, 3]
abbrev dktX2_oldestVote_0 : List UInt8 := dkwX2_oldestVote_0 ++ dktX2_oldestVote_1
theorem dksX2_oldestVote_0 : cX2_oldestVote.data.toList.drop 0 = dktX2_oldestVote_0 := by decide +kernel
theorem dksX2_oldestVote_1 : cX2_oldestVote.data.toList.drop 24 = dktX2_oldestVote_1 := dk_seg dksX2_oldestVote_0 24 rfl rfl
theorem dksX2_oldestVote_2 : cX2_oldestVote.data.toList.drop 46 = dktX2_oldestVote_2 := dk_seg dksX2_oldestVote_1 22 rfl rfl
theorem dksX2_oldestVote_3 : cX2_oldestVote.data.toList.drop 68 = dktX2_oldestVote_3 := dk_seg dksX2_oldestVote_2 22 rfl rfl
theorem dX2_oldestVote_0 : decode cX2_oldestVote 0 = .ok (.aload_n 0, 1) := dk_42 (dk_at dksX2_oldestVote_0 0 rfl rfl)
theorem dX2_oldestVote_1 : decode cX2_oldestVote 1 = .ok (.iload_n 1, 1) := dk_27 (dk_at dksX2_oldestVote_0 1 rfl rfl)
theorem dX2_oldestVote_2 : decode cX2_oldestVote 2 = .ok (.invokevirtual 335, 3) := dk_182 1 79 (dk_at dksX2_oldestVote_0 2 rfl rfl)
theorem dX2_oldestVote_5 : decode cX2_oldestVote 5 = .ok (.ifCond .ne 5, 3) := dk_154 0 5 (dk_at dksX2_oldestVote_0 5 rfl rfl)
theorem dX2_oldestVote_8 : decode cX2_oldestVote 8 = .ok (.iconst 0, 1) := dk_3 (dk_at dksX2_oldestVote_0 8 rfl rfl)
theorem dX2_oldestVote_9 : decode cX2_oldestVote 9 = .ok (.ireturn, 1) := dk_172 (dk_at dksX2_oldestVote_0 9 rfl rfl)
theorem dX2_oldestVote_10 : decode cX2_oldestVote 10 = .ok (.iconst (-1), 1) := dk_2 (dk_at dksX2_oldestVote_0 10 rfl rfl)
theorem dX2_oldestVote_11 : decode cX2_oldestVote 11 = .ok (.istore_n 2, 1) := dk_61 (dk_at dksX2_oldestVote_0 11 rfl rfl)
theorem dX2_oldestVote_12 : decode cX2_oldestVote 12 = .ok (.iload_n 1, 1) := dk_27 (dk_at dksX2_oldestVote_0 12 rfl rfl)
theorem dX2_oldestVote_13 : decode cX2_oldestVote 13 = .ok (.iconst 0, 1) := dk_3 (dk_at dksX2_oldestVote_0 13 rfl rfl)
theorem dX2_oldestVote_14 : decode cX2_oldestVote 14 = .ok (.iconst 0, 1) := dk_3 (dk_at dksX2_oldestVote_0 14 rfl rfl)
theorem dX2_oldestVote_15 : decode cX2_oldestVote 15 = .ok (.invokestatic 226, 3) := dk_184 0 226 (dk_at dksX2_oldestVote_0 15 rfl rfl)
theorem dX2_oldestVote_18 : decode cX2_oldestVote 18 = .ok (.istore_n 3, 1) := dk_62 (dk_at dksX2_oldestVote_0 18 rfl rfl)
theorem dX2_oldestVote_19 : decode cX2_oldestVote 19 = .ok (.iload_n 3, 1) := dk_29 (dk_at dksX2_oldestVote_0 19 rfl rfl)
theorem dX2_oldestVote_20 : decode cX2_oldestVote 20 = .ok (.iload_n 1, 1) := dk_27 (dk_at dksX2_oldestVote_0 20 rfl rfl)
theorem dX2_oldestVote_21 : decode cX2_oldestVote 21 = .ok (.iconst 1, 1) := dk_4 (dk_at dksX2_oldestVote_0 21 rfl rfl)
theorem dX2_oldestVote_22 : decode cX2_oldestVote 22 = .ok (.iadd, 1) := dk_96 (dk_at dksX2_oldestVote_0 22 rfl rfl)
theorem dX2_oldestVote_23 : decode cX2_oldestVote 23 = .ok (.iconst 0, 1) := dk_3 (dk_at dksX2_oldestVote_0 23 rfl rfl)
theorem dX2_oldestVote_24 : decode cX2_oldestVote 24 = .ok (.iconst 0, 1) := dk_3 (dk_at dksX2_oldestVote_1 0 rfl rfl)
theorem dX2_oldestVote_25 : decode cX2_oldestVote 25 = .ok (.invokestatic 226, 3) := dk_184 0 226 (dk_at dksX2_oldestVote_1 1 rfl rfl)
theorem dX2_oldestVote_28 : decode cX2_oldestVote 28 = .ok (.if_icmp .ge 46, 3) := dk_162 0 46 (dk_at dksX2_oldestVote_1 4 rfl rfl)
theorem dX2_oldestVote_31 : decode cX2_oldestVote 31 = .ok (.aload_n 0, 1) := dk_42 (dk_at dksX2_oldestVote_1 7 rfl rfl)
theorem dX2_oldestVote_32 : decode cX2_oldestVote 32 = .ok (.getfield 9, 3) := dk_180 0 9 (dk_at dksX2_oldestVote_1 8 rfl rfl)
theorem dX2_oldestVote_35 : decode cX2_oldestVote 35 = .ok (.iload_n 3, 1) := dk_29 (dk_at dksX2_oldestVote_1 11 rfl rfl)
theorem dX2_oldestVote_36 : decode cX2_oldestVote 36 = .ok (.iaload, 1) := dk_46 (dk_at dksX2_oldestVote_1 12 rfl rfl)
theorem dX2_oldestVote_37 : decode cX2_oldestVote 37 = .ok (.ifCond .le 31, 3) := dk_158 0 31 (dk_at dksX2_oldestVote_1 13 rfl rfl)
theorem dX2_oldestVote_40 : decode cX2_oldestVote 40 = .ok (.iload_n 2, 1) := dk_28 (dk_at dksX2_oldestVote_1 16 rfl rfl)
theorem dX2_oldestVote_41 : decode cX2_oldestVote 41 = .ok (.iconst (-1), 1) := dk_2 (dk_at dksX2_oldestVote_1 17 rfl rfl)
theorem dX2_oldestVote_42 : decode cX2_oldestVote 42 = .ok (.if_icmp .eq 16, 3) := dk_159 0 16 (dk_at dksX2_oldestVote_1 18 rfl rfl)
theorem dX2_oldestVote_45 : decode cX2_oldestVote 45 = .ok (.aload_n 0, 1) := dk_42 (dk_at dksX2_oldestVote_1 21 rfl rfl)
theorem dX2_oldestVote_46 : decode cX2_oldestVote 46 = .ok (.getfield 9, 3) := dk_180 0 9 (dk_at dksX2_oldestVote_2 0 rfl rfl)
theorem dX2_oldestVote_49 : decode cX2_oldestVote 49 = .ok (.iload_n 3, 1) := dk_29 (dk_at dksX2_oldestVote_2 3 rfl rfl)
theorem dX2_oldestVote_50 : decode cX2_oldestVote 50 = .ok (.iaload, 1) := dk_46 (dk_at dksX2_oldestVote_2 4 rfl rfl)
theorem dX2_oldestVote_51 : decode cX2_oldestVote 51 = .ok (.invokestatic 254, 3) := dk_184 0 254 (dk_at dksX2_oldestVote_2 5 rfl rfl)
theorem dX2_oldestVote_54 : decode cX2_oldestVote 54 = .ok (.iload_n 2, 1) := dk_28 (dk_at dksX2_oldestVote_2 8 rfl rfl)
theorem dX2_oldestVote_55 : decode cX2_oldestVote 55 = .ok (.if_icmp .ge 13, 3) := dk_162 0 13 (dk_at dksX2_oldestVote_2 9 rfl rfl)
theorem dX2_oldestVote_58 : decode cX2_oldestVote 58 = .ok (.aload_n 0, 1) := dk_42 (dk_at dksX2_oldestVote_2 12 rfl rfl)
theorem dX2_oldestVote_59 : decode cX2_oldestVote 59 = .ok (.getfield 9, 3) := dk_180 0 9 (dk_at dksX2_oldestVote_2 13 rfl rfl)
theorem dX2_oldestVote_62 : decode cX2_oldestVote 62 = .ok (.iload_n 3, 1) := dk_29 (dk_at dksX2_oldestVote_2 16 rfl rfl)
theorem dX2_oldestVote_63 : decode cX2_oldestVote 63 = .ok (.iaload, 1) := dk_46 (dk_at dksX2_oldestVote_2 17 rfl rfl)
theorem dX2_oldestVote_64 : decode cX2_oldestVote 64 = .ok (.invokestatic 254, 3) := dk_184 0 254 (dk_at dksX2_oldestVote_2 18 rfl rfl)
theorem dX2_oldestVote_67 : decode cX2_oldestVote 67 = .ok (.istore_n 2, 1) := dk_61 (dk_at dksX2_oldestVote_2 21 rfl rfl)
theorem dX2_oldestVote_68 : decode cX2_oldestVote 68 = .ok (.iinc 3 1, 3) := dk_132 3 1 (dk_at dksX2_oldestVote_3 0 rfl rfl)
theorem dX2_oldestVote_71 : decode cX2_oldestVote 71 = .ok (.goto (-52), 3) := dk_167 255 204 (dk_at dksX2_oldestVote_3 3 rfl rfl)
theorem dX2_oldestVote_74 : decode cX2_oldestVote 74 = .ok (.iload_n 2, 1) := dk_28 (dk_at dksX2_oldestVote_3 6 rfl rfl)
theorem dX2_oldestVote_75 : decode cX2_oldestVote 75 = .ok (.ireturn, 1) := dk_172 (dk_at dksX2_oldestVote_3 7 rfl rfl)
abbrev cX2_risky : ByteArray := prog_20_method_106_code
def yX2_risky : MethodName := ⟨RX2, "risky", "()I"⟩
def dkwX2_risky_3 : List UInt8 := [27, 172]
abbrev dktX2_risky_3 : List UInt8 := dkwX2_risky_3 ++ []
def dkwX2_risky_2 : List UInt8 := [180, 0, 9, 16, 6, 46, 162, 0, 9, 4, 28, 120, 167, 0, 4, 3, 128, 60, 132, 2, 1, 167, 255, 200]
abbrev dktX2_risky_2 : List UInt8 := dkwX2_risky_2 ++ dktX2_risky_3
def dkwX2_risky_1 : List UInt8 := [27, 42, 180, 0, 9, 16, 97, 46, 28, 184, 0, 245, 153, 0, 27, 42, 28, 182, 1, 53, 184, 1, 56, 42]
abbrev dktX2_risky_1 : List UInt8 := dkwX2_risky_1 ++ dktX2_risky_2
def dkwX2_risky_0 : List UInt8 := [42, 182, 1, 69, 154, 0, 5, 3, 172, 3, 60, 3, 61, 28, 42, 180, 0, 9, 16, 7, 46, 162, 0, 51]
abbrev dktX2_risky_0 : List UInt8 := dkwX2_risky_0 ++ dktX2_risky_1
theorem dksX2_risky_0 : cX2_risky.data.toList.drop 0 = dktX2_risky_0 := by decide +kernel
theorem dksX2_risky_1 : cX2_risky.data.toList.drop 24 = dktX2_risky_1 := dk_seg dksX2_risky_0 24 rfl rfl
theorem dksX2_risky_2 : cX2_risky.data.toList.drop 48 = dktX2_risky_2 := dk_seg dksX2_risky_1 24 rfl rfl
theorem dksX2_risky_3 : cX2_risky.data.toList.drop 72 = dktX2_risky_3 := dk_seg dksX2_risky_2 24 rfl rfl
theorem dX2_risky_0 : decode cX2_risky 0 = .ok (.aload_n 0, 1) := dk_42 (dk_at dksX2_risky_0 0 rfl rfl)
theorem dX2_risky_1 : decode cX2_risky 1 = .ok (.invokevirtual 325, 3) := dk_182 1 69 (dk_at dksX2_risky_0 1 rfl rfl)
theorem dX2_risky_4 : decode cX2_risky 4 = .ok (.ifCond .ne 5, 3) := dk_154 0 5 (dk_at dksX2_risky_0 4 rfl rfl)
theorem dX2_risky_7 : decode cX2_risky 7 = .ok (.iconst 0, 1) := dk_3 (dk_at dksX2_risky_0 7 rfl rfl)
theorem dX2_risky_8 : decode cX2_risky 8 = .ok (.ireturn, 1) := dk_172 (dk_at dksX2_risky_0 8 rfl rfl)
theorem dX2_risky_9 : decode cX2_risky 9 = .ok (.iconst 0, 1) := dk_3 (dk_at dksX2_risky_0 9 rfl rfl)
theorem dX2_risky_10 : decode cX2_risky 10 = .ok (.istore_n 1, 1) := dk_60 (dk_at dksX2_risky_0 10 rfl rfl)
theorem dX2_risky_11 : decode cX2_risky 11 = .ok (.iconst 0, 1) := dk_3 (dk_at dksX2_risky_0 11 rfl rfl)
theorem dX2_risky_12 : decode cX2_risky 12 = .ok (.istore_n 2, 1) := dk_61 (dk_at dksX2_risky_0 12 rfl rfl)
theorem dX2_risky_13 : decode cX2_risky 13 = .ok (.iload_n 2, 1) := dk_28 (dk_at dksX2_risky_0 13 rfl rfl)
theorem dX2_risky_14 : decode cX2_risky 14 = .ok (.aload_n 0, 1) := dk_42 (dk_at dksX2_risky_0 14 rfl rfl)
theorem dX2_risky_15 : decode cX2_risky 15 = .ok (.getfield 9, 3) := dk_180 0 9 (dk_at dksX2_risky_0 15 rfl rfl)
theorem dX2_risky_18 : decode cX2_risky 18 = .ok (.bipush 7, 2) := dk_16 7 (dk_at dksX2_risky_0 18 rfl rfl)
theorem dX2_risky_20 : decode cX2_risky 20 = .ok (.iaload, 1) := dk_46 (dk_at dksX2_risky_0 20 rfl rfl)
theorem dX2_risky_21 : decode cX2_risky 21 = .ok (.if_icmp .ge 51, 3) := dk_162 0 51 (dk_at dksX2_risky_0 21 rfl rfl)
theorem dX2_risky_24 : decode cX2_risky 24 = .ok (.iload_n 1, 1) := dk_27 (dk_at dksX2_risky_1 0 rfl rfl)
theorem dX2_risky_25 : decode cX2_risky 25 = .ok (.aload_n 0, 1) := dk_42 (dk_at dksX2_risky_1 1 rfl rfl)
theorem dX2_risky_26 : decode cX2_risky 26 = .ok (.getfield 9, 3) := dk_180 0 9 (dk_at dksX2_risky_1 2 rfl rfl)
theorem dX2_risky_29 : decode cX2_risky 29 = .ok (.bipush 97, 2) := dk_16 97 (dk_at dksX2_risky_1 5 rfl rfl)
theorem dX2_risky_31 : decode cX2_risky 31 = .ok (.iaload, 1) := dk_46 (dk_at dksX2_risky_1 7 rfl rfl)
theorem dX2_risky_32 : decode cX2_risky 32 = .ok (.iload_n 2, 1) := dk_28 (dk_at dksX2_risky_1 8 rfl rfl)
theorem dX2_risky_33 : decode cX2_risky 33 = .ok (.invokestatic 245, 3) := dk_184 0 245 (dk_at dksX2_risky_1 9 rfl rfl)
theorem dX2_risky_36 : decode cX2_risky 36 = .ok (.ifCond .eq 27, 3) := dk_153 0 27 (dk_at dksX2_risky_1 12 rfl rfl)
theorem dX2_risky_39 : decode cX2_risky 39 = .ok (.aload_n 0, 1) := dk_42 (dk_at dksX2_risky_1 15 rfl rfl)
theorem dX2_risky_40 : decode cX2_risky 40 = .ok (.iload_n 2, 1) := dk_28 (dk_at dksX2_risky_1 16 rfl rfl)
theorem dX2_risky_41 : decode cX2_risky 41 = .ok (.invokevirtual 309, 3) := dk_182 1 53 (dk_at dksX2_risky_1 17 rfl rfl)
theorem dX2_risky_44 : decode cX2_risky 44 = .ok (.invokestatic 312, 3) := dk_184 1 56 (dk_at dksX2_risky_1 20 rfl rfl)
theorem dX2_risky_47 : decode cX2_risky 47 = .ok (.aload_n 0, 1) := dk_42 (dk_at dksX2_risky_1 23 rfl rfl)
theorem dX2_risky_48 : decode cX2_risky 48 = .ok (.getfield 9, 3) := dk_180 0 9 (dk_at dksX2_risky_2 0 rfl rfl)
theorem dX2_risky_51 : decode cX2_risky 51 = .ok (.bipush 6, 2) := dk_16 6 (dk_at dksX2_risky_2 3 rfl rfl)
theorem dX2_risky_53 : decode cX2_risky 53 = .ok (.iaload, 1) := dk_46 (dk_at dksX2_risky_2 5 rfl rfl)
theorem dX2_risky_54 : decode cX2_risky 54 = .ok (.if_icmp .ge 9, 3) := dk_162 0 9 (dk_at dksX2_risky_2 6 rfl rfl)
theorem dX2_risky_57 : decode cX2_risky 57 = .ok (.iconst 1, 1) := dk_4 (dk_at dksX2_risky_2 9 rfl rfl)
theorem dX2_risky_58 : decode cX2_risky 58 = .ok (.iload_n 2, 1) := dk_28 (dk_at dksX2_risky_2 10 rfl rfl)
theorem dX2_risky_59 : decode cX2_risky 59 = .ok (.ishl, 1) := dk_120 (dk_at dksX2_risky_2 11 rfl rfl)
theorem dX2_risky_60 : decode cX2_risky 60 = .ok (.goto 4, 3) := dk_167 0 4 (dk_at dksX2_risky_2 12 rfl rfl)
theorem dX2_risky_63 : decode cX2_risky 63 = .ok (.iconst 0, 1) := dk_3 (dk_at dksX2_risky_2 15 rfl rfl)
theorem dX2_risky_64 : decode cX2_risky 64 = .ok (.ior, 1) := dk_128 (dk_at dksX2_risky_2 16 rfl rfl)
theorem dX2_risky_65 : decode cX2_risky 65 = .ok (.istore_n 1, 1) := dk_60 (dk_at dksX2_risky_2 17 rfl rfl)
theorem dX2_risky_66 : decode cX2_risky 66 = .ok (.iinc 2 1, 3) := dk_132 2 1 (dk_at dksX2_risky_2 18 rfl rfl)
theorem dX2_risky_69 : decode cX2_risky 69 = .ok (.goto (-56), 3) := dk_167 255 200 (dk_at dksX2_risky_2 21 rfl rfl)
theorem dX2_risky_72 : decode cX2_risky 72 = .ok (.iload_n 1, 1) := dk_27 (dk_at dksX2_risky_3 0 rfl rfl)
theorem dX2_risky_73 : decode cX2_risky 73 = .ok (.ireturn, 1) := dk_172 (dk_at dksX2_risky_3 1 rfl rfl)
abbrev cX2_weightiest : ByteArray := prog_20_method_107_code
def yX2_weightiest : MethodName := ⟨RX2, "weightiest", "(I)I"⟩
def dkwX2_weightiest_2 : List UInt8 := [61, 132, 3, 1, 167, 255, 220, 28, 172]
abbrev dktX2_weightiest_2 : List UInt8 := dkwX2_weightiest_2 ++ []
def dkwX2_weightiest_1 : List UInt8 := [162, 0, 31, 28, 2, 159, 0, 18, 42, 29, 27, 182, 0, 238, 42, 28, 27, 182, 0, 238, 164, 0, 5, 29]
abbrev dktX2_weightiest_1 : List UInt8 := dkwX2_weightiest_1 ++ dktX2_weightiest_2
def dkwX2_weightiest_0 : List UInt8 := [42, 27, 182, 1, 91, 154, 0, 5, 3, 172, 2, 61, 3, 62, 29, 42, 180, 0, 9, 16, 6, 46]
abbrev dktX2_weightiest_0 : List UInt8 := dkwX2_weightiest_0 ++ dktX2_weightiest_1
theorem dksX2_weightiest_0 : cX2_weightiest.data.toList.drop 0 = dktX2_weightiest_0 := by decide +kernel
theorem dksX2_weightiest_1 : cX2_weightiest.data.toList.drop 22 = dktX2_weightiest_1 := dk_seg dksX2_weightiest_0 22 rfl rfl
theorem dksX2_weightiest_2 : cX2_weightiest.data.toList.drop 46 = dktX2_weightiest_2 := dk_seg dksX2_weightiest_1 24 rfl rfl
theorem dX2_weightiest_0 : decode cX2_weightiest 0 = .ok (.aload_n 0, 1) := dk_42 (dk_at dksX2_weightiest_0 0 rfl rfl)
theorem dX2_weightiest_1 : decode cX2_weightiest 1 = .ok (.iload_n 1, 1) := dk_27 (dk_at dksX2_weightiest_0 1 rfl rfl)
theorem dX2_weightiest_2 : decode cX2_weightiest 2 = .ok (.invokevirtual 347, 3) := dk_182 1 91 (dk_at dksX2_weightiest_0 2 rfl rfl)
theorem dX2_weightiest_5 : decode cX2_weightiest 5 = .ok (.ifCond .ne 5, 3) := dk_154 0 5 (dk_at dksX2_weightiest_0 5 rfl rfl)
theorem dX2_weightiest_8 : decode cX2_weightiest 8 = .ok (.iconst 0, 1) := dk_3 (dk_at dksX2_weightiest_0 8 rfl rfl)
theorem dX2_weightiest_9 : decode cX2_weightiest 9 = .ok (.ireturn, 1) := dk_172 (dk_at dksX2_weightiest_0 9 rfl rfl)
theorem dX2_weightiest_10 : decode cX2_weightiest 10 = .ok (.iconst (-1), 1) := dk_2 (dk_at dksX2_weightiest_0 10 rfl rfl)
theorem dX2_weightiest_11 : decode cX2_weightiest 11 = .ok (.istore_n 2, 1) := dk_61 (dk_at dksX2_weightiest_0 11 rfl rfl)
theorem dX2_weightiest_12 : decode cX2_weightiest 12 = .ok (.iconst 0, 1) := dk_3 (dk_at dksX2_weightiest_0 12 rfl rfl)
theorem dX2_weightiest_13 : decode cX2_weightiest 13 = .ok (.istore_n 3, 1) := dk_62 (dk_at dksX2_weightiest_0 13 rfl rfl)
theorem dX2_weightiest_14 : decode cX2_weightiest 14 = .ok (.iload_n 3, 1) := dk_29 (dk_at dksX2_weightiest_0 14 rfl rfl)
theorem dX2_weightiest_15 : decode cX2_weightiest 15 = .ok (.aload_n 0, 1) := dk_42 (dk_at dksX2_weightiest_0 15 rfl rfl)
theorem dX2_weightiest_16 : decode cX2_weightiest 16 = .ok (.getfield 9, 3) := dk_180 0 9 (dk_at dksX2_weightiest_0 16 rfl rfl)
theorem dX2_weightiest_19 : decode cX2_weightiest 19 = .ok (.bipush 6, 2) := dk_16 6 (dk_at dksX2_weightiest_0 19 rfl rfl)
theorem dX2_weightiest_21 : decode cX2_weightiest 21 = .ok (.iaload, 1) := dk_46 (dk_at dksX2_weightiest_0 21 rfl rfl)
theorem dX2_weightiest_22 : decode cX2_weightiest 22 = .ok (.if_icmp .ge 31, 3) := dk_162 0 31 (dk_at dksX2_weightiest_1 0 rfl rfl)
theorem dX2_weightiest_25 : decode cX2_weightiest 25 = .ok (.iload_n 2, 1) := dk_28 (dk_at dksX2_weightiest_1 3 rfl rfl)
theorem dX2_weightiest_26 : decode cX2_weightiest 26 = .ok (.iconst (-1), 1) := dk_2 (dk_at dksX2_weightiest_1 4 rfl rfl)
theorem dX2_weightiest_27 : decode cX2_weightiest 27 = .ok (.if_icmp .eq 18, 3) := dk_159 0 18 (dk_at dksX2_weightiest_1 5 rfl rfl)
theorem dX2_weightiest_30 : decode cX2_weightiest 30 = .ok (.aload_n 0, 1) := dk_42 (dk_at dksX2_weightiest_1 8 rfl rfl)
theorem dX2_weightiest_31 : decode cX2_weightiest 31 = .ok (.iload_n 3, 1) := dk_29 (dk_at dksX2_weightiest_1 9 rfl rfl)
theorem dX2_weightiest_32 : decode cX2_weightiest 32 = .ok (.iload_n 1, 1) := dk_27 (dk_at dksX2_weightiest_1 10 rfl rfl)
theorem dX2_weightiest_33 : decode cX2_weightiest 33 = .ok (.invokevirtual 238, 3) := dk_182 0 238 (dk_at dksX2_weightiest_1 11 rfl rfl)
theorem dX2_weightiest_36 : decode cX2_weightiest 36 = .ok (.aload_n 0, 1) := dk_42 (dk_at dksX2_weightiest_1 14 rfl rfl)
theorem dX2_weightiest_37 : decode cX2_weightiest 37 = .ok (.iload_n 2, 1) := dk_28 (dk_at dksX2_weightiest_1 15 rfl rfl)
theorem dX2_weightiest_38 : decode cX2_weightiest 38 = .ok (.iload_n 1, 1) := dk_27 (dk_at dksX2_weightiest_1 16 rfl rfl)
theorem dX2_weightiest_39 : decode cX2_weightiest 39 = .ok (.invokevirtual 238, 3) := dk_182 0 238 (dk_at dksX2_weightiest_1 17 rfl rfl)
theorem dX2_weightiest_42 : decode cX2_weightiest 42 = .ok (.if_icmp .le 5, 3) := dk_164 0 5 (dk_at dksX2_weightiest_1 20 rfl rfl)
theorem dX2_weightiest_45 : decode cX2_weightiest 45 = .ok (.iload_n 3, 1) := dk_29 (dk_at dksX2_weightiest_1 23 rfl rfl)
theorem dX2_weightiest_46 : decode cX2_weightiest 46 = .ok (.istore_n 2, 1) := dk_61 (dk_at dksX2_weightiest_2 0 rfl rfl)
theorem dX2_weightiest_47 : decode cX2_weightiest 47 = .ok (.iinc 3 1, 3) := dk_132 3 1 (dk_at dksX2_weightiest_2 1 rfl rfl)
theorem dX2_weightiest_50 : decode cX2_weightiest 50 = .ok (.goto (-36), 3) := dk_167 255 220 (dk_at dksX2_weightiest_2 4 rfl rfl)
theorem dX2_weightiest_53 : decode cX2_weightiest 53 = .ok (.iload_n 2, 1) := dk_28 (dk_at dksX2_weightiest_2 7 rfl rfl)
theorem dX2_weightiest_54 : decode cX2_weightiest 54 = .ok (.ireturn, 1) := dk_172 (dk_at dksX2_weightiest_2 8 rfl rfl)
abbrev cX2_maySlope : ByteArray := prog_20_method_67_code
def yX2_maySlope : MethodName := ⟨RX2, "maySlope", "(I)Z"⟩
def dkwX2_maySlope_0 : List UInt8 := [42, 42, 180, 0, 184, 42, 27, 182, 1, 22, 182, 0, 191, 172]
abbrev dktX2_maySlope_0 : List UInt8 := dkwX2_maySlope_0 ++ []
theorem dksX2_maySlope_0 : cX2_maySlope.data.toList.drop 0 = dktX2_maySlope_0 := by decide +kernel
theorem dX2_maySlope_0 : decode cX2_maySlope 0 = .ok (.aload_n 0, 1) := dk_42 (dk_at dksX2_maySlope_0 0 rfl rfl)
theorem dX2_maySlope_1 : decode cX2_maySlope 1 = .ok (.aload_n 0, 1) := dk_42 (dk_at dksX2_maySlope_0 1 rfl rfl)
theorem dX2_maySlope_2 : decode cX2_maySlope 2 = .ok (.getfield 184, 3) := dk_180 0 184 (dk_at dksX2_maySlope_0 2 rfl rfl)
theorem dX2_maySlope_5 : decode cX2_maySlope 5 = .ok (.aload_n 0, 1) := dk_42 (dk_at dksX2_maySlope_0 5 rfl rfl)
theorem dX2_maySlope_6 : decode cX2_maySlope 6 = .ok (.iload_n 1, 1) := dk_27 (dk_at dksX2_maySlope_0 6 rfl rfl)
theorem dX2_maySlope_7 : decode cX2_maySlope 7 = .ok (.invokevirtual 278, 3) := dk_182 1 22 (dk_at dksX2_maySlope_0 7 rfl rfl)
theorem dX2_maySlope_10 : decode cX2_maySlope 10 = .ok (.invokevirtual 191, 3) := dk_182 0 191 (dk_at dksX2_maySlope_0 10 rfl rfl)
theorem dX2_maySlope_13 : decode cX2_maySlope 13 = .ok (.ireturn, 1) := dk_172 (dk_at dksX2_maySlope_0 13 rfl rfl)
abbrev cX2_closers : ByteArray := prog_20_method_108_code
def yX2_closers : MethodName := ⟨RX2, "closers", "(I)I"⟩
def dkwX2_closers_0 : List UInt8 := [42, 27, 182, 1, 91, 153, 0, 11, 42, 27, 182, 1, 53, 167, 0, 4, 3, 172]
abbrev dktX2_closers_0 : List UInt8 := dkwX2_closers_0 ++ []
theorem dksX2_closers_0 : cX2_closers.data.toList.drop 0 = dktX2_closers_0 := by decide +kernel
theorem dX2_closers_0 : decode cX2_closers 0 = .ok (.aload_n 0, 1) := dk_42 (dk_at dksX2_closers_0 0 rfl rfl)
theorem dX2_closers_1 : decode cX2_closers 1 = .ok (.iload_n 1, 1) := dk_27 (dk_at dksX2_closers_0 1 rfl rfl)
theorem dX2_closers_2 : decode cX2_closers 2 = .ok (.invokevirtual 347, 3) := dk_182 1 91 (dk_at dksX2_closers_0 2 rfl rfl)
theorem dX2_closers_5 : decode cX2_closers 5 = .ok (.ifCond .eq 11, 3) := dk_153 0 11 (dk_at dksX2_closers_0 5 rfl rfl)
theorem dX2_closers_8 : decode cX2_closers 8 = .ok (.aload_n 0, 1) := dk_42 (dk_at dksX2_closers_0 8 rfl rfl)
theorem dX2_closers_9 : decode cX2_closers 9 = .ok (.iload_n 1, 1) := dk_27 (dk_at dksX2_closers_0 9 rfl rfl)
theorem dX2_closers_10 : decode cX2_closers 10 = .ok (.invokevirtual 309, 3) := dk_182 1 53 (dk_at dksX2_closers_0 10 rfl rfl)
theorem dX2_closers_13 : decode cX2_closers 13 = .ok (.goto 4, 3) := dk_167 0 4 (dk_at dksX2_closers_0 13 rfl rfl)
theorem dX2_closers_16 : decode cX2_closers 16 = .ok (.iconst 0, 1) := dk_3 (dk_at dksX2_closers_0 16 rfl rfl)
theorem dX2_closers_17 : decode cX2_closers 17 = .ok (.ireturn, 1) := dk_172 (dk_at dksX2_closers_0 17 rfl rfl)
abbrev cX2_quarrels : ByteArray := prog_20_method_109_code
def yX2_quarrels : MethodName := ⟨RX2, "quarrels", "(I)I"⟩
def dkwX2_quarrels_3 : List UInt8 := [132, 4, 1, 167, 255, 213, 132, 3, 1, 167, 255, 193, 28, 172]
abbrev dktX2_quarrels_3 : List UInt8 := dkwX2_quarrels_3 ++ []
def dkwX2_quarrels_2 : List UInt8 := [182, 0, 248, 159, 0, 17, 42, 29, 21, 4, 182, 0, 217, 153, 0, 7, 4, 167, 0, 4, 3, 96, 61]
abbrev dktX2_quarrels_2 : List UInt8 := dkwX2_quarrels_2 ++ dktX2_quarrels_3
def dkwX2_quarrels_1 : List UInt8 := [162, 0, 58, 3, 54, 4, 21, 4, 29, 162, 0, 43, 28, 42, 29, 27, 182, 0, 248, 42, 21, 4, 27]
abbrev dktX2_quarrels_1 : List UInt8 := dkwX2_quarrels_1 ++ dktX2_quarrels_2
def dkwX2_quarrels_0 : List UInt8 := [42, 27, 182, 1, 91, 154, 0, 5, 3, 172, 3, 61, 3, 62, 29, 42, 180, 0, 9, 16, 6, 46]
abbrev dktX2_quarrels_0 : List UInt8 := dkwX2_quarrels_0 ++ dktX2_quarrels_1
theorem dksX2_quarrels_0 : cX2_quarrels.data.toList.drop 0 = dktX2_quarrels_0 := by decide +kernel
theorem dksX2_quarrels_1 : cX2_quarrels.data.toList.drop 22 = dktX2_quarrels_1 := dk_seg dksX2_quarrels_0 22 rfl rfl
theorem dksX2_quarrels_2 : cX2_quarrels.data.toList.drop 45 = dktX2_quarrels_2 := dk_seg dksX2_quarrels_1 23 rfl rfl
theorem dksX2_quarrels_3 : cX2_quarrels.data.toList.drop 68 = dktX2_quarrels_3 := dk_seg dksX2_quarrels_2 23 rfl rfl
theorem dX2_quarrels_0 : decode cX2_quarrels 0 = .ok (.aload_n 0, 1) := dk_42 (dk_at dksX2_quarrels_0 0 rfl rfl)
theorem dX2_quarrels_1 : decode cX2_quarrels 1 = .ok (.iload_n 1, 1) := dk_27 (dk_at dksX2_quarrels_0 1 rfl rfl)
theorem dX2_quarrels_2 : decode cX2_quarrels 2 = .ok (.invokevirtual 347, 3) := dk_182 1 91 (dk_at dksX2_quarrels_0 2 rfl rfl)
theorem dX2_quarrels_5 : decode cX2_quarrels 5 = .ok (.ifCond .ne 5, 3) := dk_154 0 5 (dk_at dksX2_quarrels_0 5 rfl rfl)
theorem dX2_quarrels_8 : decode cX2_quarrels 8 = .ok (.iconst 0, 1) := dk_3 (dk_at dksX2_quarrels_0 8 rfl rfl)
theorem dX2_quarrels_9 : decode cX2_quarrels 9 = .ok (.ireturn, 1) := dk_172 (dk_at dksX2_quarrels_0 9 rfl rfl)
theorem dX2_quarrels_10 : decode cX2_quarrels 10 = .ok (.iconst 0, 1) := dk_3 (dk_at dksX2_quarrels_0 10 rfl rfl)
theorem dX2_quarrels_11 : decode cX2_quarrels 11 = .ok (.istore_n 2, 1) := dk_61 (dk_at dksX2_quarrels_0 11 rfl rfl)
theorem dX2_quarrels_12 : decode cX2_quarrels 12 = .ok (.iconst 0, 1) := dk_3 (dk_at dksX2_quarrels_0 12 rfl rfl)
theorem dX2_quarrels_13 : decode cX2_quarrels 13 = .ok (.istore_n 3, 1) := dk_62 (dk_at dksX2_quarrels_0 13 rfl rfl)
theorem dX2_quarrels_14 : decode cX2_quarrels 14 = .ok (.iload_n 3, 1) := dk_29 (dk_at dksX2_quarrels_0 14 rfl rfl)
theorem dX2_quarrels_15 : decode cX2_quarrels 15 = .ok (.aload_n 0, 1) := dk_42 (dk_at dksX2_quarrels_0 15 rfl rfl)
theorem dX2_quarrels_16 : decode cX2_quarrels 16 = .ok (.getfield 9, 3) := dk_180 0 9 (dk_at dksX2_quarrels_0 16 rfl rfl)
theorem dX2_quarrels_19 : decode cX2_quarrels 19 = .ok (.bipush 6, 2) := dk_16 6 (dk_at dksX2_quarrels_0 19 rfl rfl)
theorem dX2_quarrels_21 : decode cX2_quarrels 21 = .ok (.iaload, 1) := dk_46 (dk_at dksX2_quarrels_0 21 rfl rfl)
theorem dX2_quarrels_22 : decode cX2_quarrels 22 = .ok (.if_icmp .ge 58, 3) := dk_162 0 58 (dk_at dksX2_quarrels_1 0 rfl rfl)
theorem dX2_quarrels_25 : decode cX2_quarrels 25 = .ok (.iconst 0, 1) := dk_3 (dk_at dksX2_quarrels_1 3 rfl rfl)
theorem dX2_quarrels_26 : decode cX2_quarrels 26 = .ok (.istore 4, 2) := dk_54 4 (dk_at dksX2_quarrels_1 4 rfl rfl)
theorem dX2_quarrels_28 : decode cX2_quarrels 28 = .ok (.iload 4, 2) := dk_21 4 (dk_at dksX2_quarrels_1 6 rfl rfl)
theorem dX2_quarrels_30 : decode cX2_quarrels 30 = .ok (.iload_n 3, 1) := dk_29 (dk_at dksX2_quarrels_1 8 rfl rfl)
theorem dX2_quarrels_31 : decode cX2_quarrels 31 = .ok (.if_icmp .ge 43, 3) := dk_162 0 43 (dk_at dksX2_quarrels_1 9 rfl rfl)
theorem dX2_quarrels_34 : decode cX2_quarrels 34 = .ok (.iload_n 2, 1) := dk_28 (dk_at dksX2_quarrels_1 12 rfl rfl)
theorem dX2_quarrels_35 : decode cX2_quarrels 35 = .ok (.aload_n 0, 1) := dk_42 (dk_at dksX2_quarrels_1 13 rfl rfl)
theorem dX2_quarrels_36 : decode cX2_quarrels 36 = .ok (.iload_n 3, 1) := dk_29 (dk_at dksX2_quarrels_1 14 rfl rfl)
theorem dX2_quarrels_37 : decode cX2_quarrels 37 = .ok (.iload_n 1, 1) := dk_27 (dk_at dksX2_quarrels_1 15 rfl rfl)
theorem dX2_quarrels_38 : decode cX2_quarrels 38 = .ok (.invokevirtual 248, 3) := dk_182 0 248 (dk_at dksX2_quarrels_1 16 rfl rfl)
theorem dX2_quarrels_41 : decode cX2_quarrels 41 = .ok (.aload_n 0, 1) := dk_42 (dk_at dksX2_quarrels_1 19 rfl rfl)
theorem dX2_quarrels_42 : decode cX2_quarrels 42 = .ok (.iload 4, 2) := dk_21 4 (dk_at dksX2_quarrels_1 20 rfl rfl)
theorem dX2_quarrels_44 : decode cX2_quarrels 44 = .ok (.iload_n 1, 1) := dk_27 (dk_at dksX2_quarrels_1 22 rfl rfl)
theorem dX2_quarrels_45 : decode cX2_quarrels 45 = .ok (.invokevirtual 248, 3) := dk_182 0 248 (dk_at dksX2_quarrels_2 0 rfl rfl)
theorem dX2_quarrels_48 : decode cX2_quarrels 48 = .ok (.if_icmp .eq 17, 3) := dk_159 0 17 (dk_at dksX2_quarrels_2 3 rfl rfl)
theorem dX2_quarrels_51 : decode cX2_quarrels 51 = .ok (.aload_n 0, 1) := dk_42 (dk_at dksX2_quarrels_2 6 rfl rfl)
theorem dX2_quarrels_52 : decode cX2_quarrels 52 = .ok (.iload_n 3, 1) := dk_29 (dk_at dksX2_quarrels_2 7 rfl rfl)
theorem dX2_quarrels_53 : decode cX2_quarrels 53 = .ok (.iload 4, 2) := dk_21 4 (dk_at dksX2_quarrels_2 8 rfl rfl)
theorem dX2_quarrels_55 : decode cX2_quarrels 55 = .ok (.invokevirtual 217, 3) := dk_182 0 217 (dk_at dksX2_quarrels_2 10 rfl rfl)
theorem dX2_quarrels_58 : decode cX2_quarrels 58 = .ok (.ifCond .eq 7, 3) := dk_153 0 7 (dk_at dksX2_quarrels_2 13 rfl rfl)
theorem dX2_quarrels_61 : decode cX2_quarrels 61 = .ok (.iconst 1, 1) := dk_4 (dk_at dksX2_quarrels_2 16 rfl rfl)
theorem dX2_quarrels_62 : decode cX2_quarrels 62 = .ok (.goto 4, 3) := dk_167 0 4 (dk_at dksX2_quarrels_2 17 rfl rfl)
theorem dX2_quarrels_65 : decode cX2_quarrels 65 = .ok (.iconst 0, 1) := dk_3 (dk_at dksX2_quarrels_2 20 rfl rfl)
theorem dX2_quarrels_66 : decode cX2_quarrels 66 = .ok (.iadd, 1) := dk_96 (dk_at dksX2_quarrels_2 21 rfl rfl)
theorem dX2_quarrels_67 : decode cX2_quarrels 67 = .ok (.istore_n 2, 1) := dk_61 (dk_at dksX2_quarrels_2 22 rfl rfl)
theorem dX2_quarrels_68 : decode cX2_quarrels 68 = .ok (.iinc 4 1, 3) := dk_132 4 1 (dk_at dksX2_quarrels_3 0 rfl rfl)
theorem dX2_quarrels_71 : decode cX2_quarrels 71 = .ok (.goto (-43), 3) := dk_167 255 213 (dk_at dksX2_quarrels_3 3 rfl rfl)
theorem dX2_quarrels_74 : decode cX2_quarrels 74 = .ok (.iinc 3 1, 3) := dk_132 3 1 (dk_at dksX2_quarrels_3 6 rfl rfl)
theorem dX2_quarrels_77 : decode cX2_quarrels 77 = .ok (.goto (-63), 3) := dk_167 255 193 (dk_at dksX2_quarrels_3 9 rfl rfl)
theorem dX2_quarrels_80 : decode cX2_quarrels 80 = .ok (.iload_n 2, 1) := dk_28 (dk_at dksX2_quarrels_3 12 rfl rfl)
theorem dX2_quarrels_81 : decode cX2_quarrels 81 = .ok (.ireturn, 1) := dk_172 (dk_at dksX2_quarrels_3 13 rfl rfl)
abbrev cX2_leastTrusted : ByteArray := prog_20_method_110_code
def yX2_leastTrusted : MethodName := ⟨RX2, "leastTrusted", "()I"⟩
def dkwX2_leastTrusted_2 : List UInt8 := [46, 162, 0, 5, 28, 60, 132, 2, 1, 167, 255, 212, 27, 172]
abbrev dktX2_leastTrusted_2 : List UInt8 := dkwX2_leastTrusted_2 ++ []
def dkwX2_leastTrusted_1 : List UInt8 := [27, 2, 159, 0, 26, 42, 180, 0, 9, 17, 0, 158, 28, 96, 46, 42, 180, 0, 9, 17, 0, 158, 27, 96]
abbrev dktX2_leastTrusted_1 : List UInt8 := dkwX2_leastTrusted_1 ++ dktX2_leastTrusted_2
def dkwX2_leastTrusted_0 : List UInt8 := [42, 182, 1, 69, 154, 0, 5, 3, 172, 2, 60, 3, 61, 28, 42, 180, 0, 9, 16, 6, 46, 162, 0, 39]
abbrev dktX2_leastTrusted_0 : List UInt8 := dkwX2_leastTrusted_0 ++ dktX2_leastTrusted_1
theorem dksX2_leastTrusted_0 : cX2_leastTrusted.data.toList.drop 0 = dktX2_leastTrusted_0 := by decide +kernel
theorem dksX2_leastTrusted_1 : cX2_leastTrusted.data.toList.drop 24 = dktX2_leastTrusted_1 := dk_seg dksX2_leastTrusted_0 24 rfl rfl
theorem dksX2_leastTrusted_2 : cX2_leastTrusted.data.toList.drop 48 = dktX2_leastTrusted_2 := dk_seg dksX2_leastTrusted_1 24 rfl rfl
theorem dX2_leastTrusted_0 : decode cX2_leastTrusted 0 = .ok (.aload_n 0, 1) := dk_42 (dk_at dksX2_leastTrusted_0 0 rfl rfl)
theorem dX2_leastTrusted_1 : decode cX2_leastTrusted 1 = .ok (.invokevirtual 325, 3) := dk_182 1 69 (dk_at dksX2_leastTrusted_0 1 rfl rfl)
theorem dX2_leastTrusted_4 : decode cX2_leastTrusted 4 = .ok (.ifCond .ne 5, 3) := dk_154 0 5 (dk_at dksX2_leastTrusted_0 4 rfl rfl)
theorem dX2_leastTrusted_7 : decode cX2_leastTrusted 7 = .ok (.iconst 0, 1) := dk_3 (dk_at dksX2_leastTrusted_0 7 rfl rfl)
theorem dX2_leastTrusted_8 : decode cX2_leastTrusted 8 = .ok (.ireturn, 1) := dk_172 (dk_at dksX2_leastTrusted_0 8 rfl rfl)
theorem dX2_leastTrusted_9 : decode cX2_leastTrusted 9 = .ok (.iconst (-1), 1) := dk_2 (dk_at dksX2_leastTrusted_0 9 rfl rfl)
theorem dX2_leastTrusted_10 : decode cX2_leastTrusted 10 = .ok (.istore_n 1, 1) := dk_60 (dk_at dksX2_leastTrusted_0 10 rfl rfl)
theorem dX2_leastTrusted_11 : decode cX2_leastTrusted 11 = .ok (.iconst 0, 1) := dk_3 (dk_at dksX2_leastTrusted_0 11 rfl rfl)
theorem dX2_leastTrusted_12 : decode cX2_leastTrusted 12 = .ok (.istore_n 2, 1) := dk_61 (dk_at dksX2_leastTrusted_0 12 rfl rfl)
theorem dX2_leastTrusted_13 : decode cX2_leastTrusted 13 = .ok (.iload_n 2, 1) := dk_28 (dk_at dksX2_leastTrusted_0 13 rfl rfl)
theorem dX2_leastTrusted_14 : decode cX2_leastTrusted 14 = .ok (.aload_n 0, 1) := dk_42 (dk_at dksX2_leastTrusted_0 14 rfl rfl)
theorem dX2_leastTrusted_15 : decode cX2_leastTrusted 15 = .ok (.getfield 9, 3) := dk_180 0 9 (dk_at dksX2_leastTrusted_0 15 rfl rfl)
theorem dX2_leastTrusted_18 : decode cX2_leastTrusted 18 = .ok (.bipush 6, 2) := dk_16 6 (dk_at dksX2_leastTrusted_0 18 rfl rfl)
theorem dX2_leastTrusted_20 : decode cX2_leastTrusted 20 = .ok (.iaload, 1) := dk_46 (dk_at dksX2_leastTrusted_0 20 rfl rfl)
theorem dX2_leastTrusted_21 : decode cX2_leastTrusted 21 = .ok (.if_icmp .ge 39, 3) := dk_162 0 39 (dk_at dksX2_leastTrusted_0 21 rfl rfl)
theorem dX2_leastTrusted_24 : decode cX2_leastTrusted 24 = .ok (.iload_n 1, 1) := dk_27 (dk_at dksX2_leastTrusted_1 0 rfl rfl)
theorem dX2_leastTrusted_25 : decode cX2_leastTrusted 25 = .ok (.iconst (-1), 1) := dk_2 (dk_at dksX2_leastTrusted_1 1 rfl rfl)
theorem dX2_leastTrusted_26 : decode cX2_leastTrusted 26 = .ok (.if_icmp .eq 26, 3) := dk_159 0 26 (dk_at dksX2_leastTrusted_1 2 rfl rfl)
theorem dX2_leastTrusted_29 : decode cX2_leastTrusted 29 = .ok (.aload_n 0, 1) := dk_42 (dk_at dksX2_leastTrusted_1 5 rfl rfl)
theorem dX2_leastTrusted_30 : decode cX2_leastTrusted 30 = .ok (.getfield 9, 3) := dk_180 0 9 (dk_at dksX2_leastTrusted_1 6 rfl rfl)
theorem dX2_leastTrusted_33 : decode cX2_leastTrusted 33 = .ok (.sipush 158, 3) := dk_17 0 158 (dk_at dksX2_leastTrusted_1 9 rfl rfl)
theorem dX2_leastTrusted_36 : decode cX2_leastTrusted 36 = .ok (.iload_n 2, 1) := dk_28 (dk_at dksX2_leastTrusted_1 12 rfl rfl)
theorem dX2_leastTrusted_37 : decode cX2_leastTrusted 37 = .ok (.iadd, 1) := dk_96 (dk_at dksX2_leastTrusted_1 13 rfl rfl)
theorem dX2_leastTrusted_38 : decode cX2_leastTrusted 38 = .ok (.iaload, 1) := dk_46 (dk_at dksX2_leastTrusted_1 14 rfl rfl)
theorem dX2_leastTrusted_39 : decode cX2_leastTrusted 39 = .ok (.aload_n 0, 1) := dk_42 (dk_at dksX2_leastTrusted_1 15 rfl rfl)
theorem dX2_leastTrusted_40 : decode cX2_leastTrusted 40 = .ok (.getfield 9, 3) := dk_180 0 9 (dk_at dksX2_leastTrusted_1 16 rfl rfl)
theorem dX2_leastTrusted_43 : decode cX2_leastTrusted 43 = .ok (.sipush 158, 3) := dk_17 0 158 (dk_at dksX2_leastTrusted_1 19 rfl rfl)
theorem dX2_leastTrusted_46 : decode cX2_leastTrusted 46 = .ok (.iload_n 1, 1) := dk_27 (dk_at dksX2_leastTrusted_1 22 rfl rfl)
theorem dX2_leastTrusted_47 : decode cX2_leastTrusted 47 = .ok (.iadd, 1) := dk_96 (dk_at dksX2_leastTrusted_1 23 rfl rfl)
theorem dX2_leastTrusted_48 : decode cX2_leastTrusted 48 = .ok (.iaload, 1) := dk_46 (dk_at dksX2_leastTrusted_2 0 rfl rfl)
theorem dX2_leastTrusted_49 : decode cX2_leastTrusted 49 = .ok (.if_icmp .ge 5, 3) := dk_162 0 5 (dk_at dksX2_leastTrusted_2 1 rfl rfl)
theorem dX2_leastTrusted_52 : decode cX2_leastTrusted 52 = .ok (.iload_n 2, 1) := dk_28 (dk_at dksX2_leastTrusted_2 4 rfl rfl)
theorem dX2_leastTrusted_53 : decode cX2_leastTrusted 53 = .ok (.istore_n 1, 1) := dk_60 (dk_at dksX2_leastTrusted_2 5 rfl rfl)
theorem dX2_leastTrusted_54 : decode cX2_leastTrusted 54 = .ok (.iinc 2 1, 3) := dk_132 2 1 (dk_at dksX2_leastTrusted_2 6 rfl rfl)
theorem dX2_leastTrusted_57 : decode cX2_leastTrusted 57 = .ok (.goto (-44), 3) := dk_167 255 212 (dk_at dksX2_leastTrusted_2 9 rfl rfl)
theorem dX2_leastTrusted_60 : decode cX2_leastTrusted 60 = .ok (.iload_n 1, 1) := dk_27 (dk_at dksX2_leastTrusted_2 12 rfl rfl)
theorem dX2_leastTrusted_61 : decode cX2_leastTrusted 61 = .ok (.ireturn, 1) := dk_172 (dk_at dksX2_leastTrusted_2 13 rfl rfl)
abbrev cX2_loneliest : ByteArray := prog_20_method_111_code
def yX2_loneliest : MethodName := ⟨RX2, "loneliest", "()I"⟩
def dkwX2_loneliest_2 : List UInt8 := [28, 60, 132, 2, 1, 167, 255, 216, 27, 172]
abbrev dktX2_loneliest_2 : List UInt8 := dkwX2_loneliest_2 ++ []
def dkwX2_loneliest_1 : List UInt8 := [27, 2, 159, 0, 22, 42, 28, 182, 1, 82, 184, 1, 56, 42, 27, 182, 1, 82, 184, 1, 56, 162, 0, 5]
abbrev dktX2_loneliest_1 : List UInt8 := dkwX2_loneliest_1 ++ dktX2_loneliest_2
def dkwX2_loneliest_0 : List UInt8 := [42, 182, 1, 69, 154, 0, 5, 3, 172, 2, 60, 3, 61, 28, 42, 180, 0, 9, 16, 6, 46, 162, 0, 35]
abbrev dktX2_loneliest_0 : List UInt8 := dkwX2_loneliest_0 ++ dktX2_loneliest_1
theorem dksX2_loneliest_0 : cX2_loneliest.data.toList.drop 0 = dktX2_loneliest_0 := by decide +kernel
theorem dksX2_loneliest_1 : cX2_loneliest.data.toList.drop 24 = dktX2_loneliest_1 := dk_seg dksX2_loneliest_0 24 rfl rfl
theorem dksX2_loneliest_2 : cX2_loneliest.data.toList.drop 48 = dktX2_loneliest_2 := dk_seg dksX2_loneliest_1 24 rfl rfl
theorem dX2_loneliest_0 : decode cX2_loneliest 0 = .ok (.aload_n 0, 1) := dk_42 (dk_at dksX2_loneliest_0 0 rfl rfl)
theorem dX2_loneliest_1 : decode cX2_loneliest 1 = .ok (.invokevirtual 325, 3) := dk_182 1 69 (dk_at dksX2_loneliest_0 1 rfl rfl)
theorem dX2_loneliest_4 : decode cX2_loneliest 4 = .ok (.ifCond .ne 5, 3) := dk_154 0 5 (dk_at dksX2_loneliest_0 4 rfl rfl)
theorem dX2_loneliest_7 : decode cX2_loneliest 7 = .ok (.iconst 0, 1) := dk_3 (dk_at dksX2_loneliest_0 7 rfl rfl)
theorem dX2_loneliest_8 : decode cX2_loneliest 8 = .ok (.ireturn, 1) := dk_172 (dk_at dksX2_loneliest_0 8 rfl rfl)
theorem dX2_loneliest_9 : decode cX2_loneliest 9 = .ok (.iconst (-1), 1) := dk_2 (dk_at dksX2_loneliest_0 9 rfl rfl)
theorem dX2_loneliest_10 : decode cX2_loneliest 10 = .ok (.istore_n 1, 1) := dk_60 (dk_at dksX2_loneliest_0 10 rfl rfl)
theorem dX2_loneliest_11 : decode cX2_loneliest 11 = .ok (.iconst 0, 1) := dk_3 (dk_at dksX2_loneliest_0 11 rfl rfl)
theorem dX2_loneliest_12 : decode cX2_loneliest 12 = .ok (.istore_n 2, 1) := dk_61 (dk_at dksX2_loneliest_0 12 rfl rfl)
theorem dX2_loneliest_13 : decode cX2_loneliest 13 = .ok (.iload_n 2, 1) := dk_28 (dk_at dksX2_loneliest_0 13 rfl rfl)
theorem dX2_loneliest_14 : decode cX2_loneliest 14 = .ok (.aload_n 0, 1) := dk_42 (dk_at dksX2_loneliest_0 14 rfl rfl)
theorem dX2_loneliest_15 : decode cX2_loneliest 15 = .ok (.getfield 9, 3) := dk_180 0 9 (dk_at dksX2_loneliest_0 15 rfl rfl)
theorem dX2_loneliest_18 : decode cX2_loneliest 18 = .ok (.bipush 6, 2) := dk_16 6 (dk_at dksX2_loneliest_0 18 rfl rfl)
theorem dX2_loneliest_20 : decode cX2_loneliest 20 = .ok (.iaload, 1) := dk_46 (dk_at dksX2_loneliest_0 20 rfl rfl)
theorem dX2_loneliest_21 : decode cX2_loneliest 21 = .ok (.if_icmp .ge 35, 3) := dk_162 0 35 (dk_at dksX2_loneliest_0 21 rfl rfl)
theorem dX2_loneliest_24 : decode cX2_loneliest 24 = .ok (.iload_n 1, 1) := dk_27 (dk_at dksX2_loneliest_1 0 rfl rfl)
theorem dX2_loneliest_25 : decode cX2_loneliest 25 = .ok (.iconst (-1), 1) := dk_2 (dk_at dksX2_loneliest_1 1 rfl rfl)
theorem dX2_loneliest_26 : decode cX2_loneliest 26 = .ok (.if_icmp .eq 22, 3) := dk_159 0 22 (dk_at dksX2_loneliest_1 2 rfl rfl)
theorem dX2_loneliest_29 : decode cX2_loneliest 29 = .ok (.aload_n 0, 1) := dk_42 (dk_at dksX2_loneliest_1 5 rfl rfl)
theorem dX2_loneliest_30 : decode cX2_loneliest 30 = .ok (.iload_n 2, 1) := dk_28 (dk_at dksX2_loneliest_1 6 rfl rfl)
theorem dX2_loneliest_31 : decode cX2_loneliest 31 = .ok (.invokevirtual 338, 3) := dk_182 1 82 (dk_at dksX2_loneliest_1 7 rfl rfl)
theorem dX2_loneliest_34 : decode cX2_loneliest 34 = .ok (.invokestatic 312, 3) := dk_184 1 56 (dk_at dksX2_loneliest_1 10 rfl rfl)
theorem dX2_loneliest_37 : decode cX2_loneliest 37 = .ok (.aload_n 0, 1) := dk_42 (dk_at dksX2_loneliest_1 13 rfl rfl)
theorem dX2_loneliest_38 : decode cX2_loneliest 38 = .ok (.iload_n 1, 1) := dk_27 (dk_at dksX2_loneliest_1 14 rfl rfl)
theorem dX2_loneliest_39 : decode cX2_loneliest 39 = .ok (.invokevirtual 338, 3) := dk_182 1 82 (dk_at dksX2_loneliest_1 15 rfl rfl)
theorem dX2_loneliest_42 : decode cX2_loneliest 42 = .ok (.invokestatic 312, 3) := dk_184 1 56 (dk_at dksX2_loneliest_1 18 rfl rfl)
theorem dX2_loneliest_45 : decode cX2_loneliest 45 = .ok (.if_icmp .ge 5, 3) := dk_162 0 5 (dk_at dksX2_loneliest_1 21 rfl rfl)
theorem dX2_loneliest_48 : decode cX2_loneliest 48 = .ok (.iload_n 2, 1) := dk_28 (dk_at dksX2_loneliest_2 0 rfl rfl)
theorem dX2_loneliest_49 : decode cX2_loneliest 49 = .ok (.istore_n 1, 1) := dk_60 (dk_at dksX2_loneliest_2 1 rfl rfl)
theorem dX2_loneliest_50 : decode cX2_loneliest 50 = .ok (.iinc 2 1, 3) := dk_132 2 1 (dk_at dksX2_loneliest_2 2 rfl rfl)
theorem dX2_loneliest_53 : decode cX2_loneliest 53 = .ok (.goto (-40), 3) := dk_167 255 216 (dk_at dksX2_loneliest_2 5 rfl rfl)
theorem dX2_loneliest_56 : decode cX2_loneliest 56 = .ok (.iload_n 1, 1) := dk_27 (dk_at dksX2_loneliest_2 8 rfl rfl)
theorem dX2_loneliest_57 : decode cX2_loneliest 57 = .ok (.ireturn, 1) := dk_172 (dk_at dksX2_loneliest_2 9 rfl rfl)
abbrev cX2_meanTrust : ByteArray := prog_20_method_112_code
def yX2_meanTrust : MethodName := ⟨RX2, "meanTrust", "()D"⟩
def dkwX2_meanTrust_2 : List UInt8 := [16, 6, 46, 154, 0, 7, 14, 167, 0, 14, 27, 135, 42, 180, 0, 9, 16, 6, 46, 135, 111, 175]
abbrev dktX2_meanTrust_2 : List UInt8 := dkwX2_meanTrust_2 ++ []
def dkwX2_meanTrust_1 : List UInt8 := [27, 42, 180, 0, 9, 17, 0, 158, 28, 96, 46, 96, 60, 132, 2, 1, 167, 255, 229, 42, 180, 0, 9]
abbrev dktX2_meanTrust_1 : List UInt8 := dkwX2_meanTrust_1 ++ dktX2_meanTrust_2
def dkwX2_meanTrust_0 : List UInt8 := [42, 182, 1, 69, 154, 0, 5, 14, 175, 3, 60, 3, 61, 28, 42, 180, 0, 9, 16, 6, 46, 162, 0, 22]
abbrev dktX2_meanTrust_0 : List UInt8 := dkwX2_meanTrust_0 ++ dktX2_meanTrust_1
theorem dksX2_meanTrust_0 : cX2_meanTrust.data.toList.drop 0 = dktX2_meanTrust_0 := by decide +kernel
theorem dksX2_meanTrust_1 : cX2_meanTrust.data.toList.drop 24 = dktX2_meanTrust_1 := dk_seg dksX2_meanTrust_0 24 rfl rfl
theorem dksX2_meanTrust_2 : cX2_meanTrust.data.toList.drop 47 = dktX2_meanTrust_2 := dk_seg dksX2_meanTrust_1 23 rfl rfl
theorem dX2_meanTrust_0 : decode cX2_meanTrust 0 = .ok (.aload_n 0, 1) := dk_42 (dk_at dksX2_meanTrust_0 0 rfl rfl)
theorem dX2_meanTrust_1 : decode cX2_meanTrust 1 = .ok (.invokevirtual 325, 3) := dk_182 1 69 (dk_at dksX2_meanTrust_0 1 rfl rfl)
theorem dX2_meanTrust_4 : decode cX2_meanTrust 4 = .ok (.ifCond .ne 5, 3) := dk_154 0 5 (dk_at dksX2_meanTrust_0 4 rfl rfl)
theorem dX2_meanTrust_7 : decode cX2_meanTrust 7 = .ok (.dconst 0, 1) := dk_14 (dk_at dksX2_meanTrust_0 7 rfl rfl)
theorem dX2_meanTrust_8 : decode cX2_meanTrust 8 = .ok (.dreturn, 1) := dk_175 (dk_at dksX2_meanTrust_0 8 rfl rfl)
theorem dX2_meanTrust_9 : decode cX2_meanTrust 9 = .ok (.iconst 0, 1) := dk_3 (dk_at dksX2_meanTrust_0 9 rfl rfl)
theorem dX2_meanTrust_10 : decode cX2_meanTrust 10 = .ok (.istore_n 1, 1) := dk_60 (dk_at dksX2_meanTrust_0 10 rfl rfl)
theorem dX2_meanTrust_11 : decode cX2_meanTrust 11 = .ok (.iconst 0, 1) := dk_3 (dk_at dksX2_meanTrust_0 11 rfl rfl)
theorem dX2_meanTrust_12 : decode cX2_meanTrust 12 = .ok (.istore_n 2, 1) := dk_61 (dk_at dksX2_meanTrust_0 12 rfl rfl)
theorem dX2_meanTrust_13 : decode cX2_meanTrust 13 = .ok (.iload_n 2, 1) := dk_28 (dk_at dksX2_meanTrust_0 13 rfl rfl)
theorem dX2_meanTrust_14 : decode cX2_meanTrust 14 = .ok (.aload_n 0, 1) := dk_42 (dk_at dksX2_meanTrust_0 14 rfl rfl)
theorem dX2_meanTrust_15 : decode cX2_meanTrust 15 = .ok (.getfield 9, 3) := dk_180 0 9 (dk_at dksX2_meanTrust_0 15 rfl rfl)
theorem dX2_meanTrust_18 : decode cX2_meanTrust 18 = .ok (.bipush 6, 2) := dk_16 6 (dk_at dksX2_meanTrust_0 18 rfl rfl)
theorem dX2_meanTrust_20 : decode cX2_meanTrust 20 = .ok (.iaload, 1) := dk_46 (dk_at dksX2_meanTrust_0 20 rfl rfl)
theorem dX2_meanTrust_21 : decode cX2_meanTrust 21 = .ok (.if_icmp .ge 22, 3) := dk_162 0 22 (dk_at dksX2_meanTrust_0 21 rfl rfl)
theorem dX2_meanTrust_24 : decode cX2_meanTrust 24 = .ok (.iload_n 1, 1) := dk_27 (dk_at dksX2_meanTrust_1 0 rfl rfl)
theorem dX2_meanTrust_25 : decode cX2_meanTrust 25 = .ok (.aload_n 0, 1) := dk_42 (dk_at dksX2_meanTrust_1 1 rfl rfl)
theorem dX2_meanTrust_26 : decode cX2_meanTrust 26 = .ok (.getfield 9, 3) := dk_180 0 9 (dk_at dksX2_meanTrust_1 2 rfl rfl)
theorem dX2_meanTrust_29 : decode cX2_meanTrust 29 = .ok (.sipush 158, 3) := dk_17 0 158 (dk_at dksX2_meanTrust_1 5 rfl rfl)
theorem dX2_meanTrust_32 : decode cX2_meanTrust 32 = .ok (.iload_n 2, 1) := dk_28 (dk_at dksX2_meanTrust_1 8 rfl rfl)
theorem dX2_meanTrust_33 : decode cX2_meanTrust 33 = .ok (.iadd, 1) := dk_96 (dk_at dksX2_meanTrust_1 9 rfl rfl)
theorem dX2_meanTrust_34 : decode cX2_meanTrust 34 = .ok (.iaload, 1) := dk_46 (dk_at dksX2_meanTrust_1 10 rfl rfl)
theorem dX2_meanTrust_35 : decode cX2_meanTrust 35 = .ok (.iadd, 1) := dk_96 (dk_at dksX2_meanTrust_1 11 rfl rfl)
theorem dX2_meanTrust_36 : decode cX2_meanTrust 36 = .ok (.istore_n 1, 1) := dk_60 (dk_at dksX2_meanTrust_1 12 rfl rfl)
theorem dX2_meanTrust_37 : decode cX2_meanTrust 37 = .ok (.iinc 2 1, 3) := dk_132 2 1 (dk_at dksX2_meanTrust_1 13 rfl rfl)
theorem dX2_meanTrust_40 : decode cX2_meanTrust 40 = .ok (.goto (-27), 3) := dk_167 255 229 (dk_at dksX2_meanTrust_1 16 rfl rfl)
theorem dX2_meanTrust_43 : decode cX2_meanTrust 43 = .ok (.aload_n 0, 1) := dk_42 (dk_at dksX2_meanTrust_1 19 rfl rfl)
theorem dX2_meanTrust_44 : decode cX2_meanTrust 44 = .ok (.getfield 9, 3) := dk_180 0 9 (dk_at dksX2_meanTrust_1 20 rfl rfl)
theorem dX2_meanTrust_47 : decode cX2_meanTrust 47 = .ok (.bipush 6, 2) := dk_16 6 (dk_at dksX2_meanTrust_2 0 rfl rfl)
theorem dX2_meanTrust_49 : decode cX2_meanTrust 49 = .ok (.iaload, 1) := dk_46 (dk_at dksX2_meanTrust_2 2 rfl rfl)
theorem dX2_meanTrust_50 : decode cX2_meanTrust 50 = .ok (.ifCond .ne 7, 3) := dk_154 0 7 (dk_at dksX2_meanTrust_2 3 rfl rfl)
theorem dX2_meanTrust_53 : decode cX2_meanTrust 53 = .ok (.dconst 0, 1) := dk_14 (dk_at dksX2_meanTrust_2 6 rfl rfl)
theorem dX2_meanTrust_54 : decode cX2_meanTrust 54 = .ok (.goto 14, 3) := dk_167 0 14 (dk_at dksX2_meanTrust_2 7 rfl rfl)
theorem dX2_meanTrust_57 : decode cX2_meanTrust 57 = .ok (.iload_n 1, 1) := dk_27 (dk_at dksX2_meanTrust_2 10 rfl rfl)
theorem dX2_meanTrust_58 : decode cX2_meanTrust 58 = .ok (.i2d, 1) := dk_135 (dk_at dksX2_meanTrust_2 11 rfl rfl)
theorem dX2_meanTrust_59 : decode cX2_meanTrust 59 = .ok (.aload_n 0, 1) := dk_42 (dk_at dksX2_meanTrust_2 12 rfl rfl)
theorem dX2_meanTrust_60 : decode cX2_meanTrust 60 = .ok (.getfield 9, 3) := dk_180 0 9 (dk_at dksX2_meanTrust_2 13 rfl rfl)
theorem dX2_meanTrust_63 : decode cX2_meanTrust 63 = .ok (.bipush 6, 2) := dk_16 6 (dk_at dksX2_meanTrust_2 16 rfl rfl)
theorem dX2_meanTrust_65 : decode cX2_meanTrust 65 = .ok (.iaload, 1) := dk_46 (dk_at dksX2_meanTrust_2 18 rfl rfl)
theorem dX2_meanTrust_66 : decode cX2_meanTrust 66 = .ok (.i2d, 1) := dk_135 (dk_at dksX2_meanTrust_2 19 rfl rfl)
theorem dX2_meanTrust_67 : decode cX2_meanTrust 67 = .ok (.ddiv, 1) := dk_111 (dk_at dksX2_meanTrust_2 20 rfl rfl)
theorem dX2_meanTrust_68 : decode cX2_meanTrust 68 = .ok (.dreturn, 1) := dk_175 (dk_at dksX2_meanTrust_2 21 rfl rfl)
abbrev cX2_closedShare : ByteArray := prog_20_method_113_code
def yX2_closedShare : MethodName := ⟨RX2, "closedShare", "(I)F"⟩
def dkwX2_closedShare_1 : List UInt8 := [42, 27, 182, 1, 53, 184, 1, 56, 134, 42, 180, 0, 9, 16, 6, 46, 134, 110, 174]
abbrev dktX2_closedShare_1 : List UInt8 := dkwX2_closedShare_1 ++ []
def dkwX2_closedShare_0 : List UInt8 := [42, 27, 182, 1, 91, 154, 0, 5, 11, 174, 42, 180, 0, 9, 16, 6, 46, 154, 0, 7, 11, 167, 0, 21]
abbrev dktX2_closedShare_0 : List UInt8 := dkwX2_closedShare_0 ++ dktX2_closedShare_1
theorem dksX2_closedShare_0 : cX2_closedShare.data.toList.drop 0 = dktX2_closedShare_0 := by decide +kernel
theorem dksX2_closedShare_1 : cX2_closedShare.data.toList.drop 24 = dktX2_closedShare_1 := dk_seg dksX2_closedShare_0 24 rfl rfl
theorem dX2_closedShare_0 : decode cX2_closedShare 0 = .ok (.aload_n 0, 1) := dk_42 (dk_at dksX2_closedShare_0 0 rfl rfl)
theorem dX2_closedShare_1 : decode cX2_closedShare 1 = .ok (.iload_n 1, 1) := dk_27 (dk_at dksX2_closedShare_0 1 rfl rfl)
theorem dX2_closedShare_2 : decode cX2_closedShare 2 = .ok (.invokevirtual 347, 3) := dk_182 1 91 (dk_at dksX2_closedShare_0 2 rfl rfl)
theorem dX2_closedShare_5 : decode cX2_closedShare 5 = .ok (.ifCond .ne 5, 3) := dk_154 0 5 (dk_at dksX2_closedShare_0 5 rfl rfl)
theorem dX2_closedShare_8 : decode cX2_closedShare 8 = .ok (.fconst 0, 1) := dk_11 (dk_at dksX2_closedShare_0 8 rfl rfl)
theorem dX2_closedShare_9 : decode cX2_closedShare 9 = .ok (.freturn, 1) := dk_174 (dk_at dksX2_closedShare_0 9 rfl rfl)
theorem dX2_closedShare_10 : decode cX2_closedShare 10 = .ok (.aload_n 0, 1) := dk_42 (dk_at dksX2_closedShare_0 10 rfl rfl)
theorem dX2_closedShare_11 : decode cX2_closedShare 11 = .ok (.getfield 9, 3) := dk_180 0 9 (dk_at dksX2_closedShare_0 11 rfl rfl)
theorem dX2_closedShare_14 : decode cX2_closedShare 14 = .ok (.bipush 6, 2) := dk_16 6 (dk_at dksX2_closedShare_0 14 rfl rfl)
theorem dX2_closedShare_16 : decode cX2_closedShare 16 = .ok (.iaload, 1) := dk_46 (dk_at dksX2_closedShare_0 16 rfl rfl)
theorem dX2_closedShare_17 : decode cX2_closedShare 17 = .ok (.ifCond .ne 7, 3) := dk_154 0 7 (dk_at dksX2_closedShare_0 17 rfl rfl)
theorem dX2_closedShare_20 : decode cX2_closedShare 20 = .ok (.fconst 0, 1) := dk_11 (dk_at dksX2_closedShare_0 20 rfl rfl)
theorem dX2_closedShare_21 : decode cX2_closedShare 21 = .ok (.goto 21, 3) := dk_167 0 21 (dk_at dksX2_closedShare_0 21 rfl rfl)
theorem dX2_closedShare_24 : decode cX2_closedShare 24 = .ok (.aload_n 0, 1) := dk_42 (dk_at dksX2_closedShare_1 0 rfl rfl)
theorem dX2_closedShare_25 : decode cX2_closedShare 25 = .ok (.iload_n 1, 1) := dk_27 (dk_at dksX2_closedShare_1 1 rfl rfl)
theorem dX2_closedShare_26 : decode cX2_closedShare 26 = .ok (.invokevirtual 309, 3) := dk_182 1 53 (dk_at dksX2_closedShare_1 2 rfl rfl)
theorem dX2_closedShare_29 : decode cX2_closedShare 29 = .ok (.invokestatic 312, 3) := dk_184 1 56 (dk_at dksX2_closedShare_1 5 rfl rfl)
theorem dX2_closedShare_32 : decode cX2_closedShare 32 = .ok (.i2f, 1) := dk_134 (dk_at dksX2_closedShare_1 8 rfl rfl)
theorem dX2_closedShare_33 : decode cX2_closedShare 33 = .ok (.aload_n 0, 1) := dk_42 (dk_at dksX2_closedShare_1 9 rfl rfl)
theorem dX2_closedShare_34 : decode cX2_closedShare 34 = .ok (.getfield 9, 3) := dk_180 0 9 (dk_at dksX2_closedShare_1 10 rfl rfl)
theorem dX2_closedShare_37 : decode cX2_closedShare 37 = .ok (.bipush 6, 2) := dk_16 6 (dk_at dksX2_closedShare_1 13 rfl rfl)
theorem dX2_closedShare_39 : decode cX2_closedShare 39 = .ok (.iaload, 1) := dk_46 (dk_at dksX2_closedShare_1 15 rfl rfl)
theorem dX2_closedShare_40 : decode cX2_closedShare 40 = .ok (.i2f, 1) := dk_134 (dk_at dksX2_closedShare_1 16 rfl rfl)
theorem dX2_closedShare_41 : decode cX2_closedShare 41 = .ok (.fdiv, 1) := dk_110 (dk_at dksX2_closedShare_1 17 rfl rfl)
theorem dX2_closedShare_42 : decode cX2_closedShare 42 = .ok (.freturn, 1) := dk_174 (dk_at dksX2_closedShare_1 18 rfl rfl)
abbrev cX2_bulletin : ByteArray := prog_20_method_115_code
def yX2_bulletin : MethodName := ⟨RX2, "bulletin", "(II)I"⟩
def dkwX2_bulletin_2 : List UInt8 := [27, 100, 16, 10, 112, 104, 96, 28, 96, 46, 172]
abbrev dktX2_bulletin_2 : List UInt8 := dkwX2_bulletin_2 ++ []
def dkwX2_bulletin_1 : List UInt8 := [182, 0, 47, 154, 0, 5, 3, 172, 42, 180, 0, 9, 16, 98, 7, 42, 180, 0, 9, 16, 95, 46, 4, 100]
abbrev dktX2_bulletin_1 : List UInt8 := dkwX2_bulletin_1 ++ dktX2_bulletin_2
def dkwX2_bulletin_0 : List UInt8 := [42, 42, 180, 0, 184, 27, 3, 42, 182, 1, 94, 4, 100, 184, 0, 64, 28, 3, 6, 184, 0, 64]
abbrev dktX2_bulletin_0 : List UInt8 := dkwX2_bulletin_0 ++ dktX2_bulletin_1
theorem dksX2_bulletin_0 : cX2_bulletin.data.toList.drop 0 = dktX2_bulletin_0 := by decide +kernel
theorem dksX2_bulletin_1 : cX2_bulletin.data.toList.drop 22 = dktX2_bulletin_1 := dk_seg dksX2_bulletin_0 22 rfl rfl
theorem dksX2_bulletin_2 : cX2_bulletin.data.toList.drop 46 = dktX2_bulletin_2 := dk_seg dksX2_bulletin_1 24 rfl rfl
theorem dX2_bulletin_0 : decode cX2_bulletin 0 = .ok (.aload_n 0, 1) := dk_42 (dk_at dksX2_bulletin_0 0 rfl rfl)
theorem dX2_bulletin_1 : decode cX2_bulletin 1 = .ok (.aload_n 0, 1) := dk_42 (dk_at dksX2_bulletin_0 1 rfl rfl)
theorem dX2_bulletin_2 : decode cX2_bulletin 2 = .ok (.getfield 184, 3) := dk_180 0 184 (dk_at dksX2_bulletin_0 2 rfl rfl)
theorem dX2_bulletin_5 : decode cX2_bulletin 5 = .ok (.iload_n 1, 1) := dk_27 (dk_at dksX2_bulletin_0 5 rfl rfl)
theorem dX2_bulletin_6 : decode cX2_bulletin 6 = .ok (.iconst 0, 1) := dk_3 (dk_at dksX2_bulletin_0 6 rfl rfl)
theorem dX2_bulletin_7 : decode cX2_bulletin 7 = .ok (.aload_n 0, 1) := dk_42 (dk_at dksX2_bulletin_0 7 rfl rfl)
theorem dX2_bulletin_8 : decode cX2_bulletin 8 = .ok (.invokevirtual 350, 3) := dk_182 1 94 (dk_at dksX2_bulletin_0 8 rfl rfl)
theorem dX2_bulletin_11 : decode cX2_bulletin 11 = .ok (.iconst 1, 1) := dk_4 (dk_at dksX2_bulletin_0 11 rfl rfl)
theorem dX2_bulletin_12 : decode cX2_bulletin 12 = .ok (.isub, 1) := dk_100 (dk_at dksX2_bulletin_0 12 rfl rfl)
theorem dX2_bulletin_13 : decode cX2_bulletin 13 = .ok (.invokestatic 64, 3) := dk_184 0 64 (dk_at dksX2_bulletin_0 13 rfl rfl)
theorem dX2_bulletin_16 : decode cX2_bulletin 16 = .ok (.iload_n 2, 1) := dk_28 (dk_at dksX2_bulletin_0 16 rfl rfl)
theorem dX2_bulletin_17 : decode cX2_bulletin 17 = .ok (.iconst 0, 1) := dk_3 (dk_at dksX2_bulletin_0 17 rfl rfl)
theorem dX2_bulletin_18 : decode cX2_bulletin 18 = .ok (.iconst 3, 1) := dk_6 (dk_at dksX2_bulletin_0 18 rfl rfl)
theorem dX2_bulletin_19 : decode cX2_bulletin 19 = .ok (.invokestatic 64, 3) := dk_184 0 64 (dk_at dksX2_bulletin_0 19 rfl rfl)
theorem dX2_bulletin_22 : decode cX2_bulletin 22 = .ok (.invokevirtual 47, 3) := dk_182 0 47 (dk_at dksX2_bulletin_1 0 rfl rfl)
theorem dX2_bulletin_25 : decode cX2_bulletin 25 = .ok (.ifCond .ne 5, 3) := dk_154 0 5 (dk_at dksX2_bulletin_1 3 rfl rfl)
theorem dX2_bulletin_28 : decode cX2_bulletin 28 = .ok (.iconst 0, 1) := dk_3 (dk_at dksX2_bulletin_1 6 rfl rfl)
theorem dX2_bulletin_29 : decode cX2_bulletin 29 = .ok (.ireturn, 1) := dk_172 (dk_at dksX2_bulletin_1 7 rfl rfl)
theorem dX2_bulletin_30 : decode cX2_bulletin 30 = .ok (.aload_n 0, 1) := dk_42 (dk_at dksX2_bulletin_1 8 rfl rfl)
theorem dX2_bulletin_31 : decode cX2_bulletin 31 = .ok (.getfield 9, 3) := dk_180 0 9 (dk_at dksX2_bulletin_1 9 rfl rfl)
theorem dX2_bulletin_34 : decode cX2_bulletin 34 = .ok (.bipush 98, 2) := dk_16 98 (dk_at dksX2_bulletin_1 12 rfl rfl)
theorem dX2_bulletin_36 : decode cX2_bulletin 36 = .ok (.iconst 4, 1) := dk_7 (dk_at dksX2_bulletin_1 14 rfl rfl)
theorem dX2_bulletin_37 : decode cX2_bulletin 37 = .ok (.aload_n 0, 1) := dk_42 (dk_at dksX2_bulletin_1 15 rfl rfl)
theorem dX2_bulletin_38 : decode cX2_bulletin 38 = .ok (.getfield 9, 3) := dk_180 0 9 (dk_at dksX2_bulletin_1 16 rfl rfl)
theorem dX2_bulletin_41 : decode cX2_bulletin 41 = .ok (.bipush 95, 2) := dk_16 95 (dk_at dksX2_bulletin_1 19 rfl rfl)
theorem dX2_bulletin_43 : decode cX2_bulletin 43 = .ok (.iaload, 1) := dk_46 (dk_at dksX2_bulletin_1 21 rfl rfl)
theorem dX2_bulletin_44 : decode cX2_bulletin 44 = .ok (.iconst 1, 1) := dk_4 (dk_at dksX2_bulletin_1 22 rfl rfl)
theorem dX2_bulletin_45 : decode cX2_bulletin 45 = .ok (.isub, 1) := dk_100 (dk_at dksX2_bulletin_1 23 rfl rfl)
theorem dX2_bulletin_46 : decode cX2_bulletin 46 = .ok (.iload_n 1, 1) := dk_27 (dk_at dksX2_bulletin_2 0 rfl rfl)
theorem dX2_bulletin_47 : decode cX2_bulletin 47 = .ok (.isub, 1) := dk_100 (dk_at dksX2_bulletin_2 1 rfl rfl)
theorem dX2_bulletin_48 : decode cX2_bulletin 48 = .ok (.bipush 10, 2) := dk_16 10 (dk_at dksX2_bulletin_2 2 rfl rfl)
theorem dX2_bulletin_50 : decode cX2_bulletin 50 = .ok (.irem, 1) := dk_112 (dk_at dksX2_bulletin_2 4 rfl rfl)
theorem dX2_bulletin_51 : decode cX2_bulletin 51 = .ok (.imul, 1) := dk_104 (dk_at dksX2_bulletin_2 5 rfl rfl)
theorem dX2_bulletin_52 : decode cX2_bulletin 52 = .ok (.iadd, 1) := dk_96 (dk_at dksX2_bulletin_2 6 rfl rfl)
theorem dX2_bulletin_53 : decode cX2_bulletin 53 = .ok (.iload_n 2, 1) := dk_28 (dk_at dksX2_bulletin_2 7 rfl rfl)
theorem dX2_bulletin_54 : decode cX2_bulletin 54 = .ok (.iadd, 1) := dk_96 (dk_at dksX2_bulletin_2 8 rfl rfl)
theorem dX2_bulletin_55 : decode cX2_bulletin 55 = .ok (.iaload, 1) := dk_46 (dk_at dksX2_bulletin_2 9 rfl rfl)
theorem dX2_bulletin_56 : decode cX2_bulletin 56 = .ok (.ireturn, 1) := dk_172 (dk_at dksX2_bulletin_2 10 rfl rfl)
abbrev cX2_bulletins : ByteArray := prog_20_method_114_code
def yX2_bulletins : MethodName := ⟨RX2, "bulletins", "()I"⟩
def dkwX2_bulletins_0 : List UInt8 := [16, 10, 42, 180, 0, 9, 16, 95, 46, 184, 1, 7, 172]
abbrev dktX2_bulletins_0 : List UInt8 := dkwX2_bulletins_0 ++ []
theorem dksX2_bulletins_0 : cX2_bulletins.data.toList.drop 0 = dktX2_bulletins_0 := by decide +kernel
theorem dX2_bulletins_0 : decode cX2_bulletins 0 = .ok (.bipush 10, 2) := dk_16 10 (dk_at dksX2_bulletins_0 0 rfl rfl)
theorem dX2_bulletins_2 : decode cX2_bulletins 2 = .ok (.aload_n 0, 1) := dk_42 (dk_at dksX2_bulletins_0 2 rfl rfl)
theorem dX2_bulletins_3 : decode cX2_bulletins 3 = .ok (.getfield 9, 3) := dk_180 0 9 (dk_at dksX2_bulletins_0 3 rfl rfl)
theorem dX2_bulletins_6 : decode cX2_bulletins 6 = .ok (.bipush 95, 2) := dk_16 95 (dk_at dksX2_bulletins_0 6 rfl rfl)
theorem dX2_bulletins_8 : decode cX2_bulletins 8 = .ok (.iaload, 1) := dk_46 (dk_at dksX2_bulletins_0 8 rfl rfl)
theorem dX2_bulletins_9 : decode cX2_bulletins 9 = .ok (.invokestatic 263, 3) := dk_184 1 7 (dk_at dksX2_bulletins_0 9 rfl rfl)
theorem dX2_bulletins_12 : decode cX2_bulletins 12 = .ok (.ireturn, 1) := dk_172 (dk_at dksX2_bulletins_0 12 rfl rfl)
abbrev cX2_closesIn : ByteArray := prog_20_method_119_code
def yX2_closesIn : MethodName := ⟨RX2, "closesIn", "(II)I"⟩
def dkwX2_closesIn_0 : List UInt8 := [42, 27, 28, 182, 1, 76, 153, 0, 13, 42, 27, 28, 4, 182, 1, 103, 167, 0, 4, 3, 172]
abbrev dktX2_closesIn_0 : List UInt8 := dkwX2_closesIn_0 ++ []
theorem dksX2_closesIn_0 : cX2_closesIn.data.toList.drop 0 = dktX2_closesIn_0 := by decide +kernel
theorem dX2_closesIn_0 : decode cX2_closesIn 0 = .ok (.aload_n 0, 1) := dk_42 (dk_at dksX2_closesIn_0 0 rfl rfl)
theorem dX2_closesIn_1 : decode cX2_closesIn 1 = .ok (.iload_n 1, 1) := dk_27 (dk_at dksX2_closesIn_0 1 rfl rfl)
theorem dX2_closesIn_2 : decode cX2_closesIn 2 = .ok (.iload_n 2, 1) := dk_28 (dk_at dksX2_closesIn_0 2 rfl rfl)
theorem dX2_closesIn_3 : decode cX2_closesIn 3 = .ok (.invokevirtual 332, 3) := dk_182 1 76 (dk_at dksX2_closesIn_0 3 rfl rfl)
theorem dX2_closesIn_6 : decode cX2_closesIn 6 = .ok (.ifCond .eq 13, 3) := dk_153 0 13 (dk_at dksX2_closesIn_0 6 rfl rfl)
theorem dX2_closesIn_9 : decode cX2_closesIn 9 = .ok (.aload_n 0, 1) := dk_42 (dk_at dksX2_closesIn_0 9 rfl rfl)
theorem dX2_closesIn_10 : decode cX2_closesIn 10 = .ok (.iload_n 1, 1) := dk_27 (dk_at dksX2_closesIn_0 10 rfl rfl)
theorem dX2_closesIn_11 : decode cX2_closesIn 11 = .ok (.iload_n 2, 1) := dk_28 (dk_at dksX2_closesIn_0 11 rfl rfl)
theorem dX2_closesIn_12 : decode cX2_closesIn 12 = .ok (.iconst 1, 1) := dk_4 (dk_at dksX2_closesIn_0 12 rfl rfl)
theorem dX2_closesIn_13 : decode cX2_closesIn 13 = .ok (.invokevirtual 359, 3) := dk_182 1 103 (dk_at dksX2_closesIn_0 13 rfl rfl)
theorem dX2_closesIn_16 : decode cX2_closesIn 16 = .ok (.goto 4, 3) := dk_167 0 4 (dk_at dksX2_closesIn_0 16 rfl rfl)
theorem dX2_closesIn_19 : decode cX2_closesIn 19 = .ok (.iconst 0, 1) := dk_3 (dk_at dksX2_closesIn_0 19 rfl rfl)
theorem dX2_closesIn_20 : decode cX2_closesIn 20 = .ok (.ireturn, 1) := dk_172 (dk_at dksX2_closesIn_0 20 rfl rfl)
abbrev cX2_holdsIn : ByteArray := prog_20_method_118_code
def yX2_holdsIn : MethodName := ⟨RX2, "holdsIn", "(IIZ)I"⟩
def dkwX2_holdsIn_2 : List UInt8 := [182, 1, 100, 172]
abbrev dktX2_holdsIn_2 : List UInt8 := dkwX2_holdsIn_2 ++ []
def dkwX2_holdsIn_1 : List UInt8 := [160, 0, 10, 42, 21, 4, 182, 1, 100, 172, 42, 182, 1, 16, 132, 4, 1, 167, 255, 224, 42, 2]
abbrev dktX2_holdsIn_1 : List UInt8 := dkwX2_holdsIn_1 ++ dktX2_holdsIn_2
def dkwX2_holdsIn_0 : List UInt8 := [42, 182, 1, 97, 3, 54, 4, 21, 4, 17, 0, 200, 163, 0, 30, 42, 27, 28, 182, 0, 248, 29]
abbrev dktX2_holdsIn_0 : List UInt8 := dkwX2_holdsIn_0 ++ dktX2_holdsIn_1
theorem dksX2_holdsIn_0 : cX2_holdsIn.data.toList.drop 0 = dktX2_holdsIn_0 := by decide +kernel
theorem dksX2_holdsIn_1 : cX2_holdsIn.data.toList.drop 22 = dktX2_holdsIn_1 := dk_seg dksX2_holdsIn_0 22 rfl rfl
theorem dksX2_holdsIn_2 : cX2_holdsIn.data.toList.drop 44 = dktX2_holdsIn_2 := dk_seg dksX2_holdsIn_1 22 rfl rfl
theorem dX2_holdsIn_0 : decode cX2_holdsIn 0 = .ok (.aload_n 0, 1) := dk_42 (dk_at dksX2_holdsIn_0 0 rfl rfl)
theorem dX2_holdsIn_1 : decode cX2_holdsIn 1 = .ok (.invokevirtual 353, 3) := dk_182 1 97 (dk_at dksX2_holdsIn_0 1 rfl rfl)
theorem dX2_holdsIn_4 : decode cX2_holdsIn 4 = .ok (.iconst 0, 1) := dk_3 (dk_at dksX2_holdsIn_0 4 rfl rfl)
theorem dX2_holdsIn_5 : decode cX2_holdsIn 5 = .ok (.istore 4, 2) := dk_54 4 (dk_at dksX2_holdsIn_0 5 rfl rfl)
theorem dX2_holdsIn_7 : decode cX2_holdsIn 7 = .ok (.iload 4, 2) := dk_21 4 (dk_at dksX2_holdsIn_0 7 rfl rfl)
theorem dX2_holdsIn_9 : decode cX2_holdsIn 9 = .ok (.sipush 200, 3) := dk_17 0 200 (dk_at dksX2_holdsIn_0 9 rfl rfl)
theorem dX2_holdsIn_12 : decode cX2_holdsIn 12 = .ok (.if_icmp .gt 30, 3) := dk_163 0 30 (dk_at dksX2_holdsIn_0 12 rfl rfl)
theorem dX2_holdsIn_15 : decode cX2_holdsIn 15 = .ok (.aload_n 0, 1) := dk_42 (dk_at dksX2_holdsIn_0 15 rfl rfl)
theorem dX2_holdsIn_16 : decode cX2_holdsIn 16 = .ok (.iload_n 1, 1) := dk_27 (dk_at dksX2_holdsIn_0 16 rfl rfl)
theorem dX2_holdsIn_17 : decode cX2_holdsIn 17 = .ok (.iload_n 2, 1) := dk_28 (dk_at dksX2_holdsIn_0 17 rfl rfl)
theorem dX2_holdsIn_18 : decode cX2_holdsIn 18 = .ok (.invokevirtual 248, 3) := dk_182 0 248 (dk_at dksX2_holdsIn_0 18 rfl rfl)
theorem dX2_holdsIn_21 : decode cX2_holdsIn 21 = .ok (.iload_n 3, 1) := dk_29 (dk_at dksX2_holdsIn_0 21 rfl rfl)
theorem dX2_holdsIn_22 : decode cX2_holdsIn 22 = .ok (.if_icmp .ne 10, 3) := dk_160 0 10 (dk_at dksX2_holdsIn_1 0 rfl rfl)
theorem dX2_holdsIn_25 : decode cX2_holdsIn 25 = .ok (.aload_n 0, 1) := dk_42 (dk_at dksX2_holdsIn_1 3 rfl rfl)
theorem dX2_holdsIn_26 : decode cX2_holdsIn 26 = .ok (.iload 4, 2) := dk_21 4 (dk_at dksX2_holdsIn_1 4 rfl rfl)
theorem dX2_holdsIn_28 : decode cX2_holdsIn 28 = .ok (.invokevirtual 356, 3) := dk_182 1 100 (dk_at dksX2_holdsIn_1 6 rfl rfl)
theorem dX2_holdsIn_31 : decode cX2_holdsIn 31 = .ok (.ireturn, 1) := dk_172 (dk_at dksX2_holdsIn_1 9 rfl rfl)
theorem dX2_holdsIn_32 : decode cX2_holdsIn 32 = .ok (.aload_n 0, 1) := dk_42 (dk_at dksX2_holdsIn_1 10 rfl rfl)
theorem dX2_holdsIn_33 : decode cX2_holdsIn 33 = .ok (.invokevirtual 272, 3) := dk_182 1 16 (dk_at dksX2_holdsIn_1 11 rfl rfl)
theorem dX2_holdsIn_36 : decode cX2_holdsIn 36 = .ok (.iinc 4 1, 3) := dk_132 4 1 (dk_at dksX2_holdsIn_1 14 rfl rfl)
theorem dX2_holdsIn_39 : decode cX2_holdsIn 39 = .ok (.goto (-32), 3) := dk_167 255 224 (dk_at dksX2_holdsIn_1 17 rfl rfl)
theorem dX2_holdsIn_42 : decode cX2_holdsIn 42 = .ok (.aload_n 0, 1) := dk_42 (dk_at dksX2_holdsIn_1 20 rfl rfl)
theorem dX2_holdsIn_43 : decode cX2_holdsIn 43 = .ok (.iconst (-1), 1) := dk_2 (dk_at dksX2_holdsIn_1 21 rfl rfl)
theorem dX2_holdsIn_44 : decode cX2_holdsIn 44 = .ok (.invokevirtual 356, 3) := dk_182 1 100 (dk_at dksX2_holdsIn_2 0 rfl rfl)
theorem dX2_holdsIn_47 : decode cX2_holdsIn 47 = .ok (.ireturn, 1) := dk_172 (dk_at dksX2_holdsIn_2 3 rfl rfl)
abbrev cX2_thinks : ByteArray := prog_20_method_116_code
def yX2_thinks : MethodName := ⟨RX2, "thinks", "()V"⟩
def dkwX2_thinks_0 : List UInt8 := [42, 180, 0, 9, 3, 42, 180, 0, 13, 3, 184, 0, 177, 177]
abbrev dktX2_thinks_0 : List UInt8 := dkwX2_thinks_0 ++ []
theorem dksX2_thinks_0 : cX2_thinks.data.toList.drop 0 = dktX2_thinks_0 := by decide +kernel
theorem dX2_thinks_0 : decode cX2_thinks 0 = .ok (.aload_n 0, 1) := dk_42 (dk_at dksX2_thinks_0 0 rfl rfl)
theorem dX2_thinks_1 : decode cX2_thinks 1 = .ok (.getfield 9, 3) := dk_180 0 9 (dk_at dksX2_thinks_0 1 rfl rfl)
theorem dX2_thinks_4 : decode cX2_thinks 4 = .ok (.iconst 0, 1) := dk_3 (dk_at dksX2_thinks_0 4 rfl rfl)
theorem dX2_thinks_5 : decode cX2_thinks 5 = .ok (.aload_n 0, 1) := dk_42 (dk_at dksX2_thinks_0 5 rfl rfl)
theorem dX2_thinks_6 : decode cX2_thinks 6 = .ok (.getfield 13, 3) := dk_180 0 13 (dk_at dksX2_thinks_0 6 rfl rfl)
theorem dX2_thinks_9 : decode cX2_thinks 9 = .ok (.iconst 0, 1) := dk_3 (dk_at dksX2_thinks_0 9 rfl rfl)
theorem dX2_thinks_10 : decode cX2_thinks 10 = .ok (.invokestatic 177, 3) := dk_184 0 177 (dk_at dksX2_thinks_0 10 rfl rfl)
theorem dX2_thinks_13 : decode cX2_thinks 13 = .ok (.return_, 1) := dk_177 (dk_at dksX2_thinks_0 13 rfl rfl)
abbrev cX2_back : ByteArray := prog_20_method_117_code
def yX2_back : MethodName := ⟨RX2, "back", "(I)I"⟩
def dkwX2_back_0 : List UInt8 := [42, 180, 0, 13, 3, 42, 180, 0, 9, 3, 184, 0, 177, 27, 172]
abbrev dktX2_back_0 : List UInt8 := dkwX2_back_0 ++ []
theorem dksX2_back_0 : cX2_back.data.toList.drop 0 = dktX2_back_0 := by decide +kernel
theorem dX2_back_0 : decode cX2_back 0 = .ok (.aload_n 0, 1) := dk_42 (dk_at dksX2_back_0 0 rfl rfl)
theorem dX2_back_1 : decode cX2_back 1 = .ok (.getfield 13, 3) := dk_180 0 13 (dk_at dksX2_back_0 1 rfl rfl)
theorem dX2_back_4 : decode cX2_back 4 = .ok (.iconst 0, 1) := dk_3 (dk_at dksX2_back_0 4 rfl rfl)
theorem dX2_back_5 : decode cX2_back 5 = .ok (.aload_n 0, 1) := dk_42 (dk_at dksX2_back_0 5 rfl rfl)
theorem dX2_back_6 : decode cX2_back 6 = .ok (.getfield 9, 3) := dk_180 0 9 (dk_at dksX2_back_0 6 rfl rfl)
theorem dX2_back_9 : decode cX2_back 9 = .ok (.iconst 0, 1) := dk_3 (dk_at dksX2_back_0 9 rfl rfl)
theorem dX2_back_10 : decode cX2_back 10 = .ok (.invokestatic 177, 3) := dk_184 0 177 (dk_at dksX2_back_0 10 rfl rfl)
theorem dX2_back_13 : decode cX2_back 13 = .ok (.iload_n 1, 1) := dk_27 (dk_at dksX2_back_0 13 rfl rfl)
theorem dX2_back_14 : decode cX2_back 14 = .ok (.ireturn, 1) := dk_172 (dk_at dksX2_back_0 14 rfl rfl)
abbrev cX2_ticks : ByteArray := prog_20_method_64_code
def yX2_ticks : MethodName := ⟨RX2, "ticks", "()V"⟩
def dkwX2_ticks_2 : List UInt8 := [132, 2, 1, 167, 255, 236, 132, 1, 1, 167, 255, 217, 177]
abbrev dktX2_ticks_2 : List UInt8 := dkwX2_ticks_2 ++ []
def dkwX2_ticks_1 : List UInt8 := [46, 162, 0, 34, 3, 61, 28, 42, 180, 0, 9, 16, 7, 46, 162, 0, 15, 42, 27, 28, 182, 1, 13]
abbrev dktX2_ticks_1 : List UInt8 := dkwX2_ticks_1 ++ dktX2_ticks_2
def dkwX2_ticks_0 : List UInt8 := [42, 180, 0, 9, 16, 90, 92, 46, 4, 96, 79, 42, 182, 1, 10, 3, 60, 27, 42, 180, 0, 9, 16, 6]
abbrev dktX2_ticks_0 : List UInt8 := dkwX2_ticks_0 ++ dktX2_ticks_1
theorem dksX2_ticks_0 : cX2_ticks.data.toList.drop 0 = dktX2_ticks_0 := by decide +kernel
theorem dksX2_ticks_1 : cX2_ticks.data.toList.drop 24 = dktX2_ticks_1 := dk_seg dksX2_ticks_0 24 rfl rfl
theorem dksX2_ticks_2 : cX2_ticks.data.toList.drop 47 = dktX2_ticks_2 := dk_seg dksX2_ticks_1 23 rfl rfl
theorem dX2_ticks_0 : decode cX2_ticks 0 = .ok (.aload_n 0, 1) := dk_42 (dk_at dksX2_ticks_0 0 rfl rfl)
theorem dX2_ticks_1 : decode cX2_ticks 1 = .ok (.getfield 9, 3) := dk_180 0 9 (dk_at dksX2_ticks_0 1 rfl rfl)
theorem dX2_ticks_4 : decode cX2_ticks 4 = .ok (.bipush 90, 2) := dk_16 90 (dk_at dksX2_ticks_0 4 rfl rfl)
theorem dX2_ticks_6 : decode cX2_ticks 6 = .ok (.dup2, 1) := dk_92 (dk_at dksX2_ticks_0 6 rfl rfl)
theorem dX2_ticks_7 : decode cX2_ticks 7 = .ok (.iaload, 1) := dk_46 (dk_at dksX2_ticks_0 7 rfl rfl)
theorem dX2_ticks_8 : decode cX2_ticks 8 = .ok (.iconst 1, 1) := dk_4 (dk_at dksX2_ticks_0 8 rfl rfl)
theorem dX2_ticks_9 : decode cX2_ticks 9 = .ok (.iadd, 1) := dk_96 (dk_at dksX2_ticks_0 9 rfl rfl)
theorem dX2_ticks_10 : decode cX2_ticks 10 = .ok (.iastore, 1) := dk_79 (dk_at dksX2_ticks_0 10 rfl rfl)
theorem dX2_ticks_11 : decode cX2_ticks 11 = .ok (.aload_n 0, 1) := dk_42 (dk_at dksX2_ticks_0 11 rfl rfl)
theorem dX2_ticks_12 : decode cX2_ticks 12 = .ok (.invokevirtual 266, 3) := dk_182 1 10 (dk_at dksX2_ticks_0 12 rfl rfl)
theorem dX2_ticks_15 : decode cX2_ticks 15 = .ok (.iconst 0, 1) := dk_3 (dk_at dksX2_ticks_0 15 rfl rfl)
theorem dX2_ticks_16 : decode cX2_ticks 16 = .ok (.istore_n 1, 1) := dk_60 (dk_at dksX2_ticks_0 16 rfl rfl)
theorem dX2_ticks_17 : decode cX2_ticks 17 = .ok (.iload_n 1, 1) := dk_27 (dk_at dksX2_ticks_0 17 rfl rfl)
theorem dX2_ticks_18 : decode cX2_ticks 18 = .ok (.aload_n 0, 1) := dk_42 (dk_at dksX2_ticks_0 18 rfl rfl)
theorem dX2_ticks_19 : decode cX2_ticks 19 = .ok (.getfield 9, 3) := dk_180 0 9 (dk_at dksX2_ticks_0 19 rfl rfl)
theorem dX2_ticks_22 : decode cX2_ticks 22 = .ok (.bipush 6, 2) := dk_16 6 (dk_at dksX2_ticks_0 22 rfl rfl)
theorem dX2_ticks_24 : decode cX2_ticks 24 = .ok (.iaload, 1) := dk_46 (dk_at dksX2_ticks_1 0 rfl rfl)
theorem dX2_ticks_25 : decode cX2_ticks 25 = .ok (.if_icmp .ge 34, 3) := dk_162 0 34 (dk_at dksX2_ticks_1 1 rfl rfl)
theorem dX2_ticks_28 : decode cX2_ticks 28 = .ok (.iconst 0, 1) := dk_3 (dk_at dksX2_ticks_1 4 rfl rfl)
theorem dX2_ticks_29 : decode cX2_ticks 29 = .ok (.istore_n 2, 1) := dk_61 (dk_at dksX2_ticks_1 5 rfl rfl)
theorem dX2_ticks_30 : decode cX2_ticks 30 = .ok (.iload_n 2, 1) := dk_28 (dk_at dksX2_ticks_1 6 rfl rfl)
theorem dX2_ticks_31 : decode cX2_ticks 31 = .ok (.aload_n 0, 1) := dk_42 (dk_at dksX2_ticks_1 7 rfl rfl)
theorem dX2_ticks_32 : decode cX2_ticks 32 = .ok (.getfield 9, 3) := dk_180 0 9 (dk_at dksX2_ticks_1 8 rfl rfl)
theorem dX2_ticks_35 : decode cX2_ticks 35 = .ok (.bipush 7, 2) := dk_16 7 (dk_at dksX2_ticks_1 11 rfl rfl)
theorem dX2_ticks_37 : decode cX2_ticks 37 = .ok (.iaload, 1) := dk_46 (dk_at dksX2_ticks_1 13 rfl rfl)
theorem dX2_ticks_38 : decode cX2_ticks 38 = .ok (.if_icmp .ge 15, 3) := dk_162 0 15 (dk_at dksX2_ticks_1 14 rfl rfl)
theorem dX2_ticks_41 : decode cX2_ticks 41 = .ok (.aload_n 0, 1) := dk_42 (dk_at dksX2_ticks_1 17 rfl rfl)
theorem dX2_ticks_42 : decode cX2_ticks 42 = .ok (.iload_n 1, 1) := dk_27 (dk_at dksX2_ticks_1 18 rfl rfl)
theorem dX2_ticks_43 : decode cX2_ticks 43 = .ok (.iload_n 2, 1) := dk_28 (dk_at dksX2_ticks_1 19 rfl rfl)
theorem dX2_ticks_44 : decode cX2_ticks 44 = .ok (.invokevirtual 269, 3) := dk_182 1 13 (dk_at dksX2_ticks_1 20 rfl rfl)
theorem dX2_ticks_47 : decode cX2_ticks 47 = .ok (.iinc 2 1, 3) := dk_132 2 1 (dk_at dksX2_ticks_2 0 rfl rfl)
theorem dX2_ticks_50 : decode cX2_ticks 50 = .ok (.goto (-20), 3) := dk_167 255 236 (dk_at dksX2_ticks_2 3 rfl rfl)
theorem dX2_ticks_53 : decode cX2_ticks 53 = .ok (.iinc 1 1, 3) := dk_132 1 1 (dk_at dksX2_ticks_2 6 rfl rfl)
theorem dX2_ticks_56 : decode cX2_ticks 56 = .ok (.goto (-39), 3) := dk_167 255 217 (dk_at dksX2_ticks_2 9 rfl rfl)
theorem dX2_ticks_59 : decode cX2_ticks 59 = .ok (.return_, 1) := dk_177 (dk_at dksX2_ticks_2 12 rfl rfl)
abbrev cX2_forgets : ByteArray := prog_20_method_62_code
def yX2_forgets : MethodName := ⟨RX2, "forgets", "()V"⟩
def dkwX2_forgets_2 : List UInt8 := [180, 0, 9, 27, 3, 79, 132, 1, 1, 167, 255, 204, 177]
abbrev dktX2_forgets_2 : List UInt8 := dkwX2_forgets_2 ++ []
def dkwX2_forgets_1 : List UInt8 := [16, 90, 46, 42, 180, 0, 9, 27, 46, 184, 0, 254, 100, 42, 180, 0, 9, 4, 46, 161, 0, 10, 42]
abbrev dktX2_forgets_1 : List UInt8 := dkwX2_forgets_1 ++ dktX2_forgets_2
def dkwX2_forgets_0 : List UInt8 := [17, 1, 2, 60, 27, 17, 4, 34, 162, 0, 51, 42, 180, 0, 9, 27, 46, 158, 0, 36, 42, 180, 0, 9]
abbrev dktX2_forgets_0 : List UInt8 := dkwX2_forgets_0 ++ dktX2_forgets_1
theorem dksX2_forgets_0 : cX2_forgets.data.toList.drop 0 = dktX2_forgets_0 := by decide +kernel
theorem dksX2_forgets_1 : cX2_forgets.data.toList.drop 24 = dktX2_forgets_1 := dk_seg dksX2_forgets_0 24 rfl rfl
theorem dksX2_forgets_2 : cX2_forgets.data.toList.drop 47 = dktX2_forgets_2 := dk_seg dksX2_forgets_1 23 rfl rfl
theorem dX2_forgets_0 : decode cX2_forgets 0 = .ok (.sipush 258, 3) := dk_17 1 2 (dk_at dksX2_forgets_0 0 rfl rfl)
theorem dX2_forgets_3 : decode cX2_forgets 3 = .ok (.istore_n 1, 1) := dk_60 (dk_at dksX2_forgets_0 3 rfl rfl)
theorem dX2_forgets_4 : decode cX2_forgets 4 = .ok (.iload_n 1, 1) := dk_27 (dk_at dksX2_forgets_0 4 rfl rfl)
theorem dX2_forgets_5 : decode cX2_forgets 5 = .ok (.sipush 1058, 3) := dk_17 4 34 (dk_at dksX2_forgets_0 5 rfl rfl)
theorem dX2_forgets_8 : decode cX2_forgets 8 = .ok (.if_icmp .ge 51, 3) := dk_162 0 51 (dk_at dksX2_forgets_0 8 rfl rfl)
theorem dX2_forgets_11 : decode cX2_forgets 11 = .ok (.aload_n 0, 1) := dk_42 (dk_at dksX2_forgets_0 11 rfl rfl)
theorem dX2_forgets_12 : decode cX2_forgets 12 = .ok (.getfield 9, 3) := dk_180 0 9 (dk_at dksX2_forgets_0 12 rfl rfl)
theorem dX2_forgets_15 : decode cX2_forgets 15 = .ok (.iload_n 1, 1) := dk_27 (dk_at dksX2_forgets_0 15 rfl rfl)
theorem dX2_forgets_16 : decode cX2_forgets 16 = .ok (.iaload, 1) := dk_46 (dk_at dksX2_forgets_0 16 rfl rfl)
theorem dX2_forgets_17 : decode cX2_forgets 17 = .ok (.ifCond .le 36, 3) := dk_158 0 36 (dk_at dksX2_forgets_0 17 rfl rfl)
theorem dX2_forgets_20 : decode cX2_forgets 20 = .ok (.aload_n 0, 1) := dk_42 (dk_at dksX2_forgets_0 20 rfl rfl)
theorem dX2_forgets_21 : decode cX2_forgets 21 = .ok (.getfield 9, 3) := dk_180 0 9 (dk_at dksX2_forgets_0 21 rfl rfl)
theorem dX2_forgets_24 : decode cX2_forgets 24 = .ok (.bipush 90, 2) := dk_16 90 (dk_at dksX2_forgets_1 0 rfl rfl)
theorem dX2_forgets_26 : decode cX2_forgets 26 = .ok (.iaload, 1) := dk_46 (dk_at dksX2_forgets_1 2 rfl rfl)
theorem dX2_forgets_27 : decode cX2_forgets 27 = .ok (.aload_n 0, 1) := dk_42 (dk_at dksX2_forgets_1 3 rfl rfl)
theorem dX2_forgets_28 : decode cX2_forgets 28 = .ok (.getfield 9, 3) := dk_180 0 9 (dk_at dksX2_forgets_1 4 rfl rfl)
theorem dX2_forgets_31 : decode cX2_forgets 31 = .ok (.iload_n 1, 1) := dk_27 (dk_at dksX2_forgets_1 7 rfl rfl)
theorem dX2_forgets_32 : decode cX2_forgets 32 = .ok (.iaload, 1) := dk_46 (dk_at dksX2_forgets_1 8 rfl rfl)
theorem dX2_forgets_33 : decode cX2_forgets 33 = .ok (.invokestatic 254, 3) := dk_184 0 254 (dk_at dksX2_forgets_1 9 rfl rfl)
theorem dX2_forgets_36 : decode cX2_forgets 36 = .ok (.isub, 1) := dk_100 (dk_at dksX2_forgets_1 12 rfl rfl)
theorem dX2_forgets_37 : decode cX2_forgets 37 = .ok (.aload_n 0, 1) := dk_42 (dk_at dksX2_forgets_1 13 rfl rfl)
theorem dX2_forgets_38 : decode cX2_forgets 38 = .ok (.getfield 9, 3) := dk_180 0 9 (dk_at dksX2_forgets_1 14 rfl rfl)
theorem dX2_forgets_41 : decode cX2_forgets 41 = .ok (.iconst 1, 1) := dk_4 (dk_at dksX2_forgets_1 17 rfl rfl)
theorem dX2_forgets_42 : decode cX2_forgets 42 = .ok (.iaload, 1) := dk_46 (dk_at dksX2_forgets_1 18 rfl rfl)
theorem dX2_forgets_43 : decode cX2_forgets 43 = .ok (.if_icmp .lt 10, 3) := dk_161 0 10 (dk_at dksX2_forgets_1 19 rfl rfl)
theorem dX2_forgets_46 : decode cX2_forgets 46 = .ok (.aload_n 0, 1) := dk_42 (dk_at dksX2_forgets_1 22 rfl rfl)
theorem dX2_forgets_47 : decode cX2_forgets 47 = .ok (.getfield 9, 3) := dk_180 0 9 (dk_at dksX2_forgets_2 0 rfl rfl)
theorem dX2_forgets_50 : decode cX2_forgets 50 = .ok (.iload_n 1, 1) := dk_27 (dk_at dksX2_forgets_2 3 rfl rfl)
theorem dX2_forgets_51 : decode cX2_forgets 51 = .ok (.iconst 0, 1) := dk_3 (dk_at dksX2_forgets_2 4 rfl rfl)
theorem dX2_forgets_52 : decode cX2_forgets 52 = .ok (.iastore, 1) := dk_79 (dk_at dksX2_forgets_2 5 rfl rfl)
theorem dX2_forgets_53 : decode cX2_forgets 53 = .ok (.iinc 1 1, 3) := dk_132 1 1 (dk_at dksX2_forgets_2 6 rfl rfl)
theorem dX2_forgets_56 : decode cX2_forgets 56 = .ok (.goto (-52), 3) := dk_167 255 204 (dk_at dksX2_forgets_2 9 rfl rfl)
theorem dX2_forgets_59 : decode cX2_forgets 59 = .ok (.return_, 1) := dk_177 (dk_at dksX2_forgets_2 12 rfl rfl)
abbrev cX2_judges : ByteArray := prog_20_method_63_code
def yX2_judges : MethodName := ⟨RX2, "judges", "(II)V"⟩
def dkwX2_judges_6 : List UInt8 := [17, 0, 138, 27, 96, 92, 46, 4, 28, 120, 100, 79, 42, 180, 0, 9, 16, 93, 92, 46, 4, 96, 79, 177]
abbrev dktX2_judges_6 : List UInt8 := dkwX2_judges_6 ++ []
def dkwX2_judges_5 : List UInt8 := [182, 0, 248, 153, 0, 42, 21, 5, 42, 180, 0, 9, 7, 46, 116, 163, 0, 30, 42, 180, 0, 9]
abbrev dktX2_judges_5 : List UInt8 := dkwX2_judges_5 ++ dktX2_judges_6
def dkwX2_judges_4 : List UInt8 := [46, 4, 28, 120, 96, 79, 42, 180, 0, 9, 16, 92, 92, 46, 4, 96, 79, 167, 0, 51, 42, 27, 28]
abbrev dktX2_judges_4 : List UInt8 := dkwX2_judges_4 ++ dktX2_judges_5
def dkwX2_judges_3 : List UInt8 := [154, 0, 44, 21, 5, 42, 180, 0, 9, 6, 46, 161, 0, 33, 42, 180, 0, 9, 17, 0, 138, 27, 96, 92]
abbrev dktX2_judges_3 : List UInt8 := dkwX2_judges_3 ++ dktX2_judges_4
def dkwX2_judges_2 : List UInt8 := [42, 180, 0, 9, 17, 0, 178, 16, 8, 27, 104, 96, 28, 96, 21, 5, 79, 42, 27, 28, 182, 0, 248]
abbrev dktX2_judges_2 : List UInt8 := dkwX2_judges_2 ++ dktX2_judges_3
def dkwX2_judges_1 : List UInt8 := [158, 0, 14, 3, 21, 4, 184, 0, 199, 4, 96, 167, 0, 11, 3, 21, 4, 184, 1, 7, 4, 100, 54, 5]
abbrev dktX2_judges_1 : List UInt8 := dkwX2_judges_1 ++ dktX2_judges_2
def dkwX2_judges_0 : List UInt8 := [42, 27, 28, 182, 1, 1, 62, 42, 27, 28, 182, 1, 4, 54, 4, 29, 154, 0, 7, 3, 167, 0, 26, 29]
abbrev dktX2_judges_0 : List UInt8 := dkwX2_judges_0 ++ dktX2_judges_1
theorem dksX2_judges_0 : cX2_judges.data.toList.drop 0 = dktX2_judges_0 := by decide +kernel
theorem dksX2_judges_1 : cX2_judges.data.toList.drop 24 = dktX2_judges_1 := dk_seg dksX2_judges_0 24 rfl rfl
theorem dksX2_judges_2 : cX2_judges.data.toList.drop 48 = dktX2_judges_2 := dk_seg dksX2_judges_1 24 rfl rfl
theorem dksX2_judges_3 : cX2_judges.data.toList.drop 71 = dktX2_judges_3 := dk_seg dksX2_judges_2 23 rfl rfl
theorem dksX2_judges_4 : cX2_judges.data.toList.drop 95 = dktX2_judges_4 := dk_seg dksX2_judges_3 24 rfl rfl
theorem dksX2_judges_5 : cX2_judges.data.toList.drop 118 = dktX2_judges_5 := dk_seg dksX2_judges_4 23 rfl rfl
theorem dksX2_judges_6 : cX2_judges.data.toList.drop 140 = dktX2_judges_6 := dk_seg dksX2_judges_5 22 rfl rfl
theorem dX2_judges_0 : decode cX2_judges 0 = .ok (.aload_n 0, 1) := dk_42 (dk_at dksX2_judges_0 0 rfl rfl)
theorem dX2_judges_1 : decode cX2_judges 1 = .ok (.iload_n 1, 1) := dk_27 (dk_at dksX2_judges_0 1 rfl rfl)
theorem dX2_judges_2 : decode cX2_judges 2 = .ok (.iload_n 2, 1) := dk_28 (dk_at dksX2_judges_0 2 rfl rfl)
theorem dX2_judges_3 : decode cX2_judges 3 = .ok (.invokevirtual 257, 3) := dk_182 1 1 (dk_at dksX2_judges_0 3 rfl rfl)
theorem dX2_judges_6 : decode cX2_judges 6 = .ok (.istore_n 3, 1) := dk_62 (dk_at dksX2_judges_0 6 rfl rfl)
theorem dX2_judges_7 : decode cX2_judges 7 = .ok (.aload_n 0, 1) := dk_42 (dk_at dksX2_judges_0 7 rfl rfl)
theorem dX2_judges_8 : decode cX2_judges 8 = .ok (.iload_n 1, 1) := dk_27 (dk_at dksX2_judges_0 8 rfl rfl)
theorem dX2_judges_9 : decode cX2_judges 9 = .ok (.iload_n 2, 1) := dk_28 (dk_at dksX2_judges_0 9 rfl rfl)
theorem dX2_judges_10 : decode cX2_judges 10 = .ok (.invokevirtual 260, 3) := dk_182 1 4 (dk_at dksX2_judges_0 10 rfl rfl)
theorem dX2_judges_13 : decode cX2_judges 13 = .ok (.istore 4, 2) := dk_54 4 (dk_at dksX2_judges_0 13 rfl rfl)
theorem dX2_judges_15 : decode cX2_judges 15 = .ok (.iload_n 3, 1) := dk_29 (dk_at dksX2_judges_0 15 rfl rfl)
theorem dX2_judges_16 : decode cX2_judges 16 = .ok (.ifCond .ne 7, 3) := dk_154 0 7 (dk_at dksX2_judges_0 16 rfl rfl)
theorem dX2_judges_19 : decode cX2_judges 19 = .ok (.iconst 0, 1) := dk_3 (dk_at dksX2_judges_0 19 rfl rfl)
theorem dX2_judges_20 : decode cX2_judges 20 = .ok (.goto 26, 3) := dk_167 0 26 (dk_at dksX2_judges_0 20 rfl rfl)
theorem dX2_judges_23 : decode cX2_judges 23 = .ok (.iload_n 3, 1) := dk_29 (dk_at dksX2_judges_0 23 rfl rfl)
theorem dX2_judges_24 : decode cX2_judges 24 = .ok (.ifCond .le 14, 3) := dk_158 0 14 (dk_at dksX2_judges_1 0 rfl rfl)
theorem dX2_judges_27 : decode cX2_judges 27 = .ok (.iconst 0, 1) := dk_3 (dk_at dksX2_judges_1 3 rfl rfl)
theorem dX2_judges_28 : decode cX2_judges 28 = .ok (.iload 4, 2) := dk_21 4 (dk_at dksX2_judges_1 4 rfl rfl)
theorem dX2_judges_30 : decode cX2_judges 30 = .ok (.invokestatic 199, 3) := dk_184 0 199 (dk_at dksX2_judges_1 6 rfl rfl)
theorem dX2_judges_33 : decode cX2_judges 33 = .ok (.iconst 1, 1) := dk_4 (dk_at dksX2_judges_1 9 rfl rfl)
theorem dX2_judges_34 : decode cX2_judges 34 = .ok (.iadd, 1) := dk_96 (dk_at dksX2_judges_1 10 rfl rfl)
theorem dX2_judges_35 : decode cX2_judges 35 = .ok (.goto 11, 3) := dk_167 0 11 (dk_at dksX2_judges_1 11 rfl rfl)
theorem dX2_judges_38 : decode cX2_judges 38 = .ok (.iconst 0, 1) := dk_3 (dk_at dksX2_judges_1 14 rfl rfl)
theorem dX2_judges_39 : decode cX2_judges 39 = .ok (.iload 4, 2) := dk_21 4 (dk_at dksX2_judges_1 15 rfl rfl)
theorem dX2_judges_41 : decode cX2_judges 41 = .ok (.invokestatic 263, 3) := dk_184 1 7 (dk_at dksX2_judges_1 17 rfl rfl)
theorem dX2_judges_44 : decode cX2_judges 44 = .ok (.iconst 1, 1) := dk_4 (dk_at dksX2_judges_1 20 rfl rfl)
theorem dX2_judges_45 : decode cX2_judges 45 = .ok (.isub, 1) := dk_100 (dk_at dksX2_judges_1 21 rfl rfl)
theorem dX2_judges_46 : decode cX2_judges 46 = .ok (.istore 5, 2) := dk_54 5 (dk_at dksX2_judges_1 22 rfl rfl)
theorem dX2_judges_48 : decode cX2_judges 48 = .ok (.aload_n 0, 1) := dk_42 (dk_at dksX2_judges_2 0 rfl rfl)
theorem dX2_judges_49 : decode cX2_judges 49 = .ok (.getfield 9, 3) := dk_180 0 9 (dk_at dksX2_judges_2 1 rfl rfl)
theorem dX2_judges_52 : decode cX2_judges 52 = .ok (.sipush 178, 3) := dk_17 0 178 (dk_at dksX2_judges_2 4 rfl rfl)
theorem dX2_judges_55 : decode cX2_judges 55 = .ok (.bipush 8, 2) := dk_16 8 (dk_at dksX2_judges_2 7 rfl rfl)
theorem dX2_judges_57 : decode cX2_judges 57 = .ok (.iload_n 1, 1) := dk_27 (dk_at dksX2_judges_2 9 rfl rfl)
theorem dX2_judges_58 : decode cX2_judges 58 = .ok (.imul, 1) := dk_104 (dk_at dksX2_judges_2 10 rfl rfl)
theorem dX2_judges_59 : decode cX2_judges 59 = .ok (.iadd, 1) := dk_96 (dk_at dksX2_judges_2 11 rfl rfl)
theorem dX2_judges_60 : decode cX2_judges 60 = .ok (.iload_n 2, 1) := dk_28 (dk_at dksX2_judges_2 12 rfl rfl)
theorem dX2_judges_61 : decode cX2_judges 61 = .ok (.iadd, 1) := dk_96 (dk_at dksX2_judges_2 13 rfl rfl)
theorem dX2_judges_62 : decode cX2_judges 62 = .ok (.iload 5, 2) := dk_21 5 (dk_at dksX2_judges_2 14 rfl rfl)
theorem dX2_judges_64 : decode cX2_judges 64 = .ok (.iastore, 1) := dk_79 (dk_at dksX2_judges_2 16 rfl rfl)
theorem dX2_judges_65 : decode cX2_judges 65 = .ok (.aload_n 0, 1) := dk_42 (dk_at dksX2_judges_2 17 rfl rfl)
theorem dX2_judges_66 : decode cX2_judges 66 = .ok (.iload_n 1, 1) := dk_27 (dk_at dksX2_judges_2 18 rfl rfl)
theorem dX2_judges_67 : decode cX2_judges 67 = .ok (.iload_n 2, 1) := dk_28 (dk_at dksX2_judges_2 19 rfl rfl)
theorem dX2_judges_68 : decode cX2_judges 68 = .ok (.invokevirtual 248, 3) := dk_182 0 248 (dk_at dksX2_judges_2 20 rfl rfl)
theorem dX2_judges_71 : decode cX2_judges 71 = .ok (.ifCond .ne 44, 3) := dk_154 0 44 (dk_at dksX2_judges_3 0 rfl rfl)
theorem dX2_judges_74 : decode cX2_judges 74 = .ok (.iload 5, 2) := dk_21 5 (dk_at dksX2_judges_3 3 rfl rfl)
theorem dX2_judges_76 : decode cX2_judges 76 = .ok (.aload_n 0, 1) := dk_42 (dk_at dksX2_judges_3 5 rfl rfl)
theorem dX2_judges_77 : decode cX2_judges 77 = .ok (.getfield 9, 3) := dk_180 0 9 (dk_at dksX2_judges_3 6 rfl rfl)
theorem dX2_judges_80 : decode cX2_judges 80 = .ok (.iconst 3, 1) := dk_6 (dk_at dksX2_judges_3 9 rfl rfl)
theorem dX2_judges_81 : decode cX2_judges 81 = .ok (.iaload, 1) := dk_46 (dk_at dksX2_judges_3 10 rfl rfl)
theorem dX2_judges_82 : decode cX2_judges 82 = .ok (.if_icmp .lt 33, 3) := dk_161 0 33 (dk_at dksX2_judges_3 11 rfl rfl)
theorem dX2_judges_85 : decode cX2_judges 85 = .ok (.aload_n 0, 1) := dk_42 (dk_at dksX2_judges_3 14 rfl rfl)
theorem dX2_judges_86 : decode cX2_judges 86 = .ok (.getfield 9, 3) := dk_180 0 9 (dk_at dksX2_judges_3 15 rfl rfl)
theorem dX2_judges_89 : decode cX2_judges 89 = .ok (.sipush 138, 3) := dk_17 0 138 (dk_at dksX2_judges_3 18 rfl rfl)
theorem dX2_judges_92 : decode cX2_judges 92 = .ok (.iload_n 1, 1) := dk_27 (dk_at dksX2_judges_3 21 rfl rfl)
theorem dX2_judges_93 : decode cX2_judges 93 = .ok (.iadd, 1) := dk_96 (dk_at dksX2_judges_3 22 rfl rfl)
theorem dX2_judges_94 : decode cX2_judges 94 = .ok (.dup2, 1) := dk_92 (dk_at dksX2_judges_3 23 rfl rfl)
theorem dX2_judges_95 : decode cX2_judges 95 = .ok (.iaload, 1) := dk_46 (dk_at dksX2_judges_4 0 rfl rfl)
theorem dX2_judges_96 : decode cX2_judges 96 = .ok (.iconst 1, 1) := dk_4 (dk_at dksX2_judges_4 1 rfl rfl)
theorem dX2_judges_97 : decode cX2_judges 97 = .ok (.iload_n 2, 1) := dk_28 (dk_at dksX2_judges_4 2 rfl rfl)
theorem dX2_judges_98 : decode cX2_judges 98 = .ok (.ishl, 1) := dk_120 (dk_at dksX2_judges_4 3 rfl rfl)
theorem dX2_judges_99 : decode cX2_judges 99 = .ok (.iadd, 1) := dk_96 (dk_at dksX2_judges_4 4 rfl rfl)
theorem dX2_judges_100 : decode cX2_judges 100 = .ok (.iastore, 1) := dk_79 (dk_at dksX2_judges_4 5 rfl rfl)
theorem dX2_judges_101 : decode cX2_judges 101 = .ok (.aload_n 0, 1) := dk_42 (dk_at dksX2_judges_4 6 rfl rfl)
theorem dX2_judges_102 : decode cX2_judges 102 = .ok (.getfield 9, 3) := dk_180 0 9 (dk_at dksX2_judges_4 7 rfl rfl)
theorem dX2_judges_105 : decode cX2_judges 105 = .ok (.bipush 92, 2) := dk_16 92 (dk_at dksX2_judges_4 10 rfl rfl)
theorem dX2_judges_107 : decode cX2_judges 107 = .ok (.dup2, 1) := dk_92 (dk_at dksX2_judges_4 12 rfl rfl)
theorem dX2_judges_108 : decode cX2_judges 108 = .ok (.iaload, 1) := dk_46 (dk_at dksX2_judges_4 13 rfl rfl)
theorem dX2_judges_109 : decode cX2_judges 109 = .ok (.iconst 1, 1) := dk_4 (dk_at dksX2_judges_4 14 rfl rfl)
theorem dX2_judges_110 : decode cX2_judges 110 = .ok (.iadd, 1) := dk_96 (dk_at dksX2_judges_4 15 rfl rfl)
theorem dX2_judges_111 : decode cX2_judges 111 = .ok (.iastore, 1) := dk_79 (dk_at dksX2_judges_4 16 rfl rfl)
theorem dX2_judges_112 : decode cX2_judges 112 = .ok (.goto 51, 3) := dk_167 0 51 (dk_at dksX2_judges_4 17 rfl rfl)
theorem dX2_judges_115 : decode cX2_judges 115 = .ok (.aload_n 0, 1) := dk_42 (dk_at dksX2_judges_4 20 rfl rfl)
theorem dX2_judges_116 : decode cX2_judges 116 = .ok (.iload_n 1, 1) := dk_27 (dk_at dksX2_judges_4 21 rfl rfl)
theorem dX2_judges_117 : decode cX2_judges 117 = .ok (.iload_n 2, 1) := dk_28 (dk_at dksX2_judges_4 22 rfl rfl)
theorem dX2_judges_118 : decode cX2_judges 118 = .ok (.invokevirtual 248, 3) := dk_182 0 248 (dk_at dksX2_judges_5 0 rfl rfl)
theorem dX2_judges_121 : decode cX2_judges 121 = .ok (.ifCond .eq 42, 3) := dk_153 0 42 (dk_at dksX2_judges_5 3 rfl rfl)
theorem dX2_judges_124 : decode cX2_judges 124 = .ok (.iload 5, 2) := dk_21 5 (dk_at dksX2_judges_5 6 rfl rfl)
theorem dX2_judges_126 : decode cX2_judges 126 = .ok (.aload_n 0, 1) := dk_42 (dk_at dksX2_judges_5 8 rfl rfl)
theorem dX2_judges_127 : decode cX2_judges 127 = .ok (.getfield 9, 3) := dk_180 0 9 (dk_at dksX2_judges_5 9 rfl rfl)
theorem dX2_judges_130 : decode cX2_judges 130 = .ok (.iconst 4, 1) := dk_7 (dk_at dksX2_judges_5 12 rfl rfl)
theorem dX2_judges_131 : decode cX2_judges 131 = .ok (.iaload, 1) := dk_46 (dk_at dksX2_judges_5 13 rfl rfl)
theorem dX2_judges_132 : decode cX2_judges 132 = .ok (.ineg, 1) := dk_116 (dk_at dksX2_judges_5 14 rfl rfl)
theorem dX2_judges_133 : decode cX2_judges 133 = .ok (.if_icmp .gt 30, 3) := dk_163 0 30 (dk_at dksX2_judges_5 15 rfl rfl)
theorem dX2_judges_136 : decode cX2_judges 136 = .ok (.aload_n 0, 1) := dk_42 (dk_at dksX2_judges_5 18 rfl rfl)
theorem dX2_judges_137 : decode cX2_judges 137 = .ok (.getfield 9, 3) := dk_180 0 9 (dk_at dksX2_judges_5 19 rfl rfl)
theorem dX2_judges_140 : decode cX2_judges 140 = .ok (.sipush 138, 3) := dk_17 0 138 (dk_at dksX2_judges_6 0 rfl rfl)
theorem dX2_judges_143 : decode cX2_judges 143 = .ok (.iload_n 1, 1) := dk_27 (dk_at dksX2_judges_6 3 rfl rfl)
theorem dX2_judges_144 : decode cX2_judges 144 = .ok (.iadd, 1) := dk_96 (dk_at dksX2_judges_6 4 rfl rfl)
theorem dX2_judges_145 : decode cX2_judges 145 = .ok (.dup2, 1) := dk_92 (dk_at dksX2_judges_6 5 rfl rfl)
theorem dX2_judges_146 : decode cX2_judges 146 = .ok (.iaload, 1) := dk_46 (dk_at dksX2_judges_6 6 rfl rfl)
theorem dX2_judges_147 : decode cX2_judges 147 = .ok (.iconst 1, 1) := dk_4 (dk_at dksX2_judges_6 7 rfl rfl)
theorem dX2_judges_148 : decode cX2_judges 148 = .ok (.iload_n 2, 1) := dk_28 (dk_at dksX2_judges_6 8 rfl rfl)
theorem dX2_judges_149 : decode cX2_judges 149 = .ok (.ishl, 1) := dk_120 (dk_at dksX2_judges_6 9 rfl rfl)
theorem dX2_judges_150 : decode cX2_judges 150 = .ok (.isub, 1) := dk_100 (dk_at dksX2_judges_6 10 rfl rfl)
theorem dX2_judges_151 : decode cX2_judges 151 = .ok (.iastore, 1) := dk_79 (dk_at dksX2_judges_6 11 rfl rfl)
theorem dX2_judges_152 : decode cX2_judges 152 = .ok (.aload_n 0, 1) := dk_42 (dk_at dksX2_judges_6 12 rfl rfl)
theorem dX2_judges_153 : decode cX2_judges 153 = .ok (.getfield 9, 3) := dk_180 0 9 (dk_at dksX2_judges_6 13 rfl rfl)
theorem dX2_judges_156 : decode cX2_judges 156 = .ok (.bipush 93, 2) := dk_16 93 (dk_at dksX2_judges_6 16 rfl rfl)
theorem dX2_judges_158 : decode cX2_judges 158 = .ok (.dup2, 1) := dk_92 (dk_at dksX2_judges_6 18 rfl rfl)
theorem dX2_judges_159 : decode cX2_judges 159 = .ok (.iaload, 1) := dk_46 (dk_at dksX2_judges_6 19 rfl rfl)
theorem dX2_judges_160 : decode cX2_judges 160 = .ok (.iconst 1, 1) := dk_4 (dk_at dksX2_judges_6 20 rfl rfl)
theorem dX2_judges_161 : decode cX2_judges 161 = .ok (.iadd, 1) := dk_96 (dk_at dksX2_judges_6 21 rfl rfl)
theorem dX2_judges_162 : decode cX2_judges 162 = .ok (.iastore, 1) := dk_79 (dk_at dksX2_judges_6 22 rfl rfl)
theorem dX2_judges_163 : decode cX2_judges 163 = .ok (.return_, 1) := dk_177 (dk_at dksX2_judges_6 23 rfl rfl)
abbrev cX2_opensIn : ByteArray := prog_20_method_120_code
def yX2_opensIn : MethodName := ⟨RX2, "opensIn", "(II)I"⟩
def dkwX2_opensIn_0 : List UInt8 := [42, 27, 28, 182, 1, 76, 153, 0, 13, 42, 27, 28, 3, 182, 1, 103, 167, 0, 4, 3, 172]
abbrev dktX2_opensIn_0 : List UInt8 := dkwX2_opensIn_0 ++ []
theorem dksX2_opensIn_0 : cX2_opensIn.data.toList.drop 0 = dktX2_opensIn_0 := by decide +kernel
theorem dX2_opensIn_0 : decode cX2_opensIn 0 = .ok (.aload_n 0, 1) := dk_42 (dk_at dksX2_opensIn_0 0 rfl rfl)
theorem dX2_opensIn_1 : decode cX2_opensIn 1 = .ok (.iload_n 1, 1) := dk_27 (dk_at dksX2_opensIn_0 1 rfl rfl)
theorem dX2_opensIn_2 : decode cX2_opensIn 2 = .ok (.iload_n 2, 1) := dk_28 (dk_at dksX2_opensIn_0 2 rfl rfl)
theorem dX2_opensIn_3 : decode cX2_opensIn 3 = .ok (.invokevirtual 332, 3) := dk_182 1 76 (dk_at dksX2_opensIn_0 3 rfl rfl)
theorem dX2_opensIn_6 : decode cX2_opensIn 6 = .ok (.ifCond .eq 13, 3) := dk_153 0 13 (dk_at dksX2_opensIn_0 6 rfl rfl)
theorem dX2_opensIn_9 : decode cX2_opensIn 9 = .ok (.aload_n 0, 1) := dk_42 (dk_at dksX2_opensIn_0 9 rfl rfl)
theorem dX2_opensIn_10 : decode cX2_opensIn 10 = .ok (.iload_n 1, 1) := dk_27 (dk_at dksX2_opensIn_0 10 rfl rfl)
theorem dX2_opensIn_11 : decode cX2_opensIn 11 = .ok (.iload_n 2, 1) := dk_28 (dk_at dksX2_opensIn_0 11 rfl rfl)
theorem dX2_opensIn_12 : decode cX2_opensIn 12 = .ok (.iconst 0, 1) := dk_3 (dk_at dksX2_opensIn_0 12 rfl rfl)
theorem dX2_opensIn_13 : decode cX2_opensIn 13 = .ok (.invokevirtual 359, 3) := dk_182 1 103 (dk_at dksX2_opensIn_0 13 rfl rfl)
theorem dX2_opensIn_16 : decode cX2_opensIn 16 = .ok (.goto 4, 3) := dk_167 0 4 (dk_at dksX2_opensIn_0 16 rfl rfl)
theorem dX2_opensIn_19 : decode cX2_opensIn 19 = .ok (.iconst 0, 1) := dk_3 (dk_at dksX2_opensIn_0 19 rfl rfl)
theorem dX2_opensIn_20 : decode cX2_opensIn 20 = .ok (.ireturn, 1) := dk_172 (dk_at dksX2_opensIn_0 20 rfl rfl)
abbrev cX2_closersIn : ByteArray := prog_20_method_122_code
def yX2_closersIn : MethodName := ⟨RX2, "closersIn", "(II)I"⟩
def dkwX2_closersIn_1 : List UInt8 := [182, 1, 97, 42, 28, 182, 1, 109, 42, 42, 27, 182, 1, 53, 182, 1, 100, 172]
abbrev dktX2_closersIn_1 : List UInt8 := dkwX2_closersIn_1 ++ []
def dkwX2_closersIn_0 : List UInt8 := [42, 42, 180, 0, 184, 42, 27, 182, 1, 22, 28, 184, 1, 106, 182, 0, 47, 154, 0, 5, 3, 172, 42]
abbrev dktX2_closersIn_0 : List UInt8 := dkwX2_closersIn_0 ++ dktX2_closersIn_1
theorem dksX2_closersIn_0 : cX2_closersIn.data.toList.drop 0 = dktX2_closersIn_0 := by decide +kernel
theorem dksX2_closersIn_1 : cX2_closersIn.data.toList.drop 23 = dktX2_closersIn_1 := dk_seg dksX2_closersIn_0 23 rfl rfl
theorem dX2_closersIn_0 : decode cX2_closersIn 0 = .ok (.aload_n 0, 1) := dk_42 (dk_at dksX2_closersIn_0 0 rfl rfl)
theorem dX2_closersIn_1 : decode cX2_closersIn 1 = .ok (.aload_n 0, 1) := dk_42 (dk_at dksX2_closersIn_0 1 rfl rfl)
theorem dX2_closersIn_2 : decode cX2_closersIn 2 = .ok (.getfield 184, 3) := dk_180 0 184 (dk_at dksX2_closersIn_0 2 rfl rfl)
theorem dX2_closersIn_5 : decode cX2_closersIn 5 = .ok (.aload_n 0, 1) := dk_42 (dk_at dksX2_closersIn_0 5 rfl rfl)
theorem dX2_closersIn_6 : decode cX2_closersIn 6 = .ok (.iload_n 1, 1) := dk_27 (dk_at dksX2_closersIn_0 6 rfl rfl)
theorem dX2_closersIn_7 : decode cX2_closersIn 7 = .ok (.invokevirtual 278, 3) := dk_182 1 22 (dk_at dksX2_closersIn_0 7 rfl rfl)
theorem dX2_closersIn_10 : decode cX2_closersIn 10 = .ok (.iload_n 2, 1) := dk_28 (dk_at dksX2_closersIn_0 10 rfl rfl)
theorem dX2_closersIn_11 : decode cX2_closersIn 11 = .ok (.invokestatic 362, 3) := dk_184 1 106 (dk_at dksX2_closersIn_0 11 rfl rfl)
theorem dX2_closersIn_14 : decode cX2_closersIn 14 = .ok (.invokevirtual 47, 3) := dk_182 0 47 (dk_at dksX2_closersIn_0 14 rfl rfl)
theorem dX2_closersIn_17 : decode cX2_closersIn 17 = .ok (.ifCond .ne 5, 3) := dk_154 0 5 (dk_at dksX2_closersIn_0 17 rfl rfl)
theorem dX2_closersIn_20 : decode cX2_closersIn 20 = .ok (.iconst 0, 1) := dk_3 (dk_at dksX2_closersIn_0 20 rfl rfl)
theorem dX2_closersIn_21 : decode cX2_closersIn 21 = .ok (.ireturn, 1) := dk_172 (dk_at dksX2_closersIn_0 21 rfl rfl)
theorem dX2_closersIn_22 : decode cX2_closersIn 22 = .ok (.aload_n 0, 1) := dk_42 (dk_at dksX2_closersIn_0 22 rfl rfl)
theorem dX2_closersIn_23 : decode cX2_closersIn 23 = .ok (.invokevirtual 353, 3) := dk_182 1 97 (dk_at dksX2_closersIn_1 0 rfl rfl)
theorem dX2_closersIn_26 : decode cX2_closersIn 26 = .ok (.aload_n 0, 1) := dk_42 (dk_at dksX2_closersIn_1 3 rfl rfl)
theorem dX2_closersIn_27 : decode cX2_closersIn 27 = .ok (.iload_n 2, 1) := dk_28 (dk_at dksX2_closersIn_1 4 rfl rfl)
theorem dX2_closersIn_28 : decode cX2_closersIn 28 = .ok (.invokevirtual 365, 3) := dk_182 1 109 (dk_at dksX2_closersIn_1 5 rfl rfl)
theorem dX2_closersIn_31 : decode cX2_closersIn 31 = .ok (.aload_n 0, 1) := dk_42 (dk_at dksX2_closersIn_1 8 rfl rfl)
theorem dX2_closersIn_32 : decode cX2_closersIn 32 = .ok (.aload_n 0, 1) := dk_42 (dk_at dksX2_closersIn_1 9 rfl rfl)
theorem dX2_closersIn_33 : decode cX2_closersIn 33 = .ok (.iload_n 1, 1) := dk_27 (dk_at dksX2_closersIn_1 10 rfl rfl)
theorem dX2_closersIn_34 : decode cX2_closersIn 34 = .ok (.invokevirtual 309, 3) := dk_182 1 53 (dk_at dksX2_closersIn_1 11 rfl rfl)
theorem dX2_closersIn_37 : decode cX2_closersIn 37 = .ok (.invokevirtual 356, 3) := dk_182 1 100 (dk_at dksX2_closersIn_1 14 rfl rfl)
theorem dX2_closersIn_40 : decode cX2_closersIn 40 = .ok (.ireturn, 1) := dk_172 (dk_at dksX2_closersIn_1 17 rfl rfl)
abbrev cX2_isFar : ByteArray := prog_20_method_121_code
def yX2_isFar : MethodName := ⟨RX2, "isFar", "(I)Z"⟩
def dkwX2_isFar_0 : List UInt8 := [26, 3, 17, 0, 200, 184, 0, 64, 172]
abbrev dktX2_isFar_0 : List UInt8 := dkwX2_isFar_0 ++ []
theorem dksX2_isFar_0 : cX2_isFar.data.toList.drop 0 = dktX2_isFar_0 := by decide +kernel
theorem dX2_isFar_0 : decode cX2_isFar 0 = .ok (.iload_n 0, 1) := dk_26 (dk_at dksX2_isFar_0 0 rfl rfl)
theorem dX2_isFar_1 : decode cX2_isFar 1 = .ok (.iconst 0, 1) := dk_3 (dk_at dksX2_isFar_0 1 rfl rfl)
theorem dX2_isFar_2 : decode cX2_isFar 2 = .ok (.sipush 200, 3) := dk_17 0 200 (dk_at dksX2_isFar_0 2 rfl rfl)
theorem dX2_isFar_5 : decode cX2_isFar 5 = .ok (.invokestatic 64, 3) := dk_184 0 64 (dk_at dksX2_isFar_0 5 rfl rfl)
theorem dX2_isFar_8 : decode cX2_isFar 8 = .ok (.ireturn, 1) := dk_172 (dk_at dksX2_isFar_0 8 rfl rfl)
abbrev cX2_passes : ByteArray := prog_20_method_65_code
def yX2_passes : MethodName := ⟨RX2, "passes", "(I)V"⟩
def dkwX2_passes_0 : List UInt8 := [3, 61, 28, 27, 162, 0, 13, 42, 182, 1, 16, 132, 2, 1, 167, 255, 244, 177]
abbrev dktX2_passes_0 : List UInt8 := dkwX2_passes_0 ++ []
theorem dksX2_passes_0 : cX2_passes.data.toList.drop 0 = dktX2_passes_0 := by decide +kernel
theorem dX2_passes_0 : decode cX2_passes 0 = .ok (.iconst 0, 1) := dk_3 (dk_at dksX2_passes_0 0 rfl rfl)
theorem dX2_passes_1 : decode cX2_passes 1 = .ok (.istore_n 2, 1) := dk_61 (dk_at dksX2_passes_0 1 rfl rfl)
theorem dX2_passes_2 : decode cX2_passes 2 = .ok (.iload_n 2, 1) := dk_28 (dk_at dksX2_passes_0 2 rfl rfl)
theorem dX2_passes_3 : decode cX2_passes 3 = .ok (.iload_n 1, 1) := dk_27 (dk_at dksX2_passes_0 3 rfl rfl)
theorem dX2_passes_4 : decode cX2_passes 4 = .ok (.if_icmp .ge 13, 3) := dk_162 0 13 (dk_at dksX2_passes_0 4 rfl rfl)
theorem dX2_passes_7 : decode cX2_passes 7 = .ok (.aload_n 0, 1) := dk_42 (dk_at dksX2_passes_0 7 rfl rfl)
theorem dX2_passes_8 : decode cX2_passes 8 = .ok (.invokevirtual 272, 3) := dk_182 1 16 (dk_at dksX2_passes_0 8 rfl rfl)
theorem dX2_passes_11 : decode cX2_passes 11 = .ok (.iinc 2 1, 3) := dk_132 2 1 (dk_at dksX2_passes_0 11 rfl rfl)
theorem dX2_passes_14 : decode cX2_passes 14 = .ok (.goto (-12), 3) := dk_167 255 244 (dk_at dksX2_passes_0 14 rfl rfl)
theorem dX2_passes_17 : decode cX2_passes 17 = .ok (.return_, 1) := dk_177 (dk_at dksX2_passes_0 17 rfl rfl)
abbrev cX2_votesIn : ByteArray := prog_20_method_123_code
def yX2_votesIn : MethodName := ⟨RX2, "votesIn", "(I)I"⟩
def dkwX2_votesIn_1 : List UInt8 := [182, 1, 109, 42, 42, 182, 1, 25, 182, 1, 100, 172]
abbrev dktX2_votesIn_1 : List UInt8 := dkwX2_votesIn_1 ++ []
def dkwX2_votesIn_0 : List UInt8 := [42, 42, 180, 0, 184, 27, 184, 1, 106, 182, 0, 191, 154, 0, 5, 3, 172, 42, 182, 1, 97, 42, 27]
abbrev dktX2_votesIn_0 : List UInt8 := dkwX2_votesIn_0 ++ dktX2_votesIn_1
theorem dksX2_votesIn_0 : cX2_votesIn.data.toList.drop 0 = dktX2_votesIn_0 := by decide +kernel
theorem dksX2_votesIn_1 : cX2_votesIn.data.toList.drop 23 = dktX2_votesIn_1 := dk_seg dksX2_votesIn_0 23 rfl rfl
theorem dX2_votesIn_0 : decode cX2_votesIn 0 = .ok (.aload_n 0, 1) := dk_42 (dk_at dksX2_votesIn_0 0 rfl rfl)
theorem dX2_votesIn_1 : decode cX2_votesIn 1 = .ok (.aload_n 0, 1) := dk_42 (dk_at dksX2_votesIn_0 1 rfl rfl)
theorem dX2_votesIn_2 : decode cX2_votesIn 2 = .ok (.getfield 184, 3) := dk_180 0 184 (dk_at dksX2_votesIn_0 2 rfl rfl)
theorem dX2_votesIn_5 : decode cX2_votesIn 5 = .ok (.iload_n 1, 1) := dk_27 (dk_at dksX2_votesIn_0 5 rfl rfl)
theorem dX2_votesIn_6 : decode cX2_votesIn 6 = .ok (.invokestatic 362, 3) := dk_184 1 106 (dk_at dksX2_votesIn_0 6 rfl rfl)
theorem dX2_votesIn_9 : decode cX2_votesIn 9 = .ok (.invokevirtual 191, 3) := dk_182 0 191 (dk_at dksX2_votesIn_0 9 rfl rfl)
theorem dX2_votesIn_12 : decode cX2_votesIn 12 = .ok (.ifCond .ne 5, 3) := dk_154 0 5 (dk_at dksX2_votesIn_0 12 rfl rfl)
theorem dX2_votesIn_15 : decode cX2_votesIn 15 = .ok (.iconst 0, 1) := dk_3 (dk_at dksX2_votesIn_0 15 rfl rfl)
theorem dX2_votesIn_16 : decode cX2_votesIn 16 = .ok (.ireturn, 1) := dk_172 (dk_at dksX2_votesIn_0 16 rfl rfl)
theorem dX2_votesIn_17 : decode cX2_votesIn 17 = .ok (.aload_n 0, 1) := dk_42 (dk_at dksX2_votesIn_0 17 rfl rfl)
theorem dX2_votesIn_18 : decode cX2_votesIn 18 = .ok (.invokevirtual 353, 3) := dk_182 1 97 (dk_at dksX2_votesIn_0 18 rfl rfl)
theorem dX2_votesIn_21 : decode cX2_votesIn 21 = .ok (.aload_n 0, 1) := dk_42 (dk_at dksX2_votesIn_0 21 rfl rfl)
theorem dX2_votesIn_22 : decode cX2_votesIn 22 = .ok (.iload_n 1, 1) := dk_27 (dk_at dksX2_votesIn_0 22 rfl rfl)
theorem dX2_votesIn_23 : decode cX2_votesIn 23 = .ok (.invokevirtual 365, 3) := dk_182 1 109 (dk_at dksX2_votesIn_1 0 rfl rfl)
theorem dX2_votesIn_26 : decode cX2_votesIn 26 = .ok (.aload_n 0, 1) := dk_42 (dk_at dksX2_votesIn_1 3 rfl rfl)
theorem dX2_votesIn_27 : decode cX2_votesIn 27 = .ok (.aload_n 0, 1) := dk_42 (dk_at dksX2_votesIn_1 4 rfl rfl)
theorem dX2_votesIn_28 : decode cX2_votesIn 28 = .ok (.invokevirtual 281, 3) := dk_182 1 25 (dk_at dksX2_votesIn_1 5 rfl rfl)
theorem dX2_votesIn_31 : decode cX2_votesIn 31 = .ok (.invokevirtual 356, 3) := dk_182 1 100 (dk_at dksX2_votesIn_1 8 rfl rfl)
theorem dX2_votesIn_34 : decode cX2_votesIn 34 = .ok (.ireturn, 1) := dk_172 (dk_at dksX2_votesIn_1 11 rfl rfl)
abbrev cX2_seeIn : ByteArray := prog_20_method_124_code
def yX2_seeIn : MethodName := ⟨RX2, "seeIn", "(II)I"⟩
def dkwX2_seeIn_2 : List UInt8 := [96, 79, 132, 3, 1, 167, 255, 220, 42, 2, 182, 1, 100, 172]
abbrev dktX2_seeIn_2 : List UInt8 := dkwX2_seeIn_2 ++ []
def dkwX2_seeIn_1 : List UInt8 := [42, 27, 28, 182, 0, 217, 153, 0, 9, 42, 29, 182, 1, 100, 172, 42, 180, 0, 9, 16, 90, 92, 46, 4]
abbrev dktX2_seeIn_1 : List UInt8 := dkwX2_seeIn_1 ++ dktX2_seeIn_2
def dkwX2_seeIn_0 : List UInt8 := [42, 27, 28, 182, 1, 73, 154, 0, 5, 3, 172, 42, 182, 1, 97, 3, 62, 29, 17, 0, 200, 163, 0, 35]
abbrev dktX2_seeIn_0 : List UInt8 := dkwX2_seeIn_0 ++ dktX2_seeIn_1
theorem dksX2_seeIn_0 : cX2_seeIn.data.toList.drop 0 = dktX2_seeIn_0 := by decide +kernel
theorem dksX2_seeIn_1 : cX2_seeIn.data.toList.drop 24 = dktX2_seeIn_1 := dk_seg dksX2_seeIn_0 24 rfl rfl
theorem dksX2_seeIn_2 : cX2_seeIn.data.toList.drop 48 = dktX2_seeIn_2 := dk_seg dksX2_seeIn_1 24 rfl rfl
theorem dX2_seeIn_0 : decode cX2_seeIn 0 = .ok (.aload_n 0, 1) := dk_42 (dk_at dksX2_seeIn_0 0 rfl rfl)
theorem dX2_seeIn_1 : decode cX2_seeIn 1 = .ok (.iload_n 1, 1) := dk_27 (dk_at dksX2_seeIn_0 1 rfl rfl)
theorem dX2_seeIn_2 : decode cX2_seeIn 2 = .ok (.iload_n 2, 1) := dk_28 (dk_at dksX2_seeIn_0 2 rfl rfl)
theorem dX2_seeIn_3 : decode cX2_seeIn 3 = .ok (.invokevirtual 329, 3) := dk_182 1 73 (dk_at dksX2_seeIn_0 3 rfl rfl)
theorem dX2_seeIn_6 : decode cX2_seeIn 6 = .ok (.ifCond .ne 5, 3) := dk_154 0 5 (dk_at dksX2_seeIn_0 6 rfl rfl)
theorem dX2_seeIn_9 : decode cX2_seeIn 9 = .ok (.iconst 0, 1) := dk_3 (dk_at dksX2_seeIn_0 9 rfl rfl)
theorem dX2_seeIn_10 : decode cX2_seeIn 10 = .ok (.ireturn, 1) := dk_172 (dk_at dksX2_seeIn_0 10 rfl rfl)
theorem dX2_seeIn_11 : decode cX2_seeIn 11 = .ok (.aload_n 0, 1) := dk_42 (dk_at dksX2_seeIn_0 11 rfl rfl)
theorem dX2_seeIn_12 : decode cX2_seeIn 12 = .ok (.invokevirtual 353, 3) := dk_182 1 97 (dk_at dksX2_seeIn_0 12 rfl rfl)
theorem dX2_seeIn_15 : decode cX2_seeIn 15 = .ok (.iconst 0, 1) := dk_3 (dk_at dksX2_seeIn_0 15 rfl rfl)
theorem dX2_seeIn_16 : decode cX2_seeIn 16 = .ok (.istore_n 3, 1) := dk_62 (dk_at dksX2_seeIn_0 16 rfl rfl)
theorem dX2_seeIn_17 : decode cX2_seeIn 17 = .ok (.iload_n 3, 1) := dk_29 (dk_at dksX2_seeIn_0 17 rfl rfl)
theorem dX2_seeIn_18 : decode cX2_seeIn 18 = .ok (.sipush 200, 3) := dk_17 0 200 (dk_at dksX2_seeIn_0 18 rfl rfl)
theorem dX2_seeIn_21 : decode cX2_seeIn 21 = .ok (.if_icmp .gt 35, 3) := dk_163 0 35 (dk_at dksX2_seeIn_0 21 rfl rfl)
theorem dX2_seeIn_24 : decode cX2_seeIn 24 = .ok (.aload_n 0, 1) := dk_42 (dk_at dksX2_seeIn_1 0 rfl rfl)
theorem dX2_seeIn_25 : decode cX2_seeIn 25 = .ok (.iload_n 1, 1) := dk_27 (dk_at dksX2_seeIn_1 1 rfl rfl)
theorem dX2_seeIn_26 : decode cX2_seeIn 26 = .ok (.iload_n 2, 1) := dk_28 (dk_at dksX2_seeIn_1 2 rfl rfl)
theorem dX2_seeIn_27 : decode cX2_seeIn 27 = .ok (.invokevirtual 217, 3) := dk_182 0 217 (dk_at dksX2_seeIn_1 3 rfl rfl)
theorem dX2_seeIn_30 : decode cX2_seeIn 30 = .ok (.ifCond .eq 9, 3) := dk_153 0 9 (dk_at dksX2_seeIn_1 6 rfl rfl)
theorem dX2_seeIn_33 : decode cX2_seeIn 33 = .ok (.aload_n 0, 1) := dk_42 (dk_at dksX2_seeIn_1 9 rfl rfl)
theorem dX2_seeIn_34 : decode cX2_seeIn 34 = .ok (.iload_n 3, 1) := dk_29 (dk_at dksX2_seeIn_1 10 rfl rfl)
theorem dX2_seeIn_35 : decode cX2_seeIn 35 = .ok (.invokevirtual 356, 3) := dk_182 1 100 (dk_at dksX2_seeIn_1 11 rfl rfl)
theorem dX2_seeIn_38 : decode cX2_seeIn 38 = .ok (.ireturn, 1) := dk_172 (dk_at dksX2_seeIn_1 14 rfl rfl)
theorem dX2_seeIn_39 : decode cX2_seeIn 39 = .ok (.aload_n 0, 1) := dk_42 (dk_at dksX2_seeIn_1 15 rfl rfl)
theorem dX2_seeIn_40 : decode cX2_seeIn 40 = .ok (.getfield 9, 3) := dk_180 0 9 (dk_at dksX2_seeIn_1 16 rfl rfl)
theorem dX2_seeIn_43 : decode cX2_seeIn 43 = .ok (.bipush 90, 2) := dk_16 90 (dk_at dksX2_seeIn_1 19 rfl rfl)
theorem dX2_seeIn_45 : decode cX2_seeIn 45 = .ok (.dup2, 1) := dk_92 (dk_at dksX2_seeIn_1 21 rfl rfl)
theorem dX2_seeIn_46 : decode cX2_seeIn 46 = .ok (.iaload, 1) := dk_46 (dk_at dksX2_seeIn_1 22 rfl rfl)
theorem dX2_seeIn_47 : decode cX2_seeIn 47 = .ok (.iconst 1, 1) := dk_4 (dk_at dksX2_seeIn_1 23 rfl rfl)
theorem dX2_seeIn_48 : decode cX2_seeIn 48 = .ok (.iadd, 1) := dk_96 (dk_at dksX2_seeIn_2 0 rfl rfl)
theorem dX2_seeIn_49 : decode cX2_seeIn 49 = .ok (.iastore, 1) := dk_79 (dk_at dksX2_seeIn_2 1 rfl rfl)
theorem dX2_seeIn_50 : decode cX2_seeIn 50 = .ok (.iinc 3 1, 3) := dk_132 3 1 (dk_at dksX2_seeIn_2 2 rfl rfl)
theorem dX2_seeIn_53 : decode cX2_seeIn 53 = .ok (.goto (-36), 3) := dk_167 255 220 (dk_at dksX2_seeIn_2 5 rfl rfl)
theorem dX2_seeIn_56 : decode cX2_seeIn 56 = .ok (.aload_n 0, 1) := dk_42 (dk_at dksX2_seeIn_2 8 rfl rfl)
theorem dX2_seeIn_57 : decode cX2_seeIn 57 = .ok (.iconst (-1), 1) := dk_2 (dk_at dksX2_seeIn_2 9 rfl rfl)
theorem dX2_seeIn_58 : decode cX2_seeIn 58 = .ok (.invokevirtual 356, 3) := dk_182 1 100 (dk_at dksX2_seeIn_2 10 rfl rfl)
theorem dX2_seeIn_61 : decode cX2_seeIn 61 = .ok (.ireturn, 1) := dk_172 (dk_at dksX2_seeIn_2 13 rfl rfl)
abbrev cX2_closersIf : ByteArray := prog_20_method_127_code
def yX2_closersIf : MethodName := ⟨RX2, "closersIf", "(III)I"⟩
def dkwX2_closersIf_2 : List UInt8 := [3, 172]
abbrev dktX2_closersIf_2 : List UInt8 := dkwX2_closersIf_2 ++ []
def dkwX2_closersIf_1 : List UInt8 := [167, 0, 4, 3, 29, 184, 1, 106, 182, 0, 47, 153, 0, 13, 42, 27, 28, 29, 182, 1, 118, 167, 0, 4]
abbrev dktX2_closersIf_1 : List UInt8 := dkwX2_closersIf_1 ++ dktX2_closersIf_2
def dkwX2_closersIf_0 : List UInt8 := [42, 42, 180, 0, 184, 42, 27, 182, 1, 19, 153, 0, 15, 42, 28, 182, 1, 22, 153, 0, 7, 4]
abbrev dktX2_closersIf_0 : List UInt8 := dkwX2_closersIf_0 ++ dktX2_closersIf_1
theorem dksX2_closersIf_0 : cX2_closersIf.data.toList.drop 0 = dktX2_closersIf_0 := by decide +kernel
theorem dksX2_closersIf_1 : cX2_closersIf.data.toList.drop 22 = dktX2_closersIf_1 := dk_seg dksX2_closersIf_0 22 rfl rfl
theorem dksX2_closersIf_2 : cX2_closersIf.data.toList.drop 46 = dktX2_closersIf_2 := dk_seg dksX2_closersIf_1 24 rfl rfl
theorem dX2_closersIf_0 : decode cX2_closersIf 0 = .ok (.aload_n 0, 1) := dk_42 (dk_at dksX2_closersIf_0 0 rfl rfl)
theorem dX2_closersIf_1 : decode cX2_closersIf 1 = .ok (.aload_n 0, 1) := dk_42 (dk_at dksX2_closersIf_0 1 rfl rfl)
theorem dX2_closersIf_2 : decode cX2_closersIf 2 = .ok (.getfield 184, 3) := dk_180 0 184 (dk_at dksX2_closersIf_0 2 rfl rfl)
theorem dX2_closersIf_5 : decode cX2_closersIf 5 = .ok (.aload_n 0, 1) := dk_42 (dk_at dksX2_closersIf_0 5 rfl rfl)
theorem dX2_closersIf_6 : decode cX2_closersIf 6 = .ok (.iload_n 1, 1) := dk_27 (dk_at dksX2_closersIf_0 6 rfl rfl)
theorem dX2_closersIf_7 : decode cX2_closersIf 7 = .ok (.invokevirtual 275, 3) := dk_182 1 19 (dk_at dksX2_closersIf_0 7 rfl rfl)
theorem dX2_closersIf_10 : decode cX2_closersIf 10 = .ok (.ifCond .eq 15, 3) := dk_153 0 15 (dk_at dksX2_closersIf_0 10 rfl rfl)
theorem dX2_closersIf_13 : decode cX2_closersIf 13 = .ok (.aload_n 0, 1) := dk_42 (dk_at dksX2_closersIf_0 13 rfl rfl)
theorem dX2_closersIf_14 : decode cX2_closersIf 14 = .ok (.iload_n 2, 1) := dk_28 (dk_at dksX2_closersIf_0 14 rfl rfl)
theorem dX2_closersIf_15 : decode cX2_closersIf 15 = .ok (.invokevirtual 278, 3) := dk_182 1 22 (dk_at dksX2_closersIf_0 15 rfl rfl)
theorem dX2_closersIf_18 : decode cX2_closersIf 18 = .ok (.ifCond .eq 7, 3) := dk_153 0 7 (dk_at dksX2_closersIf_0 18 rfl rfl)
theorem dX2_closersIf_21 : decode cX2_closersIf 21 = .ok (.iconst 1, 1) := dk_4 (dk_at dksX2_closersIf_0 21 rfl rfl)
theorem dX2_closersIf_22 : decode cX2_closersIf 22 = .ok (.goto 4, 3) := dk_167 0 4 (dk_at dksX2_closersIf_1 0 rfl rfl)
theorem dX2_closersIf_25 : decode cX2_closersIf 25 = .ok (.iconst 0, 1) := dk_3 (dk_at dksX2_closersIf_1 3 rfl rfl)
theorem dX2_closersIf_26 : decode cX2_closersIf 26 = .ok (.iload_n 3, 1) := dk_29 (dk_at dksX2_closersIf_1 4 rfl rfl)
theorem dX2_closersIf_27 : decode cX2_closersIf 27 = .ok (.invokestatic 362, 3) := dk_184 1 106 (dk_at dksX2_closersIf_1 5 rfl rfl)
theorem dX2_closersIf_30 : decode cX2_closersIf 30 = .ok (.invokevirtual 47, 3) := dk_182 0 47 (dk_at dksX2_closersIf_1 8 rfl rfl)
theorem dX2_closersIf_33 : decode cX2_closersIf 33 = .ok (.ifCond .eq 13, 3) := dk_153 0 13 (dk_at dksX2_closersIf_1 11 rfl rfl)
theorem dX2_closersIf_36 : decode cX2_closersIf 36 = .ok (.aload_n 0, 1) := dk_42 (dk_at dksX2_closersIf_1 14 rfl rfl)
theorem dX2_closersIf_37 : decode cX2_closersIf 37 = .ok (.iload_n 1, 1) := dk_27 (dk_at dksX2_closersIf_1 15 rfl rfl)
theorem dX2_closersIf_38 : decode cX2_closersIf 38 = .ok (.iload_n 2, 1) := dk_28 (dk_at dksX2_closersIf_1 16 rfl rfl)
theorem dX2_closersIf_39 : decode cX2_closersIf 39 = .ok (.iload_n 3, 1) := dk_29 (dk_at dksX2_closersIf_1 17 rfl rfl)
theorem dX2_closersIf_40 : decode cX2_closersIf 40 = .ok (.invokevirtual 374, 3) := dk_182 1 118 (dk_at dksX2_closersIf_1 18 rfl rfl)
theorem dX2_closersIf_43 : decode cX2_closersIf 43 = .ok (.goto 4, 3) := dk_167 0 4 (dk_at dksX2_closersIf_1 21 rfl rfl)
theorem dX2_closersIf_46 : decode cX2_closersIf 46 = .ok (.iconst 0, 1) := dk_3 (dk_at dksX2_closersIf_2 0 rfl rfl)
theorem dX2_closersIf_47 : decode cX2_closersIf 47 = .ok (.ireturn, 1) := dk_172 (dk_at dksX2_closersIf_2 1 rfl rfl)
abbrev cX2_closersBy : ByteArray := prog_20_method_126_code
def yX2_closersBy : MethodName := ⟨RX2, "closersBy", "(III)I"⟩
def dkwX2_closersBy_1 : List UInt8 := [182, 1, 100, 172]
abbrev dktX2_closersBy_1 : List UInt8 := dkwX2_closersBy_1 ++ []
def dkwX2_closersBy_0 : List UInt8 := [42, 182, 1, 97, 42, 27, 28, 4, 182, 1, 115, 54, 4, 42, 29, 182, 1, 109, 42, 42, 28, 182, 1, 53]
abbrev dktX2_closersBy_0 : List UInt8 := dkwX2_closersBy_0 ++ dktX2_closersBy_1
theorem dksX2_closersBy_0 : cX2_closersBy.data.toList.drop 0 = dktX2_closersBy_0 := by decide +kernel
theorem dksX2_closersBy_1 : cX2_closersBy.data.toList.drop 24 = dktX2_closersBy_1 := dk_seg dksX2_closersBy_0 24 rfl rfl
theorem dX2_closersBy_0 : decode cX2_closersBy 0 = .ok (.aload_n 0, 1) := dk_42 (dk_at dksX2_closersBy_0 0 rfl rfl)
theorem dX2_closersBy_1 : decode cX2_closersBy 1 = .ok (.invokevirtual 353, 3) := dk_182 1 97 (dk_at dksX2_closersBy_0 1 rfl rfl)
theorem dX2_closersBy_4 : decode cX2_closersBy 4 = .ok (.aload_n 0, 1) := dk_42 (dk_at dksX2_closersBy_0 4 rfl rfl)
theorem dX2_closersBy_5 : decode cX2_closersBy 5 = .ok (.iload_n 1, 1) := dk_27 (dk_at dksX2_closersBy_0 5 rfl rfl)
theorem dX2_closersBy_6 : decode cX2_closersBy 6 = .ok (.iload_n 2, 1) := dk_28 (dk_at dksX2_closersBy_0 6 rfl rfl)
theorem dX2_closersBy_7 : decode cX2_closersBy 7 = .ok (.iconst 1, 1) := dk_4 (dk_at dksX2_closersBy_0 7 rfl rfl)
theorem dX2_closersBy_8 : decode cX2_closersBy 8 = .ok (.invokevirtual 371, 3) := dk_182 1 115 (dk_at dksX2_closersBy_0 8 rfl rfl)
theorem dX2_closersBy_11 : decode cX2_closersBy 11 = .ok (.istore 4, 2) := dk_54 4 (dk_at dksX2_closersBy_0 11 rfl rfl)
theorem dX2_closersBy_13 : decode cX2_closersBy 13 = .ok (.aload_n 0, 1) := dk_42 (dk_at dksX2_closersBy_0 13 rfl rfl)
theorem dX2_closersBy_14 : decode cX2_closersBy 14 = .ok (.iload_n 3, 1) := dk_29 (dk_at dksX2_closersBy_0 14 rfl rfl)
theorem dX2_closersBy_15 : decode cX2_closersBy 15 = .ok (.invokevirtual 365, 3) := dk_182 1 109 (dk_at dksX2_closersBy_0 15 rfl rfl)
theorem dX2_closersBy_18 : decode cX2_closersBy 18 = .ok (.aload_n 0, 1) := dk_42 (dk_at dksX2_closersBy_0 18 rfl rfl)
theorem dX2_closersBy_19 : decode cX2_closersBy 19 = .ok (.aload_n 0, 1) := dk_42 (dk_at dksX2_closersBy_0 19 rfl rfl)
theorem dX2_closersBy_20 : decode cX2_closersBy 20 = .ok (.iload_n 2, 1) := dk_28 (dk_at dksX2_closersBy_0 20 rfl rfl)
theorem dX2_closersBy_21 : decode cX2_closersBy 21 = .ok (.invokevirtual 309, 3) := dk_182 1 53 (dk_at dksX2_closersBy_0 21 rfl rfl)
theorem dX2_closersBy_24 : decode cX2_closersBy 24 = .ok (.invokevirtual 356, 3) := dk_182 1 100 (dk_at dksX2_closersBy_1 0 rfl rfl)
theorem dX2_closersBy_27 : decode cX2_closersBy 27 = .ok (.ireturn, 1) := dk_172 (dk_at dksX2_closersBy_1 3 rfl rfl)
abbrev cX2_shows : ByteArray := prog_20_method_125_code
def yX2_shows : MethodName := ⟨RX2, "shows", "(IIZ)I"⟩
def dkwX2_shows_2 : List UInt8 := [16, 90, 46, 29, 184, 1, 112, 79, 132, 5, 1, 167, 255, 208, 21, 4, 172]
abbrev dktX2_shows_2 : List UInt8 := dkwX2_shows_2 ++ []
def dkwX2_shows_1 : List UInt8 := [21, 5, 184, 0, 245, 153, 0, 26, 42, 180, 0, 9, 21, 5, 27, 28, 184, 0, 226, 42, 180, 0, 9]
abbrev dktX2_shows_1 : List UInt8 := dkwX2_shows_1 ++ dktX2_shows_2
def dkwX2_shows_0 : List UInt8 := [42, 27, 182, 1, 82, 54, 4, 3, 54, 5, 21, 5, 42, 180, 0, 9, 16, 6, 46, 162, 0, 42, 21, 4]
abbrev dktX2_shows_0 : List UInt8 := dkwX2_shows_0 ++ dktX2_shows_1
theorem dksX2_shows_0 : cX2_shows.data.toList.drop 0 = dktX2_shows_0 := by decide +kernel
theorem dksX2_shows_1 : cX2_shows.data.toList.drop 24 = dktX2_shows_1 := dk_seg dksX2_shows_0 24 rfl rfl
theorem dksX2_shows_2 : cX2_shows.data.toList.drop 47 = dktX2_shows_2 := dk_seg dksX2_shows_1 23 rfl rfl
theorem dX2_shows_0 : decode cX2_shows 0 = .ok (.aload_n 0, 1) := dk_42 (dk_at dksX2_shows_0 0 rfl rfl)
theorem dX2_shows_1 : decode cX2_shows 1 = .ok (.iload_n 1, 1) := dk_27 (dk_at dksX2_shows_0 1 rfl rfl)
theorem dX2_shows_2 : decode cX2_shows 2 = .ok (.invokevirtual 338, 3) := dk_182 1 82 (dk_at dksX2_shows_0 2 rfl rfl)
theorem dX2_shows_5 : decode cX2_shows 5 = .ok (.istore 4, 2) := dk_54 4 (dk_at dksX2_shows_0 5 rfl rfl)
theorem dX2_shows_7 : decode cX2_shows 7 = .ok (.iconst 0, 1) := dk_3 (dk_at dksX2_shows_0 7 rfl rfl)
theorem dX2_shows_8 : decode cX2_shows 8 = .ok (.istore 5, 2) := dk_54 5 (dk_at dksX2_shows_0 8 rfl rfl)
theorem dX2_shows_10 : decode cX2_shows 10 = .ok (.iload 5, 2) := dk_21 5 (dk_at dksX2_shows_0 10 rfl rfl)
theorem dX2_shows_12 : decode cX2_shows 12 = .ok (.aload_n 0, 1) := dk_42 (dk_at dksX2_shows_0 12 rfl rfl)
theorem dX2_shows_13 : decode cX2_shows 13 = .ok (.getfield 9, 3) := dk_180 0 9 (dk_at dksX2_shows_0 13 rfl rfl)
theorem dX2_shows_16 : decode cX2_shows 16 = .ok (.bipush 6, 2) := dk_16 6 (dk_at dksX2_shows_0 16 rfl rfl)
theorem dX2_shows_18 : decode cX2_shows 18 = .ok (.iaload, 1) := dk_46 (dk_at dksX2_shows_0 18 rfl rfl)
theorem dX2_shows_19 : decode cX2_shows 19 = .ok (.if_icmp .ge 42, 3) := dk_162 0 42 (dk_at dksX2_shows_0 19 rfl rfl)
theorem dX2_shows_22 : decode cX2_shows 22 = .ok (.iload 4, 2) := dk_21 4 (dk_at dksX2_shows_0 22 rfl rfl)
theorem dX2_shows_24 : decode cX2_shows 24 = .ok (.iload 5, 2) := dk_21 5 (dk_at dksX2_shows_1 0 rfl rfl)
theorem dX2_shows_26 : decode cX2_shows 26 = .ok (.invokestatic 245, 3) := dk_184 0 245 (dk_at dksX2_shows_1 2 rfl rfl)
theorem dX2_shows_29 : decode cX2_shows 29 = .ok (.ifCond .eq 26, 3) := dk_153 0 26 (dk_at dksX2_shows_1 5 rfl rfl)
theorem dX2_shows_32 : decode cX2_shows 32 = .ok (.aload_n 0, 1) := dk_42 (dk_at dksX2_shows_1 8 rfl rfl)
theorem dX2_shows_33 : decode cX2_shows 33 = .ok (.getfield 9, 3) := dk_180 0 9 (dk_at dksX2_shows_1 9 rfl rfl)
theorem dX2_shows_36 : decode cX2_shows 36 = .ok (.iload 5, 2) := dk_21 5 (dk_at dksX2_shows_1 12 rfl rfl)
theorem dX2_shows_38 : decode cX2_shows 38 = .ok (.iload_n 1, 1) := dk_27 (dk_at dksX2_shows_1 14 rfl rfl)
theorem dX2_shows_39 : decode cX2_shows 39 = .ok (.iload_n 2, 1) := dk_28 (dk_at dksX2_shows_1 15 rfl rfl)
theorem dX2_shows_40 : decode cX2_shows 40 = .ok (.invokestatic 226, 3) := dk_184 0 226 (dk_at dksX2_shows_1 16 rfl rfl)
theorem dX2_shows_43 : decode cX2_shows 43 = .ok (.aload_n 0, 1) := dk_42 (dk_at dksX2_shows_1 19 rfl rfl)
theorem dX2_shows_44 : decode cX2_shows 44 = .ok (.getfield 9, 3) := dk_180 0 9 (dk_at dksX2_shows_1 20 rfl rfl)
theorem dX2_shows_47 : decode cX2_shows 47 = .ok (.bipush 90, 2) := dk_16 90 (dk_at dksX2_shows_2 0 rfl rfl)
theorem dX2_shows_49 : decode cX2_shows 49 = .ok (.iaload, 1) := dk_46 (dk_at dksX2_shows_2 2 rfl rfl)
theorem dX2_shows_50 : decode cX2_shows 50 = .ok (.iload_n 3, 1) := dk_29 (dk_at dksX2_shows_2 3 rfl rfl)
theorem dX2_shows_51 : decode cX2_shows 51 = .ok (.invokestatic 368, 3) := dk_184 1 112 (dk_at dksX2_shows_2 4 rfl rfl)
theorem dX2_shows_54 : decode cX2_shows 54 = .ok (.iastore, 1) := dk_79 (dk_at dksX2_shows_2 7 rfl rfl)
theorem dX2_shows_55 : decode cX2_shows 55 = .ok (.iinc 5 1, 3) := dk_132 5 1 (dk_at dksX2_shows_2 8 rfl rfl)
theorem dX2_shows_58 : decode cX2_shows 58 = .ok (.goto (-48), 3) := dk_167 255 208 (dk_at dksX2_shows_2 11 rfl rfl)
theorem dX2_shows_61 : decode cX2_shows 61 = .ok (.iload 4, 2) := dk_21 4 (dk_at dksX2_shows_2 14 rfl rfl)
theorem dX2_shows_63 : decode cX2_shows 63 = .ok (.ireturn, 1) := dk_172 (dk_at dksX2_shows_2 16 rfl rfl)
abbrev cX2_made : ByteArray := prog_20_method_50_code
def yX2_made : MethodName := ⟨RX2, "made", "(IZ)I"⟩
def dkwX2_made_0 : List UInt8 := [5, 26, 104, 27, 153, 0, 7, 5, 167, 0, 4, 4, 96, 172]
abbrev dktX2_made_0 : List UInt8 := dkwX2_made_0 ++ []
theorem dksX2_made_0 : cX2_made.data.toList.drop 0 = dktX2_made_0 := by decide +kernel
theorem dX2_made_0 : decode cX2_made 0 = .ok (.iconst 2, 1) := dk_5 (dk_at dksX2_made_0 0 rfl rfl)
theorem dX2_made_1 : decode cX2_made 1 = .ok (.iload_n 0, 1) := dk_26 (dk_at dksX2_made_0 1 rfl rfl)
theorem dX2_made_2 : decode cX2_made 2 = .ok (.imul, 1) := dk_104 (dk_at dksX2_made_0 2 rfl rfl)
theorem dX2_made_3 : decode cX2_made 3 = .ok (.iload_n 1, 1) := dk_27 (dk_at dksX2_made_0 3 rfl rfl)
theorem dX2_made_4 : decode cX2_made 4 = .ok (.ifCond .eq 7, 3) := dk_153 0 7 (dk_at dksX2_made_0 4 rfl rfl)
theorem dX2_made_7 : decode cX2_made 7 = .ok (.iconst 2, 1) := dk_5 (dk_at dksX2_made_0 7 rfl rfl)
theorem dX2_made_8 : decode cX2_made 8 = .ok (.goto 4, 3) := dk_167 0 4 (dk_at dksX2_made_0 8 rfl rfl)
theorem dX2_made_11 : decode cX2_made 11 = .ok (.iconst 1, 1) := dk_4 (dk_at dksX2_made_0 11 rfl rfl)
theorem dX2_made_12 : decode cX2_made 12 = .ok (.iadd, 1) := dk_96 (dk_at dksX2_made_0 12 rfl rfl)
theorem dX2_made_13 : decode cX2_made 13 = .ok (.ireturn, 1) := dk_172 (dk_at dksX2_made_0 13 rfl rfl)
abbrev cX2_bestCaller : ByteArray := prog_20_method_128_code
def yX2_bestCaller : MethodName := ⟨RX2, "bestCaller", "(II)I"⟩
def dkwX2_bestCaller_3 : List UInt8 := [54, 4, 132, 5, 1, 167, 255, 211, 29, 172]
abbrev dktX2_bestCaller_3 : List UInt8 := dkwX2_bestCaller_3 ++ []
def dkwX2_bestCaller_2 : List UInt8 := [182, 1, 118, 184, 1, 56, 54, 6, 21, 6, 21, 4, 163, 0, 6, 167, 0, 10, 21, 5, 62, 21, 6]
abbrev dktX2_bestCaller_2 : List UInt8 := dkwX2_bestCaller_2 ++ dktX2_bestCaller_3
def dkwX2_bestCaller_1 : List UInt8 := [2, 54, 4, 3, 54, 5, 21, 5, 42, 180, 0, 9, 16, 6, 46, 162, 0, 39, 42, 21, 5, 27, 28]
abbrev dktX2_bestCaller_1 : List UInt8 := dkwX2_bestCaller_1 ++ dktX2_bestCaller_2
def dkwX2_bestCaller_0 : List UInt8 := [42, 42, 180, 0, 184, 42, 27, 182, 1, 22, 28, 184, 1, 106, 182, 0, 47, 154, 0, 5, 3, 172, 2, 62]
abbrev dktX2_bestCaller_0 : List UInt8 := dkwX2_bestCaller_0 ++ dktX2_bestCaller_1
theorem dksX2_bestCaller_0 : cX2_bestCaller.data.toList.drop 0 = dktX2_bestCaller_0 := by decide +kernel
theorem dksX2_bestCaller_1 : cX2_bestCaller.data.toList.drop 24 = dktX2_bestCaller_1 := dk_seg dksX2_bestCaller_0 24 rfl rfl
theorem dksX2_bestCaller_2 : cX2_bestCaller.data.toList.drop 47 = dktX2_bestCaller_2 := dk_seg dksX2_bestCaller_1 23 rfl rfl
theorem dksX2_bestCaller_3 : cX2_bestCaller.data.toList.drop 70 = dktX2_bestCaller_3 := dk_seg dksX2_bestCaller_2 23 rfl rfl
theorem dX2_bestCaller_0 : decode cX2_bestCaller 0 = .ok (.aload_n 0, 1) := dk_42 (dk_at dksX2_bestCaller_0 0 rfl rfl)
theorem dX2_bestCaller_1 : decode cX2_bestCaller 1 = .ok (.aload_n 0, 1) := dk_42 (dk_at dksX2_bestCaller_0 1 rfl rfl)
theorem dX2_bestCaller_2 : decode cX2_bestCaller 2 = .ok (.getfield 184, 3) := dk_180 0 184 (dk_at dksX2_bestCaller_0 2 rfl rfl)
theorem dX2_bestCaller_5 : decode cX2_bestCaller 5 = .ok (.aload_n 0, 1) := dk_42 (dk_at dksX2_bestCaller_0 5 rfl rfl)
theorem dX2_bestCaller_6 : decode cX2_bestCaller 6 = .ok (.iload_n 1, 1) := dk_27 (dk_at dksX2_bestCaller_0 6 rfl rfl)
theorem dX2_bestCaller_7 : decode cX2_bestCaller 7 = .ok (.invokevirtual 278, 3) := dk_182 1 22 (dk_at dksX2_bestCaller_0 7 rfl rfl)
theorem dX2_bestCaller_10 : decode cX2_bestCaller 10 = .ok (.iload_n 2, 1) := dk_28 (dk_at dksX2_bestCaller_0 10 rfl rfl)
theorem dX2_bestCaller_11 : decode cX2_bestCaller 11 = .ok (.invokestatic 362, 3) := dk_184 1 106 (dk_at dksX2_bestCaller_0 11 rfl rfl)
theorem dX2_bestCaller_14 : decode cX2_bestCaller 14 = .ok (.invokevirtual 47, 3) := dk_182 0 47 (dk_at dksX2_bestCaller_0 14 rfl rfl)
theorem dX2_bestCaller_17 : decode cX2_bestCaller 17 = .ok (.ifCond .ne 5, 3) := dk_154 0 5 (dk_at dksX2_bestCaller_0 17 rfl rfl)
theorem dX2_bestCaller_20 : decode cX2_bestCaller 20 = .ok (.iconst 0, 1) := dk_3 (dk_at dksX2_bestCaller_0 20 rfl rfl)
theorem dX2_bestCaller_21 : decode cX2_bestCaller 21 = .ok (.ireturn, 1) := dk_172 (dk_at dksX2_bestCaller_0 21 rfl rfl)
theorem dX2_bestCaller_22 : decode cX2_bestCaller 22 = .ok (.iconst (-1), 1) := dk_2 (dk_at dksX2_bestCaller_0 22 rfl rfl)
theorem dX2_bestCaller_23 : decode cX2_bestCaller 23 = .ok (.istore_n 3, 1) := dk_62 (dk_at dksX2_bestCaller_0 23 rfl rfl)
theorem dX2_bestCaller_24 : decode cX2_bestCaller 24 = .ok (.iconst (-1), 1) := dk_2 (dk_at dksX2_bestCaller_1 0 rfl rfl)
theorem dX2_bestCaller_25 : decode cX2_bestCaller 25 = .ok (.istore 4, 2) := dk_54 4 (dk_at dksX2_bestCaller_1 1 rfl rfl)
theorem dX2_bestCaller_27 : decode cX2_bestCaller 27 = .ok (.iconst 0, 1) := dk_3 (dk_at dksX2_bestCaller_1 3 rfl rfl)
theorem dX2_bestCaller_28 : decode cX2_bestCaller 28 = .ok (.istore 5, 2) := dk_54 5 (dk_at dksX2_bestCaller_1 4 rfl rfl)
theorem dX2_bestCaller_30 : decode cX2_bestCaller 30 = .ok (.iload 5, 2) := dk_21 5 (dk_at dksX2_bestCaller_1 6 rfl rfl)
theorem dX2_bestCaller_32 : decode cX2_bestCaller 32 = .ok (.aload_n 0, 1) := dk_42 (dk_at dksX2_bestCaller_1 8 rfl rfl)
theorem dX2_bestCaller_33 : decode cX2_bestCaller 33 = .ok (.getfield 9, 3) := dk_180 0 9 (dk_at dksX2_bestCaller_1 9 rfl rfl)
theorem dX2_bestCaller_36 : decode cX2_bestCaller 36 = .ok (.bipush 6, 2) := dk_16 6 (dk_at dksX2_bestCaller_1 12 rfl rfl)
theorem dX2_bestCaller_38 : decode cX2_bestCaller 38 = .ok (.iaload, 1) := dk_46 (dk_at dksX2_bestCaller_1 14 rfl rfl)
theorem dX2_bestCaller_39 : decode cX2_bestCaller 39 = .ok (.if_icmp .ge 39, 3) := dk_162 0 39 (dk_at dksX2_bestCaller_1 15 rfl rfl)
theorem dX2_bestCaller_42 : decode cX2_bestCaller 42 = .ok (.aload_n 0, 1) := dk_42 (dk_at dksX2_bestCaller_1 18 rfl rfl)
theorem dX2_bestCaller_43 : decode cX2_bestCaller 43 = .ok (.iload 5, 2) := dk_21 5 (dk_at dksX2_bestCaller_1 19 rfl rfl)
theorem dX2_bestCaller_45 : decode cX2_bestCaller 45 = .ok (.iload_n 1, 1) := dk_27 (dk_at dksX2_bestCaller_1 21 rfl rfl)
theorem dX2_bestCaller_46 : decode cX2_bestCaller 46 = .ok (.iload_n 2, 1) := dk_28 (dk_at dksX2_bestCaller_1 22 rfl rfl)
theorem dX2_bestCaller_47 : decode cX2_bestCaller 47 = .ok (.invokevirtual 374, 3) := dk_182 1 118 (dk_at dksX2_bestCaller_2 0 rfl rfl)
theorem dX2_bestCaller_50 : decode cX2_bestCaller 50 = .ok (.invokestatic 312, 3) := dk_184 1 56 (dk_at dksX2_bestCaller_2 3 rfl rfl)
theorem dX2_bestCaller_53 : decode cX2_bestCaller 53 = .ok (.istore 6, 2) := dk_54 6 (dk_at dksX2_bestCaller_2 6 rfl rfl)
theorem dX2_bestCaller_55 : decode cX2_bestCaller 55 = .ok (.iload 6, 2) := dk_21 6 (dk_at dksX2_bestCaller_2 8 rfl rfl)
theorem dX2_bestCaller_57 : decode cX2_bestCaller 57 = .ok (.iload 4, 2) := dk_21 4 (dk_at dksX2_bestCaller_2 10 rfl rfl)
theorem dX2_bestCaller_59 : decode cX2_bestCaller 59 = .ok (.if_icmp .gt 6, 3) := dk_163 0 6 (dk_at dksX2_bestCaller_2 12 rfl rfl)
theorem dX2_bestCaller_62 : decode cX2_bestCaller 62 = .ok (.goto 10, 3) := dk_167 0 10 (dk_at dksX2_bestCaller_2 15 rfl rfl)
theorem dX2_bestCaller_65 : decode cX2_bestCaller 65 = .ok (.iload 5, 2) := dk_21 5 (dk_at dksX2_bestCaller_2 18 rfl rfl)
theorem dX2_bestCaller_67 : decode cX2_bestCaller 67 = .ok (.istore_n 3, 1) := dk_62 (dk_at dksX2_bestCaller_2 20 rfl rfl)
theorem dX2_bestCaller_68 : decode cX2_bestCaller 68 = .ok (.iload 6, 2) := dk_21 6 (dk_at dksX2_bestCaller_2 21 rfl rfl)
theorem dX2_bestCaller_70 : decode cX2_bestCaller 70 = .ok (.istore 4, 2) := dk_54 4 (dk_at dksX2_bestCaller_3 0 rfl rfl)
theorem dX2_bestCaller_72 : decode cX2_bestCaller 72 = .ok (.iinc 5 1, 3) := dk_132 5 1 (dk_at dksX2_bestCaller_3 2 rfl rfl)
theorem dX2_bestCaller_75 : decode cX2_bestCaller 75 = .ok (.goto (-45), 3) := dk_167 255 211 (dk_at dksX2_bestCaller_3 5 rfl rfl)
theorem dX2_bestCaller_78 : decode cX2_bestCaller 78 = .ok (.iload_n 3, 1) := dk_29 (dk_at dksX2_bestCaller_3 8 rfl rfl)
theorem dX2_bestCaller_79 : decode cX2_bestCaller 79 = .ok (.ireturn, 1) := dk_172 (dk_at dksX2_bestCaller_3 9 rfl rfl)
abbrev cX2_leastShare : ByteArray := prog_20_method_129_code
def yX2_leastShare : MethodName := ⟨RX2, "leastShare", "(II)I"⟩
def dkwX2_leastShare_2 : List UInt8 := [21, 5, 21, 4, 104, 161, 0, 6, 21, 5, 172, 132, 5, 255, 167, 255, 229, 2, 172]
abbrev dktX2_leastShare_2 : List UInt8 := dkwX2_leastShare_2 ++ []
def dkwX2_leastShare_1 : List UInt8 := [182, 0, 241, 96, 54, 4, 16, 100, 54, 5, 21, 5, 158, 0, 28, 29, 158, 0, 24, 16, 100, 29, 104]
abbrev dktX2_leastShare_1 : List UInt8 := dkwX2_leastShare_1 ++ dktX2_leastShare_2
def dkwX2_leastShare_0 : List UInt8 := [42, 27, 28, 182, 1, 76, 154, 0, 5, 3, 172, 42, 27, 28, 4, 182, 0, 241, 62, 29, 42, 27, 28, 3]
abbrev dktX2_leastShare_0 : List UInt8 := dkwX2_leastShare_0 ++ dktX2_leastShare_1
theorem dksX2_leastShare_0 : cX2_leastShare.data.toList.drop 0 = dktX2_leastShare_0 := by decide +kernel
theorem dksX2_leastShare_1 : cX2_leastShare.data.toList.drop 24 = dktX2_leastShare_1 := dk_seg dksX2_leastShare_0 24 rfl rfl
theorem dksX2_leastShare_2 : cX2_leastShare.data.toList.drop 47 = dktX2_leastShare_2 := dk_seg dksX2_leastShare_1 23 rfl rfl
theorem dX2_leastShare_0 : decode cX2_leastShare 0 = .ok (.aload_n 0, 1) := dk_42 (dk_at dksX2_leastShare_0 0 rfl rfl)
theorem dX2_leastShare_1 : decode cX2_leastShare 1 = .ok (.iload_n 1, 1) := dk_27 (dk_at dksX2_leastShare_0 1 rfl rfl)
theorem dX2_leastShare_2 : decode cX2_leastShare 2 = .ok (.iload_n 2, 1) := dk_28 (dk_at dksX2_leastShare_0 2 rfl rfl)
theorem dX2_leastShare_3 : decode cX2_leastShare 3 = .ok (.invokevirtual 332, 3) := dk_182 1 76 (dk_at dksX2_leastShare_0 3 rfl rfl)
theorem dX2_leastShare_6 : decode cX2_leastShare 6 = .ok (.ifCond .ne 5, 3) := dk_154 0 5 (dk_at dksX2_leastShare_0 6 rfl rfl)
theorem dX2_leastShare_9 : decode cX2_leastShare 9 = .ok (.iconst 0, 1) := dk_3 (dk_at dksX2_leastShare_0 9 rfl rfl)
theorem dX2_leastShare_10 : decode cX2_leastShare 10 = .ok (.ireturn, 1) := dk_172 (dk_at dksX2_leastShare_0 10 rfl rfl)
theorem dX2_leastShare_11 : decode cX2_leastShare 11 = .ok (.aload_n 0, 1) := dk_42 (dk_at dksX2_leastShare_0 11 rfl rfl)
theorem dX2_leastShare_12 : decode cX2_leastShare 12 = .ok (.iload_n 1, 1) := dk_27 (dk_at dksX2_leastShare_0 12 rfl rfl)
theorem dX2_leastShare_13 : decode cX2_leastShare 13 = .ok (.iload_n 2, 1) := dk_28 (dk_at dksX2_leastShare_0 13 rfl rfl)
theorem dX2_leastShare_14 : decode cX2_leastShare 14 = .ok (.iconst 1, 1) := dk_4 (dk_at dksX2_leastShare_0 14 rfl rfl)
theorem dX2_leastShare_15 : decode cX2_leastShare 15 = .ok (.invokevirtual 241, 3) := dk_182 0 241 (dk_at dksX2_leastShare_0 15 rfl rfl)
theorem dX2_leastShare_18 : decode cX2_leastShare 18 = .ok (.istore_n 3, 1) := dk_62 (dk_at dksX2_leastShare_0 18 rfl rfl)
theorem dX2_leastShare_19 : decode cX2_leastShare 19 = .ok (.iload_n 3, 1) := dk_29 (dk_at dksX2_leastShare_0 19 rfl rfl)
theorem dX2_leastShare_20 : decode cX2_leastShare 20 = .ok (.aload_n 0, 1) := dk_42 (dk_at dksX2_leastShare_0 20 rfl rfl)
theorem dX2_leastShare_21 : decode cX2_leastShare 21 = .ok (.iload_n 1, 1) := dk_27 (dk_at dksX2_leastShare_0 21 rfl rfl)
theorem dX2_leastShare_22 : decode cX2_leastShare 22 = .ok (.iload_n 2, 1) := dk_28 (dk_at dksX2_leastShare_0 22 rfl rfl)
theorem dX2_leastShare_23 : decode cX2_leastShare 23 = .ok (.iconst 0, 1) := dk_3 (dk_at dksX2_leastShare_0 23 rfl rfl)
theorem dX2_leastShare_24 : decode cX2_leastShare 24 = .ok (.invokevirtual 241, 3) := dk_182 0 241 (dk_at dksX2_leastShare_1 0 rfl rfl)
theorem dX2_leastShare_27 : decode cX2_leastShare 27 = .ok (.iadd, 1) := dk_96 (dk_at dksX2_leastShare_1 3 rfl rfl)
theorem dX2_leastShare_28 : decode cX2_leastShare 28 = .ok (.istore 4, 2) := dk_54 4 (dk_at dksX2_leastShare_1 4 rfl rfl)
theorem dX2_leastShare_30 : decode cX2_leastShare 30 = .ok (.bipush 100, 2) := dk_16 100 (dk_at dksX2_leastShare_1 6 rfl rfl)
theorem dX2_leastShare_32 : decode cX2_leastShare 32 = .ok (.istore 5, 2) := dk_54 5 (dk_at dksX2_leastShare_1 8 rfl rfl)
theorem dX2_leastShare_34 : decode cX2_leastShare 34 = .ok (.iload 5, 2) := dk_21 5 (dk_at dksX2_leastShare_1 10 rfl rfl)
theorem dX2_leastShare_36 : decode cX2_leastShare 36 = .ok (.ifCond .le 28, 3) := dk_158 0 28 (dk_at dksX2_leastShare_1 12 rfl rfl)
theorem dX2_leastShare_39 : decode cX2_leastShare 39 = .ok (.iload_n 3, 1) := dk_29 (dk_at dksX2_leastShare_1 15 rfl rfl)
theorem dX2_leastShare_40 : decode cX2_leastShare 40 = .ok (.ifCond .le 24, 3) := dk_158 0 24 (dk_at dksX2_leastShare_1 16 rfl rfl)
theorem dX2_leastShare_43 : decode cX2_leastShare 43 = .ok (.bipush 100, 2) := dk_16 100 (dk_at dksX2_leastShare_1 19 rfl rfl)
theorem dX2_leastShare_45 : decode cX2_leastShare 45 = .ok (.iload_n 3, 1) := dk_29 (dk_at dksX2_leastShare_1 21 rfl rfl)
theorem dX2_leastShare_46 : decode cX2_leastShare 46 = .ok (.imul, 1) := dk_104 (dk_at dksX2_leastShare_1 22 rfl rfl)
theorem dX2_leastShare_47 : decode cX2_leastShare 47 = .ok (.iload 5, 2) := dk_21 5 (dk_at dksX2_leastShare_2 0 rfl rfl)
theorem dX2_leastShare_49 : decode cX2_leastShare 49 = .ok (.iload 4, 2) := dk_21 4 (dk_at dksX2_leastShare_2 2 rfl rfl)
theorem dX2_leastShare_51 : decode cX2_leastShare 51 = .ok (.imul, 1) := dk_104 (dk_at dksX2_leastShare_2 4 rfl rfl)
theorem dX2_leastShare_52 : decode cX2_leastShare 52 = .ok (.if_icmp .lt 6, 3) := dk_161 0 6 (dk_at dksX2_leastShare_2 5 rfl rfl)
theorem dX2_leastShare_55 : decode cX2_leastShare 55 = .ok (.iload 5, 2) := dk_21 5 (dk_at dksX2_leastShare_2 8 rfl rfl)
theorem dX2_leastShare_57 : decode cX2_leastShare 57 = .ok (.ireturn, 1) := dk_172 (dk_at dksX2_leastShare_2 10 rfl rfl)
theorem dX2_leastShare_58 : decode cX2_leastShare 58 = .ok (.iinc 5 (-1), 3) := dk_132 5 255 (dk_at dksX2_leastShare_2 11 rfl rfl)
theorem dX2_leastShare_61 : decode cX2_leastShare 61 = .ok (.goto (-27), 3) := dk_167 255 229 (dk_at dksX2_leastShare_2 14 rfl rfl)
theorem dX2_leastShare_64 : decode cX2_leastShare 64 = .ok (.iconst (-1), 1) := dk_2 (dk_at dksX2_leastShare_2 17 rfl rfl)
theorem dX2_leastShare_65 : decode cX2_leastShare 65 = .ok (.ireturn, 1) := dk_172 (dk_at dksX2_leastShare_2 18 rfl rfl)
abbrev cX2_writeBulletin : ByteArray := prog_20_method_133_code
def yX2_writeBulletin : MethodName := ⟨RX2, "writeBulletin", "(I)I"⟩
def dkwX2_writeBulletin_3 : List UInt8 := [182, 1, 127, 132, 2, 1, 167, 255, 208, 42, 180, 1, 121, 172]
abbrev dktX2_writeBulletin_3 : List UInt8 := dkwX2_writeBulletin_3 ++ []
def dkwX2_writeBulletin_2 : List UInt8 := [16, 10, 28, 96, 182, 1, 132, 42, 42, 27, 28, 182, 1, 88, 153, 0, 8, 16, 45, 167, 0, 5, 16, 43]
abbrev dktX2_writeBulletin_2 : List UInt8 := dkwX2_writeBulletin_2 ++ dktX2_writeBulletin_3
def dkwX2_writeBulletin_1 : List UInt8 := [182, 1, 127, 3, 61, 28, 42, 180, 0, 9, 16, 7, 46, 162, 0, 43, 42, 16, 32, 182, 1, 127, 42]
abbrev dktX2_writeBulletin_1 : List UInt8 := dkwX2_writeBulletin_1 ++ dktX2_writeBulletin_2
def dkwX2_writeBulletin_0 : List UInt8 := [42, 27, 182, 1, 79, 154, 0, 5, 3, 172, 42, 3, 181, 1, 121, 42, 27, 182, 1, 132, 42, 16, 58]
abbrev dktX2_writeBulletin_0 : List UInt8 := dkwX2_writeBulletin_0 ++ dktX2_writeBulletin_1
theorem dksX2_writeBulletin_0 : cX2_writeBulletin.data.toList.drop 0 = dktX2_writeBulletin_0 := by decide +kernel
theorem dksX2_writeBulletin_1 : cX2_writeBulletin.data.toList.drop 23 = dktX2_writeBulletin_1 := dk_seg dksX2_writeBulletin_0 23 rfl rfl
theorem dksX2_writeBulletin_2 : cX2_writeBulletin.data.toList.drop 46 = dktX2_writeBulletin_2 := dk_seg dksX2_writeBulletin_1 23 rfl rfl
theorem dksX2_writeBulletin_3 : cX2_writeBulletin.data.toList.drop 70 = dktX2_writeBulletin_3 := dk_seg dksX2_writeBulletin_2 24 rfl rfl
theorem dX2_writeBulletin_0 : decode cX2_writeBulletin 0 = .ok (.aload_n 0, 1) := dk_42 (dk_at dksX2_writeBulletin_0 0 rfl rfl)
theorem dX2_writeBulletin_1 : decode cX2_writeBulletin 1 = .ok (.iload_n 1, 1) := dk_27 (dk_at dksX2_writeBulletin_0 1 rfl rfl)
theorem dX2_writeBulletin_2 : decode cX2_writeBulletin 2 = .ok (.invokevirtual 335, 3) := dk_182 1 79 (dk_at dksX2_writeBulletin_0 2 rfl rfl)
theorem dX2_writeBulletin_5 : decode cX2_writeBulletin 5 = .ok (.ifCond .ne 5, 3) := dk_154 0 5 (dk_at dksX2_writeBulletin_0 5 rfl rfl)
theorem dX2_writeBulletin_8 : decode cX2_writeBulletin 8 = .ok (.iconst 0, 1) := dk_3 (dk_at dksX2_writeBulletin_0 8 rfl rfl)
theorem dX2_writeBulletin_9 : decode cX2_writeBulletin 9 = .ok (.ireturn, 1) := dk_172 (dk_at dksX2_writeBulletin_0 9 rfl rfl)
theorem dX2_writeBulletin_10 : decode cX2_writeBulletin 10 = .ok (.aload_n 0, 1) := dk_42 (dk_at dksX2_writeBulletin_0 10 rfl rfl)
theorem dX2_writeBulletin_11 : decode cX2_writeBulletin 11 = .ok (.iconst 0, 1) := dk_3 (dk_at dksX2_writeBulletin_0 11 rfl rfl)
theorem dX2_writeBulletin_12 : decode cX2_writeBulletin 12 = .ok (.putfield 377, 3) := dk_181 1 121 (dk_at dksX2_writeBulletin_0 12 rfl rfl)
theorem dX2_writeBulletin_15 : decode cX2_writeBulletin 15 = .ok (.aload_n 0, 1) := dk_42 (dk_at dksX2_writeBulletin_0 15 rfl rfl)
theorem dX2_writeBulletin_16 : decode cX2_writeBulletin 16 = .ok (.iload_n 1, 1) := dk_27 (dk_at dksX2_writeBulletin_0 16 rfl rfl)
theorem dX2_writeBulletin_17 : decode cX2_writeBulletin 17 = .ok (.invokevirtual 388, 3) := dk_182 1 132 (dk_at dksX2_writeBulletin_0 17 rfl rfl)
theorem dX2_writeBulletin_20 : decode cX2_writeBulletin 20 = .ok (.aload_n 0, 1) := dk_42 (dk_at dksX2_writeBulletin_0 20 rfl rfl)
theorem dX2_writeBulletin_21 : decode cX2_writeBulletin 21 = .ok (.bipush 58, 2) := dk_16 58 (dk_at dksX2_writeBulletin_0 21 rfl rfl)
theorem dX2_writeBulletin_23 : decode cX2_writeBulletin 23 = .ok (.invokevirtual 383, 3) := dk_182 1 127 (dk_at dksX2_writeBulletin_1 0 rfl rfl)
theorem dX2_writeBulletin_26 : decode cX2_writeBulletin 26 = .ok (.iconst 0, 1) := dk_3 (dk_at dksX2_writeBulletin_1 3 rfl rfl)
theorem dX2_writeBulletin_27 : decode cX2_writeBulletin 27 = .ok (.istore_n 2, 1) := dk_61 (dk_at dksX2_writeBulletin_1 4 rfl rfl)
theorem dX2_writeBulletin_28 : decode cX2_writeBulletin 28 = .ok (.iload_n 2, 1) := dk_28 (dk_at dksX2_writeBulletin_1 5 rfl rfl)
theorem dX2_writeBulletin_29 : decode cX2_writeBulletin 29 = .ok (.aload_n 0, 1) := dk_42 (dk_at dksX2_writeBulletin_1 6 rfl rfl)
theorem dX2_writeBulletin_30 : decode cX2_writeBulletin 30 = .ok (.getfield 9, 3) := dk_180 0 9 (dk_at dksX2_writeBulletin_1 7 rfl rfl)
theorem dX2_writeBulletin_33 : decode cX2_writeBulletin 33 = .ok (.bipush 7, 2) := dk_16 7 (dk_at dksX2_writeBulletin_1 10 rfl rfl)
theorem dX2_writeBulletin_35 : decode cX2_writeBulletin 35 = .ok (.iaload, 1) := dk_46 (dk_at dksX2_writeBulletin_1 12 rfl rfl)
theorem dX2_writeBulletin_36 : decode cX2_writeBulletin 36 = .ok (.if_icmp .ge 43, 3) := dk_162 0 43 (dk_at dksX2_writeBulletin_1 13 rfl rfl)
theorem dX2_writeBulletin_39 : decode cX2_writeBulletin 39 = .ok (.aload_n 0, 1) := dk_42 (dk_at dksX2_writeBulletin_1 16 rfl rfl)
theorem dX2_writeBulletin_40 : decode cX2_writeBulletin 40 = .ok (.bipush 32, 2) := dk_16 32 (dk_at dksX2_writeBulletin_1 17 rfl rfl)
theorem dX2_writeBulletin_42 : decode cX2_writeBulletin 42 = .ok (.invokevirtual 383, 3) := dk_182 1 127 (dk_at dksX2_writeBulletin_1 19 rfl rfl)
theorem dX2_writeBulletin_45 : decode cX2_writeBulletin 45 = .ok (.aload_n 0, 1) := dk_42 (dk_at dksX2_writeBulletin_1 22 rfl rfl)
theorem dX2_writeBulletin_46 : decode cX2_writeBulletin 46 = .ok (.bipush 10, 2) := dk_16 10 (dk_at dksX2_writeBulletin_2 0 rfl rfl)
theorem dX2_writeBulletin_48 : decode cX2_writeBulletin 48 = .ok (.iload_n 2, 1) := dk_28 (dk_at dksX2_writeBulletin_2 2 rfl rfl)
theorem dX2_writeBulletin_49 : decode cX2_writeBulletin 49 = .ok (.iadd, 1) := dk_96 (dk_at dksX2_writeBulletin_2 3 rfl rfl)
theorem dX2_writeBulletin_50 : decode cX2_writeBulletin 50 = .ok (.invokevirtual 388, 3) := dk_182 1 132 (dk_at dksX2_writeBulletin_2 4 rfl rfl)
theorem dX2_writeBulletin_53 : decode cX2_writeBulletin 53 = .ok (.aload_n 0, 1) := dk_42 (dk_at dksX2_writeBulletin_2 7 rfl rfl)
theorem dX2_writeBulletin_54 : decode cX2_writeBulletin 54 = .ok (.aload_n 0, 1) := dk_42 (dk_at dksX2_writeBulletin_2 8 rfl rfl)
theorem dX2_writeBulletin_55 : decode cX2_writeBulletin 55 = .ok (.iload_n 1, 1) := dk_27 (dk_at dksX2_writeBulletin_2 9 rfl rfl)
theorem dX2_writeBulletin_56 : decode cX2_writeBulletin 56 = .ok (.iload_n 2, 1) := dk_28 (dk_at dksX2_writeBulletin_2 10 rfl rfl)
theorem dX2_writeBulletin_57 : decode cX2_writeBulletin 57 = .ok (.invokevirtual 344, 3) := dk_182 1 88 (dk_at dksX2_writeBulletin_2 11 rfl rfl)
theorem dX2_writeBulletin_60 : decode cX2_writeBulletin 60 = .ok (.ifCond .eq 8, 3) := dk_153 0 8 (dk_at dksX2_writeBulletin_2 14 rfl rfl)
theorem dX2_writeBulletin_63 : decode cX2_writeBulletin 63 = .ok (.bipush 45, 2) := dk_16 45 (dk_at dksX2_writeBulletin_2 17 rfl rfl)
theorem dX2_writeBulletin_65 : decode cX2_writeBulletin 65 = .ok (.goto 5, 3) := dk_167 0 5 (dk_at dksX2_writeBulletin_2 19 rfl rfl)
theorem dX2_writeBulletin_68 : decode cX2_writeBulletin 68 = .ok (.bipush 43, 2) := dk_16 43 (dk_at dksX2_writeBulletin_2 22 rfl rfl)
theorem dX2_writeBulletin_70 : decode cX2_writeBulletin 70 = .ok (.invokevirtual 383, 3) := dk_182 1 127 (dk_at dksX2_writeBulletin_3 0 rfl rfl)
theorem dX2_writeBulletin_73 : decode cX2_writeBulletin 73 = .ok (.iinc 2 1, 3) := dk_132 2 1 (dk_at dksX2_writeBulletin_3 3 rfl rfl)
theorem dX2_writeBulletin_76 : decode cX2_writeBulletin 76 = .ok (.goto (-48), 3) := dk_167 255 208 (dk_at dksX2_writeBulletin_3 6 rfl rfl)
theorem dX2_writeBulletin_79 : decode cX2_writeBulletin 79 = .ok (.aload_n 0, 1) := dk_42 (dk_at dksX2_writeBulletin_3 9 rfl rfl)
theorem dX2_writeBulletin_80 : decode cX2_writeBulletin 80 = .ok (.getfield 377, 3) := dk_180 1 121 (dk_at dksX2_writeBulletin_3 10 rfl rfl)
theorem dX2_writeBulletin_83 : decode cX2_writeBulletin 83 = .ok (.ireturn, 1) := dk_172 (dk_at dksX2_writeBulletin_3 13 rfl rfl)
abbrev cX2_writesName : ByteArray := prog_20_method_132_code
def yX2_writesName : MethodName := ⟨RX2, "writesName", "(I)V"⟩
def dkwX2_writesName_2 : List UInt8 := [109, 97, 136, 182, 1, 127, 22, 4, 32, 113, 55, 4, 32, 20, 0, 68, 109, 65, 167, 255, 225, 177]
abbrev dktX2_writesName_2 : List UInt8 := dkwX2_writesName_2 ++ []
def dkwX2_writesName_1 : List UInt8 := [167, 255, 235, 42, 180, 0, 26, 27, 47, 55, 4, 32, 9, 148, 158, 0, 31, 42, 20, 1, 130, 22, 4, 32]
abbrev dktX2_writesName_1 : List UInt8 := dkwX2_writesName_1 ++ dktX2_writesName_2
def dkwX2_writesName_0 : List UInt8 := [10, 65, 32, 20, 0, 68, 105, 42, 180, 0, 26, 27, 47, 148, 157, 0, 12, 32, 20, 0, 68, 105, 65]
abbrev dktX2_writesName_0 : List UInt8 := dkwX2_writesName_0 ++ dktX2_writesName_1
theorem dksX2_writesName_0 : cX2_writesName.data.toList.drop 0 = dktX2_writesName_0 := by decide +kernel
theorem dksX2_writesName_1 : cX2_writesName.data.toList.drop 23 = dktX2_writesName_1 := dk_seg dksX2_writesName_0 23 rfl rfl
theorem dksX2_writesName_2 : cX2_writesName.data.toList.drop 47 = dktX2_writesName_2 := dk_seg dksX2_writesName_1 24 rfl rfl
theorem dX2_writesName_0 : decode cX2_writesName 0 = .ok (.lconst 1, 1) := dk_10 (dk_at dksX2_writesName_0 0 rfl rfl)
theorem dX2_writesName_1 : decode cX2_writesName 1 = .ok (.lstore_n 2, 1) := dk_65 (dk_at dksX2_writesName_0 1 rfl rfl)
theorem dX2_writesName_2 : decode cX2_writesName 2 = .ok (.lload_n 2, 1) := dk_32 (dk_at dksX2_writesName_0 2 rfl rfl)
theorem dX2_writesName_3 : decode cX2_writesName 3 = .ok (.ldc2_w 68, 3) := dk_20 0 68 (dk_at dksX2_writesName_0 3 rfl rfl)
theorem dX2_writesName_6 : decode cX2_writesName 6 = .ok (.lmul, 1) := dk_105 (dk_at dksX2_writesName_0 6 rfl rfl)
theorem dX2_writesName_7 : decode cX2_writesName 7 = .ok (.aload_n 0, 1) := dk_42 (dk_at dksX2_writesName_0 7 rfl rfl)
theorem dX2_writesName_8 : decode cX2_writesName 8 = .ok (.getfield 26, 3) := dk_180 0 26 (dk_at dksX2_writesName_0 8 rfl rfl)
theorem dX2_writesName_11 : decode cX2_writesName 11 = .ok (.iload_n 1, 1) := dk_27 (dk_at dksX2_writesName_0 11 rfl rfl)
theorem dX2_writesName_12 : decode cX2_writesName 12 = .ok (.laload, 1) := dk_47 (dk_at dksX2_writesName_0 12 rfl rfl)
theorem dX2_writesName_13 : decode cX2_writesName 13 = .ok (.lcmp, 1) := dk_148 (dk_at dksX2_writesName_0 13 rfl rfl)
theorem dX2_writesName_14 : decode cX2_writesName 14 = .ok (.ifCond .gt 12, 3) := dk_157 0 12 (dk_at dksX2_writesName_0 14 rfl rfl)
theorem dX2_writesName_17 : decode cX2_writesName 17 = .ok (.lload_n 2, 1) := dk_32 (dk_at dksX2_writesName_0 17 rfl rfl)
theorem dX2_writesName_18 : decode cX2_writesName 18 = .ok (.ldc2_w 68, 3) := dk_20 0 68 (dk_at dksX2_writesName_0 18 rfl rfl)
theorem dX2_writesName_21 : decode cX2_writesName 21 = .ok (.lmul, 1) := dk_105 (dk_at dksX2_writesName_0 21 rfl rfl)
theorem dX2_writesName_22 : decode cX2_writesName 22 = .ok (.lstore_n 2, 1) := dk_65 (dk_at dksX2_writesName_0 22 rfl rfl)
theorem dX2_writesName_23 : decode cX2_writesName 23 = .ok (.goto (-21), 3) := dk_167 255 235 (dk_at dksX2_writesName_1 0 rfl rfl)
theorem dX2_writesName_26 : decode cX2_writesName 26 = .ok (.aload_n 0, 1) := dk_42 (dk_at dksX2_writesName_1 3 rfl rfl)
theorem dX2_writesName_27 : decode cX2_writesName 27 = .ok (.getfield 26, 3) := dk_180 0 26 (dk_at dksX2_writesName_1 4 rfl rfl)
theorem dX2_writesName_30 : decode cX2_writesName 30 = .ok (.iload_n 1, 1) := dk_27 (dk_at dksX2_writesName_1 7 rfl rfl)
theorem dX2_writesName_31 : decode cX2_writesName 31 = .ok (.laload, 1) := dk_47 (dk_at dksX2_writesName_1 8 rfl rfl)
theorem dX2_writesName_32 : decode cX2_writesName 32 = .ok (.lstore 4, 2) := dk_55 4 (dk_at dksX2_writesName_1 9 rfl rfl)
theorem dX2_writesName_34 : decode cX2_writesName 34 = .ok (.lload_n 2, 1) := dk_32 (dk_at dksX2_writesName_1 11 rfl rfl)
theorem dX2_writesName_35 : decode cX2_writesName 35 = .ok (.lconst 0, 1) := dk_9 (dk_at dksX2_writesName_1 12 rfl rfl)
theorem dX2_writesName_36 : decode cX2_writesName 36 = .ok (.lcmp, 1) := dk_148 (dk_at dksX2_writesName_1 13 rfl rfl)
theorem dX2_writesName_37 : decode cX2_writesName 37 = .ok (.ifCond .le 31, 3) := dk_158 0 31 (dk_at dksX2_writesName_1 14 rfl rfl)
theorem dX2_writesName_40 : decode cX2_writesName 40 = .ok (.aload_n 0, 1) := dk_42 (dk_at dksX2_writesName_1 17 rfl rfl)
theorem dX2_writesName_41 : decode cX2_writesName 41 = .ok (.ldc2_w 386, 3) := dk_20 1 130 (dk_at dksX2_writesName_1 18 rfl rfl)
theorem dX2_writesName_44 : decode cX2_writesName 44 = .ok (.lload 4, 2) := dk_22 4 (dk_at dksX2_writesName_1 21 rfl rfl)
theorem dX2_writesName_46 : decode cX2_writesName 46 = .ok (.lload_n 2, 1) := dk_32 (dk_at dksX2_writesName_1 23 rfl rfl)
theorem dX2_writesName_47 : decode cX2_writesName 47 = .ok (.ldiv, 1) := dk_109 (dk_at dksX2_writesName_2 0 rfl rfl)
theorem dX2_writesName_48 : decode cX2_writesName 48 = .ok (.ladd, 1) := dk_97 (dk_at dksX2_writesName_2 1 rfl rfl)
theorem dX2_writesName_49 : decode cX2_writesName 49 = .ok (.l2i, 1) := dk_136 (dk_at dksX2_writesName_2 2 rfl rfl)
theorem dX2_writesName_50 : decode cX2_writesName 50 = .ok (.invokevirtual 383, 3) := dk_182 1 127 (dk_at dksX2_writesName_2 3 rfl rfl)
theorem dX2_writesName_53 : decode cX2_writesName 53 = .ok (.lload 4, 2) := dk_22 4 (dk_at dksX2_writesName_2 6 rfl rfl)
theorem dX2_writesName_55 : decode cX2_writesName 55 = .ok (.lload_n 2, 1) := dk_32 (dk_at dksX2_writesName_2 8 rfl rfl)
theorem dX2_writesName_56 : decode cX2_writesName 56 = .ok (.lrem, 1) := dk_113 (dk_at dksX2_writesName_2 9 rfl rfl)
theorem dX2_writesName_57 : decode cX2_writesName 57 = .ok (.lstore 4, 2) := dk_55 4 (dk_at dksX2_writesName_2 10 rfl rfl)
theorem dX2_writesName_59 : decode cX2_writesName 59 = .ok (.lload_n 2, 1) := dk_32 (dk_at dksX2_writesName_2 12 rfl rfl)
theorem dX2_writesName_60 : decode cX2_writesName 60 = .ok (.ldc2_w 68, 3) := dk_20 0 68 (dk_at dksX2_writesName_2 13 rfl rfl)
theorem dX2_writesName_63 : decode cX2_writesName 63 = .ok (.ldiv, 1) := dk_109 (dk_at dksX2_writesName_2 16 rfl rfl)
theorem dX2_writesName_64 : decode cX2_writesName 64 = .ok (.lstore_n 2, 1) := dk_65 (dk_at dksX2_writesName_2 17 rfl rfl)
theorem dX2_writesName_65 : decode cX2_writesName 65 = .ok (.goto (-31), 3) := dk_167 255 225 (dk_at dksX2_writesName_2 18 rfl rfl)
theorem dX2_writesName_68 : decode cX2_writesName 68 = .ok (.return_, 1) := dk_177 (dk_at dksX2_writesName_2 21 rfl rfl)
abbrev cX2_writesByte : ByteArray := prog_20_method_130_code
def yX2_writesByte : MethodName := ⟨RX2, "writesByte", "(I)V"⟩
def dkwX2_writesByte_0 : List UInt8 := [42, 180, 0, 41, 42, 180, 1, 121, 27, 145, 84, 42, 89, 180, 1, 121, 4, 96, 181, 1, 121, 177]
abbrev dktX2_writesByte_0 : List UInt8 := dkwX2_writesByte_0 ++ []
theorem dksX2_writesByte_0 : cX2_writesByte.data.toList.drop 0 = dktX2_writesByte_0 := by decide +kernel
theorem dX2_writesByte_0 : decode cX2_writesByte 0 = .ok (.aload_n 0, 1) := dk_42 (dk_at dksX2_writesByte_0 0 rfl rfl)
theorem dX2_writesByte_1 : decode cX2_writesByte 1 = .ok (.getfield 41, 3) := dk_180 0 41 (dk_at dksX2_writesByte_0 1 rfl rfl)
theorem dX2_writesByte_4 : decode cX2_writesByte 4 = .ok (.aload_n 0, 1) := dk_42 (dk_at dksX2_writesByte_0 4 rfl rfl)
theorem dX2_writesByte_5 : decode cX2_writesByte 5 = .ok (.getfield 377, 3) := dk_180 1 121 (dk_at dksX2_writesByte_0 5 rfl rfl)
theorem dX2_writesByte_8 : decode cX2_writesByte 8 = .ok (.iload_n 1, 1) := dk_27 (dk_at dksX2_writesByte_0 8 rfl rfl)
theorem dX2_writesByte_9 : decode cX2_writesByte 9 = .ok (.i2b, 1) := dk_145 (dk_at dksX2_writesByte_0 9 rfl rfl)
theorem dX2_writesByte_10 : decode cX2_writesByte 10 = .ok (.bastore, 1) := dk_84 (dk_at dksX2_writesByte_0 10 rfl rfl)
theorem dX2_writesByte_11 : decode cX2_writesByte 11 = .ok (.aload_n 0, 1) := dk_42 (dk_at dksX2_writesByte_0 11 rfl rfl)
theorem dX2_writesByte_12 : decode cX2_writesByte 12 = .ok (.dup, 1) := dk_89 (dk_at dksX2_writesByte_0 12 rfl rfl)
theorem dX2_writesByte_13 : decode cX2_writesByte 13 = .ok (.getfield 377, 3) := dk_180 1 121 (dk_at dksX2_writesByte_0 13 rfl rfl)
theorem dX2_writesByte_16 : decode cX2_writesByte 16 = .ok (.iconst 1, 1) := dk_4 (dk_at dksX2_writesByte_0 16 rfl rfl)
theorem dX2_writesByte_17 : decode cX2_writesByte 17 = .ok (.iadd, 1) := dk_96 (dk_at dksX2_writesByte_0 17 rfl rfl)
theorem dX2_writesByte_18 : decode cX2_writesByte 18 = .ok (.putfield 377, 3) := dk_181 1 121 (dk_at dksX2_writesByte_0 18 rfl rfl)
theorem dX2_writesByte_21 : decode cX2_writesByte 21 = .ok (.return_, 1) := dk_177 (dk_at dksX2_writesByte_0 21 rfl rfl)
abbrev cX2_writeVotes : ByteArray := prog_20_method_134_code
def yX2_writeVotes : MethodName := ⟨RX2, "writeVotes", "(II)I"⟩
def dkwX2_writeVotes_4 : List UInt8 := [184, 0, 254, 182, 1, 124, 132, 3, 1, 167, 255, 173, 42, 180, 1, 121, 172]
abbrev dktX2_writeVotes_4 : List UInt8 := dkwX2_writeVotes_4 ++ []
def dkwX2_writeVotes_3 : List UInt8 := [167, 0, 5, 16, 103, 182, 1, 127, 42, 29, 182, 1, 132, 42, 16, 64, 182, 1, 127, 42, 21, 4]
abbrev dktX2_writeVotes_3 : List UInt8 := dkwX2_writeVotes_3 ++ dktX2_writeVotes_4
def dkwX2_writeVotes_2 : List UInt8 := [180, 1, 121, 158, 0, 9, 42, 16, 32, 182, 1, 127, 42, 21, 4, 184, 0, 235, 153, 0, 8, 16, 114]
abbrev dktX2_writeVotes_2 : List UInt8 := dkwX2_writeVotes_2 ++ dktX2_writeVotes_3
def dkwX2_writeVotes_1 : List UInt8 := [16, 6, 46, 162, 0, 78, 42, 27, 29, 28, 182, 0, 232, 54, 4, 21, 4, 154, 0, 6, 167, 0, 55, 42]
abbrev dktX2_writeVotes_1 : List UInt8 := dkwX2_writeVotes_1 ++ dktX2_writeVotes_2
def dkwX2_writeVotes_0 : List UInt8 := [42, 27, 28, 182, 1, 76, 154, 0, 5, 3, 172, 42, 3, 181, 1, 121, 3, 62, 29, 42, 180, 0, 9]
abbrev dktX2_writeVotes_0 : List UInt8 := dkwX2_writeVotes_0 ++ dktX2_writeVotes_1
theorem dksX2_writeVotes_0 : cX2_writeVotes.data.toList.drop 0 = dktX2_writeVotes_0 := by decide +kernel
theorem dksX2_writeVotes_1 : cX2_writeVotes.data.toList.drop 23 = dktX2_writeVotes_1 := dk_seg dksX2_writeVotes_0 23 rfl rfl
theorem dksX2_writeVotes_2 : cX2_writeVotes.data.toList.drop 47 = dktX2_writeVotes_2 := dk_seg dksX2_writeVotes_1 24 rfl rfl
theorem dksX2_writeVotes_3 : cX2_writeVotes.data.toList.drop 70 = dktX2_writeVotes_3 := dk_seg dksX2_writeVotes_2 23 rfl rfl
theorem dksX2_writeVotes_4 : cX2_writeVotes.data.toList.drop 92 = dktX2_writeVotes_4 := dk_seg dksX2_writeVotes_3 22 rfl rfl
theorem dX2_writeVotes_0 : decode cX2_writeVotes 0 = .ok (.aload_n 0, 1) := dk_42 (dk_at dksX2_writeVotes_0 0 rfl rfl)
theorem dX2_writeVotes_1 : decode cX2_writeVotes 1 = .ok (.iload_n 1, 1) := dk_27 (dk_at dksX2_writeVotes_0 1 rfl rfl)
theorem dX2_writeVotes_2 : decode cX2_writeVotes 2 = .ok (.iload_n 2, 1) := dk_28 (dk_at dksX2_writeVotes_0 2 rfl rfl)
theorem dX2_writeVotes_3 : decode cX2_writeVotes 3 = .ok (.invokevirtual 332, 3) := dk_182 1 76 (dk_at dksX2_writeVotes_0 3 rfl rfl)
theorem dX2_writeVotes_6 : decode cX2_writeVotes 6 = .ok (.ifCond .ne 5, 3) := dk_154 0 5 (dk_at dksX2_writeVotes_0 6 rfl rfl)
theorem dX2_writeVotes_9 : decode cX2_writeVotes 9 = .ok (.iconst 0, 1) := dk_3 (dk_at dksX2_writeVotes_0 9 rfl rfl)
theorem dX2_writeVotes_10 : decode cX2_writeVotes 10 = .ok (.ireturn, 1) := dk_172 (dk_at dksX2_writeVotes_0 10 rfl rfl)
theorem dX2_writeVotes_11 : decode cX2_writeVotes 11 = .ok (.aload_n 0, 1) := dk_42 (dk_at dksX2_writeVotes_0 11 rfl rfl)
theorem dX2_writeVotes_12 : decode cX2_writeVotes 12 = .ok (.iconst 0, 1) := dk_3 (dk_at dksX2_writeVotes_0 12 rfl rfl)
theorem dX2_writeVotes_13 : decode cX2_writeVotes 13 = .ok (.putfield 377, 3) := dk_181 1 121 (dk_at dksX2_writeVotes_0 13 rfl rfl)
theorem dX2_writeVotes_16 : decode cX2_writeVotes 16 = .ok (.iconst 0, 1) := dk_3 (dk_at dksX2_writeVotes_0 16 rfl rfl)
theorem dX2_writeVotes_17 : decode cX2_writeVotes 17 = .ok (.istore_n 3, 1) := dk_62 (dk_at dksX2_writeVotes_0 17 rfl rfl)
theorem dX2_writeVotes_18 : decode cX2_writeVotes 18 = .ok (.iload_n 3, 1) := dk_29 (dk_at dksX2_writeVotes_0 18 rfl rfl)
theorem dX2_writeVotes_19 : decode cX2_writeVotes 19 = .ok (.aload_n 0, 1) := dk_42 (dk_at dksX2_writeVotes_0 19 rfl rfl)
theorem dX2_writeVotes_20 : decode cX2_writeVotes 20 = .ok (.getfield 9, 3) := dk_180 0 9 (dk_at dksX2_writeVotes_0 20 rfl rfl)
theorem dX2_writeVotes_23 : decode cX2_writeVotes 23 = .ok (.bipush 6, 2) := dk_16 6 (dk_at dksX2_writeVotes_1 0 rfl rfl)
theorem dX2_writeVotes_25 : decode cX2_writeVotes 25 = .ok (.iaload, 1) := dk_46 (dk_at dksX2_writeVotes_1 2 rfl rfl)
theorem dX2_writeVotes_26 : decode cX2_writeVotes 26 = .ok (.if_icmp .ge 78, 3) := dk_162 0 78 (dk_at dksX2_writeVotes_1 3 rfl rfl)
theorem dX2_writeVotes_29 : decode cX2_writeVotes 29 = .ok (.aload_n 0, 1) := dk_42 (dk_at dksX2_writeVotes_1 6 rfl rfl)
theorem dX2_writeVotes_30 : decode cX2_writeVotes 30 = .ok (.iload_n 1, 1) := dk_27 (dk_at dksX2_writeVotes_1 7 rfl rfl)
theorem dX2_writeVotes_31 : decode cX2_writeVotes 31 = .ok (.iload_n 3, 1) := dk_29 (dk_at dksX2_writeVotes_1 8 rfl rfl)
theorem dX2_writeVotes_32 : decode cX2_writeVotes 32 = .ok (.iload_n 2, 1) := dk_28 (dk_at dksX2_writeVotes_1 9 rfl rfl)
theorem dX2_writeVotes_33 : decode cX2_writeVotes 33 = .ok (.invokevirtual 232, 3) := dk_182 0 232 (dk_at dksX2_writeVotes_1 10 rfl rfl)
theorem dX2_writeVotes_36 : decode cX2_writeVotes 36 = .ok (.istore 4, 2) := dk_54 4 (dk_at dksX2_writeVotes_1 13 rfl rfl)
theorem dX2_writeVotes_38 : decode cX2_writeVotes 38 = .ok (.iload 4, 2) := dk_21 4 (dk_at dksX2_writeVotes_1 15 rfl rfl)
theorem dX2_writeVotes_40 : decode cX2_writeVotes 40 = .ok (.ifCond .ne 6, 3) := dk_154 0 6 (dk_at dksX2_writeVotes_1 17 rfl rfl)
theorem dX2_writeVotes_43 : decode cX2_writeVotes 43 = .ok (.goto 55, 3) := dk_167 0 55 (dk_at dksX2_writeVotes_1 20 rfl rfl)
theorem dX2_writeVotes_46 : decode cX2_writeVotes 46 = .ok (.aload_n 0, 1) := dk_42 (dk_at dksX2_writeVotes_1 23 rfl rfl)
theorem dX2_writeVotes_47 : decode cX2_writeVotes 47 = .ok (.getfield 377, 3) := dk_180 1 121 (dk_at dksX2_writeVotes_2 0 rfl rfl)
theorem dX2_writeVotes_50 : decode cX2_writeVotes 50 = .ok (.ifCond .le 9, 3) := dk_158 0 9 (dk_at dksX2_writeVotes_2 3 rfl rfl)
theorem dX2_writeVotes_53 : decode cX2_writeVotes 53 = .ok (.aload_n 0, 1) := dk_42 (dk_at dksX2_writeVotes_2 6 rfl rfl)
theorem dX2_writeVotes_54 : decode cX2_writeVotes 54 = .ok (.bipush 32, 2) := dk_16 32 (dk_at dksX2_writeVotes_2 7 rfl rfl)
theorem dX2_writeVotes_56 : decode cX2_writeVotes 56 = .ok (.invokevirtual 383, 3) := dk_182 1 127 (dk_at dksX2_writeVotes_2 9 rfl rfl)
theorem dX2_writeVotes_59 : decode cX2_writeVotes 59 = .ok (.aload_n 0, 1) := dk_42 (dk_at dksX2_writeVotes_2 12 rfl rfl)
theorem dX2_writeVotes_60 : decode cX2_writeVotes 60 = .ok (.iload 4, 2) := dk_21 4 (dk_at dksX2_writeVotes_2 13 rfl rfl)
theorem dX2_writeVotes_62 : decode cX2_writeVotes 62 = .ok (.invokestatic 235, 3) := dk_184 0 235 (dk_at dksX2_writeVotes_2 15 rfl rfl)
theorem dX2_writeVotes_65 : decode cX2_writeVotes 65 = .ok (.ifCond .eq 8, 3) := dk_153 0 8 (dk_at dksX2_writeVotes_2 18 rfl rfl)
theorem dX2_writeVotes_68 : decode cX2_writeVotes 68 = .ok (.bipush 114, 2) := dk_16 114 (dk_at dksX2_writeVotes_2 21 rfl rfl)
theorem dX2_writeVotes_70 : decode cX2_writeVotes 70 = .ok (.goto 5, 3) := dk_167 0 5 (dk_at dksX2_writeVotes_3 0 rfl rfl)
theorem dX2_writeVotes_73 : decode cX2_writeVotes 73 = .ok (.bipush 103, 2) := dk_16 103 (dk_at dksX2_writeVotes_3 3 rfl rfl)
theorem dX2_writeVotes_75 : decode cX2_writeVotes 75 = .ok (.invokevirtual 383, 3) := dk_182 1 127 (dk_at dksX2_writeVotes_3 5 rfl rfl)
theorem dX2_writeVotes_78 : decode cX2_writeVotes 78 = .ok (.aload_n 0, 1) := dk_42 (dk_at dksX2_writeVotes_3 8 rfl rfl)
theorem dX2_writeVotes_79 : decode cX2_writeVotes 79 = .ok (.iload_n 3, 1) := dk_29 (dk_at dksX2_writeVotes_3 9 rfl rfl)
theorem dX2_writeVotes_80 : decode cX2_writeVotes 80 = .ok (.invokevirtual 388, 3) := dk_182 1 132 (dk_at dksX2_writeVotes_3 10 rfl rfl)
theorem dX2_writeVotes_83 : decode cX2_writeVotes 83 = .ok (.aload_n 0, 1) := dk_42 (dk_at dksX2_writeVotes_3 13 rfl rfl)
theorem dX2_writeVotes_84 : decode cX2_writeVotes 84 = .ok (.bipush 64, 2) := dk_16 64 (dk_at dksX2_writeVotes_3 14 rfl rfl)
theorem dX2_writeVotes_86 : decode cX2_writeVotes 86 = .ok (.invokevirtual 383, 3) := dk_182 1 127 (dk_at dksX2_writeVotes_3 16 rfl rfl)
theorem dX2_writeVotes_89 : decode cX2_writeVotes 89 = .ok (.aload_n 0, 1) := dk_42 (dk_at dksX2_writeVotes_3 19 rfl rfl)
theorem dX2_writeVotes_90 : decode cX2_writeVotes 90 = .ok (.iload 4, 2) := dk_21 4 (dk_at dksX2_writeVotes_3 20 rfl rfl)
theorem dX2_writeVotes_92 : decode cX2_writeVotes 92 = .ok (.invokestatic 254, 3) := dk_184 0 254 (dk_at dksX2_writeVotes_4 0 rfl rfl)
theorem dX2_writeVotes_95 : decode cX2_writeVotes 95 = .ok (.invokevirtual 380, 3) := dk_182 1 124 (dk_at dksX2_writeVotes_4 3 rfl rfl)
theorem dX2_writeVotes_98 : decode cX2_writeVotes 98 = .ok (.iinc 3 1, 3) := dk_132 3 1 (dk_at dksX2_writeVotes_4 6 rfl rfl)
theorem dX2_writeVotes_101 : decode cX2_writeVotes 101 = .ok (.goto (-83), 3) := dk_167 255 173 (dk_at dksX2_writeVotes_4 9 rfl rfl)
theorem dX2_writeVotes_104 : decode cX2_writeVotes 104 = .ok (.aload_n 0, 1) := dk_42 (dk_at dksX2_writeVotes_4 12 rfl rfl)
theorem dX2_writeVotes_105 : decode cX2_writeVotes 105 = .ok (.getfield 377, 3) := dk_180 1 121 (dk_at dksX2_writeVotes_4 13 rfl rfl)
theorem dX2_writeVotes_108 : decode cX2_writeVotes 108 = .ok (.ireturn, 1) := dk_172 (dk_at dksX2_writeVotes_4 16 rfl rfl)
abbrev cX2_writesNumber : ByteArray := prog_20_method_131_code
def yX2_writesNumber : MethodName := ⟨RX2, "writesNumber", "(I)V"⟩
def dkwX2_writesNumber_1 : List UInt8 := [182, 1, 127, 177]
abbrev dktX2_writesNumber_1 : List UInt8 := dkwX2_writesNumber_1 ++ []
def dkwX2_writesNumber_0 : List UInt8 := [27, 16, 9, 164, 0, 11, 42, 27, 16, 10, 108, 182, 1, 124, 42, 16, 48, 27, 16, 10, 112, 96]
abbrev dktX2_writesNumber_0 : List UInt8 := dkwX2_writesNumber_0 ++ dktX2_writesNumber_1
theorem dksX2_writesNumber_0 : cX2_writesNumber.data.toList.drop 0 = dktX2_writesNumber_0 := by decide +kernel
theorem dksX2_writesNumber_1 : cX2_writesNumber.data.toList.drop 22 = dktX2_writesNumber_1 := dk_seg dksX2_writesNumber_0 22 rfl rfl
theorem dX2_writesNumber_0 : decode cX2_writesNumber 0 = .ok (.iload_n 1, 1) := dk_27 (dk_at dksX2_writesNumber_0 0 rfl rfl)
theorem dX2_writesNumber_1 : decode cX2_writesNumber 1 = .ok (.bipush 9, 2) := dk_16 9 (dk_at dksX2_writesNumber_0 1 rfl rfl)
theorem dX2_writesNumber_3 : decode cX2_writesNumber 3 = .ok (.if_icmp .le 11, 3) := dk_164 0 11 (dk_at dksX2_writesNumber_0 3 rfl rfl)
theorem dX2_writesNumber_6 : decode cX2_writesNumber 6 = .ok (.aload_n 0, 1) := dk_42 (dk_at dksX2_writesNumber_0 6 rfl rfl)
theorem dX2_writesNumber_7 : decode cX2_writesNumber 7 = .ok (.iload_n 1, 1) := dk_27 (dk_at dksX2_writesNumber_0 7 rfl rfl)
theorem dX2_writesNumber_8 : decode cX2_writesNumber 8 = .ok (.bipush 10, 2) := dk_16 10 (dk_at dksX2_writesNumber_0 8 rfl rfl)
theorem dX2_writesNumber_10 : decode cX2_writesNumber 10 = .ok (.idiv, 1) := dk_108 (dk_at dksX2_writesNumber_0 10 rfl rfl)
theorem dX2_writesNumber_11 : decode cX2_writesNumber 11 = .ok (.invokevirtual 380, 3) := dk_182 1 124 (dk_at dksX2_writesNumber_0 11 rfl rfl)
theorem dX2_writesNumber_14 : decode cX2_writesNumber 14 = .ok (.aload_n 0, 1) := dk_42 (dk_at dksX2_writesNumber_0 14 rfl rfl)
theorem dX2_writesNumber_15 : decode cX2_writesNumber 15 = .ok (.bipush 48, 2) := dk_16 48 (dk_at dksX2_writesNumber_0 15 rfl rfl)
theorem dX2_writesNumber_17 : decode cX2_writesNumber 17 = .ok (.iload_n 1, 1) := dk_27 (dk_at dksX2_writesNumber_0 17 rfl rfl)
theorem dX2_writesNumber_18 : decode cX2_writesNumber 18 = .ok (.bipush 10, 2) := dk_16 10 (dk_at dksX2_writesNumber_0 18 rfl rfl)
theorem dX2_writesNumber_20 : decode cX2_writesNumber 20 = .ok (.irem, 1) := dk_112 (dk_at dksX2_writesNumber_0 20 rfl rfl)
theorem dX2_writesNumber_21 : decode cX2_writesNumber 21 = .ok (.iadd, 1) := dk_96 (dk_at dksX2_writesNumber_0 21 rfl rfl)
theorem dX2_writesNumber_22 : decode cX2_writesNumber 22 = .ok (.invokevirtual 383, 3) := dk_182 1 127 (dk_at dksX2_writesNumber_1 0 rfl rfl)
theorem dX2_writesNumber_25 : decode cX2_writesNumber 25 = .ok (.return_, 1) := dk_177 (dk_at dksX2_writesNumber_1 3 rfl rfl)
abbrev cX2_writeView : ByteArray := prog_20_method_135_code
def yX2_writeView : MethodName := ⟨RX2, "writeView", "()I"⟩
def dkwX2_writeView_2 : List UInt8 := [42, 42, 27, 182, 1, 82, 184, 1, 56, 182, 1, 124, 132, 1, 1, 167, 255, 209, 42, 180, 1, 121, 172]
abbrev dktX2_writeView_2 : List UInt8 := dkwX2_writeView_2 ++ []
def dkwX2_writeView_1 : List UInt8 := [162, 0, 42, 27, 158, 0, 9, 42, 16, 44, 182, 1, 127, 42, 27, 182, 1, 132, 42, 16, 61, 182, 1, 127]
abbrev dktX2_writeView_1 : List UInt8 := dkwX2_writeView_1 ++ dktX2_writeView_2
def dkwX2_writeView_0 : List UInt8 := [42, 182, 1, 69, 154, 0, 5, 3, 172, 42, 3, 181, 1, 121, 3, 60, 27, 42, 180, 0, 9, 16, 6, 46]
abbrev dktX2_writeView_0 : List UInt8 := dkwX2_writeView_0 ++ dktX2_writeView_1
theorem dksX2_writeView_0 : cX2_writeView.data.toList.drop 0 = dktX2_writeView_0 := by decide +kernel
theorem dksX2_writeView_1 : cX2_writeView.data.toList.drop 24 = dktX2_writeView_1 := dk_seg dksX2_writeView_0 24 rfl rfl
theorem dksX2_writeView_2 : cX2_writeView.data.toList.drop 48 = dktX2_writeView_2 := dk_seg dksX2_writeView_1 24 rfl rfl
theorem dX2_writeView_0 : decode cX2_writeView 0 = .ok (.aload_n 0, 1) := dk_42 (dk_at dksX2_writeView_0 0 rfl rfl)
theorem dX2_writeView_1 : decode cX2_writeView 1 = .ok (.invokevirtual 325, 3) := dk_182 1 69 (dk_at dksX2_writeView_0 1 rfl rfl)
theorem dX2_writeView_4 : decode cX2_writeView 4 = .ok (.ifCond .ne 5, 3) := dk_154 0 5 (dk_at dksX2_writeView_0 4 rfl rfl)
theorem dX2_writeView_7 : decode cX2_writeView 7 = .ok (.iconst 0, 1) := dk_3 (dk_at dksX2_writeView_0 7 rfl rfl)
theorem dX2_writeView_8 : decode cX2_writeView 8 = .ok (.ireturn, 1) := dk_172 (dk_at dksX2_writeView_0 8 rfl rfl)
theorem dX2_writeView_9 : decode cX2_writeView 9 = .ok (.aload_n 0, 1) := dk_42 (dk_at dksX2_writeView_0 9 rfl rfl)
theorem dX2_writeView_10 : decode cX2_writeView 10 = .ok (.iconst 0, 1) := dk_3 (dk_at dksX2_writeView_0 10 rfl rfl)
theorem dX2_writeView_11 : decode cX2_writeView 11 = .ok (.putfield 377, 3) := dk_181 1 121 (dk_at dksX2_writeView_0 11 rfl rfl)
theorem dX2_writeView_14 : decode cX2_writeView 14 = .ok (.iconst 0, 1) := dk_3 (dk_at dksX2_writeView_0 14 rfl rfl)
theorem dX2_writeView_15 : decode cX2_writeView 15 = .ok (.istore_n 1, 1) := dk_60 (dk_at dksX2_writeView_0 15 rfl rfl)
theorem dX2_writeView_16 : decode cX2_writeView 16 = .ok (.iload_n 1, 1) := dk_27 (dk_at dksX2_writeView_0 16 rfl rfl)
theorem dX2_writeView_17 : decode cX2_writeView 17 = .ok (.aload_n 0, 1) := dk_42 (dk_at dksX2_writeView_0 17 rfl rfl)
theorem dX2_writeView_18 : decode cX2_writeView 18 = .ok (.getfield 9, 3) := dk_180 0 9 (dk_at dksX2_writeView_0 18 rfl rfl)
theorem dX2_writeView_21 : decode cX2_writeView 21 = .ok (.bipush 6, 2) := dk_16 6 (dk_at dksX2_writeView_0 21 rfl rfl)
theorem dX2_writeView_23 : decode cX2_writeView 23 = .ok (.iaload, 1) := dk_46 (dk_at dksX2_writeView_0 23 rfl rfl)
theorem dX2_writeView_24 : decode cX2_writeView 24 = .ok (.if_icmp .ge 42, 3) := dk_162 0 42 (dk_at dksX2_writeView_1 0 rfl rfl)
theorem dX2_writeView_27 : decode cX2_writeView 27 = .ok (.iload_n 1, 1) := dk_27 (dk_at dksX2_writeView_1 3 rfl rfl)
theorem dX2_writeView_28 : decode cX2_writeView 28 = .ok (.ifCond .le 9, 3) := dk_158 0 9 (dk_at dksX2_writeView_1 4 rfl rfl)
theorem dX2_writeView_31 : decode cX2_writeView 31 = .ok (.aload_n 0, 1) := dk_42 (dk_at dksX2_writeView_1 7 rfl rfl)
theorem dX2_writeView_32 : decode cX2_writeView 32 = .ok (.bipush 44, 2) := dk_16 44 (dk_at dksX2_writeView_1 8 rfl rfl)
theorem dX2_writeView_34 : decode cX2_writeView 34 = .ok (.invokevirtual 383, 3) := dk_182 1 127 (dk_at dksX2_writeView_1 10 rfl rfl)
theorem dX2_writeView_37 : decode cX2_writeView 37 = .ok (.aload_n 0, 1) := dk_42 (dk_at dksX2_writeView_1 13 rfl rfl)
theorem dX2_writeView_38 : decode cX2_writeView 38 = .ok (.iload_n 1, 1) := dk_27 (dk_at dksX2_writeView_1 14 rfl rfl)
theorem dX2_writeView_39 : decode cX2_writeView 39 = .ok (.invokevirtual 388, 3) := dk_182 1 132 (dk_at dksX2_writeView_1 15 rfl rfl)
theorem dX2_writeView_42 : decode cX2_writeView 42 = .ok (.aload_n 0, 1) := dk_42 (dk_at dksX2_writeView_1 18 rfl rfl)
theorem dX2_writeView_43 : decode cX2_writeView 43 = .ok (.bipush 61, 2) := dk_16 61 (dk_at dksX2_writeView_1 19 rfl rfl)
theorem dX2_writeView_45 : decode cX2_writeView 45 = .ok (.invokevirtual 383, 3) := dk_182 1 127 (dk_at dksX2_writeView_1 21 rfl rfl)
theorem dX2_writeView_48 : decode cX2_writeView 48 = .ok (.aload_n 0, 1) := dk_42 (dk_at dksX2_writeView_2 0 rfl rfl)
theorem dX2_writeView_49 : decode cX2_writeView 49 = .ok (.aload_n 0, 1) := dk_42 (dk_at dksX2_writeView_2 1 rfl rfl)
theorem dX2_writeView_50 : decode cX2_writeView 50 = .ok (.iload_n 1, 1) := dk_27 (dk_at dksX2_writeView_2 2 rfl rfl)
theorem dX2_writeView_51 : decode cX2_writeView 51 = .ok (.invokevirtual 338, 3) := dk_182 1 82 (dk_at dksX2_writeView_2 3 rfl rfl)
theorem dX2_writeView_54 : decode cX2_writeView 54 = .ok (.invokestatic 312, 3) := dk_184 1 56 (dk_at dksX2_writeView_2 6 rfl rfl)
theorem dX2_writeView_57 : decode cX2_writeView 57 = .ok (.invokevirtual 380, 3) := dk_182 1 124 (dk_at dksX2_writeView_2 9 rfl rfl)
theorem dX2_writeView_60 : decode cX2_writeView 60 = .ok (.iinc 1 1, 3) := dk_132 1 1 (dk_at dksX2_writeView_2 12 rfl rfl)
theorem dX2_writeView_63 : decode cX2_writeView 63 = .ok (.goto (-47), 3) := dk_167 255 209 (dk_at dksX2_writeView_2 15 rfl rfl)
theorem dX2_writeView_66 : decode cX2_writeView 66 = .ok (.aload_n 0, 1) := dk_42 (dk_at dksX2_writeView_2 18 rfl rfl)
theorem dX2_writeView_67 : decode cX2_writeView 67 = .ok (.getfield 377, 3) := dk_180 1 121 (dk_at dksX2_writeView_2 19 rfl rfl)
theorem dX2_writeView_70 : decode cX2_writeView 70 = .ok (.ireturn, 1) := dk_172 (dk_at dksX2_writeView_2 22 rfl rfl)
abbrev cX2_textByte : ByteArray := prog_20_method_136_code
def yX2_textByte : MethodName := ⟨RX2, "textByte", "(I)I"⟩
def dkwX2_textByte_1 : List UInt8 := [27, 51, 167, 0, 4, 3, 172]
abbrev dktX2_textByte_1 : List UInt8 := dkwX2_textByte_1 ++ []
def dkwX2_textByte_0 : List UInt8 := [42, 27, 3, 42, 180, 1, 121, 4, 100, 184, 0, 64, 4, 4, 182, 0, 47, 153, 0, 12, 42, 180, 0, 41]
abbrev dktX2_textByte_0 : List UInt8 := dkwX2_textByte_0 ++ dktX2_textByte_1
theorem dksX2_textByte_0 : cX2_textByte.data.toList.drop 0 = dktX2_textByte_0 := by decide +kernel
theorem dksX2_textByte_1 : cX2_textByte.data.toList.drop 24 = dktX2_textByte_1 := dk_seg dksX2_textByte_0 24 rfl rfl
theorem dX2_textByte_0 : decode cX2_textByte 0 = .ok (.aload_n 0, 1) := dk_42 (dk_at dksX2_textByte_0 0 rfl rfl)
theorem dX2_textByte_1 : decode cX2_textByte 1 = .ok (.iload_n 1, 1) := dk_27 (dk_at dksX2_textByte_0 1 rfl rfl)
theorem dX2_textByte_2 : decode cX2_textByte 2 = .ok (.iconst 0, 1) := dk_3 (dk_at dksX2_textByte_0 2 rfl rfl)
theorem dX2_textByte_3 : decode cX2_textByte 3 = .ok (.aload_n 0, 1) := dk_42 (dk_at dksX2_textByte_0 3 rfl rfl)
theorem dX2_textByte_4 : decode cX2_textByte 4 = .ok (.getfield 377, 3) := dk_180 1 121 (dk_at dksX2_textByte_0 4 rfl rfl)
theorem dX2_textByte_7 : decode cX2_textByte 7 = .ok (.iconst 1, 1) := dk_4 (dk_at dksX2_textByte_0 7 rfl rfl)
theorem dX2_textByte_8 : decode cX2_textByte 8 = .ok (.isub, 1) := dk_100 (dk_at dksX2_textByte_0 8 rfl rfl)
theorem dX2_textByte_9 : decode cX2_textByte 9 = .ok (.invokestatic 64, 3) := dk_184 0 64 (dk_at dksX2_textByte_0 9 rfl rfl)
theorem dX2_textByte_12 : decode cX2_textByte 12 = .ok (.iconst 1, 1) := dk_4 (dk_at dksX2_textByte_0 12 rfl rfl)
theorem dX2_textByte_13 : decode cX2_textByte 13 = .ok (.iconst 1, 1) := dk_4 (dk_at dksX2_textByte_0 13 rfl rfl)
theorem dX2_textByte_14 : decode cX2_textByte 14 = .ok (.invokevirtual 47, 3) := dk_182 0 47 (dk_at dksX2_textByte_0 14 rfl rfl)
theorem dX2_textByte_17 : decode cX2_textByte 17 = .ok (.ifCond .eq 12, 3) := dk_153 0 12 (dk_at dksX2_textByte_0 17 rfl rfl)
theorem dX2_textByte_20 : decode cX2_textByte 20 = .ok (.aload_n 0, 1) := dk_42 (dk_at dksX2_textByte_0 20 rfl rfl)
theorem dX2_textByte_21 : decode cX2_textByte 21 = .ok (.getfield 41, 3) := dk_180 0 41 (dk_at dksX2_textByte_0 21 rfl rfl)
theorem dX2_textByte_24 : decode cX2_textByte 24 = .ok (.iload_n 1, 1) := dk_27 (dk_at dksX2_textByte_1 0 rfl rfl)
theorem dX2_textByte_25 : decode cX2_textByte 25 = .ok (.baload, 1) := dk_51 (dk_at dksX2_textByte_1 1 rfl rfl)
theorem dX2_textByte_26 : decode cX2_textByte 26 = .ok (.goto 4, 3) := dk_167 0 4 (dk_at dksX2_textByte_1 2 rfl rfl)
theorem dX2_textByte_29 : decode cX2_textByte 29 = .ok (.iconst 0, 1) := dk_3 (dk_at dksX2_textByte_1 5 rfl rfl)
theorem dX2_textByte_30 : decode cX2_textByte 30 = .ok (.ireturn, 1) := dk_172 (dk_at dksX2_textByte_1 6 rfl rfl)
abbrev cX2_tick : ByteArray := prog_20_method_138_code
def yX2_tick : MethodName := ⟨RX2, "tick", "(I)I"⟩
def dkwX2_tick_3 : List UInt8 := [16, 92, 46, 42, 180, 0, 9, 16, 93, 46, 96, 28, 100, 172]
abbrev dktX2_tick_3 : List UInt8 := dkwX2_tick_3 ++ []
def dkwX2_tick_2 : List UInt8 := [180, 0, 9, 16, 92, 46, 42, 180, 0, 9, 16, 93, 46, 96, 61, 42, 27, 182, 1, 109, 42, 180, 0, 9]
abbrev dktX2_tick_2 : List UInt8 := dkwX2_tick_2 ++ dktX2_tick_3
def dkwX2_tick_1 : List UInt8 := [17, 19, 136, 163, 0, 7, 4, 167, 0, 4, 3, 182, 0, 191, 154, 0, 5, 3, 172, 42, 182, 1, 135, 42]
abbrev dktX2_tick_1 : List UInt8 := dkwX2_tick_1 ++ dktX2_tick_2
def dkwX2_tick_0 : List UInt8 := [42, 42, 180, 0, 184, 27, 4, 16, 100, 184, 0, 64, 153, 0, 22, 42, 180, 0, 9, 16, 90, 46, 27, 96]
abbrev dktX2_tick_0 : List UInt8 := dkwX2_tick_0 ++ dktX2_tick_1
theorem dksX2_tick_0 : cX2_tick.data.toList.drop 0 = dktX2_tick_0 := by decide +kernel
theorem dksX2_tick_1 : cX2_tick.data.toList.drop 24 = dktX2_tick_1 := dk_seg dksX2_tick_0 24 rfl rfl
theorem dksX2_tick_2 : cX2_tick.data.toList.drop 48 = dktX2_tick_2 := dk_seg dksX2_tick_1 24 rfl rfl
theorem dksX2_tick_3 : cX2_tick.data.toList.drop 72 = dktX2_tick_3 := dk_seg dksX2_tick_2 24 rfl rfl
theorem dX2_tick_0 : decode cX2_tick 0 = .ok (.aload_n 0, 1) := dk_42 (dk_at dksX2_tick_0 0 rfl rfl)
theorem dX2_tick_1 : decode cX2_tick 1 = .ok (.aload_n 0, 1) := dk_42 (dk_at dksX2_tick_0 1 rfl rfl)
theorem dX2_tick_2 : decode cX2_tick 2 = .ok (.getfield 184, 3) := dk_180 0 184 (dk_at dksX2_tick_0 2 rfl rfl)
theorem dX2_tick_5 : decode cX2_tick 5 = .ok (.iload_n 1, 1) := dk_27 (dk_at dksX2_tick_0 5 rfl rfl)
theorem dX2_tick_6 : decode cX2_tick 6 = .ok (.iconst 1, 1) := dk_4 (dk_at dksX2_tick_0 6 rfl rfl)
theorem dX2_tick_7 : decode cX2_tick 7 = .ok (.bipush 100, 2) := dk_16 100 (dk_at dksX2_tick_0 7 rfl rfl)
theorem dX2_tick_9 : decode cX2_tick 9 = .ok (.invokestatic 64, 3) := dk_184 0 64 (dk_at dksX2_tick_0 9 rfl rfl)
theorem dX2_tick_12 : decode cX2_tick 12 = .ok (.ifCond .eq 22, 3) := dk_153 0 22 (dk_at dksX2_tick_0 12 rfl rfl)
theorem dX2_tick_15 : decode cX2_tick 15 = .ok (.aload_n 0, 1) := dk_42 (dk_at dksX2_tick_0 15 rfl rfl)
theorem dX2_tick_16 : decode cX2_tick 16 = .ok (.getfield 9, 3) := dk_180 0 9 (dk_at dksX2_tick_0 16 rfl rfl)
theorem dX2_tick_19 : decode cX2_tick 19 = .ok (.bipush 90, 2) := dk_16 90 (dk_at dksX2_tick_0 19 rfl rfl)
theorem dX2_tick_21 : decode cX2_tick 21 = .ok (.iaload, 1) := dk_46 (dk_at dksX2_tick_0 21 rfl rfl)
theorem dX2_tick_22 : decode cX2_tick 22 = .ok (.iload_n 1, 1) := dk_27 (dk_at dksX2_tick_0 22 rfl rfl)
theorem dX2_tick_23 : decode cX2_tick 23 = .ok (.iadd, 1) := dk_96 (dk_at dksX2_tick_0 23 rfl rfl)
theorem dX2_tick_24 : decode cX2_tick 24 = .ok (.sipush 5000, 3) := dk_17 19 136 (dk_at dksX2_tick_1 0 rfl rfl)
theorem dX2_tick_27 : decode cX2_tick 27 = .ok (.if_icmp .gt 7, 3) := dk_163 0 7 (dk_at dksX2_tick_1 3 rfl rfl)
theorem dX2_tick_30 : decode cX2_tick 30 = .ok (.iconst 1, 1) := dk_4 (dk_at dksX2_tick_1 6 rfl rfl)
theorem dX2_tick_31 : decode cX2_tick 31 = .ok (.goto 4, 3) := dk_167 0 4 (dk_at dksX2_tick_1 7 rfl rfl)
theorem dX2_tick_34 : decode cX2_tick 34 = .ok (.iconst 0, 1) := dk_3 (dk_at dksX2_tick_1 10 rfl rfl)
theorem dX2_tick_35 : decode cX2_tick 35 = .ok (.invokevirtual 191, 3) := dk_182 0 191 (dk_at dksX2_tick_1 11 rfl rfl)
theorem dX2_tick_38 : decode cX2_tick 38 = .ok (.ifCond .ne 5, 3) := dk_154 0 5 (dk_at dksX2_tick_1 14 rfl rfl)
theorem dX2_tick_41 : decode cX2_tick 41 = .ok (.iconst 0, 1) := dk_3 (dk_at dksX2_tick_1 17 rfl rfl)
theorem dX2_tick_42 : decode cX2_tick 42 = .ok (.ireturn, 1) := dk_172 (dk_at dksX2_tick_1 18 rfl rfl)
theorem dX2_tick_43 : decode cX2_tick 43 = .ok (.aload_n 0, 1) := dk_42 (dk_at dksX2_tick_1 19 rfl rfl)
theorem dX2_tick_44 : decode cX2_tick 44 = .ok (.invokevirtual 391, 3) := dk_182 1 135 (dk_at dksX2_tick_1 20 rfl rfl)
theorem dX2_tick_47 : decode cX2_tick 47 = .ok (.aload_n 0, 1) := dk_42 (dk_at dksX2_tick_1 23 rfl rfl)
theorem dX2_tick_48 : decode cX2_tick 48 = .ok (.getfield 9, 3) := dk_180 0 9 (dk_at dksX2_tick_2 0 rfl rfl)
theorem dX2_tick_51 : decode cX2_tick 51 = .ok (.bipush 92, 2) := dk_16 92 (dk_at dksX2_tick_2 3 rfl rfl)
theorem dX2_tick_53 : decode cX2_tick 53 = .ok (.iaload, 1) := dk_46 (dk_at dksX2_tick_2 5 rfl rfl)
theorem dX2_tick_54 : decode cX2_tick 54 = .ok (.aload_n 0, 1) := dk_42 (dk_at dksX2_tick_2 6 rfl rfl)
theorem dX2_tick_55 : decode cX2_tick 55 = .ok (.getfield 9, 3) := dk_180 0 9 (dk_at dksX2_tick_2 7 rfl rfl)
theorem dX2_tick_58 : decode cX2_tick 58 = .ok (.bipush 93, 2) := dk_16 93 (dk_at dksX2_tick_2 10 rfl rfl)
theorem dX2_tick_60 : decode cX2_tick 60 = .ok (.iaload, 1) := dk_46 (dk_at dksX2_tick_2 12 rfl rfl)
theorem dX2_tick_61 : decode cX2_tick 61 = .ok (.iadd, 1) := dk_96 (dk_at dksX2_tick_2 13 rfl rfl)
theorem dX2_tick_62 : decode cX2_tick 62 = .ok (.istore_n 2, 1) := dk_61 (dk_at dksX2_tick_2 14 rfl rfl)
theorem dX2_tick_63 : decode cX2_tick 63 = .ok (.aload_n 0, 1) := dk_42 (dk_at dksX2_tick_2 15 rfl rfl)
theorem dX2_tick_64 : decode cX2_tick 64 = .ok (.iload_n 1, 1) := dk_27 (dk_at dksX2_tick_2 16 rfl rfl)
theorem dX2_tick_65 : decode cX2_tick 65 = .ok (.invokevirtual 365, 3) := dk_182 1 109 (dk_at dksX2_tick_2 17 rfl rfl)
theorem dX2_tick_68 : decode cX2_tick 68 = .ok (.aload_n 0, 1) := dk_42 (dk_at dksX2_tick_2 20 rfl rfl)
theorem dX2_tick_69 : decode cX2_tick 69 = .ok (.getfield 9, 3) := dk_180 0 9 (dk_at dksX2_tick_2 21 rfl rfl)
theorem dX2_tick_72 : decode cX2_tick 72 = .ok (.bipush 92, 2) := dk_16 92 (dk_at dksX2_tick_3 0 rfl rfl)
theorem dX2_tick_74 : decode cX2_tick 74 = .ok (.iaload, 1) := dk_46 (dk_at dksX2_tick_3 2 rfl rfl)
theorem dX2_tick_75 : decode cX2_tick 75 = .ok (.aload_n 0, 1) := dk_42 (dk_at dksX2_tick_3 3 rfl rfl)
theorem dX2_tick_76 : decode cX2_tick 76 = .ok (.getfield 9, 3) := dk_180 0 9 (dk_at dksX2_tick_3 4 rfl rfl)
theorem dX2_tick_79 : decode cX2_tick 79 = .ok (.bipush 93, 2) := dk_16 93 (dk_at dksX2_tick_3 7 rfl rfl)
theorem dX2_tick_81 : decode cX2_tick 81 = .ok (.iaload, 1) := dk_46 (dk_at dksX2_tick_3 9 rfl rfl)
theorem dX2_tick_82 : decode cX2_tick 82 = .ok (.iadd, 1) := dk_96 (dk_at dksX2_tick_3 10 rfl rfl)
theorem dX2_tick_83 : decode cX2_tick 83 = .ok (.iload_n 2, 1) := dk_28 (dk_at dksX2_tick_3 11 rfl rfl)
theorem dX2_tick_84 : decode cX2_tick 84 = .ok (.isub, 1) := dk_100 (dk_at dksX2_tick_3 12 rfl rfl)
theorem dX2_tick_85 : decode cX2_tick 85 = .ok (.ireturn, 1) := dk_172 (dk_at dksX2_tick_3 13 rfl rfl)
abbrev cX2_remembers : ByteArray := prog_20_method_137_code
def yX2_remembers : MethodName := ⟨RX2, "remembers", "()V"⟩
def dkwX2_remembers_3 : List UInt8 := [89, 180, 0, 188, 4, 96, 181, 0, 188, 177]
abbrev dktX2_remembers_3 : List UInt8 := dkwX2_remembers_3 ++ []
def dkwX2_remembers_2 : List UInt8 := [181, 0, 188, 42, 180, 0, 9, 3, 42, 180, 0, 16, 42, 180, 0, 188, 17, 4, 34, 104, 184, 0, 177, 42]
abbrev dktX2_remembers_2 : List UInt8 := dkwX2_remembers_2 ++ dktX2_remembers_3
def dkwX2_remembers_1 : List UInt8 := [180, 0, 16, 27, 17, 4, 34, 96, 46, 79, 132, 1, 1, 167, 255, 230, 42, 89, 180, 0, 188, 4, 100]
abbrev dktX2_remembers_1 : List UInt8 := dkwX2_remembers_1 ++ dktX2_remembers_2
def dkwX2_remembers_0 : List UInt8 := [42, 180, 0, 188, 16, 8, 160, 0, 44, 3, 60, 27, 17, 28, 238, 162, 0, 25, 42, 180, 0, 16, 27, 42]
abbrev dktX2_remembers_0 : List UInt8 := dkwX2_remembers_0 ++ dktX2_remembers_1
theorem dksX2_remembers_0 : cX2_remembers.data.toList.drop 0 = dktX2_remembers_0 := by decide +kernel
theorem dksX2_remembers_1 : cX2_remembers.data.toList.drop 24 = dktX2_remembers_1 := dk_seg dksX2_remembers_0 24 rfl rfl
theorem dksX2_remembers_2 : cX2_remembers.data.toList.drop 47 = dktX2_remembers_2 := dk_seg dksX2_remembers_1 23 rfl rfl
theorem dksX2_remembers_3 : cX2_remembers.data.toList.drop 71 = dktX2_remembers_3 := dk_seg dksX2_remembers_2 24 rfl rfl
theorem dX2_remembers_0 : decode cX2_remembers 0 = .ok (.aload_n 0, 1) := dk_42 (dk_at dksX2_remembers_0 0 rfl rfl)
theorem dX2_remembers_1 : decode cX2_remembers 1 = .ok (.getfield 188, 3) := dk_180 0 188 (dk_at dksX2_remembers_0 1 rfl rfl)
theorem dX2_remembers_4 : decode cX2_remembers 4 = .ok (.bipush 8, 2) := dk_16 8 (dk_at dksX2_remembers_0 4 rfl rfl)
theorem dX2_remembers_6 : decode cX2_remembers 6 = .ok (.if_icmp .ne 44, 3) := dk_160 0 44 (dk_at dksX2_remembers_0 6 rfl rfl)
theorem dX2_remembers_9 : decode cX2_remembers 9 = .ok (.iconst 0, 1) := dk_3 (dk_at dksX2_remembers_0 9 rfl rfl)
theorem dX2_remembers_10 : decode cX2_remembers 10 = .ok (.istore_n 1, 1) := dk_60 (dk_at dksX2_remembers_0 10 rfl rfl)
theorem dX2_remembers_11 : decode cX2_remembers 11 = .ok (.iload_n 1, 1) := dk_27 (dk_at dksX2_remembers_0 11 rfl rfl)
theorem dX2_remembers_12 : decode cX2_remembers 12 = .ok (.sipush 7406, 3) := dk_17 28 238 (dk_at dksX2_remembers_0 12 rfl rfl)
theorem dX2_remembers_15 : decode cX2_remembers 15 = .ok (.if_icmp .ge 25, 3) := dk_162 0 25 (dk_at dksX2_remembers_0 15 rfl rfl)
theorem dX2_remembers_18 : decode cX2_remembers 18 = .ok (.aload_n 0, 1) := dk_42 (dk_at dksX2_remembers_0 18 rfl rfl)
theorem dX2_remembers_19 : decode cX2_remembers 19 = .ok (.getfield 16, 3) := dk_180 0 16 (dk_at dksX2_remembers_0 19 rfl rfl)
theorem dX2_remembers_22 : decode cX2_remembers 22 = .ok (.iload_n 1, 1) := dk_27 (dk_at dksX2_remembers_0 22 rfl rfl)
theorem dX2_remembers_23 : decode cX2_remembers 23 = .ok (.aload_n 0, 1) := dk_42 (dk_at dksX2_remembers_0 23 rfl rfl)
theorem dX2_remembers_24 : decode cX2_remembers 24 = .ok (.getfield 16, 3) := dk_180 0 16 (dk_at dksX2_remembers_1 0 rfl rfl)
theorem dX2_remembers_27 : decode cX2_remembers 27 = .ok (.iload_n 1, 1) := dk_27 (dk_at dksX2_remembers_1 3 rfl rfl)
theorem dX2_remembers_28 : decode cX2_remembers 28 = .ok (.sipush 1058, 3) := dk_17 4 34 (dk_at dksX2_remembers_1 4 rfl rfl)
theorem dX2_remembers_31 : decode cX2_remembers 31 = .ok (.iadd, 1) := dk_96 (dk_at dksX2_remembers_1 7 rfl rfl)
theorem dX2_remembers_32 : decode cX2_remembers 32 = .ok (.iaload, 1) := dk_46 (dk_at dksX2_remembers_1 8 rfl rfl)
theorem dX2_remembers_33 : decode cX2_remembers 33 = .ok (.iastore, 1) := dk_79 (dk_at dksX2_remembers_1 9 rfl rfl)
theorem dX2_remembers_34 : decode cX2_remembers 34 = .ok (.iinc 1 1, 3) := dk_132 1 1 (dk_at dksX2_remembers_1 10 rfl rfl)
theorem dX2_remembers_37 : decode cX2_remembers 37 = .ok (.goto (-26), 3) := dk_167 255 230 (dk_at dksX2_remembers_1 13 rfl rfl)
theorem dX2_remembers_40 : decode cX2_remembers 40 = .ok (.aload_n 0, 1) := dk_42 (dk_at dksX2_remembers_1 16 rfl rfl)
theorem dX2_remembers_41 : decode cX2_remembers 41 = .ok (.dup, 1) := dk_89 (dk_at dksX2_remembers_1 17 rfl rfl)
theorem dX2_remembers_42 : decode cX2_remembers 42 = .ok (.getfield 188, 3) := dk_180 0 188 (dk_at dksX2_remembers_1 18 rfl rfl)
theorem dX2_remembers_45 : decode cX2_remembers 45 = .ok (.iconst 1, 1) := dk_4 (dk_at dksX2_remembers_1 21 rfl rfl)
theorem dX2_remembers_46 : decode cX2_remembers 46 = .ok (.isub, 1) := dk_100 (dk_at dksX2_remembers_1 22 rfl rfl)
theorem dX2_remembers_47 : decode cX2_remembers 47 = .ok (.putfield 188, 3) := dk_181 0 188 (dk_at dksX2_remembers_2 0 rfl rfl)
theorem dX2_remembers_50 : decode cX2_remembers 50 = .ok (.aload_n 0, 1) := dk_42 (dk_at dksX2_remembers_2 3 rfl rfl)
theorem dX2_remembers_51 : decode cX2_remembers 51 = .ok (.getfield 9, 3) := dk_180 0 9 (dk_at dksX2_remembers_2 4 rfl rfl)
theorem dX2_remembers_54 : decode cX2_remembers 54 = .ok (.iconst 0, 1) := dk_3 (dk_at dksX2_remembers_2 7 rfl rfl)
theorem dX2_remembers_55 : decode cX2_remembers 55 = .ok (.aload_n 0, 1) := dk_42 (dk_at dksX2_remembers_2 8 rfl rfl)
theorem dX2_remembers_56 : decode cX2_remembers 56 = .ok (.getfield 16, 3) := dk_180 0 16 (dk_at dksX2_remembers_2 9 rfl rfl)
theorem dX2_remembers_59 : decode cX2_remembers 59 = .ok (.aload_n 0, 1) := dk_42 (dk_at dksX2_remembers_2 12 rfl rfl)
theorem dX2_remembers_60 : decode cX2_remembers 60 = .ok (.getfield 188, 3) := dk_180 0 188 (dk_at dksX2_remembers_2 13 rfl rfl)
theorem dX2_remembers_63 : decode cX2_remembers 63 = .ok (.sipush 1058, 3) := dk_17 4 34 (dk_at dksX2_remembers_2 16 rfl rfl)
theorem dX2_remembers_66 : decode cX2_remembers 66 = .ok (.imul, 1) := dk_104 (dk_at dksX2_remembers_2 19 rfl rfl)
theorem dX2_remembers_67 : decode cX2_remembers 67 = .ok (.invokestatic 177, 3) := dk_184 0 177 (dk_at dksX2_remembers_2 20 rfl rfl)
theorem dX2_remembers_70 : decode cX2_remembers 70 = .ok (.aload_n 0, 1) := dk_42 (dk_at dksX2_remembers_2 23 rfl rfl)
theorem dX2_remembers_71 : decode cX2_remembers 71 = .ok (.dup, 1) := dk_89 (dk_at dksX2_remembers_3 0 rfl rfl)
theorem dX2_remembers_72 : decode cX2_remembers 72 = .ok (.getfield 188, 3) := dk_180 0 188 (dk_at dksX2_remembers_3 1 rfl rfl)
theorem dX2_remembers_75 : decode cX2_remembers 75 = .ok (.iconst 1, 1) := dk_4 (dk_at dksX2_remembers_3 4 rfl rfl)
theorem dX2_remembers_76 : decode cX2_remembers 76 = .ok (.iadd, 1) := dk_96 (dk_at dksX2_remembers_3 5 rfl rfl)
theorem dX2_remembers_77 : decode cX2_remembers 77 = .ok (.putfield 188, 3) := dk_181 0 188 (dk_at dksX2_remembers_3 6 rfl rfl)
theorem dX2_remembers_80 : decode cX2_remembers 80 = .ok (.return_, 1) := dk_177 (dk_at dksX2_remembers_3 9 rfl rfl)
abbrev cX2_flare : ByteArray := prog_20_method_139_code
def yX2_flare : MethodName := ⟨RX2, "flare", "(IIZ)I"⟩
def dkwX2_flare_6 : List UInt8 := [182, 1, 115, 172]
abbrev dktX2_flare_6 : List UInt8 := dkwX2_flare_6 ++ []
def dkwX2_flare_5 : List UInt8 := [180, 0, 9, 16, 90, 46, 79, 42, 180, 0, 9, 16, 91, 92, 46, 4, 96, 79, 42, 27, 28, 29]
abbrev dktX2_flare_5 : List UInt8 := dkwX2_flare_5 ++ dktX2_flare_6
def dkwX2_flare_4 : List UInt8 := [180, 0, 9, 17, 0, 148, 27, 96, 92, 46, 4, 100, 79, 42, 180, 0, 9, 17, 0, 168, 27, 96, 42]
abbrev dktX2_flare_4 : List UInt8 := dkwX2_flare_4 ++ dktX2_flare_5
def dkwX2_flare_3 : List UInt8 := [16, 90, 46, 159, 0, 7, 4, 167, 0, 4, 3, 182, 0, 47, 154, 0, 5, 3, 172, 42, 182, 1, 135, 42]
abbrev dktX2_flare_3 : List UInt8 := dkwX2_flare_3 ++ dktX2_flare_4
def dkwX2_flare_2 : List UInt8 := [17, 0, 148, 27, 96, 46, 158, 0, 27, 42, 180, 0, 9, 17, 0, 168, 27, 96, 46, 42, 180, 0, 9]
abbrev dktX2_flare_2 : List UInt8 := dkwX2_flare_2 ++ dktX2_flare_3
def dkwX2_flare_1 : List UInt8 := [167, 0, 4, 3, 54, 4, 42, 42, 180, 0, 184, 21, 4, 21, 4, 153, 0, 40, 42, 180, 0, 9]
abbrev dktX2_flare_1 : List UInt8 := dkwX2_flare_1 ++ dktX2_flare_2
def dkwX2_flare_0 : List UInt8 := [42, 180, 0, 184, 153, 0, 23, 42, 27, 182, 1, 19, 153, 0, 15, 42, 28, 182, 1, 22, 153, 0, 7, 4]
abbrev dktX2_flare_0 : List UInt8 := dkwX2_flare_0 ++ dktX2_flare_1
theorem dksX2_flare_0 : cX2_flare.data.toList.drop 0 = dktX2_flare_0 := by decide +kernel
theorem dksX2_flare_1 : cX2_flare.data.toList.drop 24 = dktX2_flare_1 := dk_seg dksX2_flare_0 24 rfl rfl
theorem dksX2_flare_2 : cX2_flare.data.toList.drop 46 = dktX2_flare_2 := dk_seg dksX2_flare_1 22 rfl rfl
theorem dksX2_flare_3 : cX2_flare.data.toList.drop 69 = dktX2_flare_3 := dk_seg dksX2_flare_2 23 rfl rfl
theorem dksX2_flare_4 : cX2_flare.data.toList.drop 93 = dktX2_flare_4 := dk_seg dksX2_flare_3 24 rfl rfl
theorem dksX2_flare_5 : cX2_flare.data.toList.drop 116 = dktX2_flare_5 := dk_seg dksX2_flare_4 23 rfl rfl
theorem dksX2_flare_6 : cX2_flare.data.toList.drop 138 = dktX2_flare_6 := dk_seg dksX2_flare_5 22 rfl rfl
theorem dX2_flare_0 : decode cX2_flare 0 = .ok (.aload_n 0, 1) := dk_42 (dk_at dksX2_flare_0 0 rfl rfl)
theorem dX2_flare_1 : decode cX2_flare 1 = .ok (.getfield 184, 3) := dk_180 0 184 (dk_at dksX2_flare_0 1 rfl rfl)
theorem dX2_flare_4 : decode cX2_flare 4 = .ok (.ifCond .eq 23, 3) := dk_153 0 23 (dk_at dksX2_flare_0 4 rfl rfl)
theorem dX2_flare_7 : decode cX2_flare 7 = .ok (.aload_n 0, 1) := dk_42 (dk_at dksX2_flare_0 7 rfl rfl)
theorem dX2_flare_8 : decode cX2_flare 8 = .ok (.iload_n 1, 1) := dk_27 (dk_at dksX2_flare_0 8 rfl rfl)
theorem dX2_flare_9 : decode cX2_flare 9 = .ok (.invokevirtual 275, 3) := dk_182 1 19 (dk_at dksX2_flare_0 9 rfl rfl)
theorem dX2_flare_12 : decode cX2_flare 12 = .ok (.ifCond .eq 15, 3) := dk_153 0 15 (dk_at dksX2_flare_0 12 rfl rfl)
theorem dX2_flare_15 : decode cX2_flare 15 = .ok (.aload_n 0, 1) := dk_42 (dk_at dksX2_flare_0 15 rfl rfl)
theorem dX2_flare_16 : decode cX2_flare 16 = .ok (.iload_n 2, 1) := dk_28 (dk_at dksX2_flare_0 16 rfl rfl)
theorem dX2_flare_17 : decode cX2_flare 17 = .ok (.invokevirtual 278, 3) := dk_182 1 22 (dk_at dksX2_flare_0 17 rfl rfl)
theorem dX2_flare_20 : decode cX2_flare 20 = .ok (.ifCond .eq 7, 3) := dk_153 0 7 (dk_at dksX2_flare_0 20 rfl rfl)
theorem dX2_flare_23 : decode cX2_flare 23 = .ok (.iconst 1, 1) := dk_4 (dk_at dksX2_flare_0 23 rfl rfl)
theorem dX2_flare_24 : decode cX2_flare 24 = .ok (.goto 4, 3) := dk_167 0 4 (dk_at dksX2_flare_1 0 rfl rfl)
theorem dX2_flare_27 : decode cX2_flare 27 = .ok (.iconst 0, 1) := dk_3 (dk_at dksX2_flare_1 3 rfl rfl)
theorem dX2_flare_28 : decode cX2_flare 28 = .ok (.istore 4, 2) := dk_54 4 (dk_at dksX2_flare_1 4 rfl rfl)
theorem dX2_flare_30 : decode cX2_flare 30 = .ok (.aload_n 0, 1) := dk_42 (dk_at dksX2_flare_1 6 rfl rfl)
theorem dX2_flare_31 : decode cX2_flare 31 = .ok (.aload_n 0, 1) := dk_42 (dk_at dksX2_flare_1 7 rfl rfl)
theorem dX2_flare_32 : decode cX2_flare 32 = .ok (.getfield 184, 3) := dk_180 0 184 (dk_at dksX2_flare_1 8 rfl rfl)
theorem dX2_flare_35 : decode cX2_flare 35 = .ok (.iload 4, 2) := dk_21 4 (dk_at dksX2_flare_1 11 rfl rfl)
theorem dX2_flare_37 : decode cX2_flare 37 = .ok (.iload 4, 2) := dk_21 4 (dk_at dksX2_flare_1 13 rfl rfl)
theorem dX2_flare_39 : decode cX2_flare 39 = .ok (.ifCond .eq 40, 3) := dk_153 0 40 (dk_at dksX2_flare_1 15 rfl rfl)
theorem dX2_flare_42 : decode cX2_flare 42 = .ok (.aload_n 0, 1) := dk_42 (dk_at dksX2_flare_1 18 rfl rfl)
theorem dX2_flare_43 : decode cX2_flare 43 = .ok (.getfield 9, 3) := dk_180 0 9 (dk_at dksX2_flare_1 19 rfl rfl)
theorem dX2_flare_46 : decode cX2_flare 46 = .ok (.sipush 148, 3) := dk_17 0 148 (dk_at dksX2_flare_2 0 rfl rfl)
theorem dX2_flare_49 : decode cX2_flare 49 = .ok (.iload_n 1, 1) := dk_27 (dk_at dksX2_flare_2 3 rfl rfl)
theorem dX2_flare_50 : decode cX2_flare 50 = .ok (.iadd, 1) := dk_96 (dk_at dksX2_flare_2 4 rfl rfl)
theorem dX2_flare_51 : decode cX2_flare 51 = .ok (.iaload, 1) := dk_46 (dk_at dksX2_flare_2 5 rfl rfl)
theorem dX2_flare_52 : decode cX2_flare 52 = .ok (.ifCond .le 27, 3) := dk_158 0 27 (dk_at dksX2_flare_2 6 rfl rfl)
theorem dX2_flare_55 : decode cX2_flare 55 = .ok (.aload_n 0, 1) := dk_42 (dk_at dksX2_flare_2 9 rfl rfl)
theorem dX2_flare_56 : decode cX2_flare 56 = .ok (.getfield 9, 3) := dk_180 0 9 (dk_at dksX2_flare_2 10 rfl rfl)
theorem dX2_flare_59 : decode cX2_flare 59 = .ok (.sipush 168, 3) := dk_17 0 168 (dk_at dksX2_flare_2 13 rfl rfl)
theorem dX2_flare_62 : decode cX2_flare 62 = .ok (.iload_n 1, 1) := dk_27 (dk_at dksX2_flare_2 16 rfl rfl)
theorem dX2_flare_63 : decode cX2_flare 63 = .ok (.iadd, 1) := dk_96 (dk_at dksX2_flare_2 17 rfl rfl)
theorem dX2_flare_64 : decode cX2_flare 64 = .ok (.iaload, 1) := dk_46 (dk_at dksX2_flare_2 18 rfl rfl)
theorem dX2_flare_65 : decode cX2_flare 65 = .ok (.aload_n 0, 1) := dk_42 (dk_at dksX2_flare_2 19 rfl rfl)
theorem dX2_flare_66 : decode cX2_flare 66 = .ok (.getfield 9, 3) := dk_180 0 9 (dk_at dksX2_flare_2 20 rfl rfl)
theorem dX2_flare_69 : decode cX2_flare 69 = .ok (.bipush 90, 2) := dk_16 90 (dk_at dksX2_flare_3 0 rfl rfl)
theorem dX2_flare_71 : decode cX2_flare 71 = .ok (.iaload, 1) := dk_46 (dk_at dksX2_flare_3 2 rfl rfl)
theorem dX2_flare_72 : decode cX2_flare 72 = .ok (.if_icmp .eq 7, 3) := dk_159 0 7 (dk_at dksX2_flare_3 3 rfl rfl)
theorem dX2_flare_75 : decode cX2_flare 75 = .ok (.iconst 1, 1) := dk_4 (dk_at dksX2_flare_3 6 rfl rfl)
theorem dX2_flare_76 : decode cX2_flare 76 = .ok (.goto 4, 3) := dk_167 0 4 (dk_at dksX2_flare_3 7 rfl rfl)
theorem dX2_flare_79 : decode cX2_flare 79 = .ok (.iconst 0, 1) := dk_3 (dk_at dksX2_flare_3 10 rfl rfl)
theorem dX2_flare_80 : decode cX2_flare 80 = .ok (.invokevirtual 47, 3) := dk_182 0 47 (dk_at dksX2_flare_3 11 rfl rfl)
theorem dX2_flare_83 : decode cX2_flare 83 = .ok (.ifCond .ne 5, 3) := dk_154 0 5 (dk_at dksX2_flare_3 14 rfl rfl)
theorem dX2_flare_86 : decode cX2_flare 86 = .ok (.iconst 0, 1) := dk_3 (dk_at dksX2_flare_3 17 rfl rfl)
theorem dX2_flare_87 : decode cX2_flare 87 = .ok (.ireturn, 1) := dk_172 (dk_at dksX2_flare_3 18 rfl rfl)
theorem dX2_flare_88 : decode cX2_flare 88 = .ok (.aload_n 0, 1) := dk_42 (dk_at dksX2_flare_3 19 rfl rfl)
theorem dX2_flare_89 : decode cX2_flare 89 = .ok (.invokevirtual 391, 3) := dk_182 1 135 (dk_at dksX2_flare_3 20 rfl rfl)
theorem dX2_flare_92 : decode cX2_flare 92 = .ok (.aload_n 0, 1) := dk_42 (dk_at dksX2_flare_3 23 rfl rfl)
theorem dX2_flare_93 : decode cX2_flare 93 = .ok (.getfield 9, 3) := dk_180 0 9 (dk_at dksX2_flare_4 0 rfl rfl)
theorem dX2_flare_96 : decode cX2_flare 96 = .ok (.sipush 148, 3) := dk_17 0 148 (dk_at dksX2_flare_4 3 rfl rfl)
theorem dX2_flare_99 : decode cX2_flare 99 = .ok (.iload_n 1, 1) := dk_27 (dk_at dksX2_flare_4 6 rfl rfl)
theorem dX2_flare_100 : decode cX2_flare 100 = .ok (.iadd, 1) := dk_96 (dk_at dksX2_flare_4 7 rfl rfl)
theorem dX2_flare_101 : decode cX2_flare 101 = .ok (.dup2, 1) := dk_92 (dk_at dksX2_flare_4 8 rfl rfl)
theorem dX2_flare_102 : decode cX2_flare 102 = .ok (.iaload, 1) := dk_46 (dk_at dksX2_flare_4 9 rfl rfl)
theorem dX2_flare_103 : decode cX2_flare 103 = .ok (.iconst 1, 1) := dk_4 (dk_at dksX2_flare_4 10 rfl rfl)
theorem dX2_flare_104 : decode cX2_flare 104 = .ok (.isub, 1) := dk_100 (dk_at dksX2_flare_4 11 rfl rfl)
theorem dX2_flare_105 : decode cX2_flare 105 = .ok (.iastore, 1) := dk_79 (dk_at dksX2_flare_4 12 rfl rfl)
theorem dX2_flare_106 : decode cX2_flare 106 = .ok (.aload_n 0, 1) := dk_42 (dk_at dksX2_flare_4 13 rfl rfl)
theorem dX2_flare_107 : decode cX2_flare 107 = .ok (.getfield 9, 3) := dk_180 0 9 (dk_at dksX2_flare_4 14 rfl rfl)
theorem dX2_flare_110 : decode cX2_flare 110 = .ok (.sipush 168, 3) := dk_17 0 168 (dk_at dksX2_flare_4 17 rfl rfl)
theorem dX2_flare_113 : decode cX2_flare 113 = .ok (.iload_n 1, 1) := dk_27 (dk_at dksX2_flare_4 20 rfl rfl)
theorem dX2_flare_114 : decode cX2_flare 114 = .ok (.iadd, 1) := dk_96 (dk_at dksX2_flare_4 21 rfl rfl)
theorem dX2_flare_115 : decode cX2_flare 115 = .ok (.aload_n 0, 1) := dk_42 (dk_at dksX2_flare_4 22 rfl rfl)
theorem dX2_flare_116 : decode cX2_flare 116 = .ok (.getfield 9, 3) := dk_180 0 9 (dk_at dksX2_flare_5 0 rfl rfl)
theorem dX2_flare_119 : decode cX2_flare 119 = .ok (.bipush 90, 2) := dk_16 90 (dk_at dksX2_flare_5 3 rfl rfl)
theorem dX2_flare_121 : decode cX2_flare 121 = .ok (.iaload, 1) := dk_46 (dk_at dksX2_flare_5 5 rfl rfl)
theorem dX2_flare_122 : decode cX2_flare 122 = .ok (.iastore, 1) := dk_79 (dk_at dksX2_flare_5 6 rfl rfl)
theorem dX2_flare_123 : decode cX2_flare 123 = .ok (.aload_n 0, 1) := dk_42 (dk_at dksX2_flare_5 7 rfl rfl)
theorem dX2_flare_124 : decode cX2_flare 124 = .ok (.getfield 9, 3) := dk_180 0 9 (dk_at dksX2_flare_5 8 rfl rfl)
theorem dX2_flare_127 : decode cX2_flare 127 = .ok (.bipush 91, 2) := dk_16 91 (dk_at dksX2_flare_5 11 rfl rfl)
theorem dX2_flare_129 : decode cX2_flare 129 = .ok (.dup2, 1) := dk_92 (dk_at dksX2_flare_5 13 rfl rfl)
theorem dX2_flare_130 : decode cX2_flare 130 = .ok (.iaload, 1) := dk_46 (dk_at dksX2_flare_5 14 rfl rfl)
theorem dX2_flare_131 : decode cX2_flare 131 = .ok (.iconst 1, 1) := dk_4 (dk_at dksX2_flare_5 15 rfl rfl)
theorem dX2_flare_132 : decode cX2_flare 132 = .ok (.iadd, 1) := dk_96 (dk_at dksX2_flare_5 16 rfl rfl)
theorem dX2_flare_133 : decode cX2_flare 133 = .ok (.iastore, 1) := dk_79 (dk_at dksX2_flare_5 17 rfl rfl)
theorem dX2_flare_134 : decode cX2_flare 134 = .ok (.aload_n 0, 1) := dk_42 (dk_at dksX2_flare_5 18 rfl rfl)
theorem dX2_flare_135 : decode cX2_flare 135 = .ok (.iload_n 1, 1) := dk_27 (dk_at dksX2_flare_5 19 rfl rfl)
theorem dX2_flare_136 : decode cX2_flare 136 = .ok (.iload_n 2, 1) := dk_28 (dk_at dksX2_flare_5 20 rfl rfl)
theorem dX2_flare_137 : decode cX2_flare 137 = .ok (.iload_n 3, 1) := dk_29 (dk_at dksX2_flare_5 21 rfl rfl)
theorem dX2_flare_138 : decode cX2_flare 138 = .ok (.invokevirtual 371, 3) := dk_182 1 115 (dk_at dksX2_flare_6 0 rfl rfl)
theorem dX2_flare_141 : decode cX2_flare 141 = .ok (.ireturn, 1) := dk_172 (dk_at dksX2_flare_6 3 rfl rfl)
abbrev cX2_inspect : ByteArray := prog_20_method_140_code
def yX2_inspect : MethodName := ⟨RX2, "inspect", "(II)I"⟩
def dkwX2_inspect_11 : List UInt8 := [180, 0, 9, 16, 90, 46, 21, 4, 184, 1, 112, 79, 21, 5, 172]
abbrev dktX2_inspect_11 : List UInt8 := dkwX2_inspect_11 ++ []
def dkwX2_inspect_10 : List UInt8 := [42, 180, 0, 9, 16, 94, 92, 46, 21, 5, 96, 79, 42, 180, 0, 9, 27, 27, 28, 184, 0, 226, 42]
abbrev dktX2_inspect_10 : List UInt8 := dkwX2_inspect_10 ++ dktX2_inspect_11
def dkwX2_inspect_9 : List UInt8 := [21, 7, 79, 21, 5, 21, 8, 153, 0, 7, 4, 167, 0, 4, 3, 96, 54, 5, 132, 6, 1, 167, 255, 109]
abbrev dktX2_inspect_9 : List UInt8 := dkwX2_inspect_9 ++ dktX2_inspect_10
def dkwX2_inspect_8 : List UInt8 := [184, 1, 7, 79, 42, 180, 0, 9, 27, 21, 6, 28, 184, 0, 226, 21, 8, 153, 0, 7, 3, 167, 0, 5]
abbrev dktX2_inspect_8 : List UInt8 := dkwX2_inspect_8 ++ dktX2_inspect_9
def dkwX2_inspect_7 : List UInt8 := [8, 46, 100, 184, 0, 199, 167, 0, 21, 16, 100, 42, 180, 0, 9, 17, 0, 158, 21, 6, 96, 46, 4, 96]
abbrev dktX2_inspect_7 : List UInt8 := dkwX2_inspect_7 ++ dktX2_inspect_8
def dkwX2_inspect_6 : List UInt8 := [21, 6, 96, 21, 8, 153, 0, 28, 3, 42, 180, 0, 9, 17, 0, 158, 21, 6, 96, 46, 42, 180, 0, 9]
abbrev dktX2_inspect_6 : List UInt8 := dkwX2_inspect_6 ++ dktX2_inspect_7
def dkwX2_inspect_5 : List UInt8 := [21, 7, 184, 0, 235, 21, 4, 159, 0, 7, 4, 167, 0, 4, 3, 54, 8, 42, 180, 0, 9, 17, 0, 158]
abbrev dktX2_inspect_5 : List UInt8 := dkwX2_inspect_5 ++ dktX2_inspect_6
def dkwX2_inspect_4 : List UInt8 := [16, 6, 46, 162, 0, 141, 42, 27, 21, 6, 28, 182, 0, 232, 54, 7, 21, 7, 154, 0, 6, 167, 0, 117]
abbrev dktX2_inspect_4 : List UInt8 := dkwX2_inspect_4 ++ dktX2_inspect_5
def dkwX2_inspect_3 : List UInt8 := [180, 0, 9, 16, 97, 46, 28, 184, 0, 245, 54, 4, 3, 54, 5, 3, 54, 6, 21, 6, 42, 180, 0, 9]
abbrev dktX2_inspect_3 : List UInt8 := dkwX2_inspect_3 ++ dktX2_inspect_4
def dkwX2_inspect_2 : List UInt8 := [182, 0, 213, 153, 0, 7, 4, 167, 0, 4, 3, 182, 0, 47, 154, 0, 5, 3, 172, 42, 182, 1, 135, 42]
abbrev dktX2_inspect_2 : List UInt8 := dkwX2_inspect_2 ++ dktX2_inspect_3
def dkwX2_inspect_1 : List UInt8 := [167, 0, 4, 3, 62, 42, 42, 180, 0, 184, 29, 29, 153, 0, 22, 42, 27, 184, 0, 210, 28, 184, 0, 220]
abbrev dktX2_inspect_1 : List UInt8 := dkwX2_inspect_1 ++ dktX2_inspect_2
def dkwX2_inspect_0 : List UInt8 := [42, 180, 0, 184, 153, 0, 23, 42, 27, 182, 1, 19, 153, 0, 15, 42, 28, 182, 1, 22, 153, 0, 7, 4]
abbrev dktX2_inspect_0 : List UInt8 := dkwX2_inspect_0 ++ dktX2_inspect_1
theorem dksX2_inspect_0 : cX2_inspect.data.toList.drop 0 = dktX2_inspect_0 := by decide +kernel
theorem dksX2_inspect_1 : cX2_inspect.data.toList.drop 24 = dktX2_inspect_1 := dk_seg dksX2_inspect_0 24 rfl rfl
theorem dksX2_inspect_2 : cX2_inspect.data.toList.drop 48 = dktX2_inspect_2 := dk_seg dksX2_inspect_1 24 rfl rfl
theorem dksX2_inspect_3 : cX2_inspect.data.toList.drop 72 = dktX2_inspect_3 := dk_seg dksX2_inspect_2 24 rfl rfl
theorem dksX2_inspect_4 : cX2_inspect.data.toList.drop 96 = dktX2_inspect_4 := dk_seg dksX2_inspect_3 24 rfl rfl
theorem dksX2_inspect_5 : cX2_inspect.data.toList.drop 120 = dktX2_inspect_5 := dk_seg dksX2_inspect_4 24 rfl rfl
theorem dksX2_inspect_6 : cX2_inspect.data.toList.drop 144 = dktX2_inspect_6 := dk_seg dksX2_inspect_5 24 rfl rfl
theorem dksX2_inspect_7 : cX2_inspect.data.toList.drop 168 = dktX2_inspect_7 := dk_seg dksX2_inspect_6 24 rfl rfl
theorem dksX2_inspect_8 : cX2_inspect.data.toList.drop 192 = dktX2_inspect_8 := dk_seg dksX2_inspect_7 24 rfl rfl
theorem dksX2_inspect_9 : cX2_inspect.data.toList.drop 216 = dktX2_inspect_9 := dk_seg dksX2_inspect_8 24 rfl rfl
theorem dksX2_inspect_10 : cX2_inspect.data.toList.drop 240 = dktX2_inspect_10 := dk_seg dksX2_inspect_9 24 rfl rfl
theorem dksX2_inspect_11 : cX2_inspect.data.toList.drop 263 = dktX2_inspect_11 := dk_seg dksX2_inspect_10 23 rfl rfl
theorem dX2_inspect_0 : decode cX2_inspect 0 = .ok (.aload_n 0, 1) := dk_42 (dk_at dksX2_inspect_0 0 rfl rfl)
theorem dX2_inspect_1 : decode cX2_inspect 1 = .ok (.getfield 184, 3) := dk_180 0 184 (dk_at dksX2_inspect_0 1 rfl rfl)
theorem dX2_inspect_4 : decode cX2_inspect 4 = .ok (.ifCond .eq 23, 3) := dk_153 0 23 (dk_at dksX2_inspect_0 4 rfl rfl)
theorem dX2_inspect_7 : decode cX2_inspect 7 = .ok (.aload_n 0, 1) := dk_42 (dk_at dksX2_inspect_0 7 rfl rfl)
theorem dX2_inspect_8 : decode cX2_inspect 8 = .ok (.iload_n 1, 1) := dk_27 (dk_at dksX2_inspect_0 8 rfl rfl)
theorem dX2_inspect_9 : decode cX2_inspect 9 = .ok (.invokevirtual 275, 3) := dk_182 1 19 (dk_at dksX2_inspect_0 9 rfl rfl)
theorem dX2_inspect_12 : decode cX2_inspect 12 = .ok (.ifCond .eq 15, 3) := dk_153 0 15 (dk_at dksX2_inspect_0 12 rfl rfl)
theorem dX2_inspect_15 : decode cX2_inspect 15 = .ok (.aload_n 0, 1) := dk_42 (dk_at dksX2_inspect_0 15 rfl rfl)
theorem dX2_inspect_16 : decode cX2_inspect 16 = .ok (.iload_n 2, 1) := dk_28 (dk_at dksX2_inspect_0 16 rfl rfl)
theorem dX2_inspect_17 : decode cX2_inspect 17 = .ok (.invokevirtual 278, 3) := dk_182 1 22 (dk_at dksX2_inspect_0 17 rfl rfl)
theorem dX2_inspect_20 : decode cX2_inspect 20 = .ok (.ifCond .eq 7, 3) := dk_153 0 7 (dk_at dksX2_inspect_0 20 rfl rfl)
theorem dX2_inspect_23 : decode cX2_inspect 23 = .ok (.iconst 1, 1) := dk_4 (dk_at dksX2_inspect_0 23 rfl rfl)
theorem dX2_inspect_24 : decode cX2_inspect 24 = .ok (.goto 4, 3) := dk_167 0 4 (dk_at dksX2_inspect_1 0 rfl rfl)
theorem dX2_inspect_27 : decode cX2_inspect 27 = .ok (.iconst 0, 1) := dk_3 (dk_at dksX2_inspect_1 3 rfl rfl)
theorem dX2_inspect_28 : decode cX2_inspect 28 = .ok (.istore_n 3, 1) := dk_62 (dk_at dksX2_inspect_1 4 rfl rfl)
theorem dX2_inspect_29 : decode cX2_inspect 29 = .ok (.aload_n 0, 1) := dk_42 (dk_at dksX2_inspect_1 5 rfl rfl)
theorem dX2_inspect_30 : decode cX2_inspect 30 = .ok (.aload_n 0, 1) := dk_42 (dk_at dksX2_inspect_1 6 rfl rfl)
theorem dX2_inspect_31 : decode cX2_inspect 31 = .ok (.getfield 184, 3) := dk_180 0 184 (dk_at dksX2_inspect_1 7 rfl rfl)
theorem dX2_inspect_34 : decode cX2_inspect 34 = .ok (.iload_n 3, 1) := dk_29 (dk_at dksX2_inspect_1 10 rfl rfl)
theorem dX2_inspect_35 : decode cX2_inspect 35 = .ok (.iload_n 3, 1) := dk_29 (dk_at dksX2_inspect_1 11 rfl rfl)
theorem dX2_inspect_36 : decode cX2_inspect 36 = .ok (.ifCond .eq 22, 3) := dk_153 0 22 (dk_at dksX2_inspect_1 12 rfl rfl)
theorem dX2_inspect_39 : decode cX2_inspect 39 = .ok (.aload_n 0, 1) := dk_42 (dk_at dksX2_inspect_1 15 rfl rfl)
theorem dX2_inspect_40 : decode cX2_inspect 40 = .ok (.iload_n 1, 1) := dk_27 (dk_at dksX2_inspect_1 16 rfl rfl)
theorem dX2_inspect_41 : decode cX2_inspect 41 = .ok (.invokestatic 210, 3) := dk_184 0 210 (dk_at dksX2_inspect_1 17 rfl rfl)
theorem dX2_inspect_44 : decode cX2_inspect 44 = .ok (.iload_n 2, 1) := dk_28 (dk_at dksX2_inspect_1 20 rfl rfl)
theorem dX2_inspect_45 : decode cX2_inspect 45 = .ok (.invokestatic 220, 3) := dk_184 0 220 (dk_at dksX2_inspect_1 21 rfl rfl)
theorem dX2_inspect_48 : decode cX2_inspect 48 = .ok (.invokevirtual 213, 3) := dk_182 0 213 (dk_at dksX2_inspect_2 0 rfl rfl)
theorem dX2_inspect_51 : decode cX2_inspect 51 = .ok (.ifCond .eq 7, 3) := dk_153 0 7 (dk_at dksX2_inspect_2 3 rfl rfl)
theorem dX2_inspect_54 : decode cX2_inspect 54 = .ok (.iconst 1, 1) := dk_4 (dk_at dksX2_inspect_2 6 rfl rfl)
theorem dX2_inspect_55 : decode cX2_inspect 55 = .ok (.goto 4, 3) := dk_167 0 4 (dk_at dksX2_inspect_2 7 rfl rfl)
theorem dX2_inspect_58 : decode cX2_inspect 58 = .ok (.iconst 0, 1) := dk_3 (dk_at dksX2_inspect_2 10 rfl rfl)
theorem dX2_inspect_59 : decode cX2_inspect 59 = .ok (.invokevirtual 47, 3) := dk_182 0 47 (dk_at dksX2_inspect_2 11 rfl rfl)
theorem dX2_inspect_62 : decode cX2_inspect 62 = .ok (.ifCond .ne 5, 3) := dk_154 0 5 (dk_at dksX2_inspect_2 14 rfl rfl)
theorem dX2_inspect_65 : decode cX2_inspect 65 = .ok (.iconst 0, 1) := dk_3 (dk_at dksX2_inspect_2 17 rfl rfl)
theorem dX2_inspect_66 : decode cX2_inspect 66 = .ok (.ireturn, 1) := dk_172 (dk_at dksX2_inspect_2 18 rfl rfl)
theorem dX2_inspect_67 : decode cX2_inspect 67 = .ok (.aload_n 0, 1) := dk_42 (dk_at dksX2_inspect_2 19 rfl rfl)
theorem dX2_inspect_68 : decode cX2_inspect 68 = .ok (.invokevirtual 391, 3) := dk_182 1 135 (dk_at dksX2_inspect_2 20 rfl rfl)
theorem dX2_inspect_71 : decode cX2_inspect 71 = .ok (.aload_n 0, 1) := dk_42 (dk_at dksX2_inspect_2 23 rfl rfl)
theorem dX2_inspect_72 : decode cX2_inspect 72 = .ok (.getfield 9, 3) := dk_180 0 9 (dk_at dksX2_inspect_3 0 rfl rfl)
theorem dX2_inspect_75 : decode cX2_inspect 75 = .ok (.bipush 97, 2) := dk_16 97 (dk_at dksX2_inspect_3 3 rfl rfl)
theorem dX2_inspect_77 : decode cX2_inspect 77 = .ok (.iaload, 1) := dk_46 (dk_at dksX2_inspect_3 5 rfl rfl)
theorem dX2_inspect_78 : decode cX2_inspect 78 = .ok (.iload_n 2, 1) := dk_28 (dk_at dksX2_inspect_3 6 rfl rfl)
theorem dX2_inspect_79 : decode cX2_inspect 79 = .ok (.invokestatic 245, 3) := dk_184 0 245 (dk_at dksX2_inspect_3 7 rfl rfl)
theorem dX2_inspect_82 : decode cX2_inspect 82 = .ok (.istore 4, 2) := dk_54 4 (dk_at dksX2_inspect_3 10 rfl rfl)
theorem dX2_inspect_84 : decode cX2_inspect 84 = .ok (.iconst 0, 1) := dk_3 (dk_at dksX2_inspect_3 12 rfl rfl)
theorem dX2_inspect_85 : decode cX2_inspect 85 = .ok (.istore 5, 2) := dk_54 5 (dk_at dksX2_inspect_3 13 rfl rfl)
theorem dX2_inspect_87 : decode cX2_inspect 87 = .ok (.iconst 0, 1) := dk_3 (dk_at dksX2_inspect_3 15 rfl rfl)
theorem dX2_inspect_88 : decode cX2_inspect 88 = .ok (.istore 6, 2) := dk_54 6 (dk_at dksX2_inspect_3 16 rfl rfl)
theorem dX2_inspect_90 : decode cX2_inspect 90 = .ok (.iload 6, 2) := dk_21 6 (dk_at dksX2_inspect_3 18 rfl rfl)
theorem dX2_inspect_92 : decode cX2_inspect 92 = .ok (.aload_n 0, 1) := dk_42 (dk_at dksX2_inspect_3 20 rfl rfl)
theorem dX2_inspect_93 : decode cX2_inspect 93 = .ok (.getfield 9, 3) := dk_180 0 9 (dk_at dksX2_inspect_3 21 rfl rfl)
theorem dX2_inspect_96 : decode cX2_inspect 96 = .ok (.bipush 6, 2) := dk_16 6 (dk_at dksX2_inspect_4 0 rfl rfl)
theorem dX2_inspect_98 : decode cX2_inspect 98 = .ok (.iaload, 1) := dk_46 (dk_at dksX2_inspect_4 2 rfl rfl)
theorem dX2_inspect_99 : decode cX2_inspect 99 = .ok (.if_icmp .ge 141, 3) := dk_162 0 141 (dk_at dksX2_inspect_4 3 rfl rfl)
theorem dX2_inspect_102 : decode cX2_inspect 102 = .ok (.aload_n 0, 1) := dk_42 (dk_at dksX2_inspect_4 6 rfl rfl)
theorem dX2_inspect_103 : decode cX2_inspect 103 = .ok (.iload_n 1, 1) := dk_27 (dk_at dksX2_inspect_4 7 rfl rfl)
theorem dX2_inspect_104 : decode cX2_inspect 104 = .ok (.iload 6, 2) := dk_21 6 (dk_at dksX2_inspect_4 8 rfl rfl)
theorem dX2_inspect_106 : decode cX2_inspect 106 = .ok (.iload_n 2, 1) := dk_28 (dk_at dksX2_inspect_4 10 rfl rfl)
theorem dX2_inspect_107 : decode cX2_inspect 107 = .ok (.invokevirtual 232, 3) := dk_182 0 232 (dk_at dksX2_inspect_4 11 rfl rfl)
theorem dX2_inspect_110 : decode cX2_inspect 110 = .ok (.istore 7, 2) := dk_54 7 (dk_at dksX2_inspect_4 14 rfl rfl)
theorem dX2_inspect_112 : decode cX2_inspect 112 = .ok (.iload 7, 2) := dk_21 7 (dk_at dksX2_inspect_4 16 rfl rfl)
theorem dX2_inspect_114 : decode cX2_inspect 114 = .ok (.ifCond .ne 6, 3) := dk_154 0 6 (dk_at dksX2_inspect_4 18 rfl rfl)
theorem dX2_inspect_117 : decode cX2_inspect 117 = .ok (.goto 117, 3) := dk_167 0 117 (dk_at dksX2_inspect_4 21 rfl rfl)
theorem dX2_inspect_120 : decode cX2_inspect 120 = .ok (.iload 7, 2) := dk_21 7 (dk_at dksX2_inspect_5 0 rfl rfl)
theorem dX2_inspect_122 : decode cX2_inspect 122 = .ok (.invokestatic 235, 3) := dk_184 0 235 (dk_at dksX2_inspect_5 2 rfl rfl)
theorem dX2_inspect_125 : decode cX2_inspect 125 = .ok (.iload 4, 2) := dk_21 4 (dk_at dksX2_inspect_5 5 rfl rfl)
theorem dX2_inspect_127 : decode cX2_inspect 127 = .ok (.if_icmp .eq 7, 3) := dk_159 0 7 (dk_at dksX2_inspect_5 7 rfl rfl)
theorem dX2_inspect_130 : decode cX2_inspect 130 = .ok (.iconst 1, 1) := dk_4 (dk_at dksX2_inspect_5 10 rfl rfl)
theorem dX2_inspect_131 : decode cX2_inspect 131 = .ok (.goto 4, 3) := dk_167 0 4 (dk_at dksX2_inspect_5 11 rfl rfl)
theorem dX2_inspect_134 : decode cX2_inspect 134 = .ok (.iconst 0, 1) := dk_3 (dk_at dksX2_inspect_5 14 rfl rfl)
theorem dX2_inspect_135 : decode cX2_inspect 135 = .ok (.istore 8, 2) := dk_54 8 (dk_at dksX2_inspect_5 15 rfl rfl)
theorem dX2_inspect_137 : decode cX2_inspect 137 = .ok (.aload_n 0, 1) := dk_42 (dk_at dksX2_inspect_5 17 rfl rfl)
theorem dX2_inspect_138 : decode cX2_inspect 138 = .ok (.getfield 9, 3) := dk_180 0 9 (dk_at dksX2_inspect_5 18 rfl rfl)
theorem dX2_inspect_141 : decode cX2_inspect 141 = .ok (.sipush 158, 3) := dk_17 0 158 (dk_at dksX2_inspect_5 21 rfl rfl)
theorem dX2_inspect_144 : decode cX2_inspect 144 = .ok (.iload 6, 2) := dk_21 6 (dk_at dksX2_inspect_6 0 rfl rfl)
theorem dX2_inspect_146 : decode cX2_inspect 146 = .ok (.iadd, 1) := dk_96 (dk_at dksX2_inspect_6 2 rfl rfl)
theorem dX2_inspect_147 : decode cX2_inspect 147 = .ok (.iload 8, 2) := dk_21 8 (dk_at dksX2_inspect_6 3 rfl rfl)
theorem dX2_inspect_149 : decode cX2_inspect 149 = .ok (.ifCond .eq 28, 3) := dk_153 0 28 (dk_at dksX2_inspect_6 5 rfl rfl)
theorem dX2_inspect_152 : decode cX2_inspect 152 = .ok (.iconst 0, 1) := dk_3 (dk_at dksX2_inspect_6 8 rfl rfl)
theorem dX2_inspect_153 : decode cX2_inspect 153 = .ok (.aload_n 0, 1) := dk_42 (dk_at dksX2_inspect_6 9 rfl rfl)
theorem dX2_inspect_154 : decode cX2_inspect 154 = .ok (.getfield 9, 3) := dk_180 0 9 (dk_at dksX2_inspect_6 10 rfl rfl)
theorem dX2_inspect_157 : decode cX2_inspect 157 = .ok (.sipush 158, 3) := dk_17 0 158 (dk_at dksX2_inspect_6 13 rfl rfl)
theorem dX2_inspect_160 : decode cX2_inspect 160 = .ok (.iload 6, 2) := dk_21 6 (dk_at dksX2_inspect_6 16 rfl rfl)
theorem dX2_inspect_162 : decode cX2_inspect 162 = .ok (.iadd, 1) := dk_96 (dk_at dksX2_inspect_6 18 rfl rfl)
theorem dX2_inspect_163 : decode cX2_inspect 163 = .ok (.iaload, 1) := dk_46 (dk_at dksX2_inspect_6 19 rfl rfl)
theorem dX2_inspect_164 : decode cX2_inspect 164 = .ok (.aload_n 0, 1) := dk_42 (dk_at dksX2_inspect_6 20 rfl rfl)
theorem dX2_inspect_165 : decode cX2_inspect 165 = .ok (.getfield 9, 3) := dk_180 0 9 (dk_at dksX2_inspect_6 21 rfl rfl)
theorem dX2_inspect_168 : decode cX2_inspect 168 = .ok (.iconst 5, 1) := dk_8 (dk_at dksX2_inspect_7 0 rfl rfl)
theorem dX2_inspect_169 : decode cX2_inspect 169 = .ok (.iaload, 1) := dk_46 (dk_at dksX2_inspect_7 1 rfl rfl)
theorem dX2_inspect_170 : decode cX2_inspect 170 = .ok (.isub, 1) := dk_100 (dk_at dksX2_inspect_7 2 rfl rfl)
theorem dX2_inspect_171 : decode cX2_inspect 171 = .ok (.invokestatic 199, 3) := dk_184 0 199 (dk_at dksX2_inspect_7 3 rfl rfl)
theorem dX2_inspect_174 : decode cX2_inspect 174 = .ok (.goto 21, 3) := dk_167 0 21 (dk_at dksX2_inspect_7 6 rfl rfl)
theorem dX2_inspect_177 : decode cX2_inspect 177 = .ok (.bipush 100, 2) := dk_16 100 (dk_at dksX2_inspect_7 9 rfl rfl)
theorem dX2_inspect_179 : decode cX2_inspect 179 = .ok (.aload_n 0, 1) := dk_42 (dk_at dksX2_inspect_7 11 rfl rfl)
theorem dX2_inspect_180 : decode cX2_inspect 180 = .ok (.getfield 9, 3) := dk_180 0 9 (dk_at dksX2_inspect_7 12 rfl rfl)
theorem dX2_inspect_183 : decode cX2_inspect 183 = .ok (.sipush 158, 3) := dk_17 0 158 (dk_at dksX2_inspect_7 15 rfl rfl)
theorem dX2_inspect_186 : decode cX2_inspect 186 = .ok (.iload 6, 2) := dk_21 6 (dk_at dksX2_inspect_7 18 rfl rfl)
theorem dX2_inspect_188 : decode cX2_inspect 188 = .ok (.iadd, 1) := dk_96 (dk_at dksX2_inspect_7 20 rfl rfl)
theorem dX2_inspect_189 : decode cX2_inspect 189 = .ok (.iaload, 1) := dk_46 (dk_at dksX2_inspect_7 21 rfl rfl)
theorem dX2_inspect_190 : decode cX2_inspect 190 = .ok (.iconst 1, 1) := dk_4 (dk_at dksX2_inspect_7 22 rfl rfl)
theorem dX2_inspect_191 : decode cX2_inspect 191 = .ok (.iadd, 1) := dk_96 (dk_at dksX2_inspect_7 23 rfl rfl)
theorem dX2_inspect_192 : decode cX2_inspect 192 = .ok (.invokestatic 263, 3) := dk_184 1 7 (dk_at dksX2_inspect_8 0 rfl rfl)
theorem dX2_inspect_195 : decode cX2_inspect 195 = .ok (.iastore, 1) := dk_79 (dk_at dksX2_inspect_8 3 rfl rfl)
theorem dX2_inspect_196 : decode cX2_inspect 196 = .ok (.aload_n 0, 1) := dk_42 (dk_at dksX2_inspect_8 4 rfl rfl)
theorem dX2_inspect_197 : decode cX2_inspect 197 = .ok (.getfield 9, 3) := dk_180 0 9 (dk_at dksX2_inspect_8 5 rfl rfl)
theorem dX2_inspect_200 : decode cX2_inspect 200 = .ok (.iload_n 1, 1) := dk_27 (dk_at dksX2_inspect_8 8 rfl rfl)
theorem dX2_inspect_201 : decode cX2_inspect 201 = .ok (.iload 6, 2) := dk_21 6 (dk_at dksX2_inspect_8 9 rfl rfl)
theorem dX2_inspect_203 : decode cX2_inspect 203 = .ok (.iload_n 2, 1) := dk_28 (dk_at dksX2_inspect_8 11 rfl rfl)
theorem dX2_inspect_204 : decode cX2_inspect 204 = .ok (.invokestatic 226, 3) := dk_184 0 226 (dk_at dksX2_inspect_8 12 rfl rfl)
theorem dX2_inspect_207 : decode cX2_inspect 207 = .ok (.iload 8, 2) := dk_21 8 (dk_at dksX2_inspect_8 15 rfl rfl)
theorem dX2_inspect_209 : decode cX2_inspect 209 = .ok (.ifCond .eq 7, 3) := dk_153 0 7 (dk_at dksX2_inspect_8 17 rfl rfl)
theorem dX2_inspect_212 : decode cX2_inspect 212 = .ok (.iconst 0, 1) := dk_3 (dk_at dksX2_inspect_8 20 rfl rfl)
theorem dX2_inspect_213 : decode cX2_inspect 213 = .ok (.goto 5, 3) := dk_167 0 5 (dk_at dksX2_inspect_8 21 rfl rfl)
theorem dX2_inspect_216 : decode cX2_inspect 216 = .ok (.iload 7, 2) := dk_21 7 (dk_at dksX2_inspect_9 0 rfl rfl)
theorem dX2_inspect_218 : decode cX2_inspect 218 = .ok (.iastore, 1) := dk_79 (dk_at dksX2_inspect_9 2 rfl rfl)
theorem dX2_inspect_219 : decode cX2_inspect 219 = .ok (.iload 5, 2) := dk_21 5 (dk_at dksX2_inspect_9 3 rfl rfl)
theorem dX2_inspect_221 : decode cX2_inspect 221 = .ok (.iload 8, 2) := dk_21 8 (dk_at dksX2_inspect_9 5 rfl rfl)
theorem dX2_inspect_223 : decode cX2_inspect 223 = .ok (.ifCond .eq 7, 3) := dk_153 0 7 (dk_at dksX2_inspect_9 7 rfl rfl)
theorem dX2_inspect_226 : decode cX2_inspect 226 = .ok (.iconst 1, 1) := dk_4 (dk_at dksX2_inspect_9 10 rfl rfl)
theorem dX2_inspect_227 : decode cX2_inspect 227 = .ok (.goto 4, 3) := dk_167 0 4 (dk_at dksX2_inspect_9 11 rfl rfl)
theorem dX2_inspect_230 : decode cX2_inspect 230 = .ok (.iconst 0, 1) := dk_3 (dk_at dksX2_inspect_9 14 rfl rfl)
theorem dX2_inspect_231 : decode cX2_inspect 231 = .ok (.iadd, 1) := dk_96 (dk_at dksX2_inspect_9 15 rfl rfl)
theorem dX2_inspect_232 : decode cX2_inspect 232 = .ok (.istore 5, 2) := dk_54 5 (dk_at dksX2_inspect_9 16 rfl rfl)
theorem dX2_inspect_234 : decode cX2_inspect 234 = .ok (.iinc 6 1, 3) := dk_132 6 1 (dk_at dksX2_inspect_9 18 rfl rfl)
theorem dX2_inspect_237 : decode cX2_inspect 237 = .ok (.goto (-147), 3) := dk_167 255 109 (dk_at dksX2_inspect_9 21 rfl rfl)
theorem dX2_inspect_240 : decode cX2_inspect 240 = .ok (.aload_n 0, 1) := dk_42 (dk_at dksX2_inspect_10 0 rfl rfl)
theorem dX2_inspect_241 : decode cX2_inspect 241 = .ok (.getfield 9, 3) := dk_180 0 9 (dk_at dksX2_inspect_10 1 rfl rfl)
theorem dX2_inspect_244 : decode cX2_inspect 244 = .ok (.bipush 94, 2) := dk_16 94 (dk_at dksX2_inspect_10 4 rfl rfl)
theorem dX2_inspect_246 : decode cX2_inspect 246 = .ok (.dup2, 1) := dk_92 (dk_at dksX2_inspect_10 6 rfl rfl)
theorem dX2_inspect_247 : decode cX2_inspect 247 = .ok (.iaload, 1) := dk_46 (dk_at dksX2_inspect_10 7 rfl rfl)
theorem dX2_inspect_248 : decode cX2_inspect 248 = .ok (.iload 5, 2) := dk_21 5 (dk_at dksX2_inspect_10 8 rfl rfl)
theorem dX2_inspect_250 : decode cX2_inspect 250 = .ok (.iadd, 1) := dk_96 (dk_at dksX2_inspect_10 10 rfl rfl)
theorem dX2_inspect_251 : decode cX2_inspect 251 = .ok (.iastore, 1) := dk_79 (dk_at dksX2_inspect_10 11 rfl rfl)
theorem dX2_inspect_252 : decode cX2_inspect 252 = .ok (.aload_n 0, 1) := dk_42 (dk_at dksX2_inspect_10 12 rfl rfl)
theorem dX2_inspect_253 : decode cX2_inspect 253 = .ok (.getfield 9, 3) := dk_180 0 9 (dk_at dksX2_inspect_10 13 rfl rfl)
theorem dX2_inspect_256 : decode cX2_inspect 256 = .ok (.iload_n 1, 1) := dk_27 (dk_at dksX2_inspect_10 16 rfl rfl)
theorem dX2_inspect_257 : decode cX2_inspect 257 = .ok (.iload_n 1, 1) := dk_27 (dk_at dksX2_inspect_10 17 rfl rfl)
theorem dX2_inspect_258 : decode cX2_inspect 258 = .ok (.iload_n 2, 1) := dk_28 (dk_at dksX2_inspect_10 18 rfl rfl)
theorem dX2_inspect_259 : decode cX2_inspect 259 = .ok (.invokestatic 226, 3) := dk_184 0 226 (dk_at dksX2_inspect_10 19 rfl rfl)
theorem dX2_inspect_262 : decode cX2_inspect 262 = .ok (.aload_n 0, 1) := dk_42 (dk_at dksX2_inspect_10 22 rfl rfl)
theorem dX2_inspect_263 : decode cX2_inspect 263 = .ok (.getfield 9, 3) := dk_180 0 9 (dk_at dksX2_inspect_11 0 rfl rfl)
theorem dX2_inspect_266 : decode cX2_inspect 266 = .ok (.bipush 90, 2) := dk_16 90 (dk_at dksX2_inspect_11 3 rfl rfl)
theorem dX2_inspect_268 : decode cX2_inspect 268 = .ok (.iaload, 1) := dk_46 (dk_at dksX2_inspect_11 5 rfl rfl)
theorem dX2_inspect_269 : decode cX2_inspect 269 = .ok (.iload 4, 2) := dk_21 4 (dk_at dksX2_inspect_11 6 rfl rfl)
theorem dX2_inspect_271 : decode cX2_inspect 271 = .ok (.invokestatic 368, 3) := dk_184 1 112 (dk_at dksX2_inspect_11 8 rfl rfl)
theorem dX2_inspect_274 : decode cX2_inspect 274 = .ok (.iastore, 1) := dk_79 (dk_at dksX2_inspect_11 11 rfl rfl)
theorem dX2_inspect_275 : decode cX2_inspect 275 = .ok (.iload 5, 2) := dk_21 5 (dk_at dksX2_inspect_11 12 rfl rfl)
theorem dX2_inspect_277 : decode cX2_inspect 277 = .ok (.ireturn, 1) := dk_172 (dk_at dksX2_inspect_11 14 rfl rfl)
abbrev cX2_danger : ByteArray := prog_20_method_141_code
def yX2_danger : MethodName := ⟨RX2, "danger", "(IZ)Z"⟩
def dkwX2_danger_2 : List UInt8 := [153, 0, 9, 4, 27, 120, 167, 0, 7, 4, 27, 120, 116, 96, 79, 29, 172]
abbrev dktX2_danger_2 : List UInt8 := dkwX2_danger_2 ++ []
def dkwX2_danger_1 : List UInt8 := [184, 0, 245, 62, 42, 180, 0, 9, 16, 97, 92, 46, 29, 28, 160, 0, 7, 3, 167, 0, 17, 28]
abbrev dktX2_danger_1 : List UInt8 := dkwX2_danger_1 ++ dktX2_danger_2
def dkwX2_danger_0 : List UInt8 := [42, 27, 182, 1, 91, 154, 0, 5, 3, 172, 42, 182, 1, 135, 42, 180, 0, 9, 16, 97, 46, 27]
abbrev dktX2_danger_0 : List UInt8 := dkwX2_danger_0 ++ dktX2_danger_1
theorem dksX2_danger_0 : cX2_danger.data.toList.drop 0 = dktX2_danger_0 := by decide +kernel
theorem dksX2_danger_1 : cX2_danger.data.toList.drop 22 = dktX2_danger_1 := dk_seg dksX2_danger_0 22 rfl rfl
theorem dksX2_danger_2 : cX2_danger.data.toList.drop 44 = dktX2_danger_2 := dk_seg dksX2_danger_1 22 rfl rfl
theorem dX2_danger_0 : decode cX2_danger 0 = .ok (.aload_n 0, 1) := dk_42 (dk_at dksX2_danger_0 0 rfl rfl)
theorem dX2_danger_1 : decode cX2_danger 1 = .ok (.iload_n 1, 1) := dk_27 (dk_at dksX2_danger_0 1 rfl rfl)
theorem dX2_danger_2 : decode cX2_danger 2 = .ok (.invokevirtual 347, 3) := dk_182 1 91 (dk_at dksX2_danger_0 2 rfl rfl)
theorem dX2_danger_5 : decode cX2_danger 5 = .ok (.ifCond .ne 5, 3) := dk_154 0 5 (dk_at dksX2_danger_0 5 rfl rfl)
theorem dX2_danger_8 : decode cX2_danger 8 = .ok (.iconst 0, 1) := dk_3 (dk_at dksX2_danger_0 8 rfl rfl)
theorem dX2_danger_9 : decode cX2_danger 9 = .ok (.ireturn, 1) := dk_172 (dk_at dksX2_danger_0 9 rfl rfl)
theorem dX2_danger_10 : decode cX2_danger 10 = .ok (.aload_n 0, 1) := dk_42 (dk_at dksX2_danger_0 10 rfl rfl)
theorem dX2_danger_11 : decode cX2_danger 11 = .ok (.invokevirtual 391, 3) := dk_182 1 135 (dk_at dksX2_danger_0 11 rfl rfl)
theorem dX2_danger_14 : decode cX2_danger 14 = .ok (.aload_n 0, 1) := dk_42 (dk_at dksX2_danger_0 14 rfl rfl)
theorem dX2_danger_15 : decode cX2_danger 15 = .ok (.getfield 9, 3) := dk_180 0 9 (dk_at dksX2_danger_0 15 rfl rfl)
theorem dX2_danger_18 : decode cX2_danger 18 = .ok (.bipush 97, 2) := dk_16 97 (dk_at dksX2_danger_0 18 rfl rfl)
theorem dX2_danger_20 : decode cX2_danger 20 = .ok (.iaload, 1) := dk_46 (dk_at dksX2_danger_0 20 rfl rfl)
theorem dX2_danger_21 : decode cX2_danger 21 = .ok (.iload_n 1, 1) := dk_27 (dk_at dksX2_danger_0 21 rfl rfl)
theorem dX2_danger_22 : decode cX2_danger 22 = .ok (.invokestatic 245, 3) := dk_184 0 245 (dk_at dksX2_danger_1 0 rfl rfl)
theorem dX2_danger_25 : decode cX2_danger 25 = .ok (.istore_n 3, 1) := dk_62 (dk_at dksX2_danger_1 3 rfl rfl)
theorem dX2_danger_26 : decode cX2_danger 26 = .ok (.aload_n 0, 1) := dk_42 (dk_at dksX2_danger_1 4 rfl rfl)
theorem dX2_danger_27 : decode cX2_danger 27 = .ok (.getfield 9, 3) := dk_180 0 9 (dk_at dksX2_danger_1 5 rfl rfl)
theorem dX2_danger_30 : decode cX2_danger 30 = .ok (.bipush 97, 2) := dk_16 97 (dk_at dksX2_danger_1 8 rfl rfl)
theorem dX2_danger_32 : decode cX2_danger 32 = .ok (.dup2, 1) := dk_92 (dk_at dksX2_danger_1 10 rfl rfl)
theorem dX2_danger_33 : decode cX2_danger 33 = .ok (.iaload, 1) := dk_46 (dk_at dksX2_danger_1 11 rfl rfl)
theorem dX2_danger_34 : decode cX2_danger 34 = .ok (.iload_n 3, 1) := dk_29 (dk_at dksX2_danger_1 12 rfl rfl)
theorem dX2_danger_35 : decode cX2_danger 35 = .ok (.iload_n 2, 1) := dk_28 (dk_at dksX2_danger_1 13 rfl rfl)
theorem dX2_danger_36 : decode cX2_danger 36 = .ok (.if_icmp .ne 7, 3) := dk_160 0 7 (dk_at dksX2_danger_1 14 rfl rfl)
theorem dX2_danger_39 : decode cX2_danger 39 = .ok (.iconst 0, 1) := dk_3 (dk_at dksX2_danger_1 17 rfl rfl)
theorem dX2_danger_40 : decode cX2_danger 40 = .ok (.goto 17, 3) := dk_167 0 17 (dk_at dksX2_danger_1 18 rfl rfl)
theorem dX2_danger_43 : decode cX2_danger 43 = .ok (.iload_n 2, 1) := dk_28 (dk_at dksX2_danger_1 21 rfl rfl)
theorem dX2_danger_44 : decode cX2_danger 44 = .ok (.ifCond .eq 9, 3) := dk_153 0 9 (dk_at dksX2_danger_2 0 rfl rfl)
theorem dX2_danger_47 : decode cX2_danger 47 = .ok (.iconst 1, 1) := dk_4 (dk_at dksX2_danger_2 3 rfl rfl)
theorem dX2_danger_48 : decode cX2_danger 48 = .ok (.iload_n 1, 1) := dk_27 (dk_at dksX2_danger_2 4 rfl rfl)
theorem dX2_danger_49 : decode cX2_danger 49 = .ok (.ishl, 1) := dk_120 (dk_at dksX2_danger_2 5 rfl rfl)
theorem dX2_danger_50 : decode cX2_danger 50 = .ok (.goto 7, 3) := dk_167 0 7 (dk_at dksX2_danger_2 6 rfl rfl)
theorem dX2_danger_53 : decode cX2_danger 53 = .ok (.iconst 1, 1) := dk_4 (dk_at dksX2_danger_2 9 rfl rfl)
theorem dX2_danger_54 : decode cX2_danger 54 = .ok (.iload_n 1, 1) := dk_27 (dk_at dksX2_danger_2 10 rfl rfl)
theorem dX2_danger_55 : decode cX2_danger 55 = .ok (.ishl, 1) := dk_120 (dk_at dksX2_danger_2 11 rfl rfl)
theorem dX2_danger_56 : decode cX2_danger 56 = .ok (.ineg, 1) := dk_116 (dk_at dksX2_danger_2 12 rfl rfl)
theorem dX2_danger_57 : decode cX2_danger 57 = .ok (.iadd, 1) := dk_96 (dk_at dksX2_danger_2 13 rfl rfl)
theorem dX2_danger_58 : decode cX2_danger 58 = .ok (.iastore, 1) := dk_79 (dk_at dksX2_danger_2 14 rfl rfl)
theorem dX2_danger_59 : decode cX2_danger 59 = .ok (.iload_n 3, 1) := dk_29 (dk_at dksX2_danger_2 15 rfl rfl)
theorem dX2_danger_60 : decode cX2_danger 60 = .ok (.ireturn, 1) := dk_172 (dk_at dksX2_danger_2 16 rfl rfl)
abbrev cX2_issue : ByteArray := prog_20_method_142_code
def yX2_issue : MethodName := ⟨RX2, "issue", "(I)I"⟩
def dkwX2_issue_6 : List UInt8 := [46, 28, 2, 130, 126, 184, 1, 28, 96, 79, 28, 172]
abbrev dktX2_issue_6 : List UInt8 := dkwX2_issue_6 ++ []
def dkwX2_issue_5 : List UInt8 := [180, 0, 9, 16, 95, 92, 46, 4, 96, 79, 42, 180, 0, 9, 16, 96, 92, 46, 42, 180, 0, 9, 16, 97]
abbrev dktX2_issue_5 : List UInt8 := dkwX2_issue_5 ++ dktX2_issue_6
def dkwX2_issue_4 : List UInt8 := [180, 0, 9, 29, 5, 96, 28, 79, 42, 180, 0, 9, 29, 6, 96, 42, 180, 0, 9, 16, 97, 46, 79, 42]
abbrev dktX2_issue_4 : List UInt8 := dkwX2_issue_4 ++ dktX2_issue_5
def dkwX2_issue_3 : List UInt8 := [180, 0, 9, 29, 42, 180, 0, 9, 16, 90, 46, 79, 42, 180, 0, 9, 29, 4, 96, 27, 79, 42]
abbrev dktX2_issue_3 : List UInt8 := dkwX2_issue_3 ++ dktX2_issue_4
def dkwX2_issue_2 : List UInt8 := [61, 132, 3, 1, 167, 255, 223, 16, 98, 7, 42, 180, 0, 9, 16, 95, 46, 16, 10, 112, 104, 96, 62, 42]
abbrev dktX2_issue_2 : List UInt8 := dkwX2_issue_2 ++ dktX2_issue_3
def dkwX2_issue_1 : List UInt8 := [16, 7, 46, 162, 0, 28, 28, 42, 27, 29, 182, 1, 88, 153, 0, 9, 4, 29, 120, 167, 0, 4, 3, 128]
abbrev dktX2_issue_1 : List UInt8 := dkwX2_issue_1 ++ dktX2_issue_2
def dkwX2_issue_0 : List UInt8 := [42, 27, 182, 1, 79, 154, 0, 5, 3, 172, 42, 182, 1, 135, 3, 61, 3, 62, 29, 42, 180, 0, 9]
abbrev dktX2_issue_0 : List UInt8 := dkwX2_issue_0 ++ dktX2_issue_1
theorem dksX2_issue_0 : cX2_issue.data.toList.drop 0 = dktX2_issue_0 := by decide +kernel
theorem dksX2_issue_1 : cX2_issue.data.toList.drop 23 = dktX2_issue_1 := dk_seg dksX2_issue_0 23 rfl rfl
theorem dksX2_issue_2 : cX2_issue.data.toList.drop 47 = dktX2_issue_2 := dk_seg dksX2_issue_1 24 rfl rfl
theorem dksX2_issue_3 : cX2_issue.data.toList.drop 71 = dktX2_issue_3 := dk_seg dksX2_issue_2 24 rfl rfl
theorem dksX2_issue_4 : cX2_issue.data.toList.drop 93 = dktX2_issue_4 := dk_seg dksX2_issue_3 22 rfl rfl
theorem dksX2_issue_5 : cX2_issue.data.toList.drop 117 = dktX2_issue_5 := dk_seg dksX2_issue_4 24 rfl rfl
theorem dksX2_issue_6 : cX2_issue.data.toList.drop 141 = dktX2_issue_6 := dk_seg dksX2_issue_5 24 rfl rfl
theorem dX2_issue_0 : decode cX2_issue 0 = .ok (.aload_n 0, 1) := dk_42 (dk_at dksX2_issue_0 0 rfl rfl)
theorem dX2_issue_1 : decode cX2_issue 1 = .ok (.iload_n 1, 1) := dk_27 (dk_at dksX2_issue_0 1 rfl rfl)
theorem dX2_issue_2 : decode cX2_issue 2 = .ok (.invokevirtual 335, 3) := dk_182 1 79 (dk_at dksX2_issue_0 2 rfl rfl)
theorem dX2_issue_5 : decode cX2_issue 5 = .ok (.ifCond .ne 5, 3) := dk_154 0 5 (dk_at dksX2_issue_0 5 rfl rfl)
theorem dX2_issue_8 : decode cX2_issue 8 = .ok (.iconst 0, 1) := dk_3 (dk_at dksX2_issue_0 8 rfl rfl)
theorem dX2_issue_9 : decode cX2_issue 9 = .ok (.ireturn, 1) := dk_172 (dk_at dksX2_issue_0 9 rfl rfl)
theorem dX2_issue_10 : decode cX2_issue 10 = .ok (.aload_n 0, 1) := dk_42 (dk_at dksX2_issue_0 10 rfl rfl)
theorem dX2_issue_11 : decode cX2_issue 11 = .ok (.invokevirtual 391, 3) := dk_182 1 135 (dk_at dksX2_issue_0 11 rfl rfl)
theorem dX2_issue_14 : decode cX2_issue 14 = .ok (.iconst 0, 1) := dk_3 (dk_at dksX2_issue_0 14 rfl rfl)
theorem dX2_issue_15 : decode cX2_issue 15 = .ok (.istore_n 2, 1) := dk_61 (dk_at dksX2_issue_0 15 rfl rfl)
theorem dX2_issue_16 : decode cX2_issue 16 = .ok (.iconst 0, 1) := dk_3 (dk_at dksX2_issue_0 16 rfl rfl)
theorem dX2_issue_17 : decode cX2_issue 17 = .ok (.istore_n 3, 1) := dk_62 (dk_at dksX2_issue_0 17 rfl rfl)
theorem dX2_issue_18 : decode cX2_issue 18 = .ok (.iload_n 3, 1) := dk_29 (dk_at dksX2_issue_0 18 rfl rfl)
theorem dX2_issue_19 : decode cX2_issue 19 = .ok (.aload_n 0, 1) := dk_42 (dk_at dksX2_issue_0 19 rfl rfl)
theorem dX2_issue_20 : decode cX2_issue 20 = .ok (.getfield 9, 3) := dk_180 0 9 (dk_at dksX2_issue_0 20 rfl rfl)
theorem dX2_issue_23 : decode cX2_issue 23 = .ok (.bipush 7, 2) := dk_16 7 (dk_at dksX2_issue_1 0 rfl rfl)
theorem dX2_issue_25 : decode cX2_issue 25 = .ok (.iaload, 1) := dk_46 (dk_at dksX2_issue_1 2 rfl rfl)
theorem dX2_issue_26 : decode cX2_issue 26 = .ok (.if_icmp .ge 28, 3) := dk_162 0 28 (dk_at dksX2_issue_1 3 rfl rfl)
theorem dX2_issue_29 : decode cX2_issue 29 = .ok (.iload_n 2, 1) := dk_28 (dk_at dksX2_issue_1 6 rfl rfl)
theorem dX2_issue_30 : decode cX2_issue 30 = .ok (.aload_n 0, 1) := dk_42 (dk_at dksX2_issue_1 7 rfl rfl)
theorem dX2_issue_31 : decode cX2_issue 31 = .ok (.iload_n 1, 1) := dk_27 (dk_at dksX2_issue_1 8 rfl rfl)
theorem dX2_issue_32 : decode cX2_issue 32 = .ok (.iload_n 3, 1) := dk_29 (dk_at dksX2_issue_1 9 rfl rfl)
theorem dX2_issue_33 : decode cX2_issue 33 = .ok (.invokevirtual 344, 3) := dk_182 1 88 (dk_at dksX2_issue_1 10 rfl rfl)
theorem dX2_issue_36 : decode cX2_issue 36 = .ok (.ifCond .eq 9, 3) := dk_153 0 9 (dk_at dksX2_issue_1 13 rfl rfl)
theorem dX2_issue_39 : decode cX2_issue 39 = .ok (.iconst 1, 1) := dk_4 (dk_at dksX2_issue_1 16 rfl rfl)
theorem dX2_issue_40 : decode cX2_issue 40 = .ok (.iload_n 3, 1) := dk_29 (dk_at dksX2_issue_1 17 rfl rfl)
theorem dX2_issue_41 : decode cX2_issue 41 = .ok (.ishl, 1) := dk_120 (dk_at dksX2_issue_1 18 rfl rfl)
theorem dX2_issue_42 : decode cX2_issue 42 = .ok (.goto 4, 3) := dk_167 0 4 (dk_at dksX2_issue_1 19 rfl rfl)
theorem dX2_issue_45 : decode cX2_issue 45 = .ok (.iconst 0, 1) := dk_3 (dk_at dksX2_issue_1 22 rfl rfl)
theorem dX2_issue_46 : decode cX2_issue 46 = .ok (.ior, 1) := dk_128 (dk_at dksX2_issue_1 23 rfl rfl)
theorem dX2_issue_47 : decode cX2_issue 47 = .ok (.istore_n 2, 1) := dk_61 (dk_at dksX2_issue_2 0 rfl rfl)
theorem dX2_issue_48 : decode cX2_issue 48 = .ok (.iinc 3 1, 3) := dk_132 3 1 (dk_at dksX2_issue_2 1 rfl rfl)
theorem dX2_issue_51 : decode cX2_issue 51 = .ok (.goto (-33), 3) := dk_167 255 223 (dk_at dksX2_issue_2 4 rfl rfl)
theorem dX2_issue_54 : decode cX2_issue 54 = .ok (.bipush 98, 2) := dk_16 98 (dk_at dksX2_issue_2 7 rfl rfl)
theorem dX2_issue_56 : decode cX2_issue 56 = .ok (.iconst 4, 1) := dk_7 (dk_at dksX2_issue_2 9 rfl rfl)
theorem dX2_issue_57 : decode cX2_issue 57 = .ok (.aload_n 0, 1) := dk_42 (dk_at dksX2_issue_2 10 rfl rfl)
theorem dX2_issue_58 : decode cX2_issue 58 = .ok (.getfield 9, 3) := dk_180 0 9 (dk_at dksX2_issue_2 11 rfl rfl)
theorem dX2_issue_61 : decode cX2_issue 61 = .ok (.bipush 95, 2) := dk_16 95 (dk_at dksX2_issue_2 14 rfl rfl)
theorem dX2_issue_63 : decode cX2_issue 63 = .ok (.iaload, 1) := dk_46 (dk_at dksX2_issue_2 16 rfl rfl)
theorem dX2_issue_64 : decode cX2_issue 64 = .ok (.bipush 10, 2) := dk_16 10 (dk_at dksX2_issue_2 17 rfl rfl)
theorem dX2_issue_66 : decode cX2_issue 66 = .ok (.irem, 1) := dk_112 (dk_at dksX2_issue_2 19 rfl rfl)
theorem dX2_issue_67 : decode cX2_issue 67 = .ok (.imul, 1) := dk_104 (dk_at dksX2_issue_2 20 rfl rfl)
theorem dX2_issue_68 : decode cX2_issue 68 = .ok (.iadd, 1) := dk_96 (dk_at dksX2_issue_2 21 rfl rfl)
theorem dX2_issue_69 : decode cX2_issue 69 = .ok (.istore_n 3, 1) := dk_62 (dk_at dksX2_issue_2 22 rfl rfl)
theorem dX2_issue_70 : decode cX2_issue 70 = .ok (.aload_n 0, 1) := dk_42 (dk_at dksX2_issue_2 23 rfl rfl)
theorem dX2_issue_71 : decode cX2_issue 71 = .ok (.getfield 9, 3) := dk_180 0 9 (dk_at dksX2_issue_3 0 rfl rfl)
theorem dX2_issue_74 : decode cX2_issue 74 = .ok (.iload_n 3, 1) := dk_29 (dk_at dksX2_issue_3 3 rfl rfl)
theorem dX2_issue_75 : decode cX2_issue 75 = .ok (.aload_n 0, 1) := dk_42 (dk_at dksX2_issue_3 4 rfl rfl)
theorem dX2_issue_76 : decode cX2_issue 76 = .ok (.getfield 9, 3) := dk_180 0 9 (dk_at dksX2_issue_3 5 rfl rfl)
theorem dX2_issue_79 : decode cX2_issue 79 = .ok (.bipush 90, 2) := dk_16 90 (dk_at dksX2_issue_3 8 rfl rfl)
theorem dX2_issue_81 : decode cX2_issue 81 = .ok (.iaload, 1) := dk_46 (dk_at dksX2_issue_3 10 rfl rfl)
theorem dX2_issue_82 : decode cX2_issue 82 = .ok (.iastore, 1) := dk_79 (dk_at dksX2_issue_3 11 rfl rfl)
theorem dX2_issue_83 : decode cX2_issue 83 = .ok (.aload_n 0, 1) := dk_42 (dk_at dksX2_issue_3 12 rfl rfl)
theorem dX2_issue_84 : decode cX2_issue 84 = .ok (.getfield 9, 3) := dk_180 0 9 (dk_at dksX2_issue_3 13 rfl rfl)
theorem dX2_issue_87 : decode cX2_issue 87 = .ok (.iload_n 3, 1) := dk_29 (dk_at dksX2_issue_3 16 rfl rfl)
theorem dX2_issue_88 : decode cX2_issue 88 = .ok (.iconst 1, 1) := dk_4 (dk_at dksX2_issue_3 17 rfl rfl)
theorem dX2_issue_89 : decode cX2_issue 89 = .ok (.iadd, 1) := dk_96 (dk_at dksX2_issue_3 18 rfl rfl)
theorem dX2_issue_90 : decode cX2_issue 90 = .ok (.iload_n 1, 1) := dk_27 (dk_at dksX2_issue_3 19 rfl rfl)
theorem dX2_issue_91 : decode cX2_issue 91 = .ok (.iastore, 1) := dk_79 (dk_at dksX2_issue_3 20 rfl rfl)
theorem dX2_issue_92 : decode cX2_issue 92 = .ok (.aload_n 0, 1) := dk_42 (dk_at dksX2_issue_3 21 rfl rfl)
theorem dX2_issue_93 : decode cX2_issue 93 = .ok (.getfield 9, 3) := dk_180 0 9 (dk_at dksX2_issue_4 0 rfl rfl)
theorem dX2_issue_96 : decode cX2_issue 96 = .ok (.iload_n 3, 1) := dk_29 (dk_at dksX2_issue_4 3 rfl rfl)
theorem dX2_issue_97 : decode cX2_issue 97 = .ok (.iconst 2, 1) := dk_5 (dk_at dksX2_issue_4 4 rfl rfl)
theorem dX2_issue_98 : decode cX2_issue 98 = .ok (.iadd, 1) := dk_96 (dk_at dksX2_issue_4 5 rfl rfl)
theorem dX2_issue_99 : decode cX2_issue 99 = .ok (.iload_n 2, 1) := dk_28 (dk_at dksX2_issue_4 6 rfl rfl)
theorem dX2_issue_100 : decode cX2_issue 100 = .ok (.iastore, 1) := dk_79 (dk_at dksX2_issue_4 7 rfl rfl)
theorem dX2_issue_101 : decode cX2_issue 101 = .ok (.aload_n 0, 1) := dk_42 (dk_at dksX2_issue_4 8 rfl rfl)
theorem dX2_issue_102 : decode cX2_issue 102 = .ok (.getfield 9, 3) := dk_180 0 9 (dk_at dksX2_issue_4 9 rfl rfl)
theorem dX2_issue_105 : decode cX2_issue 105 = .ok (.iload_n 3, 1) := dk_29 (dk_at dksX2_issue_4 12 rfl rfl)
theorem dX2_issue_106 : decode cX2_issue 106 = .ok (.iconst 3, 1) := dk_6 (dk_at dksX2_issue_4 13 rfl rfl)
theorem dX2_issue_107 : decode cX2_issue 107 = .ok (.iadd, 1) := dk_96 (dk_at dksX2_issue_4 14 rfl rfl)
theorem dX2_issue_108 : decode cX2_issue 108 = .ok (.aload_n 0, 1) := dk_42 (dk_at dksX2_issue_4 15 rfl rfl)
theorem dX2_issue_109 : decode cX2_issue 109 = .ok (.getfield 9, 3) := dk_180 0 9 (dk_at dksX2_issue_4 16 rfl rfl)
theorem dX2_issue_112 : decode cX2_issue 112 = .ok (.bipush 97, 2) := dk_16 97 (dk_at dksX2_issue_4 19 rfl rfl)
theorem dX2_issue_114 : decode cX2_issue 114 = .ok (.iaload, 1) := dk_46 (dk_at dksX2_issue_4 21 rfl rfl)
theorem dX2_issue_115 : decode cX2_issue 115 = .ok (.iastore, 1) := dk_79 (dk_at dksX2_issue_4 22 rfl rfl)
theorem dX2_issue_116 : decode cX2_issue 116 = .ok (.aload_n 0, 1) := dk_42 (dk_at dksX2_issue_4 23 rfl rfl)
theorem dX2_issue_117 : decode cX2_issue 117 = .ok (.getfield 9, 3) := dk_180 0 9 (dk_at dksX2_issue_5 0 rfl rfl)
theorem dX2_issue_120 : decode cX2_issue 120 = .ok (.bipush 95, 2) := dk_16 95 (dk_at dksX2_issue_5 3 rfl rfl)
theorem dX2_issue_122 : decode cX2_issue 122 = .ok (.dup2, 1) := dk_92 (dk_at dksX2_issue_5 5 rfl rfl)
theorem dX2_issue_123 : decode cX2_issue 123 = .ok (.iaload, 1) := dk_46 (dk_at dksX2_issue_5 6 rfl rfl)
theorem dX2_issue_124 : decode cX2_issue 124 = .ok (.iconst 1, 1) := dk_4 (dk_at dksX2_issue_5 7 rfl rfl)
theorem dX2_issue_125 : decode cX2_issue 125 = .ok (.iadd, 1) := dk_96 (dk_at dksX2_issue_5 8 rfl rfl)
theorem dX2_issue_126 : decode cX2_issue 126 = .ok (.iastore, 1) := dk_79 (dk_at dksX2_issue_5 9 rfl rfl)
theorem dX2_issue_127 : decode cX2_issue 127 = .ok (.aload_n 0, 1) := dk_42 (dk_at dksX2_issue_5 10 rfl rfl)
theorem dX2_issue_128 : decode cX2_issue 128 = .ok (.getfield 9, 3) := dk_180 0 9 (dk_at dksX2_issue_5 11 rfl rfl)
theorem dX2_issue_131 : decode cX2_issue 131 = .ok (.bipush 96, 2) := dk_16 96 (dk_at dksX2_issue_5 14 rfl rfl)
theorem dX2_issue_133 : decode cX2_issue 133 = .ok (.dup2, 1) := dk_92 (dk_at dksX2_issue_5 16 rfl rfl)
theorem dX2_issue_134 : decode cX2_issue 134 = .ok (.iaload, 1) := dk_46 (dk_at dksX2_issue_5 17 rfl rfl)
theorem dX2_issue_135 : decode cX2_issue 135 = .ok (.aload_n 0, 1) := dk_42 (dk_at dksX2_issue_5 18 rfl rfl)
theorem dX2_issue_136 : decode cX2_issue 136 = .ok (.getfield 9, 3) := dk_180 0 9 (dk_at dksX2_issue_5 19 rfl rfl)
theorem dX2_issue_139 : decode cX2_issue 139 = .ok (.bipush 97, 2) := dk_16 97 (dk_at dksX2_issue_5 22 rfl rfl)
theorem dX2_issue_141 : decode cX2_issue 141 = .ok (.iaload, 1) := dk_46 (dk_at dksX2_issue_6 0 rfl rfl)
theorem dX2_issue_142 : decode cX2_issue 142 = .ok (.iload_n 2, 1) := dk_28 (dk_at dksX2_issue_6 1 rfl rfl)
theorem dX2_issue_143 : decode cX2_issue 143 = .ok (.iconst (-1), 1) := dk_2 (dk_at dksX2_issue_6 2 rfl rfl)
theorem dX2_issue_144 : decode cX2_issue 144 = .ok (.ixor, 1) := dk_130 (dk_at dksX2_issue_6 3 rfl rfl)
theorem dX2_issue_145 : decode cX2_issue 145 = .ok (.iand, 1) := dk_126 (dk_at dksX2_issue_6 4 rfl rfl)
theorem dX2_issue_146 : decode cX2_issue 146 = .ok (.invokestatic 284, 3) := dk_184 1 28 (dk_at dksX2_issue_6 5 rfl rfl)
theorem dX2_issue_149 : decode cX2_issue 149 = .ok (.iadd, 1) := dk_96 (dk_at dksX2_issue_6 8 rfl rfl)
theorem dX2_issue_150 : decode cX2_issue 150 = .ok (.iastore, 1) := dk_79 (dk_at dksX2_issue_6 9 rfl rfl)
theorem dX2_issue_151 : decode cX2_issue 151 = .ok (.iload_n 2, 1) := dk_28 (dk_at dksX2_issue_6 10 rfl rfl)
theorem dX2_issue_152 : decode cX2_issue 152 = .ok (.ireturn, 1) := dk_172 (dk_at dksX2_issue_6 11 rfl rfl)
abbrev cX2_give : ByteArray := prog_20_method_143_code
def yX2_give : MethodName := ⟨RX2, "give", "(II)I"⟩
def dkwX2_give_4 : List UInt8 := [17, 0, 148, 27, 96, 46, 172]
abbrev dktX2_give_4 : List UInt8 := dkwX2_give_4 ++ []
def dkwX2_give_3 : List UInt8 := [3, 172, 42, 182, 1, 135, 42, 180, 0, 9, 17, 0, 148, 27, 96, 92, 46, 28, 96, 79, 42, 180, 0, 9]
abbrev dktX2_give_3 : List UInt8 := dkwX2_give_3 ++ dktX2_give_4
def dkwX2_give_2 : List UInt8 := [17, 0, 148, 27, 96, 46, 28, 96, 16, 99, 163, 0, 7, 4, 167, 0, 4, 3, 182, 0, 47, 154, 0, 5]
abbrev dktX2_give_2 : List UInt8 := dkwX2_give_2 ++ dktX2_give_3
def dkwX2_give_1 : List UInt8 := [180, 0, 184, 29, 29, 153, 0, 34, 28, 4, 16, 99, 184, 0, 64, 153, 0, 24, 42, 180, 0, 9]
abbrev dktX2_give_1 : List UInt8 := dkwX2_give_1 ++ dktX2_give_2
def dkwX2_give_0 : List UInt8 := [42, 180, 0, 184, 153, 0, 15, 42, 27, 182, 1, 19, 153, 0, 7, 4, 167, 0, 4, 3, 62, 42, 42]
abbrev dktX2_give_0 : List UInt8 := dkwX2_give_0 ++ dktX2_give_1
theorem dksX2_give_0 : cX2_give.data.toList.drop 0 = dktX2_give_0 := by decide +kernel
theorem dksX2_give_1 : cX2_give.data.toList.drop 23 = dktX2_give_1 := dk_seg dksX2_give_0 23 rfl rfl
theorem dksX2_give_2 : cX2_give.data.toList.drop 45 = dktX2_give_2 := dk_seg dksX2_give_1 22 rfl rfl
theorem dksX2_give_3 : cX2_give.data.toList.drop 69 = dktX2_give_3 := dk_seg dksX2_give_2 24 rfl rfl
theorem dksX2_give_4 : cX2_give.data.toList.drop 93 = dktX2_give_4 := dk_seg dksX2_give_3 24 rfl rfl
theorem dX2_give_0 : decode cX2_give 0 = .ok (.aload_n 0, 1) := dk_42 (dk_at dksX2_give_0 0 rfl rfl)
theorem dX2_give_1 : decode cX2_give 1 = .ok (.getfield 184, 3) := dk_180 0 184 (dk_at dksX2_give_0 1 rfl rfl)
theorem dX2_give_4 : decode cX2_give 4 = .ok (.ifCond .eq 15, 3) := dk_153 0 15 (dk_at dksX2_give_0 4 rfl rfl)
theorem dX2_give_7 : decode cX2_give 7 = .ok (.aload_n 0, 1) := dk_42 (dk_at dksX2_give_0 7 rfl rfl)
theorem dX2_give_8 : decode cX2_give 8 = .ok (.iload_n 1, 1) := dk_27 (dk_at dksX2_give_0 8 rfl rfl)
theorem dX2_give_9 : decode cX2_give 9 = .ok (.invokevirtual 275, 3) := dk_182 1 19 (dk_at dksX2_give_0 9 rfl rfl)
theorem dX2_give_12 : decode cX2_give 12 = .ok (.ifCond .eq 7, 3) := dk_153 0 7 (dk_at dksX2_give_0 12 rfl rfl)
theorem dX2_give_15 : decode cX2_give 15 = .ok (.iconst 1, 1) := dk_4 (dk_at dksX2_give_0 15 rfl rfl)
theorem dX2_give_16 : decode cX2_give 16 = .ok (.goto 4, 3) := dk_167 0 4 (dk_at dksX2_give_0 16 rfl rfl)
theorem dX2_give_19 : decode cX2_give 19 = .ok (.iconst 0, 1) := dk_3 (dk_at dksX2_give_0 19 rfl rfl)
theorem dX2_give_20 : decode cX2_give 20 = .ok (.istore_n 3, 1) := dk_62 (dk_at dksX2_give_0 20 rfl rfl)
theorem dX2_give_21 : decode cX2_give 21 = .ok (.aload_n 0, 1) := dk_42 (dk_at dksX2_give_0 21 rfl rfl)
theorem dX2_give_22 : decode cX2_give 22 = .ok (.aload_n 0, 1) := dk_42 (dk_at dksX2_give_0 22 rfl rfl)
theorem dX2_give_23 : decode cX2_give 23 = .ok (.getfield 184, 3) := dk_180 0 184 (dk_at dksX2_give_1 0 rfl rfl)
theorem dX2_give_26 : decode cX2_give 26 = .ok (.iload_n 3, 1) := dk_29 (dk_at dksX2_give_1 3 rfl rfl)
theorem dX2_give_27 : decode cX2_give 27 = .ok (.iload_n 3, 1) := dk_29 (dk_at dksX2_give_1 4 rfl rfl)
theorem dX2_give_28 : decode cX2_give 28 = .ok (.ifCond .eq 34, 3) := dk_153 0 34 (dk_at dksX2_give_1 5 rfl rfl)
theorem dX2_give_31 : decode cX2_give 31 = .ok (.iload_n 2, 1) := dk_28 (dk_at dksX2_give_1 8 rfl rfl)
theorem dX2_give_32 : decode cX2_give 32 = .ok (.iconst 1, 1) := dk_4 (dk_at dksX2_give_1 9 rfl rfl)
theorem dX2_give_33 : decode cX2_give 33 = .ok (.bipush 99, 2) := dk_16 99 (dk_at dksX2_give_1 10 rfl rfl)
theorem dX2_give_35 : decode cX2_give 35 = .ok (.invokestatic 64, 3) := dk_184 0 64 (dk_at dksX2_give_1 12 rfl rfl)
theorem dX2_give_38 : decode cX2_give 38 = .ok (.ifCond .eq 24, 3) := dk_153 0 24 (dk_at dksX2_give_1 15 rfl rfl)
theorem dX2_give_41 : decode cX2_give 41 = .ok (.aload_n 0, 1) := dk_42 (dk_at dksX2_give_1 18 rfl rfl)
theorem dX2_give_42 : decode cX2_give 42 = .ok (.getfield 9, 3) := dk_180 0 9 (dk_at dksX2_give_1 19 rfl rfl)
theorem dX2_give_45 : decode cX2_give 45 = .ok (.sipush 148, 3) := dk_17 0 148 (dk_at dksX2_give_2 0 rfl rfl)
theorem dX2_give_48 : decode cX2_give 48 = .ok (.iload_n 1, 1) := dk_27 (dk_at dksX2_give_2 3 rfl rfl)
theorem dX2_give_49 : decode cX2_give 49 = .ok (.iadd, 1) := dk_96 (dk_at dksX2_give_2 4 rfl rfl)
theorem dX2_give_50 : decode cX2_give 50 = .ok (.iaload, 1) := dk_46 (dk_at dksX2_give_2 5 rfl rfl)
theorem dX2_give_51 : decode cX2_give 51 = .ok (.iload_n 2, 1) := dk_28 (dk_at dksX2_give_2 6 rfl rfl)
theorem dX2_give_52 : decode cX2_give 52 = .ok (.iadd, 1) := dk_96 (dk_at dksX2_give_2 7 rfl rfl)
theorem dX2_give_53 : decode cX2_give 53 = .ok (.bipush 99, 2) := dk_16 99 (dk_at dksX2_give_2 8 rfl rfl)
theorem dX2_give_55 : decode cX2_give 55 = .ok (.if_icmp .gt 7, 3) := dk_163 0 7 (dk_at dksX2_give_2 10 rfl rfl)
theorem dX2_give_58 : decode cX2_give 58 = .ok (.iconst 1, 1) := dk_4 (dk_at dksX2_give_2 13 rfl rfl)
theorem dX2_give_59 : decode cX2_give 59 = .ok (.goto 4, 3) := dk_167 0 4 (dk_at dksX2_give_2 14 rfl rfl)
theorem dX2_give_62 : decode cX2_give 62 = .ok (.iconst 0, 1) := dk_3 (dk_at dksX2_give_2 17 rfl rfl)
theorem dX2_give_63 : decode cX2_give 63 = .ok (.invokevirtual 47, 3) := dk_182 0 47 (dk_at dksX2_give_2 18 rfl rfl)
theorem dX2_give_66 : decode cX2_give 66 = .ok (.ifCond .ne 5, 3) := dk_154 0 5 (dk_at dksX2_give_2 21 rfl rfl)
theorem dX2_give_69 : decode cX2_give 69 = .ok (.iconst 0, 1) := dk_3 (dk_at dksX2_give_3 0 rfl rfl)
theorem dX2_give_70 : decode cX2_give 70 = .ok (.ireturn, 1) := dk_172 (dk_at dksX2_give_3 1 rfl rfl)
theorem dX2_give_71 : decode cX2_give 71 = .ok (.aload_n 0, 1) := dk_42 (dk_at dksX2_give_3 2 rfl rfl)
theorem dX2_give_72 : decode cX2_give 72 = .ok (.invokevirtual 391, 3) := dk_182 1 135 (dk_at dksX2_give_3 3 rfl rfl)
theorem dX2_give_75 : decode cX2_give 75 = .ok (.aload_n 0, 1) := dk_42 (dk_at dksX2_give_3 6 rfl rfl)
theorem dX2_give_76 : decode cX2_give 76 = .ok (.getfield 9, 3) := dk_180 0 9 (dk_at dksX2_give_3 7 rfl rfl)
theorem dX2_give_79 : decode cX2_give 79 = .ok (.sipush 148, 3) := dk_17 0 148 (dk_at dksX2_give_3 10 rfl rfl)
theorem dX2_give_82 : decode cX2_give 82 = .ok (.iload_n 1, 1) := dk_27 (dk_at dksX2_give_3 13 rfl rfl)
theorem dX2_give_83 : decode cX2_give 83 = .ok (.iadd, 1) := dk_96 (dk_at dksX2_give_3 14 rfl rfl)
theorem dX2_give_84 : decode cX2_give 84 = .ok (.dup2, 1) := dk_92 (dk_at dksX2_give_3 15 rfl rfl)
theorem dX2_give_85 : decode cX2_give 85 = .ok (.iaload, 1) := dk_46 (dk_at dksX2_give_3 16 rfl rfl)
theorem dX2_give_86 : decode cX2_give 86 = .ok (.iload_n 2, 1) := dk_28 (dk_at dksX2_give_3 17 rfl rfl)
theorem dX2_give_87 : decode cX2_give 87 = .ok (.iadd, 1) := dk_96 (dk_at dksX2_give_3 18 rfl rfl)
theorem dX2_give_88 : decode cX2_give 88 = .ok (.iastore, 1) := dk_79 (dk_at dksX2_give_3 19 rfl rfl)
theorem dX2_give_89 : decode cX2_give 89 = .ok (.aload_n 0, 1) := dk_42 (dk_at dksX2_give_3 20 rfl rfl)
theorem dX2_give_90 : decode cX2_give 90 = .ok (.getfield 9, 3) := dk_180 0 9 (dk_at dksX2_give_3 21 rfl rfl)
theorem dX2_give_93 : decode cX2_give 93 = .ok (.sipush 148, 3) := dk_17 0 148 (dk_at dksX2_give_4 0 rfl rfl)
theorem dX2_give_96 : decode cX2_give 96 = .ok (.iload_n 1, 1) := dk_27 (dk_at dksX2_give_4 3 rfl rfl)
theorem dX2_give_97 : decode cX2_give 97 = .ok (.iadd, 1) := dk_96 (dk_at dksX2_give_4 4 rfl rfl)
theorem dX2_give_98 : decode cX2_give 98 = .ok (.iaload, 1) := dk_46 (dk_at dksX2_give_4 5 rfl rfl)
theorem dX2_give_99 : decode cX2_give 99 = .ok (.ireturn, 1) := dk_172 (dk_at dksX2_give_4 6 rfl rfl)
abbrev cX2_move : ByteArray := prog_20_method_144_code
def yX2_move : MethodName := ⟨RX2, "move", "(III)I"⟩
def dkwX2_move_3 : List UInt8 := [96, 54, 5, 42, 180, 0, 9, 21, 4, 28, 79, 42, 180, 0, 9, 21, 4, 4, 96, 29, 79, 21, 5, 172]
abbrev dktX2_move_3 : List UInt8 := dkwX2_move_3 ++ []
def dkwX2_move_2 : List UInt8 := [184, 0, 210, 54, 4, 16, 100, 42, 180, 0, 9, 21, 4, 46, 104, 42, 180, 0, 9, 21, 4, 4, 96, 46]
abbrev dktX2_move_2 : List UInt8 := dkwX2_move_2 ++ dktX2_move_3
def dkwX2_move_1 : List UInt8 := [184, 0, 64, 153, 0, 7, 4, 167, 0, 4, 3, 182, 0, 47, 154, 0, 5, 3, 172, 42, 182, 1, 135, 27]
abbrev dktX2_move_1 : List UInt8 := dkwX2_move_1 ++ dktX2_move_2
def dkwX2_move_0 : List UInt8 := [42, 42, 180, 0, 184, 42, 27, 182, 1, 19, 28, 3, 16, 99, 184, 0, 64, 153, 0, 17, 29, 3, 16, 99]
abbrev dktX2_move_0 : List UInt8 := dkwX2_move_0 ++ dktX2_move_1
theorem dksX2_move_0 : cX2_move.data.toList.drop 0 = dktX2_move_0 := by decide +kernel
theorem dksX2_move_1 : cX2_move.data.toList.drop 24 = dktX2_move_1 := dk_seg dksX2_move_0 24 rfl rfl
theorem dksX2_move_2 : cX2_move.data.toList.drop 48 = dktX2_move_2 := dk_seg dksX2_move_1 24 rfl rfl
theorem dksX2_move_3 : cX2_move.data.toList.drop 72 = dktX2_move_3 := dk_seg dksX2_move_2 24 rfl rfl
theorem dX2_move_0 : decode cX2_move 0 = .ok (.aload_n 0, 1) := dk_42 (dk_at dksX2_move_0 0 rfl rfl)
theorem dX2_move_1 : decode cX2_move 1 = .ok (.aload_n 0, 1) := dk_42 (dk_at dksX2_move_0 1 rfl rfl)
theorem dX2_move_2 : decode cX2_move 2 = .ok (.getfield 184, 3) := dk_180 0 184 (dk_at dksX2_move_0 2 rfl rfl)
theorem dX2_move_5 : decode cX2_move 5 = .ok (.aload_n 0, 1) := dk_42 (dk_at dksX2_move_0 5 rfl rfl)
theorem dX2_move_6 : decode cX2_move 6 = .ok (.iload_n 1, 1) := dk_27 (dk_at dksX2_move_0 6 rfl rfl)
theorem dX2_move_7 : decode cX2_move 7 = .ok (.invokevirtual 275, 3) := dk_182 1 19 (dk_at dksX2_move_0 7 rfl rfl)
theorem dX2_move_10 : decode cX2_move 10 = .ok (.iload_n 2, 1) := dk_28 (dk_at dksX2_move_0 10 rfl rfl)
theorem dX2_move_11 : decode cX2_move 11 = .ok (.iconst 0, 1) := dk_3 (dk_at dksX2_move_0 11 rfl rfl)
theorem dX2_move_12 : decode cX2_move 12 = .ok (.bipush 99, 2) := dk_16 99 (dk_at dksX2_move_0 12 rfl rfl)
theorem dX2_move_14 : decode cX2_move 14 = .ok (.invokestatic 64, 3) := dk_184 0 64 (dk_at dksX2_move_0 14 rfl rfl)
theorem dX2_move_17 : decode cX2_move 17 = .ok (.ifCond .eq 17, 3) := dk_153 0 17 (dk_at dksX2_move_0 17 rfl rfl)
theorem dX2_move_20 : decode cX2_move 20 = .ok (.iload_n 3, 1) := dk_29 (dk_at dksX2_move_0 20 rfl rfl)
theorem dX2_move_21 : decode cX2_move 21 = .ok (.iconst 0, 1) := dk_3 (dk_at dksX2_move_0 21 rfl rfl)
theorem dX2_move_22 : decode cX2_move 22 = .ok (.bipush 99, 2) := dk_16 99 (dk_at dksX2_move_0 22 rfl rfl)
theorem dX2_move_24 : decode cX2_move 24 = .ok (.invokestatic 64, 3) := dk_184 0 64 (dk_at dksX2_move_1 0 rfl rfl)
theorem dX2_move_27 : decode cX2_move 27 = .ok (.ifCond .eq 7, 3) := dk_153 0 7 (dk_at dksX2_move_1 3 rfl rfl)
theorem dX2_move_30 : decode cX2_move 30 = .ok (.iconst 1, 1) := dk_4 (dk_at dksX2_move_1 6 rfl rfl)
theorem dX2_move_31 : decode cX2_move 31 = .ok (.goto 4, 3) := dk_167 0 4 (dk_at dksX2_move_1 7 rfl rfl)
theorem dX2_move_34 : decode cX2_move 34 = .ok (.iconst 0, 1) := dk_3 (dk_at dksX2_move_1 10 rfl rfl)
theorem dX2_move_35 : decode cX2_move 35 = .ok (.invokevirtual 47, 3) := dk_182 0 47 (dk_at dksX2_move_1 11 rfl rfl)
theorem dX2_move_38 : decode cX2_move 38 = .ok (.ifCond .ne 5, 3) := dk_154 0 5 (dk_at dksX2_move_1 14 rfl rfl)
theorem dX2_move_41 : decode cX2_move 41 = .ok (.iconst 0, 1) := dk_3 (dk_at dksX2_move_1 17 rfl rfl)
theorem dX2_move_42 : decode cX2_move 42 = .ok (.ireturn, 1) := dk_172 (dk_at dksX2_move_1 18 rfl rfl)
theorem dX2_move_43 : decode cX2_move 43 = .ok (.aload_n 0, 1) := dk_42 (dk_at dksX2_move_1 19 rfl rfl)
theorem dX2_move_44 : decode cX2_move 44 = .ok (.invokevirtual 391, 3) := dk_182 1 135 (dk_at dksX2_move_1 20 rfl rfl)
theorem dX2_move_47 : decode cX2_move 47 = .ok (.iload_n 1, 1) := dk_27 (dk_at dksX2_move_1 23 rfl rfl)
theorem dX2_move_48 : decode cX2_move 48 = .ok (.invokestatic 210, 3) := dk_184 0 210 (dk_at dksX2_move_2 0 rfl rfl)
theorem dX2_move_51 : decode cX2_move 51 = .ok (.istore 4, 2) := dk_54 4 (dk_at dksX2_move_2 3 rfl rfl)
theorem dX2_move_53 : decode cX2_move 53 = .ok (.bipush 100, 2) := dk_16 100 (dk_at dksX2_move_2 5 rfl rfl)
theorem dX2_move_55 : decode cX2_move 55 = .ok (.aload_n 0, 1) := dk_42 (dk_at dksX2_move_2 7 rfl rfl)
theorem dX2_move_56 : decode cX2_move 56 = .ok (.getfield 9, 3) := dk_180 0 9 (dk_at dksX2_move_2 8 rfl rfl)
theorem dX2_move_59 : decode cX2_move 59 = .ok (.iload 4, 2) := dk_21 4 (dk_at dksX2_move_2 11 rfl rfl)
theorem dX2_move_61 : decode cX2_move 61 = .ok (.iaload, 1) := dk_46 (dk_at dksX2_move_2 13 rfl rfl)
theorem dX2_move_62 : decode cX2_move 62 = .ok (.imul, 1) := dk_104 (dk_at dksX2_move_2 14 rfl rfl)
theorem dX2_move_63 : decode cX2_move 63 = .ok (.aload_n 0, 1) := dk_42 (dk_at dksX2_move_2 15 rfl rfl)
theorem dX2_move_64 : decode cX2_move 64 = .ok (.getfield 9, 3) := dk_180 0 9 (dk_at dksX2_move_2 16 rfl rfl)
theorem dX2_move_67 : decode cX2_move 67 = .ok (.iload 4, 2) := dk_21 4 (dk_at dksX2_move_2 19 rfl rfl)
theorem dX2_move_69 : decode cX2_move 69 = .ok (.iconst 1, 1) := dk_4 (dk_at dksX2_move_2 21 rfl rfl)
theorem dX2_move_70 : decode cX2_move 70 = .ok (.iadd, 1) := dk_96 (dk_at dksX2_move_2 22 rfl rfl)
theorem dX2_move_71 : decode cX2_move 71 = .ok (.iaload, 1) := dk_46 (dk_at dksX2_move_2 23 rfl rfl)
theorem dX2_move_72 : decode cX2_move 72 = .ok (.iadd, 1) := dk_96 (dk_at dksX2_move_3 0 rfl rfl)
theorem dX2_move_73 : decode cX2_move 73 = .ok (.istore 5, 2) := dk_54 5 (dk_at dksX2_move_3 1 rfl rfl)
theorem dX2_move_75 : decode cX2_move 75 = .ok (.aload_n 0, 1) := dk_42 (dk_at dksX2_move_3 3 rfl rfl)
theorem dX2_move_76 : decode cX2_move 76 = .ok (.getfield 9, 3) := dk_180 0 9 (dk_at dksX2_move_3 4 rfl rfl)
theorem dX2_move_79 : decode cX2_move 79 = .ok (.iload 4, 2) := dk_21 4 (dk_at dksX2_move_3 7 rfl rfl)
theorem dX2_move_81 : decode cX2_move 81 = .ok (.iload_n 2, 1) := dk_28 (dk_at dksX2_move_3 9 rfl rfl)
theorem dX2_move_82 : decode cX2_move 82 = .ok (.iastore, 1) := dk_79 (dk_at dksX2_move_3 10 rfl rfl)
theorem dX2_move_83 : decode cX2_move 83 = .ok (.aload_n 0, 1) := dk_42 (dk_at dksX2_move_3 11 rfl rfl)
theorem dX2_move_84 : decode cX2_move 84 = .ok (.getfield 9, 3) := dk_180 0 9 (dk_at dksX2_move_3 12 rfl rfl)
theorem dX2_move_87 : decode cX2_move 87 = .ok (.iload 4, 2) := dk_21 4 (dk_at dksX2_move_3 15 rfl rfl)
theorem dX2_move_89 : decode cX2_move 89 = .ok (.iconst 1, 1) := dk_4 (dk_at dksX2_move_3 17 rfl rfl)
theorem dX2_move_90 : decode cX2_move 90 = .ok (.iadd, 1) := dk_96 (dk_at dksX2_move_3 18 rfl rfl)
theorem dX2_move_91 : decode cX2_move 91 = .ok (.iload_n 3, 1) := dk_29 (dk_at dksX2_move_3 19 rfl rfl)
theorem dX2_move_92 : decode cX2_move 92 = .ok (.iastore, 1) := dk_79 (dk_at dksX2_move_3 20 rfl rfl)
theorem dX2_move_93 : decode cX2_move 93 = .ok (.iload 5, 2) := dk_21 5 (dk_at dksX2_move_3 21 rfl rfl)
theorem dX2_move_95 : decode cX2_move 95 = .ok (.ireturn, 1) := dk_172 (dk_at dksX2_move_3 23 rfl rfl)
abbrev cX2_trust : ByteArray := prog_20_method_145_code
def yX2_trust : MethodName := ⟨RX2, "trust", "(II)I"⟩
def dkwX2_trust_3 : List UInt8 := [46, 172]
abbrev dktX2_trust_3 : List UInt8 := dkwX2_trust_3 ++ []
def dkwX2_trust_2 : List UInt8 := [17, 0, 158, 27, 96, 46, 28, 96, 184, 1, 7, 184, 0, 199, 79, 42, 180, 0, 9, 17, 0, 158, 27, 96]
abbrev dktX2_trust_2 : List UInt8 := dkwX2_trust_2 ++ dktX2_trust_3
def dkwX2_trust_1 : List UInt8 := [3, 172, 42, 182, 1, 135, 42, 180, 0, 9, 17, 0, 158, 27, 96, 3, 16, 100, 42, 180, 0, 9]
abbrev dktX2_trust_1 : List UInt8 := dkwX2_trust_1 ++ dktX2_trust_2
def dkwX2_trust_0 : List UInt8 := [42, 42, 180, 0, 184, 42, 27, 182, 1, 19, 28, 16, 156, 16, 100, 184, 0, 64, 182, 0, 47, 154, 0, 5]
abbrev dktX2_trust_0 : List UInt8 := dkwX2_trust_0 ++ dktX2_trust_1
theorem dksX2_trust_0 : cX2_trust.data.toList.drop 0 = dktX2_trust_0 := by decide +kernel
theorem dksX2_trust_1 : cX2_trust.data.toList.drop 24 = dktX2_trust_1 := dk_seg dksX2_trust_0 24 rfl rfl
theorem dksX2_trust_2 : cX2_trust.data.toList.drop 46 = dktX2_trust_2 := dk_seg dksX2_trust_1 22 rfl rfl
theorem dksX2_trust_3 : cX2_trust.data.toList.drop 70 = dktX2_trust_3 := dk_seg dksX2_trust_2 24 rfl rfl
theorem dX2_trust_0 : decode cX2_trust 0 = .ok (.aload_n 0, 1) := dk_42 (dk_at dksX2_trust_0 0 rfl rfl)
theorem dX2_trust_1 : decode cX2_trust 1 = .ok (.aload_n 0, 1) := dk_42 (dk_at dksX2_trust_0 1 rfl rfl)
theorem dX2_trust_2 : decode cX2_trust 2 = .ok (.getfield 184, 3) := dk_180 0 184 (dk_at dksX2_trust_0 2 rfl rfl)
theorem dX2_trust_5 : decode cX2_trust 5 = .ok (.aload_n 0, 1) := dk_42 (dk_at dksX2_trust_0 5 rfl rfl)
theorem dX2_trust_6 : decode cX2_trust 6 = .ok (.iload_n 1, 1) := dk_27 (dk_at dksX2_trust_0 6 rfl rfl)
theorem dX2_trust_7 : decode cX2_trust 7 = .ok (.invokevirtual 275, 3) := dk_182 1 19 (dk_at dksX2_trust_0 7 rfl rfl)
theorem dX2_trust_10 : decode cX2_trust 10 = .ok (.iload_n 2, 1) := dk_28 (dk_at dksX2_trust_0 10 rfl rfl)
theorem dX2_trust_11 : decode cX2_trust 11 = .ok (.bipush (-100), 2) := dk_16 156 (dk_at dksX2_trust_0 11 rfl rfl)
theorem dX2_trust_13 : decode cX2_trust 13 = .ok (.bipush 100, 2) := dk_16 100 (dk_at dksX2_trust_0 13 rfl rfl)
theorem dX2_trust_15 : decode cX2_trust 15 = .ok (.invokestatic 64, 3) := dk_184 0 64 (dk_at dksX2_trust_0 15 rfl rfl)
theorem dX2_trust_18 : decode cX2_trust 18 = .ok (.invokevirtual 47, 3) := dk_182 0 47 (dk_at dksX2_trust_0 18 rfl rfl)
theorem dX2_trust_21 : decode cX2_trust 21 = .ok (.ifCond .ne 5, 3) := dk_154 0 5 (dk_at dksX2_trust_0 21 rfl rfl)
theorem dX2_trust_24 : decode cX2_trust 24 = .ok (.iconst 0, 1) := dk_3 (dk_at dksX2_trust_1 0 rfl rfl)
theorem dX2_trust_25 : decode cX2_trust 25 = .ok (.ireturn, 1) := dk_172 (dk_at dksX2_trust_1 1 rfl rfl)
theorem dX2_trust_26 : decode cX2_trust 26 = .ok (.aload_n 0, 1) := dk_42 (dk_at dksX2_trust_1 2 rfl rfl)
theorem dX2_trust_27 : decode cX2_trust 27 = .ok (.invokevirtual 391, 3) := dk_182 1 135 (dk_at dksX2_trust_1 3 rfl rfl)
theorem dX2_trust_30 : decode cX2_trust 30 = .ok (.aload_n 0, 1) := dk_42 (dk_at dksX2_trust_1 6 rfl rfl)
theorem dX2_trust_31 : decode cX2_trust 31 = .ok (.getfield 9, 3) := dk_180 0 9 (dk_at dksX2_trust_1 7 rfl rfl)
theorem dX2_trust_34 : decode cX2_trust 34 = .ok (.sipush 158, 3) := dk_17 0 158 (dk_at dksX2_trust_1 10 rfl rfl)
theorem dX2_trust_37 : decode cX2_trust 37 = .ok (.iload_n 1, 1) := dk_27 (dk_at dksX2_trust_1 13 rfl rfl)
theorem dX2_trust_38 : decode cX2_trust 38 = .ok (.iadd, 1) := dk_96 (dk_at dksX2_trust_1 14 rfl rfl)
theorem dX2_trust_39 : decode cX2_trust 39 = .ok (.iconst 0, 1) := dk_3 (dk_at dksX2_trust_1 15 rfl rfl)
theorem dX2_trust_40 : decode cX2_trust 40 = .ok (.bipush 100, 2) := dk_16 100 (dk_at dksX2_trust_1 16 rfl rfl)
theorem dX2_trust_42 : decode cX2_trust 42 = .ok (.aload_n 0, 1) := dk_42 (dk_at dksX2_trust_1 18 rfl rfl)
theorem dX2_trust_43 : decode cX2_trust 43 = .ok (.getfield 9, 3) := dk_180 0 9 (dk_at dksX2_trust_1 19 rfl rfl)
theorem dX2_trust_46 : decode cX2_trust 46 = .ok (.sipush 158, 3) := dk_17 0 158 (dk_at dksX2_trust_2 0 rfl rfl)
theorem dX2_trust_49 : decode cX2_trust 49 = .ok (.iload_n 1, 1) := dk_27 (dk_at dksX2_trust_2 3 rfl rfl)
theorem dX2_trust_50 : decode cX2_trust 50 = .ok (.iadd, 1) := dk_96 (dk_at dksX2_trust_2 4 rfl rfl)
theorem dX2_trust_51 : decode cX2_trust 51 = .ok (.iaload, 1) := dk_46 (dk_at dksX2_trust_2 5 rfl rfl)
theorem dX2_trust_52 : decode cX2_trust 52 = .ok (.iload_n 2, 1) := dk_28 (dk_at dksX2_trust_2 6 rfl rfl)
theorem dX2_trust_53 : decode cX2_trust 53 = .ok (.iadd, 1) := dk_96 (dk_at dksX2_trust_2 7 rfl rfl)
theorem dX2_trust_54 : decode cX2_trust 54 = .ok (.invokestatic 263, 3) := dk_184 1 7 (dk_at dksX2_trust_2 8 rfl rfl)
theorem dX2_trust_57 : decode cX2_trust 57 = .ok (.invokestatic 199, 3) := dk_184 0 199 (dk_at dksX2_trust_2 11 rfl rfl)
theorem dX2_trust_60 : decode cX2_trust 60 = .ok (.iastore, 1) := dk_79 (dk_at dksX2_trust_2 14 rfl rfl)
theorem dX2_trust_61 : decode cX2_trust 61 = .ok (.aload_n 0, 1) := dk_42 (dk_at dksX2_trust_2 15 rfl rfl)
theorem dX2_trust_62 : decode cX2_trust 62 = .ok (.getfield 9, 3) := dk_180 0 9 (dk_at dksX2_trust_2 16 rfl rfl)
theorem dX2_trust_65 : decode cX2_trust 65 = .ok (.sipush 158, 3) := dk_17 0 158 (dk_at dksX2_trust_2 19 rfl rfl)
theorem dX2_trust_68 : decode cX2_trust 68 = .ok (.iload_n 1, 1) := dk_27 (dk_at dksX2_trust_2 22 rfl rfl)
theorem dX2_trust_69 : decode cX2_trust 69 = .ok (.iadd, 1) := dk_96 (dk_at dksX2_trust_2 23 rfl rfl)
theorem dX2_trust_70 : decode cX2_trust 70 = .ok (.iaload, 1) := dk_46 (dk_at dksX2_trust_3 0 rfl rfl)
theorem dX2_trust_71 : decode cX2_trust 71 = .ok (.ireturn, 1) := dk_172 (dk_at dksX2_trust_3 1 rfl rfl)
abbrev cX2_forget : ByteArray := prog_20_method_146_code
def yX2_forget : MethodName := ⟨RX2, "forget", "(I)I"⟩
def dkwX2_forget_2 : List UInt8 := [132, 3, 1, 167, 255, 234, 28, 172]
abbrev dktX2_forget_2 : List UInt8 := dkwX2_forget_2 ++ []
def dkwX2_forget_1 : List UInt8 := [184, 0, 226, 62, 29, 27, 4, 96, 3, 3, 184, 0, 226, 162, 0, 16, 42, 180, 0, 9, 29, 3, 79]
abbrev dktX2_forget_1 : List UInt8 := dkwX2_forget_1 ++ dktX2_forget_2
def dkwX2_forget_0 : List UInt8 := [42, 27, 182, 1, 79, 154, 0, 5, 3, 172, 42, 182, 1, 135, 42, 27, 182, 0, 251, 61, 27, 3, 3]
abbrev dktX2_forget_0 : List UInt8 := dkwX2_forget_0 ++ dktX2_forget_1
theorem dksX2_forget_0 : cX2_forget.data.toList.drop 0 = dktX2_forget_0 := by decide +kernel
theorem dksX2_forget_1 : cX2_forget.data.toList.drop 23 = dktX2_forget_1 := dk_seg dksX2_forget_0 23 rfl rfl
theorem dksX2_forget_2 : cX2_forget.data.toList.drop 46 = dktX2_forget_2 := dk_seg dksX2_forget_1 23 rfl rfl
theorem dX2_forget_0 : decode cX2_forget 0 = .ok (.aload_n 0, 1) := dk_42 (dk_at dksX2_forget_0 0 rfl rfl)
theorem dX2_forget_1 : decode cX2_forget 1 = .ok (.iload_n 1, 1) := dk_27 (dk_at dksX2_forget_0 1 rfl rfl)
theorem dX2_forget_2 : decode cX2_forget 2 = .ok (.invokevirtual 335, 3) := dk_182 1 79 (dk_at dksX2_forget_0 2 rfl rfl)
theorem dX2_forget_5 : decode cX2_forget 5 = .ok (.ifCond .ne 5, 3) := dk_154 0 5 (dk_at dksX2_forget_0 5 rfl rfl)
theorem dX2_forget_8 : decode cX2_forget 8 = .ok (.iconst 0, 1) := dk_3 (dk_at dksX2_forget_0 8 rfl rfl)
theorem dX2_forget_9 : decode cX2_forget 9 = .ok (.ireturn, 1) := dk_172 (dk_at dksX2_forget_0 9 rfl rfl)
theorem dX2_forget_10 : decode cX2_forget 10 = .ok (.aload_n 0, 1) := dk_42 (dk_at dksX2_forget_0 10 rfl rfl)
theorem dX2_forget_11 : decode cX2_forget 11 = .ok (.invokevirtual 391, 3) := dk_182 1 135 (dk_at dksX2_forget_0 11 rfl rfl)
theorem dX2_forget_14 : decode cX2_forget 14 = .ok (.aload_n 0, 1) := dk_42 (dk_at dksX2_forget_0 14 rfl rfl)
theorem dX2_forget_15 : decode cX2_forget 15 = .ok (.iload_n 1, 1) := dk_27 (dk_at dksX2_forget_0 15 rfl rfl)
theorem dX2_forget_16 : decode cX2_forget 16 = .ok (.invokevirtual 251, 3) := dk_182 0 251 (dk_at dksX2_forget_0 16 rfl rfl)
theorem dX2_forget_19 : decode cX2_forget 19 = .ok (.istore_n 2, 1) := dk_61 (dk_at dksX2_forget_0 19 rfl rfl)
theorem dX2_forget_20 : decode cX2_forget 20 = .ok (.iload_n 1, 1) := dk_27 (dk_at dksX2_forget_0 20 rfl rfl)
theorem dX2_forget_21 : decode cX2_forget 21 = .ok (.iconst 0, 1) := dk_3 (dk_at dksX2_forget_0 21 rfl rfl)
theorem dX2_forget_22 : decode cX2_forget 22 = .ok (.iconst 0, 1) := dk_3 (dk_at dksX2_forget_0 22 rfl rfl)
theorem dX2_forget_23 : decode cX2_forget 23 = .ok (.invokestatic 226, 3) := dk_184 0 226 (dk_at dksX2_forget_1 0 rfl rfl)
theorem dX2_forget_26 : decode cX2_forget 26 = .ok (.istore_n 3, 1) := dk_62 (dk_at dksX2_forget_1 3 rfl rfl)
theorem dX2_forget_27 : decode cX2_forget 27 = .ok (.iload_n 3, 1) := dk_29 (dk_at dksX2_forget_1 4 rfl rfl)
theorem dX2_forget_28 : decode cX2_forget 28 = .ok (.iload_n 1, 1) := dk_27 (dk_at dksX2_forget_1 5 rfl rfl)
theorem dX2_forget_29 : decode cX2_forget 29 = .ok (.iconst 1, 1) := dk_4 (dk_at dksX2_forget_1 6 rfl rfl)
theorem dX2_forget_30 : decode cX2_forget 30 = .ok (.iadd, 1) := dk_96 (dk_at dksX2_forget_1 7 rfl rfl)
theorem dX2_forget_31 : decode cX2_forget 31 = .ok (.iconst 0, 1) := dk_3 (dk_at dksX2_forget_1 8 rfl rfl)
theorem dX2_forget_32 : decode cX2_forget 32 = .ok (.iconst 0, 1) := dk_3 (dk_at dksX2_forget_1 9 rfl rfl)
theorem dX2_forget_33 : decode cX2_forget 33 = .ok (.invokestatic 226, 3) := dk_184 0 226 (dk_at dksX2_forget_1 10 rfl rfl)
theorem dX2_forget_36 : decode cX2_forget 36 = .ok (.if_icmp .ge 16, 3) := dk_162 0 16 (dk_at dksX2_forget_1 13 rfl rfl)
theorem dX2_forget_39 : decode cX2_forget 39 = .ok (.aload_n 0, 1) := dk_42 (dk_at dksX2_forget_1 16 rfl rfl)
theorem dX2_forget_40 : decode cX2_forget 40 = .ok (.getfield 9, 3) := dk_180 0 9 (dk_at dksX2_forget_1 17 rfl rfl)
theorem dX2_forget_43 : decode cX2_forget 43 = .ok (.iload_n 3, 1) := dk_29 (dk_at dksX2_forget_1 20 rfl rfl)
theorem dX2_forget_44 : decode cX2_forget 44 = .ok (.iconst 0, 1) := dk_3 (dk_at dksX2_forget_1 21 rfl rfl)
theorem dX2_forget_45 : decode cX2_forget 45 = .ok (.iastore, 1) := dk_79 (dk_at dksX2_forget_1 22 rfl rfl)
theorem dX2_forget_46 : decode cX2_forget 46 = .ok (.iinc 3 1, 3) := dk_132 3 1 (dk_at dksX2_forget_2 0 rfl rfl)
theorem dX2_forget_49 : decode cX2_forget 49 = .ok (.goto (-22), 3) := dk_167 255 234 (dk_at dksX2_forget_2 3 rfl rfl)
theorem dX2_forget_52 : decode cX2_forget 52 = .ok (.iload_n 2, 1) := dk_28 (dk_at dksX2_forget_2 6 rfl rfl)
theorem dX2_forget_53 : decode cX2_forget 53 = .ok (.ireturn, 1) := dk_172 (dk_at dksX2_forget_2 7 rfl rfl)
abbrev cX2_set : ByteArray := prog_20_method_148_code
def yX2_set : MethodName := ⟨RX2, "set", "(II)I"⟩
def dkwX2_set_2 : List UInt8 := [182, 1, 135, 42, 180, 0, 9, 27, 46, 62, 42, 180, 0, 9, 27, 28, 79, 29, 172]
abbrev dktX2_set_2 : List UInt8 := dkwX2_set_2 ++ []
def dkwX2_set_1 : List UInt8 := [182, 1, 138, 184, 0, 64, 153, 0, 7, 4, 167, 0, 4, 3, 182, 0, 191, 154, 0, 5, 3, 172, 42]
abbrev dktX2_set_1 : List UInt8 := dkwX2_set_1 ++ dktX2_set_2
def dkwX2_set_0 : List UInt8 := [42, 42, 180, 0, 184, 27, 3, 8, 184, 0, 64, 153, 0, 24, 28, 42, 27, 182, 0, 122, 42, 27]
abbrev dktX2_set_0 : List UInt8 := dkwX2_set_0 ++ dktX2_set_1
theorem dksX2_set_0 : cX2_set.data.toList.drop 0 = dktX2_set_0 := by decide +kernel
theorem dksX2_set_1 : cX2_set.data.toList.drop 22 = dktX2_set_1 := dk_seg dksX2_set_0 22 rfl rfl
theorem dksX2_set_2 : cX2_set.data.toList.drop 45 = dktX2_set_2 := dk_seg dksX2_set_1 23 rfl rfl
theorem dX2_set_0 : decode cX2_set 0 = .ok (.aload_n 0, 1) := dk_42 (dk_at dksX2_set_0 0 rfl rfl)
theorem dX2_set_1 : decode cX2_set 1 = .ok (.aload_n 0, 1) := dk_42 (dk_at dksX2_set_0 1 rfl rfl)
theorem dX2_set_2 : decode cX2_set 2 = .ok (.getfield 184, 3) := dk_180 0 184 (dk_at dksX2_set_0 2 rfl rfl)
theorem dX2_set_5 : decode cX2_set 5 = .ok (.iload_n 1, 1) := dk_27 (dk_at dksX2_set_0 5 rfl rfl)
theorem dX2_set_6 : decode cX2_set 6 = .ok (.iconst 0, 1) := dk_3 (dk_at dksX2_set_0 6 rfl rfl)
theorem dX2_set_7 : decode cX2_set 7 = .ok (.iconst 5, 1) := dk_8 (dk_at dksX2_set_0 7 rfl rfl)
theorem dX2_set_8 : decode cX2_set 8 = .ok (.invokestatic 64, 3) := dk_184 0 64 (dk_at dksX2_set_0 8 rfl rfl)
theorem dX2_set_11 : decode cX2_set 11 = .ok (.ifCond .eq 24, 3) := dk_153 0 24 (dk_at dksX2_set_0 11 rfl rfl)
theorem dX2_set_14 : decode cX2_set 14 = .ok (.iload_n 2, 1) := dk_28 (dk_at dksX2_set_0 14 rfl rfl)
theorem dX2_set_15 : decode cX2_set 15 = .ok (.aload_n 0, 1) := dk_42 (dk_at dksX2_set_0 15 rfl rfl)
theorem dX2_set_16 : decode cX2_set 16 = .ok (.iload_n 1, 1) := dk_27 (dk_at dksX2_set_0 16 rfl rfl)
theorem dX2_set_17 : decode cX2_set 17 = .ok (.invokevirtual 122, 3) := dk_182 0 122 (dk_at dksX2_set_0 17 rfl rfl)
theorem dX2_set_20 : decode cX2_set 20 = .ok (.aload_n 0, 1) := dk_42 (dk_at dksX2_set_0 20 rfl rfl)
theorem dX2_set_21 : decode cX2_set 21 = .ok (.iload_n 1, 1) := dk_27 (dk_at dksX2_set_0 21 rfl rfl)
theorem dX2_set_22 : decode cX2_set 22 = .ok (.invokevirtual 394, 3) := dk_182 1 138 (dk_at dksX2_set_1 0 rfl rfl)
theorem dX2_set_25 : decode cX2_set 25 = .ok (.invokestatic 64, 3) := dk_184 0 64 (dk_at dksX2_set_1 3 rfl rfl)
theorem dX2_set_28 : decode cX2_set 28 = .ok (.ifCond .eq 7, 3) := dk_153 0 7 (dk_at dksX2_set_1 6 rfl rfl)
theorem dX2_set_31 : decode cX2_set 31 = .ok (.iconst 1, 1) := dk_4 (dk_at dksX2_set_1 9 rfl rfl)
theorem dX2_set_32 : decode cX2_set 32 = .ok (.goto 4, 3) := dk_167 0 4 (dk_at dksX2_set_1 10 rfl rfl)
theorem dX2_set_35 : decode cX2_set 35 = .ok (.iconst 0, 1) := dk_3 (dk_at dksX2_set_1 13 rfl rfl)
theorem dX2_set_36 : decode cX2_set 36 = .ok (.invokevirtual 191, 3) := dk_182 0 191 (dk_at dksX2_set_1 14 rfl rfl)
theorem dX2_set_39 : decode cX2_set 39 = .ok (.ifCond .ne 5, 3) := dk_154 0 5 (dk_at dksX2_set_1 17 rfl rfl)
theorem dX2_set_42 : decode cX2_set 42 = .ok (.iconst 0, 1) := dk_3 (dk_at dksX2_set_1 20 rfl rfl)
theorem dX2_set_43 : decode cX2_set 43 = .ok (.ireturn, 1) := dk_172 (dk_at dksX2_set_1 21 rfl rfl)
theorem dX2_set_44 : decode cX2_set 44 = .ok (.aload_n 0, 1) := dk_42 (dk_at dksX2_set_1 22 rfl rfl)
theorem dX2_set_45 : decode cX2_set 45 = .ok (.invokevirtual 391, 3) := dk_182 1 135 (dk_at dksX2_set_2 0 rfl rfl)
theorem dX2_set_48 : decode cX2_set 48 = .ok (.aload_n 0, 1) := dk_42 (dk_at dksX2_set_2 3 rfl rfl)
theorem dX2_set_49 : decode cX2_set 49 = .ok (.getfield 9, 3) := dk_180 0 9 (dk_at dksX2_set_2 4 rfl rfl)
theorem dX2_set_52 : decode cX2_set 52 = .ok (.iload_n 1, 1) := dk_27 (dk_at dksX2_set_2 7 rfl rfl)
theorem dX2_set_53 : decode cX2_set 53 = .ok (.iaload, 1) := dk_46 (dk_at dksX2_set_2 8 rfl rfl)
theorem dX2_set_54 : decode cX2_set 54 = .ok (.istore_n 3, 1) := dk_62 (dk_at dksX2_set_2 9 rfl rfl)
theorem dX2_set_55 : decode cX2_set 55 = .ok (.aload_n 0, 1) := dk_42 (dk_at dksX2_set_2 10 rfl rfl)
theorem dX2_set_56 : decode cX2_set 56 = .ok (.getfield 9, 3) := dk_180 0 9 (dk_at dksX2_set_2 11 rfl rfl)
theorem dX2_set_59 : decode cX2_set 59 = .ok (.iload_n 1, 1) := dk_27 (dk_at dksX2_set_2 14 rfl rfl)
theorem dX2_set_60 : decode cX2_set 60 = .ok (.iload_n 2, 1) := dk_28 (dk_at dksX2_set_2 15 rfl rfl)
theorem dX2_set_61 : decode cX2_set 61 = .ok (.iastore, 1) := dk_79 (dk_at dksX2_set_2 16 rfl rfl)
theorem dX2_set_62 : decode cX2_set 62 = .ok (.iload_n 3, 1) := dk_29 (dk_at dksX2_set_2 17 rfl rfl)
theorem dX2_set_63 : decode cX2_set 63 = .ok (.ireturn, 1) := dk_172 (dk_at dksX2_set_2 18 rfl rfl)
abbrev cX2_highNow : ByteArray := prog_20_method_147_code
def yX2_highNow : MethodName := ⟨RX2, "highNow", "(I)I"⟩
def dkwX2_highNow_1 : List UInt8 := [172]
abbrev dktX2_highNow_1 : List UInt8 := dkwX2_highNow_1 ++ []
def dkwX2_highNow_0 : List UInt8 := [27, 6, 160, 0, 17, 16, 9, 42, 180, 0, 9, 7, 46, 184, 1, 7, 167, 0, 8, 42, 27, 182, 0, 126]
abbrev dktX2_highNow_0 : List UInt8 := dkwX2_highNow_0 ++ dktX2_highNow_1
theorem dksX2_highNow_0 : cX2_highNow.data.toList.drop 0 = dktX2_highNow_0 := by decide +kernel
theorem dksX2_highNow_1 : cX2_highNow.data.toList.drop 24 = dktX2_highNow_1 := dk_seg dksX2_highNow_0 24 rfl rfl
theorem dX2_highNow_0 : decode cX2_highNow 0 = .ok (.iload_n 1, 1) := dk_27 (dk_at dksX2_highNow_0 0 rfl rfl)
theorem dX2_highNow_1 : decode cX2_highNow 1 = .ok (.iconst 3, 1) := dk_6 (dk_at dksX2_highNow_0 1 rfl rfl)
theorem dX2_highNow_2 : decode cX2_highNow 2 = .ok (.if_icmp .ne 17, 3) := dk_160 0 17 (dk_at dksX2_highNow_0 2 rfl rfl)
theorem dX2_highNow_5 : decode cX2_highNow 5 = .ok (.bipush 9, 2) := dk_16 9 (dk_at dksX2_highNow_0 5 rfl rfl)
theorem dX2_highNow_7 : decode cX2_highNow 7 = .ok (.aload_n 0, 1) := dk_42 (dk_at dksX2_highNow_0 7 rfl rfl)
theorem dX2_highNow_8 : decode cX2_highNow 8 = .ok (.getfield 9, 3) := dk_180 0 9 (dk_at dksX2_highNow_0 8 rfl rfl)
theorem dX2_highNow_11 : decode cX2_highNow 11 = .ok (.iconst 4, 1) := dk_7 (dk_at dksX2_highNow_0 11 rfl rfl)
theorem dX2_highNow_12 : decode cX2_highNow 12 = .ok (.iaload, 1) := dk_46 (dk_at dksX2_highNow_0 12 rfl rfl)
theorem dX2_highNow_13 : decode cX2_highNow 13 = .ok (.invokestatic 263, 3) := dk_184 1 7 (dk_at dksX2_highNow_0 13 rfl rfl)
theorem dX2_highNow_16 : decode cX2_highNow 16 = .ok (.goto 8, 3) := dk_167 0 8 (dk_at dksX2_highNow_0 16 rfl rfl)
theorem dX2_highNow_19 : decode cX2_highNow 19 = .ok (.aload_n 0, 1) := dk_42 (dk_at dksX2_highNow_0 19 rfl rfl)
theorem dX2_highNow_20 : decode cX2_highNow 20 = .ok (.iload_n 1, 1) := dk_27 (dk_at dksX2_highNow_0 20 rfl rfl)
theorem dX2_highNow_21 : decode cX2_highNow 21 = .ok (.invokevirtual 126, 3) := dk_182 0 126 (dk_at dksX2_highNow_0 21 rfl rfl)
theorem dX2_highNow_24 : decode cX2_highNow 24 = .ok (.ireturn, 1) := dk_172 (dk_at dksX2_highNow_1 0 rfl rfl)
abbrev cX2_undo : ByteArray := prog_20_method_149_code
def yX2_undo : MethodName := ⟨RX2, "undo", "()I"⟩
def dkwX2_undo_2 : List UInt8 := [180, 0, 9, 3, 184, 0, 177, 42, 180, 0, 188, 172]
abbrev dktX2_undo_2 : List UInt8 := dkwX2_undo_2 ++ []
def dkwX2_undo_1 : List UInt8 := [89, 180, 0, 188, 4, 100, 181, 0, 188, 42, 180, 0, 16, 42, 180, 0, 188, 17, 4, 34, 104, 42]
abbrev dktX2_undo_1 : List UInt8 := dkwX2_undo_1 ++ dktX2_undo_2
def dkwX2_undo_0 : List UInt8 := [42, 42, 180, 0, 188, 158, 0, 7, 4, 167, 0, 4, 3, 4, 4, 182, 0, 47, 154, 0, 5, 3, 172, 42]
abbrev dktX2_undo_0 : List UInt8 := dkwX2_undo_0 ++ dktX2_undo_1
theorem dksX2_undo_0 : cX2_undo.data.toList.drop 0 = dktX2_undo_0 := by decide +kernel
theorem dksX2_undo_1 : cX2_undo.data.toList.drop 24 = dktX2_undo_1 := dk_seg dksX2_undo_0 24 rfl rfl
theorem dksX2_undo_2 : cX2_undo.data.toList.drop 46 = dktX2_undo_2 := dk_seg dksX2_undo_1 22 rfl rfl
theorem dX2_undo_0 : decode cX2_undo 0 = .ok (.aload_n 0, 1) := dk_42 (dk_at dksX2_undo_0 0 rfl rfl)
theorem dX2_undo_1 : decode cX2_undo 1 = .ok (.aload_n 0, 1) := dk_42 (dk_at dksX2_undo_0 1 rfl rfl)
theorem dX2_undo_2 : decode cX2_undo 2 = .ok (.getfield 188, 3) := dk_180 0 188 (dk_at dksX2_undo_0 2 rfl rfl)
theorem dX2_undo_5 : decode cX2_undo 5 = .ok (.ifCond .le 7, 3) := dk_158 0 7 (dk_at dksX2_undo_0 5 rfl rfl)
theorem dX2_undo_8 : decode cX2_undo 8 = .ok (.iconst 1, 1) := dk_4 (dk_at dksX2_undo_0 8 rfl rfl)
theorem dX2_undo_9 : decode cX2_undo 9 = .ok (.goto 4, 3) := dk_167 0 4 (dk_at dksX2_undo_0 9 rfl rfl)
theorem dX2_undo_12 : decode cX2_undo 12 = .ok (.iconst 0, 1) := dk_3 (dk_at dksX2_undo_0 12 rfl rfl)
theorem dX2_undo_13 : decode cX2_undo 13 = .ok (.iconst 1, 1) := dk_4 (dk_at dksX2_undo_0 13 rfl rfl)
theorem dX2_undo_14 : decode cX2_undo 14 = .ok (.iconst 1, 1) := dk_4 (dk_at dksX2_undo_0 14 rfl rfl)
theorem dX2_undo_15 : decode cX2_undo 15 = .ok (.invokevirtual 47, 3) := dk_182 0 47 (dk_at dksX2_undo_0 15 rfl rfl)
theorem dX2_undo_18 : decode cX2_undo 18 = .ok (.ifCond .ne 5, 3) := dk_154 0 5 (dk_at dksX2_undo_0 18 rfl rfl)
theorem dX2_undo_21 : decode cX2_undo 21 = .ok (.iconst 0, 1) := dk_3 (dk_at dksX2_undo_0 21 rfl rfl)
theorem dX2_undo_22 : decode cX2_undo 22 = .ok (.ireturn, 1) := dk_172 (dk_at dksX2_undo_0 22 rfl rfl)
theorem dX2_undo_23 : decode cX2_undo 23 = .ok (.aload_n 0, 1) := dk_42 (dk_at dksX2_undo_0 23 rfl rfl)
theorem dX2_undo_24 : decode cX2_undo 24 = .ok (.dup, 1) := dk_89 (dk_at dksX2_undo_1 0 rfl rfl)
theorem dX2_undo_25 : decode cX2_undo 25 = .ok (.getfield 188, 3) := dk_180 0 188 (dk_at dksX2_undo_1 1 rfl rfl)
theorem dX2_undo_28 : decode cX2_undo 28 = .ok (.iconst 1, 1) := dk_4 (dk_at dksX2_undo_1 4 rfl rfl)
theorem dX2_undo_29 : decode cX2_undo 29 = .ok (.isub, 1) := dk_100 (dk_at dksX2_undo_1 5 rfl rfl)
theorem dX2_undo_30 : decode cX2_undo 30 = .ok (.putfield 188, 3) := dk_181 0 188 (dk_at dksX2_undo_1 6 rfl rfl)
theorem dX2_undo_33 : decode cX2_undo 33 = .ok (.aload_n 0, 1) := dk_42 (dk_at dksX2_undo_1 9 rfl rfl)
theorem dX2_undo_34 : decode cX2_undo 34 = .ok (.getfield 16, 3) := dk_180 0 16 (dk_at dksX2_undo_1 10 rfl rfl)
theorem dX2_undo_37 : decode cX2_undo 37 = .ok (.aload_n 0, 1) := dk_42 (dk_at dksX2_undo_1 13 rfl rfl)
theorem dX2_undo_38 : decode cX2_undo 38 = .ok (.getfield 188, 3) := dk_180 0 188 (dk_at dksX2_undo_1 14 rfl rfl)
theorem dX2_undo_41 : decode cX2_undo 41 = .ok (.sipush 1058, 3) := dk_17 4 34 (dk_at dksX2_undo_1 17 rfl rfl)
theorem dX2_undo_44 : decode cX2_undo 44 = .ok (.imul, 1) := dk_104 (dk_at dksX2_undo_1 20 rfl rfl)
theorem dX2_undo_45 : decode cX2_undo 45 = .ok (.aload_n 0, 1) := dk_42 (dk_at dksX2_undo_1 21 rfl rfl)
theorem dX2_undo_46 : decode cX2_undo 46 = .ok (.getfield 9, 3) := dk_180 0 9 (dk_at dksX2_undo_2 0 rfl rfl)
theorem dX2_undo_49 : decode cX2_undo 49 = .ok (.iconst 0, 1) := dk_3 (dk_at dksX2_undo_2 3 rfl rfl)
theorem dX2_undo_50 : decode cX2_undo 50 = .ok (.invokestatic 177, 3) := dk_184 0 177 (dk_at dksX2_undo_2 4 rfl rfl)
theorem dX2_undo_53 : decode cX2_undo 53 = .ok (.aload_n 0, 1) := dk_42 (dk_at dksX2_undo_2 7 rfl rfl)
theorem dX2_undo_54 : decode cX2_undo 54 = .ok (.getfield 188, 3) := dk_180 0 188 (dk_at dksX2_undo_2 8 rfl rfl)
theorem dX2_undo_57 : decode cX2_undo 57 = .ok (.ireturn, 1) := dk_172 (dk_at dksX2_undo_2 11 rfl rfl)
abbrev cX2_undoable : ByteArray := prog_20_method_150_code
def yX2_undoable : MethodName := ⟨RX2, "undoable", "()I"⟩
def dkwX2_undoable_0 : List UInt8 := [42, 3, 181, 0, 44, 42, 180, 0, 188, 172]
abbrev dktX2_undoable_0 : List UInt8 := dkwX2_undoable_0 ++ []
theorem dksX2_undoable_0 : cX2_undoable.data.toList.drop 0 = dktX2_undoable_0 := by decide +kernel
theorem dX2_undoable_0 : decode cX2_undoable 0 = .ok (.aload_n 0, 1) := dk_42 (dk_at dksX2_undoable_0 0 rfl rfl)
theorem dX2_undoable_1 : decode cX2_undoable 1 = .ok (.iconst 0, 1) := dk_3 (dk_at dksX2_undoable_0 1 rfl rfl)
theorem dX2_undoable_2 : decode cX2_undoable 2 = .ok (.putfield 44, 3) := dk_181 0 44 (dk_at dksX2_undoable_0 2 rfl rfl)
theorem dX2_undoable_5 : decode cX2_undoable 5 = .ok (.aload_n 0, 1) := dk_42 (dk_at dksX2_undoable_0 5 rfl rfl)
theorem dX2_undoable_6 : decode cX2_undoable 6 = .ok (.getfield 188, 3) := dk_180 0 188 (dk_at dksX2_undoable_0 6 rfl rfl)
theorem dX2_undoable_9 : decode cX2_undoable 9 = .ok (.ireturn, 1) := dk_172 (dk_at dksX2_undoable_0 9 rfl rfl)
abbrev cX2_save : ByteArray := prog_20_method_151_code
def yX2_save : MethodName := ⟨RX2, "save", "(I)I"⟩
def dkwX2_save_2 : List UInt8 := [16, 90, 46, 172]
abbrev dktX2_save_2 : List UInt8 := dkwX2_save_2 ++ []
def dkwX2_save_1 : List UInt8 := [42, 180, 0, 19, 27, 17, 4, 34, 104, 184, 0, 177, 42, 180, 0, 22, 27, 4, 84, 42, 180, 0, 9]
abbrev dktX2_save_1 : List UInt8 := dkwX2_save_1 ++ dktX2_save_2
def dkwX2_save_0 : List UInt8 := [42, 42, 180, 0, 184, 27, 3, 4, 184, 0, 64, 182, 0, 191, 154, 0, 5, 3, 172, 42, 180, 0, 9, 3]
abbrev dktX2_save_0 : List UInt8 := dkwX2_save_0 ++ dktX2_save_1
theorem dksX2_save_0 : cX2_save.data.toList.drop 0 = dktX2_save_0 := by decide +kernel
theorem dksX2_save_1 : cX2_save.data.toList.drop 24 = dktX2_save_1 := dk_seg dksX2_save_0 24 rfl rfl
theorem dksX2_save_2 : cX2_save.data.toList.drop 47 = dktX2_save_2 := dk_seg dksX2_save_1 23 rfl rfl
theorem dX2_save_0 : decode cX2_save 0 = .ok (.aload_n 0, 1) := dk_42 (dk_at dksX2_save_0 0 rfl rfl)
theorem dX2_save_1 : decode cX2_save 1 = .ok (.aload_n 0, 1) := dk_42 (dk_at dksX2_save_0 1 rfl rfl)
theorem dX2_save_2 : decode cX2_save 2 = .ok (.getfield 184, 3) := dk_180 0 184 (dk_at dksX2_save_0 2 rfl rfl)
theorem dX2_save_5 : decode cX2_save 5 = .ok (.iload_n 1, 1) := dk_27 (dk_at dksX2_save_0 5 rfl rfl)
theorem dX2_save_6 : decode cX2_save 6 = .ok (.iconst 0, 1) := dk_3 (dk_at dksX2_save_0 6 rfl rfl)
theorem dX2_save_7 : decode cX2_save 7 = .ok (.iconst 1, 1) := dk_4 (dk_at dksX2_save_0 7 rfl rfl)
theorem dX2_save_8 : decode cX2_save 8 = .ok (.invokestatic 64, 3) := dk_184 0 64 (dk_at dksX2_save_0 8 rfl rfl)
theorem dX2_save_11 : decode cX2_save 11 = .ok (.invokevirtual 191, 3) := dk_182 0 191 (dk_at dksX2_save_0 11 rfl rfl)
theorem dX2_save_14 : decode cX2_save 14 = .ok (.ifCond .ne 5, 3) := dk_154 0 5 (dk_at dksX2_save_0 14 rfl rfl)
theorem dX2_save_17 : decode cX2_save 17 = .ok (.iconst 0, 1) := dk_3 (dk_at dksX2_save_0 17 rfl rfl)
theorem dX2_save_18 : decode cX2_save 18 = .ok (.ireturn, 1) := dk_172 (dk_at dksX2_save_0 18 rfl rfl)
theorem dX2_save_19 : decode cX2_save 19 = .ok (.aload_n 0, 1) := dk_42 (dk_at dksX2_save_0 19 rfl rfl)
theorem dX2_save_20 : decode cX2_save 20 = .ok (.getfield 9, 3) := dk_180 0 9 (dk_at dksX2_save_0 20 rfl rfl)
theorem dX2_save_23 : decode cX2_save 23 = .ok (.iconst 0, 1) := dk_3 (dk_at dksX2_save_0 23 rfl rfl)
theorem dX2_save_24 : decode cX2_save 24 = .ok (.aload_n 0, 1) := dk_42 (dk_at dksX2_save_1 0 rfl rfl)
theorem dX2_save_25 : decode cX2_save 25 = .ok (.getfield 19, 3) := dk_180 0 19 (dk_at dksX2_save_1 1 rfl rfl)
theorem dX2_save_28 : decode cX2_save 28 = .ok (.iload_n 1, 1) := dk_27 (dk_at dksX2_save_1 4 rfl rfl)
theorem dX2_save_29 : decode cX2_save 29 = .ok (.sipush 1058, 3) := dk_17 4 34 (dk_at dksX2_save_1 5 rfl rfl)
theorem dX2_save_32 : decode cX2_save 32 = .ok (.imul, 1) := dk_104 (dk_at dksX2_save_1 8 rfl rfl)
theorem dX2_save_33 : decode cX2_save 33 = .ok (.invokestatic 177, 3) := dk_184 0 177 (dk_at dksX2_save_1 9 rfl rfl)
theorem dX2_save_36 : decode cX2_save 36 = .ok (.aload_n 0, 1) := dk_42 (dk_at dksX2_save_1 12 rfl rfl)
theorem dX2_save_37 : decode cX2_save 37 = .ok (.getfield 22, 3) := dk_180 0 22 (dk_at dksX2_save_1 13 rfl rfl)
theorem dX2_save_40 : decode cX2_save 40 = .ok (.iload_n 1, 1) := dk_27 (dk_at dksX2_save_1 16 rfl rfl)
theorem dX2_save_41 : decode cX2_save 41 = .ok (.iconst 1, 1) := dk_4 (dk_at dksX2_save_1 17 rfl rfl)
theorem dX2_save_42 : decode cX2_save 42 = .ok (.bastore, 1) := dk_84 (dk_at dksX2_save_1 18 rfl rfl)
theorem dX2_save_43 : decode cX2_save 43 = .ok (.aload_n 0, 1) := dk_42 (dk_at dksX2_save_1 19 rfl rfl)
theorem dX2_save_44 : decode cX2_save 44 = .ok (.getfield 9, 3) := dk_180 0 9 (dk_at dksX2_save_1 20 rfl rfl)
theorem dX2_save_47 : decode cX2_save 47 = .ok (.bipush 90, 2) := dk_16 90 (dk_at dksX2_save_2 0 rfl rfl)
theorem dX2_save_49 : decode cX2_save 49 = .ok (.iaload, 1) := dk_46 (dk_at dksX2_save_2 2 rfl rfl)
theorem dX2_save_50 : decode cX2_save 50 = .ok (.ireturn, 1) := dk_172 (dk_at dksX2_save_2 3 rfl rfl)
abbrev cX2_restore : ByteArray := prog_20_method_152_code
def yX2_restore : MethodName := ⟨RX2, "restore", "(I)I"⟩
def dkwX2_restore_2 : List UInt8 := [180, 0, 9, 3, 184, 0, 177, 42, 3, 181, 0, 188, 42, 180, 0, 9, 16, 90, 46, 172]
abbrev dktX2_restore_2 : List UInt8 := dkwX2_restore_2 ++ []
def dkwX2_restore_1 : List UInt8 := [167, 0, 4, 3, 182, 0, 191, 154, 0, 5, 3, 172, 42, 180, 0, 19, 27, 17, 4, 34, 104, 42]
abbrev dktX2_restore_1 : List UInt8 := dkwX2_restore_1 ++ dktX2_restore_2
def dkwX2_restore_0 : List UInt8 := [27, 3, 4, 184, 0, 64, 61, 42, 28, 28, 153, 0, 16, 42, 180, 0, 22, 27, 51, 153, 0, 7, 4]
abbrev dktX2_restore_0 : List UInt8 := dkwX2_restore_0 ++ dktX2_restore_1
theorem dksX2_restore_0 : cX2_restore.data.toList.drop 0 = dktX2_restore_0 := by decide +kernel
theorem dksX2_restore_1 : cX2_restore.data.toList.drop 23 = dktX2_restore_1 := dk_seg dksX2_restore_0 23 rfl rfl
theorem dksX2_restore_2 : cX2_restore.data.toList.drop 45 = dktX2_restore_2 := dk_seg dksX2_restore_1 22 rfl rfl
theorem dX2_restore_0 : decode cX2_restore 0 = .ok (.iload_n 1, 1) := dk_27 (dk_at dksX2_restore_0 0 rfl rfl)
theorem dX2_restore_1 : decode cX2_restore 1 = .ok (.iconst 0, 1) := dk_3 (dk_at dksX2_restore_0 1 rfl rfl)
theorem dX2_restore_2 : decode cX2_restore 2 = .ok (.iconst 1, 1) := dk_4 (dk_at dksX2_restore_0 2 rfl rfl)
theorem dX2_restore_3 : decode cX2_restore 3 = .ok (.invokestatic 64, 3) := dk_184 0 64 (dk_at dksX2_restore_0 3 rfl rfl)
theorem dX2_restore_6 : decode cX2_restore 6 = .ok (.istore_n 2, 1) := dk_61 (dk_at dksX2_restore_0 6 rfl rfl)
theorem dX2_restore_7 : decode cX2_restore 7 = .ok (.aload_n 0, 1) := dk_42 (dk_at dksX2_restore_0 7 rfl rfl)
theorem dX2_restore_8 : decode cX2_restore 8 = .ok (.iload_n 2, 1) := dk_28 (dk_at dksX2_restore_0 8 rfl rfl)
theorem dX2_restore_9 : decode cX2_restore 9 = .ok (.iload_n 2, 1) := dk_28 (dk_at dksX2_restore_0 9 rfl rfl)
theorem dX2_restore_10 : decode cX2_restore 10 = .ok (.ifCond .eq 16, 3) := dk_153 0 16 (dk_at dksX2_restore_0 10 rfl rfl)
theorem dX2_restore_13 : decode cX2_restore 13 = .ok (.aload_n 0, 1) := dk_42 (dk_at dksX2_restore_0 13 rfl rfl)
theorem dX2_restore_14 : decode cX2_restore 14 = .ok (.getfield 22, 3) := dk_180 0 22 (dk_at dksX2_restore_0 14 rfl rfl)
theorem dX2_restore_17 : decode cX2_restore 17 = .ok (.iload_n 1, 1) := dk_27 (dk_at dksX2_restore_0 17 rfl rfl)
theorem dX2_restore_18 : decode cX2_restore 18 = .ok (.baload, 1) := dk_51 (dk_at dksX2_restore_0 18 rfl rfl)
theorem dX2_restore_19 : decode cX2_restore 19 = .ok (.ifCond .eq 7, 3) := dk_153 0 7 (dk_at dksX2_restore_0 19 rfl rfl)
theorem dX2_restore_22 : decode cX2_restore 22 = .ok (.iconst 1, 1) := dk_4 (dk_at dksX2_restore_0 22 rfl rfl)
theorem dX2_restore_23 : decode cX2_restore 23 = .ok (.goto 4, 3) := dk_167 0 4 (dk_at dksX2_restore_1 0 rfl rfl)
theorem dX2_restore_26 : decode cX2_restore 26 = .ok (.iconst 0, 1) := dk_3 (dk_at dksX2_restore_1 3 rfl rfl)
theorem dX2_restore_27 : decode cX2_restore 27 = .ok (.invokevirtual 191, 3) := dk_182 0 191 (dk_at dksX2_restore_1 4 rfl rfl)
theorem dX2_restore_30 : decode cX2_restore 30 = .ok (.ifCond .ne 5, 3) := dk_154 0 5 (dk_at dksX2_restore_1 7 rfl rfl)
theorem dX2_restore_33 : decode cX2_restore 33 = .ok (.iconst 0, 1) := dk_3 (dk_at dksX2_restore_1 10 rfl rfl)
theorem dX2_restore_34 : decode cX2_restore 34 = .ok (.ireturn, 1) := dk_172 (dk_at dksX2_restore_1 11 rfl rfl)
theorem dX2_restore_35 : decode cX2_restore 35 = .ok (.aload_n 0, 1) := dk_42 (dk_at dksX2_restore_1 12 rfl rfl)
theorem dX2_restore_36 : decode cX2_restore 36 = .ok (.getfield 19, 3) := dk_180 0 19 (dk_at dksX2_restore_1 13 rfl rfl)
theorem dX2_restore_39 : decode cX2_restore 39 = .ok (.iload_n 1, 1) := dk_27 (dk_at dksX2_restore_1 16 rfl rfl)
theorem dX2_restore_40 : decode cX2_restore 40 = .ok (.sipush 1058, 3) := dk_17 4 34 (dk_at dksX2_restore_1 17 rfl rfl)
theorem dX2_restore_43 : decode cX2_restore 43 = .ok (.imul, 1) := dk_104 (dk_at dksX2_restore_1 20 rfl rfl)
theorem dX2_restore_44 : decode cX2_restore 44 = .ok (.aload_n 0, 1) := dk_42 (dk_at dksX2_restore_1 21 rfl rfl)
theorem dX2_restore_45 : decode cX2_restore 45 = .ok (.getfield 9, 3) := dk_180 0 9 (dk_at dksX2_restore_2 0 rfl rfl)
theorem dX2_restore_48 : decode cX2_restore 48 = .ok (.iconst 0, 1) := dk_3 (dk_at dksX2_restore_2 3 rfl rfl)
theorem dX2_restore_49 : decode cX2_restore 49 = .ok (.invokestatic 177, 3) := dk_184 0 177 (dk_at dksX2_restore_2 4 rfl rfl)
theorem dX2_restore_52 : decode cX2_restore 52 = .ok (.aload_n 0, 1) := dk_42 (dk_at dksX2_restore_2 7 rfl rfl)
theorem dX2_restore_53 : decode cX2_restore 53 = .ok (.iconst 0, 1) := dk_3 (dk_at dksX2_restore_2 8 rfl rfl)
theorem dX2_restore_54 : decode cX2_restore 54 = .ok (.putfield 188, 3) := dk_181 0 188 (dk_at dksX2_restore_2 9 rfl rfl)
theorem dX2_restore_57 : decode cX2_restore 57 = .ok (.aload_n 0, 1) := dk_42 (dk_at dksX2_restore_2 12 rfl rfl)
theorem dX2_restore_58 : decode cX2_restore 58 = .ok (.getfield 9, 3) := dk_180 0 9 (dk_at dksX2_restore_2 13 rfl rfl)
theorem dX2_restore_61 : decode cX2_restore 61 = .ok (.bipush 90, 2) := dk_16 90 (dk_at dksX2_restore_2 16 rfl rfl)
theorem dX2_restore_63 : decode cX2_restore 63 = .ok (.iaload, 1) := dk_46 (dk_at dksX2_restore_2 18 rfl rfl)
theorem dX2_restore_64 : decode cX2_restore 64 = .ok (.ireturn, 1) := dk_172 (dk_at dksX2_restore_2 19 rfl rfl)
theorem q135 : (Jvm.Cond.initialized "FlareSlopesModel") ∈ lw_all := lw_g (lw_at lw_m1 8 rfl) rfl
theorem q3935 : (Jvm.Cond.instantiable "FlareSlopesModel" (22 : Nat)) ∈ lw_all := lw_g (lw_at lw_m16 208 rfl) rfl
theorem q3937 : (Jvm.Cond.instanceMethod ({ cls := "FlareSlopesModel", name := "<init>", desc := "()V" } : Jvm.MethodName)) ∈ lw_all := lw_g (lw_at lw_m16 210 rfl) rfl
theorem q3938 : (Jvm.Cond.code ({ cls := "FlareSlopesModel", name := "<init>", desc := "()V" } : Jvm.MethodName) prog_20_method_1_code (1 : Nat) (Option.none : Option Jvm.ClassFile.FieldType)) ∈ lw_all := lw_g (lw_at lw_m16 211 rfl) rfl
theorem q3939 : (Jvm.Cond.methodLink "FlareSlopesModel" (1 : Nat) ({ cls := "java/lang/Object", name := "<init>", desc := "()V" } : Jvm.MethodName)) ∈ lw_all := lw_g (lw_at lw_m16 212 rfl) rfl
theorem q3940 : (Jvm.Cond.fieldLink "FlareSlopesModel" (44 : Nat) "FlareSlopesModel" "thrown" "I") ∈ lw_all := lw_g (lw_at lw_m16 213 rfl) rfl
theorem q3941 : (Jvm.Cond.fieldLink "FlareSlopesModel" (9 : Nat) "FlareSlopesModel" "now" "[I") ∈ lw_all := lw_g (lw_at lw_m16 214 rfl) rfl
theorem q3942 : (Jvm.Cond.fieldLink "FlareSlopesModel" (13 : Nat) "FlareSlopesModel" "aside" "[I") ∈ lw_all := lw_g (lw_at lw_m16 215 rfl) rfl
theorem q3943 : (Jvm.Cond.fieldLink "FlareSlopesModel" (16 : Nat) "FlareSlopesModel" "undos" "[I") ∈ lw_all := lw_g (lw_at lw_m16 216 rfl) rfl
theorem q3944 : (Jvm.Cond.fieldLink "FlareSlopesModel" (19 : Nat) "FlareSlopesModel" "saved" "[I") ∈ lw_all := lw_g (lw_at lw_m16 217 rfl) rfl
theorem q3945 : (Jvm.Cond.fieldLink "FlareSlopesModel" (22 : Nat) "FlareSlopesModel" "isSaved" "[Z") ∈ lw_all := lw_g (lw_at lw_m16 218 rfl) rfl
theorem q3946 : (Jvm.Cond.fieldLink "FlareSlopesModel" (26 : Nat) "FlareSlopesModel" "names" "[J") ∈ lw_all := lw_g (lw_at lw_m16 219 rfl) rfl
theorem q3947 : (Jvm.Cond.fieldLink "FlareSlopesModel" (30 : Nat) "FlareSlopesModel" "newNames" "[J") ∈ lw_all := lw_g (lw_at lw_m16 220 rfl) rfl
theorem q3948 : (Jvm.Cond.fieldLink "FlareSlopesModel" (184 : Nat) "FlareSlopesModel" "isThere" "Z") ∈ lw_all := lw_g (lw_at lw_m16 221 rfl) rfl
theorem q3949 : (Jvm.Cond.fieldLink "FlareSlopesModel" (188 : Nat) "FlareSlopesModel" "undoMany" "I") ∈ lw_all := lw_g (lw_at lw_m16 222 rfl) rfl
theorem q3950 : (Jvm.Cond.fieldLink "FlareSlopesModel" (33 : Nat) "FlareSlopesModel" "buffer" "[B") ∈ lw_all := lw_g (lw_at lw_m16 223 rfl) rfl
theorem q3951 : (Jvm.Cond.fieldLink "FlareSlopesModel" (51 : Nat) "FlareSlopesModel" "buffered" "I") ∈ lw_all := lw_g (lw_at lw_m16 224 rfl) rfl
theorem q3952 : (Jvm.Cond.fieldLink "FlareSlopesModel" (58 : Nat) "FlareSlopesModel" "parseCode" "I") ∈ lw_all := lw_g (lw_at lw_m16 225 rfl) rfl
theorem q3953 : (Jvm.Cond.fieldLink "FlareSlopesModel" (37 : Nat) "FlareSlopesModel" "parseAt" "I") ∈ lw_all := lw_g (lw_at lw_m16 226 rfl) rfl
theorem q3954 : (Jvm.Cond.fieldLink "FlareSlopesModel" (61 : Nat) "FlareSlopesModel" "size" "I") ∈ lw_all := lw_g (lw_at lw_m16 227 rfl) rfl
theorem q3955 : (Jvm.Cond.fieldLink "FlareSlopesModel" (72 : Nat) "FlareSlopesModel" "at" "I") ∈ lw_all := lw_g (lw_at lw_m16 228 rfl) rfl
theorem q3956 : (Jvm.Cond.fieldLink "FlareSlopesModel" (75 : Nat) "FlareSlopesModel" "start" "I") ∈ lw_all := lw_g (lw_at lw_m16 229 rfl) rfl
theorem q3957 : (Jvm.Cond.fieldLink "FlareSlopesModel" (78 : Nat) "FlareSlopesModel" "token" "I") ∈ lw_all := lw_g (lw_at lw_m16 230 rfl) rfl
theorem q3958 : (Jvm.Cond.fieldLink "FlareSlopesModel" (96 : Nat) "FlareSlopesModel" "value" "I") ∈ lw_all := lw_g (lw_at lw_m16 231 rfl) rfl
theorem q3959 : (Jvm.Cond.fieldLink "FlareSlopesModel" (89 : Nat) "FlareSlopesModel" "word" "J") ∈ lw_all := lw_g (lw_at lw_m16 232 rfl) rfl
theorem q3960 : (Jvm.Cond.fieldLink "FlareSlopesModel" (41 : Nat) "FlareSlopesModel" "page" "[B") ∈ lw_all := lw_g (lw_at lw_m16 233 rfl) rfl
theorem q3961 : (Jvm.Cond.fieldLink "FlareSlopesModel" (377 : Nat) "FlareSlopesModel" "pageSize" "I") ∈ lw_all := lw_g (lw_at lw_m16 234 rfl) rfl
theorem q4010 : (Jvm.Cond.instanceMethod ({ cls := "FlareSlopesModel", name := "thrown", desc := "()I" } : Jvm.MethodName)) ∈ lw_all := lw_g (lw_at lw_m17 43 rfl) rfl
theorem q4011 : (Jvm.Cond.selects "FlareSlopesModel" ({ cls := "FlareSlopesModel", name := "thrown", desc := "()I" } : Jvm.MethodName) ({ cls := "FlareSlopesModel", name := "thrown", desc := "()I" } : Jvm.MethodName)) ∈ lw_all := lw_g (lw_at lw_m17 44 rfl) rfl
theorem q4012 : (Jvm.Cond.code ({ cls := "FlareSlopesModel", name := "thrown", desc := "()I" } : Jvm.MethodName) prog_20_method_2_code (1 : Nat) (Option.some Jvm.ClassFile.FieldType.int)) ∈ lw_all := lw_g (lw_at lw_m17 45 rfl) rfl
theorem q4014 : (Jvm.Cond.instanceMethod ({ cls := "FlareSlopesModel", name := "append", desc := "(IIIII)I" } : Jvm.MethodName)) ∈ lw_all := lw_g (lw_at lw_m17 47 rfl) rfl
theorem q4015 : (Jvm.Cond.selects "FlareSlopesModel" ({ cls := "FlareSlopesModel", name := "append", desc := "(IIIII)I" } : Jvm.MethodName) ({ cls := "FlareSlopesModel", name := "append", desc := "(IIIII)I" } : Jvm.MethodName)) ∈ lw_all := lw_g (lw_at lw_m17 48 rfl) rfl
theorem q4016 : (Jvm.Cond.code ({ cls := "FlareSlopesModel", name := "append", desc := "(IIIII)I" } : Jvm.MethodName) prog_20_method_7_code (6 : Nat) (Option.some Jvm.ClassFile.FieldType.int)) ∈ lw_all := lw_g (lw_at lw_m17 49 rfl) rfl
theorem q4017 : (Jvm.Cond.methodLink "FlareSlopesModel" (54 : Nat) ({ cls := "FlareSlopesModel", name := "four", desc := "(I)V" } : Jvm.MethodName)) ∈ lw_all := lw_g (lw_at lw_m17 50 rfl) rfl
theorem q4019 : (Jvm.Cond.instanceMethod ({ cls := "FlareSlopesModel", name := "four", desc := "(I)V" } : Jvm.MethodName)) ∈ lw_all := lw_g (lw_at lw_m17 52 rfl) rfl
theorem q4020 : (Jvm.Cond.code ({ cls := "FlareSlopesModel", name := "four", desc := "(I)V" } : Jvm.MethodName) prog_20_method_8_code (3 : Nat) (Option.none : Option Jvm.ClassFile.FieldType)) ∈ lw_all := lw_g (lw_at lw_m17 53 rfl) rfl
theorem q4022 : (Jvm.Cond.instanceMethod ({ cls := "FlareSlopesModel", name := "parseError", desc := "()I" } : Jvm.MethodName)) ∈ lw_all := lw_g (lw_at lw_m17 55 rfl) rfl
theorem q4023 : (Jvm.Cond.selects "FlareSlopesModel" ({ cls := "FlareSlopesModel", name := "parseError", desc := "()I" } : Jvm.MethodName) ({ cls := "FlareSlopesModel", name := "parseError", desc := "()I" } : Jvm.MethodName)) ∈ lw_all := lw_g (lw_at lw_m17 56 rfl) rfl
theorem q4024 : (Jvm.Cond.code ({ cls := "FlareSlopesModel", name := "parseError", desc := "()I" } : Jvm.MethodName) prog_20_method_9_code (1 : Nat) (Option.some Jvm.ClassFile.FieldType.int)) ∈ lw_all := lw_g (lw_at lw_m17 57 rfl) rfl
theorem q4026 : (Jvm.Cond.instanceMethod ({ cls := "FlareSlopesModel", name := "errorPosition", desc := "()I" } : Jvm.MethodName)) ∈ lw_all := lw_g (lw_at lw_m17 59 rfl) rfl
theorem q4027 : (Jvm.Cond.selects "FlareSlopesModel" ({ cls := "FlareSlopesModel", name := "errorPosition", desc := "()I" } : Jvm.MethodName) ({ cls := "FlareSlopesModel", name := "errorPosition", desc := "()I" } : Jvm.MethodName)) ∈ lw_all := lw_g (lw_at lw_m17 60 rfl) rfl
theorem q4028 : (Jvm.Cond.code ({ cls := "FlareSlopesModel", name := "errorPosition", desc := "()I" } : Jvm.MethodName) prog_20_method_10_code (1 : Nat) (Option.some Jvm.ClassFile.FieldType.int)) ∈ lw_all := lw_g (lw_at lw_m17 61 rfl) rfl
theorem q4030 : (Jvm.Cond.instanceMethod ({ cls := "FlareSlopesModel", name := "buffered", desc := "()I" } : Jvm.MethodName)) ∈ lw_all := lw_g (lw_at lw_m17 63 rfl) rfl
theorem q4031 : (Jvm.Cond.selects "FlareSlopesModel" ({ cls := "FlareSlopesModel", name := "buffered", desc := "()I" } : Jvm.MethodName) ({ cls := "FlareSlopesModel", name := "buffered", desc := "()I" } : Jvm.MethodName)) ∈ lw_all := lw_g (lw_at lw_m17 64 rfl) rfl
theorem q4032 : (Jvm.Cond.code ({ cls := "FlareSlopesModel", name := "buffered", desc := "()I" } : Jvm.MethodName) prog_20_method_11_code (1 : Nat) (Option.some Jvm.ClassFile.FieldType.int)) ∈ lw_all := lw_g (lw_at lw_m17 65 rfl) rfl
theorem q4034 : (Jvm.Cond.instanceMethod ({ cls := "FlareSlopesModel", name := "load", desc := "(I)I" } : Jvm.MethodName)) ∈ lw_all := lw_g (lw_at lw_m17 67 rfl) rfl
theorem q4035 : (Jvm.Cond.selects "FlareSlopesModel" ({ cls := "FlareSlopesModel", name := "load", desc := "(I)I" } : Jvm.MethodName) ({ cls := "FlareSlopesModel", name := "load", desc := "(I)I" } : Jvm.MethodName)) ∈ lw_all := lw_g (lw_at lw_m17 68 rfl) rfl
theorem q4036 : (Jvm.Cond.code ({ cls := "FlareSlopesModel", name := "load", desc := "(I)I" } : Jvm.MethodName) prog_20_method_33_code (3 : Nat) (Option.some Jvm.ClassFile.FieldType.int)) ∈ lw_all := lw_g (lw_at lw_m17 69 rfl) rfl
theorem q4037 : (Jvm.Cond.methodLink "FlareSlopesModel" (64 : Nat) ({ cls := "FlareSlopesModel", name := "in", desc := "(III)Z" } : Jvm.MethodName)) ∈ lw_all := lw_g (lw_at lw_m17 70 rfl) rfl
theorem q4038 : (Jvm.Cond.static ({ cls := "FlareSlopesModel", name := "in", desc := "(III)Z" } : Jvm.MethodName)) ∈ lw_all := lw_g (lw_at lw_m17 71 rfl) rfl
theorem q4039 : (Jvm.Cond.code ({ cls := "FlareSlopesModel", name := "in", desc := "(III)Z" } : Jvm.MethodName) prog_20_method_3_code (3 : Nat) (Option.some Jvm.ClassFile.FieldType.boolean)) ∈ lw_all := lw_g (lw_at lw_m17 72 rfl) rfl
theorem q4040 : (Jvm.Cond.methodLink "FlareSlopesModel" (47 : Nat) ({ cls := "FlareSlopesModel", name := "may", desc := "(ZZZ)Z" } : Jvm.MethodName)) ∈ lw_all := lw_g (lw_at lw_m17 73 rfl) rfl
theorem q4042 : (Jvm.Cond.instanceMethod ({ cls := "FlareSlopesModel", name := "may", desc := "(ZZZ)Z" } : Jvm.MethodName)) ∈ lw_all := lw_g (lw_at lw_m17 75 rfl) rfl
theorem q4043 : (Jvm.Cond.code ({ cls := "FlareSlopesModel", name := "may", desc := "(ZZZ)Z" } : Jvm.MethodName) prog_20_method_4_code (4 : Nat) (Option.some Jvm.ClassFile.FieldType.boolean)) ∈ lw_all := lw_g (lw_at lw_m17 76 rfl) rfl
theorem q4044 : (Jvm.Cond.methodLink "FlareSlopesModel" (177 : Nat) ({ cls := "FlareSlopesModel", name := "copies", desc := "([II[II)V" } : Jvm.MethodName)) ∈ lw_all := lw_g (lw_at lw_m17 77 rfl) rfl
theorem q4045 : (Jvm.Cond.static ({ cls := "FlareSlopesModel", name := "copies", desc := "([II[II)V" } : Jvm.MethodName)) ∈ lw_all := lw_g (lw_at lw_m17 78 rfl) rfl
theorem q4046 : (Jvm.Cond.code ({ cls := "FlareSlopesModel", name := "copies", desc := "([II[II)V" } : Jvm.MethodName) prog_20_method_6_code (5 : Nat) (Option.none : Option Jvm.ClassFile.FieldType)) ∈ lw_all := lw_g (lw_at lw_m17 79 rfl) rfl
theorem q4047 : (Jvm.Cond.methodLink "FlareSlopesModel" (181 : Nat) ({ cls := "FlareSlopesModel", name := "reads", desc := "()V" } : Jvm.MethodName)) ∈ lw_all := lw_g (lw_at lw_m17 80 rfl) rfl
theorem q4049 : (Jvm.Cond.instanceMethod ({ cls := "FlareSlopesModel", name := "reads", desc := "()V" } : Jvm.MethodName)) ∈ lw_all := lw_g (lw_at lw_m17 82 rfl) rfl
theorem q4050 : (Jvm.Cond.code ({ cls := "FlareSlopesModel", name := "reads", desc := "()V" } : Jvm.MethodName) prog_20_method_32_code (1 : Nat) (Option.none : Option Jvm.ClassFile.FieldType)) ∈ lw_all := lw_g (lw_at lw_m17 83 rfl) rfl
theorem q4051 : (Jvm.Cond.methodLink "FlareSlopesModel" (119 : Nat) ({ cls := "FlareSlopesModel", name := "next", desc := "()V" } : Jvm.MethodName)) ∈ lw_all := lw_g (lw_at lw_m17 84 rfl) rfl
theorem q4053 : (Jvm.Cond.instanceMethod ({ cls := "FlareSlopesModel", name := "next", desc := "()V" } : Jvm.MethodName)) ∈ lw_all := lw_g (lw_at lw_m17 86 rfl) rfl
theorem q4054 : (Jvm.Cond.code ({ cls := "FlareSlopesModel", name := "next", desc := "()V" } : Jvm.MethodName) prog_20_method_15_code (1 : Nat) (Option.none : Option Jvm.ClassFile.FieldType)) ∈ lw_all := lw_g (lw_at lw_m17 87 rfl) rfl
theorem q4055 : (Jvm.Cond.methodLink "FlareSlopesModel" (81 : Nat) ({ cls := "FlareSlopesModel", name := "isLetter", desc := "(I)Z" } : Jvm.MethodName)) ∈ lw_all := lw_g (lw_at lw_m17 88 rfl) rfl
theorem q4057 : (Jvm.Cond.instanceMethod ({ cls := "FlareSlopesModel", name := "isLetter", desc := "(I)Z" } : Jvm.MethodName)) ∈ lw_all := lw_g (lw_at lw_m17 90 rfl) rfl
theorem q4058 : (Jvm.Cond.code ({ cls := "FlareSlopesModel", name := "isLetter", desc := "(I)Z" } : Jvm.MethodName) prog_20_method_12_code (2 : Nat) (Option.some Jvm.ClassFile.FieldType.boolean)) ∈ lw_all := lw_g (lw_at lw_m17 91 rfl) rfl
theorem q4059 : (Jvm.Cond.methodLink "FlareSlopesModel" (85 : Nat) ({ cls := "FlareSlopesModel", name := "wordOf", desc := "(II)J" } : Jvm.MethodName)) ∈ lw_all := lw_g (lw_at lw_m17 92 rfl) rfl
theorem q4061 : (Jvm.Cond.instanceMethod ({ cls := "FlareSlopesModel", name := "wordOf", desc := "(II)J" } : Jvm.MethodName)) ∈ lw_all := lw_g (lw_at lw_m17 94 rfl) rfl
theorem q4062 : (Jvm.Cond.code ({ cls := "FlareSlopesModel", name := "wordOf", desc := "(II)J" } : Jvm.MethodName) prog_20_method_14_code (6 : Nat) (Option.some Jvm.ClassFile.FieldType.long)) ∈ lw_all := lw_g (lw_at lw_m17 95 rfl) rfl
theorem q4063 : (Jvm.Cond.constantLong "FlareSlopesModel" (68 : Nat) (27 : Int64)) ∈ lw_all := lw_g (lw_at lw_m17 96 rfl) rfl
theorem q4064 : (Jvm.Cond.constantLong "FlareSlopesModel" (70 : Nat) (97 : Int64)) ∈ lw_all := lw_g (lw_at lw_m17 97 rfl) rfl
theorem q4065 : (Jvm.Cond.methodLink "FlareSlopesModel" (93 : Nat) ({ cls := "FlareSlopesModel", name := "isDigit", desc := "(I)Z" } : Jvm.MethodName)) ∈ lw_all := lw_g (lw_at lw_m17 98 rfl) rfl
theorem q4067 : (Jvm.Cond.instanceMethod ({ cls := "FlareSlopesModel", name := "isDigit", desc := "(I)Z" } : Jvm.MethodName)) ∈ lw_all := lw_g (lw_at lw_m17 100 rfl) rfl
theorem q4068 : (Jvm.Cond.code ({ cls := "FlareSlopesModel", name := "isDigit", desc := "(I)Z" } : Jvm.MethodName) prog_20_method_13_code (2 : Nat) (Option.some Jvm.ClassFile.FieldType.boolean)) ∈ lw_all := lw_g (lw_at lw_m17 101 rfl) rfl
theorem q4070 : (Jvm.Cond.methodLink "FlareSlopesModel" (145 : Nat) ({ cls := "FlareSlopesModel", name := "takes", desc := "(Ljava/lang/String;)V" } : Jvm.MethodName)) ∈ lw_all := lw_g (lw_at lw_m17 103 rfl) rfl
theorem q4072 : (Jvm.Cond.instanceMethod ({ cls := "FlareSlopesModel", name := "takes", desc := "(Ljava/lang/String;)V" } : Jvm.MethodName)) ∈ lw_all := lw_g (lw_at lw_m17 105 rfl) rfl
theorem q4073 : (Jvm.Cond.code ({ cls := "FlareSlopesModel", name := "takes", desc := "(Ljava/lang/String;)V" } : Jvm.MethodName) prog_20_method_19_code (2 : Nat) (Option.none : Option Jvm.ClassFile.FieldType)) ∈ lw_all := lw_g (lw_at lw_m17 106 rfl) rfl
theorem q4074 : (Jvm.Cond.methodLink "FlareSlopesModel" (112 : Nat) ({ cls := "FlareSlopesModel", name := "isWord", desc := "(Ljava/lang/String;)Z" } : Jvm.MethodName)) ∈ lw_all := lw_g (lw_at lw_m17 107 rfl) rfl
theorem q4076 : (Jvm.Cond.instanceMethod ({ cls := "FlareSlopesModel", name := "isWord", desc := "(Ljava/lang/String;)Z" } : Jvm.MethodName)) ∈ lw_all := lw_g (lw_at lw_m17 109 rfl) rfl
theorem q4077 : (Jvm.Cond.code ({ cls := "FlareSlopesModel", name := "isWord", desc := "(Ljava/lang/String;)Z" } : Jvm.MethodName) prog_20_method_18_code (3 : Nat) (Option.some Jvm.ClassFile.FieldType.boolean)) ∈ lw_all := lw_g (lw_at lw_m17 110 rfl) rfl
theorem q4078 : (Jvm.Cond.methodLink "FlareSlopesModel" (99 : Nat) ({ cls := "FlareSlopesModel", name := "is", desc := "(I)Z" } : Jvm.MethodName)) ∈ lw_all := lw_g (lw_at lw_m17 111 rfl) rfl
theorem q4080 : (Jvm.Cond.instanceMethod ({ cls := "FlareSlopesModel", name := "is", desc := "(I)Z" } : Jvm.MethodName)) ∈ lw_all := lw_g (lw_at lw_m17 113 rfl) rfl
theorem q4081 : (Jvm.Cond.code ({ cls := "FlareSlopesModel", name := "is", desc := "(I)Z" } : Jvm.MethodName) prog_20_method_17_code (2 : Nat) (Option.some Jvm.ClassFile.FieldType.boolean)) ∈ lw_all := lw_g (lw_at lw_m17 114 rfl) rfl
theorem q4082 : (Jvm.Cond.methodLink "FlareSlopesModel" (102 : Nat) ({ cls := "java/lang/String", name := "length", desc := "()I" } : Jvm.MethodName)) ∈ lw_all := lw_g (lw_at lw_m17 115 rfl) rfl
theorem q4083 : (Jvm.Cond.methodLink "FlareSlopesModel" (108 : Nat) ({ cls := "java/lang/String", name := "charAt", desc := "(I)C" } : Jvm.MethodName)) ∈ lw_all := lw_g (lw_at lw_m17 116 rfl) rfl
theorem q4084 : (Jvm.Cond.methodLink "FlareSlopesModel" (116 : Nat) ({ cls := "FlareSlopesModel", name := "faults", desc := "(I)V" } : Jvm.MethodName)) ∈ lw_all := lw_g (lw_at lw_m17 117 rfl) rfl
theorem q4086 : (Jvm.Cond.instanceMethod ({ cls := "FlareSlopesModel", name := "faults", desc := "(I)V" } : Jvm.MethodName)) ∈ lw_all := lw_g (lw_at lw_m17 119 rfl) rfl
theorem q4087 : (Jvm.Cond.code ({ cls := "FlareSlopesModel", name := "faults", desc := "(I)V" } : Jvm.MethodName) prog_20_method_16_code (2 : Nat) (Option.none : Option Jvm.ClassFile.FieldType)) ∈ lw_all := lw_g (lw_at lw_m17 120 rfl) rfl
theorem q4088 : (Jvm.Cond.methodLink "FlareSlopesModel" (149 : Nat) ({ cls := "FlareSlopesModel", name := "readsSettings", desc := "(II)V" } : Jvm.MethodName)) ∈ lw_all := lw_g (lw_at lw_m17 121 rfl) rfl
theorem q4090 : (Jvm.Cond.instanceMethod ({ cls := "FlareSlopesModel", name := "readsSettings", desc := "(II)V" } : Jvm.MethodName)) ∈ lw_all := lw_g (lw_at lw_m17 123 rfl) rfl
theorem q4091 : (Jvm.Cond.code ({ cls := "FlareSlopesModel", name := "readsSettings", desc := "(II)V" } : Jvm.MethodName) prog_20_method_24_code (4 : Nat) (Option.none : Option Jvm.ClassFile.FieldType)) ∈ lw_all := lw_g (lw_at lw_m17 124 rfl) rfl
theorem q4092 : (Jvm.Cond.methodLink "FlareSlopesModel" (122 : Nat) ({ cls := "FlareSlopesModel", name := "lowOf", desc := "(I)I" } : Jvm.MethodName)) ∈ lw_all := lw_g (lw_at lw_m17 125 rfl) rfl
theorem q4094 : (Jvm.Cond.instanceMethod ({ cls := "FlareSlopesModel", name := "lowOf", desc := "(I)I" } : Jvm.MethodName)) ∈ lw_all := lw_g (lw_at lw_m17 127 rfl) rfl
theorem q4095 : (Jvm.Cond.code ({ cls := "FlareSlopesModel", name := "lowOf", desc := "(I)I" } : Jvm.MethodName) prog_20_method_22_code (2 : Nat) (Option.some Jvm.ClassFile.FieldType.int)) ∈ lw_all := lw_g (lw_at lw_m17 128 rfl) rfl
theorem q4096 : (Jvm.Cond.methodLink "FlareSlopesModel" (126 : Nat) ({ cls := "FlareSlopesModel", name := "highOf", desc := "(I)I" } : Jvm.MethodName)) ∈ lw_all := lw_g (lw_at lw_m17 129 rfl) rfl
theorem q4098 : (Jvm.Cond.instanceMethod ({ cls := "FlareSlopesModel", name := "highOf", desc := "(I)I" } : Jvm.MethodName)) ∈ lw_all := lw_g (lw_at lw_m17 131 rfl) rfl
theorem q4099 : (Jvm.Cond.code ({ cls := "FlareSlopesModel", name := "highOf", desc := "(I)I" } : Jvm.MethodName) prog_20_method_23_code (2 : Nat) (Option.some Jvm.ClassFile.FieldType.int)) ∈ lw_all := lw_g (lw_at lw_m17 132 rfl) rfl
theorem q4100 : (Jvm.Cond.methodLink "FlareSlopesModel" (129 : Nat) ({ cls := "FlareSlopesModel", name := "number", desc := "(II)I" } : Jvm.MethodName)) ∈ lw_all := lw_g (lw_at lw_m17 133 rfl) rfl
theorem q4102 : (Jvm.Cond.instanceMethod ({ cls := "FlareSlopesModel", name := "number", desc := "(II)I" } : Jvm.MethodName)) ∈ lw_all := lw_g (lw_at lw_m17 135 rfl) rfl
theorem q4103 : (Jvm.Cond.code ({ cls := "FlareSlopesModel", name := "number", desc := "(II)I" } : Jvm.MethodName) prog_20_method_21_code (4 : Nat) (Option.some Jvm.ClassFile.FieldType.int)) ∈ lw_all := lw_g (lw_at lw_m17 136 rfl) rfl
theorem q4104 : (Jvm.Cond.methodLink "FlareSlopesModel" (152 : Nat) ({ cls := "FlareSlopesModel", name := "takesSemi", desc := "()V" } : Jvm.MethodName)) ∈ lw_all := lw_g (lw_at lw_m17 137 rfl) rfl
theorem q4106 : (Jvm.Cond.instanceMethod ({ cls := "FlareSlopesModel", name := "takesSemi", desc := "()V" } : Jvm.MethodName)) ∈ lw_all := lw_g (lw_at lw_m17 139 rfl) rfl
theorem q4107 : (Jvm.Cond.code ({ cls := "FlareSlopesModel", name := "takesSemi", desc := "()V" } : Jvm.MethodName) prog_20_method_20_code (1 : Nat) (Option.none : Option Jvm.ClassFile.FieldType)) ∈ lw_all := lw_g (lw_at lw_m17 140 rfl) rfl
theorem q4110 : (Jvm.Cond.methodLink "FlareSlopesModel" (159 : Nat) ({ cls := "FlareSlopesModel", name := "readsCabin", desc := "()V" } : Jvm.MethodName)) ∈ lw_all := lw_g (lw_at lw_m17 143 rfl) rfl
theorem q4112 : (Jvm.Cond.instanceMethod ({ cls := "FlareSlopesModel", name := "readsCabin", desc := "()V" } : Jvm.MethodName)) ∈ lw_all := lw_g (lw_at lw_m17 145 rfl) rfl
theorem q4113 : (Jvm.Cond.code ({ cls := "FlareSlopesModel", name := "readsCabin", desc := "()V" } : Jvm.MethodName) prog_20_method_28_code (2 : Nat) (Option.none : Option Jvm.ClassFile.FieldType)) ∈ lw_all := lw_g (lw_at lw_m17 146 rfl) rfl
theorem q4114 : (Jvm.Cond.methodLink "FlareSlopesModel" (133 : Nat) ({ cls := "FlareSlopesModel", name := "begins", desc := "(II)V" } : Jvm.MethodName)) ∈ lw_all := lw_g (lw_at lw_m17 147 rfl) rfl
theorem q4116 : (Jvm.Cond.instanceMethod ({ cls := "FlareSlopesModel", name := "begins", desc := "(II)V" } : Jvm.MethodName)) ∈ lw_all := lw_g (lw_at lw_m17 149 rfl) rfl
theorem q4117 : (Jvm.Cond.code ({ cls := "FlareSlopesModel", name := "begins", desc := "(II)V" } : Jvm.MethodName) prog_20_method_25_code (3 : Nat) (Option.none : Option Jvm.ClassFile.FieldType)) ∈ lw_all := lw_g (lw_at lw_m17 150 rfl) rfl
theorem q4118 : (Jvm.Cond.methodLink "FlareSlopesModel" (137 : Nat) ({ cls := "FlareSlopesModel", name := "newName", desc := "(II)J" } : Jvm.MethodName)) ∈ lw_all := lw_g (lw_at lw_m17 151 rfl) rfl
theorem q4120 : (Jvm.Cond.instanceMethod ({ cls := "FlareSlopesModel", name := "newName", desc := "(II)J" } : Jvm.MethodName)) ∈ lw_all := lw_g (lw_at lw_m17 153 rfl) rfl
theorem q4121 : (Jvm.Cond.code ({ cls := "FlareSlopesModel", name := "newName", desc := "(II)J" } : Jvm.MethodName) prog_20_method_26_code (5 : Nat) (Option.some Jvm.ClassFile.FieldType.long)) ∈ lw_all := lw_g (lw_at lw_m17 154 rfl) rfl
theorem q4122 : (Jvm.Cond.methodLink "FlareSlopesModel" (140 : Nat) ({ cls := "FlareSlopesModel", name := "readsPlace", desc := "(I)V" } : Jvm.MethodName)) ∈ lw_all := lw_g (lw_at lw_m17 155 rfl) rfl
theorem q4124 : (Jvm.Cond.instanceMethod ({ cls := "FlareSlopesModel", name := "readsPlace", desc := "(I)V" } : Jvm.MethodName)) ∈ lw_all := lw_g (lw_at lw_m17 157 rfl) rfl
theorem q4125 : (Jvm.Cond.code ({ cls := "FlareSlopesModel", name := "readsPlace", desc := "(I)V" } : Jvm.MethodName) prog_20_method_27_code (2 : Nat) (Option.none : Option Jvm.ClassFile.FieldType)) ∈ lw_all := lw_g (lw_at lw_m17 158 rfl) rfl
theorem q4127 : (Jvm.Cond.methodLink "FlareSlopesModel" (164 : Nat) ({ cls := "FlareSlopesModel", name := "readsSlope", desc := "()V" } : Jvm.MethodName)) ∈ lw_all := lw_g (lw_at lw_m17 160 rfl) rfl
theorem q4129 : (Jvm.Cond.instanceMethod ({ cls := "FlareSlopesModel", name := "readsSlope", desc := "()V" } : Jvm.MethodName)) ∈ lw_all := lw_g (lw_at lw_m17 162 rfl) rfl
theorem q4130 : (Jvm.Cond.code ({ cls := "FlareSlopesModel", name := "readsSlope", desc := "()V" } : Jvm.MethodName) prog_20_method_29_code (2 : Nat) (Option.none : Option Jvm.ClassFile.FieldType)) ∈ lw_all := lw_g (lw_at lw_m17 163 rfl) rfl
theorem q4132 : (Jvm.Cond.methodLink "FlareSlopesModel" (169 : Nat) ({ cls := "FlareSlopesModel", name := "readsRidge", desc := "()V" } : Jvm.MethodName)) ∈ lw_all := lw_g (lw_at lw_m17 165 rfl) rfl
theorem q4134 : (Jvm.Cond.instanceMethod ({ cls := "FlareSlopesModel", name := "readsRidge", desc := "()V" } : Jvm.MethodName)) ∈ lw_all := lw_g (lw_at lw_m17 167 rfl) rfl
theorem q4135 : (Jvm.Cond.code ({ cls := "FlareSlopesModel", name := "readsRidge", desc := "()V" } : Jvm.MethodName) prog_20_method_30_code (2 : Nat) (Option.none : Option Jvm.ClassFile.FieldType)) ∈ lw_all := lw_g (lw_at lw_m17 168 rfl) rfl
theorem q4137 : (Jvm.Cond.methodLink "FlareSlopesModel" (174 : Nat) ({ cls := "FlareSlopesModel", name := "readsFog", desc := "()V" } : Jvm.MethodName)) ∈ lw_all := lw_g (lw_at lw_m17 170 rfl) rfl
theorem q4139 : (Jvm.Cond.instanceMethod ({ cls := "FlareSlopesModel", name := "readsFog", desc := "()V" } : Jvm.MethodName)) ∈ lw_all := lw_g (lw_at lw_m17 172 rfl) rfl
theorem q4140 : (Jvm.Cond.code ({ cls := "FlareSlopesModel", name := "readsFog", desc := "()V" } : Jvm.MethodName) prog_20_method_31_code (2 : Nat) (Option.none : Option Jvm.ClassFile.FieldType)) ∈ lw_all := lw_g (lw_at lw_m17 173 rfl) rfl
theorem q4142 : (Jvm.Cond.instanceMethod ({ cls := "FlareSlopesModel", name := "find", desc := "(IZ)I" } : Jvm.MethodName)) ∈ lw_all := lw_g (lw_at lw_m17 175 rfl) rfl
theorem q4143 : (Jvm.Cond.selects "FlareSlopesModel" ({ cls := "FlareSlopesModel", name := "find", desc := "(IZ)I" } : Jvm.MethodName) ({ cls := "FlareSlopesModel", name := "find", desc := "(IZ)I" } : Jvm.MethodName)) ∈ lw_all := lw_g (lw_at lw_m17 176 rfl) rfl
theorem q4144 : (Jvm.Cond.code ({ cls := "FlareSlopesModel", name := "find", desc := "(IZ)I" } : Jvm.MethodName) prog_20_method_35_code (3 : Nat) (Option.some Jvm.ClassFile.FieldType.int)) ∈ lw_all := lw_g (lw_at lw_m17 177 rfl) rfl
theorem q4145 : (Jvm.Cond.methodLink "FlareSlopesModel" (191 : Nat) ({ cls := "FlareSlopesModel", name := "mayTwo", desc := "(ZZ)Z" } : Jvm.MethodName)) ∈ lw_all := lw_g (lw_at lw_m17 178 rfl) rfl
theorem q4147 : (Jvm.Cond.instanceMethod ({ cls := "FlareSlopesModel", name := "mayTwo", desc := "(ZZ)Z" } : Jvm.MethodName)) ∈ lw_all := lw_g (lw_at lw_m17 180 rfl) rfl
theorem q4148 : (Jvm.Cond.code ({ cls := "FlareSlopesModel", name := "mayTwo", desc := "(ZZ)Z" } : Jvm.MethodName) prog_20_method_5_code (3 : Nat) (Option.some Jvm.ClassFile.FieldType.boolean)) ∈ lw_all := lw_g (lw_at lw_m17 181 rfl) rfl
theorem q4149 : (Jvm.Cond.methodLink "FlareSlopesModel" (195 : Nat) ({ cls := "FlareSlopesModel", name := "named", desc := "(III)I" } : Jvm.MethodName)) ∈ lw_all := lw_g (lw_at lw_m17 182 rfl) rfl
theorem q4151 : (Jvm.Cond.instanceMethod ({ cls := "FlareSlopesModel", name := "named", desc := "(III)I" } : Jvm.MethodName)) ∈ lw_all := lw_g (lw_at lw_m17 184 rfl) rfl
theorem q4152 : (Jvm.Cond.code ({ cls := "FlareSlopesModel", name := "named", desc := "(III)I" } : Jvm.MethodName) prog_20_method_34_code (5 : Nat) (Option.some Jvm.ClassFile.FieldType.int)) ∈ lw_all := lw_g (lw_at lw_m17 185 rfl) rfl
theorem q4154 : (Jvm.Cond.instanceMethod ({ cls := "FlareSlopesModel", name := "count", desc := "(I)I" } : Jvm.MethodName)) ∈ lw_all := lw_g (lw_at lw_m17 187 rfl) rfl
theorem q4155 : (Jvm.Cond.selects "FlareSlopesModel" ({ cls := "FlareSlopesModel", name := "count", desc := "(I)I" } : Jvm.MethodName) ({ cls := "FlareSlopesModel", name := "count", desc := "(I)I" } : Jvm.MethodName)) ∈ lw_all := lw_g (lw_at lw_m17 188 rfl) rfl
theorem q4156 : (Jvm.Cond.code ({ cls := "FlareSlopesModel", name := "count", desc := "(I)I" } : Jvm.MethodName) prog_20_method_74_code (2 : Nat) (Option.some Jvm.ClassFile.FieldType.int)) ∈ lw_all := lw_g (lw_at lw_m17 189 rfl) rfl
theorem q4157 : (Jvm.Cond.methodLink "FlareSlopesModel" (281 : Nat) ({ cls := "FlareSlopesModel", name := "allVotes", desc := "()I" } : Jvm.MethodName)) ∈ lw_all := lw_g (lw_at lw_m17 190 rfl) rfl
theorem q4159 : (Jvm.Cond.instanceMethod ({ cls := "FlareSlopesModel", name := "allVotes", desc := "()I" } : Jvm.MethodName)) ∈ lw_all := lw_g (lw_at lw_m17 192 rfl) rfl
theorem q4160 : (Jvm.Cond.code ({ cls := "FlareSlopesModel", name := "allVotes", desc := "()I" } : Jvm.MethodName) prog_20_method_61_code (3 : Nat) (Option.some Jvm.ClassFile.FieldType.int)) ∈ lw_all := lw_g (lw_at lw_m17 193 rfl) rfl
theorem q4161 : (Jvm.Cond.methodLink "FlareSlopesModel" (251 : Nat) ({ cls := "FlareSlopesModel", name := "votesBy", desc := "(I)I" } : Jvm.MethodName)) ∈ lw_all := lw_g (lw_at lw_m17 194 rfl) rfl
theorem q4163 : (Jvm.Cond.instanceMethod ({ cls := "FlareSlopesModel", name := "votesBy", desc := "(I)I" } : Jvm.MethodName)) ∈ lw_all := lw_g (lw_at lw_m17 196 rfl) rfl
theorem q4164 : (Jvm.Cond.code ({ cls := "FlareSlopesModel", name := "votesBy", desc := "(I)I" } : Jvm.MethodName) prog_20_method_59_code (4 : Nat) (Option.some Jvm.ClassFile.FieldType.int)) ∈ lw_all := lw_g (lw_at lw_m17 197 rfl) rfl
theorem q4165 : (Jvm.Cond.methodLink "FlareSlopesModel" (226 : Nat) ({ cls := "FlareSlopesModel", name := "voteAt", desc := "(III)I" } : Jvm.MethodName)) ∈ lw_all := lw_g (lw_at lw_m17 198 rfl) rfl
theorem q4166 : (Jvm.Cond.static ({ cls := "FlareSlopesModel", name := "voteAt", desc := "(III)I" } : Jvm.MethodName)) ∈ lw_all := lw_g (lw_at lw_m17 199 rfl) rfl
theorem q4167 : (Jvm.Cond.code ({ cls := "FlareSlopesModel", name := "voteAt", desc := "(III)I" } : Jvm.MethodName) prog_20_method_48_code (3 : Nat) (Option.some Jvm.ClassFile.FieldType.int)) ∈ lw_all := lw_g (lw_at lw_m17 200 rfl) rfl
theorem q4168 : (Jvm.Cond.methodLink "FlareSlopesModel" (284 : Nat) ({ cls := "FlareSlopesModel", name := "bitsOfSlopes", desc := "(I)I" } : Jvm.MethodName)) ∈ lw_all := lw_g (lw_at lw_m17 201 rfl) rfl
theorem q4169 : (Jvm.Cond.static ({ cls := "FlareSlopesModel", name := "bitsOfSlopes", desc := "(I)I" } : Jvm.MethodName)) ∈ lw_all := lw_g (lw_at lw_m17 202 rfl) rfl
theorem q4170 : (Jvm.Cond.code ({ cls := "FlareSlopesModel", name := "bitsOfSlopes", desc := "(I)I" } : Jvm.MethodName) prog_20_method_70_code (3 : Nat) (Option.some Jvm.ClassFile.FieldType.int)) ∈ lw_all := lw_g (lw_at lw_m17 203 rfl) rfl
theorem q4171 : (Jvm.Cond.methodLink "FlareSlopesModel" (287 : Nat) ({ cls := "FlareSlopesModel", name := "pairs", desc := "()I" } : Jvm.MethodName)) ∈ lw_all := lw_g (lw_at lw_m17 204 rfl) rfl
theorem q4173 : (Jvm.Cond.instanceMethod ({ cls := "FlareSlopesModel", name := "pairs", desc := "()I" } : Jvm.MethodName)) ∈ lw_all := lw_g (lw_at lw_m17 206 rfl) rfl
theorem q4174 : (Jvm.Cond.code ({ cls := "FlareSlopesModel", name := "pairs", desc := "()I" } : Jvm.MethodName) prog_20_method_71_code (4 : Nat) (Option.some Jvm.ClassFile.FieldType.int)) ∈ lw_all := lw_g (lw_at lw_m17 207 rfl) rfl
theorem q4175 : (Jvm.Cond.methodLink "FlareSlopesModel" (217 : Nat) ({ cls := "FlareSlopesModel", name := "seeOneAnother", desc := "(II)Z" } : Jvm.MethodName)) ∈ lw_all := lw_g (lw_at lw_m17 208 rfl) rfl
theorem q4177 : (Jvm.Cond.instanceMethod ({ cls := "FlareSlopesModel", name := "seeOneAnother", desc := "(II)Z" } : Jvm.MethodName)) ∈ lw_all := lw_g (lw_at lw_m17 210 rfl) rfl
theorem q4178 : (Jvm.Cond.code ({ cls := "FlareSlopesModel", name := "seeOneAnother", desc := "(II)Z" } : Jvm.MethodName) prog_20_method_43_code (3 : Nat) (Option.some Jvm.ClassFile.FieldType.boolean)) ∈ lw_all := lw_g (lw_at lw_m17 211 rfl) rfl
theorem q4179 : (Jvm.Cond.methodLink "FlareSlopesModel" (210 : Nat) ({ cls := "FlareSlopesModel", name := "cabinAt", desc := "(I)I" } : Jvm.MethodName)) ∈ lw_all := lw_g (lw_at lw_m17 212 rfl) rfl
theorem q4180 : (Jvm.Cond.static ({ cls := "FlareSlopesModel", name := "cabinAt", desc := "(I)I" } : Jvm.MethodName)) ∈ lw_all := lw_g (lw_at lw_m17 213 rfl) rfl
theorem q4181 : (Jvm.Cond.code ({ cls := "FlareSlopesModel", name := "cabinAt", desc := "(I)I" } : Jvm.MethodName) prog_20_method_38_code (1 : Nat) (Option.some Jvm.ClassFile.FieldType.int)) ∈ lw_all := lw_g (lw_at lw_m17 214 rfl) rfl
theorem q4182 : (Jvm.Cond.methodLink "FlareSlopesModel" (213 : Nat) ({ cls := "FlareSlopesModel", name := "see", desc := "(II)Z" } : Jvm.MethodName)) ∈ lw_all := lw_g (lw_at lw_m17 215 rfl) rfl
theorem q4184 : (Jvm.Cond.instanceMethod ({ cls := "FlareSlopesModel", name := "see", desc := "(II)Z" } : Jvm.MethodName)) ∈ lw_all := lw_g (lw_at lw_m17 217 rfl) rfl
theorem q4185 : (Jvm.Cond.code ({ cls := "FlareSlopesModel", name := "see", desc := "(II)Z" } : Jvm.MethodName) prog_20_method_42_code (6 : Nat) (Option.some Jvm.ClassFile.FieldType.boolean)) ∈ lw_all := lw_g (lw_at lw_m17 218 rfl) rfl
theorem q4186 : (Jvm.Cond.methodLink "FlareSlopesModel" (204 : Nat) ({ cls := "FlareSlopesModel", name := "sightNow", desc := "()I" } : Jvm.MethodName)) ∈ lw_all := lw_g (lw_at lw_m17 219 rfl) rfl
theorem q4188 : (Jvm.Cond.instanceMethod ({ cls := "FlareSlopesModel", name := "sightNow", desc := "()I" } : Jvm.MethodName)) ∈ lw_all := lw_g (lw_at lw_m17 221 rfl) rfl
theorem q4189 : (Jvm.Cond.code ({ cls := "FlareSlopesModel", name := "sightNow", desc := "()I" } : Jvm.MethodName) prog_20_method_40_code (3 : Nat) (Option.some Jvm.ClassFile.FieldType.int)) ∈ lw_all := lw_g (lw_at lw_m17 222 rfl) rfl
theorem q4190 : (Jvm.Cond.methodLink "FlareSlopesModel" (199 : Nat) ({ cls := "java/lang/Math", name := "max", desc := "(II)I" } : Jvm.MethodName)) ∈ lw_all := lw_g (lw_at lw_m17 223 rfl) rfl
theorem q4191 : (Jvm.Cond.methodLink "FlareSlopesModel" (207 : Nat) ({ cls := "FlareSlopesModel", name := "parting", desc := "(II)I" } : Jvm.MethodName)) ∈ lw_all := lw_g (lw_at lw_m17 224 rfl) rfl
theorem q4193 : (Jvm.Cond.instanceMethod ({ cls := "FlareSlopesModel", name := "parting", desc := "(II)I" } : Jvm.MethodName)) ∈ lw_all := lw_g (lw_at lw_m17 226 rfl) rfl
theorem q4194 : (Jvm.Cond.code ({ cls := "FlareSlopesModel", name := "parting", desc := "(II)I" } : Jvm.MethodName) prog_20_method_41_code (6 : Nat) (Option.some Jvm.ClassFile.FieldType.int)) ∈ lw_all := lw_g (lw_at lw_m17 227 rfl) rfl
theorem q4195 : (Jvm.Cond.methodLink "FlareSlopesModel" (290 : Nat) ({ cls := "FlareSlopesModel", name := "withoutFlares", desc := "()I" } : Jvm.MethodName)) ∈ lw_all := lw_g (lw_at lw_m17 228 rfl) rfl
theorem q4197 : (Jvm.Cond.instanceMethod ({ cls := "FlareSlopesModel", name := "withoutFlares", desc := "()I" } : Jvm.MethodName)) ∈ lw_all := lw_g (lw_at lw_m17 230 rfl) rfl
theorem q4198 : (Jvm.Cond.code ({ cls := "FlareSlopesModel", name := "withoutFlares", desc := "()I" } : Jvm.MethodName) prog_20_method_72_code (3 : Nat) (Option.some Jvm.ClassFile.FieldType.int)) ∈ lw_all := lw_g (lw_at lw_m17 231 rfl) rfl
theorem q4199 : (Jvm.Cond.methodLink "FlareSlopesModel" (293 : Nat) ({ cls := "FlareSlopesModel", name := "redVotes", desc := "()I" } : Jvm.MethodName)) ∈ lw_all := lw_g (lw_at lw_m17 232 rfl) rfl
theorem q4201 : (Jvm.Cond.instanceMethod ({ cls := "FlareSlopesModel", name := "redVotes", desc := "()I" } : Jvm.MethodName)) ∈ lw_all := lw_g (lw_at lw_m17 234 rfl) rfl
theorem q4202 : (Jvm.Cond.code ({ cls := "FlareSlopesModel", name := "redVotes", desc := "()I" } : Jvm.MethodName) prog_20_method_73_code (3 : Nat) (Option.some Jvm.ClassFile.FieldType.int)) ∈ lw_all := lw_g (lw_at lw_m17 235 rfl) rfl
theorem q4203 : (Jvm.Cond.methodLink "FlareSlopesModel" (235 : Nat) ({ cls := "FlareSlopesModel", name := "isRed", desc := "(I)Z" } : Jvm.MethodName)) ∈ lw_all := lw_g (lw_at lw_m17 236 rfl) rfl
theorem q4204 : (Jvm.Cond.static ({ cls := "FlareSlopesModel", name := "isRed", desc := "(I)Z" } : Jvm.MethodName)) ∈ lw_all := lw_g (lw_at lw_m17 237 rfl) rfl
theorem q4205 : (Jvm.Cond.code ({ cls := "FlareSlopesModel", name := "isRed", desc := "(I)Z" } : Jvm.MethodName) prog_20_method_51_code (1 : Nat) (Option.some Jvm.ClassFile.FieldType.boolean)) ∈ lw_all := lw_g (lw_at lw_m17 238 rfl) rfl
theorem q4207 : (Jvm.Cond.instanceMethod ({ cls := "FlareSlopesModel", name := "setting", desc := "(I)I" } : Jvm.MethodName)) ∈ lw_all := lw_g (lw_at lw_m18 0 rfl) rfl
theorem q4208 : (Jvm.Cond.selects "FlareSlopesModel" ({ cls := "FlareSlopesModel", name := "setting", desc := "(I)I" } : Jvm.MethodName) ({ cls := "FlareSlopesModel", name := "setting", desc := "(I)I" } : Jvm.MethodName)) ∈ lw_all := lw_g (lw_at lw_m18 1 rfl) rfl
theorem q4209 : (Jvm.Cond.code ({ cls := "FlareSlopesModel", name := "setting", desc := "(I)I" } : Jvm.MethodName) prog_20_method_75_code (2 : Nat) (Option.some Jvm.ClassFile.FieldType.int)) ∈ lw_all := lw_g (lw_at lw_m18 2 rfl) rfl
theorem q4211 : (Jvm.Cond.instanceMethod ({ cls := "FlareSlopesModel", name := "cabin", desc := "(II)I" } : Jvm.MethodName)) ∈ lw_all := lw_g (lw_at lw_m18 4 rfl) rfl
theorem q4212 : (Jvm.Cond.selects "FlareSlopesModel" ({ cls := "FlareSlopesModel", name := "cabin", desc := "(II)I" } : Jvm.MethodName) ({ cls := "FlareSlopesModel", name := "cabin", desc := "(II)I" } : Jvm.MethodName)) ∈ lw_all := lw_g (lw_at lw_m18 5 rfl) rfl
theorem q4213 : (Jvm.Cond.code ({ cls := "FlareSlopesModel", name := "cabin", desc := "(II)I" } : Jvm.MethodName) prog_20_method_78_code (3 : Nat) (Option.some Jvm.ClassFile.FieldType.int)) ∈ lw_all := lw_g (lw_at lw_m18 6 rfl) rfl
theorem q4214 : (Jvm.Cond.methodLink "FlareSlopesModel" (275 : Nat) ({ cls := "FlareSlopesModel", name := "isCabin", desc := "(I)Z" } : Jvm.MethodName)) ∈ lw_all := lw_g (lw_at lw_m18 7 rfl) rfl
theorem q4216 : (Jvm.Cond.instanceMethod ({ cls := "FlareSlopesModel", name := "isCabin", desc := "(I)Z" } : Jvm.MethodName)) ∈ lw_all := lw_g (lw_at lw_m18 9 rfl) rfl
theorem q4217 : (Jvm.Cond.code ({ cls := "FlareSlopesModel", name := "isCabin", desc := "(I)Z" } : Jvm.MethodName) prog_20_method_36_code (2 : Nat) (Option.some Jvm.ClassFile.FieldType.boolean)) ∈ lw_all := lw_g (lw_at lw_m18 10 rfl) rfl
theorem q4218 : (Jvm.Cond.methodLink "FlareSlopesModel" (300 : Nat) ({ cls := "FlareSlopesModel", name := "votesOf", desc := "(I)I" } : Jvm.MethodName)) ∈ lw_all := lw_g (lw_at lw_m18 11 rfl) rfl
theorem q4220 : (Jvm.Cond.instanceMethod ({ cls := "FlareSlopesModel", name := "votesOf", desc := "(I)I" } : Jvm.MethodName)) ∈ lw_all := lw_g (lw_at lw_m18 13 rfl) rfl
theorem q4221 : (Jvm.Cond.code ({ cls := "FlareSlopesModel", name := "votesOf", desc := "(I)I" } : Jvm.MethodName) prog_20_method_60_code (5 : Nat) (Option.some Jvm.ClassFile.FieldType.int)) ∈ lw_all := lw_g (lw_at lw_m18 14 rfl) rfl
theorem q4222 : (Jvm.Cond.methodLink "FlareSlopesModel" (232 : Nat) ({ cls := "FlareSlopesModel", name := "voteOf", desc := "(III)I" } : Jvm.MethodName)) ∈ lw_all := lw_g (lw_at lw_m18 15 rfl) rfl
theorem q4224 : (Jvm.Cond.instanceMethod ({ cls := "FlareSlopesModel", name := "voteOf", desc := "(III)I" } : Jvm.MethodName)) ∈ lw_all := lw_g (lw_at lw_m18 17 rfl) rfl
theorem q4225 : (Jvm.Cond.code ({ cls := "FlareSlopesModel", name := "voteOf", desc := "(III)I" } : Jvm.MethodName) prog_20_method_49_code (4 : Nat) (Option.some Jvm.ClassFile.FieldType.int)) ∈ lw_all := lw_g (lw_at lw_m18 18 rfl) rfl
theorem q4226 : (Jvm.Cond.methodLink "FlareSlopesModel" (303 : Nat) ({ cls := "FlareSlopesModel", name := "slopesSeen", desc := "(I)I" } : Jvm.MethodName)) ∈ lw_all := lw_g (lw_at lw_m18 19 rfl) rfl
theorem q4228 : (Jvm.Cond.instanceMethod ({ cls := "FlareSlopesModel", name := "slopesSeen", desc := "(I)I" } : Jvm.MethodName)) ∈ lw_all := lw_g (lw_at lw_m18 21 rfl) rfl
theorem q4229 : (Jvm.Cond.code ({ cls := "FlareSlopesModel", name := "slopesSeen", desc := "(I)I" } : Jvm.MethodName) prog_20_method_76_code (4 : Nat) (Option.some Jvm.ClassFile.FieldType.int)) ∈ lw_all := lw_g (lw_at lw_m18 22 rfl) rfl
theorem q4230 : (Jvm.Cond.methodLink "FlareSlopesModel" (220 : Nat) ({ cls := "FlareSlopesModel", name := "slopeAt", desc := "(I)I" } : Jvm.MethodName)) ∈ lw_all := lw_g (lw_at lw_m18 23 rfl) rfl
theorem q4231 : (Jvm.Cond.static ({ cls := "FlareSlopesModel", name := "slopeAt", desc := "(I)I" } : Jvm.MethodName)) ∈ lw_all := lw_g (lw_at lw_m18 24 rfl) rfl
theorem q4232 : (Jvm.Cond.code ({ cls := "FlareSlopesModel", name := "slopeAt", desc := "(I)I" } : Jvm.MethodName) prog_20_method_39_code (1 : Nat) (Option.some Jvm.ClassFile.FieldType.int)) ∈ lw_all := lw_g (lw_at lw_m18 25 rfl) rfl
theorem q4233 : (Jvm.Cond.methodLink "FlareSlopesModel" (306 : Nat) ({ cls := "FlareSlopesModel", name := "slopesKnown", desc := "(I)I" } : Jvm.MethodName)) ∈ lw_all := lw_g (lw_at lw_m18 26 rfl) rfl
theorem q4235 : (Jvm.Cond.instanceMethod ({ cls := "FlareSlopesModel", name := "slopesKnown", desc := "(I)I" } : Jvm.MethodName)) ∈ lw_all := lw_g (lw_at lw_m18 28 rfl) rfl
theorem q4236 : (Jvm.Cond.code ({ cls := "FlareSlopesModel", name := "slopesKnown", desc := "(I)I" } : Jvm.MethodName) prog_20_method_77_code (4 : Nat) (Option.some Jvm.ClassFile.FieldType.int)) ∈ lw_all := lw_g (lw_at lw_m18 29 rfl) rfl
theorem q4237 : (Jvm.Cond.methodLink "FlareSlopesModel" (296 : Nat) ({ cls := "FlareSlopesModel", name := "hasVote", desc := "(IIZ)Z" } : Jvm.MethodName)) ∈ lw_all := lw_g (lw_at lw_m18 30 rfl) rfl
theorem q4239 : (Jvm.Cond.instanceMethod ({ cls := "FlareSlopesModel", name := "hasVote", desc := "(IIZ)Z" } : Jvm.MethodName)) ∈ lw_all := lw_g (lw_at lw_m18 32 rfl) rfl
theorem q4240 : (Jvm.Cond.code ({ cls := "FlareSlopesModel", name := "hasVote", desc := "(IIZ)Z" } : Jvm.MethodName) prog_20_method_102_code (6 : Nat) (Option.some Jvm.ClassFile.FieldType.boolean)) ∈ lw_all := lw_g (lw_at lw_m18 33 rfl) rfl
theorem q4242 : (Jvm.Cond.instanceMethod ({ cls := "FlareSlopesModel", name := "slope", desc := "(II)I" } : Jvm.MethodName)) ∈ lw_all := lw_g (lw_at lw_m18 35 rfl) rfl
theorem q4243 : (Jvm.Cond.selects "FlareSlopesModel" ({ cls := "FlareSlopesModel", name := "slope", desc := "(II)I" } : Jvm.MethodName) ({ cls := "FlareSlopesModel", name := "slope", desc := "(II)I" } : Jvm.MethodName)) ∈ lw_all := lw_g (lw_at lw_m18 36 rfl) rfl
theorem q4244 : (Jvm.Cond.code ({ cls := "FlareSlopesModel", name := "slope", desc := "(II)I" } : Jvm.MethodName) prog_20_method_82_code (3 : Nat) (Option.some Jvm.ClassFile.FieldType.int)) ∈ lw_all := lw_g (lw_at lw_m18 37 rfl) rfl
theorem q4245 : (Jvm.Cond.methodLink "FlareSlopesModel" (278 : Nat) ({ cls := "FlareSlopesModel", name := "isSlope", desc := "(I)Z" } : Jvm.MethodName)) ∈ lw_all := lw_g (lw_at lw_m18 38 rfl) rfl
theorem q4247 : (Jvm.Cond.instanceMethod ({ cls := "FlareSlopesModel", name := "isSlope", desc := "(I)Z" } : Jvm.MethodName)) ∈ lw_all := lw_g (lw_at lw_m18 40 rfl) rfl
theorem q4248 : (Jvm.Cond.code ({ cls := "FlareSlopesModel", name := "isSlope", desc := "(I)Z" } : Jvm.MethodName) prog_20_method_37_code (2 : Nat) (Option.some Jvm.ClassFile.FieldType.boolean)) ∈ lw_all := lw_g (lw_at lw_m18 41 rfl) rfl
theorem q4249 : (Jvm.Cond.methodLink "FlareSlopesModel" (309 : Nat) ({ cls := "FlareSlopesModel", name := "closersOf", desc := "(I)I" } : Jvm.MethodName)) ∈ lw_all := lw_g (lw_at lw_m18 42 rfl) rfl
theorem q4251 : (Jvm.Cond.instanceMethod ({ cls := "FlareSlopesModel", name := "closersOf", desc := "(I)I" } : Jvm.MethodName)) ∈ lw_all := lw_g (lw_at lw_m18 44 rfl) rfl
theorem q4252 : (Jvm.Cond.code ({ cls := "FlareSlopesModel", name := "closersOf", desc := "(I)I" } : Jvm.MethodName) prog_20_method_58_code (4 : Nat) (Option.some Jvm.ClassFile.FieldType.int)) ∈ lw_all := lw_g (lw_at lw_m18 45 rfl) rfl
theorem q4253 : (Jvm.Cond.methodLink "FlareSlopesModel" (248 : Nat) ({ cls := "FlareSlopesModel", name := "holds", desc := "(II)Z" } : Jvm.MethodName)) ∈ lw_all := lw_g (lw_at lw_m18 46 rfl) rfl
theorem q4255 : (Jvm.Cond.instanceMethod ({ cls := "FlareSlopesModel", name := "holds", desc := "(II)Z" } : Jvm.MethodName)) ∈ lw_all := lw_g (lw_at lw_m18 48 rfl) rfl
theorem q4256 : (Jvm.Cond.code ({ cls := "FlareSlopesModel", name := "holds", desc := "(II)Z" } : Jvm.MethodName) prog_20_method_56_code (3 : Nat) (Option.some Jvm.ClassFile.FieldType.boolean)) ∈ lw_all := lw_g (lw_at lw_m18 49 rfl) rfl
theorem q4257 : (Jvm.Cond.methodLink "FlareSlopesModel" (245 : Nat) ({ cls := "FlareSlopesModel", name := "has", desc := "(II)Z" } : Jvm.MethodName)) ∈ lw_all := lw_g (lw_at lw_m18 50 rfl) rfl
theorem q4258 : (Jvm.Cond.static ({ cls := "FlareSlopesModel", name := "has", desc := "(II)Z" } : Jvm.MethodName)) ∈ lw_all := lw_g (lw_at lw_m18 51 rfl) rfl
theorem q4259 : (Jvm.Cond.code ({ cls := "FlareSlopesModel", name := "has", desc := "(II)Z" } : Jvm.MethodName) prog_20_method_45_code (2 : Nat) (Option.some Jvm.ClassFile.FieldType.boolean)) ∈ lw_all := lw_g (lw_at lw_m18 52 rfl) rfl
theorem q4260 : (Jvm.Cond.methodLink "FlareSlopesModel" (312 : Nat) ({ cls := "FlareSlopesModel", name := "bits", desc := "(I)I" } : Jvm.MethodName)) ∈ lw_all := lw_g (lw_at lw_m18 53 rfl) rfl
theorem q4261 : (Jvm.Cond.static ({ cls := "FlareSlopesModel", name := "bits", desc := "(I)I" } : Jvm.MethodName)) ∈ lw_all := lw_g (lw_at lw_m18 54 rfl) rfl
theorem q4262 : (Jvm.Cond.code ({ cls := "FlareSlopesModel", name := "bits", desc := "(I)I" } : Jvm.MethodName) prog_20_method_46_code (3 : Nat) (Option.some Jvm.ClassFile.FieldType.int)) ∈ lw_all := lw_g (lw_at lw_m18 55 rfl) rfl
theorem q4263 : (Jvm.Cond.methodLink "FlareSlopesModel" (315 : Nat) ({ cls := "FlareSlopesModel", name := "seers0", desc := "(I)I" } : Jvm.MethodName)) ∈ lw_all := lw_g (lw_at lw_m18 56 rfl) rfl
theorem q4265 : (Jvm.Cond.instanceMethod ({ cls := "FlareSlopesModel", name := "seers0", desc := "(I)I" } : Jvm.MethodName)) ∈ lw_all := lw_g (lw_at lw_m18 58 rfl) rfl
theorem q4266 : (Jvm.Cond.code ({ cls := "FlareSlopesModel", name := "seers0", desc := "(I)I" } : Jvm.MethodName) prog_20_method_79_code (4 : Nat) (Option.some Jvm.ClassFile.FieldType.int)) ∈ lw_all := lw_g (lw_at lw_m18 59 rfl) rfl
theorem q4267 : (Jvm.Cond.methodLink "FlareSlopesModel" (318 : Nat) ({ cls := "FlareSlopesModel", name := "votesOn", desc := "(I)I" } : Jvm.MethodName)) ∈ lw_all := lw_g (lw_at lw_m18 60 rfl) rfl
theorem q4269 : (Jvm.Cond.instanceMethod ({ cls := "FlareSlopesModel", name := "votesOn", desc := "(I)I" } : Jvm.MethodName)) ∈ lw_all := lw_g (lw_at lw_m18 62 rfl) rfl
theorem q4270 : (Jvm.Cond.code ({ cls := "FlareSlopesModel", name := "votesOn", desc := "(I)I" } : Jvm.MethodName) prog_20_method_80_code (4 : Nat) (Option.some Jvm.ClassFile.FieldType.int)) ∈ lw_all := lw_g (lw_at lw_m18 63 rfl) rfl
theorem q4271 : (Jvm.Cond.methodLink "FlareSlopesModel" (321 : Nat) ({ cls := "FlareSlopesModel", name := "allWeights", desc := "(IZ)I" } : Jvm.MethodName)) ∈ lw_all := lw_g (lw_at lw_m18 64 rfl) rfl
theorem q4273 : (Jvm.Cond.instanceMethod ({ cls := "FlareSlopesModel", name := "allWeights", desc := "(IZ)I" } : Jvm.MethodName)) ∈ lw_all := lw_g (lw_at lw_m18 66 rfl) rfl
theorem q4274 : (Jvm.Cond.code ({ cls := "FlareSlopesModel", name := "allWeights", desc := "(IZ)I" } : Jvm.MethodName) prog_20_method_81_code (5 : Nat) (Option.some Jvm.ClassFile.FieldType.int)) ∈ lw_all := lw_g (lw_at lw_m18 67 rfl) rfl
theorem q4275 : (Jvm.Cond.methodLink "FlareSlopesModel" (241 : Nat) ({ cls := "FlareSlopesModel", name := "sum", desc := "(IIZ)I" } : Jvm.MethodName)) ∈ lw_all := lw_g (lw_at lw_m18 68 rfl) rfl
theorem q4277 : (Jvm.Cond.instanceMethod ({ cls := "FlareSlopesModel", name := "sum", desc := "(IIZ)I" } : Jvm.MethodName)) ∈ lw_all := lw_g (lw_at lw_m18 70 rfl) rfl
theorem q4278 : (Jvm.Cond.code ({ cls := "FlareSlopesModel", name := "sum", desc := "(IIZ)I" } : Jvm.MethodName) prog_20_method_54_code (6 : Nat) (Option.some Jvm.ClassFile.FieldType.int)) ∈ lw_all := lw_g (lw_at lw_m18 71 rfl) rfl
theorem q4279 : (Jvm.Cond.methodLink "FlareSlopesModel" (238 : Nat) ({ cls := "FlareSlopesModel", name := "weight", desc := "(II)I" } : Jvm.MethodName)) ∈ lw_all := lw_g (lw_at lw_m18 72 rfl) rfl
theorem q4281 : (Jvm.Cond.instanceMethod ({ cls := "FlareSlopesModel", name := "weight", desc := "(II)I" } : Jvm.MethodName)) ∈ lw_all := lw_g (lw_at lw_m18 74 rfl) rfl
theorem q4282 : (Jvm.Cond.code ({ cls := "FlareSlopesModel", name := "weight", desc := "(II)I" } : Jvm.MethodName) prog_20_method_53_code (3 : Nat) (Option.some Jvm.ClassFile.FieldType.int)) ∈ lw_all := lw_g (lw_at lw_m18 75 rfl) rfl
theorem q4283 : (Jvm.Cond.methodLink "FlareSlopesModel" (229 : Nat) ({ cls := "FlareSlopesModel", name := "far", desc := "(II)I" } : Jvm.MethodName)) ∈ lw_all := lw_g (lw_at lw_m18 76 rfl) rfl
theorem q4285 : (Jvm.Cond.instanceMethod ({ cls := "FlareSlopesModel", name := "far", desc := "(II)I" } : Jvm.MethodName)) ∈ lw_all := lw_g (lw_at lw_m18 78 rfl) rfl
theorem q4286 : (Jvm.Cond.code ({ cls := "FlareSlopesModel", name := "far", desc := "(II)I" } : Jvm.MethodName) prog_20_method_47_code (3 : Nat) (Option.some Jvm.ClassFile.FieldType.int)) ∈ lw_all := lw_g (lw_at lw_m18 79 rfl) rfl
theorem q4287 : (Jvm.Cond.methodLink "FlareSlopesModel" (223 : Nat) ({ cls := "java/lang/Math", name := "abs", desc := "(I)I" } : Jvm.MethodName)) ∈ lw_all := lw_g (lw_at lw_m18 80 rfl) rfl
theorem q4289 : (Jvm.Cond.instanceMethod ({ cls := "FlareSlopesModel", name := "ridge", desc := "(II)I" } : Jvm.MethodName)) ∈ lw_all := lw_g (lw_at lw_m18 82 rfl) rfl
theorem q4290 : (Jvm.Cond.selects "FlareSlopesModel" ({ cls := "FlareSlopesModel", name := "ridge", desc := "(II)I" } : Jvm.MethodName) ({ cls := "FlareSlopesModel", name := "ridge", desc := "(II)I" } : Jvm.MethodName)) ∈ lw_all := lw_g (lw_at lw_m18 83 rfl) rfl
theorem q4291 : (Jvm.Cond.code ({ cls := "FlareSlopesModel", name := "ridge", desc := "(II)I" } : Jvm.MethodName) prog_20_method_83_code (3 : Nat) (Option.some Jvm.ClassFile.FieldType.int)) ∈ lw_all := lw_g (lw_at lw_m18 84 rfl) rfl
theorem q4293 : (Jvm.Cond.instanceMethod ({ cls := "FlareSlopesModel", name := "fog", desc := "(II)I" } : Jvm.MethodName)) ∈ lw_all := lw_g (lw_at lw_m18 86 rfl) rfl
theorem q4294 : (Jvm.Cond.selects "FlareSlopesModel" ({ cls := "FlareSlopesModel", name := "fog", desc := "(II)I" } : Jvm.MethodName) ({ cls := "FlareSlopesModel", name := "fog", desc := "(II)I" } : Jvm.MethodName)) ∈ lw_all := lw_g (lw_at lw_m18 87 rfl) rfl
theorem q4295 : (Jvm.Cond.code ({ cls := "FlareSlopesModel", name := "fog", desc := "(II)I" } : Jvm.MethodName) prog_20_method_84_code (3 : Nat) (Option.some Jvm.ClassFile.FieldType.int)) ∈ lw_all := lw_g (lw_at lw_m18 88 rfl) rfl
theorem q4297 : (Jvm.Cond.instanceMethod ({ cls := "FlareSlopesModel", name := "sight", desc := "()I" } : Jvm.MethodName)) ∈ lw_all := lw_g (lw_at lw_m18 90 rfl) rfl
theorem q4298 : (Jvm.Cond.selects "FlareSlopesModel" ({ cls := "FlareSlopesModel", name := "sight", desc := "()I" } : Jvm.MethodName) ({ cls := "FlareSlopesModel", name := "sight", desc := "()I" } : Jvm.MethodName)) ∈ lw_all := lw_g (lw_at lw_m18 91 rfl) rfl
theorem q4299 : (Jvm.Cond.code ({ cls := "FlareSlopesModel", name := "sight", desc := "()I" } : Jvm.MethodName) prog_20_method_86_code (1 : Nat) (Option.some Jvm.ClassFile.FieldType.int)) ∈ lw_all := lw_g (lw_at lw_m18 92 rfl) rfl
theorem q4300 : (Jvm.Cond.methodLink "FlareSlopesModel" (325 : Nat) ({ cls := "FlareSlopesModel", name := "mayAsk", desc := "()Z" } : Jvm.MethodName)) ∈ lw_all := lw_g (lw_at lw_m18 93 rfl) rfl
theorem q4302 : (Jvm.Cond.instanceMethod ({ cls := "FlareSlopesModel", name := "mayAsk", desc := "()Z" } : Jvm.MethodName)) ∈ lw_all := lw_g (lw_at lw_m18 95 rfl) rfl
theorem q4303 : (Jvm.Cond.code ({ cls := "FlareSlopesModel", name := "mayAsk", desc := "()Z" } : Jvm.MethodName) prog_20_method_85_code (1 : Nat) (Option.some Jvm.ClassFile.FieldType.boolean)) ∈ lw_all := lw_g (lw_at lw_m18 96 rfl) rfl
theorem q4305 : (Jvm.Cond.instanceMethod ({ cls := "FlareSlopesModel", name := "sees", desc := "(II)Z" } : Jvm.MethodName)) ∈ lw_all := lw_g (lw_at lw_m18 98 rfl) rfl
theorem q4306 : (Jvm.Cond.selects "FlareSlopesModel" ({ cls := "FlareSlopesModel", name := "sees", desc := "(II)Z" } : Jvm.MethodName) ({ cls := "FlareSlopesModel", name := "sees", desc := "(II)Z" } : Jvm.MethodName)) ∈ lw_all := lw_g (lw_at lw_m18 99 rfl) rfl
theorem q4307 : (Jvm.Cond.code ({ cls := "FlareSlopesModel", name := "sees", desc := "(II)Z" } : Jvm.MethodName) prog_20_method_87_code (3 : Nat) (Option.some Jvm.ClassFile.FieldType.boolean)) ∈ lw_all := lw_g (lw_at lw_m18 100 rfl) rfl
theorem q4308 : (Jvm.Cond.methodLink "FlareSlopesModel" (329 : Nat) ({ cls := "FlareSlopesModel", name := "mayCabins", desc := "(II)Z" } : Jvm.MethodName)) ∈ lw_all := lw_g (lw_at lw_m18 101 rfl) rfl
theorem q4310 : (Jvm.Cond.instanceMethod ({ cls := "FlareSlopesModel", name := "mayCabins", desc := "(II)Z" } : Jvm.MethodName)) ∈ lw_all := lw_g (lw_at lw_m18 103 rfl) rfl
theorem q4311 : (Jvm.Cond.code ({ cls := "FlareSlopesModel", name := "mayCabins", desc := "(II)Z" } : Jvm.MethodName) prog_20_method_69_code (3 : Nat) (Option.some Jvm.ClassFile.FieldType.boolean)) ∈ lw_all := lw_g (lw_at lw_m18 104 rfl) rfl
theorem q4313 : (Jvm.Cond.instanceMethod ({ cls := "FlareSlopesModel", name := "seesSlope", desc := "(II)Z" } : Jvm.MethodName)) ∈ lw_all := lw_g (lw_at lw_m18 106 rfl) rfl
theorem q4314 : (Jvm.Cond.selects "FlareSlopesModel" ({ cls := "FlareSlopesModel", name := "seesSlope", desc := "(II)Z" } : Jvm.MethodName) ({ cls := "FlareSlopesModel", name := "seesSlope", desc := "(II)Z" } : Jvm.MethodName)) ∈ lw_all := lw_g (lw_at lw_m18 107 rfl) rfl
theorem q4315 : (Jvm.Cond.code ({ cls := "FlareSlopesModel", name := "seesSlope", desc := "(II)Z" } : Jvm.MethodName) prog_20_method_88_code (3 : Nat) (Option.some Jvm.ClassFile.FieldType.boolean)) ∈ lw_all := lw_g (lw_at lw_m18 108 rfl) rfl
theorem q4316 : (Jvm.Cond.methodLink "FlareSlopesModel" (332 : Nat) ({ cls := "FlareSlopesModel", name := "mayBoth", desc := "(II)Z" } : Jvm.MethodName)) ∈ lw_all := lw_g (lw_at lw_m18 109 rfl) rfl
theorem q4318 : (Jvm.Cond.instanceMethod ({ cls := "FlareSlopesModel", name := "mayBoth", desc := "(II)Z" } : Jvm.MethodName)) ∈ lw_all := lw_g (lw_at lw_m18 111 rfl) rfl
theorem q4319 : (Jvm.Cond.code ({ cls := "FlareSlopesModel", name := "mayBoth", desc := "(II)Z" } : Jvm.MethodName) prog_20_method_68_code (3 : Nat) (Option.some Jvm.ClassFile.FieldType.boolean)) ∈ lw_all := lw_g (lw_at lw_m18 112 rfl) rfl
theorem q4321 : (Jvm.Cond.instanceMethod ({ cls := "FlareSlopesModel", name := "seers", desc := "(I)I" } : Jvm.MethodName)) ∈ lw_all := lw_g (lw_at lw_m18 114 rfl) rfl
theorem q4322 : (Jvm.Cond.selects "FlareSlopesModel" ({ cls := "FlareSlopesModel", name := "seers", desc := "(I)I" } : Jvm.MethodName) ({ cls := "FlareSlopesModel", name := "seers", desc := "(I)I" } : Jvm.MethodName)) ∈ lw_all := lw_g (lw_at lw_m18 115 rfl) rfl
theorem q4323 : (Jvm.Cond.code ({ cls := "FlareSlopesModel", name := "seers", desc := "(I)I" } : Jvm.MethodName) prog_20_method_89_code (2 : Nat) (Option.some Jvm.ClassFile.FieldType.int)) ∈ lw_all := lw_g (lw_at lw_m18 116 rfl) rfl
theorem q4324 : (Jvm.Cond.methodLink "FlareSlopesModel" (335 : Nat) ({ cls := "FlareSlopesModel", name := "mayCabin", desc := "(I)Z" } : Jvm.MethodName)) ∈ lw_all := lw_g (lw_at lw_m18 117 rfl) rfl
theorem q4326 : (Jvm.Cond.instanceMethod ({ cls := "FlareSlopesModel", name := "mayCabin", desc := "(I)Z" } : Jvm.MethodName)) ∈ lw_all := lw_g (lw_at lw_m18 119 rfl) rfl
theorem q4327 : (Jvm.Cond.code ({ cls := "FlareSlopesModel", name := "mayCabin", desc := "(I)Z" } : Jvm.MethodName) prog_20_method_66_code (2 : Nat) (Option.some Jvm.ClassFile.FieldType.boolean)) ∈ lw_all := lw_g (lw_at lw_m18 120 rfl) rfl
theorem q4328 : (Jvm.Cond.methodLink "FlareSlopesModel" (338 : Nat) ({ cls := "FlareSlopesModel", name := "seen", desc := "(I)I" } : Jvm.MethodName)) ∈ lw_all := lw_g (lw_at lw_m18 121 rfl) rfl
theorem q4330 : (Jvm.Cond.instanceMethod ({ cls := "FlareSlopesModel", name := "seen", desc := "(I)I" } : Jvm.MethodName)) ∈ lw_all := lw_g (lw_at lw_m18 123 rfl) rfl
theorem q4331 : (Jvm.Cond.code ({ cls := "FlareSlopesModel", name := "seen", desc := "(I)I" } : Jvm.MethodName) prog_20_method_44_code (4 : Nat) (Option.some Jvm.ClassFile.FieldType.int)) ∈ lw_all := lw_g (lw_at lw_m18 124 rfl) rfl
theorem q4333 : (Jvm.Cond.instanceMethod ({ cls := "FlareSlopesModel", name := "reached", desc := "(I)I" } : Jvm.MethodName)) ∈ lw_all := lw_g (lw_at lw_m18 126 rfl) rfl
theorem q4334 : (Jvm.Cond.selects "FlareSlopesModel" ({ cls := "FlareSlopesModel", name := "reached", desc := "(I)I" } : Jvm.MethodName) ({ cls := "FlareSlopesModel", name := "reached", desc := "(I)I" } : Jvm.MethodName)) ∈ lw_all := lw_g (lw_at lw_m18 127 rfl) rfl
theorem q4335 : (Jvm.Cond.code ({ cls := "FlareSlopesModel", name := "reached", desc := "(I)I" } : Jvm.MethodName) prog_20_method_91_code (4 : Nat) (Option.some Jvm.ClassFile.FieldType.int)) ∈ lw_all := lw_g (lw_at lw_m18 128 rfl) rfl
theorem q4336 : (Jvm.Cond.methodLink "FlareSlopesModel" (341 : Nat) ({ cls := "FlareSlopesModel", name := "spread", desc := "(I)I" } : Jvm.MethodName)) ∈ lw_all := lw_g (lw_at lw_m18 129 rfl) rfl
theorem q4338 : (Jvm.Cond.instanceMethod ({ cls := "FlareSlopesModel", name := "spread", desc := "(I)I" } : Jvm.MethodName)) ∈ lw_all := lw_g (lw_at lw_m18 131 rfl) rfl
theorem q4339 : (Jvm.Cond.code ({ cls := "FlareSlopesModel", name := "spread", desc := "(I)I" } : Jvm.MethodName) prog_20_method_90_code (4 : Nat) (Option.some Jvm.ClassFile.FieldType.int)) ∈ lw_all := lw_g (lw_at lw_m18 132 rfl) rfl
theorem q4341 : (Jvm.Cond.instanceMethod ({ cls := "FlareSlopesModel", name := "steps", desc := "(II)I" } : Jvm.MethodName)) ∈ lw_all := lw_g (lw_at lw_m18 134 rfl) rfl
theorem q4342 : (Jvm.Cond.selects "FlareSlopesModel" ({ cls := "FlareSlopesModel", name := "steps", desc := "(II)I" } : Jvm.MethodName) ({ cls := "FlareSlopesModel", name := "steps", desc := "(II)I" } : Jvm.MethodName)) ∈ lw_all := lw_g (lw_at lw_m18 135 rfl) rfl
theorem q4343 : (Jvm.Cond.code ({ cls := "FlareSlopesModel", name := "steps", desc := "(II)I" } : Jvm.MethodName) prog_20_method_92_code (5 : Nat) (Option.some Jvm.ClassFile.FieldType.int)) ∈ lw_all := lw_g (lw_at lw_m18 136 rfl) rfl
theorem q4345 : (Jvm.Cond.instanceMethod ({ cls := "FlareSlopesModel", name := "ridgesBetween", desc := "(II)I" } : Jvm.MethodName)) ∈ lw_all := lw_g (lw_at lw_m18 138 rfl) rfl
theorem q4346 : (Jvm.Cond.selects "FlareSlopesModel" ({ cls := "FlareSlopesModel", name := "ridgesBetween", desc := "(II)I" } : Jvm.MethodName) ({ cls := "FlareSlopesModel", name := "ridgesBetween", desc := "(II)I" } : Jvm.MethodName)) ∈ lw_all := lw_g (lw_at lw_m18 139 rfl) rfl
theorem q4347 : (Jvm.Cond.code ({ cls := "FlareSlopesModel", name := "ridgesBetween", desc := "(II)I" } : Jvm.MethodName) prog_20_method_93_code (3 : Nat) (Option.some Jvm.ClassFile.FieldType.int)) ∈ lw_all := lw_g (lw_at lw_m18 140 rfl) rfl
theorem q4349 : (Jvm.Cond.instanceMethod ({ cls := "FlareSlopesModel", name := "distance", desc := "(II)I" } : Jvm.MethodName)) ∈ lw_all := lw_g (lw_at lw_m18 142 rfl) rfl
theorem q4350 : (Jvm.Cond.selects "FlareSlopesModel" ({ cls := "FlareSlopesModel", name := "distance", desc := "(II)I" } : Jvm.MethodName) ({ cls := "FlareSlopesModel", name := "distance", desc := "(II)I" } : Jvm.MethodName)) ∈ lw_all := lw_g (lw_at lw_m18 143 rfl) rfl
theorem q4351 : (Jvm.Cond.code ({ cls := "FlareSlopesModel", name := "distance", desc := "(II)I" } : Jvm.MethodName) prog_20_method_94_code (3 : Nat) (Option.some Jvm.ClassFile.FieldType.int)) ∈ lw_all := lw_g (lw_at lw_m18 144 rfl) rfl
theorem q4353 : (Jvm.Cond.instanceMethod ({ cls := "FlareSlopesModel", name := "vote", desc := "(IIII)I" } : Jvm.MethodName)) ∈ lw_all := lw_g (lw_at lw_m18 146 rfl) rfl
theorem q4354 : (Jvm.Cond.selects "FlareSlopesModel" ({ cls := "FlareSlopesModel", name := "vote", desc := "(IIII)I" } : Jvm.MethodName) ({ cls := "FlareSlopesModel", name := "vote", desc := "(IIII)I" } : Jvm.MethodName)) ∈ lw_all := lw_g (lw_at lw_m18 147 rfl) rfl
theorem q4355 : (Jvm.Cond.code ({ cls := "FlareSlopesModel", name := "vote", desc := "(IIII)I" } : Jvm.MethodName) prog_20_method_95_code (6 : Nat) (Option.some Jvm.ClassFile.FieldType.int)) ∈ lw_all := lw_g (lw_at lw_m18 148 rfl) rfl
theorem q4356 : (Jvm.Cond.methodLink "FlareSlopesModel" (254 : Nat) ({ cls := "FlareSlopesModel", name := "timeOf", desc := "(I)I" } : Jvm.MethodName)) ∈ lw_all := lw_g (lw_at lw_m18 149 rfl) rfl
theorem q4357 : (Jvm.Cond.static ({ cls := "FlareSlopesModel", name := "timeOf", desc := "(I)I" } : Jvm.MethodName)) ∈ lw_all := lw_g (lw_at lw_m18 150 rfl) rfl
theorem q4358 : (Jvm.Cond.code ({ cls := "FlareSlopesModel", name := "timeOf", desc := "(I)I" } : Jvm.MethodName) prog_20_method_52_code (1 : Nat) (Option.some Jvm.ClassFile.FieldType.int)) ∈ lw_all := lw_g (lw_at lw_m18 151 rfl) rfl
theorem q4360 : (Jvm.Cond.instanceMethod ({ cls := "FlareSlopesModel", name := "weights", desc := "(IIZ)I" } : Jvm.MethodName)) ∈ lw_all := lw_g (lw_at lw_m18 153 rfl) rfl
theorem q4361 : (Jvm.Cond.selects "FlareSlopesModel" ({ cls := "FlareSlopesModel", name := "weights", desc := "(IIZ)I" } : Jvm.MethodName) ({ cls := "FlareSlopesModel", name := "weights", desc := "(IIZ)I" } : Jvm.MethodName)) ∈ lw_all := lw_g (lw_at lw_m18 154 rfl) rfl
theorem q4362 : (Jvm.Cond.code ({ cls := "FlareSlopesModel", name := "weights", desc := "(IIZ)I" } : Jvm.MethodName) prog_20_method_96_code (4 : Nat) (Option.some Jvm.ClassFile.FieldType.int)) ∈ lw_all := lw_g (lw_at lw_m18 155 rfl) rfl
theorem q4364 : (Jvm.Cond.instanceMethod ({ cls := "FlareSlopesModel", name := "rules", desc := "(II)I" } : Jvm.MethodName)) ∈ lw_all := lw_g (lw_at lw_m18 157 rfl) rfl
theorem q4365 : (Jvm.Cond.selects "FlareSlopesModel" ({ cls := "FlareSlopesModel", name := "rules", desc := "(II)I" } : Jvm.MethodName) ({ cls := "FlareSlopesModel", name := "rules", desc := "(II)I" } : Jvm.MethodName)) ∈ lw_all := lw_g (lw_at lw_m18 158 rfl) rfl
theorem q4366 : (Jvm.Cond.code ({ cls := "FlareSlopesModel", name := "rules", desc := "(II)I" } : Jvm.MethodName) prog_20_method_97_code (3 : Nat) (Option.some Jvm.ClassFile.FieldType.int)) ∈ lw_all := lw_g (lw_at lw_m18 159 rfl) rfl
theorem q4367 : (Jvm.Cond.methodLink "FlareSlopesModel" (257 : Nat) ({ cls := "FlareSlopesModel", name := "ruling", desc := "(II)I" } : Jvm.MethodName)) ∈ lw_all := lw_g (lw_at lw_m18 160 rfl) rfl
theorem q4369 : (Jvm.Cond.instanceMethod ({ cls := "FlareSlopesModel", name := "ruling", desc := "(II)I" } : Jvm.MethodName)) ∈ lw_all := lw_g (lw_at lw_m18 162 rfl) rfl
theorem q4370 : (Jvm.Cond.code ({ cls := "FlareSlopesModel", name := "ruling", desc := "(II)I" } : Jvm.MethodName) prog_20_method_55_code (5 : Nat) (Option.some Jvm.ClassFile.FieldType.int)) ∈ lw_all := lw_g (lw_at lw_m18 163 rfl) rfl
theorem q4372 : (Jvm.Cond.instanceMethod ({ cls := "FlareSlopesModel", name := "run", desc := "(II)I" } : Jvm.MethodName)) ∈ lw_all := lw_g (lw_at lw_m18 165 rfl) rfl
theorem q4373 : (Jvm.Cond.selects "FlareSlopesModel" ({ cls := "FlareSlopesModel", name := "run", desc := "(II)I" } : Jvm.MethodName) ({ cls := "FlareSlopesModel", name := "run", desc := "(II)I" } : Jvm.MethodName)) ∈ lw_all := lw_g (lw_at lw_m18 166 rfl) rfl
theorem q4374 : (Jvm.Cond.code ({ cls := "FlareSlopesModel", name := "run", desc := "(II)I" } : Jvm.MethodName) prog_20_method_98_code (3 : Nat) (Option.some Jvm.ClassFile.FieldType.int)) ∈ lw_all := lw_g (lw_at lw_m18 167 rfl) rfl
theorem q4375 : (Jvm.Cond.methodLink "FlareSlopesModel" (260 : Nat) ({ cls := "FlareSlopesModel", name := "runOf", desc := "(II)I" } : Jvm.MethodName)) ∈ lw_all := lw_g (lw_at lw_m18 168 rfl) rfl
theorem q4377 : (Jvm.Cond.instanceMethod ({ cls := "FlareSlopesModel", name := "runOf", desc := "(II)I" } : Jvm.MethodName)) ∈ lw_all := lw_g (lw_at lw_m18 170 rfl) rfl
theorem q4378 : (Jvm.Cond.code ({ cls := "FlareSlopesModel", name := "runOf", desc := "(II)I" } : Jvm.MethodName) prog_20_method_57_code (3 : Nat) (Option.some Jvm.ClassFile.FieldType.int)) ∈ lw_all := lw_g (lw_at lw_m18 171 rfl) rfl
theorem q4380 : (Jvm.Cond.instanceMethod ({ cls := "FlareSlopesModel", name := "isClosed", desc := "(II)Z" } : Jvm.MethodName)) ∈ lw_all := lw_g (lw_at lw_m18 173 rfl) rfl
theorem q4381 : (Jvm.Cond.selects "FlareSlopesModel" ({ cls := "FlareSlopesModel", name := "isClosed", desc := "(II)Z" } : Jvm.MethodName) ({ cls := "FlareSlopesModel", name := "isClosed", desc := "(II)Z" } : Jvm.MethodName)) ∈ lw_all := lw_g (lw_at lw_m18 174 rfl) rfl
theorem q4382 : (Jvm.Cond.code ({ cls := "FlareSlopesModel", name := "isClosed", desc := "(II)Z" } : Jvm.MethodName) prog_20_method_99_code (3 : Nat) (Option.some Jvm.ClassFile.FieldType.boolean)) ∈ lw_all := lw_g (lw_at lw_m18 175 rfl) rfl
theorem q4384 : (Jvm.Cond.instanceMethod ({ cls := "FlareSlopesModel", name := "toldClosed", desc := "(II)Z" } : Jvm.MethodName)) ∈ lw_all := lw_g (lw_at lw_m18 177 rfl) rfl
theorem q4385 : (Jvm.Cond.selects "FlareSlopesModel" ({ cls := "FlareSlopesModel", name := "toldClosed", desc := "(II)Z" } : Jvm.MethodName) ({ cls := "FlareSlopesModel", name := "toldClosed", desc := "(II)Z" } : Jvm.MethodName)) ∈ lw_all := lw_g (lw_at lw_m18 178 rfl) rfl
theorem q4386 : (Jvm.Cond.code ({ cls := "FlareSlopesModel", name := "toldClosed", desc := "(II)Z" } : Jvm.MethodName) prog_20_method_101_code (3 : Nat) (Option.some Jvm.ClassFile.FieldType.boolean)) ∈ lw_all := lw_g (lw_at lw_m18 179 rfl) rfl
theorem q4387 : (Jvm.Cond.methodLink "FlareSlopesModel" (344 : Nat) ({ cls := "FlareSlopesModel", name := "tellsClosed", desc := "(II)Z" } : Jvm.MethodName)) ∈ lw_all := lw_g (lw_at lw_m18 180 rfl) rfl
theorem q4389 : (Jvm.Cond.instanceMethod ({ cls := "FlareSlopesModel", name := "tellsClosed", desc := "(II)Z" } : Jvm.MethodName)) ∈ lw_all := lw_g (lw_at lw_m18 182 rfl) rfl
theorem q4390 : (Jvm.Cond.code ({ cls := "FlareSlopesModel", name := "tellsClosed", desc := "(II)Z" } : Jvm.MethodName) prog_20_method_100_code (4 : Nat) (Option.some Jvm.ClassFile.FieldType.boolean)) ∈ lw_all := lw_g (lw_at lw_m18 183 rfl) rfl
theorem q4392 : (Jvm.Cond.instanceMethod ({ cls := "FlareSlopesModel", name := "disputes", desc := "(I)I" } : Jvm.MethodName)) ∈ lw_all := lw_g (lw_at lw_m18 185 rfl) rfl
theorem q4393 : (Jvm.Cond.selects "FlareSlopesModel" ({ cls := "FlareSlopesModel", name := "disputes", desc := "(I)I" } : Jvm.MethodName) ({ cls := "FlareSlopesModel", name := "disputes", desc := "(I)I" } : Jvm.MethodName)) ∈ lw_all := lw_g (lw_at lw_m18 186 rfl) rfl
theorem q4394 : (Jvm.Cond.code ({ cls := "FlareSlopesModel", name := "disputes", desc := "(I)I" } : Jvm.MethodName) prog_20_method_103_code (4 : Nat) (Option.some Jvm.ClassFile.FieldType.int)) ∈ lw_all := lw_g (lw_at lw_m18 187 rfl) rfl
theorem q4396 : (Jvm.Cond.instanceMethod ({ cls := "FlareSlopesModel", name := "falseVotes", desc := "(I)I" } : Jvm.MethodName)) ∈ lw_all := lw_g (lw_at lw_m18 189 rfl) rfl
theorem q4397 : (Jvm.Cond.selects "FlareSlopesModel" ({ cls := "FlareSlopesModel", name := "falseVotes", desc := "(I)I" } : Jvm.MethodName) ({ cls := "FlareSlopesModel", name := "falseVotes", desc := "(I)I" } : Jvm.MethodName)) ∈ lw_all := lw_g (lw_at lw_m18 190 rfl) rfl
theorem q4398 : (Jvm.Cond.code ({ cls := "FlareSlopesModel", name := "falseVotes", desc := "(I)I" } : Jvm.MethodName) prog_20_method_104_code (5 : Nat) (Option.some Jvm.ClassFile.FieldType.int)) ∈ lw_all := lw_g (lw_at lw_m18 191 rfl) rfl
theorem q4400 : (Jvm.Cond.instanceMethod ({ cls := "FlareSlopesModel", name := "oldestVote", desc := "(I)I" } : Jvm.MethodName)) ∈ lw_all := lw_g (lw_at lw_m18 193 rfl) rfl
theorem q4401 : (Jvm.Cond.selects "FlareSlopesModel" ({ cls := "FlareSlopesModel", name := "oldestVote", desc := "(I)I" } : Jvm.MethodName) ({ cls := "FlareSlopesModel", name := "oldestVote", desc := "(I)I" } : Jvm.MethodName)) ∈ lw_all := lw_g (lw_at lw_m18 194 rfl) rfl
theorem q4402 : (Jvm.Cond.code ({ cls := "FlareSlopesModel", name := "oldestVote", desc := "(I)I" } : Jvm.MethodName) prog_20_method_105_code (4 : Nat) (Option.some Jvm.ClassFile.FieldType.int)) ∈ lw_all := lw_g (lw_at lw_m18 195 rfl) rfl
theorem q4404 : (Jvm.Cond.instanceMethod ({ cls := "FlareSlopesModel", name := "risky", desc := "()I" } : Jvm.MethodName)) ∈ lw_all := lw_g (lw_at lw_m18 197 rfl) rfl
theorem q4405 : (Jvm.Cond.selects "FlareSlopesModel" ({ cls := "FlareSlopesModel", name := "risky", desc := "()I" } : Jvm.MethodName) ({ cls := "FlareSlopesModel", name := "risky", desc := "()I" } : Jvm.MethodName)) ∈ lw_all := lw_g (lw_at lw_m18 198 rfl) rfl
theorem q4406 : (Jvm.Cond.code ({ cls := "FlareSlopesModel", name := "risky", desc := "()I" } : Jvm.MethodName) prog_20_method_106_code (3 : Nat) (Option.some Jvm.ClassFile.FieldType.int)) ∈ lw_all := lw_g (lw_at lw_m18 199 rfl) rfl
theorem q4408 : (Jvm.Cond.instanceMethod ({ cls := "FlareSlopesModel", name := "weightiest", desc := "(I)I" } : Jvm.MethodName)) ∈ lw_all := lw_g (lw_at lw_m18 201 rfl) rfl
theorem q4409 : (Jvm.Cond.selects "FlareSlopesModel" ({ cls := "FlareSlopesModel", name := "weightiest", desc := "(I)I" } : Jvm.MethodName) ({ cls := "FlareSlopesModel", name := "weightiest", desc := "(I)I" } : Jvm.MethodName)) ∈ lw_all := lw_g (lw_at lw_m18 202 rfl) rfl
theorem q4410 : (Jvm.Cond.code ({ cls := "FlareSlopesModel", name := "weightiest", desc := "(I)I" } : Jvm.MethodName) prog_20_method_107_code (4 : Nat) (Option.some Jvm.ClassFile.FieldType.int)) ∈ lw_all := lw_g (lw_at lw_m18 203 rfl) rfl
theorem q4411 : (Jvm.Cond.methodLink "FlareSlopesModel" (347 : Nat) ({ cls := "FlareSlopesModel", name := "maySlope", desc := "(I)Z" } : Jvm.MethodName)) ∈ lw_all := lw_g (lw_at lw_m18 204 rfl) rfl
theorem q4413 : (Jvm.Cond.instanceMethod ({ cls := "FlareSlopesModel", name := "maySlope", desc := "(I)Z" } : Jvm.MethodName)) ∈ lw_all := lw_g (lw_at lw_m18 206 rfl) rfl
theorem q4414 : (Jvm.Cond.code ({ cls := "FlareSlopesModel", name := "maySlope", desc := "(I)Z" } : Jvm.MethodName) prog_20_method_67_code (2 : Nat) (Option.some Jvm.ClassFile.FieldType.boolean)) ∈ lw_all := lw_g (lw_at lw_m18 207 rfl) rfl
theorem q4416 : (Jvm.Cond.instanceMethod ({ cls := "FlareSlopesModel", name := "closers", desc := "(I)I" } : Jvm.MethodName)) ∈ lw_all := lw_g (lw_at lw_m18 209 rfl) rfl
theorem q4417 : (Jvm.Cond.selects "FlareSlopesModel" ({ cls := "FlareSlopesModel", name := "closers", desc := "(I)I" } : Jvm.MethodName) ({ cls := "FlareSlopesModel", name := "closers", desc := "(I)I" } : Jvm.MethodName)) ∈ lw_all := lw_g (lw_at lw_m18 210 rfl) rfl
theorem q4418 : (Jvm.Cond.code ({ cls := "FlareSlopesModel", name := "closers", desc := "(I)I" } : Jvm.MethodName) prog_20_method_108_code (2 : Nat) (Option.some Jvm.ClassFile.FieldType.int)) ∈ lw_all := lw_g (lw_at lw_m18 211 rfl) rfl
theorem q4420 : (Jvm.Cond.instanceMethod ({ cls := "FlareSlopesModel", name := "quarrels", desc := "(I)I" } : Jvm.MethodName)) ∈ lw_all := lw_g (lw_at lw_m18 213 rfl) rfl
theorem q4421 : (Jvm.Cond.selects "FlareSlopesModel" ({ cls := "FlareSlopesModel", name := "quarrels", desc := "(I)I" } : Jvm.MethodName) ({ cls := "FlareSlopesModel", name := "quarrels", desc := "(I)I" } : Jvm.MethodName)) ∈ lw_all := lw_g (lw_at lw_m18 214 rfl) rfl
theorem q4422 : (Jvm.Cond.code ({ cls := "FlareSlopesModel", name := "quarrels", desc := "(I)I" } : Jvm.MethodName) prog_20_method_109_code (5 : Nat) (Option.some Jvm.ClassFile.FieldType.int)) ∈ lw_all := lw_g (lw_at lw_m18 215 rfl) rfl
theorem q4424 : (Jvm.Cond.instanceMethod ({ cls := "FlareSlopesModel", name := "leastTrusted", desc := "()I" } : Jvm.MethodName)) ∈ lw_all := lw_g (lw_at lw_m18 217 rfl) rfl
theorem q4425 : (Jvm.Cond.selects "FlareSlopesModel" ({ cls := "FlareSlopesModel", name := "leastTrusted", desc := "()I" } : Jvm.MethodName) ({ cls := "FlareSlopesModel", name := "leastTrusted", desc := "()I" } : Jvm.MethodName)) ∈ lw_all := lw_g (lw_at lw_m18 218 rfl) rfl
theorem q4426 : (Jvm.Cond.code ({ cls := "FlareSlopesModel", name := "leastTrusted", desc := "()I" } : Jvm.MethodName) prog_20_method_110_code (3 : Nat) (Option.some Jvm.ClassFile.FieldType.int)) ∈ lw_all := lw_g (lw_at lw_m18 219 rfl) rfl
theorem q4428 : (Jvm.Cond.instanceMethod ({ cls := "FlareSlopesModel", name := "loneliest", desc := "()I" } : Jvm.MethodName)) ∈ lw_all := lw_g (lw_at lw_m18 221 rfl) rfl
theorem q4429 : (Jvm.Cond.selects "FlareSlopesModel" ({ cls := "FlareSlopesModel", name := "loneliest", desc := "()I" } : Jvm.MethodName) ({ cls := "FlareSlopesModel", name := "loneliest", desc := "()I" } : Jvm.MethodName)) ∈ lw_all := lw_g (lw_at lw_m18 222 rfl) rfl
theorem q4430 : (Jvm.Cond.code ({ cls := "FlareSlopesModel", name := "loneliest", desc := "()I" } : Jvm.MethodName) prog_20_method_111_code (3 : Nat) (Option.some Jvm.ClassFile.FieldType.int)) ∈ lw_all := lw_g (lw_at lw_m18 223 rfl) rfl
theorem q4432 : (Jvm.Cond.instanceMethod ({ cls := "FlareSlopesModel", name := "meanTrust", desc := "()D" } : Jvm.MethodName)) ∈ lw_all := lw_g (lw_at lw_m18 225 rfl) rfl
theorem q4433 : (Jvm.Cond.selects "FlareSlopesModel" ({ cls := "FlareSlopesModel", name := "meanTrust", desc := "()D" } : Jvm.MethodName) ({ cls := "FlareSlopesModel", name := "meanTrust", desc := "()D" } : Jvm.MethodName)) ∈ lw_all := lw_g (lw_at lw_m18 226 rfl) rfl
theorem q4434 : (Jvm.Cond.code ({ cls := "FlareSlopesModel", name := "meanTrust", desc := "()D" } : Jvm.MethodName) prog_20_method_112_code (3 : Nat) (Option.some Jvm.ClassFile.FieldType.double)) ∈ lw_all := lw_g (lw_at lw_m18 227 rfl) rfl
theorem q4436 : (Jvm.Cond.instanceMethod ({ cls := "FlareSlopesModel", name := "closedShare", desc := "(I)F" } : Jvm.MethodName)) ∈ lw_all := lw_g (lw_at lw_m18 229 rfl) rfl
theorem q4437 : (Jvm.Cond.selects "FlareSlopesModel" ({ cls := "FlareSlopesModel", name := "closedShare", desc := "(I)F" } : Jvm.MethodName) ({ cls := "FlareSlopesModel", name := "closedShare", desc := "(I)F" } : Jvm.MethodName)) ∈ lw_all := lw_g (lw_at lw_m18 230 rfl) rfl
theorem q4438 : (Jvm.Cond.code ({ cls := "FlareSlopesModel", name := "closedShare", desc := "(I)F" } : Jvm.MethodName) prog_20_method_113_code (2 : Nat) (Option.some Jvm.ClassFile.FieldType.float)) ∈ lw_all := lw_g (lw_at lw_m18 231 rfl) rfl
theorem q4440 : (Jvm.Cond.instanceMethod ({ cls := "FlareSlopesModel", name := "bulletin", desc := "(II)I" } : Jvm.MethodName)) ∈ lw_all := lw_g (lw_at lw_m18 233 rfl) rfl
theorem q4441 : (Jvm.Cond.selects "FlareSlopesModel" ({ cls := "FlareSlopesModel", name := "bulletin", desc := "(II)I" } : Jvm.MethodName) ({ cls := "FlareSlopesModel", name := "bulletin", desc := "(II)I" } : Jvm.MethodName)) ∈ lw_all := lw_g (lw_at lw_m18 234 rfl) rfl
theorem q4442 : (Jvm.Cond.code ({ cls := "FlareSlopesModel", name := "bulletin", desc := "(II)I" } : Jvm.MethodName) prog_20_method_115_code (3 : Nat) (Option.some Jvm.ClassFile.FieldType.int)) ∈ lw_all := lw_g (lw_at lw_m18 235 rfl) rfl
theorem q4443 : (Jvm.Cond.methodLink "FlareSlopesModel" (350 : Nat) ({ cls := "FlareSlopesModel", name := "bulletins", desc := "()I" } : Jvm.MethodName)) ∈ lw_all := lw_g (lw_at lw_m18 236 rfl) rfl
theorem q4445 : (Jvm.Cond.instanceMethod ({ cls := "FlareSlopesModel", name := "bulletins", desc := "()I" } : Jvm.MethodName)) ∈ lw_all := lw_g (lw_at lw_m18 238 rfl) rfl
theorem q4446 : (Jvm.Cond.code ({ cls := "FlareSlopesModel", name := "bulletins", desc := "()I" } : Jvm.MethodName) prog_20_method_114_code (1 : Nat) (Option.some Jvm.ClassFile.FieldType.int)) ∈ lw_all := lw_g (lw_at lw_m18 239 rfl) rfl
theorem q4447 : (Jvm.Cond.methodLink "FlareSlopesModel" (263 : Nat) ({ cls := "java/lang/Math", name := "min", desc := "(II)I" } : Jvm.MethodName)) ∈ lw_all := lw_g (lw_at lw_m19 0 rfl) rfl
theorem q4449 : (Jvm.Cond.instanceMethod ({ cls := "FlareSlopesModel", name := "closesIn", desc := "(II)I" } : Jvm.MethodName)) ∈ lw_all := lw_g (lw_at lw_m19 2 rfl) rfl
theorem q4450 : (Jvm.Cond.selects "FlareSlopesModel" ({ cls := "FlareSlopesModel", name := "closesIn", desc := "(II)I" } : Jvm.MethodName) ({ cls := "FlareSlopesModel", name := "closesIn", desc := "(II)I" } : Jvm.MethodName)) ∈ lw_all := lw_g (lw_at lw_m19 3 rfl) rfl
theorem q4451 : (Jvm.Cond.code ({ cls := "FlareSlopesModel", name := "closesIn", desc := "(II)I" } : Jvm.MethodName) prog_20_method_119_code (3 : Nat) (Option.some Jvm.ClassFile.FieldType.int)) ∈ lw_all := lw_g (lw_at lw_m19 4 rfl) rfl
theorem q4452 : (Jvm.Cond.methodLink "FlareSlopesModel" (359 : Nat) ({ cls := "FlareSlopesModel", name := "holdsIn", desc := "(IIZ)I" } : Jvm.MethodName)) ∈ lw_all := lw_g (lw_at lw_m19 5 rfl) rfl
theorem q4454 : (Jvm.Cond.instanceMethod ({ cls := "FlareSlopesModel", name := "holdsIn", desc := "(IIZ)I" } : Jvm.MethodName)) ∈ lw_all := lw_g (lw_at lw_m19 7 rfl) rfl
theorem q4455 : (Jvm.Cond.code ({ cls := "FlareSlopesModel", name := "holdsIn", desc := "(IIZ)I" } : Jvm.MethodName) prog_20_method_118_code (5 : Nat) (Option.some Jvm.ClassFile.FieldType.int)) ∈ lw_all := lw_g (lw_at lw_m19 8 rfl) rfl
theorem q4456 : (Jvm.Cond.methodLink "FlareSlopesModel" (353 : Nat) ({ cls := "FlareSlopesModel", name := "thinks", desc := "()V" } : Jvm.MethodName)) ∈ lw_all := lw_g (lw_at lw_m19 9 rfl) rfl
theorem q4458 : (Jvm.Cond.instanceMethod ({ cls := "FlareSlopesModel", name := "thinks", desc := "()V" } : Jvm.MethodName)) ∈ lw_all := lw_g (lw_at lw_m19 11 rfl) rfl
theorem q4459 : (Jvm.Cond.code ({ cls := "FlareSlopesModel", name := "thinks", desc := "()V" } : Jvm.MethodName) prog_20_method_116_code (1 : Nat) (Option.none : Option Jvm.ClassFile.FieldType)) ∈ lw_all := lw_g (lw_at lw_m19 12 rfl) rfl
theorem q4460 : (Jvm.Cond.methodLink "FlareSlopesModel" (356 : Nat) ({ cls := "FlareSlopesModel", name := "back", desc := "(I)I" } : Jvm.MethodName)) ∈ lw_all := lw_g (lw_at lw_m19 13 rfl) rfl
theorem q4462 : (Jvm.Cond.instanceMethod ({ cls := "FlareSlopesModel", name := "back", desc := "(I)I" } : Jvm.MethodName)) ∈ lw_all := lw_g (lw_at lw_m19 15 rfl) rfl
theorem q4463 : (Jvm.Cond.code ({ cls := "FlareSlopesModel", name := "back", desc := "(I)I" } : Jvm.MethodName) prog_20_method_117_code (2 : Nat) (Option.some Jvm.ClassFile.FieldType.int)) ∈ lw_all := lw_g (lw_at lw_m19 16 rfl) rfl
theorem q4464 : (Jvm.Cond.methodLink "FlareSlopesModel" (272 : Nat) ({ cls := "FlareSlopesModel", name := "ticks", desc := "()V" } : Jvm.MethodName)) ∈ lw_all := lw_g (lw_at lw_m19 17 rfl) rfl
theorem q4466 : (Jvm.Cond.instanceMethod ({ cls := "FlareSlopesModel", name := "ticks", desc := "()V" } : Jvm.MethodName)) ∈ lw_all := lw_g (lw_at lw_m19 19 rfl) rfl
theorem q4467 : (Jvm.Cond.code ({ cls := "FlareSlopesModel", name := "ticks", desc := "()V" } : Jvm.MethodName) prog_20_method_64_code (3 : Nat) (Option.none : Option Jvm.ClassFile.FieldType)) ∈ lw_all := lw_g (lw_at lw_m19 20 rfl) rfl
theorem q4468 : (Jvm.Cond.methodLink "FlareSlopesModel" (266 : Nat) ({ cls := "FlareSlopesModel", name := "forgets", desc := "()V" } : Jvm.MethodName)) ∈ lw_all := lw_g (lw_at lw_m19 21 rfl) rfl
theorem q4470 : (Jvm.Cond.instanceMethod ({ cls := "FlareSlopesModel", name := "forgets", desc := "()V" } : Jvm.MethodName)) ∈ lw_all := lw_g (lw_at lw_m19 23 rfl) rfl
theorem q4471 : (Jvm.Cond.code ({ cls := "FlareSlopesModel", name := "forgets", desc := "()V" } : Jvm.MethodName) prog_20_method_62_code (2 : Nat) (Option.none : Option Jvm.ClassFile.FieldType)) ∈ lw_all := lw_g (lw_at lw_m19 24 rfl) rfl
theorem q4472 : (Jvm.Cond.methodLink "FlareSlopesModel" (269 : Nat) ({ cls := "FlareSlopesModel", name := "judges", desc := "(II)V" } : Jvm.MethodName)) ∈ lw_all := lw_g (lw_at lw_m19 25 rfl) rfl
theorem q4474 : (Jvm.Cond.instanceMethod ({ cls := "FlareSlopesModel", name := "judges", desc := "(II)V" } : Jvm.MethodName)) ∈ lw_all := lw_g (lw_at lw_m19 27 rfl) rfl
theorem q4475 : (Jvm.Cond.code ({ cls := "FlareSlopesModel", name := "judges", desc := "(II)V" } : Jvm.MethodName) prog_20_method_63_code (6 : Nat) (Option.none : Option Jvm.ClassFile.FieldType)) ∈ lw_all := lw_g (lw_at lw_m19 28 rfl) rfl
theorem q4477 : (Jvm.Cond.instanceMethod ({ cls := "FlareSlopesModel", name := "opensIn", desc := "(II)I" } : Jvm.MethodName)) ∈ lw_all := lw_g (lw_at lw_m19 30 rfl) rfl
theorem q4478 : (Jvm.Cond.selects "FlareSlopesModel" ({ cls := "FlareSlopesModel", name := "opensIn", desc := "(II)I" } : Jvm.MethodName) ({ cls := "FlareSlopesModel", name := "opensIn", desc := "(II)I" } : Jvm.MethodName)) ∈ lw_all := lw_g (lw_at lw_m19 31 rfl) rfl
theorem q4479 : (Jvm.Cond.code ({ cls := "FlareSlopesModel", name := "opensIn", desc := "(II)I" } : Jvm.MethodName) prog_20_method_120_code (3 : Nat) (Option.some Jvm.ClassFile.FieldType.int)) ∈ lw_all := lw_g (lw_at lw_m19 32 rfl) rfl
theorem q4481 : (Jvm.Cond.instanceMethod ({ cls := "FlareSlopesModel", name := "closersIn", desc := "(II)I" } : Jvm.MethodName)) ∈ lw_all := lw_g (lw_at lw_m19 34 rfl) rfl
theorem q4482 : (Jvm.Cond.selects "FlareSlopesModel" ({ cls := "FlareSlopesModel", name := "closersIn", desc := "(II)I" } : Jvm.MethodName) ({ cls := "FlareSlopesModel", name := "closersIn", desc := "(II)I" } : Jvm.MethodName)) ∈ lw_all := lw_g (lw_at lw_m19 35 rfl) rfl
theorem q4483 : (Jvm.Cond.code ({ cls := "FlareSlopesModel", name := "closersIn", desc := "(II)I" } : Jvm.MethodName) prog_20_method_122_code (3 : Nat) (Option.some Jvm.ClassFile.FieldType.int)) ∈ lw_all := lw_g (lw_at lw_m19 36 rfl) rfl
theorem q4484 : (Jvm.Cond.methodLink "FlareSlopesModel" (362 : Nat) ({ cls := "FlareSlopesModel", name := "isFar", desc := "(I)Z" } : Jvm.MethodName)) ∈ lw_all := lw_g (lw_at lw_m19 37 rfl) rfl
theorem q4485 : (Jvm.Cond.static ({ cls := "FlareSlopesModel", name := "isFar", desc := "(I)Z" } : Jvm.MethodName)) ∈ lw_all := lw_g (lw_at lw_m19 38 rfl) rfl
theorem q4486 : (Jvm.Cond.code ({ cls := "FlareSlopesModel", name := "isFar", desc := "(I)Z" } : Jvm.MethodName) prog_20_method_121_code (1 : Nat) (Option.some Jvm.ClassFile.FieldType.boolean)) ∈ lw_all := lw_g (lw_at lw_m19 39 rfl) rfl
theorem q4487 : (Jvm.Cond.methodLink "FlareSlopesModel" (365 : Nat) ({ cls := "FlareSlopesModel", name := "passes", desc := "(I)V" } : Jvm.MethodName)) ∈ lw_all := lw_g (lw_at lw_m19 40 rfl) rfl
theorem q4489 : (Jvm.Cond.instanceMethod ({ cls := "FlareSlopesModel", name := "passes", desc := "(I)V" } : Jvm.MethodName)) ∈ lw_all := lw_g (lw_at lw_m19 42 rfl) rfl
theorem q4490 : (Jvm.Cond.code ({ cls := "FlareSlopesModel", name := "passes", desc := "(I)V" } : Jvm.MethodName) prog_20_method_65_code (3 : Nat) (Option.none : Option Jvm.ClassFile.FieldType)) ∈ lw_all := lw_g (lw_at lw_m19 43 rfl) rfl
theorem q4492 : (Jvm.Cond.instanceMethod ({ cls := "FlareSlopesModel", name := "votesIn", desc := "(I)I" } : Jvm.MethodName)) ∈ lw_all := lw_g (lw_at lw_m19 45 rfl) rfl
theorem q4493 : (Jvm.Cond.selects "FlareSlopesModel" ({ cls := "FlareSlopesModel", name := "votesIn", desc := "(I)I" } : Jvm.MethodName) ({ cls := "FlareSlopesModel", name := "votesIn", desc := "(I)I" } : Jvm.MethodName)) ∈ lw_all := lw_g (lw_at lw_m19 46 rfl) rfl
theorem q4494 : (Jvm.Cond.code ({ cls := "FlareSlopesModel", name := "votesIn", desc := "(I)I" } : Jvm.MethodName) prog_20_method_123_code (2 : Nat) (Option.some Jvm.ClassFile.FieldType.int)) ∈ lw_all := lw_g (lw_at lw_m19 47 rfl) rfl
theorem q4496 : (Jvm.Cond.instanceMethod ({ cls := "FlareSlopesModel", name := "seeIn", desc := "(II)I" } : Jvm.MethodName)) ∈ lw_all := lw_g (lw_at lw_m19 49 rfl) rfl
theorem q4497 : (Jvm.Cond.selects "FlareSlopesModel" ({ cls := "FlareSlopesModel", name := "seeIn", desc := "(II)I" } : Jvm.MethodName) ({ cls := "FlareSlopesModel", name := "seeIn", desc := "(II)I" } : Jvm.MethodName)) ∈ lw_all := lw_g (lw_at lw_m19 50 rfl) rfl
theorem q4498 : (Jvm.Cond.code ({ cls := "FlareSlopesModel", name := "seeIn", desc := "(II)I" } : Jvm.MethodName) prog_20_method_124_code (4 : Nat) (Option.some Jvm.ClassFile.FieldType.int)) ∈ lw_all := lw_g (lw_at lw_m19 51 rfl) rfl
theorem q4500 : (Jvm.Cond.instanceMethod ({ cls := "FlareSlopesModel", name := "closersIf", desc := "(III)I" } : Jvm.MethodName)) ∈ lw_all := lw_g (lw_at lw_m19 53 rfl) rfl
theorem q4501 : (Jvm.Cond.selects "FlareSlopesModel" ({ cls := "FlareSlopesModel", name := "closersIf", desc := "(III)I" } : Jvm.MethodName) ({ cls := "FlareSlopesModel", name := "closersIf", desc := "(III)I" } : Jvm.MethodName)) ∈ lw_all := lw_g (lw_at lw_m19 54 rfl) rfl
theorem q4502 : (Jvm.Cond.code ({ cls := "FlareSlopesModel", name := "closersIf", desc := "(III)I" } : Jvm.MethodName) prog_20_method_127_code (4 : Nat) (Option.some Jvm.ClassFile.FieldType.int)) ∈ lw_all := lw_g (lw_at lw_m19 55 rfl) rfl
theorem q4503 : (Jvm.Cond.methodLink "FlareSlopesModel" (374 : Nat) ({ cls := "FlareSlopesModel", name := "closersBy", desc := "(III)I" } : Jvm.MethodName)) ∈ lw_all := lw_g (lw_at lw_m19 56 rfl) rfl
theorem q4505 : (Jvm.Cond.instanceMethod ({ cls := "FlareSlopesModel", name := "closersBy", desc := "(III)I" } : Jvm.MethodName)) ∈ lw_all := lw_g (lw_at lw_m19 58 rfl) rfl
theorem q4506 : (Jvm.Cond.code ({ cls := "FlareSlopesModel", name := "closersBy", desc := "(III)I" } : Jvm.MethodName) prog_20_method_126_code (5 : Nat) (Option.some Jvm.ClassFile.FieldType.int)) ∈ lw_all := lw_g (lw_at lw_m19 59 rfl) rfl
theorem q4507 : (Jvm.Cond.methodLink "FlareSlopesModel" (371 : Nat) ({ cls := "FlareSlopesModel", name := "shows", desc := "(IIZ)I" } : Jvm.MethodName)) ∈ lw_all := lw_g (lw_at lw_m19 60 rfl) rfl
theorem q4509 : (Jvm.Cond.instanceMethod ({ cls := "FlareSlopesModel", name := "shows", desc := "(IIZ)I" } : Jvm.MethodName)) ∈ lw_all := lw_g (lw_at lw_m19 62 rfl) rfl
theorem q4510 : (Jvm.Cond.code ({ cls := "FlareSlopesModel", name := "shows", desc := "(IIZ)I" } : Jvm.MethodName) prog_20_method_125_code (6 : Nat) (Option.some Jvm.ClassFile.FieldType.int)) ∈ lw_all := lw_g (lw_at lw_m19 63 rfl) rfl
theorem q4511 : (Jvm.Cond.methodLink "FlareSlopesModel" (368 : Nat) ({ cls := "FlareSlopesModel", name := "made", desc := "(IZ)I" } : Jvm.MethodName)) ∈ lw_all := lw_g (lw_at lw_m19 64 rfl) rfl
theorem q4512 : (Jvm.Cond.static ({ cls := "FlareSlopesModel", name := "made", desc := "(IZ)I" } : Jvm.MethodName)) ∈ lw_all := lw_g (lw_at lw_m19 65 rfl) rfl
theorem q4513 : (Jvm.Cond.code ({ cls := "FlareSlopesModel", name := "made", desc := "(IZ)I" } : Jvm.MethodName) prog_20_method_50_code (2 : Nat) (Option.some Jvm.ClassFile.FieldType.int)) ∈ lw_all := lw_g (lw_at lw_m19 66 rfl) rfl
theorem q4515 : (Jvm.Cond.instanceMethod ({ cls := "FlareSlopesModel", name := "bestCaller", desc := "(II)I" } : Jvm.MethodName)) ∈ lw_all := lw_g (lw_at lw_m19 68 rfl) rfl
theorem q4516 : (Jvm.Cond.selects "FlareSlopesModel" ({ cls := "FlareSlopesModel", name := "bestCaller", desc := "(II)I" } : Jvm.MethodName) ({ cls := "FlareSlopesModel", name := "bestCaller", desc := "(II)I" } : Jvm.MethodName)) ∈ lw_all := lw_g (lw_at lw_m19 69 rfl) rfl
theorem q4517 : (Jvm.Cond.code ({ cls := "FlareSlopesModel", name := "bestCaller", desc := "(II)I" } : Jvm.MethodName) prog_20_method_128_code (7 : Nat) (Option.some Jvm.ClassFile.FieldType.int)) ∈ lw_all := lw_g (lw_at lw_m19 70 rfl) rfl
theorem q4519 : (Jvm.Cond.instanceMethod ({ cls := "FlareSlopesModel", name := "leastShare", desc := "(II)I" } : Jvm.MethodName)) ∈ lw_all := lw_g (lw_at lw_m19 72 rfl) rfl
theorem q4520 : (Jvm.Cond.selects "FlareSlopesModel" ({ cls := "FlareSlopesModel", name := "leastShare", desc := "(II)I" } : Jvm.MethodName) ({ cls := "FlareSlopesModel", name := "leastShare", desc := "(II)I" } : Jvm.MethodName)) ∈ lw_all := lw_g (lw_at lw_m19 73 rfl) rfl
theorem q4521 : (Jvm.Cond.code ({ cls := "FlareSlopesModel", name := "leastShare", desc := "(II)I" } : Jvm.MethodName) prog_20_method_129_code (6 : Nat) (Option.some Jvm.ClassFile.FieldType.int)) ∈ lw_all := lw_g (lw_at lw_m19 74 rfl) rfl
theorem q4523 : (Jvm.Cond.instanceMethod ({ cls := "FlareSlopesModel", name := "writeBulletin", desc := "(I)I" } : Jvm.MethodName)) ∈ lw_all := lw_g (lw_at lw_m19 76 rfl) rfl
theorem q4524 : (Jvm.Cond.selects "FlareSlopesModel" ({ cls := "FlareSlopesModel", name := "writeBulletin", desc := "(I)I" } : Jvm.MethodName) ({ cls := "FlareSlopesModel", name := "writeBulletin", desc := "(I)I" } : Jvm.MethodName)) ∈ lw_all := lw_g (lw_at lw_m19 77 rfl) rfl
theorem q4525 : (Jvm.Cond.code ({ cls := "FlareSlopesModel", name := "writeBulletin", desc := "(I)I" } : Jvm.MethodName) prog_20_method_133_code (3 : Nat) (Option.some Jvm.ClassFile.FieldType.int)) ∈ lw_all := lw_g (lw_at lw_m19 78 rfl) rfl
theorem q4526 : (Jvm.Cond.methodLink "FlareSlopesModel" (388 : Nat) ({ cls := "FlareSlopesModel", name := "writesName", desc := "(I)V" } : Jvm.MethodName)) ∈ lw_all := lw_g (lw_at lw_m19 79 rfl) rfl
theorem q4528 : (Jvm.Cond.instanceMethod ({ cls := "FlareSlopesModel", name := "writesName", desc := "(I)V" } : Jvm.MethodName)) ∈ lw_all := lw_g (lw_at lw_m19 81 rfl) rfl
theorem q4529 : (Jvm.Cond.code ({ cls := "FlareSlopesModel", name := "writesName", desc := "(I)V" } : Jvm.MethodName) prog_20_method_132_code (6 : Nat) (Option.none : Option Jvm.ClassFile.FieldType)) ∈ lw_all := lw_g (lw_at lw_m19 82 rfl) rfl
theorem q4530 : (Jvm.Cond.constantLong "FlareSlopesModel" (386 : Nat) (96 : Int64)) ∈ lw_all := lw_g (lw_at lw_m19 83 rfl) rfl
theorem q4531 : (Jvm.Cond.methodLink "FlareSlopesModel" (383 : Nat) ({ cls := "FlareSlopesModel", name := "writesByte", desc := "(I)V" } : Jvm.MethodName)) ∈ lw_all := lw_g (lw_at lw_m19 84 rfl) rfl
theorem q4533 : (Jvm.Cond.instanceMethod ({ cls := "FlareSlopesModel", name := "writesByte", desc := "(I)V" } : Jvm.MethodName)) ∈ lw_all := lw_g (lw_at lw_m19 86 rfl) rfl
theorem q4534 : (Jvm.Cond.code ({ cls := "FlareSlopesModel", name := "writesByte", desc := "(I)V" } : Jvm.MethodName) prog_20_method_130_code (2 : Nat) (Option.none : Option Jvm.ClassFile.FieldType)) ∈ lw_all := lw_g (lw_at lw_m19 87 rfl) rfl
theorem q4536 : (Jvm.Cond.instanceMethod ({ cls := "FlareSlopesModel", name := "writeVotes", desc := "(II)I" } : Jvm.MethodName)) ∈ lw_all := lw_g (lw_at lw_m19 89 rfl) rfl
theorem q4537 : (Jvm.Cond.selects "FlareSlopesModel" ({ cls := "FlareSlopesModel", name := "writeVotes", desc := "(II)I" } : Jvm.MethodName) ({ cls := "FlareSlopesModel", name := "writeVotes", desc := "(II)I" } : Jvm.MethodName)) ∈ lw_all := lw_g (lw_at lw_m19 90 rfl) rfl
theorem q4538 : (Jvm.Cond.code ({ cls := "FlareSlopesModel", name := "writeVotes", desc := "(II)I" } : Jvm.MethodName) prog_20_method_134_code (5 : Nat) (Option.some Jvm.ClassFile.FieldType.int)) ∈ lw_all := lw_g (lw_at lw_m19 91 rfl) rfl
theorem q4539 : (Jvm.Cond.methodLink "FlareSlopesModel" (380 : Nat) ({ cls := "FlareSlopesModel", name := "writesNumber", desc := "(I)V" } : Jvm.MethodName)) ∈ lw_all := lw_g (lw_at lw_m19 92 rfl) rfl
theorem q4541 : (Jvm.Cond.instanceMethod ({ cls := "FlareSlopesModel", name := "writesNumber", desc := "(I)V" } : Jvm.MethodName)) ∈ lw_all := lw_g (lw_at lw_m19 94 rfl) rfl
theorem q4542 : (Jvm.Cond.code ({ cls := "FlareSlopesModel", name := "writesNumber", desc := "(I)V" } : Jvm.MethodName) prog_20_method_131_code (2 : Nat) (Option.none : Option Jvm.ClassFile.FieldType)) ∈ lw_all := lw_g (lw_at lw_m19 95 rfl) rfl
theorem q4544 : (Jvm.Cond.instanceMethod ({ cls := "FlareSlopesModel", name := "writeView", desc := "()I" } : Jvm.MethodName)) ∈ lw_all := lw_g (lw_at lw_m19 97 rfl) rfl
theorem q4545 : (Jvm.Cond.selects "FlareSlopesModel" ({ cls := "FlareSlopesModel", name := "writeView", desc := "()I" } : Jvm.MethodName) ({ cls := "FlareSlopesModel", name := "writeView", desc := "()I" } : Jvm.MethodName)) ∈ lw_all := lw_g (lw_at lw_m19 98 rfl) rfl
theorem q4546 : (Jvm.Cond.code ({ cls := "FlareSlopesModel", name := "writeView", desc := "()I" } : Jvm.MethodName) prog_20_method_135_code (2 : Nat) (Option.some Jvm.ClassFile.FieldType.int)) ∈ lw_all := lw_g (lw_at lw_m19 99 rfl) rfl
theorem q4548 : (Jvm.Cond.instanceMethod ({ cls := "FlareSlopesModel", name := "textByte", desc := "(I)I" } : Jvm.MethodName)) ∈ lw_all := lw_g (lw_at lw_m19 101 rfl) rfl
theorem q4549 : (Jvm.Cond.selects "FlareSlopesModel" ({ cls := "FlareSlopesModel", name := "textByte", desc := "(I)I" } : Jvm.MethodName) ({ cls := "FlareSlopesModel", name := "textByte", desc := "(I)I" } : Jvm.MethodName)) ∈ lw_all := lw_g (lw_at lw_m19 102 rfl) rfl
theorem q4550 : (Jvm.Cond.code ({ cls := "FlareSlopesModel", name := "textByte", desc := "(I)I" } : Jvm.MethodName) prog_20_method_136_code (2 : Nat) (Option.some Jvm.ClassFile.FieldType.int)) ∈ lw_all := lw_g (lw_at lw_m19 103 rfl) rfl
theorem q4552 : (Jvm.Cond.instanceMethod ({ cls := "FlareSlopesModel", name := "tick", desc := "(I)I" } : Jvm.MethodName)) ∈ lw_all := lw_g (lw_at lw_m19 105 rfl) rfl
theorem q4553 : (Jvm.Cond.selects "FlareSlopesModel" ({ cls := "FlareSlopesModel", name := "tick", desc := "(I)I" } : Jvm.MethodName) ({ cls := "FlareSlopesModel", name := "tick", desc := "(I)I" } : Jvm.MethodName)) ∈ lw_all := lw_g (lw_at lw_m19 106 rfl) rfl
theorem q4554 : (Jvm.Cond.code ({ cls := "FlareSlopesModel", name := "tick", desc := "(I)I" } : Jvm.MethodName) prog_20_method_138_code (3 : Nat) (Option.some Jvm.ClassFile.FieldType.int)) ∈ lw_all := lw_g (lw_at lw_m19 107 rfl) rfl
theorem q4555 : (Jvm.Cond.methodLink "FlareSlopesModel" (391 : Nat) ({ cls := "FlareSlopesModel", name := "remembers", desc := "()V" } : Jvm.MethodName)) ∈ lw_all := lw_g (lw_at lw_m19 108 rfl) rfl
theorem q4557 : (Jvm.Cond.instanceMethod ({ cls := "FlareSlopesModel", name := "remembers", desc := "()V" } : Jvm.MethodName)) ∈ lw_all := lw_g (lw_at lw_m19 110 rfl) rfl
theorem q4558 : (Jvm.Cond.code ({ cls := "FlareSlopesModel", name := "remembers", desc := "()V" } : Jvm.MethodName) prog_20_method_137_code (2 : Nat) (Option.none : Option Jvm.ClassFile.FieldType)) ∈ lw_all := lw_g (lw_at lw_m19 111 rfl) rfl
theorem q4560 : (Jvm.Cond.instanceMethod ({ cls := "FlareSlopesModel", name := "flare", desc := "(IIZ)I" } : Jvm.MethodName)) ∈ lw_all := lw_g (lw_at lw_m19 113 rfl) rfl
theorem q4561 : (Jvm.Cond.selects "FlareSlopesModel" ({ cls := "FlareSlopesModel", name := "flare", desc := "(IIZ)I" } : Jvm.MethodName) ({ cls := "FlareSlopesModel", name := "flare", desc := "(IIZ)I" } : Jvm.MethodName)) ∈ lw_all := lw_g (lw_at lw_m19 114 rfl) rfl
theorem q4562 : (Jvm.Cond.code ({ cls := "FlareSlopesModel", name := "flare", desc := "(IIZ)I" } : Jvm.MethodName) prog_20_method_139_code (5 : Nat) (Option.some Jvm.ClassFile.FieldType.int)) ∈ lw_all := lw_g (lw_at lw_m19 115 rfl) rfl
theorem q4564 : (Jvm.Cond.instanceMethod ({ cls := "FlareSlopesModel", name := "inspect", desc := "(II)I" } : Jvm.MethodName)) ∈ lw_all := lw_g (lw_at lw_m19 117 rfl) rfl
theorem q4565 : (Jvm.Cond.selects "FlareSlopesModel" ({ cls := "FlareSlopesModel", name := "inspect", desc := "(II)I" } : Jvm.MethodName) ({ cls := "FlareSlopesModel", name := "inspect", desc := "(II)I" } : Jvm.MethodName)) ∈ lw_all := lw_g (lw_at lw_m19 118 rfl) rfl
theorem q4566 : (Jvm.Cond.code ({ cls := "FlareSlopesModel", name := "inspect", desc := "(II)I" } : Jvm.MethodName) prog_20_method_140_code (9 : Nat) (Option.some Jvm.ClassFile.FieldType.int)) ∈ lw_all := lw_g (lw_at lw_m19 119 rfl) rfl
theorem q4568 : (Jvm.Cond.instanceMethod ({ cls := "FlareSlopesModel", name := "danger", desc := "(IZ)Z" } : Jvm.MethodName)) ∈ lw_all := lw_g (lw_at lw_m19 121 rfl) rfl
theorem q4569 : (Jvm.Cond.selects "FlareSlopesModel" ({ cls := "FlareSlopesModel", name := "danger", desc := "(IZ)Z" } : Jvm.MethodName) ({ cls := "FlareSlopesModel", name := "danger", desc := "(IZ)Z" } : Jvm.MethodName)) ∈ lw_all := lw_g (lw_at lw_m19 122 rfl) rfl
theorem q4570 : (Jvm.Cond.code ({ cls := "FlareSlopesModel", name := "danger", desc := "(IZ)Z" } : Jvm.MethodName) prog_20_method_141_code (4 : Nat) (Option.some Jvm.ClassFile.FieldType.boolean)) ∈ lw_all := lw_g (lw_at lw_m19 123 rfl) rfl
theorem q4572 : (Jvm.Cond.instanceMethod ({ cls := "FlareSlopesModel", name := "issue", desc := "(I)I" } : Jvm.MethodName)) ∈ lw_all := lw_g (lw_at lw_m19 125 rfl) rfl
theorem q4573 : (Jvm.Cond.selects "FlareSlopesModel" ({ cls := "FlareSlopesModel", name := "issue", desc := "(I)I" } : Jvm.MethodName) ({ cls := "FlareSlopesModel", name := "issue", desc := "(I)I" } : Jvm.MethodName)) ∈ lw_all := lw_g (lw_at lw_m19 126 rfl) rfl
theorem q4574 : (Jvm.Cond.code ({ cls := "FlareSlopesModel", name := "issue", desc := "(I)I" } : Jvm.MethodName) prog_20_method_142_code (4 : Nat) (Option.some Jvm.ClassFile.FieldType.int)) ∈ lw_all := lw_g (lw_at lw_m19 127 rfl) rfl
theorem q4576 : (Jvm.Cond.instanceMethod ({ cls := "FlareSlopesModel", name := "give", desc := "(II)I" } : Jvm.MethodName)) ∈ lw_all := lw_g (lw_at lw_m19 129 rfl) rfl
theorem q4577 : (Jvm.Cond.selects "FlareSlopesModel" ({ cls := "FlareSlopesModel", name := "give", desc := "(II)I" } : Jvm.MethodName) ({ cls := "FlareSlopesModel", name := "give", desc := "(II)I" } : Jvm.MethodName)) ∈ lw_all := lw_g (lw_at lw_m19 130 rfl) rfl
theorem q4578 : (Jvm.Cond.code ({ cls := "FlareSlopesModel", name := "give", desc := "(II)I" } : Jvm.MethodName) prog_20_method_143_code (4 : Nat) (Option.some Jvm.ClassFile.FieldType.int)) ∈ lw_all := lw_g (lw_at lw_m19 131 rfl) rfl
theorem q4580 : (Jvm.Cond.instanceMethod ({ cls := "FlareSlopesModel", name := "move", desc := "(III)I" } : Jvm.MethodName)) ∈ lw_all := lw_g (lw_at lw_m19 133 rfl) rfl
theorem q4581 : (Jvm.Cond.selects "FlareSlopesModel" ({ cls := "FlareSlopesModel", name := "move", desc := "(III)I" } : Jvm.MethodName) ({ cls := "FlareSlopesModel", name := "move", desc := "(III)I" } : Jvm.MethodName)) ∈ lw_all := lw_g (lw_at lw_m19 134 rfl) rfl
theorem q4582 : (Jvm.Cond.code ({ cls := "FlareSlopesModel", name := "move", desc := "(III)I" } : Jvm.MethodName) prog_20_method_144_code (6 : Nat) (Option.some Jvm.ClassFile.FieldType.int)) ∈ lw_all := lw_g (lw_at lw_m19 135 rfl) rfl
theorem q4584 : (Jvm.Cond.instanceMethod ({ cls := "FlareSlopesModel", name := "trust", desc := "(II)I" } : Jvm.MethodName)) ∈ lw_all := lw_g (lw_at lw_m19 137 rfl) rfl
theorem q4585 : (Jvm.Cond.selects "FlareSlopesModel" ({ cls := "FlareSlopesModel", name := "trust", desc := "(II)I" } : Jvm.MethodName) ({ cls := "FlareSlopesModel", name := "trust", desc := "(II)I" } : Jvm.MethodName)) ∈ lw_all := lw_g (lw_at lw_m19 138 rfl) rfl
theorem q4586 : (Jvm.Cond.code ({ cls := "FlareSlopesModel", name := "trust", desc := "(II)I" } : Jvm.MethodName) prog_20_method_145_code (3 : Nat) (Option.some Jvm.ClassFile.FieldType.int)) ∈ lw_all := lw_g (lw_at lw_m19 139 rfl) rfl
theorem q4588 : (Jvm.Cond.instanceMethod ({ cls := "FlareSlopesModel", name := "forget", desc := "(I)I" } : Jvm.MethodName)) ∈ lw_all := lw_g (lw_at lw_m19 141 rfl) rfl
theorem q4589 : (Jvm.Cond.selects "FlareSlopesModel" ({ cls := "FlareSlopesModel", name := "forget", desc := "(I)I" } : Jvm.MethodName) ({ cls := "FlareSlopesModel", name := "forget", desc := "(I)I" } : Jvm.MethodName)) ∈ lw_all := lw_g (lw_at lw_m19 142 rfl) rfl
theorem q4590 : (Jvm.Cond.code ({ cls := "FlareSlopesModel", name := "forget", desc := "(I)I" } : Jvm.MethodName) prog_20_method_146_code (4 : Nat) (Option.some Jvm.ClassFile.FieldType.int)) ∈ lw_all := lw_g (lw_at lw_m19 143 rfl) rfl
theorem q4592 : (Jvm.Cond.instanceMethod ({ cls := "FlareSlopesModel", name := "set", desc := "(II)I" } : Jvm.MethodName)) ∈ lw_all := lw_g (lw_at lw_m19 145 rfl) rfl
theorem q4593 : (Jvm.Cond.selects "FlareSlopesModel" ({ cls := "FlareSlopesModel", name := "set", desc := "(II)I" } : Jvm.MethodName) ({ cls := "FlareSlopesModel", name := "set", desc := "(II)I" } : Jvm.MethodName)) ∈ lw_all := lw_g (lw_at lw_m19 146 rfl) rfl
theorem q4594 : (Jvm.Cond.code ({ cls := "FlareSlopesModel", name := "set", desc := "(II)I" } : Jvm.MethodName) prog_20_method_148_code (4 : Nat) (Option.some Jvm.ClassFile.FieldType.int)) ∈ lw_all := lw_g (lw_at lw_m19 147 rfl) rfl
theorem q4595 : (Jvm.Cond.methodLink "FlareSlopesModel" (394 : Nat) ({ cls := "FlareSlopesModel", name := "highNow", desc := "(I)I" } : Jvm.MethodName)) ∈ lw_all := lw_g (lw_at lw_m19 148 rfl) rfl
theorem q4597 : (Jvm.Cond.instanceMethod ({ cls := "FlareSlopesModel", name := "highNow", desc := "(I)I" } : Jvm.MethodName)) ∈ lw_all := lw_g (lw_at lw_m19 150 rfl) rfl
theorem q4598 : (Jvm.Cond.code ({ cls := "FlareSlopesModel", name := "highNow", desc := "(I)I" } : Jvm.MethodName) prog_20_method_147_code (2 : Nat) (Option.some Jvm.ClassFile.FieldType.int)) ∈ lw_all := lw_g (lw_at lw_m19 151 rfl) rfl
theorem q4600 : (Jvm.Cond.instanceMethod ({ cls := "FlareSlopesModel", name := "undo", desc := "()I" } : Jvm.MethodName)) ∈ lw_all := lw_g (lw_at lw_m19 153 rfl) rfl
theorem q4601 : (Jvm.Cond.selects "FlareSlopesModel" ({ cls := "FlareSlopesModel", name := "undo", desc := "()I" } : Jvm.MethodName) ({ cls := "FlareSlopesModel", name := "undo", desc := "()I" } : Jvm.MethodName)) ∈ lw_all := lw_g (lw_at lw_m19 154 rfl) rfl
theorem q4602 : (Jvm.Cond.code ({ cls := "FlareSlopesModel", name := "undo", desc := "()I" } : Jvm.MethodName) prog_20_method_149_code (1 : Nat) (Option.some Jvm.ClassFile.FieldType.int)) ∈ lw_all := lw_g (lw_at lw_m19 155 rfl) rfl
theorem q4604 : (Jvm.Cond.instanceMethod ({ cls := "FlareSlopesModel", name := "undoable", desc := "()I" } : Jvm.MethodName)) ∈ lw_all := lw_g (lw_at lw_m19 157 rfl) rfl
theorem q4605 : (Jvm.Cond.selects "FlareSlopesModel" ({ cls := "FlareSlopesModel", name := "undoable", desc := "()I" } : Jvm.MethodName) ({ cls := "FlareSlopesModel", name := "undoable", desc := "()I" } : Jvm.MethodName)) ∈ lw_all := lw_g (lw_at lw_m19 158 rfl) rfl
theorem q4606 : (Jvm.Cond.code ({ cls := "FlareSlopesModel", name := "undoable", desc := "()I" } : Jvm.MethodName) prog_20_method_150_code (1 : Nat) (Option.some Jvm.ClassFile.FieldType.int)) ∈ lw_all := lw_g (lw_at lw_m19 159 rfl) rfl
theorem q4608 : (Jvm.Cond.instanceMethod ({ cls := "FlareSlopesModel", name := "save", desc := "(I)I" } : Jvm.MethodName)) ∈ lw_all := lw_g (lw_at lw_m19 161 rfl) rfl
theorem q4609 : (Jvm.Cond.selects "FlareSlopesModel" ({ cls := "FlareSlopesModel", name := "save", desc := "(I)I" } : Jvm.MethodName) ({ cls := "FlareSlopesModel", name := "save", desc := "(I)I" } : Jvm.MethodName)) ∈ lw_all := lw_g (lw_at lw_m19 162 rfl) rfl
theorem q4610 : (Jvm.Cond.code ({ cls := "FlareSlopesModel", name := "save", desc := "(I)I" } : Jvm.MethodName) prog_20_method_151_code (2 : Nat) (Option.some Jvm.ClassFile.FieldType.int)) ∈ lw_all := lw_g (lw_at lw_m19 163 rfl) rfl
theorem q4612 : (Jvm.Cond.instanceMethod ({ cls := "FlareSlopesModel", name := "restore", desc := "(I)I" } : Jvm.MethodName)) ∈ lw_all := lw_g (lw_at lw_m19 165 rfl) rfl
theorem q4613 : (Jvm.Cond.selects "FlareSlopesModel" ({ cls := "FlareSlopesModel", name := "restore", desc := "(I)I" } : Jvm.MethodName) ({ cls := "FlareSlopesModel", name := "restore", desc := "(I)I" } : Jvm.MethodName)) ∈ lw_all := lw_g (lw_at lw_m19 166 rfl) rfl
theorem q4614 : (Jvm.Cond.code ({ cls := "FlareSlopesModel", name := "restore", desc := "(I)I" } : Jvm.MethodName) prog_20_method_152_code (3 : Nat) (Option.some Jvm.ClassFile.FieldType.int)) ∈ lw_all := lw_g (lw_at lw_m19 167 rfl) rfl
theorem q4673 : (Jvm.Cond.castable "FlareSlopesModel" "java/lang/Object") ∈ lw_tbl := lw_at lw_m19 226 rfl
theorem in_X2 : ∀ w ∈ wsX20, w ∈ lw_all := lw_in wsX20 [3962, 3964, 3966, 3968, 3970, 3972, 3974, 3976, 3978, 3980, 3982, 3984, 3986, 3988, 3990, 3992, 3994, 3996, 3998, 4000, 4002, 4004] (by decide +kernel) (by decide +kernel)
