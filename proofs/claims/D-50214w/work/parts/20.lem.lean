set_option maxRecDepth 100000
theorem oi_in : Cond.instanceMethod Lib.objectInit ∈ lw_all := q207
theorem oi_code : Cond.code Lib.objectInit ⟨#[0xb1]⟩ 1 none ∈ lw_all := q208
theorem ac_nat : Cond.native arraycopyName ∈ lw_all := q660
theorem ac_stat : Cond.static arraycopyName ∈ lw_all := q659
theorem mhx_Loc : ("FlareSlopes$Located" : String) ≠ "java/lang/invoke/MethodHandle" ∧ ("FlareSlopes$Located" : String) ≠ "java/lang/invoke/VarHandle" := ⟨by decide +kernel, by decide +kernel⟩
theorem hdl_X3_182 : Cond.methodLink "FlareSlopes$State" 182 ⟨"FlareSlopes$Cabin", "distance", "(LFlareSlopes$Located;)I"⟩ ∈ DFG := List.mem_of_getElem? (i := 0) rfl
theorem hdl_X1_376 : Cond.methodLink "FlareSlopes" 376 ⟨"FlareSlopes$Cabin", "distance", "(LFlareSlopes$Located;)I"⟩ ∈ DFG := List.mem_of_getElem? (i := 2) rfl
theorem hdl_same : Cond.sameMethod "FlareSlopes$Cabin" "FlareSlopes$Located" "distance" "(LFlareSlopes$Located;)I" ∈ DFG := List.mem_of_getElem? (i := 1) rfl
theorem hdf_isWithin : ("FlareSlopes$Cabin", (⟨"FlareSlopes$Located", "isWithin", "(LFlareSlopes$Located;I)Z"⟩ : MethodName), (⟨"FlareSlopes$Located", "isWithin", "(LFlareSlopes$Located;I)Z"⟩ : MethodName)) ∈ DFL := List.mem_of_getElem? (i := 0) rfl
theorem hdf_distance : ("FlareSlopes$Cabin", (⟨"FlareSlopes$Cabin", "distance", "(LFlareSlopes$Located;)I"⟩ : MethodName), (⟨"FlareSlopes$Located", "distance", "(LFlareSlopes$Located;)I"⟩ : MethodName)) ∈ DFL := List.mem_of_getElem? (i := 1) rfl
def asl_FlareSlopes_Key : List Nat := [10]
theorem asl_FlareSlopes_Key_ok : gAs "FlareSlopes$Key" asl_FlareSlopes_Key := List.forall_mem_cons.mpr ⟨⟨_, _, _, rfl, Or.inl rfl⟩, List.forall_mem_nil _⟩
def asl_java_lang_Object : List Nat := [0, 1, 2, 3, 4, 5, 6, 7, 8, 9, 10, 11, 12, 13, 14, 15, 16, 17, 18, 19, 20, 21, 22, 23, 24, 25, 26, 27, 28, 29, 30, 31, 32, 33, 34]
theorem asl_java_lang_Object_ok : gAs "java/lang/Object" asl_java_lang_Object := List.forall_mem_cons.mpr ⟨⟨_, _, _, rfl, Or.inr q4689⟩, List.forall_mem_cons.mpr ⟨⟨_, _, _, rfl, Or.inr q4682⟩, List.forall_mem_cons.mpr ⟨⟨_, _, _, rfl, Or.inr q4675⟩, List.forall_mem_cons.mpr ⟨⟨_, _, _, rfl, Or.inr q4670⟩, List.forall_mem_cons.mpr ⟨⟨_, _, _, rfl, Or.inr q4694⟩, List.forall_mem_cons.mpr ⟨⟨_, _, _, rfl, Or.inr q4708⟩, List.forall_mem_cons.mpr ⟨⟨_, _, _, rfl, Or.inr q4711⟩, List.forall_mem_cons.mpr ⟨⟨_, _, _, rfl, Or.inr q4687⟩, List.forall_mem_cons.mpr ⟨⟨_, _, _, rfl, Or.inr q4680⟩, List.forall_mem_cons.mpr ⟨⟨_, _, _, rfl, Or.inr q4686⟩, List.forall_mem_cons.mpr ⟨⟨_, _, _, rfl, Or.inr q4668⟩, List.forall_mem_cons.mpr ⟨⟨_, _, _, rfl, Or.inr q4677⟩, List.forall_mem_cons.mpr ⟨⟨_, _, _, rfl, Or.inr q4676⟩, List.forall_mem_cons.mpr ⟨⟨_, _, _, rfl, Or.inr q4678⟩, List.forall_mem_cons.mpr ⟨⟨_, _, _, rfl, Or.inr q4685⟩, List.forall_mem_cons.mpr ⟨⟨_, _, _, rfl, Or.inr q4684⟩, List.forall_mem_cons.mpr ⟨⟨_, _, _, rfl, Or.inr q4667⟩, List.forall_mem_cons.mpr ⟨⟨_, _, _, rfl, Or.inr q4709⟩, List.forall_mem_cons.mpr ⟨⟨_, _, _, rfl, Or.inr q4673⟩, List.forall_mem_cons.mpr ⟨⟨_, _, _, rfl, Or.inr q4703⟩, List.forall_mem_cons.mpr ⟨⟨_, _, _, rfl, Or.inr q4681⟩, List.forall_mem_cons.mpr ⟨⟨_, _, _, rfl, Or.inr q4672⟩, List.forall_mem_cons.mpr ⟨⟨_, _, _, rfl, Or.inr q4671⟩, List.forall_mem_cons.mpr ⟨⟨_, _, _, rfl, Or.inr q4692⟩, List.forall_mem_cons.mpr ⟨⟨_, _, _, rfl, Or.inr q4679⟩, List.forall_mem_cons.mpr ⟨⟨_, _, _, rfl, Or.inr q4690⟩, List.forall_mem_cons.mpr ⟨⟨_, _, _, rfl, Or.inr q4688⟩, List.forall_mem_cons.mpr ⟨⟨_, _, _, rfl, Or.inr q4704⟩, List.forall_mem_cons.mpr ⟨⟨_, _, _, rfl, Or.inr q4707⟩, List.forall_mem_cons.mpr ⟨⟨_, _, _, rfl, Or.inr q4706⟩, List.forall_mem_cons.mpr ⟨⟨_, _, _, rfl, Or.inr q4700⟩, List.forall_mem_cons.mpr ⟨⟨_, _, _, rfl, Or.inr q4699⟩, List.forall_mem_cons.mpr ⟨⟨_, _, _, rfl, Or.inr q4693⟩, List.forall_mem_cons.mpr ⟨⟨_, _, _, rfl, Or.inr q4691⟩, List.forall_mem_cons.mpr ⟨⟨_, _, _, rfl, Or.inr q4696⟩, List.forall_mem_nil _⟩⟩⟩⟩⟩⟩⟩⟩⟩⟩⟩⟩⟩⟩⟩⟩⟩⟩⟩⟩⟩⟩⟩⟩⟩⟩⟩⟩⟩⟩⟩⟩⟩⟩⟩
def asl_FlareSlopes_State : List Nat := [16]
theorem asl_FlareSlopes_State_ok : gAs "FlareSlopes$State" asl_FlareSlopes_State := List.forall_mem_cons.mpr ⟨⟨_, _, _, rfl, Or.inl rfl⟩, List.forall_mem_nil _⟩
def asl_java_util_HashMap_Node : List Nat := [27]
theorem asl_java_util_HashMap_Node_ok : gAs "java/util/HashMap$Node" asl_java_util_HashMap_Node := List.forall_mem_cons.mpr ⟨⟨_, _, _, rfl, Or.inr q4713⟩, List.forall_mem_nil _⟩
theorem ncl_java_lang_Integer_java_lang_String : ("java/lang/Integer", "java/lang/String") ∈ NCL := List.mem_of_getElem? (i := 0) rfl
theorem ncl_FlareSlopes_Key_java_lang_String : ("FlareSlopes$Key", "java/lang/String") ∈ NCL := List.mem_of_getElem? (i := 1) rfl
theorem ncl_java_lang_IllegalArgumentException_java_lang_IndexOutOfBoundsException : ("java/lang/IllegalArgumentException", "java/lang/IndexOutOfBoundsException") ∈ NCL := List.mem_of_getElem? (i := 2) rfl
theorem ncl_java_lang_IndexOutOfBoundsException_java_lang_IllegalStateException : ("java/lang/IndexOutOfBoundsException", "java/lang/IllegalStateException") ∈ NCL := List.mem_of_getElem? (i := 3) rfl
theorem ncl_java_lang_IllegalArgumentException_java_lang_IllegalStateException : ("java/lang/IllegalArgumentException", "java/lang/IllegalStateException") ∈ NCL := List.mem_of_getElem? (i := 4) rfl
theorem ncl_java_lang_Integer_FlareSlopes_Key : ("java/lang/Integer", "FlareSlopes$Key") ∈ NCL := List.mem_of_getElem? (i := 5) rfl
theorem ncl_FlareSlopes_Key_java_lang_Integer : ("FlareSlopes$Key", "java/lang/Integer") ∈ NCL := List.mem_of_getElem? (i := 6) rfl
theorem ncl_java_util_LinkedHashMap_Entry_java_util_HashMap_TreeNode : ("java/util/LinkedHashMap$Entry", "java/util/HashMap$TreeNode") ∈ NCL := List.mem_of_getElem? (i := 7) rfl
theorem ncl_java_lang_IllegalStateException_java_lang_IndexOutOfBoundsException : ("java/lang/IllegalStateException", "java/lang/IndexOutOfBoundsException") ∈ NCL := List.mem_of_getElem? (i := 8) rfl
theorem sfl_0 : ("java/lang/String", "COMPACT_STRINGS", "Z", (.inl (.int 1) : Value ⊕ Nat)) ∈ SFL := List.mem_of_getElem? (i := 0) rfl
theorem sfl_1 : ("java/util/ArrayList", "DEFAULTCAPACITY_EMPTY_ELEMENTDATA", "[Ljava/lang/Object;", (.inr 0 : Value ⊕ Nat)) ∈ SFL := List.mem_of_getElem? (i := 1) rfl
theorem sfl_2 : ("java/lang/Throwable", "UNASSIGNED_STACK", "[Ljava/lang/StackTraceElement;", (.inr 1 : Value ⊕ Nat)) ∈ SFL := List.mem_of_getElem? (i := 2) rfl
theorem sfl_3 : ("java/lang/Throwable", "SUPPRESSED_SENTINEL", "Ljava/util/List;", (.inr 2 : Value ⊕ Nat)) ∈ SFL := List.mem_of_getElem? (i := 3) rfl
theorem sfl_4 : ("jdk/internal/util/Preconditions", "SIOOBE_FORMATTER", "Ljava/util/function/BiFunction;", (.inr 3 : Value ⊕ Nat)) ∈ SFL := List.mem_of_getElem? (i := 4) rfl
theorem sfl_5 : ("java/lang/Integer$IntegerCache", "high", "I", (.inl (.int 127) : Value ⊕ Nat)) ∈ SFL := List.mem_of_getElem? (i := 5) rfl
theorem sfl_6 : ("java/lang/Integer$IntegerCache", "cache", "[Ljava/lang/Integer;", (.inr 10 : Value ⊕ Nat)) ∈ SFL := List.mem_of_getElem? (i := 6) rfl
theorem sfl_7 : ("java/util/HashSet", "PRESENT", "Ljava/lang/Object;", (.inr 11 : Value ⊕ Nat)) ∈ SFL := List.mem_of_getElem? (i := 7) rfl
theorem sfl_8 : ("java/lang/Integer", "DigitOnes", "[B", (.inr 12 : Value ⊕ Nat)) ∈ SFL := List.mem_of_getElem? (i := 8) rfl
theorem sfl_9 : ("java/lang/Integer", "DigitTens", "[B", (.inr 13 : Value ⊕ Nat)) ∈ SFL := List.mem_of_getElem? (i := 9) rfl
theorem srl_0 : ("FlareSlopes$Parser", 145, "fog", 4) ∈ SRL := List.mem_of_getElem? (i := 0) rfl
theorem srl_1 : ("FlareSlopes$Parser", 139, "cabin", 5) ∈ SRL := List.mem_of_getElem? (i := 1) rfl
theorem srl_2 : ("FlareSlopes$Parser", 143, "ridge", 6) ∈ SRL := List.mem_of_getElem? (i := 2) rfl
theorem srl_3 : ("FlareSlopes$Parser", 141, "slope", 7) ∈ SRL := List.mem_of_getElem? (i := 3) rfl
theorem srl_4 : ("FlareSlopes$Parser", 173, "alp", 8) ∈ SRL := List.mem_of_getElem? (i := 4) rfl
theorem srl_5 : ("FlareSlopes$Parser", 183, "rule", 9) ∈ SRL := List.mem_of_getElem? (i := 5) rfl
theorem srl_6 : ("FlareSlopesModel", 143, "alp", 8) ∈ SRL := List.mem_of_getElem? (i := 6) rfl
theorem srl_7 : ("FlareSlopesModel", 155, "rule", 9) ∈ SRL := List.mem_of_getElem? (i := 7) rfl
theorem srl_8 : ("FlareSlopesModel", 157, "cabin", 5) ∈ SRL := List.mem_of_getElem? (i := 8) rfl
theorem srl_9 : ("FlareSlopesModel", 162, "slope", 7) ∈ SRL := List.mem_of_getElem? (i := 9) rfl
theorem srl_10 : ("FlareSlopesModel", 167, "ridge", 6) ∈ SRL := List.mem_of_getElem? (i := 10) rfl
theorem srl_11 : ("FlareSlopesModel", 172, "fog", 4) ∈ SRL := List.mem_of_getElem? (i := 11) rfl
theorem pn_J0 : plainName RJ0 = true := by decide +kernel
theorem bc_17 : (Int8.ofInt (17)).toInt32 = (17 : Int32) := by decide
theorem k_22 : gCls 22 RJ1 TJ1 3 tyJ1 := ⟨rfl, in_J1, tyJ1_ok, nmJ1⟩
theorem lk_J1_3_22 : gLk RJ1 3 "java/util/ArrayDeque" (TJ1 0) := ⟨Or.inl q220, Or.inl rfl⟩
theorem mh_J0 : RJ0 ≠ "java/lang/invoke/MethodHandle" ∧ RJ0 ≠ "java/lang/invoke/VarHandle" := ⟨by decide +kernel, by decide +kernel⟩
theorem gy_J0_init : gY yJ0_init cJ0_init 1 none 0 := ⟨q216, q129, mh_J0, by decide +kernel⟩
theorem pn_J1 : plainName RJ1 = true := by decide +kernel
theorem ic_0 : Int32.ofInt (0) = (0 : Int32) := by decide
theorem k_21 : gCls 21 RJ3 TJ3 4 tyJ3 := ⟨rfl, in_J3, tyJ3_ok, nmJ3⟩
theorem lk_J2_22_21 : gLk RJ2 22 "java/lang/AbstractStringBuilder" (TJ3 1) := ⟨Or.inl q254, Or.inl rfl⟩
theorem lk_J2_15_21 : gLk RJ2 15 "java/lang/AbstractStringBuilder" (TJ3 0) := ⟨Or.inl q253, Or.inl rfl⟩
theorem pn_J2 : plainName RJ2 = true := by decide +kernel
theorem bc_16 : (Int8.ofInt (16)).toInt32 = (16 : Int32) := by decide
theorem mh_J2 : RJ2 ≠ "java/lang/invoke/MethodHandle" ∧ RJ2 ≠ "java/lang/invoke/VarHandle" := ⟨by decide +kernel, by decide +kernel⟩
theorem gy_J2_init : gY yJ2_init cJ2_init 2 none 1 := ⟨q242, q131, mh_J2, by decide +kernel⟩
theorem pn_J3 : plainName RJ3 = true := by decide +kernel
theorem sc_700 : (Int16.ofInt (700)).toInt32 = (700 : Int32) := by decide
theorem ic_m1 : Int32.ofInt (-1) = (-1 : Int32) := by decide
theorem ic_2 : Int32.ofInt (2) = (2 : Int32) := by decide
theorem k_3 : gCls 3 RX1 TX1 8 tyX1 := ⟨rfl, in_X1, tyX1_ok, nmX1⟩
theorem lk_X1_39_3 : gLk RX1 39 "FlareSlopes" (TX1 7) := ⟨Or.inl q276, Or.inl rfl⟩
theorem mh_J3 : RJ3 ≠ "java/lang/invoke/MethodHandle" ∧ RJ3 ≠ "java/lang/invoke/VarHandle" := ⟨by decide +kernel, by decide +kernel⟩
theorem gy_J3_init : gY yJ3_init cJ3_init 1 none 0 := ⟨q239, q132, mh_J3, by decide +kernel⟩
theorem lk_X1_32_3 : gLk RX1 32 "FlareSlopes" (TX1 6) := ⟨Or.inl q275, Or.inl rfl⟩
theorem lk_X1_26_3 : gLk RX1 26 "FlareSlopes" (TX1 5) := ⟨Or.inl q274, Or.inl rfl⟩
theorem mh_J1 : RJ1 ≠ "java/lang/invoke/MethodHandle" ∧ RJ1 ≠ "java/lang/invoke/VarHandle" := ⟨by decide +kernel, by decide +kernel⟩
theorem gy_J1_init : gY yJ1_init cJ1_init 1 none 0 := ⟨q213, q130, mh_J1, by decide +kernel⟩
theorem lk_X1_19_3 : gLk RX1 19 "FlareSlopes" (TX1 3) := ⟨Or.inl q271, Or.inl rfl⟩
theorem lk_X1_15_3 : gLk RX1 15 "FlareSlopes" (TX1 0) := ⟨Or.inl q268, Or.inl rfl⟩
theorem pn_X1 : plainName RX1 = true := by decide +kernel
theorem sc_1058 : (Int16.ofInt (1058)).toInt32 = (1058 : Int32) := by decide
theorem sc_8464 : (Int16.ofInt (8464)).toInt32 = (8464 : Int32) := by decide
theorem sc_2116 : (Int16.ofInt (2116)).toInt32 = (2116 : Int32) := by decide
theorem bc_18 : (Int8.ofInt (18)).toInt32 = (18 : Int32) := by decide
theorem sc_300 : (Int16.ofInt (300)).toInt32 = (300 : Int32) := by decide
theorem k_18 : gCls 18 RX2 TX2 22 tyX2 := ⟨rfl, in_X2, tyX2_ok, nmX2⟩
theorem lk_X2_41_18 : gLk RX2 41 "FlareSlopesModel" (TX2 20) := ⟨Or.inl q3960, Or.inl rfl⟩
theorem lk_X2_37_18 : gLk RX2 37 "FlareSlopesModel" (TX2 13) := ⟨Or.inl q3953, Or.inl rfl⟩
theorem lk_X2_33_18 : gLk RX2 33 "FlareSlopesModel" (TX2 10) := ⟨Or.inl q3950, Or.inl rfl⟩
theorem lk_X2_30_18 : gLk RX2 30 "FlareSlopesModel" (TX2 7) := ⟨Or.inl q3947, Or.inl rfl⟩
theorem lk_X2_26_18 : gLk RX2 26 "FlareSlopesModel" (TX2 6) := ⟨Or.inl q3946, Or.inl rfl⟩
theorem lk_X2_22_18 : gLk RX2 22 "FlareSlopesModel" (TX2 5) := ⟨Or.inl q3945, Or.inl rfl⟩
theorem lk_X2_19_18 : gLk RX2 19 "FlareSlopesModel" (TX2 4) := ⟨Or.inl q3944, Or.inl rfl⟩
theorem lk_X2_16_18 : gLk RX2 16 "FlareSlopesModel" (TX2 3) := ⟨Or.inl q3943, Or.inl rfl⟩
theorem lk_X2_13_18 : gLk RX2 13 "FlareSlopesModel" (TX2 2) := ⟨Or.inl q3942, Or.inl rfl⟩
theorem lk_X2_9_18 : gLk RX2 9 "FlareSlopesModel" (TX2 1) := ⟨Or.inl q3941, Or.inl rfl⟩
theorem pn_X2 : plainName RX2 = true := by decide +kernel
theorem bc_20 : (Int8.ofInt (20)).toInt32 = (20 : Int32) := by decide
theorem ic_5 : Int32.ofInt (5) = (5 : Int32) := by decide
theorem ic_1 : Int32.ofInt (1) = (1 : Int32) := by decide
theorem ic_3 : Int32.ofInt (3) = (3 : Int32) := by decide
theorem ic_4 : Int32.ofInt (4) = (4 : Int32) := by decide
theorem lk_X1_90_3 : gLk RX1 90 "FlareSlopes" (TX1 1) := ⟨Or.inl q269, Or.inl rfl⟩
theorem bc_24 : (Int8.ofInt (24)).toInt32 = (24 : Int32) := by decide
theorem ii_1 (x : Int32) : x + Int32.ofInt (1) = x + (1 : Int32) := congrArg (x + ·) (by decide)
theorem ii_m8 (x : Int32) : x + Int32.ofInt (-8) = x + (-8 : Int32) := congrArg (x + ·) (by decide)
theorem bc_8 : (Int8.ofInt (8)).toInt32 = (8 : Int32) := by decide
theorem ii_m1 (x : Int32) : x + Int32.ofInt (-1) = x + (-1 : Int32) := congrArg (x + ·) (by decide)
theorem lk_X2_51_18 : gLk RX2 51 "FlareSlopesModel" (TX2 11) := ⟨Or.inl q3951, Or.inl rfl⟩
theorem sc_680 : (Int16.ofInt (680)).toInt32 = (680 : Int32) := by decide
theorem mh_X2 : RX2 ≠ "java/lang/invoke/MethodHandle" ∧ RX2 ≠ "java/lang/invoke/VarHandle" := ⟨by decide +kernel, by decide +kernel⟩
theorem gy_X2_four : gY yX2_four cX2_four 3 none 1 := ⟨q4020, q135, mh_X2, by decide +kernel⟩
theorem lk_X2_44_18 : gLk RX2 44 "FlareSlopesModel" (TX2 0) := ⟨Or.inl q3940, Or.inl rfl⟩
theorem mh_X1 : RX1 ≠ "java/lang/invoke/MethodHandle" ∧ RX1 ≠ "java/lang/invoke/VarHandle" := ⟨by decide +kernel, by decide +kernel⟩
theorem gy_X1_in : gY yX1_in cX1_in 3 (some .boolean) 3 := ⟨q415, q128, mh_X1, by decide +kernel⟩
theorem k_24 : gCls 24 RJ12 TJ12 3 tyJ12 := ⟨rfl, in_J12, tyJ12_ok, nmJ12⟩
theorem lk_J11_7_24 : gLk RJ11 7 "java/util/AbstractList" (TJ12 0) := ⟨Or.inl q471, Or.inl rfl⟩
theorem pn_J11 : plainName RJ11 = true := by decide +kernel
theorem lk_J12_9_24 : gLk RJ12 9 "java/util/ArrayList" (TJ12 1) := ⟨Or.inl q467, Or.inl rfl⟩
theorem mh_J11 : RJ11 ≠ "java/lang/invoke/MethodHandle" ∧ RJ11 ≠ "java/lang/invoke/VarHandle" := ⟨by decide +kernel, by decide +kernel⟩
theorem gy_J11_init : gY yJ11_init cJ11_init 1 none 0 := ⟨q463, q145, mh_J11, by decide +kernel⟩
theorem pn_J12 : plainName RJ12 = true := by decide +kernel
theorem k_13 : gCls 13 RX6 TX6 2 tyX6 := ⟨rfl, in_X6, tyX6_ok, nmX6⟩
theorem lk_X6_18_13 : gLk RX6 18 "FlareSlopes$Register" (TX6 1) := ⟨Or.inl q483, Or.inl rfl⟩
theorem lk_X6_12_13 : gLk RX6 12 "FlareSlopes$Register" (TX6 0) := ⟨Or.inl q482, Or.inl rfl⟩
theorem mh_J12 : RJ12 ≠ "java/lang/invoke/MethodHandle" ∧ RJ12 ≠ "java/lang/invoke/VarHandle" := ⟨by decide +kernel, by decide +kernel⟩
theorem gy_J12_init : gY yJ12_init cJ12_init 1 none 0 := ⟨q460, q146, mh_J12, by decide +kernel⟩
theorem pn_X6 : plainName RX6 = true := by decide +kernel
theorem k_10 : gCls 10 RX7 TX7 2 tyX7 := ⟨rfl, in_X7, tyX7_ok, nmX7⟩
theorem lk_X7_15_10 : gLk RX7 15 "FlareSlopes$Key" (TX7 1) := ⟨Or.inl q499, Or.inl rfl⟩
theorem lk_X7_9_10 : gLk RX7 9 "FlareSlopes$Key" (TX7 0) := ⟨Or.inl q498, Or.inl rfl⟩
theorem pn_X7 : plainName RX7 = true := by decide +kernel
theorem bc_10 : (Int8.ofInt (10)).toInt32 = (10 : Int32) := by decide
theorem bc_6 : (Int8.ofInt (6)).toInt32 = (6 : Int32) := by decide
theorem bc_80 : (Int8.ofInt (80)).toInt32 = (80 : Int32) := by decide
theorem mh_X7 : RX7 ≠ "java/lang/invoke/MethodHandle" ∧ RX7 ≠ "java/lang/invoke/VarHandle" := ⟨by decide +kernel, by decide +kernel⟩
theorem gy_X7_init : gY yX7_init cX7_init 3 none 2 := ⟨q496, q147, mh_X7, by decide +kernel⟩
theorem k_11 : gCls 11 RX5 TX5 6 tyX5 := ⟨rfl, in_X5, tyX5_ok, nmX5⟩
theorem lk_X5_39_11 : gLk RX5 39 "FlareSlopes$Mountain" (TX5 5) := ⟨Or.inl q523, Or.inl rfl⟩
theorem lk_X5_33_11 : gLk RX5 33 "FlareSlopes$Mountain" (TX5 4) := ⟨Or.inl q521, Or.inl rfl⟩
theorem lk_X5_30_11 : gLk RX5 30 "FlareSlopes$Mountain" (TX5 3) := ⟨Or.inl q517, Or.inl rfl⟩
theorem lk_X5_26_11 : gLk RX5 26 "FlareSlopes$Mountain" (TX5 2) := ⟨Or.inl q514, Or.inl rfl⟩
theorem lk_X5_20_11 : gLk RX5 20 "FlareSlopes$Mountain" (TX5 1) := ⟨Or.inl q510, Or.inl rfl⟩
theorem mh_X6 : RX6 ≠ "java/lang/invoke/MethodHandle" ∧ RX6 ≠ "java/lang/invoke/VarHandle" := ⟨by decide +kernel, by decide +kernel⟩
theorem gy_X6_init : gY yX6_init cX6_init 2 none 1 := ⟨q454, q144, mh_X6, by decide +kernel⟩
theorem lk_X5_14_11 : gLk RX5 14 "FlareSlopes$Mountain" (TX5 0) := ⟨Or.inl q506, Or.inl rfl⟩
theorem pn_X5 : plainName RX5 = true := by decide +kernel
theorem sc_255 : (Int16.ofInt (255)).toInt32 = (255 : Int32) := by decide
theorem lk_X4_29_3 : gLk RX4 29 "FlareSlopes" (TX1 0) := ⟨Or.inr ⟨_, q267⟩, Or.inl rfl⟩
theorem k_12 : gCls 12 RX4 TX4 7 tyX4 := ⟨rfl, in_X4, tyX4_ok, nmX4⟩
theorem lk_X4_3_12 : gLk RX4 3 "FlareSlopes$Parser" (TX4 6) := ⟨Or.inl q556, Or.inl rfl⟩
theorem lk_X4_22_12 : gLk RX4 22 "FlareSlopes$Parser" (TX4 0) := ⟨Or.inl q550, Or.inl rfl⟩
theorem pn_X4 : plainName RX4 = true := by decide +kernel
theorem mh_X4 : RX4 ≠ "java/lang/invoke/MethodHandle" ∧ RX4 ≠ "java/lang/invoke/VarHandle" := ⟨by decide +kernel, by decide +kernel⟩
theorem gy_X4_at : gY yX4_at cX4_at 2 (some .int) 1 := ⟨q544, q142, mh_X4, by decide +kernel⟩
theorem bc_97 : (Int8.ofInt (97)).toInt32 = (97 : Int32) := by decide
theorem bc_122 : (Int8.ofInt (122)).toInt32 = (122 : Int32) := by decide
theorem bc_48 : (Int8.ofInt (48)).toInt32 = (48 : Int32) := by decide
theorem bc_57 : (Int8.ofInt (57)).toInt32 = (57 : Int32) := by decide
theorem bc_59 : (Int8.ofInt (59)).toInt32 = (59 : Int32) := by decide
theorem lk_X4_41_12 : gLk RX4 41 "FlareSlopes$Parser" (TX4 2) := ⟨Or.inl q552, Or.inl rfl⟩
theorem lk_X4_47_12 : gLk RX4 47 "FlareSlopes$Parser" (TX4 4) := ⟨Or.inl q554, Or.inl rfl⟩
theorem lk_X4_54_12 : gLk RX4 54 "FlareSlopes$Parser" (TX4 5) := ⟨Or.inl q555, Or.inl rfl⟩
theorem lk_X4_44_12 : gLk RX4 44 "FlareSlopes$Parser" (TX4 3) := ⟨Or.inl q553, Or.inl rfl⟩
theorem gy_X4_run : gY yX4_run cX4_run 5 (some .int) 3 := ⟨q549, q142, mh_X4, by decide +kernel⟩
theorem bc_32 : (Int8.ofInt (32)).toInt32 = (32 : Int32) := by decide
theorem gy_X4_step : gY yX4_step cX4_step 3 none 0 := ⟨q540, q142, mh_X4, by decide +kernel⟩
theorem lk_X4_18_12 : gLk RX4 18 "FlareSlopes$Parser" (TX4 1) := ⟨Or.inl q551, Or.inl rfl⟩
theorem mh_X5 : RX5 ≠ "java/lang/invoke/MethodHandle" ∧ RX5 ≠ "java/lang/invoke/VarHandle" := ⟨by decide +kernel, by decide +kernel⟩
theorem gy_X5_init : gY yX5_init cX5_init 2 none 0 := ⟨q448, q143, mh_X5, by decide +kernel⟩
theorem k_8 : gCls 8 RX8 TX8 8 tyX8 := ⟨rfl, in_X8, tyX8_ok, nmX8⟩
theorem lk_J6_24_8 : gLk RJ6 24 "java/lang/Throwable" (TX8 2) := ⟨Or.inl q366, Or.inl rfl⟩
theorem lk_J6_7_8 : gLk RJ6 7 "java/lang/Throwable" (TX8 0) := ⟨Or.inl q364, Or.inl rfl⟩
theorem lk_J6_31_8 : gLk RJ6 31 "java/lang/Throwable" (TX8 3) := ⟨Or.inl q363, Or.inl rfl⟩
theorem lk_J6_17_8 : gLk RJ6 17 "java/lang/Throwable" (TX8 1) := ⟨Or.inl q365, Or.inl rfl⟩
theorem pn_J6 : plainName RJ6 = true := by decide +kernel
theorem mh_J6 : RJ6 ≠ "java/lang/invoke/MethodHandle" ∧ RJ6 ≠ "java/lang/invoke/VarHandle" := ⟨by decide +kernel, by decide +kernel⟩
theorem gy_J6_init_3 : gY yJ6_init_3 cJ6_init_3 5 none 4 := ⟨q606, q136, mh_J6, by decide +kernel⟩
theorem pn_J7 : plainName RJ7 = true := by decide +kernel
theorem lk_X8_13_8 : gLk RX8 13 "FlareSlopes$Flaw" (TX8 7) := ⟨Or.inl q609, Or.inl rfl⟩
theorem lk_X8_7_8 : gLk RX8 7 "FlareSlopes$Flaw" (TX8 6) := ⟨Or.inl q607, Or.inl rfl⟩
theorem mh_J7 : RJ7 ≠ "java/lang/invoke/MethodHandle" ∧ RJ7 ≠ "java/lang/invoke/VarHandle" := ⟨by decide +kernel, by decide +kernel⟩
theorem gy_J7_init_3 : gY yJ7_init_3 cJ7_init_3 5 none 4 := ⟨q603, q137, mh_J7, by decide +kernel⟩
theorem pn_X8 : plainName RX8 = true := by decide +kernel
theorem mh_X8 : RX8 ≠ "java/lang/invoke/MethodHandle" ∧ RX8 ≠ "java/lang/invoke/VarHandle" := ⟨by decide +kernel, by decide +kernel⟩
theorem gy_X8_init : gY yX8_init cX8_init 3 none 2 := ⟨q600, q148, mh_X8, by decide +kernel⟩
theorem pf_J14_max : plainFor yJ14_max = true := by decide +kernel
theorem mh_J14 : RJ14 ≠ "java/lang/invoke/MethodHandle" ∧ RJ14 ≠ "java/lang/invoke/VarHandle" := ⟨by decide +kernel, by decide +kernel⟩
theorem gy_J14_max : gY yJ14_max cJ14_max 2 (some .int) 2 := ⟨q639, q150, mh_J14, by decide +kernel⟩
theorem pn_J13 : plainName RJ13 = true := by decide +kernel
theorem mh_J13 : RJ13 ≠ "java/lang/invoke/MethodHandle" ∧ RJ13 ≠ "java/lang/invoke/VarHandle" := ⟨by decide +kernel, by decide +kernel⟩
theorem gy_J13_newLength : gY yJ13_newLength cJ13_newLength 4 (some .int) 3 := ⟨q636, q149, mh_J13, by decide +kernel⟩
theorem pf_J14_min : plainFor yJ14_min = true := by decide +kernel
theorem gy_J14_min : gY yJ14_min cJ14_min 2 (some .int) 2 := ⟨q657, q150, mh_J14, by decide +kernel⟩
theorem pn_J15 : plainName RJ15 = true := by decide +kernel
theorem mh_J15 : RJ15 ≠ "java/lang/invoke/MethodHandle" ∧ RJ15 ≠ "java/lang/invoke/VarHandle" := ⟨by decide +kernel, by decide +kernel⟩
theorem gy_J15_copyOf : gY yJ15_copyOf cJ15_copyOf 3 (some (.array .byte)) 2 := ⟨q647, q151, mh_J15, by decide +kernel⟩
theorem gy_J2_newCapacity : gY yJ2_newCapacity cJ2_newCapacity 6 (some .int) 1 := ⟨q633, q131, mh_J2, by decide +kernel⟩
theorem pn_J16 : plainName RJ16 = true := by decide +kernel
theorem lk_J2_79_21 : gLk RJ2 79 "java/lang/AbstractStringBuilder" (TJ3 3) := ⟨Or.inl q257, Or.inl rfl⟩
theorem mh_J16 : RJ16 ≠ "java/lang/invoke/MethodHandle" ∧ RJ16 ≠ "java/lang/invoke/VarHandle" := ⟨by decide +kernel, by decide +kernel⟩
theorem gy_J16_canEncode : gY yJ16_canEncode cJ16_canEncode 1 (some .boolean) 1 := ⟨q668, q153, mh_J16, by decide +kernel⟩
theorem gy_J2_isLatin1 : gY yJ2_isLatin1 cJ2_isLatin1 1 (some .boolean) 0 := ⟨q665, q131, mh_J2, by decide +kernel⟩
theorem gy_J2_ensureCapacityInternal : gY yJ2_ensureCapacityInternal cJ2_ensureCapacityInternal 3 none 1 := ⟨q629, q131, mh_J2, by decide +kernel⟩
theorem gy_J2_append : gY yJ2_append cJ2_append 2 (some (.object "java/lang/AbstractStringBuilder")) 1 := ⟨q625, q131, mh_J2, by decide +kernel⟩
theorem gy_J2_length : gY yJ2_length cJ2_length 1 (some .int) 0 := ⟨q738, q131, mh_J2, by decide +kernel⟩
theorem gy_J15_checkLength : gY yJ15_checkLength cJ15_checkLength 2 none 2 := ⟨q748, q151, mh_J15, by decide +kernel⟩
theorem gy_J15_copyOfRangeByte : gY yJ15_copyOfRangeByte cJ15_copyOfRangeByte 5 (some (.array .byte)) 3 := ⟨q745, q151, mh_J15, by decide +kernel⟩
theorem k_20 : gCls 20 RJ4 TJ4 4 tyJ4 := ⟨rfl, in_J4, tyJ4_ok, nmJ4⟩
theorem lk_J4_9_20 : gLk RJ4 9 "java/lang/String" (TJ4 0) := ⟨Or.inl q853, Or.inl rfl⟩
theorem gy_J15_copyOfRange : gY yJ15_copyOfRange cJ15_copyOfRange 3 (some (.array .byte)) 3 := ⟨q742, q151, mh_J15, by decide +kernel⟩
theorem lk_J4_15_20 : gLk RJ4 15 "java/lang/String" (TJ4 1) := ⟨Or.inl q854, Or.inl rfl⟩
theorem lk_J4_1048_21 : gLk RJ4 1048 "java/lang/AbstractStringBuilder" (TJ3 2) := ⟨Or.inl q256, Or.inl rfl⟩
theorem mhx_java_lang_AbstractStringBuilder : ("java/lang/AbstractStringBuilder" : String) ≠ "java/lang/invoke/MethodHandle" ∧ ("java/lang/AbstractStringBuilder" : String) ≠ "java/lang/invoke/VarHandle" := ⟨by decide +kernel, by decide +kernel⟩
theorem gy_J3_length : gY yJ3_length cJ3_length 1 (some .int) 0 := ⟨q736, q132, mh_J3, by decide +kernel⟩
theorem gy_J2_getValue : gY yJ2_getValue cJ2_getValue 1 (some (.array .byte)) 0 := ⟨q730, q131, mh_J2, by decide +kernel⟩
theorem pn_J4 : plainName RJ4 = true := by decide +kernel
theorem mh_J4 : RJ4 ≠ "java/lang/invoke/MethodHandle" ∧ RJ4 ≠ "java/lang/invoke/VarHandle" := ⟨by decide +kernel, by decide +kernel⟩
theorem gy_J4_init_2 : gY yJ4_init_2 cJ4_init_2 5 none 2 := ⟨q724, q133, mh_J4, by decide +kernel⟩
theorem gy_J4_init : gY yJ4_init cJ4_init 2 none 1 := ⟨q721, q133, mh_J4, by decide +kernel⟩
theorem gy_J3_toString : gY yJ3_toString cJ3_toString 1 (some (.object "java/lang/String")) 0 := ⟨q717, q132, mh_J3, by decide +kernel⟩
theorem gy_J3_append : gY yJ3_append cJ3_append 2 (some (.object "java/lang/StringBuilder")) 1 := ⟨q622, q132, mh_J3, by decide +kernel⟩
theorem gy_X4_check : gY yX4_check cX4_check 3 none 2 := ⟨q588, q142, mh_X4, by decide +kernel⟩
theorem gy_J16_equals : gY yJ16_equals cJ16_equals 3 (some .boolean) 2 := ⟨q869, q153, mh_J16, by decide +kernel⟩
theorem gy_J4_equals : gY yJ4_equals cJ4_equals 3 (some .boolean) 1 := ⟨q865, q133, mh_J4, by decide +kernel⟩
theorem gy_X4_word : gY yX4_word cX4_word 3 (some (.object "java/lang/String")) 0 := ⟨q584, q142, mh_X4, by decide +kernel⟩
theorem bc_50 : (Int8.ofInt (50)).toInt32 = (50 : Int32) := by decide
theorem sc_200 : (Int16.ofInt (200)).toInt32 = (200 : Int32) := by decide
theorem bc_99 : (Int8.ofInt (99)).toInt32 = (99 : Int32) := by decide
theorem bc_100 : (Int8.ofInt (100)).toInt32 = (100 : Int32) := by decide
theorem bc_9 : (Int8.ofInt (9)).toInt32 = (9 : Int32) := by decide
theorem bc_30 : (Int8.ofInt (30)).toInt32 = (30 : Int32) := by decide
theorem gy_X4_number : gY yX4_number cX4_number 4 (some .int) 2 := ⟨q884, q142, mh_X4, by decide +kernel⟩
theorem gy_X1_mostOf : gY yX1_mostOf cX1_mostOf 2 (some .int) 2 := ⟨q879, q128, mh_X1, by decide +kernel⟩
theorem lk_X4_162_11 : gLk RX4 162 "FlareSlopes$Mountain" (TX5 4) := ⟨Or.inr ⟨_, q522⟩, Or.inl rfl⟩
theorem gy_X1_leastOf : gY yX1_leastOf cX1_leastOf 2 (some .int) 2 := ⟨q876, q128, mh_X1, by decide +kernel⟩
theorem bc_31 : (Int8.ofInt (31)).toInt32 = (31 : Int32) := by decide
theorem gy_J13_signedHashCode : gY yJ13_signedHashCode cJ13_signedHashCode 6 (some .int) 4 := ⟨q907, q149, mh_J13, by decide +kernel⟩
theorem gy_J13_vectorizedHashCode : gY yJ13_vectorizedHashCode cJ13_vectorizedHashCode 5 (some .int) 5 := ⟨q903, q149, mh_J13, by decide +kernel⟩
theorem lk_J4_19_20 : gLk RJ4 19 "java/lang/String" (TJ4 2) := ⟨Or.inl q855, Or.inl rfl⟩
theorem lk_J4_23_20 : gLk RJ4 23 "java/lang/String" (TJ4 3) := ⟨Or.inl q856, Or.inl rfl⟩
theorem gy_J16_hashCode : gY yJ16_hashCode cJ16_hashCode 1 (some .int) 1 := ⟨q900, q153, mh_J16, by decide +kernel⟩
theorem gy_J4_isLatin1 : gY yJ4_isLatin1 cJ4_isLatin1 1 (some .boolean) 0 := ⟨q897, q133, mh_J4, by decide +kernel⟩
theorem lk_J12_48_24 : gLk RJ12 48 "java/util/ArrayList" (TJ12 2) := ⟨Or.inl q470, Or.inl rfl⟩
theorem mhx_java_util_List : ("java/util/List" : String) ≠ "java/lang/invoke/MethodHandle" ∧ ("java/util/List" : String) ≠ "java/lang/invoke/VarHandle" := ⟨by decide +kernel, by decide +kernel⟩
theorem gy_J12_size : gY yJ12_size cJ12_size 1 (some .int) 0 := ⟨q976, q146, mh_J12, by decide +kernel⟩
theorem gy_X6_size : gY yX6_size cX6_size 1 (some .int) 0 := ⟨q966, q144, mh_X6, by decide +kernel⟩
theorem pn_J17 : plainName RJ17 = true := by decide +kernel
theorem mh_J17 : RJ17 ≠ "java/lang/invoke/MethodHandle" ∧ RJ17 ≠ "java/lang/invoke/VarHandle" := ⟨by decide +kernel, by decide +kernel⟩
theorem gy_J17_checkIndex : gY yJ17_checkIndex cJ17_checkIndex 3 (some .int) 3 := ⟨q713, q154, mh_J17, by decide +kernel⟩
theorem pn_J21 : plainName RJ21 = true := by decide +kernel
theorem gy_J12_elementData : gY yJ12_elementData cJ12_elementData 2 (some (.object "java/lang/Object")) 1 := ⟨q1005, q146, mh_J12, by decide +kernel⟩
theorem mh_J21 : RJ21 ≠ "java/lang/invoke/MethodHandle" ∧ RJ21 ≠ "java/lang/invoke/VarHandle" := ⟨by decide +kernel, by decide +kernel⟩
theorem gy_J21_checkIndex : gY yJ21_checkIndex cJ21_checkIndex 2 (some .int) 2 := ⟨q1000, q158, mh_J21, by decide +kernel⟩
theorem gy_J12_get : gY yJ12_get cJ12_get 2 (some (.object "java/lang/Object")) 1 := ⟨q997, q146, mh_J12, by decide +kernel⟩
theorem k_15 : gCls 15 RX9 TX9 5 tyX9 := ⟨rfl, in_X9, tyX9_ok, nmX9⟩
theorem lk_X9_7_15 : gLk RX9 7 "FlareSlopes$Spot" (TX9 0) := ⟨Or.inl q1065, Or.inl rfl⟩
theorem pn_X9 : plainName RX9 = true := by decide +kernel
theorem gy_J4_coder : gY yJ4_coder cJ4_coder 1 (some .byte) 0 := ⟨q816, q133, mh_J4, by decide +kernel⟩
theorem gy_J4_checkIndex : gY yJ4_checkIndex cJ4_checkIndex 2 none 2 := ⟨q710, q133, mh_J4, by decide +kernel⟩
theorem gy_J16_charAt : gY yJ16_charAt cJ16_charAt 2 (some .char) 2 := ⟨q1043, q153, mh_J16, by decide +kernel⟩
theorem gy_J2_charAt : gY yJ2_charAt cJ2_charAt 5 (some .char) 1 := ⟨q1055, q131, mh_J2, by decide +kernel⟩
theorem mhx_java_lang_CharSequence : ("java/lang/CharSequence" : String) ≠ "java/lang/invoke/MethodHandle" ∧ ("java/lang/CharSequence" : String) ≠ "java/lang/invoke/VarHandle" := ⟨by decide +kernel, by decide +kernel⟩
theorem gy_J4_charAt : gY yJ4_charAt cJ4_charAt 2 (some .char) 1 := ⟨q1040, q133, mh_J4, by decide +kernel⟩
theorem gy_J3_charAt : gY yJ3_charAt cJ3_charAt 2 (some .char) 1 := ⟨q1052, q132, mh_J3, by decide +kernel⟩
theorem gy_J4_length : gY yJ4_length cJ4_length 1 (some .int) 0 := ⟨q812, q133, mh_J4, by decide +kernel⟩
theorem gy_X6_isSame : gY yX6_isSame cX6_isSame 4 (some .boolean) 2 := ⟨q1019, q144, mh_X6, by decide +kernel⟩
theorem mhx_FlareSlopes_Named : ("FlareSlopes$Named" : String) ≠ "java/lang/invoke/MethodHandle" ∧ ("FlareSlopes$Named" : String) ≠ "java/lang/invoke/VarHandle" := ⟨by decide +kernel, by decide +kernel⟩
theorem mh_X9 : RX9 ≠ "java/lang/invoke/MethodHandle" ∧ RX9 ≠ "java/lang/invoke/VarHandle" := ⟨by decide +kernel, by decide +kernel⟩
theorem gy_X9_name : gY yX9_name cX9_name 1 (some (.object "java/lang/CharSequence")) 0 := ⟨q1016, q159, mh_X9, by decide +kernel⟩
theorem gy_X6_get : gY yX6_get cX6_get 2 (some (.object "FlareSlopes$Named")) 1 := ⟨q988, q144, mh_X6, by decide +kernel⟩
theorem gy_X6_find : gY yX6_find cX6_find 3 (some .int) 1 := ⟨q984, q144, mh_X6, by decide +kernel⟩
theorem lk_X9_23_15 : gLk RX9 23 "FlareSlopes$Spot" (TX9 4) := ⟨Or.inl q1076, Or.inl rfl⟩
theorem lk_X9_20_15 : gLk RX9 20 "FlareSlopes$Spot" (TX9 3) := ⟨Or.inl q1073, Or.inl rfl⟩
theorem lk_X9_17_15 : gLk RX9 17 "FlareSlopes$Spot" (TX9 2) := ⟨Or.inl q1070, Or.inl rfl⟩
theorem lk_X9_13_15 : gLk RX9 13 "FlareSlopes$Spot" (TX9 1) := ⟨Or.inl q1067, Or.inl rfl⟩
theorem gy_J12_grow_2 : gY yJ12_grow_2 cJ12_grow_2 4 (some (.array (.object "java/lang/Object"))) 1 := ⟨q1113, q146, mh_J12, by decide +kernel⟩
theorem gy_J12_grow : gY yJ12_grow cJ12_grow 1 (some (.array (.object "java/lang/Object"))) 0 := ⟨q1109, q146, mh_J12, by decide +kernel⟩
theorem gy_J12_add_2 : gY yJ12_add_2 cJ12_add_2 4 none 3 := ⟨q1105, q146, mh_J12, by decide +kernel⟩
theorem lk_J12_63_24 : gLk RJ12 63 "java/util/ArrayList" (TJ12 0) := ⟨Or.inl q474, Or.inr q473⟩
theorem gy_J12_add : gY yJ12_add cJ12_add 2 (some .boolean) 1 := ⟨q1101, q146, mh_J12, by decide +kernel⟩
theorem sc_999 : (Int16.ofInt (999)).toInt32 = (999 : Int32) := by decide
theorem gy_X6_add : gY yX6_add cX6_add 2 none 1 := ⟨q1092, q144, mh_X6, by decide +kernel⟩
theorem gy_X9_init : gY yX9_init cX9_init 6 none 5 := ⟨q1063, q159, mh_X9, by decide +kernel⟩
theorem gy_X4_name : gY yX4_name cX4_name 3 (some (.object "java/lang/String")) 1 := ⟨q980, q142, mh_X4, by decide +kernel⟩
theorem gy_X6_isFull : gY yX6_isFull cX6_isFull 1 (some .boolean) 0 := ⟨q962, q144, mh_X6, by decide +kernel⟩
theorem k_14 : gCls 14 RX10 TX10 2 tyX10 := ⟨rfl, in_X10, tyX10_ok, nmX10⟩
theorem lk_X10_13_14 : gLk RX10 13 "FlareSlopes$Ridge" (TX10 1) := ⟨Or.inl q1188, Or.inl rfl⟩
theorem lk_X10_7_14 : gLk RX10 7 "FlareSlopes$Ridge" (TX10 0) := ⟨Or.inl q1186, Or.inl rfl⟩
theorem pn_X10 : plainName RX10 = true := by decide +kernel
theorem mh_X10 : RX10 ≠ "java/lang/invoke/MethodHandle" ∧ RX10 ≠ "java/lang/invoke/VarHandle" := ⟨by decide +kernel, by decide +kernel⟩
theorem gy_X10_init : gY yX10_init cX10_init 3 none 2 := ⟨q1184, q160, mh_X10, by decide +kernel⟩
theorem lk_X4_113_11 : gLk RX4 113 "FlareSlopes$Mountain" (TX5 2) := ⟨Or.inr ⟨_, q515⟩, Or.inl rfl⟩
theorem k_9 : gCls 9 RX11 TX11 3 tyX11 := ⟨rfl, in_X11, tyX11_ok, nmX11⟩
theorem lk_X11_16_9 : gLk RX11 16 "FlareSlopes$Fog" (TX11 2) := ⟨Or.inl q1211, Or.inl rfl⟩
theorem lk_X11_13_9 : gLk RX11 13 "FlareSlopes$Fog" (TX11 1) := ⟨Or.inl q1209, Or.inl rfl⟩
theorem lk_X11_7_9 : gLk RX11 7 "FlareSlopes$Fog" (TX11 0) := ⟨Or.inl q1207, Or.inl rfl⟩
theorem pn_X11 : plainName RX11 = true := by decide +kernel
theorem sc_5000 : (Int16.ofInt (5000)).toInt32 = (5000 : Int32) := by decide
theorem mh_X11 : RX11 ≠ "java/lang/invoke/MethodHandle" ∧ RX11 ≠ "java/lang/invoke/VarHandle" := ⟨by decide +kernel, by decide +kernel⟩
theorem gy_X11_init : gY yX11_init cX11_init 4 none 3 := ⟨q1205, q161, mh_X11, by decide +kernel⟩
theorem lk_X4_128_11 : gLk RX4 128 "FlareSlopes$Mountain" (TX5 3) := ⟨Or.inr ⟨_, q518⟩, Or.inl rfl⟩
theorem gy_X4_spot : gY yX4_spot cX4_spot 8 none 3 := ⟨q958, q142, mh_X4, by decide +kernel⟩
theorem lk_X4_147_11 : gLk RX4 147 "FlareSlopes$Mountain" (TX5 0) := ⟨Or.inr ⟨_, q508⟩, Or.inl rfl⟩
theorem lk_X4_155_11 : gLk RX4 155 "FlareSlopes$Mountain" (TX5 1) := ⟨Or.inr ⟨_, q512⟩, Or.inl rfl⟩
theorem gy_X4_ridge : gY yX4_ridge cX4_ridge 2 none 0 := ⟨q1177, q142, mh_X4, by decide +kernel⟩
theorem gy_X4_fog : gY yX4_fog cX4_fog 3 none 0 := ⟨q1200, q142, mh_X4, by decide +kernel⟩
theorem gy_J4_hashCode : gY yJ4_hashCode cJ4_hashCode 2 (some .int) 0 := ⟨q893, q133, mh_J4, by decide +kernel⟩
theorem gy_X4_line : gY yX4_line cX4_line 3 none 0 := ⟨q889, q142, mh_X4, by decide +kernel⟩
theorem gy_X4_setting : gY yX4_setting cX4_setting 2 none 1 := ⟨q873, q142, mh_X4, by decide +kernel⟩
theorem gy_X4_expect : gY yX4_expect cX4_expect 2 none 1 := ⟨q580, q142, mh_X4, by decide +kernel⟩
theorem pn_J22 : plainName RJ22 = true := by decide +kernel
theorem k_26 : gCls 26 RJ24 TJ24 12 tyJ24 := ⟨rfl, in_J24, tyJ24_ok, nmJ24⟩
theorem lk_J23_81_26 : gLk RJ23 81 "java/util/HashMap" (TJ24 5) := ⟨Or.inl q1273, Or.inl rfl⟩
theorem mh_J22 : RJ22 ≠ "java/lang/invoke/MethodHandle" ∧ RJ22 ≠ "java/lang/invoke/VarHandle" := ⟨by decide +kernel, by decide +kernel⟩
theorem gy_J22_init : gY yJ22_init cJ22_init 1 none 0 := ⟨q1248, q163, mh_J22, by decide +kernel⟩
theorem pn_J23 : plainName RJ23 = true := by decide +kernel
theorem lk_J24_64_26 : gLk RJ24 64 "java/util/LinkedHashMap" (TJ24 10) := ⟨Or.inl q1255, Or.inl rfl⟩
theorem lk_J24_1_26 : gLk RJ24 1 "java/util/LinkedHashMap" (TJ24 11) := ⟨Or.inl q1256, Or.inl rfl⟩
theorem mh_J23 : RJ23 ≠ "java/lang/invoke/MethodHandle" ∧ RJ23 ≠ "java/lang/invoke/VarHandle" := ⟨by decide +kernel, by decide +kernel⟩
theorem gy_J23_init : gY yJ23_init cJ23_init 1 none 0 := ⟨q1245, q164, mh_J23, by decide +kernel⟩
theorem pn_J24 : plainName RJ24 = true := by decide +kernel
theorem k_7 : gCls 7 RX12 TX12 9 tyX12 := ⟨rfl, in_X12, tyX12_ok, nmX12⟩
theorem lk_X12_46_7 : gLk RX12 46 "FlareSlopes$Cabin" (TX12 2) := ⟨Or.inl q1309, Or.inl rfl⟩
theorem lk_X12_43_15 : gLk RX12 43 "FlareSlopes$Spot" (TX9 4) := ⟨Or.inr ⟨_, q1077⟩, Or.inl rfl⟩
theorem lk_X12_42_7 : gLk RX12 42 "FlareSlopes$Cabin" (TX12 6) := ⟨Or.inl q1319, Or.inl rfl⟩
theorem lk_X12_39_15 : gLk RX12 39 "FlareSlopes$Spot" (TX9 3) := ⟨Or.inr ⟨_, q1074⟩, Or.inl rfl⟩
theorem lk_X12_38_7 : gLk RX12 38 "FlareSlopes$Cabin" (TX12 1) := ⟨Or.inl q1307, Or.inl rfl⟩
theorem lk_X12_35_15 : gLk RX12 35 "FlareSlopes$Spot" (TX9 2) := ⟨Or.inr ⟨_, q1071⟩, Or.inl rfl⟩
theorem lk_X12_34_7 : gLk RX12 34 "FlareSlopes$Cabin" (TX12 0) := ⟨Or.inl q1305, Or.inl rfl⟩
theorem lk_X12_29_15 : gLk RX12 29 "FlareSlopes$Spot" (TX9 1) := ⟨Or.inr ⟨_, q1068⟩, Or.inl rfl⟩
theorem lk_X12_25_7 : gLk RX12 25 "FlareSlopes$Cabin" (TX12 8) := ⟨Or.inl q1324, Or.inl rfl⟩
theorem mh_J24 : RJ24 ≠ "java/lang/invoke/MethodHandle" ∧ RJ24 ≠ "java/lang/invoke/VarHandle" := ⟨by decide +kernel, by decide +kernel⟩
theorem gy_J24_init : gY yJ24_init cJ24_init 1 none 0 := ⟨q1242, q165, mh_J24, by decide +kernel⟩
theorem lk_X12_18_7 : gLk RX12 18 "FlareSlopes$Cabin" (TX12 7) := ⟨Or.inl q1321, Or.inl rfl⟩
theorem lk_X12_15_7 : gLk RX12 15 "FlareSlopes$Cabin" (TX12 4) := ⟨Or.inl q1314, Or.inl rfl⟩
theorem lk_X12_9_7 : gLk RX12 9 "FlareSlopes$Cabin" (TX12 3) := ⟨Or.inl q1311, Or.inl rfl⟩
theorem pn_X12 : plainName RX12 = true := by decide +kernel
theorem mh_X12 : RX12 ≠ "java/lang/invoke/MethodHandle" ∧ RX12 ≠ "java/lang/invoke/VarHandle" := ⟨by decide +kernel, by decide +kernel⟩
theorem gy_X12_init : gY yX12_init cX12_init 2 none 1 := ⟨q1236, q162, mh_X12, by decide +kernel⟩
theorem lk_X3_48_11 : gLk RX3 48 "FlareSlopes$Mountain" (TX5 0) := ⟨Or.inr ⟨_, q507⟩, Or.inl rfl⟩
theorem k_16 : gCls 16 RX3 TX3 14 tyX3 := ⟨rfl, in_X3, tyX3_ok, nmX3⟩
theorem lk_X3_12_16 : gLk RX3 12 "FlareSlopes$State" (TX3 1) := ⟨Or.inl q1350, Or.inl rfl⟩
theorem lk_X3_18_16 : gLk RX3 18 "FlareSlopes$State" (TX3 2) := ⟨Or.inl q1351, Or.inl rfl⟩
theorem lk_X3_39_11 : gLk RX3 39 "FlareSlopes$Mountain" (TX5 4) := ⟨Or.inr ⟨_, q520⟩, Or.inl rfl⟩
theorem lk_X3_35_16 : gLk RX3 35 "FlareSlopes$State" (TX3 0) := ⟨Or.inl q1348, Or.inl rfl⟩
theorem lk_X3_32_16 : gLk RX3 32 "FlareSlopes$State" (TX3 13) := ⟨Or.inl q1373, Or.inl rfl⟩
theorem lk_X3_29_16 : gLk RX3 29 "FlareSlopes$State" (TX3 12) := ⟨Or.inl q1371, Or.inl rfl⟩
theorem lk_X3_25_16 : gLk RX3 25 "FlareSlopes$State" (TX3 3) := ⟨Or.inl q1353, Or.inl rfl⟩
theorem pn_X3 : plainName RX3 = true := by decide +kernel
theorem lk_J1_24_22 : gLk RJ1 24 "java/util/ArrayDeque" (TJ1 1) := ⟨Or.inl q223, Or.inl rfl⟩
theorem lk_J1_20_22 : gLk RJ1 20 "java/util/ArrayDeque" (TJ1 2) := ⟨Or.inl q224, Or.inl rfl⟩
theorem gy_J1_circularClear : gY yJ1_circularClear cJ1_circularClear 4 none 3 := ⟨q1410, q130, mh_J1, by decide +kernel⟩
theorem mh_X3 : RX3 ≠ "java/lang/invoke/MethodHandle" ∧ RX3 ≠ "java/lang/invoke/VarHandle" := ⟨by decide +kernel, by decide +kernel⟩
theorem gy_X3_size : gY yX3_size cX3_size 1 (some .int) 0 := ⟨q1414, q141, mh_X3, by decide +kernel⟩
theorem lk_X1_116_8 : gLk RX1 116 "FlareSlopes$Flaw" (TX8 7) := ⟨Or.inr ⟨_, q610⟩, Or.inl rfl⟩
theorem lk_X1_93_3 : gLk RX1 93 "FlareSlopes" (TX1 2) := ⟨Or.inl q270, Or.inl rfl⟩
theorem lk_X1_113_8 : gLk RX1 113 "FlareSlopes$Flaw" (TX8 6) := ⟨Or.inr ⟨_, q608⟩, Or.inl rfl⟩
theorem lk_X1_56_3 : gLk RX1 56 "FlareSlopes" (TX1 4) := ⟨Or.inl q273, Or.inl rfl⟩
theorem gy_J1_clear : gY yJ1_clear cJ1_clear 1 none 0 := ⟨q1407, q130, mh_J1, by decide +kernel⟩
theorem gy_X3_init : gY yX3_init cX3_init 3 none 1 := ⟨q1222, q141, mh_X3, by decide +kernel⟩
theorem gy_X4_parse : gY yX4_parse cX4_parse 1 (some (.object "FlareSlopes$Mountain")) 0 := ⟨q575, q142, mh_X4, by decide +kernel⟩
theorem gy_X4_init : gY yX4_init cX4_init 3 none 2 := ⟨q442, q142, mh_X4, by decide +kernel⟩
theorem gy_X1_checkIndex : gY yX1_checkIndex cX1_checkIndex 2 none 2 := ⟨q412, q128, mh_X1, by decide +kernel⟩
theorem gy_X1_load : gYX yX1_load cX1_load 3 (some .int) [(25, 82, 83, 111)] 1 := ⟨q408, q128, mh_X1, by decide +kernel⟩
theorem pn_X0 : plainName RX0 = true := by decide +kernel
theorem gy_X2_in : gY yX2_in cX2_in 3 (some .boolean) 3 := ⟨q4039, q135, mh_X2, by decide +kernel⟩
theorem lk_X2_61_18 : gLk RX2 61 "FlareSlopesModel" (TX2 14) := ⟨Or.inl q3954, Or.inl rfl⟩
theorem lk_X2_72_18 : gLk RX2 72 "FlareSlopesModel" (TX2 15) := ⟨Or.inl q3955, Or.inl rfl⟩
theorem lk_X2_78_18 : gLk RX2 78 "FlareSlopesModel" (TX2 17) := ⟨Or.inl q3957, Or.inl rfl⟩
theorem lk_X2_75_18 : gLk RX2 75 "FlareSlopesModel" (TX2 16) := ⟨Or.inl q3956, Or.inl rfl⟩
theorem lk_X2_96_18 : gLk RX2 96 "FlareSlopesModel" (TX2 18) := ⟨Or.inl q3958, Or.inl rfl⟩
theorem gy_X2_isDigit : gY yX2_isDigit cX2_isDigit 2 (some .boolean) 1 := ⟨q4068, q135, mh_X2, by decide +kernel⟩
theorem lk_X2_89_18 : gLk RX2 89 "FlareSlopesModel" (TX2 19) := ⟨Or.inl q3959, Or.inl rfl⟩
theorem gy_X2_wordOf : gY yX2_wordOf cX2_wordOf 6 (some .long) 2 := ⟨q4062, q135, mh_X2, by decide +kernel⟩
theorem gy_X2_isLetter : gY yX2_isLetter cX2_isLetter 2 (some .boolean) 1 := ⟨q4058, q135, mh_X2, by decide +kernel⟩
theorem lk_X2_58_18 : gLk RX2 58 "FlareSlopesModel" (TX2 12) := ⟨Or.inl q3952, Or.inl rfl⟩
theorem gy_X2_is : gY yX2_is cX2_is 2 (some .boolean) 1 := ⟨q4081, q135, mh_X2, by decide +kernel⟩
theorem gy_X2_next : gY yX2_next cX2_next 1 none 0 := ⟨q4054, q135, mh_X2, by decide +kernel⟩
theorem gy_X2_faults : gY yX2_faults cX2_faults 2 none 1 := ⟨q4087, q135, mh_X2, by decide +kernel⟩
theorem gy_X2_isWord : gY yX2_isWord cX2_isWord 3 (some .boolean) 1 := ⟨q4077, q135, mh_X2, by decide +kernel⟩
theorem gy_X2_number : gY yX2_number cX2_number 4 (some .int) 2 := ⟨q4103, q135, mh_X2, by decide +kernel⟩
theorem gy_X2_highOf : gY yX2_highOf cX2_highOf 2 (some .int) 1 := ⟨q4099, q135, mh_X2, by decide +kernel⟩
theorem gy_X2_lowOf : gY yX2_lowOf cX2_lowOf 2 (some .int) 1 := ⟨q4095, q135, mh_X2, by decide +kernel⟩
theorem sc_148 : (Int16.ofInt (148)).toInt32 = (148 : Int32) := by decide
theorem sc_158 : (Int16.ofInt (158)).toInt32 = (158 : Int32) := by decide
theorem sc_168 : (Int16.ofInt (168)).toInt32 = (168 : Int32) := by decide
theorem gy_X2_readsPlace : gY yX2_readsPlace cX2_readsPlace 2 none 1 := ⟨q4125, q135, mh_X2, by decide +kernel⟩
theorem gy_X2_newName : gY yX2_newName cX2_newName 5 (some .long) 2 := ⟨q4121, q135, mh_X2, by decide +kernel⟩
theorem gy_X2_begins : gY yX2_begins cX2_begins 3 none 2 := ⟨q4117, q135, mh_X2, by decide +kernel⟩
theorem bc_7 : (Int8.ofInt (7)).toInt32 = (7 : Int32) := by decide
theorem bc_40 : (Int8.ofInt (40)).toInt32 = (40 : Int32) := by decide
theorem bc_64 : (Int8.ofInt (64)).toInt32 = (64 : Int32) := by decide
theorem bc_72 : (Int8.ofInt (72)).toInt32 = (72 : Int32) := by decide
theorem gy_X2_readsFog : gY yX2_readsFog cX2_readsFog 2 none 0 := ⟨q4140, q135, mh_X2, by decide +kernel⟩
theorem gy_X2_readsRidge : gY yX2_readsRidge cX2_readsRidge 2 none 0 := ⟨q4135, q135, mh_X2, by decide +kernel⟩
theorem gy_X2_readsSlope : gY yX2_readsSlope cX2_readsSlope 2 none 0 := ⟨q4130, q135, mh_X2, by decide +kernel⟩
theorem gy_X2_readsCabin : gY yX2_readsCabin cX2_readsCabin 2 none 0 := ⟨q4113, q135, mh_X2, by decide +kernel⟩
theorem gy_X2_readsSettings : gY yX2_readsSettings cX2_readsSettings 4 none 2 := ⟨q4091, q135, mh_X2, by decide +kernel⟩
theorem gy_X2_takes : gY yX2_takes cX2_takes 2 none 1 := ⟨q4073, q135, mh_X2, by decide +kernel⟩
theorem gy_X2_takesSemi : gY yX2_takesSemi cX2_takesSemi 1 none 0 := ⟨q4107, q135, mh_X2, by decide +kernel⟩
theorem lk_X2_188_18 : gLk RX2 188 "FlareSlopesModel" (TX2 9) := ⟨Or.inl q3949, Or.inl rfl⟩
theorem lk_X2_184_18 : gLk RX2 184 "FlareSlopesModel" (TX2 8) := ⟨Or.inl q3948, Or.inl rfl⟩
theorem gy_X2_copies : gY yX2_copies cX2_copies 5 none 4 := ⟨q4046, q135, mh_X2, by decide +kernel⟩
theorem gy_X2_reads : gY yX2_reads cX2_reads 1 none 0 := ⟨q4050, q135, mh_X2, by decide +kernel⟩
theorem gy_X2_may : gY yX2_may cX2_may 4 (some .boolean) 3 := ⟨q4043, q135, mh_X2, by decide +kernel⟩
theorem gy_X1_checkState : gY yX1_checkState cX1_checkState 1 none 1 := ⟨q1436, q128, mh_X1, by decide +kernel⟩
theorem gy_X1_number : gY yX1_number cX1_number 2 (some .int) 2 := ⟨q1455, q128, mh_X1, by decide +kernel⟩
theorem lk_X1_138_11 : gLk RX1 138 "FlareSlopes$Mountain" (TX5 0) := ⟨Or.inr ⟨_, q509⟩, Or.inl rfl⟩
theorem lk_X1_129_16 : gLk RX1 129 "FlareSlopes$State" (TX3 0) := ⟨Or.inr ⟨_, q1349⟩, Or.inl rfl⟩
theorem lk_X1_133_11 : gLk RX1 133 "FlareSlopes$Mountain" (TX5 1) := ⟨Or.inr ⟨_, q513⟩, Or.inl rfl⟩
theorem gy_X1_loaded : gY yX1_loaded cX1_loaded 1 (some (.object "FlareSlopes$State")) 0 := ⟨q1433, q128, mh_X1, by decide +kernel⟩
theorem gy_X1_find : gY yX1_find cX1_find 6 (some .int) 2 := ⟨q1429, q128, mh_X1, by decide +kernel⟩
theorem gy_X2_named : gY yX2_named cX2_named 5 (some .int) 3 := ⟨q4152, q135, mh_X2, by decide +kernel⟩
theorem gy_X2_mayTwo : gY yX2_mayTwo cX2_mayTwo 3 (some .boolean) 2 := ⟨q4148, q135, mh_X2, by decide +kernel⟩
theorem lk_X3_124_11 : gLk RX3 124 "FlareSlopes$Mountain" (TX5 1) := ⟨Or.inr ⟨_, q511⟩, Or.inl rfl⟩
theorem k_25 : gCls 25 RJ26 TJ26 4 tyJ26 := ⟨rfl, in_J26, tyJ26_ok, nmJ26⟩
theorem lk_J26_22_25 : gLk RJ26 22 "java/util/ArrayList$Itr" (TJ26 2) := ⟨Or.inl q1491, Or.inl rfl⟩
theorem lk_J26_17_24 : gLk RJ26 17 "java/util/ArrayList" (TJ12 0) := ⟨Or.inl q472, Or.inr q473⟩
theorem lk_J26_1_25 : gLk RJ26 1 "java/util/ArrayList$Itr" (TJ26 3) := ⟨Or.inl q1492, Or.inl rfl⟩
theorem lk_J26_13_25 : gLk RJ26 13 "java/util/ArrayList$Itr" (TJ26 1) := ⟨Or.inl q1490, Or.inl rfl⟩
theorem pn_J26 : plainName RJ26 = true := by decide +kernel
theorem mh_J26 : RJ26 ≠ "java/lang/invoke/MethodHandle" ∧ RJ26 ≠ "java/lang/invoke/VarHandle" := ⟨by decide +kernel, by decide +kernel⟩
theorem gy_J26_init : gY yJ26_init cJ26_init 2 none 1 := ⟨q1487, q167, mh_J26, by decide +kernel⟩
theorem lk_J26_28_24 : gLk RJ26 28 "java/util/ArrayList" (TJ12 2) := ⟨Or.inr ⟨_, q469⟩, Or.inl rfl⟩
theorem lk_J26_25_25 : gLk RJ26 25 "java/util/ArrayList$Itr" (TJ26 0) := ⟨Or.inl q1489, Or.inl rfl⟩
theorem lk_J26_37_24 : gLk RJ26 37 "java/util/ArrayList" (TJ12 1) := ⟨Or.inl q468, Or.inl rfl⟩
theorem gy_J26_checkForComodification : gY yJ26_checkForComodification cJ26_checkForComodification 1 none 0 := ⟨q1559, q167, mh_J26, by decide +kernel⟩
theorem lk_J23_156_26 : gLk RJ23 156 "java/util/HashMap" (TJ24 2) := ⟨Or.inl q1266, Or.inl rfl⟩
theorem mhx_java_util_Map : ("java/util/Map" : String) ≠ "java/lang/invoke/MethodHandle" ∧ ("java/util/Map" : String) ≠ "java/lang/invoke/VarHandle" := ⟨by decide +kernel, by decide +kernel⟩
theorem gy_J23_size : gY yJ23_size cJ23_size 1 (some .int) 0 := ⟨q1618, q164, mh_J23, by decide +kernel⟩
theorem lk_X3_188_7 : gLk RX3 188 "FlareSlopes$Cabin" (TX12 8) := ⟨Or.inr ⟨_, q1325⟩, Or.inl rfl⟩
theorem mhx_java_util_Iterator : ("java/util/Iterator" : String) ≠ "java/lang/invoke/MethodHandle" ∧ ("java/util/Iterator" : String) ≠ "java/lang/invoke/VarHandle" := ⟨by decide +kernel, by decide +kernel⟩
theorem gy_J26_next : gY yJ26_next cJ26_next 3 (some (.object "java/lang/Object")) 0 := ⟨q1555, q167, mh_J26, by decide +kernel⟩
theorem gy_J26_hasNext : gY yJ26_hasNext cJ26_hasNext 1 (some .boolean) 0 := ⟨q1517, q167, mh_J26, by decide +kernel⟩
theorem gy_J12_iterator : gY yJ12_iterator cJ12_iterator 1 (some (.object "java/util/Iterator")) 0 := ⟨q1482, q146, mh_J12, by decide +kernel⟩
theorem bc_63 : (Int8.ofInt (63)).toInt32 = (63 : Int32) := by decide
theorem pn_J20 : plainName RJ20 = true := by decide +kernel
theorem gy_X11_at : gY yX11_at cX11_at 2 (some .int) 1 := ⟨q1664, q161, mh_X11, by decide +kernel⟩
theorem gy_X5_mist : gY yX5_mist cX5_mist 4 (some .int) 1 := ⟨q1655, q143, mh_X5, by decide +kernel⟩
theorem lk_X3_98_16 : gLk RX3 98 "FlareSlopes$State" (TX3 4) := ⟨Or.inl q1355, Or.inl rfl⟩
theorem pn_X13 : plainName RX13 = true := by decide +kernel
theorem mh_X13 : RX13 ≠ "java/lang/invoke/MethodHandle" ∧ RX13 ≠ "java/lang/invoke/VarHandle" := ⟨by decide +kernel, by decide +kernel⟩
theorem gy_X13_square : gY yX13_square cX13_square 1 (some .int) 1 := ⟨q1693, q168, mh_X13, by decide +kernel⟩
theorem mhx_FlareSlopes_Located : ("FlareSlopes$Located" : String) ≠ "java/lang/invoke/MethodHandle" ∧ ("FlareSlopes$Located" : String) ≠ "java/lang/invoke/VarHandle" := ⟨by decide +kernel, by decide +kernel⟩
theorem gy_X12_y : gY yX12_y cX12_y 1 (some .int) 0 := ⟨q1702, q162, mh_X12, by decide +kernel⟩
theorem gy_X9_y : gY yX9_y cX9_y 1 (some .int) 0 := ⟨q1707, q159, mh_X9, by decide +kernel⟩
theorem gy_X12_x : gY yX12_x cX12_x 1 (some .int) 0 := ⟨q1684, q162, mh_X12, by decide +kernel⟩
theorem gy_X9_x : gY yX9_x cX9_x 1 (some .int) 0 := ⟨q1690, q159, mh_X9, by decide +kernel⟩
theorem gy_X12_high : gY yX12_high cX12_high 1 (some .int) 0 := ⟨q1728, q162, mh_X12, by decide +kernel⟩
theorem gy_X9_high : gY yX9_high cX9_high 1 (some .int) 0 := ⟨q1733, q159, mh_X9, by decide +kernel⟩
theorem gy_X10_hides : gY yX10_hides cX10_hides 3 (some .boolean) 2 := ⟨q1717, q160, mh_X10, by decide +kernel⟩
theorem gy_X5_ridges : gY yX5_ridges cX5_ridges 5 (some .int) 2 := ⟨q1712, q143, mh_X5, by decide +kernel⟩
theorem gy_X13_isWithin : gY yX13_isWithin cX13_isWithin 3 (some .boolean) 2 := ⟨q1675, q168, mh_X13, by decide +kernel⟩
theorem gy_X3_sight : gY yX3_sight cX3_sight 1 (some .int) 0 := ⟨q1651, q141, mh_X3, by decide +kernel⟩
theorem gy_X3_isSeen : gY yX3_isSeen cX3_isSeen 3 (some .boolean) 2 := ⟨q1647, q141, mh_X3, by decide +kernel⟩
theorem gy_X3_cabin : gY yX3_cabin cX3_cabin 2 (some (.object "FlareSlopes$Cabin")) 1 := ⟨q1641, q141, mh_X3, by decide +kernel⟩
theorem gy_X3_sees : gY yX3_sees cX3_sees 3 (some .boolean) 2 := ⟨q1637, q141, mh_X3, by decide +kernel⟩
theorem mh_J20 : RJ20 ≠ "java/lang/invoke/MethodHandle" ∧ RJ20 ≠ "java/lang/invoke/VarHandle" := ⟨by decide +kernel, by decide +kernel⟩
theorem gy_J20_bitCount : gY yJ20_bitCount cJ20_bitCount 1 (some .int) 1 := ⟨q1621, q157, mh_J20, by decide +kernel⟩
theorem gy_X3_seers : gY yX3_seers cX3_seers 4 (some .int) 1 := ⟨q1632, q141, mh_X3, by decide +kernel⟩
theorem lk_X1_200_7 : gLk RX1 200 "FlareSlopes$Cabin" (TX12 2) := ⟨Or.inr ⟨_, q1310⟩, Or.inl rfl⟩
theorem k_33 : gCls 33 RJ27 TJ27 2 tyJ27 := ⟨rfl, in_J27, tyJ27_ok, nmJ27⟩
theorem lk_J27_13_33 : gLk RJ27 13 "java/util/LinkedHashMap$LinkedValues" (TJ27 0) := ⟨Or.inl q1762, Or.inl rfl⟩
theorem lk_J27_1_33 : gLk RJ27 1 "java/util/LinkedHashMap$LinkedValues" (TJ27 1) := ⟨Or.inl q1763, Or.inl rfl⟩
theorem pn_J27 : plainName RJ27 = true := by decide +kernel
theorem lk_J24_139_26 : gLk RJ24 139 "java/util/LinkedHashMap" (TJ24 7) := ⟨Or.inl q1278, Or.inr q1279⟩
theorem mh_J27 : RJ27 ≠ "java/lang/invoke/MethodHandle" ∧ RJ27 ≠ "java/lang/invoke/VarHandle" := ⟨by decide +kernel, by decide +kernel⟩
theorem gy_J27_init : gY yJ27_init cJ27_init 3 none 2 := ⟨q1760, q169, mh_J27, by decide +kernel⟩
theorem gy_J24_sequencedValues : gY yJ24_sequencedValues cJ24_sequencedValues 3 (some (.object "java/util/SequencedCollection")) 0 := ⟨q1755, q165, mh_J24, by decide +kernel⟩
theorem k_32 : gCls 32 RJ34 TJ34 5 tyJ34 := ⟨rfl, in_J34, tyJ34_ok, nmJ34⟩
theorem lk_J31_36_32 : gLk RJ31 36 "java/util/LinkedHashMap$LinkedHashIterator" (TJ34 1) := ⟨Or.inl q1849, Or.inl rfl⟩
theorem lk_J31_33_32 : gLk RJ31 33 "java/util/LinkedHashMap$LinkedHashIterator" (TJ34 2) := ⟨Or.inl q1850, Or.inl rfl⟩
theorem lk_J31_29_26 : gLk RJ31 29 "java/util/LinkedHashMap" (TJ24 3) := ⟨Or.inl q1268, Or.inr q1269⟩
theorem lk_J31_26_32 : gLk RJ31 26 "java/util/LinkedHashMap$LinkedHashIterator" (TJ34 0) := ⟨Or.inl q1848, Or.inl rfl⟩
theorem lk_J31_23_26 : gLk RJ31 23 "java/util/LinkedHashMap" (TJ24 8) := ⟨Or.inl q1252, Or.inl rfl⟩
theorem lk_J31_17_26 : gLk RJ31 17 "java/util/LinkedHashMap" (TJ24 9) := ⟨Or.inl q1253, Or.inl rfl⟩
theorem lk_J31_13_32 : gLk RJ31 13 "java/util/LinkedHashMap$LinkedHashIterator" (TJ34 3) := ⟨Or.inl q1851, Or.inl rfl⟩
theorem lk_J31_1_32 : gLk RJ31 1 "java/util/LinkedHashMap$LinkedHashIterator" (TJ34 4) := ⟨Or.inl q1852, Or.inl rfl⟩
theorem pn_J31 : plainName RJ31 = true := by decide +kernel
theorem mh_J31 : RJ31 ≠ "java/lang/invoke/MethodHandle" ∧ RJ31 ≠ "java/lang/invoke/VarHandle" := ⟨by decide +kernel, by decide +kernel⟩
theorem gy_J31_init : gY yJ31_init cJ31_init 3 none 2 := ⟨q1846, q173, mh_J31, by decide +kernel⟩
theorem pn_J34 : plainName RJ34 = true := by decide +kernel
theorem mh_J34 : RJ34 ≠ "java/lang/invoke/MethodHandle" ∧ RJ34 ≠ "java/lang/invoke/VarHandle" := ⟨by decide +kernel, by decide +kernel⟩
theorem gy_J34_init : gY yJ34_init cJ34_init 3 none 2 := ⟨q1892, q176, mh_J34, by decide +kernel⟩
theorem k_27 : gCls 27 RJ48 TJ48 6 tyJ48 := ⟨rfl, in_J48, tyJ48_ok, nmJ48⟩
theorem lk_J31_50_27 : gLk RJ31 50 "java/util/LinkedHashMap$Entry" (TJ48 5) := ⟨Or.inl q2869, Or.inl rfl⟩
theorem lk_J31_45_27 : gLk RJ31 45 "java/util/LinkedHashMap$Entry" (TJ48 4) := ⟨Or.inl q2867, Or.inl rfl⟩
theorem lk_J34_13_27 : gLk RJ34 13 "java/util/LinkedHashMap$Entry" (TJ48 2) := ⟨Or.inl q2884, Or.inr q2885⟩
theorem mhx_java_util_LinkedHashMap_LinkedHashIterator : ("java/util/LinkedHashMap$LinkedHashIterator" : String) ≠ "java/lang/invoke/MethodHandle" ∧ ("java/util/LinkedHashMap$LinkedHashIterator" : String) ≠ "java/lang/invoke/VarHandle" := ⟨by decide +kernel, by decide +kernel⟩
theorem gy_J31_nextNode : gY yJ31_nextNode cJ31_nextNode 2 (some (.object "java/util/LinkedHashMap$Entry")) 0 := ⟨q1585, q173, mh_J31, by decide +kernel⟩
theorem k_17 : gCls 17 RX17 TX17 2 tyX17 := ⟨rfl, in_X17, tyX17_ok, nmX17⟩
theorem lk_X1_233_17 : gLk RX1 233 "FlareSlopes$Vote" (TX17 0) := ⟨Or.inr ⟨_, q3628⟩, Or.inl rfl⟩
theorem gy_J34_next : gY yJ34_next cJ34_next 1 (some (.object "java/lang/Object")) 0 := ⟨q1605, q176, mh_J34, by decide +kernel⟩
theorem gy_J31_hasNext : gY yJ31_hasNext cJ31_hasNext 1 (some .boolean) 0 := ⟨q1529, q173, mh_J31, by decide +kernel⟩
theorem mhx_java_util_Collection : ("java/util/Collection" : String) ≠ "java/lang/invoke/MethodHandle" ∧ ("java/util/Collection" : String) ≠ "java/lang/invoke/VarHandle" := ⟨by decide +kernel, by decide +kernel⟩
theorem gy_J27_iterator : gY yJ27_iterator cJ27_iterator 1 (some (.object "java/util/Iterator")) 0 := ⟨q1887, q169, mh_J27, by decide +kernel⟩
theorem gy_J24_values : gY yJ24_values cJ24_values 1 (some (.object "java/util/Collection")) 0 := ⟨q1751, q165, mh_J24, by decide +kernel⟩
theorem lk_X1_205_7 : gLk RX1 205 "FlareSlopes$Cabin" (TX12 8) := ⟨Or.inr ⟨_, q1326⟩, Or.inl rfl⟩
theorem gy_X3_slopes : gY yX3_slopes cX3_slopes 1 (some .int) 0 := ⟨q1467, q141, mh_X3, by decide +kernel⟩
theorem lk_X1_145_11 : gLk RX1 145 "FlareSlopes$Mountain" (TX5 2) := ⟨Or.inr ⟨_, q516⟩, Or.inl rfl⟩
theorem lk_X1_152_11 : gLk RX1 152 "FlareSlopes$Mountain" (TX5 3) := ⟨Or.inr ⟨_, q519⟩, Or.inl rfl⟩
theorem lk_X1_155_16 : gLk RX1 155 "FlareSlopes$State" (TX3 4) := ⟨Or.inr ⟨_, q1356⟩, Or.inl rfl⟩
theorem lk_X1_158_16 : gLk RX1 158 "FlareSlopes$State" (TX3 5) := ⟨Or.inr ⟨_, q1358⟩, Or.inl rfl⟩
theorem gy_X3_remembered : gY yX3_remembered cX3_remembered 4 (some .int) 0 := ⟨q1473, q141, mh_X3, by decide +kernel⟩
theorem lk_X1_164_16 : gLk RX1 164 "FlareSlopes$State" (TX3 6) := ⟨Or.inr ⟨_, q1360⟩, Or.inl rfl⟩
theorem lk_X1_167_16 : gLk RX1 167 "FlareSlopes$State" (TX3 7) := ⟨Or.inr ⟨_, q1362⟩, Or.inl rfl⟩
theorem lk_X1_170_16 : gLk RX1 170 "FlareSlopes$State" (TX3 8) := ⟨Or.inr ⟨_, q1364⟩, Or.inl rfl⟩
theorem lk_X1_173_16 : gLk RX1 173 "FlareSlopes$State" (TX3 9) := ⟨Or.inr ⟨_, q1366⟩, Or.inl rfl⟩
theorem lk_X1_176_16 : gLk RX1 176 "FlareSlopes$State" (TX3 10) := ⟨Or.inr ⟨_, q1368⟩, Or.inl rfl⟩
theorem lk_X1_179_16 : gLk RX1 179 "FlareSlopes$State" (TX3 11) := ⟨Or.inr ⟨_, q1370⟩, Or.inl rfl⟩
theorem gy_X1_pairsInSight : gY yX1_pairsInSight cX1_pairsInSight 3 (some .int) 0 := ⟨q1628, q128, mh_X1, by decide +kernel⟩
theorem gy_X1_withoutFlares : gY yX1_withoutFlares cX1_withoutFlares 3 (some .int) 0 := ⟨q1737, q128, mh_X1, by decide +kernel⟩
theorem gy_X1_redVotes : gY yX1_redVotes cX1_redVotes 5 (some .int) 0 := ⟨q1742, q128, mh_X1, by decide +kernel⟩
theorem gy_X1_count : gY yX1_count cX1_count 3 (some .int) 1 := ⟨q1463, q128, mh_X1, by decide +kernel⟩
theorem sc_258 : (Int16.ofInt (258)).toInt32 = (258 : Int32) := by decide
theorem gy_X2_voteAt : gY yX2_voteAt cX2_voteAt 3 (some .int) 3 := ⟨q4167, q135, mh_X2, by decide +kernel⟩
theorem gy_X2_votesBy : gY yX2_votesBy cX2_votesBy 4 (some .int) 1 := ⟨q4164, q135, mh_X2, by decide +kernel⟩
theorem bc_90 : (Int8.ofInt (90)).toInt32 = (90 : Int32) := by decide
theorem ii_3 (x : Int32) : x + Int32.ofInt (3) = x + (3 : Int32) := congrArg (x + ·) (by decide)
theorem ii_2 (x : Int32) : x + Int32.ofInt (2) = x + (2 : Int32) := congrArg (x + ·) (by decide)
theorem gy_X2_parting : gY yX2_parting cX2_parting 6 (some .int) 2 := ⟨q4194, q135, mh_X2, by decide +kernel⟩
theorem gy_X2_sightNow : gY yX2_sightNow cX2_sightNow 3 (some .int) 0 := ⟨q4189, q135, mh_X2, by decide +kernel⟩
theorem gy_X2_see : gY yX2_see cX2_see 6 (some .boolean) 2 := ⟨q4185, q135, mh_X2, by decide +kernel⟩
theorem gy_X2_cabinAt : gY yX2_cabinAt cX2_cabinAt 1 (some .int) 1 := ⟨q4181, q135, mh_X2, by decide +kernel⟩
theorem gy_X2_seeOneAnother : gY yX2_seeOneAnother cX2_seeOneAnother 3 (some .boolean) 2 := ⟨q4178, q135, mh_X2, by decide +kernel⟩
theorem gy_X2_isRed : gY yX2_isRed cX2_isRed 1 (some .boolean) 1 := ⟨q4205, q135, mh_X2, by decide +kernel⟩
theorem bc_15 : (Int8.ofInt (15)).toInt32 = (15 : Int32) := by decide
theorem bc_92 : (Int8.ofInt (92)).toInt32 = (92 : Int32) := by decide
theorem bc_91 : (Int8.ofInt (91)).toInt32 = (91 : Int32) := by decide
theorem gy_X2_allVotes : gY yX2_allVotes cX2_allVotes 3 (some .int) 0 := ⟨q4160, q135, mh_X2, by decide +kernel⟩
theorem gy_X2_bitsOfSlopes : gY yX2_bitsOfSlopes cX2_bitsOfSlopes 3 (some .int) 1 := ⟨q4170, q135, mh_X2, by decide +kernel⟩
theorem gy_X2_pairs : gY yX2_pairs cX2_pairs 4 (some .int) 0 := ⟨q4174, q135, mh_X2, by decide +kernel⟩
theorem gy_X2_withoutFlares : gY yX2_withoutFlares cX2_withoutFlares 3 (some .int) 0 := ⟨q4198, q135, mh_X2, by decide +kernel⟩
theorem gy_X2_redVotes : gY yX2_redVotes cX2_redVotes 3 (some .int) 0 := ⟨q4202, q135, mh_X2, by decide +kernel⟩
theorem lk_X1_240_16 : gLk RX1 240 "FlareSlopes$State" (TX3 2) := ⟨Or.inr ⟨_, q1352⟩, Or.inl rfl⟩
theorem gy_X1_checkArgument : gY yX1_checkArgument cX1_checkArgument 1 none 1 := ⟨q1960, q128, mh_X1, by decide +kernel⟩
theorem gy_X1_setting : gY yX1_setting cX1_setting 3 (some .int) 1 := ⟨q1957, q128, mh_X1, by decide +kernel⟩
theorem pn_X14 : plainName RX14 = true := by decide +kernel
theorem mh_X14 : RX14 ≠ "java/lang/invoke/MethodHandle" ∧ RX14 ≠ "java/lang/invoke/VarHandle" := ⟨by decide +kernel, by decide +kernel⟩
theorem gy_X14_init : gY yX14_init cX14_init 1 none 0 := ⟨q1983, q180, mh_X14, by decide +kernel⟩
theorem k_4 : gCls 4 RX15 TX15 1 tyX15 := ⟨rfl, in_X15, tyX15_ok, nmX15⟩
theorem lk_X15_1_4 : gLk RX15 1 "FlareSlopes$1" (TX15 0) := ⟨Or.inl q1985, Or.inl rfl⟩
theorem pn_X15 : plainName RX15 = true := by decide +kernel
theorem gy_J20_hashCode_2 : gY yJ20_hashCode_2 cJ20_hashCode_2 1 (some .int) 1 := ⟨q2048, q157, mh_J20, by decide +kernel⟩
theorem k_19 : gCls 19 RJ20 TJ20 1 tyJ20 := ⟨rfl, in_J20, tyJ20_ok, nmJ20⟩
theorem lk_J20_205_19 : gLk RJ20 205 "java/lang/Integer" (TJ20 0) := ⟨Or.inl q2800, Or.inl rfl⟩
theorem mhx_java_lang_Object : ("java/lang/Object" : String) ≠ "java/lang/invoke/MethodHandle" ∧ ("java/lang/Object" : String) ≠ "java/lang/invoke/VarHandle" := ⟨by decide +kernel, by decide +kernel⟩
theorem gy_X7_hashCode : gY yX7_hashCode cX7_hashCode 1 (some .int) 0 := ⟨q2029, q147, mh_X7, by decide +kernel⟩
theorem gy_J20_hashCode : gY yJ20_hashCode cJ20_hashCode 1 (some .int) 0 := ⟨q2045, q157, mh_J20, by decide +kernel⟩
theorem gy_J20_intValue : gY yJ20_intValue cJ20_intValue 1 (some .int) 0 := ⟨q2091, q157, mh_J20, by decide +kernel⟩
theorem lk_J23_177_27 : gLk RJ23 177 "java/util/HashMap$Node" (TJ48 3) := ⟨Or.inl q2894, Or.inl rfl⟩
theorem gy_X7_equals : gY yX7_equals cX7_equals 3 (some .boolean) 1 := ⟨q2069, q147, mh_X7, by decide +kernel⟩
theorem gy_J20_equals : gY yJ20_equals cJ20_equals 2 (some .boolean) 1 := ⟨q2086, q157, mh_J20, by decide +kernel⟩
theorem lk_J23_170_27 : gLk RJ23 170 "java/util/HashMap$Node" (TJ48 1) := ⟨Or.inl q2882, Or.inl rfl⟩
theorem lk_J23_168_27 : gLk RJ23 168 "java/util/HashMap$Node" (TJ48 0) := ⟨Or.inl q2875, Or.inl rfl⟩
theorem gy_J23_hash : gY yJ23_hash cJ23_hash 2 (some .int) 1 := ⟨q2015, q164, mh_J23, by decide +kernel⟩
theorem lk_J23_105_26 : gLk RJ23 105 "java/util/HashMap" (TJ24 0) := ⟨Or.inl q1258, Or.inl rfl⟩
theorem lk_J24_68_26 : gLk RJ24 68 "java/util/LinkedHashMap" (TJ24 3) := ⟨Or.inl q1270, Or.inr q1269⟩
theorem lk_J24_7_26 : gLk RJ24 7 "java/util/LinkedHashMap" (TJ24 8) := ⟨Or.inl q1251, Or.inl rfl⟩
theorem lk_J24_19_27 : gLk RJ24 19 "java/util/LinkedHashMap$Entry" (TJ48 4) := ⟨Or.inl q2866, Or.inl rfl⟩
theorem lk_J24_14_27 : gLk RJ24 14 "java/util/LinkedHashMap$Entry" (TJ48 5) := ⟨Or.inl q2868, Or.inl rfl⟩
theorem lk_J24_11_26 : gLk RJ24 11 "java/util/LinkedHashMap" (TJ24 9) := ⟨Or.inl q1254, Or.inl rfl⟩
theorem lk_J24_107_27 : gLk RJ24 107 "java/util/HashMap$Node" (TJ48 2) := ⟨Or.inl q2888, Or.inl rfl⟩
theorem gy_J24_afterNodeAccess : gY yJ24_afterNodeAccess cJ24_afterNodeAccess 7 none 1 := ⟨q2320, q165, mh_J24, by decide +kernel⟩
theorem mhx_java_util_HashMap : ("java/util/HashMap" : String) ≠ "java/lang/invoke/MethodHandle" ∧ ("java/util/HashMap" : String) ≠ "java/lang/invoke/VarHandle" := ⟨by decide +kernel, by decide +kernel⟩
theorem gy_J23_getNode : gY yJ23_getNode cJ23_getNode 8 (some (.object "java/util/HashMap$Node")) 1 := ⟨q2012, q164, mh_J23, by decide +kernel⟩
theorem gy_X1_has : gY yX1_has cX1_has 2 (some .boolean) 2 := ⟨q2338, q128, mh_X1, by decide +kernel⟩
theorem lk_X3_120_16 : gLk RX3 120 "FlareSlopes$State" (TX3 11) := ⟨Or.inl q1369, Or.inl rfl⟩
theorem lk_X17_7_17 : gLk RX17 7 "FlareSlopes$Vote" (TX17 0) := ⟨Or.inl q3626, Or.inl rfl⟩
theorem pn_X17 : plainName RX17 = true := by decide +kernel
theorem mh_X17 : RX17 ≠ "java/lang/invoke/MethodHandle" ∧ RX17 ≠ "java/lang/invoke/VarHandle" := ⟨by decide +kernel, by decide +kernel⟩
theorem gy_X17_isFalse : gY yX17_isFalse cX17_isFalse 2 (some .boolean) 1 := ⟨q2342, q198, mh_X17, by decide +kernel⟩
theorem gy_X3_isDangerous : gY yX3_isDangerous cX3_isDangerous 2 (some .boolean) 1 := ⟨q2335, q141, mh_X3, by decide +kernel⟩
theorem lk_X16_13_3 : gLk RX16 13 "FlareSlopes" (TX1 4) := ⟨Or.inr ⟨_, q272⟩, Or.inl rfl⟩
theorem k_5 : gCls 5 RX16 TX16 1 tyX16 := ⟨rfl, in_X16, tyX16_ok, nmX16⟩
theorem lk_X16_1_5 : gLk RX16 1 "FlareSlopes$2" (TX16 0) := ⟨Or.inl q3393, Or.inl rfl⟩
theorem pn_X16 : plainName RX16 = true := by decide +kernel
theorem mhx_FlareSlopes_Judge : ("FlareSlopes$Judge" : String) ≠ "java/lang/invoke/MethodHandle" ∧ ("FlareSlopes$Judge" : String) ≠ "java/lang/invoke/VarHandle" := ⟨by decide +kernel, by decide +kernel⟩
theorem mh_X15 : RX15 ≠ "java/lang/invoke/MethodHandle" ∧ RX15 ≠ "java/lang/invoke/VarHandle" := ⟨by decide +kernel, by decide +kernel⟩
theorem gy_X15_counts : gY yX15_counts cX15_counts 3 (some .boolean) 2 := ⟨q2328, q181, mh_X15, by decide +kernel⟩
theorem mh_X16 : RX16 ≠ "java/lang/invoke/MethodHandle" ∧ RX16 ≠ "java/lang/invoke/VarHandle" := ⟨by decide +kernel, by decide +kernel⟩
theorem gy_X16_counts : gY yX16_counts cX16_counts 3 (some .boolean) 2 := ⟨q2331, q197, mh_X16, by decide +kernel⟩
theorem gy_J24_get : gY yJ24_get cJ24_get 3 (some (.object "java/lang/Object")) 1 := ⟨q2006, q165, mh_J24, by decide +kernel⟩
theorem gy_X5_key : gY yX5_key cX5_key 3 (some (.object "FlareSlopes$Key")) 2 := ⟨q1997, q143, mh_X5, by decide +kernel⟩
theorem gy_X3_votesOf : gY yX3_votesOf cX3_votesOf 7 (some .int) 2 := ⟨q1992, q141, mh_X3, by decide +kernel⟩
theorem gy_X15_init : gY yX15_init cX15_init 2 none 1 := ⟨q1980, q181, mh_X15, by decide +kernel⟩
theorem gy_X3_slope : gY yX3_slope cX3_slope 2 (some (.object "FlareSlopes$Spot")) 1 := ⟨q2356, q141, mh_X3, by decide +kernel⟩
theorem gy_X3_seesSlope : gY yX3_seesSlope cX3_seesSlope 3 (some .boolean) 2 := ⟨q2352, q141, mh_X3, by decide +kernel⟩
theorem pn_J35 : plainName RJ35 = true := by decide +kernel
theorem pf_J42_isNaN : plainFor yJ42_isNaN = true := by decide +kernel
theorem sc_256 : (Int16.ofInt (256)).toInt32 = (256 : Int32) := by decide
theorem ii_m2 (x : Int32) : x + Int32.ofInt (-2) = x + (-2 : Int32) := congrArg (x + ·) (by decide)
theorem ii_m4 (x : Int32) : x + Int32.ofInt (-4) = x + (-4 : Int32) := congrArg (x + ·) (by decide)
theorem ii_m16 (x : Int32) : x + Int32.ofInt (-16) = x + (-16 : Int32) := congrArg (x + ·) (by decide)
theorem gy_J20_numberOfLeadingZeros : gY yJ20_numberOfLeadingZeros cJ20_numberOfLeadingZeros 2 (some .int) 1 := ⟨q2229, q157, mh_J20, by decide +kernel⟩
theorem lk_J23_88_26 : gLk RJ23 88 "java/util/HashMap" (TJ24 4) := ⟨Or.inl q1272, Or.inl rfl⟩
theorem gy_J23_tableSizeFor : gY yJ23_tableSizeFor cJ23_tableSizeFor 2 (some .int) 1 := ⟨q2769, q164, mh_J23, by decide +kernel⟩
theorem mh_J42 : RJ42 ≠ "java/lang/invoke/MethodHandle" ∧ RJ42 ≠ "java/lang/invoke/VarHandle" := ⟨by decide +kernel, by decide +kernel⟩
theorem gy_J42_isNaN : gY yJ42_isNaN cJ42_isNaN 1 (some .boolean) 1 := ⟨q2388, q187, mh_J42, by decide +kernel⟩
theorem gy_J23_init_2 : gY yJ23_init_2 cJ23_init_2 3 none 2 := ⟨q2376, q164, mh_J23, by decide +kernel⟩
theorem k_34 : gCls 34 RJ41 TJ41 1 tyJ41 := ⟨rfl, in_J41, tyJ41_ok, nmJ41⟩
theorem lk_J40_10_34 : gLk RJ40 10 "java/util/HashSet" (TJ41 0) := ⟨Or.inl q2771, Or.inl rfl⟩
theorem gy_J24_init_2 : gY yJ24_init_2 cJ24_init_2 3 none 2 := ⟨q2373, q165, mh_J24, by decide +kernel⟩
theorem mh_J35 : RJ35 ≠ "java/lang/invoke/MethodHandle" ∧ RJ35 ≠ "java/lang/invoke/VarHandle" := ⟨by decide +kernel, by decide +kernel⟩
theorem gy_J35_init : gY yJ35_init cJ35_init 1 none 0 := ⟨q1923, q177, mh_J35, by decide +kernel⟩
theorem pn_J40 : plainName RJ40 = true := by decide +kernel
theorem mh_J40 : RJ40 ≠ "java/lang/invoke/MethodHandle" ∧ RJ40 ≠ "java/lang/invoke/VarHandle" := ⟨by decide +kernel, by decide +kernel⟩
theorem gy_J40_init : gY yJ40_init cJ40_init 4 none 3 := ⟨q2368, q185, mh_J40, by decide +kernel⟩
theorem pn_J41 : plainName RJ41 = true := by decide +kernel
theorem k_31 : gCls 31 RJ37 TJ37 2 tyJ37 := ⟨rfl, in_J37, tyJ37_ok, nmJ37⟩
theorem lk_J37_13_31 : gLk RJ37 13 "java/util/LinkedHashMap$LinkedKeySet" (TJ37 0) := ⟨Or.inl q1925, Or.inl rfl⟩
theorem lk_J37_1_31 : gLk RJ37 1 "java/util/LinkedHashMap$LinkedKeySet" (TJ37 1) := ⟨Or.inl q1926, Or.inl rfl⟩
theorem pn_J37 : plainName RJ37 = true := by decide +kernel
theorem lk_J24_117_26 : gLk RJ24 117 "java/util/LinkedHashMap" (TJ24 6) := ⟨Or.inl q1276, Or.inr q1277⟩
theorem mh_J37 : RJ37 ≠ "java/lang/invoke/MethodHandle" ∧ RJ37 ≠ "java/lang/invoke/VarHandle" := ⟨by decide +kernel, by decide +kernel⟩
theorem gy_J37_init : gY yJ37_init cJ37_init 3 none 2 := ⟨q1920, q179, mh_J37, by decide +kernel⟩
theorem gy_J24_sequencedKeySet : gY yJ24_sequencedKeySet cJ24_sequencedKeySet 3 (some (.object "java/util/SequencedSet")) 0 := ⟨q1915, q165, mh_J24, by decide +kernel⟩
theorem k_30 : gCls 30 RJ33 TJ33 5 tyJ33 := ⟨rfl, in_J33, tyJ33_ok, nmJ33⟩
theorem lk_J31_36_30 : gLk RJ31 36 "java/util/LinkedHashMap$LinkedHashIterator" (TJ33 1) := ⟨Or.inl q1849, Or.inl rfl⟩
theorem lk_J31_33_30 : gLk RJ31 33 "java/util/LinkedHashMap$LinkedHashIterator" (TJ33 2) := ⟨Or.inl q1850, Or.inl rfl⟩
theorem lk_J31_26_30 : gLk RJ31 26 "java/util/LinkedHashMap$LinkedHashIterator" (TJ33 0) := ⟨Or.inl q1848, Or.inl rfl⟩
theorem lk_J31_13_30 : gLk RJ31 13 "java/util/LinkedHashMap$LinkedHashIterator" (TJ33 3) := ⟨Or.inl q1851, Or.inl rfl⟩
theorem lk_J31_1_30 : gLk RJ31 1 "java/util/LinkedHashMap$LinkedHashIterator" (TJ33 4) := ⟨Or.inl q1852, Or.inl rfl⟩
theorem pn_J33 : plainName RJ33 = true := by decide +kernel
theorem mh_J33 : RJ33 ≠ "java/lang/invoke/MethodHandle" ∧ RJ33 ≠ "java/lang/invoke/VarHandle" := ⟨by decide +kernel, by decide +kernel⟩
theorem gy_J33_init : gY yJ33_init cJ33_init 3 none 2 := ⟨q1874, q175, mh_J33, by decide +kernel⟩
theorem lk_J47_13_27 : gLk RJ47 13 "java/util/HashMap$Node" (TJ48 1) := ⟨Or.inl q2876, Or.inl rfl⟩
theorem pn_J47 : plainName RJ47 = true := by decide +kernel
theorem mhx_java_util_HashMap_Node : ("java/util/HashMap$Node" : String) ≠ "java/lang/invoke/MethodHandle" ∧ ("java/util/HashMap$Node" : String) ≠ "java/lang/invoke/VarHandle" := ⟨by decide +kernel, by decide +kernel⟩
theorem mh_J47 : RJ47 ≠ "java/lang/invoke/MethodHandle" ∧ RJ47 ≠ "java/lang/invoke/VarHandle" := ⟨by decide +kernel, by decide +kernel⟩
theorem gy_J47_getKey : gY yJ47_getKey cJ47_getKey 1 (some (.object "java/lang/Object")) 0 := ⟨q1600, q193, mh_J47, by decide +kernel⟩
theorem pn_J19 : plainName RJ19 = true := by decide +kernel
theorem mh_J19 : RJ19 ≠ "java/lang/invoke/MethodHandle" ∧ RJ19 ≠ "java/lang/invoke/VarHandle" := ⟨by decide +kernel, by decide +kernel⟩
theorem gy_J19_init : gY yJ19_init cJ19_init 1 none 0 := ⟨q2798, q156, mh_J19, by decide +kernel⟩
theorem bc_m128 : (Int8.ofInt (-128)).toInt32 = (-128 : Int32) := by decide
theorem gy_J20_init : gY yJ20_init cJ20_init 2 none 1 := ⟨q2795, q157, mh_J20, by decide +kernel⟩
theorem sc_128 : (Int16.ofInt (128)).toInt32 = (128 : Int32) := by decide
theorem bc_12 : (Int8.ofInt (12)).toInt32 = (12 : Int32) := by decide
theorem lk_J47_20_27 : gLk RJ47 20 "java/util/HashMap$Node" (TJ48 3) := ⟨Or.inl q2889, Or.inl rfl⟩
theorem lk_J47_17_27 : gLk RJ47 17 "java/util/HashMap$Node" (TJ48 2) := ⟨Or.inl q2883, Or.inl rfl⟩
theorem lk_J47_7_27 : gLk RJ47 7 "java/util/HashMap$Node" (TJ48 0) := ⟨Or.inl q2870, Or.inl rfl⟩
theorem gy_J47_init : gY yJ47_init cJ47_init 5 none 4 := ⟨q2864, q193, mh_J47, by decide +kernel⟩
theorem pn_J48 : plainName RJ48 = true := by decide +kernel
theorem gy_J24_linkNodeAtEnd : gY yJ24_linkNodeAtEnd cJ24_linkNodeAtEnd 3 none 1 := ⟨q2941, q165, mh_J24, by decide +kernel⟩
theorem mh_J48 : RJ48 ≠ "java/lang/invoke/MethodHandle" ∧ RJ48 ≠ "java/lang/invoke/VarHandle" := ⟨by decide +kernel, by decide +kernel⟩
theorem gy_J48_init : gY yJ48_init cJ48_init 5 none 4 := ⟨q2861, q194, mh_J48, by decide +kernel⟩
theorem gy_J24_removeEldestEntry : gY yJ24_removeEldestEntry cJ24_removeEldestEntry 2 (some .boolean) 1 := ⟨q3010, q165, mh_J24, by decide +kernel⟩
theorem gy_J24_afterNodeInsertion : gY yJ24_afterNodeInsertion cJ24_afterNodeInsertion 4 none 1 := ⟨q3006, q165, mh_J24, by decide +kernel⟩
theorem gy_J23_resize : gY yJ23_resize cJ23_resize 14 (some (.array (.object "java/util/HashMap$Node"))) 0 := ⟨q2838, q164, mh_J23, by decide +kernel⟩
theorem lk_J23_202_26 : gLk RJ23 202 "java/util/HashMap" (TJ24 3) := ⟨Or.inl q1271, Or.inl rfl⟩
theorem lk_J23_162_27 : gLk RJ23 162 "java/util/HashMap$Node" (TJ48 2) := ⟨Or.inl q2887, Or.inl rfl⟩
theorem gy_J24_newNode : gY yJ24_newNode cJ24_newNode 6 (some (.object "java/util/HashMap$Node")) 4 := ⟨q2937, q165, mh_J24, by decide +kernel⟩
theorem gy_J23_putVal : gY yJ23_putVal cJ23_putVal 13 (some (.object "java/lang/Object")) 5 := ⟨q2833, q164, mh_J23, by decide +kernel⟩
theorem gy_J23_put : gY yJ23_put cJ23_put 3 (some (.object "java/lang/Object")) 2 := ⟨q2828, q164, mh_J23, by decide +kernel⟩
theorem mhx_java_util_Set : ("java/util/Set" : String) ≠ "java/lang/invoke/MethodHandle" ∧ ("java/util/Set" : String) ≠ "java/lang/invoke/VarHandle" := ⟨by decide +kernel, by decide +kernel⟩
theorem gy_J40_add : gY yJ40_add cJ40_add 2 (some .boolean) 1 := ⟨q2821, q185, mh_J40, by decide +kernel⟩
theorem gy_J20_valueOf : gY yJ20_valueOf cJ20_valueOf 1 (some (.object "java/lang/Integer")) 1 := ⟨q2787, q157, mh_J20, by decide +kernel⟩
theorem lk_X1_269_10 : gLk RX1 269 "FlareSlopes$Key" (TX7 1) := ⟨Or.inr ⟨_, q500⟩, Or.inl rfl⟩
theorem gy_J33_next : gY yJ33_next cJ33_next 1 (some (.object "java/lang/Object")) 0 := ⟨q1590, q175, mh_J33, by decide +kernel⟩
theorem gy_J37_iterator : gY yJ37_iterator cJ37_iterator 1 (some (.object "java/util/Iterator")) 0 := ⟨q1869, q179, mh_J37, by decide +kernel⟩
theorem gy_J24_keySet : gY yJ24_keySet cJ24_keySet 1 (some (.object "java/util/Set")) 0 := ⟨q1911, q165, mh_J24, by decide +kernel⟩
theorem mh_J41 : RJ41 ≠ "java/lang/invoke/MethodHandle" ∧ RJ41 ≠ "java/lang/invoke/VarHandle" := ⟨by decide +kernel, by decide +kernel⟩
theorem gy_J41_init : gY yJ41_init cJ41_init 1 none 0 := ⟨q2364, q186, mh_J41, by decide +kernel⟩
theorem lk_X1_279_7 : gLk RX1 279 "FlareSlopes$Cabin" (TX12 0) := ⟨Or.inr ⟨_, q1306⟩, Or.inl rfl⟩
theorem lk_X1_282_7 : gLk RX1 282 "FlareSlopes$Cabin" (TX12 1) := ⟨Or.inr ⟨_, q1308⟩, Or.inl rfl⟩
theorem lk_X1_285_7 : gLk RX1 285 "FlareSlopes$Cabin" (TX12 6) := ⟨Or.inr ⟨_, q1320⟩, Or.inl rfl⟩
theorem lk_X1_288_7 : gLk RX1 288 "FlareSlopes$Cabin" (TX12 3) := ⟨Or.inr ⟨_, q1313⟩, Or.inl rfl⟩
theorem lk_X1_291_7 : gLk RX1 291 "FlareSlopes$Cabin" (TX12 4) := ⟨Or.inr ⟨_, q1315⟩, Or.inl rfl⟩
theorem gy_X1_votesOfAll : gY yX1_votesOfAll cX1_votesOfAll 2 (some .int) 1 := ⟨q1975, q128, mh_X1, by decide +kernel⟩
theorem lk_X1_296_7 : gLk RX1 296 "FlareSlopes$Cabin" (TX12 5) := ⟨Or.inr ⟨_, q1318⟩, Or.inl rfl⟩
theorem gy_X1_slopesSeen : gY yX1_slopesSeen cX1_slopesSeen 4 (some .int) 1 := ⟨q2348, q128, mh_X1, by decide +kernel⟩
theorem gy_J40_size : gY yJ40_size cJ40_size 1 (some .int) 0 := ⟨q3035, q185, mh_J40, by decide +kernel⟩
theorem gy_X1_slopesOf : gY yX1_slopesOf cX1_slopesOf 5 (some (.object "java/util/Set")) 1 := ⟨q2359, q128, mh_X1, by decide +kernel⟩
theorem gy_X1_withCabin : gY yX1_withCabin cX1_withCabin 2 (some (.object "FlareSlopes$Cabin")) 1 := ⟨q1971, q128, mh_X1, by decide +kernel⟩
theorem gy_X1_cabin : gY yX1_cabin cX1_cabin 4 (some .int) 2 := ⟨q1967, q128, mh_X1, by decide +kernel⟩
theorem gy_X2_voteOf : gY yX2_voteOf cX2_voteOf 4 (some .int) 3 := ⟨q4225, q135, mh_X2, by decide +kernel⟩
theorem gy_X2_slopeAt : gY yX2_slopeAt cX2_slopeAt 1 (some .int) 1 := ⟨q4232, q135, mh_X2, by decide +kernel⟩
theorem gy_X2_hasVote : gY yX2_hasVote cX2_hasVote 6 (some .boolean) 3 := ⟨q4240, q135, mh_X2, by decide +kernel⟩
theorem gy_X2_votesOf : gY yX2_votesOf cX2_votesOf 5 (some .int) 1 := ⟨q4221, q135, mh_X2, by decide +kernel⟩
theorem sc_138 : (Int16.ofInt (138)).toInt32 = (138 : Int32) := by decide
theorem gy_X2_slopesSeen : gY yX2_slopesSeen cX2_slopesSeen 4 (some .int) 1 := ⟨q4229, q135, mh_X2, by decide +kernel⟩
theorem gy_X2_slopesKnown : gY yX2_slopesKnown cX2_slopesKnown 4 (some .int) 1 := ⟨q4236, q135, mh_X2, by decide +kernel⟩
theorem gy_X2_isCabin : gY yX2_isCabin cX2_isCabin 2 (some .boolean) 1 := ⟨q4217, q135, mh_X2, by decide +kernel⟩
theorem lk_X12_47_7 : gLk RX12 47 "FlareSlopes$Cabin" (TX12 5) := ⟨Or.inl q1316, Or.inl rfl⟩
theorem gy_X12_holdsClosed : gY yX12_holdsClosed cX12_holdsClosed 2 (some .boolean) 1 := ⟨q3057, q162, mh_X12, by decide +kernel⟩
theorem pf_J14_abs : plainFor yJ14_abs = true := by decide +kernel
theorem gy_J14_abs : gY yJ14_abs cJ14_abs 1 (some .int) 1 := ⟨q3095, q150, mh_J14, by decide +kernel⟩
theorem gy_X13_distance : gY yX13_distance cX13_distance 2 (some .int) 1 := ⟨q3092, q168, mh_X13, by decide +kernel⟩
theorem lk_X3_179_7 : gLk RX3 179 "FlareSlopes$Cabin" (TX12 3) := ⟨Or.inr ⟨_, q1312⟩, Or.inl rfl⟩
theorem gy_X3_weight : gY yX3_weight cX3_weight 3 (some .int) 2 := ⟨q3087, q141, mh_X3, by decide +kernel⟩
theorem lk_X3_206_17 : gLk RX3 206 "FlareSlopes$Vote" (TX17 0) := ⟨Or.inr ⟨_, q3627⟩, Or.inl rfl⟩
theorem gy_J23_isEmpty : gY yJ23_isEmpty cJ23_isEmpty 1 (some .boolean) 0 := ⟨q3083, q164, mh_J23, by decide +kernel⟩
theorem lk_X1_314_16 : gLk RX1 314 "FlareSlopes$State" (TX3 13) := ⟨Or.inr ⟨_, q1374⟩, Or.inl rfl⟩
theorem lk_X1_311_16 : gLk RX1 311 "FlareSlopes$State" (TX3 12) := ⟨Or.inr ⟨_, q1372⟩, Or.inl rfl⟩
theorem gy_X3_laySums : gY yX3_laySums cX3_laySums 6 none 1 := ⟨q3074, q141, mh_X3, by decide +kernel⟩
theorem lk_X1_320_15 : gLk RX1 320 "FlareSlopes$Spot" (TX9 1) := ⟨Or.inr ⟨_, q1069⟩, Or.inl rfl⟩
theorem lk_X1_323_15 : gLk RX1 323 "FlareSlopes$Spot" (TX9 2) := ⟨Or.inr ⟨_, q1072⟩, Or.inl rfl⟩
theorem lk_X1_324_15 : gLk RX1 324 "FlareSlopes$Spot" (TX9 3) := ⟨Or.inr ⟨_, q1075⟩, Or.inl rfl⟩
theorem gy_X3_closers : gY yX3_closers cX3_closers 4 (some .int) 1 := ⟨q3053, q141, mh_X3, by decide +kernel⟩
theorem gy_X1_seersOf : gY yX1_seersOf cX1_seersOf 4 (some .int) 1 := ⟨q3062, q128, mh_X1, by decide +kernel⟩
theorem gy_X1_votesOn : gY yX1_votesOn cX1_votesOn 6 (some .int) 1 := ⟨q3066, q128, mh_X1, by decide +kernel⟩
theorem gy_X1_weightsOn : gY yX1_weightsOn cX1_weightsOn 5 (some .int) 2 := ⟨q3070, q128, mh_X1, by decide +kernel⟩
theorem gy_X1_withSlope : gY yX1_withSlope cX1_withSlope 2 (some (.object "FlareSlopes$Spot")) 1 := ⟨q3047, q128, mh_X1, by decide +kernel⟩
theorem gy_X1_slope : gY yX1_slope cX1_slope 4 (some .int) 2 := ⟨q3043, q128, mh_X1, by decide +kernel⟩
theorem gy_X2_has : gY yX2_has cX2_has 2 (some .boolean) 2 := ⟨q4259, q135, mh_X2, by decide +kernel⟩
theorem gy_X2_holds : gY yX2_holds cX2_holds 3 (some .boolean) 2 := ⟨q4256, q135, mh_X2, by decide +kernel⟩
theorem ii_8 (x : Int32) : x + Int32.ofInt (8) = x + (8 : Int32) := congrArg (x + ·) (by decide)
theorem gy_X2_far : gY yX2_far cX2_far 3 (some .int) 2 := ⟨q4286, q135, mh_X2, by decide +kernel⟩
theorem gy_X2_weight : gY yX2_weight cX2_weight 3 (some .int) 2 := ⟨q4282, q135, mh_X2, by decide +kernel⟩
theorem gy_X2_sum : gY yX2_sum cX2_sum 6 (some .int) 3 := ⟨q4278, q135, mh_X2, by decide +kernel⟩
theorem gy_X2_bits : gY yX2_bits cX2_bits 3 (some .int) 1 := ⟨q4262, q135, mh_X2, by decide +kernel⟩
theorem gy_X2_closersOf : gY yX2_closersOf cX2_closersOf 4 (some .int) 1 := ⟨q4252, q135, mh_X2, by decide +kernel⟩
theorem gy_X2_seers0 : gY yX2_seers0 cX2_seers0 4 (some .int) 1 := ⟨q4266, q135, mh_X2, by decide +kernel⟩
theorem gy_X2_votesOn : gY yX2_votesOn cX2_votesOn 4 (some .int) 1 := ⟨q4270, q135, mh_X2, by decide +kernel⟩
theorem gy_X2_allWeights : gY yX2_allWeights cX2_allWeights 5 (some .int) 2 := ⟨q4274, q135, mh_X2, by decide +kernel⟩
theorem gy_X2_isSlope : gY yX2_isSlope cX2_isSlope 2 (some .boolean) 1 := ⟨q4248, q135, mh_X2, by decide +kernel⟩
theorem lk_X1_351_14 : gLk RX1 351 "FlareSlopes$Ridge" (TX10 1) := ⟨Or.inr ⟨_, q1189⟩, Or.inl rfl⟩
theorem lk_X1_348_14 : gLk RX1 348 "FlareSlopes$Ridge" (TX10 0) := ⟨Or.inr ⟨_, q1187⟩, Or.inl rfl⟩
theorem gy_X1_ridge : gY yX1_ridge cX1_ridge 4 (some .int) 2 := ⟨q3102, q128, mh_X1, by decide +kernel⟩
theorem lk_X1_360_9 : gLk RX1 360 "FlareSlopes$Fog" (TX11 2) := ⟨Or.inr ⟨_, q1212⟩, Or.inl rfl⟩
theorem lk_X1_357_9 : gLk RX1 357 "FlareSlopes$Fog" (TX11 1) := ⟨Or.inr ⟨_, q1210⟩, Or.inl rfl⟩
theorem lk_X1_354_9 : gLk RX1 354 "FlareSlopes$Fog" (TX11 0) := ⟨Or.inr ⟨_, q1208⟩, Or.inl rfl⟩
theorem gy_X1_fog : gY yX1_fog cX1_fog 4 (some .int) 2 := ⟨q3112, q128, mh_X1, by decide +kernel⟩
theorem gy_X1_sight : gY yX1_sight cX1_sight 1 (some .int) 0 := ⟨q3120, q128, mh_X1, by decide +kernel⟩
theorem gy_X2_mayAsk : gY yX2_mayAsk cX2_mayAsk 1 (some .boolean) 0 := ⟨q4303, q135, mh_X2, by decide +kernel⟩
theorem gy_X1_withTwo : gY yX1_withTwo cX1_withTwo 4 (some (.object "FlareSlopes$Cabin")) 2 := ⟨q3132, q128, mh_X1, by decide +kernel⟩
theorem gy_X1_sees : gY yX1_sees cX1_sees 4 (some .boolean) 2 := ⟨q3128, q128, mh_X1, by decide +kernel⟩
theorem gy_X2_mayCabins : gY yX2_mayCabins cX2_mayCabins 3 (some .boolean) 2 := ⟨q4311, q135, mh_X2, by decide +kernel⟩
theorem gy_X1_withBoth : gY yX1_withBoth cX1_withBoth 4 (some (.object "FlareSlopes$Cabin")) 2 := ⟨q3144, q128, mh_X1, by decide +kernel⟩
theorem gy_X1_seesSlope : gY yX1_seesSlope cX1_seesSlope 4 (some .boolean) 2 := ⟨q3140, q128, mh_X1, by decide +kernel⟩
theorem gy_X2_mayBoth : gY yX2_mayBoth cX2_mayBoth 3 (some .boolean) 2 := ⟨q4319, q135, mh_X2, by decide +kernel⟩
theorem gy_X1_seers : gY yX1_seers cX1_seers 3 (some .int) 1 := ⟨q3151, q128, mh_X1, by decide +kernel⟩
theorem gy_X2_seen : gY yX2_seen cX2_seen 4 (some .int) 1 := ⟨q4331, q135, mh_X2, by decide +kernel⟩
theorem gy_X2_mayCabin : gY yX2_mayCabin cX2_mayCabin 2 (some .boolean) 1 := ⟨q4327, q135, mh_X2, by decide +kernel⟩
theorem gy_X1_distance : gY yX1_distance cX1_distance 3 (some .int) 2 := ⟨q3158, q128, mh_X1, by decide +kernel⟩
theorem gy_X3_reached : gY yX3_reached cX3_reached 7 (some .int) 2 := ⟨q3169, q141, mh_X3, by decide +kernel⟩
theorem gy_X1_reached : gY yX1_reached cX1_reached 3 (some .int) 1 := ⟨q3165, q128, mh_X1, by decide +kernel⟩
theorem gy_X2_spread : gY yX2_spread cX2_spread 4 (some .int) 1 := ⟨q4339, q135, mh_X2, by decide +kernel⟩
theorem gy_X3_steps : gY yX3_steps cX3_steps 4 (some .int) 2 := ⟨q3181, q141, mh_X3, by decide +kernel⟩
theorem gy_X1_steps : gY yX1_steps cX1_steps 4 (some .int) 2 := ⟨q3177, q128, mh_X1, by decide +kernel⟩
theorem gy_X1_ridgesBetween : gY yX1_ridgesBetween cX1_ridgesBetween 4 (some .int) 2 := ⟨q3189, q128, mh_X1, by decide +kernel⟩
theorem lk_X1_394_17 : gLk RX1 394 "FlareSlopes$Vote" (TX17 1) := ⟨Or.inr ⟨_, q3631⟩, Or.inl rfl⟩
theorem gy_X1_vote : gY yX1_vote cX1_vote 7 (some .int) 4 := ⟨q3197, q128, mh_X1, by decide +kernel⟩
theorem gy_X2_timeOf : gY yX2_timeOf cX2_timeOf 1 (some .int) 1 := ⟨q4358, q135, mh_X2, by decide +kernel⟩
theorem gy_X1_weights : gY yX1_weights cX1_weights 5 (some .int) 3 := ⟨q3208, q128, mh_X1, by decide +kernel⟩
theorem gy_X3_rules : gY yX3_rules cX3_rules 2 (some .int) 1 := ⟨q3219, q141, mh_X3, by decide +kernel⟩
theorem gy_X1_rules : gY yX1_rules cX1_rules 4 (some .int) 2 := ⟨q3215, q128, mh_X1, by decide +kernel⟩
theorem gy_X2_ruling : gY yX2_ruling cX2_ruling 5 (some .int) 2 := ⟨q4370, q135, mh_X2, by decide +kernel⟩
theorem lk_X1_401_7 : gLk RX1 401 "FlareSlopes$Cabin" (TX12 7) := ⟨Or.inr ⟨_, q1323⟩, Or.inl rfl⟩
theorem gy_X1_run : gY yX1_run cX1_run 3 (some .int) 2 := ⟨q3226, q128, mh_X1, by decide +kernel⟩
theorem sc_178 : (Int16.ofInt (178)).toInt32 = (178 : Int32) := by decide
theorem gy_X2_runOf : gY yX2_runOf cX2_runOf 3 (some .int) 2 := ⟨q4378, q135, mh_X2, by decide +kernel⟩
theorem gy_X1_isClosed : gY yX1_isClosed cX1_isClosed 3 (some .boolean) 2 := ⟨q3233, q128, mh_X1, by decide +kernel⟩
theorem gy_X3_tellsClosed : gY yX3_tellsClosed cX3_tellsClosed 4 (some .boolean) 2 := ⟨q3245, q141, mh_X3, by decide +kernel⟩
theorem gy_X1_toldClosed : gY yX1_toldClosed cX1_toldClosed 4 (some .boolean) 2 := ⟨q3241, q128, mh_X1, by decide +kernel⟩
theorem gy_X2_tellsClosed : gY yX2_tellsClosed cX2_tellsClosed 4 (some .boolean) 2 := ⟨q4390, q135, mh_X2, by decide +kernel⟩
theorem gy_X1_closers : gY yX1_closers cX1_closers 3 (some .int) 1 := ⟨q3254, q128, mh_X1, by decide +kernel⟩
theorem gy_X2_maySlope : gY yX2_maySlope cX2_maySlope 2 (some .boolean) 1 := ⟨q4414, q135, mh_X2, by decide +kernel⟩
theorem gy_X1_quarrels : gY yX1_quarrels cX1_quarrels 6 (some .int) 1 := ⟨q3261, q128, mh_X1, by decide +kernel⟩
theorem k_29 : gCls 29 RJ50 TJ50 2 tyJ50 := ⟨rfl, in_J50, tyJ50_ok, nmJ50⟩
theorem lk_J50_13_29 : gLk RJ50 13 "java/util/LinkedHashMap$LinkedEntrySet" (TJ50 0) := ⟨Or.inl q3288, Or.inl rfl⟩
theorem lk_J50_1_29 : gLk RJ50 1 "java/util/LinkedHashMap$LinkedEntrySet" (TJ50 1) := ⟨Or.inl q3289, Or.inl rfl⟩
theorem pn_J50 : plainName RJ50 = true := by decide +kernel
theorem lk_J24_151_26 : gLk RJ24 151 "java/util/LinkedHashMap" (TJ24 1) := ⟨Or.inl q1259, Or.inr q1260⟩
theorem mh_J50 : RJ50 ≠ "java/lang/invoke/MethodHandle" ∧ RJ50 ≠ "java/lang/invoke/VarHandle" := ⟨by decide +kernel, by decide +kernel⟩
theorem gy_J50_init : gY yJ50_init cJ50_init 3 none 2 := ⟨q3286, q196, mh_J50, by decide +kernel⟩
theorem gy_J24_sequencedEntrySet : gY yJ24_sequencedEntrySet cJ24_sequencedEntrySet 3 (some (.object "java/util/SequencedSet")) 0 := ⟨q3281, q165, mh_J24, by decide +kernel⟩
theorem k_28 : gCls 28 RJ32 TJ32 5 tyJ32 := ⟨rfl, in_J32, tyJ32_ok, nmJ32⟩
theorem lk_J31_36_28 : gLk RJ31 36 "java/util/LinkedHashMap$LinkedHashIterator" (TJ32 1) := ⟨Or.inl q1849, Or.inl rfl⟩
theorem lk_J31_33_28 : gLk RJ31 33 "java/util/LinkedHashMap$LinkedHashIterator" (TJ32 2) := ⟨Or.inl q1850, Or.inl rfl⟩
theorem lk_J31_26_28 : gLk RJ31 26 "java/util/LinkedHashMap$LinkedHashIterator" (TJ32 0) := ⟨Or.inl q1848, Or.inl rfl⟩
theorem lk_J31_13_28 : gLk RJ31 13 "java/util/LinkedHashMap$LinkedHashIterator" (TJ32 3) := ⟨Or.inl q1851, Or.inl rfl⟩
theorem lk_J31_1_28 : gLk RJ31 1 "java/util/LinkedHashMap$LinkedHashIterator" (TJ32 4) := ⟨Or.inl q1852, Or.inl rfl⟩
theorem pn_J32 : plainName RJ32 = true := by decide +kernel
theorem mh_J32 : RJ32 ≠ "java/lang/invoke/MethodHandle" ∧ RJ32 ≠ "java/lang/invoke/VarHandle" := ⟨by decide +kernel, by decide +kernel⟩
theorem gy_J32_init : gY yJ32_init cJ32_init 3 none 2 := ⟨q1843, q174, mh_J32, by decide +kernel⟩
theorem gy_J32_next_2 : gY yJ32_next_2 cJ32_next_2 1 (some (.object "java/util/Map$Entry")) 0 := ⟨q1579, q174, mh_J32, by decide +kernel⟩
theorem gy_J23_containsKey : gY yJ23_containsKey cJ23_containsKey 2 (some .boolean) 1 := ⟨q3338, q164, mh_J23, by decide +kernel⟩
theorem gy_J40_contains : gY yJ40_contains cJ40_contains 2 (some .boolean) 1 := ⟨q3378, q185, mh_J40, by decide +kernel⟩
theorem gy_J40_iterator : gY yJ40_iterator cJ40_iterator 1 (some (.object "java/util/Iterator")) 0 := ⟨q1905, q185, mh_J40, by decide +kernel⟩
theorem mhx_java_util_Map_Entry : ("java/util/Map$Entry" : String) ≠ "java/lang/invoke/MethodHandle" ∧ ("java/util/Map$Entry" : String) ≠ "java/lang/invoke/VarHandle" := ⟨by decide +kernel, by decide +kernel⟩
theorem gy_J47_getValue : gY yJ47_getValue cJ47_getValue 1 (some (.object "java/lang/Object")) 0 := ⟨q3305, q193, mh_J47, by decide +kernel⟩
theorem gy_J32_next : gY yJ32_next cJ32_next 1 (some (.object "java/lang/Object")) 0 := ⟨q1575, q174, mh_J32, by decide +kernel⟩
theorem gy_J50_iterator : gY yJ50_iterator cJ50_iterator 1 (some (.object "java/util/Iterator")) 0 := ⟨q1838, q196, mh_J50, by decide +kernel⟩
theorem gy_J24_entrySet : gY yJ24_entrySet cJ24_entrySet 1 (some (.object "java/util/Set")) 0 := ⟨q3277, q165, mh_J24, by decide +kernel⟩
theorem gy_X1_disputes : gY yX1_disputes cX1_disputes 7 (some .int) 1 := ⟨q3268, q128, mh_X1, by decide +kernel⟩
theorem gy_X16_init : gY yX16_init cX16_init 2 none 1 := ⟨q3391, q197, mh_X16, by decide +kernel⟩
theorem gy_X1_falseVotes : gY yX1_falseVotes cX1_falseVotes 3 (some .int) 1 := ⟨q3386, q128, mh_X1, by decide +kernel⟩
theorem gy_X1_oldestVote : gY yX1_oldestVote cX1_oldestVote 5 (some .int) 1 := ⟨q3403, q128, mh_X1, by decide +kernel⟩
theorem gy_X1_risky : gY yX1_risky cX1_risky 4 (some .int) 0 := ⟨q3410, q128, mh_X1, by decide +kernel⟩
theorem gy_X1_weightiest : gY yX1_weightiest cX1_weightiest 5 (some .int) 1 := ⟨q3417, q128, mh_X1, by decide +kernel⟩
theorem gy_X1_leastTrusted : gY yX1_leastTrusted cX1_leastTrusted 4 (some .int) 0 := ⟨q3424, q128, mh_X1, by decide +kernel⟩
theorem bc_11 : (Int8.ofInt (11)).toInt32 = (11 : Int32) := by decide
theorem gy_X1_loneliest : gY yX1_loneliest cX1_loneliest 6 (some .int) 0 := ⟨q3431, q128, mh_X1, by decide +kernel⟩
theorem gy_X1_meanTrust : gY yX1_meanTrust cX1_meanTrust 4 (some .double) 0 := ⟨q3438, q128, mh_X1, by decide +kernel⟩
theorem gy_X1_closedShare : gY yX1_closedShare cX1_closedShare 3 (some .float) 1 := ⟨q3445, q128, mh_X1, by decide +kernel⟩
theorem gy_J1_sub : gY yJ1_sub cJ1_sub 3 (some .int) 3 := ⟨q321, q130, mh_J1, by decide +kernel⟩
theorem k_23 : gCls 23 RJ28 TJ28 4 tyJ28 := ⟨rfl, in_J28, tyJ28_ok, nmJ28⟩
theorem lk_J28_29_23 : gLk RJ28 29 "java/util/ArrayDeque$DeqIterator" (TJ28 0) := ⟨Or.inl q1787, Or.inl rfl⟩
theorem lk_J28_26_22 : gLk RJ28 26 "java/util/ArrayDeque" (TJ1 1) := ⟨Or.inl q222, Or.inl rfl⟩
theorem lk_J28_23_23 : gLk RJ28 23 "java/util/ArrayDeque$DeqIterator" (TJ28 2) := ⟨Or.inl q1789, Or.inl rfl⟩
theorem lk_J28_19_23 : gLk RJ28 19 "java/util/ArrayDeque$DeqIterator" (TJ28 1) := ⟨Or.inl q1788, Or.inl rfl⟩
theorem gy_J1_size : gY yJ1_size cJ1_size 1 (some .int) 0 := ⟨q318, q130, mh_J1, by decide +kernel⟩
theorem lk_J28_1_23 : gLk RJ28 1 "java/util/ArrayDeque$DeqIterator" (TJ28 3) := ⟨Or.inl q1790, Or.inl rfl⟩
theorem pn_J28 : plainName RJ28 = true := by decide +kernel
theorem mh_J28 : RJ28 ≠ "java/lang/invoke/MethodHandle" ∧ RJ28 ≠ "java/lang/invoke/VarHandle" := ⟨by decide +kernel, by decide +kernel⟩
theorem gy_J28_init : gY yJ28_init cJ28_init 2 none 1 := ⟨q1784, q170, mh_J28, by decide +kernel⟩
theorem gy_J1_inc : gY yJ1_inc cJ1_inc 2 (some .int) 2 := ⟨q1550, q130, mh_J1, by decide +kernel⟩
theorem gy_J1_nonNullElementAt : gY yJ1_nonNullElementAt cJ1_nonNullElementAt 3 (some (.object "java/lang/Object")) 2 := ⟨q1547, q130, mh_J1, by decide +kernel⟩
theorem lk_J28_35_22 : gLk RJ28 35 "java/util/ArrayDeque" (TJ1 0) := ⟨Or.inl q221, Or.inl rfl⟩
theorem k_6 : gCls 6 RX18 TX18 4 tyX18 := ⟨rfl, in_X18, tyX18_ok, nmX18⟩
theorem lk_X1_441_6 : gLk RX1 441 "FlareSlopes$Bulletin" (TX18 3) := ⟨Or.inr ⟨_, q3827⟩, Or.inl rfl⟩
theorem lk_X1_437_6 : gLk RX1 437 "FlareSlopes$Bulletin" (TX18 0) := ⟨Or.inr ⟨_, q3821⟩, Or.inl rfl⟩
theorem lk_X1_438_6 : gLk RX1 438 "FlareSlopes$Bulletin" (TX18 1) := ⟨Or.inr ⟨_, q3823⟩, Or.inl rfl⟩
theorem lk_X1_440_6 : gLk RX1 440 "FlareSlopes$Bulletin" (TX18 2) := ⟨Or.inr ⟨_, q3825⟩, Or.inl rfl⟩
theorem gy_J28_next : gY yJ28_next cJ28_next 3 (some (.object "java/lang/Object")) 0 := ⟨q1544, q170, mh_J28, by decide +kernel⟩
theorem gy_J1_iterator : gY yJ1_iterator cJ1_iterator 1 (some (.object "java/util/Iterator")) 0 := ⟨q1779, q130, mh_J1, by decide +kernel⟩
theorem lk_X1_430_16 : gLk RX1 430 "FlareSlopes$State" (TX3 3) := ⟨Or.inr ⟨_, q1354⟩, Or.inl rfl⟩
theorem gy_X1_bulletin : gY yX1_bulletin cX1_bulletin 6 (some .int) 2 := ⟨q3452, q128, mh_X1, by decide +kernel⟩
theorem bc_95 : (Int8.ofInt (95)).toInt32 = (95 : Int32) := by decide
theorem bc_98 : (Int8.ofInt (98)).toInt32 = (98 : Int32) := by decide
theorem gy_X2_bulletins : gY yX2_bulletins cX2_bulletins 1 (some .int) 0 := ⟨q4446, q135, mh_X2, by decide +kernel⟩
theorem lk_X3_117_16 : gLk RX3 117 "FlareSlopes$State" (TX3 10) := ⟨Or.inl q1367, Or.inl rfl⟩
theorem lk_X3_114_16 : gLk RX3 114 "FlareSlopes$State" (TX3 9) := ⟨Or.inl q1365, Or.inl rfl⟩
theorem lk_X3_111_16 : gLk RX3 111 "FlareSlopes$State" (TX3 8) := ⟨Or.inl q1363, Or.inl rfl⟩
theorem lk_X3_108_16 : gLk RX3 108 "FlareSlopes$State" (TX3 7) := ⟨Or.inl q1361, Or.inl rfl⟩
theorem lk_X3_105_16 : gLk RX3 105 "FlareSlopes$State" (TX3 6) := ⟨Or.inl q1359, Or.inl rfl⟩
theorem lk_X3_102_16 : gLk RX3 102 "FlareSlopes$State" (TX3 5) := ⟨Or.inl q1357, Or.inl rfl⟩
theorem gy_J1_addLast : gY yJ1_addLast cJ1_addLast 3 none 1 := ⟨q3500, q130, mh_J1, by decide +kernel⟩
theorem gy_J28_hasNext : gY yJ28_hasNext cJ28_hasNext 1 (some .boolean) 0 := ⟨q1511, q170, mh_J28, by decide +kernel⟩
theorem gy_X12_init_2 : gY yX12_init_2 cX12_init_2 4 none 1 := ⟨q3471, q162, mh_X12, by decide +kernel⟩
theorem gy_J24_afterNodeRemoval : gY yJ24_afterNodeRemoval cJ24_afterNodeRemoval 5 none 1 := ⟨q3560, q165, mh_J24, by decide +kernel⟩
theorem gy_J23_removeNode : gY yJ23_removeNode cJ23_removeNode 14 (some (.object "java/util/HashMap$Node")) 5 := ⟨q3547, q164, mh_J23, by decide +kernel⟩
theorem gy_J23_remove : gY yJ23_remove cJ23_remove 3 (some (.object "java/lang/Object")) 1 := ⟨q3542, q164, mh_J23, by decide +kernel⟩
theorem lk_X12_111_17 : gLk RX12 111 "FlareSlopes$Vote" (TX17 1) := ⟨Or.inr ⟨_, q3630⟩, Or.inl rfl⟩
theorem gy_X12_forgets : gY yX12_forgets cX12_forgets 6 none 3 := ⟨q3531, q162, mh_X12, by decide +kernel⟩
theorem lk_X3_256_7 : gLk RX3 256 "FlareSlopes$Cabin" (TX12 5) := ⟨Or.inr ⟨_, q1317⟩, Or.inl rfl⟩
theorem lk_X3_253_7 : gLk RX3 253 "FlareSlopes$Cabin" (TX12 7) := ⟨Or.inr ⟨_, q1322⟩, Or.inl rfl⟩
theorem gy_X3_decides : gY yX3_decides cX3_decides 5 none 2 := ⟨q3566, q141, mh_X3, by decide +kernel⟩
theorem gy_X3_forgets : gY yX3_forgets cX3_forgets 4 none 1 := ⟨q3527, q141, mh_X3, by decide +kernel⟩
theorem gy_X3_tick : gY yX3_tick cX3_tick 3 none 0 := ⟨q3523, q141, mh_X3, by decide +kernel⟩
theorem gy_X3_init_2 : gY yX3_init_2 cX3_init_2 4 none 1 := ⟨q3468, q141, mh_X3, by decide +kernel⟩
theorem gy_X1_holdsIn : gY yX1_holdsIn cX1_holdsIn 7 (some .int) 3 := ⟨q3465, q128, mh_X1, by decide +kernel⟩
theorem gy_X1_closesIn : gY yX1_closesIn cX1_closesIn 3 (some .int) 2 := ⟨q3461, q128, mh_X1, by decide +kernel⟩
theorem bc_93 : (Int8.ofInt (93)).toInt32 = (93 : Int32) := by decide
theorem gy_X2_judges : gY yX2_judges cX2_judges 6 none 2 := ⟨q4475, q135, mh_X2, by decide +kernel⟩
theorem gy_X2_forgets : gY yX2_forgets cX2_forgets 2 none 0 := ⟨q4471, q135, mh_X2, by decide +kernel⟩
theorem gy_X2_back : gY yX2_back cX2_back 2 (some .int) 1 := ⟨q4463, q135, mh_X2, by decide +kernel⟩
theorem gy_X2_ticks : gY yX2_ticks cX2_ticks 3 none 0 := ⟨q4467, q135, mh_X2, by decide +kernel⟩
theorem gy_X2_thinks : gY yX2_thinks cX2_thinks 1 none 0 := ⟨q4459, q135, mh_X2, by decide +kernel⟩
theorem gy_X2_holdsIn : gY yX2_holdsIn cX2_holdsIn 5 (some .int) 3 := ⟨q4455, q135, mh_X2, by decide +kernel⟩
theorem gy_X1_opensIn : gY yX1_opensIn cX1_opensIn 3 (some .int) 2 := ⟨q3574, q128, mh_X1, by decide +kernel⟩
theorem gy_X3_ticks : gY yX3_ticks cX3_ticks 3 (some (.object "FlareSlopes$State")) 1 := ⟨q3588, q141, mh_X3, by decide +kernel⟩
theorem gy_X1_checkTicks : gY yX1_checkTicks cX1_checkTicks 1 none 1 := ⟨q3584, q128, mh_X1, by decide +kernel⟩
theorem gy_X1_closersIn : gY yX1_closersIn cX1_closersIn 4 (some .int) 2 := ⟨q3581, q128, mh_X1, by decide +kernel⟩
theorem gy_X2_passes : gY yX2_passes cX2_passes 3 none 1 := ⟨q4490, q135, mh_X2, by decide +kernel⟩
theorem gy_X2_isFar : gY yX2_isFar cX2_isFar 1 (some .boolean) 1 := ⟨q4486, q135, mh_X2, by decide +kernel⟩
theorem gy_X1_votesIn : gY yX1_votesIn cX1_votesIn 3 (some .int) 1 := ⟨q3596, q128, mh_X1, by decide +kernel⟩
theorem gy_X1_seeIn : gY yX1_seeIn cX1_seeIn 6 (some .int) 2 := ⟨q3603, q128, mh_X1, by decide +kernel⟩
theorem lk_X17_13_17 : gLk RX17 13 "FlareSlopes$Vote" (TX17 1) := ⟨Or.inl q3629, Or.inl rfl⟩
theorem gy_X17_init : gY yX17_init cX17_init 3 none 2 := ⟨q3624, q198, mh_X17, by decide +kernel⟩
theorem gy_X3_fires : gY yX3_fires cX3_fires 8 (some .int) 3 := ⟨q3618, q141, mh_X3, by decide +kernel⟩
theorem gy_X1_closersBy : gY yX1_closersBy cX1_closersBy 6 (some .int) 3 := ⟨q3614, q128, mh_X1, by decide +kernel⟩
theorem gy_X1_closersIf : gY yX1_closersIf cX1_closersIf 5 (some .int) 3 := ⟨q3610, q128, mh_X1, by decide +kernel⟩
theorem gy_X2_made : gY yX2_made cX2_made 2 (some .int) 2 := ⟨q4513, q135, mh_X2, by decide +kernel⟩
theorem gy_X2_shows : gY yX2_shows cX2_shows 6 (some .int) 3 := ⟨q4510, q135, mh_X2, by decide +kernel⟩
theorem gy_X2_closersBy : gY yX2_closersBy cX2_closersBy 5 (some .int) 3 := ⟨q4506, q135, mh_X2, by decide +kernel⟩
theorem gy_X1_bestCaller : gY yX1_bestCaller cX1_bestCaller 8 (some .int) 2 := ⟨q3645, q128, mh_X1, by decide +kernel⟩
theorem gy_X1_leastShare : gY yX1_leastShare cX1_leastShare 5 (some .int) 2 := ⟨q3652, q128, mh_X1, by decide +kernel⟩
theorem gy_J15_rangeCheck : gY yJ15_rangeCheck cJ15_rangeCheck 3 none 3 := ⟨q3699, q151, mh_J15, by decide +kernel⟩
theorem gy_J15_fill : gY yJ15_fill cJ15_fill 5 none 4 := ⟨q3696, q151, mh_J15, by decide +kernel⟩
theorem lk_J2_73_21 : gLk RJ2 73 "java/lang/AbstractStringBuilder" (TJ3 2) := ⟨Or.inl q255, Or.inl rfl⟩
theorem gy_J16_fillNull : gY yJ16_fillNull cJ16_fillNull 3 none 3 := ⟨q3693, q153, mh_J16, by decide +kernel⟩
theorem gy_J2_setLength : gY yJ2_setLength cJ2_setLength 2 none 1 := ⟨q3671, q131, mh_J2, by decide +kernel⟩
theorem gy_J4_getBytes : gY yJ4_getBytes cJ4_getBytes 4 none 3 := ⟨q830, q133, mh_J4, by decide +kernel⟩
theorem gy_J2_inflateIfNeededFor : gY yJ2_inflateIfNeededFor cJ2_inflateIfNeededFor 2 none 1 := ⟨q825, q131, mh_J2, by decide +kernel⟩
theorem gy_J2_putStringAt : gY yJ2_putStringAt cJ2_putStringAt 3 none 2 := ⟨q821, q131, mh_J2, by decide +kernel⟩
theorem gy_J2_append_3 : gY yJ2_append_3 cJ2_append_3 3 (some (.object "java/lang/AbstractStringBuilder")) 1 := ⟨q801, q131, mh_J2, by decide +kernel⟩
theorem bc_58 : (Int8.ofInt (58)).toInt32 = (58 : Int32) := by decide
theorem bc_43 : (Int8.ofInt (43)).toInt32 = (43 : Int32) := by decide
theorem bc_45 : (Int8.ofInt (45)).toInt32 = (45 : Int32) := by decide
theorem gy_J3_append_3 : gY yJ3_append_3 cJ3_append_3 2 (some (.object "java/lang/StringBuilder")) 1 := ⟨q798, q132, mh_J3, by decide +kernel⟩
theorem lk_X1_475_15 : gLk RX1 475 "FlareSlopes$Spot" (TX9 0) := ⟨Or.inr ⟨_, q1066⟩, Or.inl rfl⟩
theorem gy_J3_setLength : gY yJ3_setLength cJ3_setLength 2 none 1 := ⟨q3668, q132, mh_J3, by decide +kernel⟩
theorem gy_X3_tells : gY yX3_tells cX3_tells 4 (some .int) 1 := ⟨q3663, q141, mh_X3, by decide +kernel⟩
theorem gy_X1_writeBulletin : gY yX1_writeBulletin cX1_writeBulletin 5 (some .int) 1 := ⟨q3659, q128, mh_X1, by decide +kernel⟩
theorem lk_X2_377_18 : gLk RX2 377 "FlareSlopesModel" (TX2 21) := ⟨Or.inl q3961, Or.inl rfl⟩
theorem gy_X2_writesByte : gY yX2_writesByte cX2_writesByte 2 none 1 := ⟨q4534, q135, mh_X2, by decide +kernel⟩
theorem gy_X2_writesName : gY yX2_writesName cX2_writesName 6 none 1 := ⟨q4529, q135, mh_X2, by decide +kernel⟩
theorem bc_m10 : (Int8.ofInt (-10)).toInt32 = (-10 : Int32) := by decide
theorem bc_m9 : (Int8.ofInt (-9)).toInt32 = (-9 : Int32) := by decide
theorem bc_m100 : (Int8.ofInt (-100)).toInt32 = (-100 : Int32) := by decide
theorem gy_J20_getChars : gY yJ20_getChars cJ20_getChars 7 (some .int) 3 := ⟨q772, q157, mh_J20, by decide +kernel⟩
theorem gy_J20_stringSize : gY yJ20_stringSize cJ20_stringSize 4 (some .int) 1 := ⟨q769, q157, mh_J20, by decide +kernel⟩
theorem gy_J2_append_2 : gY yJ2_append_2 cJ2_append_2 4 (some (.object "java/lang/AbstractStringBuilder")) 1 := ⟨q766, q131, mh_J2, by decide +kernel⟩
theorem gy_J3_append_2 : gY yJ3_append_2 cJ3_append_2 2 (some (.object "java/lang/StringBuilder")) 1 := ⟨q763, q132, mh_J3, by decide +kernel⟩
theorem bc_103 : (Int8.ofInt (103)).toInt32 = (103 : Int32) := by decide
theorem bc_114 : (Int8.ofInt (114)).toInt32 = (114 : Int32) := by decide
theorem gy_X1_writeVotes : gY yX1_writeVotes cX1_writeVotes 6 (some .int) 2 := ⟨q3728, q128, mh_X1, by decide +kernel⟩
theorem gy_X2_writesNumber : gY yX2_writesNumber cX2_writesNumber 2 none 1 := ⟨q4542, q135, mh_X2, by decide +kernel⟩
theorem bc_61 : (Int8.ofInt (61)).toInt32 = (61 : Int32) := by decide
theorem bc_44 : (Int8.ofInt (44)).toInt32 = (44 : Int32) := by decide
theorem gy_X1_writeView : gY yX1_writeView cX1_writeView 3 (some .int) 0 := ⟨q3736, q128, mh_X1, by decide +kernel⟩
theorem gy_X1_textByte : gY yX1_textByte cX1_textByte 2 (some .int) 1 := ⟨q3743, q128, mh_X1, by decide +kernel⟩
theorem gy_J1_elementAt : gY yJ1_elementAt cJ1_elementAt 2 (some (.object "java/lang/Object")) 2 := ⟨q3766, q130, mh_J1, by decide +kernel⟩
theorem gy_J1_pollFirst : gY yJ1_pollFirst cJ1_pollFirst 4 (some (.object "java/lang/Object")) 0 := ⟨q3763, q130, mh_J1, by decide +kernel⟩
theorem gy_J1_removeFirst : gY yJ1_removeFirst cJ1_removeFirst 2 (some (.object "java/lang/Object")) 0 := ⟨q3759, q130, mh_J1, by decide +kernel⟩
theorem gy_X1_change : gY yX1_change cX1_change 1 (some (.object "FlareSlopes$State")) 0 := ⟨q3755, q128, mh_X1, by decide +kernel⟩
theorem gy_X1_tick : gY yX1_tick cX1_tick 5 (some .int) 1 := ⟨q3751, q128, mh_X1, by decide +kernel⟩
theorem sc_7406 : (Int16.ofInt (7406)).toInt32 = (7406 : Int32) := by decide
theorem gy_X2_remembers : gY yX2_remembers cX2_remembers 2 none 0 := ⟨q4558, q135, mh_X2, by decide +kernel⟩
theorem gy_X1_flare : gY yX1_flare cX1_flare 6 (some .int) 3 := ⟨q3774, q128, mh_X1, by decide +kernel⟩
theorem gy_X12_trusts : gY yX12_trusts cX12_trusts 2 none 1 := ⟨q3791, q162, mh_X12, by decide +kernel⟩
theorem gy_X3_inspects : gY yX3_inspects cX3_inspects 9 (some .int) 2 := ⟨q3785, q141, mh_X3, by decide +kernel⟩
theorem gy_X1_inspect : gY yX1_inspect cX1_inspect 4 (some .int) 2 := ⟨q3781, q128, mh_X1, by decide +kernel⟩
theorem bc_94 : (Int8.ofInt (94)).toInt32 = (94 : Int32) := by decide
theorem gy_X1_danger : gY yX1_danger cX1_danger 6 (some .boolean) 2 := ⟨q3802, q128, mh_X1, by decide +kernel⟩
theorem lk_X18_19_6 : gLk RX18 19 "FlareSlopes$Bulletin" (TX18 3) := ⟨Or.inl q3826, Or.inl rfl⟩
theorem lk_X18_16_6 : gLk RX18 16 "FlareSlopes$Bulletin" (TX18 2) := ⟨Or.inl q3824, Or.inl rfl⟩
theorem lk_X18_13_6 : gLk RX18 13 "FlareSlopes$Bulletin" (TX18 1) := ⟨Or.inl q3822, Or.inl rfl⟩
theorem lk_X18_7_6 : gLk RX18 7 "FlareSlopes$Bulletin" (TX18 0) := ⟨Or.inl q3820, Or.inl rfl⟩
theorem pn_X18 : plainName RX18 = true := by decide +kernel
theorem gy_J1_dec : gY yJ1_dec cJ1_dec 2 (some .int) 2 := ⟨q3843, q130, mh_J1, by decide +kernel⟩
theorem gy_J1_pollLast : gY yJ1_pollLast cJ1_pollLast 4 (some (.object "java/lang/Object")) 0 := ⟨q3852, q130, mh_J1, by decide +kernel⟩
theorem mh_X18 : RX18 ≠ "java/lang/invoke/MethodHandle" ∧ RX18 ≠ "java/lang/invoke/VarHandle" := ⟨by decide +kernel, by decide +kernel⟩
theorem gy_X18_wrong : gY yX18_wrong cX18_wrong 1 (some .int) 0 := ⟨q3856, q200, mh_X18, by decide +kernel⟩
theorem gy_J1_removeLast : gY yJ1_removeLast cJ1_removeLast 2 (some (.object "java/lang/Object")) 0 := ⟨q3848, q130, mh_J1, by decide +kernel⟩
theorem gy_J1_addFirst : gY yJ1_addFirst cJ1_addFirst 3 none 1 := ⟨q3840, q130, mh_J1, by decide +kernel⟩
theorem gy_X18_init : gY yX18_init cX18_init 5 none 4 := ⟨q3818, q200, mh_X18, by decide +kernel⟩
theorem gy_X3_issues : gY yX3_issues cX3_issues 4 none 1 := ⟨q3813, q141, mh_X3, by decide +kernel⟩
theorem gy_X1_issue : gY yX1_issue cX1_issue 4 (some .int) 1 := ⟨q3809, q128, mh_X1, by decide +kernel⟩
theorem bc_96 : (Int8.ofInt (96)).toInt32 = (96 : Int32) := by decide
theorem gy_X1_give : gY yX1_give cX1_give 5 (some .int) 2 := ⟨q3864, q128, mh_X1, by decide +kernel⟩
theorem gy_X1_move : gY yX1_move cX1_move 6 (some .int) 3 := ⟨q3871, q128, mh_X1, by decide +kernel⟩
theorem gy_X1_trust : gY yX1_trust cX1_trust 5 (some .int) 2 := ⟨q3878, q128, mh_X1, by decide +kernel⟩
theorem gy_J23_clear : gY yJ23_clear cJ23_clear 3 none 0 := ⟨q3898, q164, mh_J23, by decide +kernel⟩
theorem gy_J24_clear : gY yJ24_clear cJ24_clear 1 none 0 := ⟨q3895, q165, mh_J24, by decide +kernel⟩
theorem gy_X1_forget : gY yX1_forget cX1_forget 4 (some .int) 1 := ⟨q3886, q128, mh_X1, by decide +kernel⟩
theorem gy_X1_set : gY yX1_set cX1_set 5 (some .int) 2 := ⟨q3905, q128, mh_X1, by decide +kernel⟩
theorem gy_X2_highNow : gY yX2_highNow cX2_highNow 2 (some .int) 1 := ⟨q4598, q135, mh_X2, by decide +kernel⟩
theorem gy_J1_isEmpty : gY yJ1_isEmpty cJ1_isEmpty 1 (some .boolean) 0 := ⟨q3918, q130, mh_J1, by decide +kernel⟩
theorem gy_X1_undo : gY yX1_undo cX1_undo 1 (some .int) 0 := ⟨q3914, q128, mh_X1, by decide +kernel⟩
theorem gy_X1_save : gY yX1_save cX1_save 3 (some .int) 1 := ⟨q3926, q128, mh_X1, by decide +kernel⟩
theorem gy_X1_restore : gY yX1_restore cX1_restore 2 (some .int) 1 := ⟨q3933, q128, mh_X1, by decide +kernel⟩
theorem ii_6 (x : Int32) : x + Int32.ofInt (6) = x + (6 : Int32) := congrArg (x + ·) (by decide)
theorem gy_X2_append : gY yX2_append cX2_append 6 (some .int) 5 := ⟨q4016, q135, mh_X2, by decide +kernel⟩
theorem gy_X1_append : gY yX1_append cX1_append 11 (some .int) 5 := ⟨q297, q128, mh_X1, by decide +kernel⟩
theorem gy_X2_thrown : gY yX2_thrown cX2_thrown 1 (some .int) 0 := ⟨q4012, q135, mh_X2, by decide +kernel⟩
theorem gy_X2_load : gY yX2_load cX2_load 3 (some .int) 1 := ⟨q4036, q135, mh_X2, by decide +kernel⟩
theorem mh_X0 : RX0 ≠ "java/lang/invoke/MethodHandle" ∧ RX0 ≠ "java/lang/invoke/VarHandle" := ⟨by decide +kernel, by decide +kernel⟩
theorem gy_X0_load : gYX yX0_load cX0_load 4 (some .int) [(0, 9, 12, 13), (0, 9, 15, 15)] 3 := ⟨q324, q127, mh_X0, by decide +kernel⟩
theorem gy_X2_parseError : gY yX2_parseError cX2_parseError 1 (some .int) 0 := ⟨q4024, q135, mh_X2, by decide +kernel⟩
theorem gy_X1_parseError : gY yX1_parseError cX1_parseError 1 (some .int) 0 := ⟨q302, q128, mh_X1, by decide +kernel⟩
theorem gy_X2_errorPosition : gY yX2_errorPosition cX2_errorPosition 1 (some .int) 0 := ⟨q4028, q135, mh_X2, by decide +kernel⟩
theorem gy_X1_errorPosition : gY yX1_errorPosition cX1_errorPosition 1 (some .int) 0 := ⟨q306, q128, mh_X1, by decide +kernel⟩
theorem gy_X2_buffered : gY yX2_buffered cX2_buffered 1 (some .int) 0 := ⟨q4032, q135, mh_X2, by decide +kernel⟩
theorem gy_X1_buffered : gY yX1_buffered cX1_buffered 1 (some .int) 0 := ⟨q310, q128, mh_X1, by decide +kernel⟩
theorem gy_X2_find : gY yX2_find cX2_find 3 (some .int) 2 := ⟨q4144, q135, mh_X2, by decide +kernel⟩
theorem gy_X0_find : gYX yX0_find cX0_find 5 (some .int) [(0, 10, 13, 21), (0, 10, 17, 13)] 4 := ⟨q1424, q127, mh_X0, by decide +kernel⟩
theorem gy_X2_count : gY yX2_count cX2_count 2 (some .int) 1 := ⟨q4156, q135, mh_X2, by decide +kernel⟩
theorem gy_X0_count : gYX yX0_count cX0_count 4 (some .int) [(0, 9, 12, 21), (0, 9, 15, 15)] 3 := ⟨q1459, q127, mh_X0, by decide +kernel⟩
theorem gy_X2_setting : gY yX2_setting cX2_setting 2 (some .int) 1 := ⟨q4209, q135, mh_X2, by decide +kernel⟩
theorem gy_X0_setting : gYX yX0_setting cX0_setting 4 (some .int) [(0, 9, 12, 21), (0, 9, 15, 15)] 3 := ⟨q1953, q127, mh_X0, by decide +kernel⟩
theorem gy_X2_cabin : gY yX2_cabin cX2_cabin 3 (some .int) 2 := ⟨q4213, q135, mh_X2, by decide +kernel⟩
theorem gy_X0_cabin : gYX yX0_cabin cX0_cabin 5 (some .int) [(0, 10, 13, 21), (0, 10, 17, 13), (0, 10, 21, 15)] 4 := ⟨q1963, q127, mh_X0, by decide +kernel⟩
theorem gy_X2_slope : gY yX2_slope cX2_slope 3 (some .int) 2 := ⟨q4244, q135, mh_X2, by decide +kernel⟩
theorem gy_X0_slope : gYX yX0_slope cX0_slope 5 (some .int) [(0, 10, 13, 21), (0, 10, 17, 13), (0, 10, 21, 15)] 4 := ⟨q3039, q127, mh_X0, by decide +kernel⟩
theorem gy_X2_ridge : gY yX2_ridge cX2_ridge 3 (some .int) 2 := ⟨q4291, q135, mh_X2, by decide +kernel⟩
theorem gy_X0_ridge : gYX yX0_ridge cX0_ridge 5 (some .int) [(0, 10, 13, 21), (0, 10, 17, 13), (0, 10, 21, 15)] 4 := ⟨q3098, q127, mh_X0, by decide +kernel⟩
theorem gy_X2_fog : gY yX2_fog cX2_fog 3 (some .int) 2 := ⟨q4295, q135, mh_X2, by decide +kernel⟩
theorem gy_X0_fog : gYX yX0_fog cX0_fog 5 (some .int) [(0, 10, 13, 21), (0, 10, 17, 13), (0, 10, 21, 15)] 4 := ⟨q3108, q127, mh_X0, by decide +kernel⟩
theorem gy_X2_sight : gY yX2_sight cX2_sight 1 (some .int) 0 := ⟨q4299, q135, mh_X2, by decide +kernel⟩
theorem gy_X0_sight : gYX yX0_sight cX0_sight 3 (some .int) [(0, 8, 11, 21)] 2 := ⟨q3116, q127, mh_X0, by decide +kernel⟩
theorem gy_X2_sees : gY yX2_sees cX2_sees 3 (some .boolean) 2 := ⟨q4307, q135, mh_X2, by decide +kernel⟩
theorem gy_X0_sees : gYX yX0_sees cX0_sees 5 (some .int) [(0, 17, 20, 21), (0, 17, 24, 13)] 4 := ⟨q3124, q127, mh_X0, by decide +kernel⟩
theorem gy_X2_seesSlope : gY yX2_seesSlope cX2_seesSlope 3 (some .boolean) 2 := ⟨q4315, q135, mh_X2, by decide +kernel⟩
theorem gy_X0_seesSlope : gYX yX0_seesSlope cX0_seesSlope 5 (some .int) [(0, 17, 20, 21), (0, 17, 24, 13)] 4 := ⟨q3136, q127, mh_X0, by decide +kernel⟩
theorem gy_X2_seers : gY yX2_seers cX2_seers 2 (some .int) 1 := ⟨q4323, q135, mh_X2, by decide +kernel⟩
theorem gy_X0_seers : gYX yX0_seers cX0_seers 4 (some .int) [(0, 9, 12, 21), (0, 9, 15, 13)] 3 := ⟨q3147, q127, mh_X0, by decide +kernel⟩
theorem gy_X2_distance : gY yX2_distance cX2_distance 3 (some .int) 2 := ⟨q4351, q135, mh_X2, by decide +kernel⟩
theorem gy_X0_distance : gYX yX0_distance cX0_distance 5 (some .int) [(0, 10, 13, 21), (0, 10, 17, 13)] 4 := ⟨q3154, q127, mh_X0, by decide +kernel⟩
theorem gy_X2_reached : gY yX2_reached cX2_reached 4 (some .int) 1 := ⟨q4335, q135, mh_X2, by decide +kernel⟩
theorem gy_X0_reached : gYX yX0_reached cX0_reached 4 (some .int) [(0, 9, 12, 21), (0, 9, 15, 13)] 3 := ⟨q3161, q127, mh_X0, by decide +kernel⟩
theorem gy_X2_steps : gY yX2_steps cX2_steps 5 (some .int) 2 := ⟨q4343, q135, mh_X2, by decide +kernel⟩
theorem gy_X0_steps : gYX yX0_steps cX0_steps 5 (some .int) [(0, 10, 13, 21), (0, 10, 17, 13)] 4 := ⟨q3173, q127, mh_X0, by decide +kernel⟩
theorem gy_X2_ridgesBetween : gY yX2_ridgesBetween cX2_ridgesBetween 3 (some .int) 2 := ⟨q4347, q135, mh_X2, by decide +kernel⟩
theorem gy_X0_ridgesBetween : gYX yX0_ridgesBetween cX0_ridgesBetween 5 (some .int) [(0, 10, 13, 21), (0, 10, 17, 13)] 4 := ⟨q3185, q127, mh_X0, by decide +kernel⟩
theorem gy_X2_vote : gY yX2_vote cX2_vote 6 (some .int) 4 := ⟨q4355, q135, mh_X2, by decide +kernel⟩
theorem gy_X0_vote : gYX yX0_vote cX0_vote 7 (some .int) [(0, 14, 17, 21), (0, 14, 21, 13), (0, 14, 25, 15)] 6 := ⟨q3193, q127, mh_X0, by decide +kernel⟩
theorem gy_X2_weights : gY yX2_weights cX2_weights 4 (some .int) 3 := ⟨q4362, q135, mh_X2, by decide +kernel⟩
theorem gy_X0_weights : gYX yX0_weights cX0_weights 6 (some .int) [(0, 12, 15, 21), (0, 12, 19, 13)] 5 := ⟨q3204, q127, mh_X0, by decide +kernel⟩
theorem gy_X2_rules : gY yX2_rules cX2_rules 3 (some .int) 2 := ⟨q4366, q135, mh_X2, by decide +kernel⟩
theorem gy_X0_rules : gYX yX0_rules cX0_rules 5 (some .int) [(0, 10, 13, 21), (0, 10, 17, 13)] 4 := ⟨q3211, q127, mh_X0, by decide +kernel⟩
theorem gy_X2_run : gY yX2_run cX2_run 3 (some .int) 2 := ⟨q4374, q135, mh_X2, by decide +kernel⟩
theorem gy_X0_run : gYX yX0_run cX0_run 5 (some .int) [(0, 10, 13, 21), (0, 10, 17, 13)] 4 := ⟨q3222, q127, mh_X0, by decide +kernel⟩
theorem gy_X2_isClosed : gY yX2_isClosed cX2_isClosed 3 (some .boolean) 2 := ⟨q4382, q135, mh_X2, by decide +kernel⟩
theorem gy_X0_isClosed : gYX yX0_isClosed cX0_isClosed 5 (some .int) [(0, 17, 20, 21), (0, 17, 24, 13)] 4 := ⟨q3229, q127, mh_X0, by decide +kernel⟩
theorem gy_X2_toldClosed : gY yX2_toldClosed cX2_toldClosed 3 (some .boolean) 2 := ⟨q4386, q135, mh_X2, by decide +kernel⟩
theorem gy_X0_toldClosed : gYX yX0_toldClosed cX0_toldClosed 5 (some .int) [(0, 17, 20, 21), (0, 17, 24, 13)] 4 := ⟨q3237, q127, mh_X0, by decide +kernel⟩
theorem gy_X2_closers : gY yX2_closers cX2_closers 2 (some .int) 1 := ⟨q4418, q135, mh_X2, by decide +kernel⟩
theorem gy_X0_closers : gYX yX0_closers cX0_closers 4 (some .int) [(0, 9, 12, 21), (0, 9, 15, 13)] 3 := ⟨q3250, q127, mh_X0, by decide +kernel⟩
theorem gy_X2_quarrels : gY yX2_quarrels cX2_quarrels 5 (some .int) 1 := ⟨q4422, q135, mh_X2, by decide +kernel⟩
theorem gy_X0_quarrels : gYX yX0_quarrels cX0_quarrels 4 (some .int) [(0, 9, 12, 21), (0, 9, 15, 13)] 3 := ⟨q3257, q127, mh_X0, by decide +kernel⟩
theorem gy_X2_disputes : gY yX2_disputes cX2_disputes 4 (some .int) 1 := ⟨q4394, q135, mh_X2, by decide +kernel⟩
theorem gy_X0_disputes : gYX yX0_disputes cX0_disputes 4 (some .int) [(0, 9, 12, 21), (0, 9, 15, 13)] 3 := ⟨q3264, q127, mh_X0, by decide +kernel⟩
theorem gy_X2_falseVotes : gY yX2_falseVotes cX2_falseVotes 5 (some .int) 1 := ⟨q4398, q135, mh_X2, by decide +kernel⟩
theorem gy_X0_falseVotes : gYX yX0_falseVotes cX0_falseVotes 4 (some .int) [(0, 9, 12, 21), (0, 9, 15, 13)] 3 := ⟨q3382, q127, mh_X0, by decide +kernel⟩
theorem gy_X2_oldestVote : gY yX2_oldestVote cX2_oldestVote 4 (some .int) 1 := ⟨q4402, q135, mh_X2, by decide +kernel⟩
theorem gy_X0_oldestVote : gYX yX0_oldestVote cX0_oldestVote 4 (some .int) [(0, 9, 12, 21), (0, 9, 15, 13)] 3 := ⟨q3399, q127, mh_X0, by decide +kernel⟩
theorem gy_X2_risky : gY yX2_risky cX2_risky 3 (some .int) 0 := ⟨q4406, q135, mh_X2, by decide +kernel⟩
theorem gy_X0_risky : gYX yX0_risky cX0_risky 3 (some .int) [(0, 8, 11, 21)] 2 := ⟨q3406, q127, mh_X0, by decide +kernel⟩
theorem gy_X2_weightiest : gY yX2_weightiest cX2_weightiest 4 (some .int) 1 := ⟨q4410, q135, mh_X2, by decide +kernel⟩
theorem gy_X0_weightiest : gYX yX0_weightiest cX0_weightiest 4 (some .int) [(0, 9, 12, 21), (0, 9, 15, 13)] 3 := ⟨q3413, q127, mh_X0, by decide +kernel⟩
theorem gy_X2_leastTrusted : gY yX2_leastTrusted cX2_leastTrusted 3 (some .int) 0 := ⟨q4426, q135, mh_X2, by decide +kernel⟩
theorem gy_X0_leastTrusted : gYX yX0_leastTrusted cX0_leastTrusted 3 (some .int) [(0, 8, 11, 21)] 2 := ⟨q3420, q127, mh_X0, by decide +kernel⟩
theorem gy_X2_loneliest : gY yX2_loneliest cX2_loneliest 3 (some .int) 0 := ⟨q4430, q135, mh_X2, by decide +kernel⟩
theorem gy_X0_loneliest : gYX yX0_loneliest cX0_loneliest 3 (some .int) [(0, 8, 11, 21)] 2 := ⟨q3427, q127, mh_X0, by decide +kernel⟩
theorem gy_X2_meanTrust : gY yX2_meanTrust cX2_meanTrust 3 (some .double) 0 := ⟨q4434, q135, mh_X2, by decide +kernel⟩
theorem gy_X0_meanTrust : gYX yX0_meanTrust cX0_meanTrust 3 (some .int) [(0, 7, 10, 21)] 2 := ⟨q3434, q127, mh_X0, by decide +kernel⟩
theorem gy_X2_closedShare : gY yX2_closedShare cX2_closedShare 2 (some .float) 1 := ⟨q4438, q135, mh_X2, by decide +kernel⟩
theorem gy_X0_closedShare : gYX yX0_closedShare cX0_closedShare 4 (some .int) [(0, 9, 12, 21), (0, 9, 15, 13)] 3 := ⟨q3441, q127, mh_X0, by decide +kernel⟩
theorem gy_X2_bulletin : gY yX2_bulletin cX2_bulletin 3 (some .int) 2 := ⟨q4442, q135, mh_X2, by decide +kernel⟩
theorem gy_X0_bulletin : gYX yX0_bulletin cX0_bulletin 5 (some .int) [(0, 10, 13, 21), (0, 10, 17, 13), (0, 10, 21, 15)] 4 := ⟨q3448, q127, mh_X0, by decide +kernel⟩
theorem gy_X2_closesIn : gY yX2_closesIn cX2_closesIn 3 (some .int) 2 := ⟨q4451, q135, mh_X2, by decide +kernel⟩
theorem gy_X0_closesIn : gYX yX0_closesIn cX0_closesIn 5 (some .int) [(0, 10, 13, 21), (0, 10, 17, 13)] 4 := ⟨q3457, q127, mh_X0, by decide +kernel⟩
theorem gy_X2_opensIn : gY yX2_opensIn cX2_opensIn 3 (some .int) 2 := ⟨q4479, q135, mh_X2, by decide +kernel⟩
theorem gy_X0_opensIn : gYX yX0_opensIn cX0_opensIn 5 (some .int) [(0, 10, 13, 21), (0, 10, 17, 13)] 4 := ⟨q3570, q127, mh_X0, by decide +kernel⟩
theorem gy_X2_closersIn : gY yX2_closersIn cX2_closersIn 3 (some .int) 2 := ⟨q4483, q135, mh_X2, by decide +kernel⟩
theorem gy_X0_closersIn : gYX yX0_closersIn cX0_closersIn 5 (some .int) [(0, 10, 13, 21), (0, 10, 17, 13), (0, 10, 21, 15)] 4 := ⟨q3577, q127, mh_X0, by decide +kernel⟩
theorem gy_X2_votesIn : gY yX2_votesIn cX2_votesIn 2 (some .int) 1 := ⟨q4494, q135, mh_X2, by decide +kernel⟩
theorem gy_X0_votesIn : gYX yX0_votesIn cX0_votesIn 4 (some .int) [(0, 9, 12, 21), (0, 9, 15, 15)] 3 := ⟨q3592, q127, mh_X0, by decide +kernel⟩
theorem gy_X2_seeIn : gY yX2_seeIn cX2_seeIn 4 (some .int) 2 := ⟨q4498, q135, mh_X2, by decide +kernel⟩
theorem gy_X0_seeIn : gYX yX0_seeIn cX0_seeIn 5 (some .int) [(0, 10, 13, 21), (0, 10, 17, 13)] 4 := ⟨q3599, q127, mh_X0, by decide +kernel⟩
theorem gy_X2_closersIf : gY yX2_closersIf cX2_closersIf 4 (some .int) 3 := ⟨q4502, q135, mh_X2, by decide +kernel⟩
theorem gy_X0_closersIf : gYX yX0_closersIf cX0_closersIf 6 (some .int) [(0, 12, 15, 21), (0, 12, 19, 13), (0, 12, 23, 15)] 5 := ⟨q3606, q127, mh_X0, by decide +kernel⟩
theorem gy_X2_bestCaller : gY yX2_bestCaller cX2_bestCaller 7 (some .int) 2 := ⟨q4517, q135, mh_X2, by decide +kernel⟩
theorem gy_X0_bestCaller : gYX yX0_bestCaller cX0_bestCaller 5 (some .int) [(0, 10, 13, 21), (0, 10, 17, 13), (0, 10, 21, 15)] 4 := ⟨q3641, q127, mh_X0, by decide +kernel⟩
theorem gy_X2_leastShare : gY yX2_leastShare cX2_leastShare 6 (some .int) 2 := ⟨q4521, q135, mh_X2, by decide +kernel⟩
theorem gy_X0_leastShare : gYX yX0_leastShare cX0_leastShare 5 (some .int) [(0, 10, 13, 21), (0, 10, 17, 13)] 4 := ⟨q3648, q127, mh_X0, by decide +kernel⟩
theorem gy_X2_writeBulletin : gY yX2_writeBulletin cX2_writeBulletin 3 (some .int) 1 := ⟨q4525, q135, mh_X2, by decide +kernel⟩
theorem gy_X0_writeBulletin : gYX yX0_writeBulletin cX0_writeBulletin 4 (some .int) [(0, 9, 12, 21), (0, 9, 15, 13)] 3 := ⟨q3655, q127, mh_X0, by decide +kernel⟩
theorem gy_X2_writeVotes : gY yX2_writeVotes cX2_writeVotes 5 (some .int) 2 := ⟨q4538, q135, mh_X2, by decide +kernel⟩
theorem gy_X0_writeVotes : gYX yX0_writeVotes cX0_writeVotes 5 (some .int) [(0, 10, 13, 21), (0, 10, 17, 13)] 4 := ⟨q3724, q127, mh_X0, by decide +kernel⟩
theorem gy_X2_writeView : gY yX2_writeView cX2_writeView 2 (some .int) 0 := ⟨q4546, q135, mh_X2, by decide +kernel⟩
theorem gy_X0_writeView : gYX yX0_writeView cX0_writeView 3 (some .int) [(0, 8, 11, 21)] 2 := ⟨q3732, q127, mh_X0, by decide +kernel⟩
theorem gy_X2_textByte : gY yX2_textByte cX2_textByte 2 (some .int) 1 := ⟨q4550, q135, mh_X2, by decide +kernel⟩
theorem gy_X0_textByte : gYX yX0_textByte cX0_textByte 4 (some .int) [(0, 9, 12, 13)] 3 := ⟨q3739, q127, mh_X0, by decide +kernel⟩
theorem gy_X2_tick : gY yX2_tick cX2_tick 3 (some .int) 1 := ⟨q4554, q135, mh_X2, by decide +kernel⟩
theorem gy_X0_tick : gYX yX0_tick cX0_tick 4 (some .int) [(0, 9, 12, 21), (0, 9, 15, 15)] 3 := ⟨q3747, q127, mh_X0, by decide +kernel⟩
theorem gy_X2_flare : gY yX2_flare cX2_flare 5 (some .int) 3 := ⟨q4562, q135, mh_X2, by decide +kernel⟩
theorem gy_X0_flare : gYX yX0_flare cX0_flare 6 (some .int) [(0, 12, 15, 21), (0, 12, 19, 13), (0, 12, 23, 15)] 5 := ⟨q3770, q127, mh_X0, by decide +kernel⟩
theorem gy_X2_inspect : gY yX2_inspect cX2_inspect 9 (some .int) 2 := ⟨q4566, q135, mh_X2, by decide +kernel⟩
theorem gy_X0_inspect : gYX yX0_inspect cX0_inspect 5 (some .int) [(0, 10, 13, 21), (0, 10, 17, 13), (0, 10, 21, 15)] 4 := ⟨q3777, q127, mh_X0, by decide +kernel⟩
theorem gy_X2_danger : gY yX2_danger cX2_danger 4 (some .boolean) 2 := ⟨q4570, q135, mh_X2, by decide +kernel⟩
theorem gy_X0_danger : gYX yX0_danger cX0_danger 5 (some .int) [(0, 17, 20, 21), (0, 17, 24, 13)] 4 := ⟨q3798, q127, mh_X0, by decide +kernel⟩
theorem gy_X2_issue : gY yX2_issue cX2_issue 4 (some .int) 1 := ⟨q4574, q135, mh_X2, by decide +kernel⟩
theorem gy_X0_issue : gYX yX0_issue cX0_issue 4 (some .int) [(0, 9, 12, 21), (0, 9, 15, 13)] 3 := ⟨q3805, q127, mh_X0, by decide +kernel⟩
theorem gy_X2_give : gY yX2_give cX2_give 4 (some .int) 2 := ⟨q4578, q135, mh_X2, by decide +kernel⟩
theorem gy_X0_give : gYX yX0_give cX0_give 5 (some .int) [(0, 10, 13, 21), (0, 10, 17, 13), (0, 10, 21, 15)] 4 := ⟨q3860, q127, mh_X0, by decide +kernel⟩
theorem gy_X2_move : gY yX2_move cX2_move 6 (some .int) 3 := ⟨q4582, q135, mh_X2, by decide +kernel⟩
theorem gy_X0_move : gYX yX0_move cX0_move 6 (some .int) [(0, 12, 15, 21), (0, 12, 19, 13), (0, 12, 23, 15)] 5 := ⟨q3867, q127, mh_X0, by decide +kernel⟩
theorem gy_X2_trust : gY yX2_trust cX2_trust 3 (some .int) 2 := ⟨q4586, q135, mh_X2, by decide +kernel⟩
theorem gy_X0_trust : gYX yX0_trust cX0_trust 5 (some .int) [(0, 10, 13, 21), (0, 10, 17, 13), (0, 10, 21, 15)] 4 := ⟨q3874, q127, mh_X0, by decide +kernel⟩
theorem gy_X2_forget : gY yX2_forget cX2_forget 4 (some .int) 1 := ⟨q4590, q135, mh_X2, by decide +kernel⟩
theorem gy_X0_forget : gYX yX0_forget cX0_forget 4 (some .int) [(0, 9, 12, 21), (0, 9, 15, 13)] 3 := ⟨q3882, q127, mh_X0, by decide +kernel⟩
theorem gy_X2_set : gY yX2_set cX2_set 4 (some .int) 2 := ⟨q4594, q135, mh_X2, by decide +kernel⟩
theorem gy_X0_set : gYX yX0_set cX0_set 5 (some .int) [(0, 10, 13, 21), (0, 10, 17, 15)] 4 := ⟨q3901, q127, mh_X0, by decide +kernel⟩
theorem gy_X2_undo : gY yX2_undo cX2_undo 1 (some .int) 0 := ⟨q4602, q135, mh_X2, by decide +kernel⟩
theorem gy_X0_undo : gYX yX0_undo cX0_undo 3 (some .int) [(0, 8, 11, 21)] 2 := ⟨q3910, q127, mh_X0, by decide +kernel⟩
theorem gy_X2_undoable : gY yX2_undoable cX2_undoable 1 (some .int) 0 := ⟨q4606, q135, mh_X2, by decide +kernel⟩
theorem gy_X1_undoable : gY yX1_undoable cX1_undoable 1 (some .int) 0 := ⟨q314, q128, mh_X1, by decide +kernel⟩
theorem gy_X2_save : gY yX2_save cX2_save 2 (some .int) 1 := ⟨q4610, q135, mh_X2, by decide +kernel⟩
theorem gy_X0_save : gYX yX0_save cX0_save 4 (some .int) [(0, 9, 12, 21), (0, 9, 15, 13)] 3 := ⟨q3922, q127, mh_X0, by decide +kernel⟩
theorem gy_X2_restore : gY yX2_restore cX2_restore 3 (some .int) 1 := ⟨q4614, q135, mh_X2, by decide +kernel⟩
theorem gy_X0_restore : gYX yX0_restore cX0_restore 4 (some .int) [(0, 9, 12, 13), (0, 9, 15, 21)] 3 := ⟨q3929, q127, mh_X0, by decide +kernel⟩
theorem gy_X2_init : gY yX2_init cX2_init 1 none 0 := ⟨q3938, q135, mh_X2, by decide +kernel⟩
theorem gy_X1_init : gY yX1_init cX1_init 1 none 0 := ⟨q205, q128, mh_X1, by decide +kernel⟩
theorem df_21 : gDf 4 tyJ3 = [.null, .int 0, .int 0, .int 0] := rfl
theorem df_22 : gDf 3 tyJ1 = [.null, .int 0, .int 0] := rfl
theorem df_24 : gDf 3 tyJ12 = [.int 0, .null, .int 0] := rfl
theorem df_10 : gDf 2 tyX7 = [.int 0, .int 0] := rfl
theorem df_13 : gDf 2 tyX6 = [.null, .int 0] := rfl
theorem df_11 : gDf 6 tyX5 = [.null, .null, .null, .null, .null, .null] := rfl
theorem df_8 : gDf 8 tyX8 = [.null, .null, .null, .null, .null, .int 0, .int 0, .int 0] := rfl
theorem df_20 : gDf 4 tyJ4 = [.null, .int 0, .int 0, .int 0] := rfl
theorem as_20_java_lang_String : gAs "java/lang/String" [20] := List.forall_mem_cons.mpr ⟨⟨_, _, _, rfl, Or.inl rfl⟩, List.forall_mem_nil _⟩
theorem ns_10_19_java_lang_String : gNs "java/lang/String" [10, 19] := List.forall_mem_cons.mpr ⟨⟨_, _, _, rfl, ncl_FlareSlopes_Key_java_lang_String⟩, List.forall_mem_cons.mpr ⟨⟨_, _, _, rfl, ncl_java_lang_Integer_java_lang_String⟩, List.forall_mem_nil _⟩⟩
theorem as_15_FlareSlopes_Named : gAs "FlareSlopes$Named" [15] := List.forall_mem_cons.mpr ⟨⟨_, _, _, rfl, Or.inr q1011⟩, List.forall_mem_nil _⟩
theorem df_15 : gDf 5 tyX9 = [.null, .int 0, .int 0, .int 0, .int 0] := rfl
theorem df_14 : gDf 2 tyX10 = [.int 0, .int 0] := rfl
theorem df_9 : gDf 3 tyX11 = [.int 0, .int 0, .int 0] := rfl
theorem df_26 : gDf 12 tyJ24 = [.null, .null, .int 0, .int 0, .int 0, .float 0, .null, .null, .null, .null, .int 0, .int 0] := rfl
theorem as_15_FlareSlopes_Spot : gAs "FlareSlopes$Spot" [15] := List.forall_mem_cons.mpr ⟨⟨_, _, _, rfl, Or.inl rfl⟩, List.forall_mem_nil _⟩
theorem df_7 : gDf 9 tyX12 = [.int 0, .int 0, .int 0, .int 0, .int 0, .int 0, .int 0, .null, .null] := rfl
theorem df_12 : gDf 7 tyX4 = [.int 0, .null, .int 0, .int 0, .int 0, .int 0, .null] := rfl
theorem df_16 : gDf 14 tyX3 = [.null, .null, .null, .null, .int 0, .int 0, .int 0, .int 0, .int 0, .int 0, .int 0, .int 0, .null, .null] := rfl
theorem df_25 : gDf 4 tyJ26 = [.int 0, .int 0, .int 0, .null] := rfl
theorem as_7_FlareSlopes_Cabin : gAs "FlareSlopes$Cabin" [7] := List.forall_mem_cons.mpr ⟨⟨_, _, _, rfl, Or.inl rfl⟩, List.forall_mem_nil _⟩
theorem as_9_FlareSlopes_Fog : gAs "FlareSlopes$Fog" [9] := List.forall_mem_cons.mpr ⟨⟨_, _, _, rfl, Or.inl rfl⟩, List.forall_mem_nil _⟩
theorem as_14_FlareSlopes_Ridge : gAs "FlareSlopes$Ridge" [14] := List.forall_mem_cons.mpr ⟨⟨_, _, _, rfl, Or.inl rfl⟩, List.forall_mem_nil _⟩
theorem as_33_java_util_SequencedCollection : gAs "java/util/SequencedCollection" [33] := List.forall_mem_cons.mpr ⟨⟨_, _, _, rfl, Or.inr q4656⟩, List.forall_mem_nil _⟩
theorem df_33 : gDf 2 tyJ27 = [.int 0, .null] := rfl
theorem df_32 : gDf 5 tyJ34 = [.null, .null, .int 0, .int 0, .null] := rfl
theorem as_17_FlareSlopes_Vote : gAs "FlareSlopes$Vote" [17] := List.forall_mem_cons.mpr ⟨⟨_, _, _, rfl, Or.inl rfl⟩, List.forall_mem_nil _⟩
theorem as_10_FlareSlopes_Key : gAs "FlareSlopes$Key" [10] := List.forall_mem_cons.mpr ⟨⟨_, _, _, rfl, Or.inl rfl⟩, List.forall_mem_nil _⟩
theorem ns_19_FlareSlopes_Key : gNs "FlareSlopes$Key" [19] := List.forall_mem_cons.mpr ⟨⟨_, _, _, rfl, ncl_java_lang_Integer_FlareSlopes_Key⟩, List.forall_mem_nil _⟩
theorem as_19_java_lang_Integer : gAs "java/lang/Integer" [19] := List.forall_mem_cons.mpr ⟨⟨_, _, _, rfl, Or.inl rfl⟩, List.forall_mem_nil _⟩
theorem ns_10_java_lang_Integer : gNs "java/lang/Integer" [10] := List.forall_mem_cons.mpr ⟨⟨_, _, _, rfl, ncl_FlareSlopes_Key_java_lang_Integer⟩, List.forall_mem_nil _⟩
theorem as__java_util_HashMap_TreeNode : gAs "java/util/HashMap$TreeNode" [] := List.forall_mem_nil _
theorem ns_27_java_util_HashMap_TreeNode : gNs "java/util/HashMap$TreeNode" [27] := List.forall_mem_cons.mpr ⟨⟨_, _, _, rfl, ncl_java_util_LinkedHashMap_Entry_java_util_HashMap_TreeNode⟩, List.forall_mem_nil _⟩
theorem as_27_java_util_LinkedHashMap_Entry : gAs "java/util/LinkedHashMap$Entry" [27] := List.forall_mem_cons.mpr ⟨⟨_, _, _, rfl, Or.inl rfl⟩, List.forall_mem_nil _⟩
theorem df_4 : gDf 1 tyX15 = [.null] := rfl
theorem as_31_java_util_SequencedSet : gAs "java/util/SequencedSet" [31] := List.forall_mem_cons.mpr ⟨⟨_, _, _, rfl, Or.inr q4650⟩, List.forall_mem_nil _⟩
theorem df_31 : gDf 2 tyJ37 = [.int 0, .null] := rfl
theorem df_30 : gDf 5 tyJ33 = [.null, .null, .int 0, .int 0, .null] := rfl
theorem df_19 : gDf 1 tyJ20 = [.int 0] := rfl
theorem df_27 : gDf 6 tyJ48 = [.int 0, .null, .null, .null, .null, .null] := rfl
theorem df_34 : gDf 1 tyJ41 = [.null] := rfl
theorem as_29_java_util_SequencedSet : gAs "java/util/SequencedSet" [29] := List.forall_mem_cons.mpr ⟨⟨_, _, _, rfl, Or.inr q4649⟩, List.forall_mem_nil _⟩
theorem df_29 : gDf 2 tyJ50 = [.int 0, .null] := rfl
theorem df_28 : gDf 5 tyJ32 = [.null, .null, .int 0, .int 0, .null] := rfl
theorem as_27_java_util_Map_Entry : gAs "java/util/Map$Entry" [27] := List.forall_mem_cons.mpr ⟨⟨_, _, _, rfl, Or.inr q3309⟩, List.forall_mem_nil _⟩
theorem df_5 : gDf 1 tyX16 = [.null] := rfl
theorem df_23 : gDf 4 tyJ28 = [.int 0, .int 0, .int 0, .null] := rfl
theorem as_6_FlareSlopes_Bulletin : gAs "FlareSlopes$Bulletin" [6] := List.forall_mem_cons.mpr ⟨⟨_, _, _, rfl, Or.inl rfl⟩, List.forall_mem_nil _⟩
theorem df_17 : gDf 2 tyX17 = [.int 0, .int 0] := rfl
theorem df_6 : gDf 4 tyX18 = [.int 0, .int 0, .int 0, .int 0] := rfl
theorem as_16_FlareSlopes_State : gAs "FlareSlopes$State" [16] := List.forall_mem_cons.mpr ⟨⟨_, _, _, rfl, Or.inl rfl⟩, List.forall_mem_nil _⟩
theorem df_18 : gDf 22 tyX2 = [.int 0, .null, .null, .null, .null, .null, .null, .null, .int 0, .int 0, .null, .int 0, .int 0, .int 0, .int 0, .int 0, .int 0, .int 0, .int 0, .long 0, .null, .int 0] := rfl
theorem df_3 : gDf 8 tyX1 = [.null, .int 0, .int 0, .int 0, .null, .null, .null, .null] := rfl
theorem xw_X1_50_52 : gXw RX1 50 52 "java/lang/IndexOutOfBoundsException" ["java/lang/RuntimeException", "java/lang/Exception"] := gXw.of [136, 396, 347, 356, 359, 361, 397, 398, 207, 208, 341, 346, 357, 364, 390, 365, 391, 366, 392, 342, 344, 393, 426, 427, 428, 429, 383, 429, 430, 431, 432, 385, 432, 433, 434, 397, 387, 425, 417, 418, 419, 354, 420, 421, 422, 423, 395, 394, 424] (by decide +kernel) (by decide +kernel) (by decide +kernel) (by decide +kernel) q416 q139 (by decide +kernel)
theorem xw_X1_43_45 : gXw RX1 43 45 "java/lang/IllegalArgumentException" ["java/lang/RuntimeException", "java/lang/Exception"] := gXw.of [136, 396, 347, 356, 359, 361, 397, 398, 207, 208, 341, 346, 357, 364, 390, 365, 391, 366, 392, 342, 344, 393, 1419, 1420, 1421, 429, 383, 429, 430, 431, 432, 385, 432, 433, 434, 397, 387, 1418, 750, 751, 752, 352, 753, 754, 755, 756, 395, 394, 757] (by decide +kernel) (by decide +kernel) (by decide +kernel) (by decide +kernel) q1417 q155 (by decide +kernel)
theorem xw_X1_53_55 : gXw RX1 53 55 "java/lang/IllegalStateException" ["java/lang/RuntimeException", "java/lang/Exception"] := gXw.of [136, 396, 347, 356, 359, 361, 397, 398, 207, 208, 341, 346, 357, 364, 390, 365, 391, 366, 392, 342, 344, 393, 1447, 1448, 1449, 429, 383, 429, 430, 431, 432, 385, 432, 433, 434, 397, 387, 1446, 1438, 1439, 1440, 353, 1441, 1442, 1443, 1444, 395, 394, 1445] (by decide +kernel) (by decide +kernel) (by decide +kernel) (by decide +kernel) q1437 q166 (by decide +kernel)
