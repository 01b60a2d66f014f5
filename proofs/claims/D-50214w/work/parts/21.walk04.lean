set_option maxRecDepth 100000
set_option maxHeartbeats 4000000
/-! FlareSlopes.ridge(II)I -/
noncomputable def sX1_ridge (G : GG) (N : Nat) (a0 : Option Nat) (a1 : Int32) (a2 : Int32) (h : Hp) : Out (Int32) :=
  bV h a0 3 (fun q22 => sX1_loaded G N (some q22) h) fun v1 h2 =>
  gFr h2 v1 16 0 fun v3 =>
  gFr h2 v3 11 2 fun v4 =>
  bV h2 v4 24 (fun q21 => sJ12_size G N (some q21) h2) fun v5 h6 =>
  bnd (sX1_checkIndex G N a1 v5 h6) fun v7 h8 =>
  bnd (sX1_in G N a2 (0 : Int32) (1 : Int32) h8) fun v9 h10 =>
  bnd (sX1_checkArgument G N v9 h10) fun v11 h12 =>
  gFr h12 a0 3 4 fun v13 =>
  gFr h12 v13 16 0 fun v14 =>
  gFr h12 v14 11 2 fun v15 =>
  bV h12 v15 24 (fun q20 => sJ12_get G N (some q20) a1 h12) fun v16 h17 =>
  gCk h17 v16 [14] (if a2 = 0 then (gFi h17 v16 14 0 fun v19 =>
  some (.inl v19, h17))
  else gFi h17 v16 14 1 fun v18 =>
  some (.inl v18, h17))
abbrev mX1_ridge : MI := (RX1, cX1_ridge, 4, (some .int), [], 8, 121, "ridge")
theorem tX1_ridge {G : GG} {l : Launch} (hs : l.stackTraces = false) {N : Nat} {a0 : Option Nat} {a1 : Int32} {a2 : Int32} {h : Hp} {r : Int32 ⊕ Nat} {hf : Hp} (ho : sX1_ridge G N a0 a1 a2 h = some (r, hf)) : gMet G l yX1_ridge (ws_ yX1_ridge cX1_ridge 4 (some .int)) 8 121 [gr a0, gi a1, gi a2] h cvI r hf := by
  refine gMet.of ho hs (plainFor_of_name pn_X1) rfl rfl (gbl rfl) fun X => ?_
  show gT G l X mX1_ridge cvI r hf 0 [(0, gr a0), (1, gi a1), (2, gi a2)] [] h (sX1_ridge G N a0 a1 a2 h)
  delta sX1_ridge
  refine g_iload_n (pc := 0) (x := a1) 1 rfl rfl dX1_ridge_0 ?_
  refine g_aload_n (pc := 1) (x := a0) 0 rfl rfl dX1_ridge_1 ?_
  refine g_bVr (pc := 2) (y := yX1_loaded) (ws := ws_ yX1_loaded cX1_loaded 1 (some (.object "FlareSlopes$State"))) (fr := 7) (lo := 101) (as := []) (st := [gi a1]) (g_no) rfl (fun _ _ _ e => tX1_loaded hs e) (fun K _ _ _ hq hM R e1 e2 => g_runV (M := mX1_ridge) (pc := 2) (y := yX1_loaded) (bytes := cX1_loaded) (maxL := 1) (ret := (some (.object "FlareSlopes$State"))) (fr := 7) (lo := 101) (as := []) (st := [gi a1]) hq (C := "FlareSlopes") rfl gy_X1_loaded (gbl rfl) (gbl rfl) (gbl rfl) q1430 q1432 qs17 dX1_ridge_2 K hM R e1 e2) fun v1 h2 => ?_
  refine g_getfr (pc := 5) k_16 (gblt rfl) lk_X1_129_16 dX1_ridge_5 fun v3 => ?_
  refine g_getfr (pc := 8) k_11 (gblt rfl) lk_X1_145_11 dX1_ridge_8 fun v4 => ?_
  refine g_bVi (pc := 11) (y := yJ12_size) (ws := ws_ yJ12_size cJ12_size 1 (some .int)) (fr := 0) (lo := 0) (as := []) (st := [gi a1]) (g_no) rfl (fun _ _ _ e => tJ12_size hs e) (fun K _ _ _ hq hM R e1 e2 => g_runF (x := ⟨"java/util/List", "size", "()I"⟩) (M := mX1_ridge) (pc := 11) (y := yJ12_size) (bytes := cJ12_size) (maxL := 1) (ret := (some .int)) (fr := 0) (lo := 0) (as := []) (st := [gi a1]) hq (C := "java/util/ArrayList") rfl gy_J12_size rfl (gbl rfl) (gbl rfl) (gbl rfl) q1469 q970 q969 q975 q973 q971 mhx_java_util_List q972 q974 dX1_ridge_11 K hM R e1 e2) fun v5 h6 => ?_
  refine g_bu (pc := 16) (y := yX1_checkIndex) (ws := ws_ yX1_checkIndex cX1_checkIndex 2 none) (fr := 6) (lo := 81) (as := [gi a1, gi v5]) (st := []) (g_no) rfl (fun _ _ e => tX1_checkIndex hs e) (fun K _ _ hM R e1 e2 => g_runS (M := mX1_ridge) (pc := 16) (y := yX1_checkIndex) (bytes := cX1_checkIndex) (maxL := 2) (ret := none) (fr := 6) (lo := 81) (as := [gi a1, gi v5]) (st := []) gy_X1_checkIndex (gbl rfl) (gbl rfl) (gbl rfl) q410 q411 dX1_ridge_16 K hM R e1 e2) fun v7 h8 => ?_
  refine g_iload_n (pc := 19) (x := a2) 2 rfl rfl dX1_ridge_19 ?_
  refine g_iconst (pc := 20) (v := (0 : Int32)) ic_0 dX1_ridge_20 ?_
  refine g_iconst (pc := 21) (v := (1 : Int32)) ic_1 dX1_ridge_21 ?_
  refine g_bi (pc := 22) (y := yX1_in) (ws := ws_ yX1_in cX1_in 3 (some .boolean)) (fr := 0) (lo := 0) (as := [gi a2, gi (0 : Int32), gi (1 : Int32)]) (st := []) (g_no) rfl (fun _ _ e => tX1_in hs e) (fun K _ _ hM R e1 e2 => g_runS (M := mX1_ridge) (pc := 22) (y := yX1_in) (bytes := cX1_in) (maxL := 3) (ret := (some .boolean)) (fr := 0) (lo := 0) (as := [gi a2, gi (0 : Int32), gi (1 : Int32)]) (st := []) gy_X1_in (gbl rfl) (gbl rfl) (gbl rfl) q413 q414 dX1_ridge_22 K hM R e1 e2) fun v9 h10 => ?_
  refine g_bu (pc := 25) (y := yX1_checkArgument) (ws := ws_ yX1_checkArgument cX1_checkArgument 1 none) (fr := 6) (lo := 81) (as := [gi v9]) (st := []) (g_no) rfl (fun _ _ e => tX1_checkArgument hs e) (fun K _ _ hM R e1 e2 => g_runS (M := mX1_ridge) (pc := 25) (y := yX1_checkArgument) (bytes := cX1_checkArgument) (maxL := 1) (ret := none) (fr := 6) (lo := 81) (as := [gi v9]) (st := []) gy_X1_checkArgument (gbl rfl) (gbl rfl) (gbl rfl) q1958 q1959 dX1_ridge_25 K hM R e1 e2) fun v11 h12 => ?_
  refine g_aload_n (pc := 28) (x := a0) 0 rfl rfl dX1_ridge_28 ?_
  refine g_getfr (pc := 29) k_3 (gblt rfl) lk_X1_56_3 dX1_ridge_29 fun v13 => ?_
  refine g_getfr (pc := 32) k_16 (gblt rfl) lk_X1_129_16 dX1_ridge_32 fun v14 => ?_
  refine g_getfr (pc := 35) k_11 (gblt rfl) lk_X1_145_11 dX1_ridge_35 fun v15 => ?_
  refine g_iload_n (pc := 38) (x := a1) 1 rfl rfl dX1_ridge_38 ?_
  refine g_bVr (pc := 39) (y := yJ12_get) (ws := ws_ yJ12_get cJ12_get 2 (some (.object "java/lang/Object"))) (fr := 2) (lo := 43) (as := [gi a1]) (st := []) (g_no) rfl (fun _ _ _ e => tJ12_get hs e) (fun K _ _ _ hq hM R e1 e2 => g_runF (x := ⟨"java/util/List", "get", "(I)Ljava/lang/Object;"⟩) (M := mX1_ridge) (pc := 39) (y := yJ12_get) (bytes := cJ12_get) (maxL := 2) (ret := (some (.object "java/lang/Object"))) (fr := 2) (lo := 43) (as := [gi a1]) (st := []) hq (C := "java/util/ArrayList") rfl gy_J12_get rfl (gbl rfl) (gbl rfl) (gbl rfl) q3104 q992 q991 q996 q994 q971 mhx_java_util_List q993 q995 dX1_ridge_39 K hM R e1 e2) fun v16 h17 => ?_
  refine g_checkcast (pc := 44) q3105 as_14_FlareSlopes_Ridge dX1_ridge_44 ?_
  refine g_astore_n (pc := 47) (lv' := [(3, gr v16), (2, gi a2)]) [0, 3] rfl rfl (gblt rfl) dX1_ridge_47 ?_
  refine g_iload_n (pc := 48) (x := a2) 1 rfl rfl dX1_ridge_48 ?_
  refine g_if_ne (pc := 49) (tgt := 59) rfl dX1_ridge_49 ?_ ?_
  rotate_left
  · refine g_aload_n (pc := 59) (x := v16) 0 rfl rfl dX1_ridge_59 ?_
    refine g_getfi (pc := 60) k_14 (gblt rfl) lk_X1_351_14 dX1_ridge_60 fun v18 => ?_
    exact g_ireturn (pc := 63) rfl dX1_ridge_63
  refine g_aload_n (pc := 52) (x := v16) 0 rfl rfl dX1_ridge_52 ?_
  refine g_getfi (pc := 53) k_14 (gblt rfl) lk_X1_348_14 dX1_ridge_53 fun v19 => ?_
  refine g_goto (pc := 56) (tgt := 63) rfl dX1_ridge_56 ?_
  exact g_ireturn (pc := 63) rfl dX1_ridge_63
/-! FlareSlopesLaw.ridge(LFlareSlopes;II[J)I -/
noncomputable def sX0_ridge (G : GG) (N : Nat) (a0 : Option Nat) (a1 : Int32) (a2 : Int32) (a3 : Option Nat) (h : Hp) : Out (Int32) :=
  bVX h a0 3 (fun q4 => sX1_ridge G N (some q4) a1 a2 h) (fun v1 h2 =>
  gSl G h2 a3 3 (0 : Int32) (v1.toInt64) fun h3 =>
  some (.inl (0 : Int32), h3)) fun q5 h6 =>
  gSw h6 (some q5) 0 (some (.inl (1 : Int32), h6)) (gSw h6 (some q5) 1 (some (.inl (3 : Int32), h6)) (gSw h6 (some q5) 2 (some (.inl (2 : Int32), h6)) (none)))
abbrev mX0_ridge : MI := (RX0, cX0_ridge, 5, (some .int), [(0, 10, 13, 21), (0, 10, 17, 13), (0, 10, 21, 15)], 9, 144, "ridge")
theorem tX0_ridge {G : GG} {l : Launch} (hs : l.stackTraces = false) {N : Nat} {a0 : Option Nat} {a1 : Int32} {a2 : Int32} {a3 : Option Nat} {h : Hp} {r : Int32 ⊕ Nat} {hf : Hp} (ho : sX0_ridge G N a0 a1 a2 a3 h = some (r, hf)) : gMet G l yX0_ridge (wsW_ yX0_ridge cX0_ridge 5 (some .int) [(0, 10, 13, 21), (0, 10, 17, 13), (0, 10, 21, 15)]) 9 144 [gr a0, gi a1, gi a2, gr a3] h cvI r hf := by
  refine gMet.ofW ho hs (plainFor_of_name pn_X0) rfl rfl (gbl rfl) fun X => ?_
  show gT G l X mX0_ridge cvI r hf 0 [(0, gr a0), (1, gi a1), (2, gi a2), (3, gr a3)] [] h (sX0_ridge G N a0 a1 a2 a3 h)
  delta sX0_ridge
  refine g_aload_n (pc := 0) (x := a3) 3 rfl rfl dX0_ridge_0 ?_
  refine g_iconst (pc := 1) (v := (0 : Int32)) ic_0 dX0_ridge_1 ?_
  refine g_aload_n (pc := 2) (x := a0) 0 rfl rfl dX0_ridge_2 ?_
  refine g_iload_n (pc := 3) (x := a1) 1 rfl rfl dX0_ridge_3 ?_
  refine g_iload_n (pc := 4) (x := a2) 2 rfl rfl dX0_ridge_4 ?_
  refine g_bVXi (pc := 5) (y := yX1_ridge) (ws := ws_ yX1_ridge cX1_ridge 4 (some .int)) (fr := 8) (lo := 121) (as := [gi a1, gi a2]) (st := [gi (0 : Int32), gr a3]) rfl (fun _ _ _ e => tX1_ridge hs e) (fun K _ _ _ hq hM R e1 e2 => g_runV (M := mX0_ridge) (pc := 5) (y := yX1_ridge) (bytes := cX1_ridge) (maxL := 4) (ret := (some .int)) (fr := 8) (lo := 121) (as := [gi a1, gi a2]) (st := [gi (0 : Int32), gr a3]) hq (C := "FlareSlopes") rfl gy_X1_ridge (gbl rfl) (gbl rfl) (gbl rfl) q3099 q3100 q3101 dX0_ridge_5 K hM R e1 e2) (fun v1 h2 => ?_) (fun q5 h6 => ?_)
  · refine g_i2l (pc := 8) dX0_ridge_8 ?_
    refine g_lastore (pc := 9) rfl dX0_ridge_9 fun h3 => ?_
    refine g_goto (pc := 10) (tgt := 25) rfl dX0_ridge_10 ?_
    refine g_iconst (pc := 25) (v := (0 : Int32)) ic_0 dX0_ridge_25 ?_
    exact g_ireturn (pc := 26) rfl dX0_ridge_26
  refine g_catch (E := "java/lang/IllegalStateException") [] ⟨0, 10, 13, 21⟩ [⟨0, 10, 17, 13⟩, ⟨0, 10, 21, 15⟩] rfl rfl (List.forall_mem_nil _) (by decide +kernel) (by decide +kernel) q1425 q1439 ?_ ?_
  · refine g_astore (pc := 13) (lv' := []) [] rfl (gblt rfl) dX0_ridge_13 ?_
    refine g_iconst (pc := 15) (v := (1 : Int32)) ic_1 dX0_ridge_15 ?_
    exact g_ireturn (pc := 16) rfl dX0_ridge_16
  refine g_catch (E := "java/lang/IllegalArgumentException") [⟨0, 10, 13, 21⟩, ⟨0, 10, 17, 13⟩] ⟨0, 10, 21, 15⟩ [] rfl rfl (List.forall_mem_cons.mpr ⟨Or.inr ⟨by decide +kernel, _, q1425, ncl_java_lang_IllegalArgumentException_java_lang_IllegalStateException⟩, List.forall_mem_cons.mpr ⟨Or.inr ⟨by decide +kernel, _, q325, ncl_java_lang_IllegalArgumentException_java_lang_IndexOutOfBoundsException⟩, List.forall_mem_nil _⟩⟩) (by decide +kernel) (by decide +kernel) q404 q751 ?_ ?_
  · refine g_astore (pc := 21) (lv' := []) [] rfl (gblt rfl) dX0_ridge_21 ?_
    refine g_iconst (pc := 23) (v := (3 : Int32)) ic_3 dX0_ridge_23 ?_
    exact g_ireturn (pc := 24) rfl dX0_ridge_24
  refine g_catch (E := "java/lang/IndexOutOfBoundsException") [⟨0, 10, 13, 21⟩] ⟨0, 10, 17, 13⟩ [⟨0, 10, 21, 15⟩] rfl rfl (List.forall_mem_cons.mpr ⟨Or.inr ⟨by decide +kernel, _, q1425, ncl_java_lang_IndexOutOfBoundsException_java_lang_IllegalStateException⟩, List.forall_mem_nil _⟩) (by decide +kernel) (by decide +kernel) q325 q418 ?_ ?_
  · refine g_astore (pc := 17) (lv' := []) [] rfl (gblt rfl) dX0_ridge_17 ?_
    refine g_iconst (pc := 19) (v := (2 : Int32)) ic_2 dX0_ridge_19 ?_
    exact g_ireturn (pc := 20) rfl dX0_ridge_20
  exact g_noneX
/-! FlareSlopesModel.ridge(II)I -/
noncomputable def sX2_ridge (G : GG) (N : Nat) (a0 : Option Nat) (a1 : Int32) (a2 : Int32) (h : Hp) : Out (Int32) :=
  gFi h a0 18 8 fun v1 =>
  gFr h a0 18 1 fun v2 =>
  gAi h v2 0 (8 : Int32) fun v3 =>
  bnd (sX2_in G N a1 (0 : Int32) (v3 - (1 : Int32)) h) fun v4 h5 =>
  bnd (sX2_in G N a2 (0 : Int32) (1 : Int32) h5) fun v6 h7 =>
  bV h7 a0 18 (fun q12 => sX2_may G N (some q12) v1 v4 v6 h7) fun v8 h9 =>
  if v8 = 0 then (some (.inl (0 : Int32), h9))
  else gFr h9 a0 18 1 fun v10 =>
  gAi h9 v10 0 (((64 : Int32) + ((2 : Int32) * a1)) + a2) fun v11 =>
  some (.inl v11, h9)
abbrev mX2_ridge : MI := (RX2, cX2_ridge, 3, (some .int), [], 1, 23, "ridge")
theorem tX2_ridge {G : GG} {l : Launch} (hs : l.stackTraces = false) {N : Nat} {a0 : Option Nat} {a1 : Int32} {a2 : Int32} {h : Hp} {r : Int32 ⊕ Nat} {hf : Hp} (ho : sX2_ridge G N a0 a1 a2 h = some (r, hf)) : gMet G l yX2_ridge (ws_ yX2_ridge cX2_ridge 3 (some .int)) 1 23 [gr a0, gi a1, gi a2] h cvI r hf := by
  refine gMet.of ho hs (plainFor_of_name pn_X2) rfl rfl (gbl rfl) fun X => ?_
  show gT G l X mX2_ridge cvI r hf 0 [(0, gr a0), (1, gi a1), (2, gi a2)] [] h (sX2_ridge G N a0 a1 a2 h)
  delta sX2_ridge
  refine g_aload_n (pc := 0) (x := a0) 0 rfl rfl dX2_ridge_0 ?_
  refine g_aload_n (pc := 1) (x := a0) 0 rfl rfl dX2_ridge_1 ?_
  refine g_getfi (pc := 2) k_18 (gblt rfl) lk_X2_184_18 dX2_ridge_2 fun v1 => ?_
  refine g_iload_n (pc := 5) (x := a1) 1 rfl rfl dX2_ridge_5 ?_
  refine g_iconst (pc := 6) (v := (0 : Int32)) ic_0 dX2_ridge_6 ?_
  refine g_aload_n (pc := 7) (x := a0) 0 rfl rfl dX2_ridge_7 ?_
  refine g_getfr (pc := 8) k_18 (gblt rfl) lk_X2_9_18 dX2_ridge_8 fun v2 => ?_
  refine g_bipush (pc := 11) (v := (8 : Int32)) bc_8 dX2_ridge_11 ?_
  refine g_iaload (pc := 13) rfl dX2_ridge_13 fun v3 => ?_
  refine g_iconst (pc := 14) (v := (1 : Int32)) ic_1 dX2_ridge_14 ?_
  refine g_isub (pc := 15) dX2_ridge_15 ?_
  refine g_bi (pc := 16) (y := yX2_in) (ws := ws_ yX2_in cX2_in 3 (some .boolean)) (fr := 0) (lo := 0) (as := [gi a1, gi (0 : Int32), gi (v3 - (1 : Int32))]) (st := [gi v1, gr a0]) (g_no) rfl (fun _ _ e => tX2_in hs e) (fun K _ _ hM R e1 e2 => g_runS (M := mX2_ridge) (pc := 16) (y := yX2_in) (bytes := cX2_in) (maxL := 3) (ret := (some .boolean)) (fr := 0) (lo := 0) (as := [gi a1, gi (0 : Int32), gi (v3 - (1 : Int32))]) (st := [gi v1, gr a0]) gy_X2_in (gbl rfl) (gbl rfl) (gbl rfl) q4037 q4038 dX2_ridge_16 K hM R e1 e2) fun v4 h5 => ?_
  refine g_iload_n (pc := 19) (x := a2) 2 rfl rfl dX2_ridge_19 ?_
  refine g_iconst (pc := 20) (v := (0 : Int32)) ic_0 dX2_ridge_20 ?_
  refine g_iconst (pc := 21) (v := (1 : Int32)) ic_1 dX2_ridge_21 ?_
  refine g_bi (pc := 22) (y := yX2_in) (ws := ws_ yX2_in cX2_in 3 (some .boolean)) (fr := 0) (lo := 0) (as := [gi a2, gi (0 : Int32), gi (1 : Int32)]) (st := [gi v4, gi v1, gr a0]) (g_no) rfl (fun _ _ e => tX2_in hs e) (fun K _ _ hM R e1 e2 => g_runS (M := mX2_ridge) (pc := 22) (y := yX2_in) (bytes := cX2_in) (maxL := 3) (ret := (some .boolean)) (fr := 0) (lo := 0) (as := [gi a2, gi (0 : Int32), gi (1 : Int32)]) (st := [gi v4, gi v1, gr a0]) gy_X2_in (gbl rfl) (gbl rfl) (gbl rfl) q4037 q4038 dX2_ridge_22 K hM R e1 e2) fun v6 h7 => ?_
  refine g_bVi (pc := 25) (y := yX2_may) (ws := ws_ yX2_may cX2_may 4 (some .boolean)) (fr := 0) (lo := 0) (as := [gi v1, gi v4, gi v6]) (st := []) (g_no) rfl (fun _ _ _ e => tX2_may hs e) (fun K _ _ _ hq hM R e1 e2 => g_runV (M := mX2_ridge) (pc := 25) (y := yX2_may) (bytes := cX2_may) (maxL := 4) (ret := (some .boolean)) (fr := 0) (lo := 0) (as := [gi v1, gi v4, gi v6]) (st := []) hq (C := "FlareSlopesModel") rfl gy_X2_may (gbl rfl) (gbl rfl) (gbl rfl) q4040 q4042 qs54 dX2_ridge_25 K hM R e1 e2) fun v8 h9 => ?_
  refine g_if_eq (pc := 28) (tgt := 47) rfl dX2_ridge_28 ?_ ?_
  · refine g_iconst (pc := 47) (v := (0 : Int32)) ic_0 dX2_ridge_47 ?_
    exact g_ireturn (pc := 48) rfl dX2_ridge_48
  refine g_aload_n (pc := 31) (x := a0) 0 rfl rfl dX2_ridge_31 ?_
  refine g_getfr (pc := 32) k_18 (gblt rfl) lk_X2_9_18 dX2_ridge_32 fun v10 => ?_
  refine g_bipush (pc := 35) (v := (64 : Int32)) bc_64 dX2_ridge_35 ?_
  refine g_iconst (pc := 37) (v := (2 : Int32)) ic_2 dX2_ridge_37 ?_
  refine g_iload_n (pc := 38) (x := a1) 1 rfl rfl dX2_ridge_38 ?_
  refine g_imul (pc := 39) dX2_ridge_39 ?_
  refine g_iadd (pc := 40) dX2_ridge_40 ?_
  refine g_iload_n (pc := 41) (x := a2) 2 rfl rfl dX2_ridge_41 ?_
  refine g_iadd (pc := 42) dX2_ridge_42 ?_
  refine g_iaload (pc := 43) rfl dX2_ridge_43 fun v11 => ?_
  refine g_goto (pc := 44) (tgt := 48) rfl dX2_ridge_44 ?_
  exact g_ireturn (pc := 48) rfl dX2_ridge_48
/-! FlareSlopes.fog(II)I -/
noncomputable def sX1_fog (G : GG) (N : Nat) (a0 : Option Nat) (a1 : Int32) (a2 : Int32) (h : Hp) : Out (Int32) :=
  bV h a0 3 (fun q23 => sX1_loaded G N (some q23) h) fun v1 h2 =>
  gFr h2 v1 16 0 fun v3 =>
  gFr h2 v3 11 3 fun v4 =>
  bV h2 v4 24 (fun q22 => sJ12_size G N (some q22) h2) fun v5 h6 =>
  bnd (sX1_checkIndex G N a1 v5 h6) fun v7 h8 =>
  bnd (sX1_in G N a2 (0 : Int32) (2 : Int32) h8) fun v9 h10 =>
  bnd (sX1_checkArgument G N v9 h10) fun v11 h12 =>
  gFr h12 a0 3 4 fun v13 =>
  gFr h12 v13 16 0 fun v14 =>
  gFr h12 v14 11 3 fun v15 =>
  bV h12 v15 24 (fun q21 => sJ12_get G N (some q21) a1 h12) fun v16 h17 =>
  gCk h17 v16 [9] (if a2 = 0 then (gFi h17 v16 9 0 fun v20 =>
  some (.inl v20, h17))
  else if a2 = (1 : Int32) then (gFi h17 v16 9 1 fun v19 =>
  some (.inl v19, h17))
  else gFi h17 v16 9 2 fun v18 =>
  some (.inl v18, h17))
abbrev mX1_fog : MI := (RX1, cX1_fog, 4, (some .int), [], 8, 121, "fog")
theorem tX1_fog {G : GG} {l : Launch} (hs : l.stackTraces = false) {N : Nat} {a0 : Option Nat} {a1 : Int32} {a2 : Int32} {h : Hp} {r : Int32 ⊕ Nat} {hf : Hp} (ho : sX1_fog G N a0 a1 a2 h = some (r, hf)) : gMet G l yX1_fog (ws_ yX1_fog cX1_fog 4 (some .int)) 8 121 [gr a0, gi a1, gi a2] h cvI r hf := by
  refine gMet.of ho hs (plainFor_of_name pn_X1) rfl rfl (gbl rfl) fun X => ?_
  show gT G l X mX1_fog cvI r hf 0 [(0, gr a0), (1, gi a1), (2, gi a2)] [] h (sX1_fog G N a0 a1 a2 h)
  delta sX1_fog
  refine g_iload_n (pc := 0) (x := a1) 1 rfl rfl dX1_fog_0 ?_
  refine g_aload_n (pc := 1) (x := a0) 0 rfl rfl dX1_fog_1 ?_
  refine g_bVr (pc := 2) (y := yX1_loaded) (ws := ws_ yX1_loaded cX1_loaded 1 (some (.object "FlareSlopes$State"))) (fr := 7) (lo := 101) (as := []) (st := [gi a1]) (g_no) rfl (fun _ _ _ e => tX1_loaded hs e) (fun K _ _ _ hq hM R e1 e2 => g_runV (M := mX1_fog) (pc := 2) (y := yX1_loaded) (bytes := cX1_loaded) (maxL := 1) (ret := (some (.object "FlareSlopes$State"))) (fr := 7) (lo := 101) (as := []) (st := [gi a1]) hq (C := "FlareSlopes") rfl gy_X1_loaded (gbl rfl) (gbl rfl) (gbl rfl) q1430 q1432 qs17 dX1_fog_2 K hM R e1 e2) fun v1 h2 => ?_
  refine g_getfr (pc := 5) k_16 (gblt rfl) lk_X1_129_16 dX1_fog_5 fun v3 => ?_
  refine g_getfr (pc := 8) k_11 (gblt rfl) lk_X1_152_11 dX1_fog_8 fun v4 => ?_
  refine g_bVi (pc := 11) (y := yJ12_size) (ws := ws_ yJ12_size cJ12_size 1 (some .int)) (fr := 0) (lo := 0) (as := []) (st := [gi a1]) (g_no) rfl (fun _ _ _ e => tJ12_size hs e) (fun K _ _ _ hq hM R e1 e2 => g_runF (x := ⟨"java/util/List", "size", "()I"⟩) (M := mX1_fog) (pc := 11) (y := yJ12_size) (bytes := cJ12_size) (maxL := 1) (ret := (some .int)) (fr := 0) (lo := 0) (as := []) (st := [gi a1]) hq (C := "java/util/ArrayList") rfl gy_J12_size rfl (gbl rfl) (gbl rfl) (gbl rfl) q1469 q970 q969 q975 q973 q971 mhx_java_util_List q972 q974 dX1_fog_11 K hM R e1 e2) fun v5 h6 => ?_
  refine g_bu (pc := 16) (y := yX1_checkIndex) (ws := ws_ yX1_checkIndex cX1_checkIndex 2 none) (fr := 6) (lo := 81) (as := [gi a1, gi v5]) (st := []) (g_no) rfl (fun _ _ e => tX1_checkIndex hs e) (fun K _ _ hM R e1 e2 => g_runS (M := mX1_fog) (pc := 16) (y := yX1_checkIndex) (bytes := cX1_checkIndex) (maxL := 2) (ret := none) (fr := 6) (lo := 81) (as := [gi a1, gi v5]) (st := []) gy_X1_checkIndex (gbl rfl) (gbl rfl) (gbl rfl) q410 q411 dX1_fog_16 K hM R e1 e2) fun v7 h8 => ?_
  refine g_iload_n (pc := 19) (x := a2) 2 rfl rfl dX1_fog_19 ?_
  refine g_iconst (pc := 20) (v := (0 : Int32)) ic_0 dX1_fog_20 ?_
  refine g_iconst (pc := 21) (v := (2 : Int32)) ic_2 dX1_fog_21 ?_
  refine g_bi (pc := 22) (y := yX1_in) (ws := ws_ yX1_in cX1_in 3 (some .boolean)) (fr := 0) (lo := 0) (as := [gi a2, gi (0 : Int32), gi (2 : Int32)]) (st := []) (g_no) rfl (fun _ _ e => tX1_in hs e) (fun K _ _ hM R e1 e2 => g_runS (M := mX1_fog) (pc := 22) (y := yX1_in) (bytes := cX1_in) (maxL := 3) (ret := (some .boolean)) (fr := 0) (lo := 0) (as := [gi a2, gi (0 : Int32), gi (2 : Int32)]) (st := []) gy_X1_in (gbl rfl) (gbl rfl) (gbl rfl) q413 q414 dX1_fog_22 K hM R e1 e2) fun v9 h10 => ?_
  refine g_bu (pc := 25) (y := yX1_checkArgument) (ws := ws_ yX1_checkArgument cX1_checkArgument 1 none) (fr := 6) (lo := 81) (as := [gi v9]) (st := []) (g_no) rfl (fun _ _ e => tX1_checkArgument hs e) (fun K _ _ hM R e1 e2 => g_runS (M := mX1_fog) (pc := 25) (y := yX1_checkArgument) (bytes := cX1_checkArgument) (maxL := 1) (ret := none) (fr := 6) (lo := 81) (as := [gi v9]) (st := []) gy_X1_checkArgument (gbl rfl) (gbl rfl) (gbl rfl) q1958 q1959 dX1_fog_25 K hM R e1 e2) fun v11 h12 => ?_
  refine g_aload_n (pc := 28) (x := a0) 0 rfl rfl dX1_fog_28 ?_
  refine g_getfr (pc := 29) k_3 (gblt rfl) lk_X1_56_3 dX1_fog_29 fun v13 => ?_
  refine g_getfr (pc := 32) k_16 (gblt rfl) lk_X1_129_16 dX1_fog_32 fun v14 => ?_
  refine g_getfr (pc := 35) k_11 (gblt rfl) lk_X1_152_11 dX1_fog_35 fun v15 => ?_
  refine g_iload_n (pc := 38) (x := a1) 1 rfl rfl dX1_fog_38 ?_
  refine g_bVr (pc := 39) (y := yJ12_get) (ws := ws_ yJ12_get cJ12_get 2 (some (.object "java/lang/Object"))) (fr := 2) (lo := 43) (as := [gi a1]) (st := []) (g_no) rfl (fun _ _ _ e => tJ12_get hs e) (fun K _ _ _ hq hM R e1 e2 => g_runF (x := ⟨"java/util/List", "get", "(I)Ljava/lang/Object;"⟩) (M := mX1_fog) (pc := 39) (y := yJ12_get) (bytes := cJ12_get) (maxL := 2) (ret := (some (.object "java/lang/Object"))) (fr := 2) (lo := 43) (as := [gi a1]) (st := []) hq (C := "java/util/ArrayList") rfl gy_J12_get rfl (gbl rfl) (gbl rfl) (gbl rfl) q3104 q992 q991 q996 q994 q971 mhx_java_util_List q993 q995 dX1_fog_39 K hM R e1 e2) fun v16 h17 => ?_
  refine g_checkcast (pc := 44) q3113 as_9_FlareSlopes_Fog dX1_fog_44 ?_
  refine g_astore_n (pc := 47) (lv' := [(3, gr v16), (2, gi a2)]) [0, 3] rfl rfl (gblt rfl) dX1_fog_47 ?_
  refine g_iload_n (pc := 48) (x := a2) 1 rfl rfl dX1_fog_48 ?_
  refine g_if_ne (pc := 49) (tgt := 59) rfl dX1_fog_49 ?_ ?_
  · refine g_aload_n (pc := 52) (x := v16) 0 rfl rfl dX1_fog_52 ?_
    refine g_getfi (pc := 53) k_9 (gblt rfl) lk_X1_354_9 dX1_fog_53 fun v20 => ?_
    refine g_goto (pc := 56) (tgt := 75) rfl dX1_fog_56 ?_
    exact g_ireturn (pc := 75) rfl dX1_fog_75
  refine g_iload_n (pc := 59) (x := a2) 1 rfl rfl dX1_fog_59 ?_
  refine g_iconst (pc := 60) (v := (1 : Int32)) ic_1 dX1_fog_60 ?_
  refine g_icmp_ne (pc := 61) (tgt := 71) rfl dX1_fog_61 ?_ ?_
  rotate_left
  · refine g_aload_n (pc := 71) (x := v16) 0 rfl rfl dX1_fog_71 ?_
    refine g_getfi (pc := 72) k_9 (gblt rfl) lk_X1_360_9 dX1_fog_72 fun v18 => ?_
    exact g_ireturn (pc := 75) rfl dX1_fog_75
  refine g_aload_n (pc := 64) (x := v16) 0 rfl rfl dX1_fog_64 ?_
  refine g_getfi (pc := 65) k_9 (gblt rfl) lk_X1_357_9 dX1_fog_65 fun v19 => ?_
  refine g_goto (pc := 68) (tgt := 75) rfl dX1_fog_68 ?_
  exact g_ireturn (pc := 75) rfl dX1_fog_75
/-! FlareSlopesLaw.fog(LFlareSlopes;II[J)I -/
noncomputable def sX0_fog (G : GG) (N : Nat) (a0 : Option Nat) (a1 : Int32) (a2 : Int32) (a3 : Option Nat) (h : Hp) : Out (Int32) :=
  bVX h a0 3 (fun q4 => sX1_fog G N (some q4) a1 a2 h) (fun v1 h2 =>
  gSl G h2 a3 3 (0 : Int32) (v1.toInt64) fun h3 =>
  some (.inl (0 : Int32), h3)) fun q5 h6 =>
  gSw h6 (some q5) 0 (some (.inl (1 : Int32), h6)) (gSw h6 (some q5) 1 (some (.inl (3 : Int32), h6)) (gSw h6 (some q5) 2 (some (.inl (2 : Int32), h6)) (none)))
abbrev mX0_fog : MI := (RX0, cX0_fog, 5, (some .int), [(0, 10, 13, 21), (0, 10, 17, 13), (0, 10, 21, 15)], 9, 144, "fog")
theorem tX0_fog {G : GG} {l : Launch} (hs : l.stackTraces = false) {N : Nat} {a0 : Option Nat} {a1 : Int32} {a2 : Int32} {a3 : Option Nat} {h : Hp} {r : Int32 ⊕ Nat} {hf : Hp} (ho : sX0_fog G N a0 a1 a2 a3 h = some (r, hf)) : gMet G l yX0_fog (wsW_ yX0_fog cX0_fog 5 (some .int) [(0, 10, 13, 21), (0, 10, 17, 13), (0, 10, 21, 15)]) 9 144 [gr a0, gi a1, gi a2, gr a3] h cvI r hf := by
  refine gMet.ofW ho hs (plainFor_of_name pn_X0) rfl rfl (gbl rfl) fun X => ?_
  show gT G l X mX0_fog cvI r hf 0 [(0, gr a0), (1, gi a1), (2, gi a2), (3, gr a3)] [] h (sX0_fog G N a0 a1 a2 a3 h)
  delta sX0_fog
  refine g_aload_n (pc := 0) (x := a3) 3 rfl rfl dX0_fog_0 ?_
  refine g_iconst (pc := 1) (v := (0 : Int32)) ic_0 dX0_fog_1 ?_
  refine g_aload_n (pc := 2) (x := a0) 0 rfl rfl dX0_fog_2 ?_
  refine g_iload_n (pc := 3) (x := a1) 1 rfl rfl dX0_fog_3 ?_
  refine g_iload_n (pc := 4) (x := a2) 2 rfl rfl dX0_fog_4 ?_
  refine g_bVXi (pc := 5) (y := yX1_fog) (ws := ws_ yX1_fog cX1_fog 4 (some .int)) (fr := 8) (lo := 121) (as := [gi a1, gi a2]) (st := [gi (0 : Int32), gr a3]) rfl (fun _ _ _ e => tX1_fog hs e) (fun K _ _ _ hq hM R e1 e2 => g_runV (M := mX0_fog) (pc := 5) (y := yX1_fog) (bytes := cX1_fog) (maxL := 4) (ret := (some .int)) (fr := 8) (lo := 121) (as := [gi a1, gi a2]) (st := [gi (0 : Int32), gr a3]) hq (C := "FlareSlopes") rfl gy_X1_fog (gbl rfl) (gbl rfl) (gbl rfl) q3109 q3110 q3111 dX0_fog_5 K hM R e1 e2) (fun v1 h2 => ?_) (fun q5 h6 => ?_)
  · refine g_i2l (pc := 8) dX0_fog_8 ?_
    refine g_lastore (pc := 9) rfl dX0_fog_9 fun h3 => ?_
    refine g_goto (pc := 10) (tgt := 25) rfl dX0_fog_10 ?_
    refine g_iconst (pc := 25) (v := (0 : Int32)) ic_0 dX0_fog_25 ?_
    exact g_ireturn (pc := 26) rfl dX0_fog_26
  refine g_catch (E := "java/lang/IllegalStateException") [] ⟨0, 10, 13, 21⟩ [⟨0, 10, 17, 13⟩, ⟨0, 10, 21, 15⟩] rfl rfl (List.forall_mem_nil _) (by decide +kernel) (by decide +kernel) q1425 q1439 ?_ ?_
  · refine g_astore (pc := 13) (lv' := []) [] rfl (gblt rfl) dX0_fog_13 ?_
    refine g_iconst (pc := 15) (v := (1 : Int32)) ic_1 dX0_fog_15 ?_
    exact g_ireturn (pc := 16) rfl dX0_fog_16
  refine g_catch (E := "java/lang/IllegalArgumentException") [⟨0, 10, 13, 21⟩, ⟨0, 10, 17, 13⟩] ⟨0, 10, 21, 15⟩ [] rfl rfl (List.forall_mem_cons.mpr ⟨Or.inr ⟨by decide +kernel, _, q1425, ncl_java_lang_IllegalArgumentException_java_lang_IllegalStateException⟩, List.forall_mem_cons.mpr ⟨Or.inr ⟨by decide +kernel, _, q325, ncl_java_lang_IllegalArgumentException_java_lang_IndexOutOfBoundsException⟩, List.forall_mem_nil _⟩⟩) (by decide +kernel) (by decide +kernel) q404 q751 ?_ ?_
  · refine g_astore (pc := 21) (lv' := []) [] rfl (gblt rfl) dX0_fog_21 ?_
    refine g_iconst (pc := 23) (v := (3 : Int32)) ic_3 dX0_fog_23 ?_
    exact g_ireturn (pc := 24) rfl dX0_fog_24
  refine g_catch (E := "java/lang/IndexOutOfBoundsException") [⟨0, 10, 13, 21⟩] ⟨0, 10, 17, 13⟩ [⟨0, 10, 21, 15⟩] rfl rfl (List.forall_mem_cons.mpr ⟨Or.inr ⟨by decide +kernel, _, q1425, ncl_java_lang_IndexOutOfBoundsException_java_lang_IllegalStateException⟩, List.forall_mem_nil _⟩) (by decide +kernel) (by decide +kernel) q325 q418 ?_ ?_
  · refine g_astore (pc := 17) (lv' := []) [] rfl (gblt rfl) dX0_fog_17 ?_
    refine g_iconst (pc := 19) (v := (2 : Int32)) ic_2 dX0_fog_19 ?_
    exact g_ireturn (pc := 20) rfl dX0_fog_20
  exact g_noneX
/-! FlareSlopesModel.fog(II)I -/
noncomputable def sX2_fog (G : GG) (N : Nat) (a0 : Option Nat) (a1 : Int32) (a2 : Int32) (h : Hp) : Out (Int32) :=
  gFi h a0 18 8 fun v1 =>
  gFr h a0 18 1 fun v2 =>
  gAi h v2 0 (9 : Int32) fun v3 =>
  bnd (sX2_in G N a1 (0 : Int32) (v3 - (1 : Int32)) h) fun v4 h5 =>
  bnd (sX2_in G N a2 (0 : Int32) (2 : Int32) h5) fun v6 h7 =>
  bV h7 a0 18 (fun q12 => sX2_may G N (some q12) v1 v4 v6 h7) fun v8 h9 =>
  if v8 = 0 then (some (.inl (0 : Int32), h9))
  else gFr h9 a0 18 1 fun v10 =>
  gAi h9 v10 0 (((72 : Int32) + ((3 : Int32) * a1)) + a2) fun v11 =>
  some (.inl v11, h9)
abbrev mX2_fog : MI := (RX2, cX2_fog, 3, (some .int), [], 1, 23, "fog")
theorem tX2_fog {G : GG} {l : Launch} (hs : l.stackTraces = false) {N : Nat} {a0 : Option Nat} {a1 : Int32} {a2 : Int32} {h : Hp} {r : Int32 ⊕ Nat} {hf : Hp} (ho : sX2_fog G N a0 a1 a2 h = some (r, hf)) : gMet G l yX2_fog (ws_ yX2_fog cX2_fog 3 (some .int)) 1 23 [gr a0, gi a1, gi a2] h cvI r hf := by
  refine gMet.of ho hs (plainFor_of_name pn_X2) rfl rfl (gbl rfl) fun X => ?_
  show gT G l X mX2_fog cvI r hf 0 [(0, gr a0), (1, gi a1), (2, gi a2)] [] h (sX2_fog G N a0 a1 a2 h)
  delta sX2_fog
  refine g_aload_n (pc := 0) (x := a0) 0 rfl rfl dX2_fog_0 ?_
  refine g_aload_n (pc := 1) (x := a0) 0 rfl rfl dX2_fog_1 ?_
  refine g_getfi (pc := 2) k_18 (gblt rfl) lk_X2_184_18 dX2_fog_2 fun v1 => ?_
  refine g_iload_n (pc := 5) (x := a1) 1 rfl rfl dX2_fog_5 ?_
  refine g_iconst (pc := 6) (v := (0 : Int32)) ic_0 dX2_fog_6 ?_
  refine g_aload_n (pc := 7) (x := a0) 0 rfl rfl dX2_fog_7 ?_
  refine g_getfr (pc := 8) k_18 (gblt rfl) lk_X2_9_18 dX2_fog_8 fun v2 => ?_
  refine g_bipush (pc := 11) (v := (9 : Int32)) bc_9 dX2_fog_11 ?_
  refine g_iaload (pc := 13) rfl dX2_fog_13 fun v3 => ?_
  refine g_iconst (pc := 14) (v := (1 : Int32)) ic_1 dX2_fog_14 ?_
  refine g_isub (pc := 15) dX2_fog_15 ?_
  refine g_bi (pc := 16) (y := yX2_in) (ws := ws_ yX2_in cX2_in 3 (some .boolean)) (fr := 0) (lo := 0) (as := [gi a1, gi (0 : Int32), gi (v3 - (1 : Int32))]) (st := [gi v1, gr a0]) (g_no) rfl (fun _ _ e => tX2_in hs e) (fun K _ _ hM R e1 e2 => g_runS (M := mX2_fog) (pc := 16) (y := yX2_in) (bytes := cX2_in) (maxL := 3) (ret := (some .boolean)) (fr := 0) (lo := 0) (as := [gi a1, gi (0 : Int32), gi (v3 - (1 : Int32))]) (st := [gi v1, gr a0]) gy_X2_in (gbl rfl) (gbl rfl) (gbl rfl) q4037 q4038 dX2_fog_16 K hM R e1 e2) fun v4 h5 => ?_
  refine g_iload_n (pc := 19) (x := a2) 2 rfl rfl dX2_fog_19 ?_
  refine g_iconst (pc := 20) (v := (0 : Int32)) ic_0 dX2_fog_20 ?_
  refine g_iconst (pc := 21) (v := (2 : Int32)) ic_2 dX2_fog_21 ?_
  refine g_bi (pc := 22) (y := yX2_in) (ws := ws_ yX2_in cX2_in 3 (some .boolean)) (fr := 0) (lo := 0) (as := [gi a2, gi (0 : Int32), gi (2 : Int32)]) (st := [gi v4, gi v1, gr a0]) (g_no) rfl (fun _ _ e => tX2_in hs e) (fun K _ _ hM R e1 e2 => g_runS (M := mX2_fog) (pc := 22) (y := yX2_in) (bytes := cX2_in) (maxL := 3) (ret := (some .boolean)) (fr := 0) (lo := 0) (as := [gi a2, gi (0 : Int32), gi (2 : Int32)]) (st := [gi v4, gi v1, gr a0]) gy_X2_in (gbl rfl) (gbl rfl) (gbl rfl) q4037 q4038 dX2_fog_22 K hM R e1 e2) fun v6 h7 => ?_
  refine g_bVi (pc := 25) (y := yX2_may) (ws := ws_ yX2_may cX2_may 4 (some .boolean)) (fr := 0) (lo := 0) (as := [gi v1, gi v4, gi v6]) (st := []) (g_no) rfl (fun _ _ _ e => tX2_may hs e) (fun K _ _ _ hq hM R e1 e2 => g_runV (M := mX2_fog) (pc := 25) (y := yX2_may) (bytes := cX2_may) (maxL := 4) (ret := (some .boolean)) (fr := 0) (lo := 0) (as := [gi v1, gi v4, gi v6]) (st := []) hq (C := "FlareSlopesModel") rfl gy_X2_may (gbl rfl) (gbl rfl) (gbl rfl) q4040 q4042 qs54 dX2_fog_25 K hM R e1 e2) fun v8 h9 => ?_
  refine g_if_eq (pc := 28) (tgt := 47) rfl dX2_fog_28 ?_ ?_
  · refine g_iconst (pc := 47) (v := (0 : Int32)) ic_0 dX2_fog_47 ?_
    exact g_ireturn (pc := 48) rfl dX2_fog_48
  refine g_aload_n (pc := 31) (x := a0) 0 rfl rfl dX2_fog_31 ?_
  refine g_getfr (pc := 32) k_18 (gblt rfl) lk_X2_9_18 dX2_fog_32 fun v10 => ?_
  refine g_bipush (pc := 35) (v := (72 : Int32)) bc_72 dX2_fog_35 ?_
  refine g_iconst (pc := 37) (v := (3 : Int32)) ic_3 dX2_fog_37 ?_
  refine g_iload_n (pc := 38) (x := a1) 1 rfl rfl dX2_fog_38 ?_
  refine g_imul (pc := 39) dX2_fog_39 ?_
  refine g_iadd (pc := 40) dX2_fog_40 ?_
  refine g_iload_n (pc := 41) (x := a2) 2 rfl rfl dX2_fog_41 ?_
  refine g_iadd (pc := 42) dX2_fog_42 ?_
  refine g_iaload (pc := 43) rfl dX2_fog_43 fun v11 => ?_
  refine g_goto (pc := 44) (tgt := 48) rfl dX2_fog_44 ?_
  exact g_ireturn (pc := 48) rfl dX2_fog_48
/-! FlareSlopes.sight()I -/
noncomputable def sX1_sight (G : GG) (N : Nat) (a0 : Option Nat) (h : Hp) : Out (Int32) :=
  bV h a0 3 (fun q6 => sX1_loaded G N (some q6) h) fun v1 h2 =>
  bV h2 v1 16 (fun q5 => sX3_sight G N (some q5) h2) fun v3 h4 =>
  some (.inl v3, h4)
abbrev mX1_sight : MI := (RX1, cX1_sight, 1, (some .int), [], 8, 121, "sight")
theorem tX1_sight {G : GG} {l : Launch} (hs : l.stackTraces = false) {N : Nat} {a0 : Option Nat} {h : Hp} {r : Int32 ⊕ Nat} {hf : Hp} (ho : sX1_sight G N a0 h = some (r, hf)) : gMet G l yX1_sight (ws_ yX1_sight cX1_sight 1 (some .int)) 8 121 [gr a0] h cvI r hf := by
  refine gMet.of ho hs (plainFor_of_name pn_X1) rfl rfl (gbl rfl) fun X => ?_
  show gT G l X mX1_sight cvI r hf 0 [(0, gr a0)] [] h (sX1_sight G N a0 h)
  delta sX1_sight
  refine g_aload_n (pc := 0) (x := a0) 0 rfl rfl dX1_sight_0 ?_
  refine g_bVr (pc := 1) (y := yX1_loaded) (ws := ws_ yX1_loaded cX1_loaded 1 (some (.object "FlareSlopes$State"))) (fr := 7) (lo := 101) (as := []) (st := []) (g_no) rfl (fun _ _ _ e => tX1_loaded hs e) (fun K _ _ _ hq hM R e1 e2 => g_runV (M := mX1_sight) (pc := 1) (y := yX1_loaded) (bytes := cX1_loaded) (maxL := 1) (ret := (some (.object "FlareSlopes$State"))) (fr := 7) (lo := 101) (as := []) (st := []) hq (C := "FlareSlopes") rfl gy_X1_loaded (gbl rfl) (gbl rfl) (gbl rfl) q1430 q1432 qs17 dX1_sight_1 K hM R e1 e2) fun v1 h2 => ?_
  refine g_bVi (pc := 4) (y := yX3_sight) (ws := ws_ yX3_sight cX3_sight 1 (some .int)) (fr := 4) (lo := 87) (as := []) (st := []) (g_no) rfl (fun _ _ _ e => tX3_sight hs e) (fun K _ _ _ hq hM R e1 e2 => g_runV (M := mX1_sight) (pc := 4) (y := yX3_sight) (bytes := cX3_sight) (maxL := 1) (ret := (some .int)) (fr := 4) (lo := 87) (as := []) (st := []) hq (C := "FlareSlopes$State") rfl gy_X3_sight (gbl rfl) (gbl rfl) (gbl rfl) q3121 q1649 q1650 dX1_sight_4 K hM R e1 e2) fun v3 h4 => ?_
  exact g_ireturn (pc := 7) rfl dX1_sight_7
/-! FlareSlopesLaw.sight(LFlareSlopes;[J)I -/
noncomputable def sX0_sight (G : GG) (N : Nat) (a0 : Option Nat) (a1 : Option Nat) (h : Hp) : Out (Int32) :=
  bVX h a0 3 (fun q4 => sX1_sight G N (some q4) h) (fun v1 h2 =>
  gSl G h2 a1 3 (0 : Int32) (v1.toInt64) fun h3 =>
  some (.inl (0 : Int32), h3)) fun q5 h6 =>
  gSw h6 (some q5) 0 (some (.inl (1 : Int32), h6)) (none)
abbrev mX0_sight : MI := (RX0, cX0_sight, 3, (some .int), [(0, 8, 11, 21)], 9, 141, "sight")
theorem tX0_sight {G : GG} {l : Launch} (hs : l.stackTraces = false) {N : Nat} {a0 : Option Nat} {a1 : Option Nat} {h : Hp} {r : Int32 ⊕ Nat} {hf : Hp} (ho : sX0_sight G N a0 a1 h = some (r, hf)) : gMet G l yX0_sight (wsW_ yX0_sight cX0_sight 3 (some .int) [(0, 8, 11, 21)]) 9 141 [gr a0, gr a1] h cvI r hf := by
  refine gMet.ofW ho hs (plainFor_of_name pn_X0) rfl rfl (gbl rfl) fun X => ?_
  show gT G l X mX0_sight cvI r hf 0 [(0, gr a0), (1, gr a1)] [] h (sX0_sight G N a0 a1 h)
  delta sX0_sight
  refine g_aload_n (pc := 0) (x := a1) 1 rfl rfl dX0_sight_0 ?_
  refine g_iconst (pc := 1) (v := (0 : Int32)) ic_0 dX0_sight_1 ?_
  refine g_aload_n (pc := 2) (x := a0) 0 rfl rfl dX0_sight_2 ?_
  refine g_bVXi (pc := 3) (y := yX1_sight) (ws := ws_ yX1_sight cX1_sight 1 (some .int)) (fr := 8) (lo := 121) (as := []) (st := [gi (0 : Int32), gr a1]) rfl (fun _ _ _ e => tX1_sight hs e) (fun K _ _ _ hq hM R e1 e2 => g_runV (M := mX0_sight) (pc := 3) (y := yX1_sight) (bytes := cX1_sight) (maxL := 1) (ret := (some .int)) (fr := 8) (lo := 121) (as := []) (st := [gi (0 : Int32), gr a1]) hq (C := "FlareSlopes") rfl gy_X1_sight (gbl rfl) (gbl rfl) (gbl rfl) q3117 q3118 q3119 dX0_sight_3 K hM R e1 e2) (fun v1 h2 => ?_) (fun q5 h6 => ?_)
  · refine g_i2l (pc := 6) dX0_sight_6 ?_
    refine g_lastore (pc := 7) rfl dX0_sight_7 fun h3 => ?_
    refine g_goto (pc := 8) (tgt := 14) rfl dX0_sight_8 ?_
    refine g_iconst (pc := 14) (v := (0 : Int32)) ic_0 dX0_sight_14 ?_
    exact g_ireturn (pc := 15) rfl dX0_sight_15
  refine g_catch (E := "java/lang/IllegalStateException") [] ⟨0, 8, 11, 21⟩ [] rfl rfl (List.forall_mem_nil _) (by decide +kernel) (by decide +kernel) q1425 q1439 ?_ ?_
  · refine g_astore_n (pc := 11) (lv' := []) [] rfl rfl (gblt rfl) dX0_sight_11 ?_
    refine g_iconst (pc := 12) (v := (1 : Int32)) ic_1 dX0_sight_12 ?_
    exact g_ireturn (pc := 13) rfl dX0_sight_13
  exact g_noneX
/-! FlareSlopesModel.mayAsk()Z -/
noncomputable def sX2_mayAsk (G : GG) (N : Nat) (a0 : Option Nat) (h : Hp) : Out (Int32) :=
  gFi h a0 18 8 fun v1 =>
  bV h a0 18 (fun q4 => sX2_may G N (some q4) v1 (1 : Int32) (1 : Int32) h) fun v2 h3 =>
  gRtZ v2 h3
abbrev mX2_mayAsk : MI := (RX2, cX2_mayAsk, 1, (some .boolean), [], 1, 23, "mayAsk")
theorem tX2_mayAsk {G : GG} {l : Launch} (hs : l.stackTraces = false) {N : Nat} {a0 : Option Nat} {h : Hp} {r : Int32 ⊕ Nat} {hf : Hp} (ho : sX2_mayAsk G N a0 h = some (r, hf)) : gMet G l yX2_mayAsk (ws_ yX2_mayAsk cX2_mayAsk 1 (some .boolean)) 1 23 [gr a0] h cvI r hf := by
  refine gMet.of ho hs (plainFor_of_name pn_X2) rfl rfl (gbl rfl) fun X => ?_
  show gT G l X mX2_mayAsk cvI r hf 0 [(0, gr a0)] [] h (sX2_mayAsk G N a0 h)
  delta sX2_mayAsk
  refine g_aload_n (pc := 0) (x := a0) 0 rfl rfl dX2_mayAsk_0 ?_
  refine g_aload_n (pc := 1) (x := a0) 0 rfl rfl dX2_mayAsk_1 ?_
  refine g_getfi (pc := 2) k_18 (gblt rfl) lk_X2_184_18 dX2_mayAsk_2 fun v1 => ?_
  refine g_iconst (pc := 5) (v := (1 : Int32)) ic_1 dX2_mayAsk_5 ?_
  refine g_iconst (pc := 6) (v := (1 : Int32)) ic_1 dX2_mayAsk_6 ?_
  refine g_bVi (pc := 7) (y := yX2_may) (ws := ws_ yX2_may cX2_may 4 (some .boolean)) (fr := 0) (lo := 0) (as := [gi v1, gi (1 : Int32), gi (1 : Int32)]) (st := []) (g_no) rfl (fun _ _ _ e => tX2_may hs e) (fun K _ _ _ hq hM R e1 e2 => g_runV (M := mX2_mayAsk) (pc := 7) (y := yX2_may) (bytes := cX2_may) (maxL := 4) (ret := (some .boolean)) (fr := 0) (lo := 0) (as := [gi v1, gi (1 : Int32), gi (1 : Int32)]) (st := []) hq (C := "FlareSlopesModel") rfl gy_X2_may (gbl rfl) (gbl rfl) (gbl rfl) q4040 q4042 qs54 dX2_mayAsk_7 K hM R e1 e2) fun v2 h3 => ?_
  exact g_zreturn (pc := 10) rfl dX2_mayAsk_10
/-! FlareSlopesModel.sight()I -/
noncomputable def sX2_sight (G : GG) (N : Nat) (a0 : Option Nat) (h : Hp) : Out (Int32) :=
  bV h a0 18 (fun q6 => sX2_mayAsk G N (some q6) h) fun v1 h2 =>
  if v1 = 0 then (some (.inl (0 : Int32), h2))
  else bV h2 a0 18 (fun q5 => sX2_sightNow G N (some q5) h2) fun v3 h4 =>
  some (.inl v3, h4)
abbrev mX2_sight : MI := (RX2, cX2_sight, 1, (some .int), [], 2, 44, "sight")
theorem tX2_sight {G : GG} {l : Launch} (hs : l.stackTraces = false) {N : Nat} {a0 : Option Nat} {h : Hp} {r : Int32 ⊕ Nat} {hf : Hp} (ho : sX2_sight G N a0 h = some (r, hf)) : gMet G l yX2_sight (ws_ yX2_sight cX2_sight 1 (some .int)) 2 44 [gr a0] h cvI r hf := by
  refine gMet.of ho hs (plainFor_of_name pn_X2) rfl rfl (gbl rfl) fun X => ?_
  show gT G l X mX2_sight cvI r hf 0 [(0, gr a0)] [] h (sX2_sight G N a0 h)
  delta sX2_sight
  refine g_aload_n (pc := 0) (x := a0) 0 rfl rfl dX2_sight_0 ?_
  refine g_bVi (pc := 1) (y := yX2_mayAsk) (ws := ws_ yX2_mayAsk cX2_mayAsk 1 (some .boolean)) (fr := 1) (lo := 23) (as := []) (st := []) (g_no) rfl (fun _ _ _ e => tX2_mayAsk hs e) (fun K _ _ _ hq hM R e1 e2 => g_runV (M := mX2_sight) (pc := 1) (y := yX2_mayAsk) (bytes := cX2_mayAsk) (maxL := 1) (ret := (some .boolean)) (fr := 1) (lo := 23) (as := []) (st := []) hq (C := "FlareSlopesModel") rfl gy_X2_mayAsk (gbl rfl) (gbl rfl) (gbl rfl) q4300 q4302 qs102 dX2_sight_1 K hM R e1 e2) fun v1 h2 => ?_
  refine g_if_eq (pc := 4) (tgt := 14) rfl dX2_sight_4 ?_ ?_
  · refine g_iconst (pc := 14) (v := (0 : Int32)) ic_0 dX2_sight_14 ?_
    exact g_ireturn (pc := 15) rfl dX2_sight_15
  refine g_aload_n (pc := 7) (x := a0) 0 rfl rfl dX2_sight_7 ?_
  refine g_bVi (pc := 8) (y := yX2_sightNow) (ws := ws_ yX2_sightNow cX2_sightNow 3 (some .int)) (fr := 1) (lo := 22) (as := []) (st := []) (g_no) rfl (fun _ _ _ e => tX2_sightNow hs e) (fun K _ _ _ hq hM R e1 e2 => g_runV (M := mX2_sight) (pc := 8) (y := yX2_sightNow) (bytes := cX2_sightNow) (maxL := 3) (ret := (some .int)) (fr := 1) (lo := 22) (as := []) (st := []) hq (C := "FlareSlopesModel") rfl gy_X2_sightNow (gbl rfl) (gbl rfl) (gbl rfl) q4186 q4188 qs83 dX2_sight_8 K hM R e1 e2) fun v3 h4 => ?_
  refine g_goto (pc := 11) (tgt := 15) rfl dX2_sight_11 ?_
  exact g_ireturn (pc := 15) rfl dX2_sight_15
/-! FlareSlopes.withTwo(II)LFlareSlopes$Cabin; -/
noncomputable def sX1_withTwo (G : GG) (N : Nat) (a0 : Option Nat) (a1 : Int32) (a2 : Int32) (h : Hp) : Out (Option Nat) :=
  bV h a0 3 (fun q9 => sX1_withCabin G N (some q9) a1 h) fun v1 h2 =>
  gFr h2 a0 3 4 fun v3 =>
  bV h2 v3 16 (fun q8 => sX3_size G N (some q8) h2) fun v4 h5 =>
  bnd (sX1_checkIndex G N a2 v4 h5) fun v6 h7 =>
  some (.inl v1, h7)
abbrev mX1_withTwo : MI := (RX1, cX1_withTwo, 4, (some (.object "FlareSlopes$Cabin")), [], 9, 142, "withTwo")
theorem tX1_withTwo {G : GG} {l : Launch} (hs : l.stackTraces = false) {N : Nat} {a0 : Option Nat} {a1 : Int32} {a2 : Int32} {h : Hp} {r : Option Nat ⊕ Nat} {hf : Hp} (ho : sX1_withTwo G N a0 a1 a2 h = some (r, hf)) : gMet G l yX1_withTwo (ws_ yX1_withTwo cX1_withTwo 4 (some (.object "FlareSlopes$Cabin"))) 9 142 [gr a0, gi a1, gi a2] h cvR r hf := by
  refine gMet.of ho hs (plainFor_of_name pn_X1) rfl rfl (gbl rfl) fun X => ?_
  show gT G l X mX1_withTwo cvR r hf 0 [(0, gr a0), (1, gi a1), (2, gi a2)] [] h (sX1_withTwo G N a0 a1 a2 h)
  delta sX1_withTwo
  refine g_aload_n (pc := 0) (x := a0) 0 rfl rfl dX1_withTwo_0 ?_
  refine g_iload_n (pc := 1) (x := a1) 1 rfl rfl dX1_withTwo_1 ?_
  refine g_bVr (pc := 2) (y := yX1_withCabin) (ws := ws_ yX1_withCabin cX1_withCabin 2 (some (.object "FlareSlopes$Cabin"))) (fr := 8) (lo := 121) (as := [gi a1]) (st := []) (g_no) rfl (fun _ _ _ e => tX1_withCabin hs e) (fun K _ _ _ hq hM R e1 e2 => g_runV (M := mX1_withTwo) (pc := 2) (y := yX1_withCabin) (bytes := cX1_withCabin) (maxL := 2) (ret := (some (.object "FlareSlopes$Cabin"))) (fr := 8) (lo := 121) (as := [gi a1]) (st := []) hq (C := "FlareSlopes") rfl gy_X1_withCabin (gbl rfl) (gbl rfl) (gbl rfl) q1968 q1970 qs22 dX1_withTwo_2 K hM R e1 e2) fun v1 h2 => ?_
  refine g_astore_n (pc := 5) (lv' := [(3, gr v1), (0, gr a0), (2, gi a2)]) [0, 1, 3] rfl rfl (gblt rfl) dX1_withTwo_5 ?_
  refine g_iload_n (pc := 6) (x := a2) 2 rfl rfl dX1_withTwo_6 ?_
  refine g_aload_n (pc := 7) (x := a0) 1 rfl rfl dX1_withTwo_7 ?_
  refine g_getfr (pc := 8) k_3 (gblt rfl) lk_X1_56_3 dX1_withTwo_8 fun v3 => ?_
  refine g_bVi (pc := 11) (y := yX3_size) (ws := ws_ yX3_size cX3_size 1 (some .int)) (fr := 1) (lo := 20) (as := []) (st := [gi a2]) (g_no) rfl (fun _ _ _ e => tX3_size hs e) (fun K _ _ _ hq hM R e1 e2 => g_runV (M := mX1_withTwo) (pc := 11) (y := yX3_size) (bytes := cX3_size) (maxL := 1) (ret := (some .int)) (fr := 1) (lo := 20) (as := []) (st := [gi a2]) hq (C := "FlareSlopes$State") rfl gy_X3_size (gbl rfl) (gbl rfl) (gbl rfl) q1411 q1412 q1413 dX1_withTwo_11 K hM R e1 e2) fun v4 h5 => ?_
  refine g_bu (pc := 14) (y := yX1_checkIndex) (ws := ws_ yX1_checkIndex cX1_checkIndex 2 none) (fr := 6) (lo := 81) (as := [gi a2, gi v4]) (st := []) (g_no) rfl (fun _ _ e => tX1_checkIndex hs e) (fun K _ _ hM R e1 e2 => g_runS (M := mX1_withTwo) (pc := 14) (y := yX1_checkIndex) (bytes := cX1_checkIndex) (maxL := 2) (ret := none) (fr := 6) (lo := 81) (as := [gi a2, gi v4]) (st := []) gy_X1_checkIndex (gbl rfl) (gbl rfl) (gbl rfl) q410 q411 dX1_withTwo_14 K hM R e1 e2) fun v6 h7 => ?_
  refine g_aload_n (pc := 17) (x := v1) 0 rfl rfl dX1_withTwo_17 ?_
  exact g_areturn (pc := 18) rfl (Or.inl ⟨_, rfl⟩) dX1_withTwo_18
/-! FlareSlopes.sees(II)Z -/
noncomputable def sX1_sees (G : GG) (N : Nat) (a0 : Option Nat) (a1 : Int32) (a2 : Int32) (h : Hp) : Out (Int32) :=
  bV h a0 3 (fun q7 => sX1_withTwo G N (some q7) a1 a2 h) fun v1 h2 =>
  gFr h2 a0 3 4 fun v3 =>
  bV h2 v3 16 (fun q6 => sX3_sees G N (some q6) a1 a2 h2) fun v4 h5 =>
  gRtZ v4 h5
abbrev mX1_sees : MI := (RX1, cX1_sees, 4, (some .boolean), [], 10, 165, "sees")
theorem tX1_sees {G : GG} {l : Launch} (hs : l.stackTraces = false) {N : Nat} {a0 : Option Nat} {a1 : Int32} {a2 : Int32} {h : Hp} {r : Int32 ⊕ Nat} {hf : Hp} (ho : sX1_sees G N a0 a1 a2 h = some (r, hf)) : gMet G l yX1_sees (ws_ yX1_sees cX1_sees 4 (some .boolean)) 10 165 [gr a0, gi a1, gi a2] h cvI r hf := by
  refine gMet.of ho hs (plainFor_of_name pn_X1) rfl rfl (gbl rfl) fun X => ?_
  show gT G l X mX1_sees cvI r hf 0 [(0, gr a0), (1, gi a1), (2, gi a2)] [] h (sX1_sees G N a0 a1 a2 h)
  delta sX1_sees
  refine g_aload_n (pc := 0) (x := a0) 0 rfl rfl dX1_sees_0 ?_
  refine g_iload_n (pc := 1) (x := a1) 1 rfl rfl dX1_sees_1 ?_
  refine g_iload_n (pc := 2) (x := a2) 2 rfl rfl dX1_sees_2 ?_
  refine g_bVr (pc := 3) (y := yX1_withTwo) (ws := ws_ yX1_withTwo cX1_withTwo 4 (some (.object "FlareSlopes$Cabin"))) (fr := 9) (lo := 142) (as := [gi a1, gi a2]) (st := []) (g_no) rfl (fun _ _ _ e => tX1_withTwo hs e) (fun K _ _ _ hq hM R e1 e2 => g_runV (M := mX1_sees) (pc := 3) (y := yX1_withTwo) (bytes := cX1_withTwo) (maxL := 4) (ret := (some (.object "FlareSlopes$Cabin"))) (fr := 9) (lo := 142) (as := [gi a1, gi a2]) (st := []) hq (C := "FlareSlopes") rfl gy_X1_withTwo (gbl rfl) (gbl rfl) (gbl rfl) q3129 q3131 qs44 dX1_sees_3 K hM R e1 e2) fun v1 h2 => ?_
  refine g_astore_n (pc := 6) (lv' := [(0, gr a0), (1, gi a1), (2, gi a2)]) [1, 2, 3] rfl rfl (gblt rfl) dX1_sees_6 ?_
  refine g_aload_n (pc := 7) (x := a0) 0 rfl rfl dX1_sees_7 ?_
  refine g_getfr (pc := 8) k_3 (gblt rfl) lk_X1_56_3 dX1_sees_8 fun v3 => ?_
  refine g_iload_n (pc := 11) (x := a1) 1 rfl rfl dX1_sees_11 ?_
  refine g_iload_n (pc := 12) (x := a2) 2 rfl rfl dX1_sees_12 ?_
  refine g_bVi (pc := 13) (y := yX3_sees) (ws := ws_ yX3_sees cX3_sees 3 (some .boolean)) (fr := 6) (lo := 129) (as := [gi a1, gi a2]) (st := []) (g_no) rfl (fun _ _ _ e => tX3_sees hs e) (fun K _ _ _ hq hM R e1 e2 => g_runV (M := mX1_sees) (pc := 13) (y := yX3_sees) (bytes := cX3_sees) (maxL := 3) (ret := (some .boolean)) (fr := 6) (lo := 129) (as := [gi a1, gi a2]) (st := []) hq (C := "FlareSlopes$State") rfl gy_X3_sees (gbl rfl) (gbl rfl) (gbl rfl) q3133 q1635 q1636 dX1_sees_13 K hM R e1 e2) fun v4 h5 => ?_
  exact g_zreturn (pc := 16) rfl dX1_sees_16
/-! FlareSlopesLaw.sees(LFlareSlopes;II[J)I -/
noncomputable def sX0_sees (G : GG) (N : Nat) (a0 : Option Nat) (a1 : Int32) (a2 : Int32) (a3 : Option Nat) (h : Hp) : Out (Int32) :=
  bVX h a0 3 (fun q7 => sX1_sees G N (some q7) a1 a2 h) (fun v1 h2 =>
  gJ (fun (x3 : Int64) (h4 : Hp) =>
  gSl G h4 a3 3 (0 : Int32) x3 fun h6 =>
  some (.inl (0 : Int32), h6)) fun j5 =>
  if v1 = 0 then (j5 (0 : Int64) h2)
  else j5 (1 : Int64) h2) fun q8 h9 =>
  gSw h9 (some q8) 0 (some (.inl (1 : Int32), h9)) (gSw h9 (some q8) 2 (some (.inl (2 : Int32), h9)) (none))
abbrev mX0_sees : MI := (RX0, cX0_sees, 5, (some .int), [(0, 17, 20, 21), (0, 17, 24, 13)], 11, 188, "sees")
theorem tX0_sees {G : GG} {l : Launch} (hs : l.stackTraces = false) {N : Nat} {a0 : Option Nat} {a1 : Int32} {a2 : Int32} {a3 : Option Nat} {h : Hp} {r : Int32 ⊕ Nat} {hf : Hp} (ho : sX0_sees G N a0 a1 a2 a3 h = some (r, hf)) : gMet G l yX0_sees (wsW_ yX0_sees cX0_sees 5 (some .int) [(0, 17, 20, 21), (0, 17, 24, 13)]) 11 188 [gr a0, gi a1, gi a2, gr a3] h cvI r hf := by
  refine gMet.ofW ho hs (plainFor_of_name pn_X0) rfl rfl (gbl rfl) fun X => ?_
  show gT G l X mX0_sees cvI r hf 0 [(0, gr a0), (1, gi a1), (2, gi a2), (3, gr a3)] [] h (sX0_sees G N a0 a1 a2 a3 h)
  delta sX0_sees
  refine g_aload_n (pc := 0) (x := a3) 3 rfl rfl dX0_sees_0 ?_
  refine g_iconst (pc := 1) (v := (0 : Int32)) ic_0 dX0_sees_1 ?_
  refine g_aload_n (pc := 2) (x := a0) 0 rfl rfl dX0_sees_2 ?_
  refine g_iload_n (pc := 3) (x := a1) 1 rfl rfl dX0_sees_3 ?_
  refine g_iload_n (pc := 4) (x := a2) 2 rfl rfl dX0_sees_4 ?_
  refine g_bVXi (pc := 5) (y := yX1_sees) (ws := ws_ yX1_sees cX1_sees 4 (some .boolean)) (fr := 10) (lo := 165) (as := [gi a1, gi a2]) (st := [gi (0 : Int32), gr a3]) rfl (fun _ _ _ e => tX1_sees hs e) (fun K _ _ _ hq hM R e1 e2 => g_runV (M := mX0_sees) (pc := 5) (y := yX1_sees) (bytes := cX1_sees) (maxL := 4) (ret := (some .boolean)) (fr := 10) (lo := 165) (as := [gi a1, gi a2]) (st := [gi (0 : Int32), gr a3]) hq (C := "FlareSlopes") rfl gy_X1_sees (gbl rfl) (gbl rfl) (gbl rfl) q3125 q3126 q3127 dX0_sees_5 K hM R e1 e2) (fun v1 h2 => ?_) (fun q8 h9 => ?_)
  · refine g_join 16 (fun (x3 : Int64) => []) (fun (x3 : Int64) => [gl x3, gi (0 : Int32), gr a3]) (fun x3 h4 => ?_) (fun j5 Hj5 => ?_)
    · refine g_lastore (pc := 16) rfl dX0_sees_16 fun h6 => ?_
      refine g_goto (pc := 17) (tgt := 28) rfl dX0_sees_17 ?_
      refine g_iconst (pc := 28) (v := (0 : Int32)) ic_0 dX0_sees_28 ?_
      exact g_ireturn (pc := 29) rfl dX0_sees_29
    refine g_if_eq (pc := 8) (tgt := 15) rfl dX0_sees_8 ?_ ?_
    · refine g_lconst (pc := 15) (v := (0 : Int64)) rfl dX0_sees_15 ?_
      exact g_sub [] rfl (Hj5 (0 : Int64) h2)
    refine g_lconst (pc := 11) (v := (1 : Int64)) rfl dX0_sees_11 ?_
    refine g_goto (pc := 12) (tgt := 16) rfl dX0_sees_12 ?_
    exact g_sub [] rfl (Hj5 (1 : Int64) h2)
  refine g_catch (E := "java/lang/IllegalStateException") [] ⟨0, 17, 20, 21⟩ [⟨0, 17, 24, 13⟩] rfl rfl (List.forall_mem_nil _) (by decide +kernel) (by decide +kernel) q1425 q1439 ?_ ?_
  · refine g_astore (pc := 20) (lv' := []) [] rfl (gblt rfl) dX0_sees_20 ?_
    refine g_iconst (pc := 22) (v := (1 : Int32)) ic_1 dX0_sees_22 ?_
    exact g_ireturn (pc := 23) rfl dX0_sees_23
  refine g_catch (E := "java/lang/IndexOutOfBoundsException") [⟨0, 17, 20, 21⟩] ⟨0, 17, 24, 13⟩ [] rfl rfl (List.forall_mem_cons.mpr ⟨Or.inr ⟨by decide +kernel, _, q1425, ncl_java_lang_IndexOutOfBoundsException_java_lang_IllegalStateException⟩, List.forall_mem_nil _⟩) (by decide +kernel) (by decide +kernel) q325 q418 ?_ ?_
  · refine g_astore (pc := 24) (lv' := []) [] rfl (gblt rfl) dX0_sees_24 ?_
    refine g_iconst (pc := 26) (v := (2 : Int32)) ic_2 dX0_sees_26 ?_
    exact g_ireturn (pc := 27) rfl dX0_sees_27
  exact g_noneX
/-! FlareSlopesModel.mayCabins(II)Z -/
noncomputable def sX2_mayCabins (G : GG) (N : Nat) (a0 : Option Nat) (a1 : Int32) (a2 : Int32) (h : Hp) : Out (Int32) :=
  gFi h a0 18 8 fun v1 =>
  bV h a0 18 (fun q16 => sX2_isCabin G N (some q16) a1 h) fun v2 h3 =>
  gJ (fun (x4 : Int32) (h5 : Hp) =>
  bV h5 a0 18 (fun q9 => sX2_mayTwo G N (some q9) v1 x4 h5) fun v7 h8 =>
  gRtZ v7 h8) fun j6 =>
  gJ (fun (x10 : Unit) (h11 : Hp) =>
  j6 (0 : Int32) h11) fun j12 =>
  if v2 = 0 then (j12 () h3)
  else bV h3 a0 18 (fun q15 => sX2_isCabin G N (some q15) a2 h3) fun v13 h14 =>
  if v13 = 0 then (j12 () h14)
  else j6 (1 : Int32) h14
abbrev mX2_mayCabins : MI := (RX2, cX2_mayCabins, 3, (some .boolean), [], 2, 45, "mayCabins")
theorem tX2_mayCabins {G : GG} {l : Launch} (hs : l.stackTraces = false) {N : Nat} {a0 : Option Nat} {a1 : Int32} {a2 : Int32} {h : Hp} {r : Int32 ⊕ Nat} {hf : Hp} (ho : sX2_mayCabins G N a0 a1 a2 h = some (r, hf)) : gMet G l yX2_mayCabins (ws_ yX2_mayCabins cX2_mayCabins 3 (some .boolean)) 2 45 [gr a0, gi a1, gi a2] h cvI r hf := by
  refine gMet.of ho hs (plainFor_of_name pn_X2) rfl rfl (gbl rfl) fun X => ?_
  show gT G l X mX2_mayCabins cvI r hf 0 [(0, gr a0), (1, gi a1), (2, gi a2)] [] h (sX2_mayCabins G N a0 a1 a2 h)
  delta sX2_mayCabins
  refine g_aload_n (pc := 0) (x := a0) 0 rfl rfl dX2_mayCabins_0 ?_
  refine g_aload_n (pc := 1) (x := a0) 0 rfl rfl dX2_mayCabins_1 ?_
  refine g_getfi (pc := 2) k_18 (gblt rfl) lk_X2_184_18 dX2_mayCabins_2 fun v1 => ?_
  refine g_aload_n (pc := 5) (x := a0) 0 rfl rfl dX2_mayCabins_5 ?_
  refine g_iload_n (pc := 6) (x := a1) 1 rfl rfl dX2_mayCabins_6 ?_
  refine g_bVi (pc := 7) (y := yX2_isCabin) (ws := ws_ yX2_isCabin cX2_isCabin 2 (some .boolean)) (fr := 1) (lo := 22) (as := [gi a1]) (st := [gi v1, gr a0]) (g_no) rfl (fun _ _ _ e => tX2_isCabin hs e) (fun K _ _ _ hq hM R e1 e2 => g_runV (M := mX2_mayCabins) (pc := 7) (y := yX2_isCabin) (bytes := cX2_isCabin) (maxL := 2) (ret := (some .boolean)) (fr := 1) (lo := 22) (as := [gi a1]) (st := [gi v1, gr a0]) hq (C := "FlareSlopesModel") rfl gy_X2_isCabin (gbl rfl) (gbl rfl) (gbl rfl) q4214 q4216 qs87 dX2_mayCabins_7 K hM R e1 e2) fun v2 h3 => ?_
  refine g_join 26 (fun (x4 : Int32) => []) (fun (x4 : Int32) => [gi x4, gi v1, gr a0]) (fun x4 h5 => ?_) (fun j6 Hj6 => ?_)
  · refine g_bVi (pc := 26) (y := yX2_mayTwo) (ws := ws_ yX2_mayTwo cX2_mayTwo 3 (some .boolean)) (fr := 1) (lo := 23) (as := [gi v1, gi x4]) (st := []) (g_no) rfl (fun _ _ _ e => tX2_mayTwo hs e) (fun K _ _ _ hq hM R e1 e2 => g_runV (M := mX2_mayCabins) (pc := 26) (y := yX2_mayTwo) (bytes := cX2_mayTwo) (maxL := 3) (ret := (some .boolean)) (fr := 1) (lo := 23) (as := [gi v1, gi x4]) (st := []) hq (C := "FlareSlopesModel") rfl gy_X2_mayTwo (gbl rfl) (gbl rfl) (gbl rfl) q4145 q4147 qs76 dX2_mayCabins_26 K hM R e1 e2) fun v7 h8 => ?_
    exact g_zreturn (pc := 29) rfl dX2_mayCabins_29
  refine g_join 25 (fun (x10 : Unit) => []) (fun (x10 : Unit) => [gi v1, gr a0]) (fun x10 h11 => ?_) (fun j12 Hj12 => ?_)
  · refine g_iconst (pc := 25) (v := (0 : Int32)) ic_0 dX2_mayCabins_25 ?_
    exact Hj6 (0 : Int32) h11
  refine g_if_eq (pc := 10) (tgt := 25) rfl dX2_mayCabins_10 ?_ ?_
  · exact g_sub [] rfl (Hj12 () h3)
  refine g_aload_n (pc := 13) (x := a0) 0 rfl rfl dX2_mayCabins_13 ?_
  refine g_iload_n (pc := 14) (x := a2) 2 rfl rfl dX2_mayCabins_14 ?_
  refine g_bVi (pc := 15) (y := yX2_isCabin) (ws := ws_ yX2_isCabin cX2_isCabin 2 (some .boolean)) (fr := 1) (lo := 22) (as := [gi a2]) (st := [gi v1, gr a0]) (g_no) rfl (fun _ _ _ e => tX2_isCabin hs e) (fun K _ _ _ hq hM R e1 e2 => g_runV (M := mX2_mayCabins) (pc := 15) (y := yX2_isCabin) (bytes := cX2_isCabin) (maxL := 2) (ret := (some .boolean)) (fr := 1) (lo := 22) (as := [gi a2]) (st := [gi v1, gr a0]) hq (C := "FlareSlopesModel") rfl gy_X2_isCabin (gbl rfl) (gbl rfl) (gbl rfl) q4214 q4216 qs87 dX2_mayCabins_15 K hM R e1 e2) fun v13 h14 => ?_
  refine g_if_eq (pc := 18) (tgt := 25) rfl dX2_mayCabins_18 ?_ ?_
  · exact g_sub [] rfl (Hj12 () h14)
  refine g_iconst (pc := 21) (v := (1 : Int32)) ic_1 dX2_mayCabins_21 ?_
  refine g_goto (pc := 22) (tgt := 26) rfl dX2_mayCabins_22 ?_
  exact g_sub [] rfl (Hj6 (1 : Int32) h14)
/-! FlareSlopesModel.sees(II)Z -/
noncomputable def sX2_sees (G : GG) (N : Nat) (a0 : Option Nat) (a1 : Int32) (a2 : Int32) (h : Hp) : Out (Int32) :=
  bV h a0 18 (fun q9 => sX2_mayCabins G N (some q9) a1 a2 h) fun v1 h2 =>
  gJ (fun (x3 : Unit) (h4 : Hp) =>
  gRtZ (0 : Int32) h4) fun j5 =>
  if v1 = 0 then (j5 () h2)
  else bV h2 a0 18 (fun q8 => sX2_seeOneAnother G N (some q8) a1 a2 h2) fun v6 h7 =>
  if v6 = 0 then (j5 () h7)
  else gRtZ (1 : Int32) h7
abbrev mX2_sees : MI := (RX2, cX2_sees, 3, (some .boolean), [], 4, 93, "sees")
theorem tX2_sees {G : GG} {l : Launch} (hs : l.stackTraces = false) {N : Nat} {a0 : Option Nat} {a1 : Int32} {a2 : Int32} {h : Hp} {r : Int32 ⊕ Nat} {hf : Hp} (ho : sX2_sees G N a0 a1 a2 h = some (r, hf)) : gMet G l yX2_sees (ws_ yX2_sees cX2_sees 3 (some .boolean)) 4 93 [gr a0, gi a1, gi a2] h cvI r hf := by
  refine gMet.of ho hs (plainFor_of_name pn_X2) rfl rfl (gbl rfl) fun X => ?_
  show gT G l X mX2_sees cvI r hf 0 [(0, gr a0), (1, gi a1), (2, gi a2)] [] h (sX2_sees G N a0 a1 a2 h)
  delta sX2_sees
  refine g_aload_n (pc := 0) (x := a0) 0 rfl rfl dX2_sees_0 ?_
  refine g_iload_n (pc := 1) (x := a1) 1 rfl rfl dX2_sees_1 ?_
  refine g_iload_n (pc := 2) (x := a2) 2 rfl rfl dX2_sees_2 ?_
  refine g_bVi (pc := 3) (y := yX2_mayCabins) (ws := ws_ yX2_mayCabins cX2_mayCabins 3 (some .boolean)) (fr := 2) (lo := 45) (as := [gi a1, gi a2]) (st := []) (g_no) rfl (fun _ _ _ e => tX2_mayCabins hs e) (fun K _ _ _ hq hM R e1 e2 => g_runV (M := mX2_sees) (pc := 3) (y := yX2_mayCabins) (bytes := cX2_mayCabins) (maxL := 3) (ret := (some .boolean)) (fr := 2) (lo := 45) (as := [gi a1, gi a2]) (st := []) hq (C := "FlareSlopesModel") rfl gy_X2_mayCabins (gbl rfl) (gbl rfl) (gbl rfl) q4308 q4310 qs103 dX2_sees_3 K hM R e1 e2) fun v1 h2 => ?_
  refine g_join 22 (fun (x3 : Unit) => []) (fun (x3 : Unit) => []) (fun x3 h4 => ?_) (fun j5 Hj5 => ?_)
  · refine g_iconst (pc := 22) (v := (0 : Int32)) ic_0 dX2_sees_22 ?_
    exact g_zreturn (pc := 23) rfl dX2_sees_23
  refine g_if_eq (pc := 6) (tgt := 22) rfl dX2_sees_6 ?_ ?_
  · exact g_sub [] rfl (Hj5 () h2)
  refine g_aload_n (pc := 9) (x := a0) 0 rfl rfl dX2_sees_9 ?_
  refine g_iload_n (pc := 10) (x := a1) 1 rfl rfl dX2_sees_10 ?_
  refine g_iload_n (pc := 11) (x := a2) 2 rfl rfl dX2_sees_11 ?_
  refine g_bVi (pc := 12) (y := yX2_seeOneAnother) (ws := ws_ yX2_seeOneAnother cX2_seeOneAnother 3 (some .boolean)) (fr := 3) (lo := 71) (as := [gi a1, gi a2]) (st := []) (g_no) rfl (fun _ _ _ e => tX2_seeOneAnother hs e) (fun K _ _ _ hq hM R e1 e2 => g_runV (M := mX2_sees) (pc := 12) (y := yX2_seeOneAnother) (bytes := cX2_seeOneAnother) (maxL := 3) (ret := (some .boolean)) (fr := 3) (lo := 71) (as := [gi a1, gi a2]) (st := []) hq (C := "FlareSlopesModel") rfl gy_X2_seeOneAnother (gbl rfl) (gbl rfl) (gbl rfl) q4175 q4177 qs81 dX2_sees_12 K hM R e1 e2) fun v6 h7 => ?_
  refine g_if_eq (pc := 15) (tgt := 22) rfl dX2_sees_15 ?_ ?_
  · exact g_sub [] rfl (Hj5 () h7)
  refine g_iconst (pc := 18) (v := (1 : Int32)) ic_1 dX2_sees_18 ?_
  refine g_goto (pc := 19) (tgt := 23) rfl dX2_sees_19 ?_
  exact g_zreturn (pc := 23) rfl dX2_sees_23
/-! FlareSlopes.withBoth(II)LFlareSlopes$Cabin; -/
noncomputable def sX1_withBoth (G : GG) (N : Nat) (a0 : Option Nat) (a1 : Int32) (a2 : Int32) (h : Hp) : Out (Option Nat) :=
  bV h a0 3 (fun q9 => sX1_withCabin G N (some q9) a1 h) fun v1 h2 =>
  gFr h2 a0 3 4 fun v3 =>
  bV h2 v3 16 (fun q8 => sX3_slopes G N (some q8) h2) fun v4 h5 =>
  bnd (sX1_checkIndex G N a2 v4 h5) fun v6 h7 =>
  some (.inl v1, h7)
abbrev mX1_withBoth : MI := (RX1, cX1_withBoth, 4, (some (.object "FlareSlopes$Cabin")), [], 9, 142, "withBoth")
theorem tX1_withBoth {G : GG} {l : Launch} (hs : l.stackTraces = false) {N : Nat} {a0 : Option Nat} {a1 : Int32} {a2 : Int32} {h : Hp} {r : Option Nat ⊕ Nat} {hf : Hp} (ho : sX1_withBoth G N a0 a1 a2 h = some (r, hf)) : gMet G l yX1_withBoth (ws_ yX1_withBoth cX1_withBoth 4 (some (.object "FlareSlopes$Cabin"))) 9 142 [gr a0, gi a1, gi a2] h cvR r hf := by
  refine gMet.of ho hs (plainFor_of_name pn_X1) rfl rfl (gbl rfl) fun X => ?_
  show gT G l X mX1_withBoth cvR r hf 0 [(0, gr a0), (1, gi a1), (2, gi a2)] [] h (sX1_withBoth G N a0 a1 a2 h)
  delta sX1_withBoth
  refine g_aload_n (pc := 0) (x := a0) 0 rfl rfl dX1_withBoth_0 ?_
  refine g_iload_n (pc := 1) (x := a1) 1 rfl rfl dX1_withBoth_1 ?_
  refine g_bVr (pc := 2) (y := yX1_withCabin) (ws := ws_ yX1_withCabin cX1_withCabin 2 (some (.object "FlareSlopes$Cabin"))) (fr := 8) (lo := 121) (as := [gi a1]) (st := []) (g_no) rfl (fun _ _ _ e => tX1_withCabin hs e) (fun K _ _ _ hq hM R e1 e2 => g_runV (M := mX1_withBoth) (pc := 2) (y := yX1_withCabin) (bytes := cX1_withCabin) (maxL := 2) (ret := (some (.object "FlareSlopes$Cabin"))) (fr := 8) (lo := 121) (as := [gi a1]) (st := []) hq (C := "FlareSlopes") rfl gy_X1_withCabin (gbl rfl) (gbl rfl) (gbl rfl) q1968 q1970 qs22 dX1_withBoth_2 K hM R e1 e2) fun v1 h2 => ?_
  refine g_astore_n (pc := 5) (lv' := [(3, gr v1), (0, gr a0), (2, gi a2)]) [0, 1, 3] rfl rfl (gblt rfl) dX1_withBoth_5 ?_
  refine g_iload_n (pc := 6) (x := a2) 2 rfl rfl dX1_withBoth_6 ?_
  refine g_aload_n (pc := 7) (x := a0) 1 rfl rfl dX1_withBoth_7 ?_
  refine g_getfr (pc := 8) k_3 (gblt rfl) lk_X1_56_3 dX1_withBoth_8 fun v3 => ?_
  refine g_bVi (pc := 11) (y := yX3_slopes) (ws := ws_ yX3_slopes cX3_slopes 1 (some .int)) (fr := 2) (lo := 40) (as := []) (st := [gi a2]) (g_no) rfl (fun _ _ _ e => tX3_slopes hs e) (fun K _ _ _ hq hM R e1 e2 => g_runV (M := mX1_withBoth) (pc := 11) (y := yX3_slopes) (bytes := cX3_slopes) (maxL := 1) (ret := (some .int)) (fr := 2) (lo := 40) (as := []) (st := [gi a2]) hq (C := "FlareSlopes$State") rfl gy_X3_slopes (gbl rfl) (gbl rfl) (gbl rfl) q1464 q1465 q1466 dX1_withBoth_11 K hM R e1 e2) fun v4 h5 => ?_
  refine g_bu (pc := 14) (y := yX1_checkIndex) (ws := ws_ yX1_checkIndex cX1_checkIndex 2 none) (fr := 6) (lo := 81) (as := [gi a2, gi v4]) (st := []) (g_no) rfl (fun _ _ e => tX1_checkIndex hs e) (fun K _ _ hM R e1 e2 => g_runS (M := mX1_withBoth) (pc := 14) (y := yX1_checkIndex) (bytes := cX1_checkIndex) (maxL := 2) (ret := none) (fr := 6) (lo := 81) (as := [gi a2, gi v4]) (st := []) gy_X1_checkIndex (gbl rfl) (gbl rfl) (gbl rfl) q410 q411 dX1_withBoth_14 K hM R e1 e2) fun v6 h7 => ?_
  refine g_aload_n (pc := 17) (x := v1) 0 rfl rfl dX1_withBoth_17 ?_
  exact g_areturn (pc := 18) rfl (Or.inl ⟨_, rfl⟩) dX1_withBoth_18
/-! FlareSlopes.seesSlope(II)Z -/
noncomputable def sX1_seesSlope (G : GG) (N : Nat) (a0 : Option Nat) (a1 : Int32) (a2 : Int32) (h : Hp) : Out (Int32) :=
  bV h a0 3 (fun q7 => sX1_withBoth G N (some q7) a1 a2 h) fun v1 h2 =>
  gFr h2 a0 3 4 fun v3 =>
  bV h2 v3 16 (fun q6 => sX3_seesSlope G N (some q6) a1 a2 h2) fun v4 h5 =>
  gRtZ v4 h5
abbrev mX1_seesSlope : MI := (RX1, cX1_seesSlope, 4, (some .boolean), [], 10, 165, "seesSlope")
theorem tX1_seesSlope {G : GG} {l : Launch} (hs : l.stackTraces = false) {N : Nat} {a0 : Option Nat} {a1 : Int32} {a2 : Int32} {h : Hp} {r : Int32 ⊕ Nat} {hf : Hp} (ho : sX1_seesSlope G N a0 a1 a2 h = some (r, hf)) : gMet G l yX1_seesSlope (ws_ yX1_seesSlope cX1_seesSlope 4 (some .boolean)) 10 165 [gr a0, gi a1, gi a2] h cvI r hf := by
  refine gMet.of ho hs (plainFor_of_name pn_X1) rfl rfl (gbl rfl) fun X => ?_
  show gT G l X mX1_seesSlope cvI r hf 0 [(0, gr a0), (1, gi a1), (2, gi a2)] [] h (sX1_seesSlope G N a0 a1 a2 h)
  delta sX1_seesSlope
  refine g_aload_n (pc := 0) (x := a0) 0 rfl rfl dX1_seesSlope_0 ?_
  refine g_iload_n (pc := 1) (x := a1) 1 rfl rfl dX1_seesSlope_1 ?_
  refine g_iload_n (pc := 2) (x := a2) 2 rfl rfl dX1_seesSlope_2 ?_
  refine g_bVr (pc := 3) (y := yX1_withBoth) (ws := ws_ yX1_withBoth cX1_withBoth 4 (some (.object "FlareSlopes$Cabin"))) (fr := 9) (lo := 142) (as := [gi a1, gi a2]) (st := []) (g_no) rfl (fun _ _ _ e => tX1_withBoth hs e) (fun K _ _ _ hq hM R e1 e2 => g_runV (M := mX1_seesSlope) (pc := 3) (y := yX1_withBoth) (bytes := cX1_withBoth) (maxL := 4) (ret := (some (.object "FlareSlopes$Cabin"))) (fr := 9) (lo := 142) (as := [gi a1, gi a2]) (st := []) hq (C := "FlareSlopes") rfl gy_X1_withBoth (gbl rfl) (gbl rfl) (gbl rfl) q3141 q3143 qs45 dX1_seesSlope_3 K hM R e1 e2) fun v1 h2 => ?_
  refine g_astore_n (pc := 6) (lv' := [(0, gr a0), (1, gi a1), (2, gi a2)]) [1, 2, 3] rfl rfl (gblt rfl) dX1_seesSlope_6 ?_
  refine g_aload_n (pc := 7) (x := a0) 0 rfl rfl dX1_seesSlope_7 ?_
  refine g_getfr (pc := 8) k_3 (gblt rfl) lk_X1_56_3 dX1_seesSlope_8 fun v3 => ?_
  refine g_iload_n (pc := 11) (x := a1) 1 rfl rfl dX1_seesSlope_11 ?_
  refine g_iload_n (pc := 12) (x := a2) 2 rfl rfl dX1_seesSlope_12 ?_
  refine g_bVi (pc := 13) (y := yX3_seesSlope) (ws := ws_ yX3_seesSlope cX3_seesSlope 3 (some .boolean)) (fr := 6) (lo := 129) (as := [gi a1, gi a2]) (st := []) (g_no) rfl (fun _ _ _ e => tX3_seesSlope hs e) (fun K _ _ _ hq hM R e1 e2 => g_runV (M := mX1_seesSlope) (pc := 13) (y := yX3_seesSlope) (bytes := cX3_seesSlope) (maxL := 3) (ret := (some .boolean)) (fr := 6) (lo := 129) (as := [gi a1, gi a2]) (st := []) hq (C := "FlareSlopes$State") rfl gy_X3_seesSlope (gbl rfl) (gbl rfl) (gbl rfl) q2349 q2350 q2351 dX1_seesSlope_13 K hM R e1 e2) fun v4 h5 => ?_
  exact g_zreturn (pc := 16) rfl dX1_seesSlope_16
/-! FlareSlopesLaw.seesSlope(LFlareSlopes;II[J)I -/
noncomputable def sX0_seesSlope (G : GG) (N : Nat) (a0 : Option Nat) (a1 : Int32) (a2 : Int32) (a3 : Option Nat) (h : Hp) : Out (Int32) :=
  bVX h a0 3 (fun q7 => sX1_seesSlope G N (some q7) a1 a2 h) (fun v1 h2 =>
  gJ (fun (x3 : Int64) (h4 : Hp) =>
  gSl G h4 a3 3 (0 : Int32) x3 fun h6 =>
  some (.inl (0 : Int32), h6)) fun j5 =>
  if v1 = 0 then (j5 (0 : Int64) h2)
  else j5 (1 : Int64) h2) fun q8 h9 =>
  gSw h9 (some q8) 0 (some (.inl (1 : Int32), h9)) (gSw h9 (some q8) 2 (some (.inl (2 : Int32), h9)) (none))
abbrev mX0_seesSlope : MI := (RX0, cX0_seesSlope, 5, (some .int), [(0, 17, 20, 21), (0, 17, 24, 13)], 11, 188, "seesSlope")
theorem tX0_seesSlope {G : GG} {l : Launch} (hs : l.stackTraces = false) {N : Nat} {a0 : Option Nat} {a1 : Int32} {a2 : Int32} {a3 : Option Nat} {h : Hp} {r : Int32 ⊕ Nat} {hf : Hp} (ho : sX0_seesSlope G N a0 a1 a2 a3 h = some (r, hf)) : gMet G l yX0_seesSlope (wsW_ yX0_seesSlope cX0_seesSlope 5 (some .int) [(0, 17, 20, 21), (0, 17, 24, 13)]) 11 188 [gr a0, gi a1, gi a2, gr a3] h cvI r hf := by
  refine gMet.ofW ho hs (plainFor_of_name pn_X0) rfl rfl (gbl rfl) fun X => ?_
  show gT G l X mX0_seesSlope cvI r hf 0 [(0, gr a0), (1, gi a1), (2, gi a2), (3, gr a3)] [] h (sX0_seesSlope G N a0 a1 a2 a3 h)
  delta sX0_seesSlope
  refine g_aload_n (pc := 0) (x := a3) 3 rfl rfl dX0_seesSlope_0 ?_
  refine g_iconst (pc := 1) (v := (0 : Int32)) ic_0 dX0_seesSlope_1 ?_
  refine g_aload_n (pc := 2) (x := a0) 0 rfl rfl dX0_seesSlope_2 ?_
  refine g_iload_n (pc := 3) (x := a1) 1 rfl rfl dX0_seesSlope_3 ?_
  refine g_iload_n (pc := 4) (x := a2) 2 rfl rfl dX0_seesSlope_4 ?_
  refine g_bVXi (pc := 5) (y := yX1_seesSlope) (ws := ws_ yX1_seesSlope cX1_seesSlope 4 (some .boolean)) (fr := 10) (lo := 165) (as := [gi a1, gi a2]) (st := [gi (0 : Int32), gr a3]) rfl (fun _ _ _ e => tX1_seesSlope hs e) (fun K _ _ _ hq hM R e1 e2 => g_runV (M := mX0_seesSlope) (pc := 5) (y := yX1_seesSlope) (bytes := cX1_seesSlope) (maxL := 4) (ret := (some .boolean)) (fr := 10) (lo := 165) (as := [gi a1, gi a2]) (st := [gi (0 : Int32), gr a3]) hq (C := "FlareSlopes") rfl gy_X1_seesSlope (gbl rfl) (gbl rfl) (gbl rfl) q3137 q3138 q3139 dX0_seesSlope_5 K hM R e1 e2) (fun v1 h2 => ?_) (fun q8 h9 => ?_)
  · refine g_join 16 (fun (x3 : Int64) => []) (fun (x3 : Int64) => [gl x3, gi (0 : Int32), gr a3]) (fun x3 h4 => ?_) (fun j5 Hj5 => ?_)
    · refine g_lastore (pc := 16) rfl dX0_seesSlope_16 fun h6 => ?_
      refine g_goto (pc := 17) (tgt := 28) rfl dX0_seesSlope_17 ?_
      refine g_iconst (pc := 28) (v := (0 : Int32)) ic_0 dX0_seesSlope_28 ?_
      exact g_ireturn (pc := 29) rfl dX0_seesSlope_29
    refine g_if_eq (pc := 8) (tgt := 15) rfl dX0_seesSlope_8 ?_ ?_
    · refine g_lconst (pc := 15) (v := (0 : Int64)) rfl dX0_seesSlope_15 ?_
      exact g_sub [] rfl (Hj5 (0 : Int64) h2)
    refine g_lconst (pc := 11) (v := (1 : Int64)) rfl dX0_seesSlope_11 ?_
    refine g_goto (pc := 12) (tgt := 16) rfl dX0_seesSlope_12 ?_
    exact g_sub [] rfl (Hj5 (1 : Int64) h2)
  refine g_catch (E := "java/lang/IllegalStateException") [] ⟨0, 17, 20, 21⟩ [⟨0, 17, 24, 13⟩] rfl rfl (List.forall_mem_nil _) (by decide +kernel) (by decide +kernel) q1425 q1439 ?_ ?_
  · refine g_astore (pc := 20) (lv' := []) [] rfl (gblt rfl) dX0_seesSlope_20 ?_
    refine g_iconst (pc := 22) (v := (1 : Int32)) ic_1 dX0_seesSlope_22 ?_
    exact g_ireturn (pc := 23) rfl dX0_seesSlope_23
  refine g_catch (E := "java/lang/IndexOutOfBoundsException") [⟨0, 17, 20, 21⟩] ⟨0, 17, 24, 13⟩ [] rfl rfl (List.forall_mem_cons.mpr ⟨Or.inr ⟨by decide +kernel, _, q1425, ncl_java_lang_IndexOutOfBoundsException_java_lang_IllegalStateException⟩, List.forall_mem_nil _⟩) (by decide +kernel) (by decide +kernel) q325 q418 ?_ ?_
  · refine g_astore (pc := 24) (lv' := []) [] rfl (gblt rfl) dX0_seesSlope_24 ?_
    refine g_iconst (pc := 26) (v := (2 : Int32)) ic_2 dX0_seesSlope_26 ?_
    exact g_ireturn (pc := 27) rfl dX0_seesSlope_27
  exact g_noneX
/-! FlareSlopesModel.mayBoth(II)Z -/
noncomputable def sX2_mayBoth (G : GG) (N : Nat) (a0 : Option Nat) (a1 : Int32) (a2 : Int32) (h : Hp) : Out (Int32) :=
  gFi h a0 18 8 fun v1 =>
  bV h a0 18 (fun q16 => sX2_isCabin G N (some q16) a1 h) fun v2 h3 =>
  gJ (fun (x4 : Int32) (h5 : Hp) =>
  bV h5 a0 18 (fun q9 => sX2_mayTwo G N (some q9) v1 x4 h5) fun v7 h8 =>
  gRtZ v7 h8) fun j6 =>
  gJ (fun (x10 : Unit) (h11 : Hp) =>
  j6 (0 : Int32) h11) fun j12 =>
  if v2 = 0 then (j12 () h3)
  else bV h3 a0 18 (fun q15 => sX2_isSlope G N (some q15) a2 h3) fun v13 h14 =>
  if v13 = 0 then (j12 () h14)
  else j6 (1 : Int32) h14
abbrev mX2_mayBoth : MI := (RX2, cX2_mayBoth, 3, (some .boolean), [], 2, 45, "mayBoth")
theorem tX2_mayBoth {G : GG} {l : Launch} (hs : l.stackTraces = false) {N : Nat} {a0 : Option Nat} {a1 : Int32} {a2 : Int32} {h : Hp} {r : Int32 ⊕ Nat} {hf : Hp} (ho : sX2_mayBoth G N a0 a1 a2 h = some (r, hf)) : gMet G l yX2_mayBoth (ws_ yX2_mayBoth cX2_mayBoth 3 (some .boolean)) 2 45 [gr a0, gi a1, gi a2] h cvI r hf := by
  refine gMet.of ho hs (plainFor_of_name pn_X2) rfl rfl (gbl rfl) fun X => ?_
  show gT G l X mX2_mayBoth cvI r hf 0 [(0, gr a0), (1, gi a1), (2, gi a2)] [] h (sX2_mayBoth G N a0 a1 a2 h)
  delta sX2_mayBoth
  refine g_aload_n (pc := 0) (x := a0) 0 rfl rfl dX2_mayBoth_0 ?_
  refine g_aload_n (pc := 1) (x := a0) 0 rfl rfl dX2_mayBoth_1 ?_
  refine g_getfi (pc := 2) k_18 (gblt rfl) lk_X2_184_18 dX2_mayBoth_2 fun v1 => ?_
  refine g_aload_n (pc := 5) (x := a0) 0 rfl rfl dX2_mayBoth_5 ?_
  refine g_iload_n (pc := 6) (x := a1) 1 rfl rfl dX2_mayBoth_6 ?_
  refine g_bVi (pc := 7) (y := yX2_isCabin) (ws := ws_ yX2_isCabin cX2_isCabin 2 (some .boolean)) (fr := 1) (lo := 22) (as := [gi a1]) (st := [gi v1, gr a0]) (g_no) rfl (fun _ _ _ e => tX2_isCabin hs e) (fun K _ _ _ hq hM R e1 e2 => g_runV (M := mX2_mayBoth) (pc := 7) (y := yX2_isCabin) (bytes := cX2_isCabin) (maxL := 2) (ret := (some .boolean)) (fr := 1) (lo := 22) (as := [gi a1]) (st := [gi v1, gr a0]) hq (C := "FlareSlopesModel") rfl gy_X2_isCabin (gbl rfl) (gbl rfl) (gbl rfl) q4214 q4216 qs87 dX2_mayBoth_7 K hM R e1 e2) fun v2 h3 => ?_
  refine g_join 26 (fun (x4 : Int32) => []) (fun (x4 : Int32) => [gi x4, gi v1, gr a0]) (fun x4 h5 => ?_) (fun j6 Hj6 => ?_)
  · refine g_bVi (pc := 26) (y := yX2_mayTwo) (ws := ws_ yX2_mayTwo cX2_mayTwo 3 (some .boolean)) (fr := 1) (lo := 23) (as := [gi v1, gi x4]) (st := []) (g_no) rfl (fun _ _ _ e => tX2_mayTwo hs e) (fun K _ _ _ hq hM R e1 e2 => g_runV (M := mX2_mayBoth) (pc := 26) (y := yX2_mayTwo) (bytes := cX2_mayTwo) (maxL := 3) (ret := (some .boolean)) (fr := 1) (lo := 23) (as := [gi v1, gi x4]) (st := []) hq (C := "FlareSlopesModel") rfl gy_X2_mayTwo (gbl rfl) (gbl rfl) (gbl rfl) q4145 q4147 qs76 dX2_mayBoth_26 K hM R e1 e2) fun v7 h8 => ?_
    exact g_zreturn (pc := 29) rfl dX2_mayBoth_29
  refine g_join 25 (fun (x10 : Unit) => []) (fun (x10 : Unit) => [gi v1, gr a0]) (fun x10 h11 => ?_) (fun j12 Hj12 => ?_)
  · refine g_iconst (pc := 25) (v := (0 : Int32)) ic_0 dX2_mayBoth_25 ?_
    exact Hj6 (0 : Int32) h11
  refine g_if_eq (pc := 10) (tgt := 25) rfl dX2_mayBoth_10 ?_ ?_
  · exact g_sub [] rfl (Hj12 () h3)
  refine g_aload_n (pc := 13) (x := a0) 0 rfl rfl dX2_mayBoth_13 ?_
  refine g_iload_n (pc := 14) (x := a2) 2 rfl rfl dX2_mayBoth_14 ?_
  refine g_bVi (pc := 15) (y := yX2_isSlope) (ws := ws_ yX2_isSlope cX2_isSlope 2 (some .boolean)) (fr := 1) (lo := 22) (as := [gi a2]) (st := [gi v1, gr a0]) (g_no) rfl (fun _ _ _ e => tX2_isSlope hs e) (fun K _ _ _ hq hM R e1 e2 => g_runV (M := mX2_mayBoth) (pc := 15) (y := yX2_isSlope) (bytes := cX2_isSlope) (maxL := 2) (ret := (some .boolean)) (fr := 1) (lo := 22) (as := [gi a2]) (st := [gi v1, gr a0]) hq (C := "FlareSlopesModel") rfl gy_X2_isSlope (gbl rfl) (gbl rfl) (gbl rfl) q4245 q4247 qs93 dX2_mayBoth_15 K hM R e1 e2) fun v13 h14 => ?_
  refine g_if_eq (pc := 18) (tgt := 25) rfl dX2_mayBoth_18 ?_ ?_
  · exact g_sub [] rfl (Hj12 () h14)
  refine g_iconst (pc := 21) (v := (1 : Int32)) ic_1 dX2_mayBoth_21 ?_
  refine g_goto (pc := 22) (tgt := 26) rfl dX2_mayBoth_22 ?_
  exact g_sub [] rfl (Hj6 (1 : Int32) h14)
/-! FlareSlopesModel.seesSlope(II)Z -/
noncomputable def sX2_seesSlope (G : GG) (N : Nat) (a0 : Option Nat) (a1 : Int32) (a2 : Int32) (h : Hp) : Out (Int32) :=
  bV h a0 18 (fun q13 => sX2_mayBoth G N (some q13) a1 a2 h) fun v1 h2 =>
  gJ (fun (x3 : Unit) (h4 : Hp) =>
  gRtZ (0 : Int32) h4) fun j5 =>
  if v1 = 0 then (j5 () h2)
  else bnd (sX2_cabinAt G N a1 h2) fun v6 h7 =>
  bnd (sX2_slopeAt G N a2 h7) fun v8 h9 =>
  bV h9 a0 18 (fun q12 => sX2_see G N (some q12) v6 v8 h9) fun v10 h11 =>
  if v10 = 0 then (j5 () h11)
  else gRtZ (1 : Int32) h11
abbrev mX2_seesSlope : MI := (RX2, cX2_seesSlope, 3, (some .boolean), [], 3, 71, "seesSlope")
theorem tX2_seesSlope {G : GG} {l : Launch} (hs : l.stackTraces = false) {N : Nat} {a0 : Option Nat} {a1 : Int32} {a2 : Int32} {h : Hp} {r : Int32 ⊕ Nat} {hf : Hp} (ho : sX2_seesSlope G N a0 a1 a2 h = some (r, hf)) : gMet G l yX2_seesSlope (ws_ yX2_seesSlope cX2_seesSlope 3 (some .boolean)) 3 71 [gr a0, gi a1, gi a2] h cvI r hf := by
  refine gMet.of ho hs (plainFor_of_name pn_X2) rfl rfl (gbl rfl) fun X => ?_
  show gT G l X mX2_seesSlope cvI r hf 0 [(0, gr a0), (1, gi a1), (2, gi a2)] [] h (sX2_seesSlope G N a0 a1 a2 h)
  delta sX2_seesSlope
  refine g_aload_n (pc := 0) (x := a0) 0 rfl rfl dX2_seesSlope_0 ?_
  refine g_iload_n (pc := 1) (x := a1) 1 rfl rfl dX2_seesSlope_1 ?_
  refine g_iload_n (pc := 2) (x := a2) 2 rfl rfl dX2_seesSlope_2 ?_
  refine g_bVi (pc := 3) (y := yX2_mayBoth) (ws := ws_ yX2_mayBoth cX2_mayBoth 3 (some .boolean)) (fr := 2) (lo := 45) (as := [gi a1, gi a2]) (st := []) (g_no) rfl (fun _ _ _ e => tX2_mayBoth hs e) (fun K _ _ _ hq hM R e1 e2 => g_runV (M := mX2_seesSlope) (pc := 3) (y := yX2_mayBoth) (bytes := cX2_mayBoth) (maxL := 3) (ret := (some .boolean)) (fr := 2) (lo := 45) (as := [gi a1, gi a2]) (st := []) hq (C := "FlareSlopesModel") rfl gy_X2_mayBoth (gbl rfl) (gbl rfl) (gbl rfl) q4316 q4318 qs104 dX2_seesSlope_3 K hM R e1 e2) fun v1 h2 => ?_
  refine g_join 28 (fun (x3 : Unit) => []) (fun (x3 : Unit) => []) (fun x3 h4 => ?_) (fun j5 Hj5 => ?_)
  · refine g_iconst (pc := 28) (v := (0 : Int32)) ic_0 dX2_seesSlope_28 ?_
    exact g_zreturn (pc := 29) rfl dX2_seesSlope_29
  refine g_if_eq (pc := 6) (tgt := 28) rfl dX2_seesSlope_6 ?_ ?_
  · exact g_sub [] rfl (Hj5 () h2)
  refine g_aload_n (pc := 9) (x := a0) 0 rfl rfl dX2_seesSlope_9 ?_
  refine g_iload_n (pc := 10) (x := a1) 1 rfl rfl dX2_seesSlope_10 ?_
  refine g_bi (pc := 11) (y := yX2_cabinAt) (ws := ws_ yX2_cabinAt cX2_cabinAt 1 (some .int)) (fr := 0) (lo := 0) (as := [gi a1]) (st := [gr a0]) (g_no) rfl (fun _ _ e => tX2_cabinAt hs e) (fun K _ _ hM R e1 e2 => g_runS (M := mX2_seesSlope) (pc := 11) (y := yX2_cabinAt) (bytes := cX2_cabinAt) (maxL := 1) (ret := (some .int)) (fr := 0) (lo := 0) (as := [gi a1]) (st := [gr a0]) gy_X2_cabinAt (gbl rfl) (gbl rfl) (gbl rfl) q4179 q4180 dX2_seesSlope_11 K hM R e1 e2) fun v6 h7 => ?_
  refine g_iload_n (pc := 14) (x := a2) 2 rfl rfl dX2_seesSlope_14 ?_
  refine g_bi (pc := 15) (y := yX2_slopeAt) (ws := ws_ yX2_slopeAt cX2_slopeAt 1 (some .int)) (fr := 0) (lo := 0) (as := [gi a2]) (st := [gi v6, gr a0]) (g_no) rfl (fun _ _ e => tX2_slopeAt hs e) (fun K _ _ hM R e1 e2 => g_runS (M := mX2_seesSlope) (pc := 15) (y := yX2_slopeAt) (bytes := cX2_slopeAt) (maxL := 1) (ret := (some .int)) (fr := 0) (lo := 0) (as := [gi a2]) (st := [gi v6, gr a0]) gy_X2_slopeAt (gbl rfl) (gbl rfl) (gbl rfl) q4230 q4231 dX2_seesSlope_15 K hM R e1 e2) fun v8 h9 => ?_
  refine g_bVi (pc := 18) (y := yX2_see) (ws := ws_ yX2_see cX2_see 6 (some .boolean)) (fr := 2) (lo := 46) (as := [gi v6, gi v8]) (st := []) (g_no) rfl (fun _ _ _ e => tX2_see hs e) (fun K _ _ _ hq hM R e1 e2 => g_runV (M := mX2_seesSlope) (pc := 18) (y := yX2_see) (bytes := cX2_see) (maxL := 6) (ret := (some .boolean)) (fr := 2) (lo := 46) (as := [gi v6, gi v8]) (st := []) hq (C := "FlareSlopesModel") rfl gy_X2_see (gbl rfl) (gbl rfl) (gbl rfl) q4182 q4184 qs82 dX2_seesSlope_18 K hM R e1 e2) fun v10 h11 => ?_
  refine g_if_eq (pc := 21) (tgt := 28) rfl dX2_seesSlope_21 ?_ ?_
  · exact g_sub [] rfl (Hj5 () h11)
  refine g_iconst (pc := 24) (v := (1 : Int32)) ic_1 dX2_seesSlope_24 ?_
  refine g_goto (pc := 25) (tgt := 29) rfl dX2_seesSlope_25 ?_
  exact g_zreturn (pc := 29) rfl dX2_seesSlope_29
/-! FlareSlopes.seers(I)I -/
noncomputable def sX1_seers (G : GG) (N : Nat) (a0 : Option Nat) (a1 : Int32) (h : Hp) : Out (Int32) :=
  bV h a0 3 (fun q7 => sX1_withCabin G N (some q7) a1 h) fun v1 h2 =>
  gFr h2 a0 3 4 fun v3 =>
  bV h2 v3 16 (fun q6 => sX3_seers G N (some q6) a1 h2) fun v4 h5 =>
  some (.inl v4, h5)
abbrev mX1_seers : MI := (RX1, cX1_seers, 3, (some .int), [], 9, 174, "seers")
theorem tX1_seers {G : GG} {l : Launch} (hs : l.stackTraces = false) {N : Nat} {a0 : Option Nat} {a1 : Int32} {h : Hp} {r : Int32 ⊕ Nat} {hf : Hp} (ho : sX1_seers G N a0 a1 h = some (r, hf)) : gMet G l yX1_seers (ws_ yX1_seers cX1_seers 3 (some .int)) 9 174 [gr a0, gi a1] h cvI r hf := by
  refine gMet.of ho hs (plainFor_of_name pn_X1) rfl rfl (gbl rfl) fun X => ?_
  show gT G l X mX1_seers cvI r hf 0 [(0, gr a0), (1, gi a1)] [] h (sX1_seers G N a0 a1 h)
  delta sX1_seers
  refine g_aload_n (pc := 0) (x := a0) 0 rfl rfl dX1_seers_0 ?_
  refine g_iload_n (pc := 1) (x := a1) 1 rfl rfl dX1_seers_1 ?_
  refine g_bVr (pc := 2) (y := yX1_withCabin) (ws := ws_ yX1_withCabin cX1_withCabin 2 (some (.object "FlareSlopes$Cabin"))) (fr := 8) (lo := 121) (as := [gi a1]) (st := []) (g_no) rfl (fun _ _ _ e => tX1_withCabin hs e) (fun K _ _ _ hq hM R e1 e2 => g_runV (M := mX1_seers) (pc := 2) (y := yX1_withCabin) (bytes := cX1_withCabin) (maxL := 2) (ret := (some (.object "FlareSlopes$Cabin"))) (fr := 8) (lo := 121) (as := [gi a1]) (st := []) hq (C := "FlareSlopes") rfl gy_X1_withCabin (gbl rfl) (gbl rfl) (gbl rfl) q1968 q1970 qs22 dX1_seers_2 K hM R e1 e2) fun v1 h2 => ?_
  refine g_astore_n (pc := 5) (lv' := [(0, gr a0), (1, gi a1)]) [1, 2] rfl rfl (gblt rfl) dX1_seers_5 ?_
  refine g_aload_n (pc := 6) (x := a0) 0 rfl rfl dX1_seers_6 ?_
  refine g_getfr (pc := 7) k_3 (gblt rfl) lk_X1_56_3 dX1_seers_7 fun v3 => ?_
  refine g_iload_n (pc := 10) (x := a1) 1 rfl rfl dX1_seers_10 ?_
  refine g_bVi (pc := 11) (y := yX3_seers) (ws := ws_ yX3_seers cX3_seers 4 (some .int)) (fr := 7) (lo := 151) (as := [gi a1]) (st := []) (g_no) rfl (fun _ _ _ e => tX3_seers hs e) (fun K _ _ _ hq hM R e1 e2 => g_runV (M := mX1_seers) (pc := 11) (y := yX3_seers) (bytes := cX3_seers) (maxL := 4) (ret := (some .int)) (fr := 7) (lo := 151) (as := [gi a1]) (st := []) hq (C := "FlareSlopes$State") rfl gy_X3_seers (gbl rfl) (gbl rfl) (gbl rfl) q1629 q1630 q1631 dX1_seers_11 K hM R e1 e2) fun v4 h5 => ?_
  exact g_ireturn (pc := 14) rfl dX1_seers_14
/-! FlareSlopesLaw.seers(LFlareSlopes;I[J)I -/
noncomputable def sX0_seers (G : GG) (N : Nat) (a0 : Option Nat) (a1 : Int32) (a2 : Option Nat) (h : Hp) : Out (Int32) :=
  bVX h a0 3 (fun q4 => sX1_seers G N (some q4) a1 h) (fun v1 h2 =>
  gSl G h2 a2 3 (0 : Int32) (v1.toInt64) fun h3 =>
  some (.inl (0 : Int32), h3)) fun q5 h6 =>
  gSw h6 (some q5) 0 (some (.inl (1 : Int32), h6)) (gSw h6 (some q5) 2 (some (.inl (2 : Int32), h6)) (none))
abbrev mX0_seers : MI := (RX0, cX0_seers, 4, (some .int), [(0, 9, 12, 21), (0, 9, 15, 13)], 10, 196, "seers")
theorem tX0_seers {G : GG} {l : Launch} (hs : l.stackTraces = false) {N : Nat} {a0 : Option Nat} {a1 : Int32} {a2 : Option Nat} {h : Hp} {r : Int32 ⊕ Nat} {hf : Hp} (ho : sX0_seers G N a0 a1 a2 h = some (r, hf)) : gMet G l yX0_seers (wsW_ yX0_seers cX0_seers 4 (some .int) [(0, 9, 12, 21), (0, 9, 15, 13)]) 10 196 [gr a0, gi a1, gr a2] h cvI r hf := by
  refine gMet.ofW ho hs (plainFor_of_name pn_X0) rfl rfl (gbl rfl) fun X => ?_
  show gT G l X mX0_seers cvI r hf 0 [(0, gr a0), (1, gi a1), (2, gr a2)] [] h (sX0_seers G N a0 a1 a2 h)
  delta sX0_seers
  refine g_aload_n (pc := 0) (x := a2) 2 rfl rfl dX0_seers_0 ?_
  refine g_iconst (pc := 1) (v := (0 : Int32)) ic_0 dX0_seers_1 ?_
  refine g_aload_n (pc := 2) (x := a0) 0 rfl rfl dX0_seers_2 ?_
  refine g_iload_n (pc := 3) (x := a1) 1 rfl rfl dX0_seers_3 ?_
  refine g_bVXi (pc := 4) (y := yX1_seers) (ws := ws_ yX1_seers cX1_seers 3 (some .int)) (fr := 9) (lo := 174) (as := [gi a1]) (st := [gi (0 : Int32), gr a2]) rfl (fun _ _ _ e => tX1_seers hs e) (fun K _ _ _ hq hM R e1 e2 => g_runV (M := mX0_seers) (pc := 4) (y := yX1_seers) (bytes := cX1_seers) (maxL := 3) (ret := (some .int)) (fr := 9) (lo := 174) (as := [gi a1]) (st := [gi (0 : Int32), gr a2]) hq (C := "FlareSlopes") rfl gy_X1_seers (gbl rfl) (gbl rfl) (gbl rfl) q3148 q3149 q3150 dX0_seers_4 K hM R e1 e2) (fun v1 h2 => ?_) (fun q5 h6 => ?_)
  · refine g_i2l (pc := 7) dX0_seers_7 ?_
    refine g_lastore (pc := 8) rfl dX0_seers_8 fun h3 => ?_
    refine g_goto (pc := 9) (tgt := 18) rfl dX0_seers_9 ?_
    refine g_iconst (pc := 18) (v := (0 : Int32)) ic_0 dX0_seers_18 ?_
    exact g_ireturn (pc := 19) rfl dX0_seers_19
  refine g_catch (E := "java/lang/IllegalStateException") [] ⟨0, 9, 12, 21⟩ [⟨0, 9, 15, 13⟩] rfl rfl (List.forall_mem_nil _) (by decide +kernel) (by decide +kernel) q1425 q1439 ?_ ?_
  · refine g_astore_n (pc := 12) (lv' := []) [] rfl rfl (gblt rfl) dX0_seers_12 ?_
    refine g_iconst (pc := 13) (v := (1 : Int32)) ic_1 dX0_seers_13 ?_
    exact g_ireturn (pc := 14) rfl dX0_seers_14
  refine g_catch (E := "java/lang/IndexOutOfBoundsException") [⟨0, 9, 12, 21⟩] ⟨0, 9, 15, 13⟩ [] rfl rfl (List.forall_mem_cons.mpr ⟨Or.inr ⟨by decide +kernel, _, q1425, ncl_java_lang_IndexOutOfBoundsException_java_lang_IllegalStateException⟩, List.forall_mem_nil _⟩) (by decide +kernel) (by decide +kernel) q325 q418 ?_ ?_
  · refine g_astore_n (pc := 15) (lv' := []) [] rfl rfl (gblt rfl) dX0_seers_15 ?_
    refine g_iconst (pc := 16) (v := (2 : Int32)) ic_2 dX0_seers_16 ?_
    exact g_ireturn (pc := 17) rfl dX0_seers_17
  exact g_noneX
/-! FlareSlopesModel.mayCabin(I)Z -/
noncomputable def sX2_mayCabin (G : GG) (N : Nat) (a0 : Option Nat) (a1 : Int32) (h : Hp) : Out (Int32) :=
  gFi h a0 18 8 fun v1 =>
  bV h a0 18 (fun q7 => sX2_isCabin G N (some q7) a1 h) fun v2 h3 =>
  bV h3 a0 18 (fun q6 => sX2_mayTwo G N (some q6) v1 v2 h3) fun v4 h5 =>
  gRtZ v4 h5
abbrev mX2_mayCabin : MI := (RX2, cX2_mayCabin, 2, (some .boolean), [], 2, 45, "mayCabin")
theorem tX2_mayCabin {G : GG} {l : Launch} (hs : l.stackTraces = false) {N : Nat} {a0 : Option Nat} {a1 : Int32} {h : Hp} {r : Int32 ⊕ Nat} {hf : Hp} (ho : sX2_mayCabin G N a0 a1 h = some (r, hf)) : gMet G l yX2_mayCabin (ws_ yX2_mayCabin cX2_mayCabin 2 (some .boolean)) 2 45 [gr a0, gi a1] h cvI r hf := by
  refine gMet.of ho hs (plainFor_of_name pn_X2) rfl rfl (gbl rfl) fun X => ?_
  show gT G l X mX2_mayCabin cvI r hf 0 [(0, gr a0), (1, gi a1)] [] h (sX2_mayCabin G N a0 a1 h)
  delta sX2_mayCabin
  refine g_aload_n (pc := 0) (x := a0) 0 rfl rfl dX2_mayCabin_0 ?_
  refine g_aload_n (pc := 1) (x := a0) 0 rfl rfl dX2_mayCabin_1 ?_
  refine g_getfi (pc := 2) k_18 (gblt rfl) lk_X2_184_18 dX2_mayCabin_2 fun v1 => ?_
  refine g_aload_n (pc := 5) (x := a0) 0 rfl rfl dX2_mayCabin_5 ?_
  refine g_iload_n (pc := 6) (x := a1) 1 rfl rfl dX2_mayCabin_6 ?_
  refine g_bVi (pc := 7) (y := yX2_isCabin) (ws := ws_ yX2_isCabin cX2_isCabin 2 (some .boolean)) (fr := 1) (lo := 22) (as := [gi a1]) (st := [gi v1, gr a0]) (g_no) rfl (fun _ _ _ e => tX2_isCabin hs e) (fun K _ _ _ hq hM R e1 e2 => g_runV (M := mX2_mayCabin) (pc := 7) (y := yX2_isCabin) (bytes := cX2_isCabin) (maxL := 2) (ret := (some .boolean)) (fr := 1) (lo := 22) (as := [gi a1]) (st := [gi v1, gr a0]) hq (C := "FlareSlopesModel") rfl gy_X2_isCabin (gbl rfl) (gbl rfl) (gbl rfl) q4214 q4216 qs87 dX2_mayCabin_7 K hM R e1 e2) fun v2 h3 => ?_
  refine g_bVi (pc := 10) (y := yX2_mayTwo) (ws := ws_ yX2_mayTwo cX2_mayTwo 3 (some .boolean)) (fr := 1) (lo := 23) (as := [gi v1, gi v2]) (st := []) (g_no) rfl (fun _ _ _ e => tX2_mayTwo hs e) (fun K _ _ _ hq hM R e1 e2 => g_runV (M := mX2_mayCabin) (pc := 10) (y := yX2_mayTwo) (bytes := cX2_mayTwo) (maxL := 3) (ret := (some .boolean)) (fr := 1) (lo := 23) (as := [gi v1, gi v2]) (st := []) hq (C := "FlareSlopesModel") rfl gy_X2_mayTwo (gbl rfl) (gbl rfl) (gbl rfl) q4145 q4147 qs76 dX2_mayCabin_10 K hM R e1 e2) fun v4 h5 => ?_
  exact g_zreturn (pc := 13) rfl dX2_mayCabin_13
/-! FlareSlopesModel.seen(I)I -/
noncomputable def bX2_seen_4 (G : GG) (N : Nat) (a0 : Option Nat) (a1 : Int32) (w3 : (Int32 × Int32) → Hp → Out (Int32)) (x1 : Int32 × Int32) (h2 : Hp) : Out (Int32) :=
  gFr h2 a0 18 1 fun v4 =>
  gAi h2 v4 0 (6 : Int32) fun v5 =>
  if v5 ≤ x1.2 then (some (.inl x1.1, h2))
  else bV h2 a0 18 (fun q12 => sX2_seeOneAnother G N (some q12) a1 x1.2 h2) fun v6 h7 =>
  gJ (fun (x8 : Int32) (h9 : Hp) =>
  gLet (x1.1 ||| x8) fun v11 =>
  w3 (v11, x1.2 + (1 : Int32)) h9) fun j10 =>
  if v6 = 0 then (j10 (0 : Int32) h7)
  else j10 ((1 : Int32) <<< (x1.2 &&& 31)) h7
noncomputable def sX2_seen (G : GG) (N : Nat) (a0 : Option Nat) (a1 : Int32) (h : Hp) : Out (Int32) :=
  gLp (bX2_seen_4 G N a0 a1) N ((0 : Int32), (0 : Int32)) h
abbrev mX2_seen : MI := (RX2, cX2_seen, 4, (some .int), [], 4, 93, "seen")
theorem tX2_seen {G : GG} {l : Launch} (hs : l.stackTraces = false) {N : Nat} {a0 : Option Nat} {a1 : Int32} {h : Hp} {r : Int32 ⊕ Nat} {hf : Hp} (ho : sX2_seen G N a0 a1 h = some (r, hf)) : gMet G l yX2_seen (ws_ yX2_seen cX2_seen 4 (some .int)) 4 93 [gr a0, gi a1] h cvI r hf := by
  refine gMet.of ho hs (plainFor_of_name pn_X2) rfl rfl (gbl rfl) fun X => ?_
  show gT G l X mX2_seen cvI r hf 0 [(0, gr a0), (1, gi a1)] [] h (sX2_seen G N a0 a1 h)
  delta sX2_seen
  refine g_iconst (pc := 0) (v := (0 : Int32)) ic_0 dX2_seen_0 ?_
  refine g_istore_n (pc := 1) (lv' := [(2, gi (0 : Int32)), (0, gr a0), (1, gi a1)]) [0, 1, 2] rfl rfl (gblt rfl) dX2_seen_1 ?_
  refine g_iconst (pc := 2) (v := (0 : Int32)) ic_0 dX2_seen_2 ?_
  refine g_istore_n (pc := 3) (lv' := [(3, gi (0 : Int32)), (2, gi (0 : Int32)), (0, gr a0), (1, gi a1)]) [0, 1, 2, 3] rfl rfl (gblt rfl) dX2_seen_3 ?_
  refine g_sub (lv' := [(0, gr a0), (1, gi a1), (2, gi (0 : Int32)), (3, gi (0 : Int32))]) [2, 3, 1, 0] rfl ?_
  refine g_loop (pc := 4) (fun (x1 : Int32 × Int32) => [(0, gr a0), (1, gi a1), (2, gi x1.1), (3, gi x1.2)]) (fun (_ : Int32 × Int32) => []) (fun w3 Hw3 x1 h2 => ?_) N ((0 : Int32), (0 : Int32)) h
  delta bX2_seen_4
  refine g_iload_n (pc := 4) (x := x1.2) 3 rfl rfl dX2_seen_4 ?_
  refine g_aload_n (pc := 5) (x := a0) 0 rfl rfl dX2_seen_5 ?_
  refine g_getfr (pc := 6) k_18 (gblt rfl) lk_X2_9_18 dX2_seen_6 fun v4 => ?_
  refine g_bipush (pc := 9) (v := (6 : Int32)) bc_6 dX2_seen_9 ?_
  refine g_iaload (pc := 11) rfl dX2_seen_11 fun v5 => ?_
  refine g_icmp_ge (pc := 12) (tgt := 40) rfl dX2_seen_12 ?_ ?_
  · refine g_iload_n (pc := 40) (x := x1.1) 2 rfl rfl dX2_seen_40 ?_
    exact g_ireturn (pc := 41) rfl dX2_seen_41
  refine g_iload_n (pc := 15) (x := x1.1) 2 rfl rfl dX2_seen_15 ?_
  refine g_aload_n (pc := 16) (x := a0) 0 rfl rfl dX2_seen_16 ?_
  refine g_iload_n (pc := 17) (x := a1) 1 rfl rfl dX2_seen_17 ?_
  refine g_iload_n (pc := 18) (x := x1.2) 3 rfl rfl dX2_seen_18 ?_
  refine g_bVi (pc := 19) (y := yX2_seeOneAnother) (ws := ws_ yX2_seeOneAnother cX2_seeOneAnother 3 (some .boolean)) (fr := 3) (lo := 71) (as := [gi a1, gi x1.2]) (st := [gi x1.1]) (g_no) rfl (fun _ _ _ e => tX2_seeOneAnother hs e) (fun K _ _ _ hq hM R e1 e2 => g_runV (M := mX2_seen) (pc := 19) (y := yX2_seeOneAnother) (bytes := cX2_seeOneAnother) (maxL := 3) (ret := (some .boolean)) (fr := 3) (lo := 71) (as := [gi a1, gi x1.2]) (st := [gi x1.1]) hq (C := "FlareSlopesModel") rfl gy_X2_seeOneAnother (gbl rfl) (gbl rfl) (gbl rfl) q4175 q4177 qs81 dX2_seen_19 K hM R e1 e2) fun v6 h7 => ?_
  refine g_join 32 (fun (x8 : Int32) => [(0, gr a0), (1, gi a1), (3, gi x1.2)]) (fun (x8 : Int32) => [gi x8, gi x1.1]) (fun x8 h9 => ?_) (fun j10 Hj10 => ?_)
  · refine g_ior (pc := 32) dX2_seen_32 ?_
    refine g_leti fun v11 => ?_
    refine g_istore_n (pc := 33) (lv' := [(2, gi v11), (0, gr a0), (1, gi a1), (3, gi x1.2)]) [0, 1, 2, 3] rfl rfl (gblt rfl) dX2_seen_33 ?_
    refine g_iinc (pc := 34) (v := x1.2 + (1 : Int32)) 3 rfl (ii_1 _) (lv' := [(3, gi (x1.2 + (1 : Int32))), (2, gi v11), (0, gr a0), (1, gi a1)]) [0, 1, 2, 3] rfl (gblt rfl) dX2_seen_34 ?_
    refine g_goto (pc := 37) (tgt := 4) rfl dX2_seen_37 ?_
    exact g_sub [2, 3, 1, 0] rfl (Hw3 (v11, x1.2 + (1 : Int32)) h9)
  refine g_if_eq (pc := 22) (tgt := 31) rfl dX2_seen_22 ?_ ?_
  · refine g_iconst (pc := 31) (v := (0 : Int32)) ic_0 dX2_seen_31 ?_
    exact g_sub [0, 1, 3] rfl (Hj10 (0 : Int32) h7)
  refine g_iconst (pc := 25) (v := (1 : Int32)) ic_1 dX2_seen_25 ?_
  refine g_iload_n (pc := 26) (x := x1.2) 3 rfl rfl dX2_seen_26 ?_
  refine g_ishl (pc := 27) dX2_seen_27 ?_
  refine g_goto (pc := 28) (tgt := 32) rfl dX2_seen_28 ?_
  exact g_sub [0, 1, 3] rfl (Hj10 ((1 : Int32) <<< (x1.2 &&& 31)) h7)
/-! FlareSlopesModel.seers(I)I -/
noncomputable def sX2_seers (G : GG) (N : Nat) (a0 : Option Nat) (a1 : Int32) (h : Hp) : Out (Int32) :=
  bV h a0 18 (fun q6 => sX2_mayCabin G N (some q6) a1 h) fun v1 h2 =>
  if v1 = 0 then (some (.inl (0 : Int32), h2))
  else bV h2 a0 18 (fun q5 => sX2_seen G N (some q5) a1 h2) fun v3 h4 =>
  some (.inl v3, h4)
abbrev mX2_seers : MI := (RX2, cX2_seers, 2, (some .int), [], 5, 116, "seers")
theorem tX2_seers {G : GG} {l : Launch} (hs : l.stackTraces = false) {N : Nat} {a0 : Option Nat} {a1 : Int32} {h : Hp} {r : Int32 ⊕ Nat} {hf : Hp} (ho : sX2_seers G N a0 a1 h = some (r, hf)) : gMet G l yX2_seers (ws_ yX2_seers cX2_seers 2 (some .int)) 5 116 [gr a0, gi a1] h cvI r hf := by
  refine gMet.of ho hs (plainFor_of_name pn_X2) rfl rfl (gbl rfl) fun X => ?_
  show gT G l X mX2_seers cvI r hf 0 [(0, gr a0), (1, gi a1)] [] h (sX2_seers G N a0 a1 h)
  delta sX2_seers
  refine g_aload_n (pc := 0) (x := a0) 0 rfl rfl dX2_seers_0 ?_
  refine g_iload_n (pc := 1) (x := a1) 1 rfl rfl dX2_seers_1 ?_
  refine g_bVi (pc := 2) (y := yX2_mayCabin) (ws := ws_ yX2_mayCabin cX2_mayCabin 2 (some .boolean)) (fr := 2) (lo := 45) (as := [gi a1]) (st := []) (g_no) rfl (fun _ _ _ e => tX2_mayCabin hs e) (fun K _ _ _ hq hM R e1 e2 => g_runV (M := mX2_seers) (pc := 2) (y := yX2_mayCabin) (bytes := cX2_mayCabin) (maxL := 2) (ret := (some .boolean)) (fr := 2) (lo := 45) (as := [gi a1]) (st := []) hq (C := "FlareSlopesModel") rfl gy_X2_mayCabin (gbl rfl) (gbl rfl) (gbl rfl) q4324 q4326 qs105 dX2_seers_2 K hM R e1 e2) fun v1 h2 => ?_
  refine g_if_eq (pc := 5) (tgt := 16) rfl dX2_seers_5 ?_ ?_
  · refine g_iconst (pc := 16) (v := (0 : Int32)) ic_0 dX2_seers_16 ?_
    exact g_ireturn (pc := 17) rfl dX2_seers_17
  refine g_aload_n (pc := 8) (x := a0) 0 rfl rfl dX2_seers_8 ?_
  refine g_iload_n (pc := 9) (x := a1) 1 rfl rfl dX2_seers_9 ?_
  refine g_bVi (pc := 10) (y := yX2_seen) (ws := ws_ yX2_seen cX2_seen 4 (some .int)) (fr := 4) (lo := 93) (as := [gi a1]) (st := []) (g_no) rfl (fun _ _ _ e => tX2_seen hs e) (fun K _ _ _ hq hM R e1 e2 => g_runV (M := mX2_seers) (pc := 10) (y := yX2_seen) (bytes := cX2_seen) (maxL := 4) (ret := (some .int)) (fr := 4) (lo := 93) (as := [gi a1]) (st := []) hq (C := "FlareSlopesModel") rfl gy_X2_seen (gbl rfl) (gbl rfl) (gbl rfl) q4328 q4330 qs106 dX2_seers_10 K hM R e1 e2) fun v3 h4 => ?_
  refine g_goto (pc := 13) (tgt := 17) rfl dX2_seers_13 ?_
  exact g_ireturn (pc := 17) rfl dX2_seers_17
/-! FlareSlopes.distance(II)I -/
noncomputable def sX1_distance (G : GG) (N : Nat) (a0 : Option Nat) (a1 : Int32) (a2 : Int32) (h : Hp) : Out (Int32) :=
  bV h a0 3 (fun q10 => sX1_withBoth G N (some q10) a1 a2 h) fun v1 h2 =>
  gFr h2 a0 3 4 fun v3 =>
  bV h2 v3 16 (fun q9 => sX3_slope G N (some q9) a2 h2) fun v4 h5 =>
  bV h5 v1 7 (fun q8 => sX13_distance_c7 G N (some q8) v4 h5) fun v6 h7 =>
  some (.inl v6, h7)
abbrev mX1_distance : MI := (RX1, cX1_distance, 3, (some .int), [], 10, 165, "distance")
theorem tX1_distance {G : GG} {l : Launch} (hs : l.stackTraces = false) {N : Nat} {a0 : Option Nat} {a1 : Int32} {a2 : Int32} {h : Hp} {r : Int32 ⊕ Nat} {hf : Hp} (ho : sX1_distance G N a0 a1 a2 h = some (r, hf)) : gMet G l yX1_distance (ws_ yX1_distance cX1_distance 3 (some .int)) 10 165 [gr a0, gi a1, gi a2] h cvI r hf := by
  refine gMet.of ho hs (plainFor_of_name pn_X1) rfl rfl (gbl rfl) fun X => ?_
  show gT G l X mX1_distance cvI r hf 0 [(0, gr a0), (1, gi a1), (2, gi a2)] [] h (sX1_distance G N a0 a1 a2 h)
  delta sX1_distance
  refine g_aload_n (pc := 0) (x := a0) 0 rfl rfl dX1_distance_0 ?_
  refine g_iload_n (pc := 1) (x := a1) 1 rfl rfl dX1_distance_1 ?_
  refine g_iload_n (pc := 2) (x := a2) 2 rfl rfl dX1_distance_2 ?_
  refine g_bVr (pc := 3) (y := yX1_withBoth) (ws := ws_ yX1_withBoth cX1_withBoth 4 (some (.object "FlareSlopes$Cabin"))) (fr := 9) (lo := 142) (as := [gi a1, gi a2]) (st := []) (g_no) rfl (fun _ _ _ e => tX1_withBoth hs e) (fun K _ _ _ hq hM R e1 e2 => g_runV (M := mX1_distance) (pc := 3) (y := yX1_withBoth) (bytes := cX1_withBoth) (maxL := 4) (ret := (some (.object "FlareSlopes$Cabin"))) (fr := 9) (lo := 142) (as := [gi a1, gi a2]) (st := []) hq (C := "FlareSlopes") rfl gy_X1_withBoth (gbl rfl) (gbl rfl) (gbl rfl) q3141 q3143 qs45 dX1_distance_3 K hM R e1 e2) fun v1 h2 => ?_
  refine g_aload_n (pc := 6) (x := a0) 0 rfl rfl dX1_distance_6 ?_
  refine g_getfr (pc := 7) k_3 (gblt rfl) lk_X1_56_3 dX1_distance_7 fun v3 => ?_
  refine g_iload_n (pc := 10) (x := a2) 2 rfl rfl dX1_distance_10 ?_
  refine g_bVr (pc := 11) (y := yX3_slope) (ws := ws_ yX3_slope cX3_slope 2 (some (.object "FlareSlopes$Spot"))) (fr := 4) (lo := 85) (as := [gi a2]) (st := [gr v1]) (g_no) rfl (fun _ _ _ e => tX3_slope hs e) (fun K _ _ _ hq hM R e1 e2 => g_runV (M := mX1_distance) (pc := 11) (y := yX3_slope) (bytes := cX3_slope) (maxL := 2) (ret := (some (.object "FlareSlopes$Spot"))) (fr := 4) (lo := 85) (as := [gi a2]) (st := [gr v1]) hq (C := "FlareSlopes$State") rfl gy_X3_slope (gbl rfl) (gbl rfl) (gbl rfl) q3048 q2354 q2355 dX1_distance_11 K hM R e1 e2) fun v4 h5 => ?_
  refine g_bVi (pc := 14) (y := yX13_distance) (ws := ws_ yX13_distance cX13_distance 2 (some .int)) (fr := 1) (lo := 20) (as := [gr v4]) (st := []) (g_no) rfl (fun _ _ _ e => tX13_distance_c7 hs e) (fun K _ _ _ hq hM R e1 e2 => g_runUD (x := ⟨"FlareSlopes$Cabin", "distance", "(LFlareSlopes$Located;)I"⟩) (owner := "FlareSlopes$Located") (M := mX1_distance) (pc := 14) (y := yX13_distance) (bytes := cX13_distance) (maxL := 2) (ret := (some .int)) (fr := 1) (lo := 20) (as := [gr v4]) (st := []) hq (C := "FlareSlopes$Cabin") rfl gy_X13_distance (gbl rfl) (gbl rfl) (gbl rfl) rfl rfl hdl_X1_376 hdl_same mhx_Loc hdf_distance q3090 dX1_distance_14 K hM R e1 e2) fun v6 h7 => ?_
  exact g_ireturn (pc := 17) rfl dX1_distance_17
/-! FlareSlopesLaw.distance(LFlareSlopes;II[J)I -/
noncomputable def sX0_distance (G : GG) (N : Nat) (a0 : Option Nat) (a1 : Int32) (a2 : Int32) (a3 : Option Nat) (h : Hp) : Out (Int32) :=
  bVX h a0 3 (fun q4 => sX1_distance G N (some q4) a1 a2 h) (fun v1 h2 =>
  gSl G h2 a3 3 (0 : Int32) (v1.toInt64) fun h3 =>
  some (.inl (0 : Int32), h3)) fun q5 h6 =>
  gSw h6 (some q5) 0 (some (.inl (1 : Int32), h6)) (gSw h6 (some q5) 2 (some (.inl (2 : Int32), h6)) (none))
abbrev mX0_distance : MI := (RX0, cX0_distance, 5, (some .int), [(0, 10, 13, 21), (0, 10, 17, 13)], 11, 187, "distance")
theorem tX0_distance {G : GG} {l : Launch} (hs : l.stackTraces = false) {N : Nat} {a0 : Option Nat} {a1 : Int32} {a2 : Int32} {a3 : Option Nat} {h : Hp} {r : Int32 ⊕ Nat} {hf : Hp} (ho : sX0_distance G N a0 a1 a2 a3 h = some (r, hf)) : gMet G l yX0_distance (wsW_ yX0_distance cX0_distance 5 (some .int) [(0, 10, 13, 21), (0, 10, 17, 13)]) 11 187 [gr a0, gi a1, gi a2, gr a3] h cvI r hf := by
  refine gMet.ofW ho hs (plainFor_of_name pn_X0) rfl rfl (gbl rfl) fun X => ?_
  show gT G l X mX0_distance cvI r hf 0 [(0, gr a0), (1, gi a1), (2, gi a2), (3, gr a3)] [] h (sX0_distance G N a0 a1 a2 a3 h)
  delta sX0_distance
  refine g_aload_n (pc := 0) (x := a3) 3 rfl rfl dX0_distance_0 ?_
  refine g_iconst (pc := 1) (v := (0 : Int32)) ic_0 dX0_distance_1 ?_
  refine g_aload_n (pc := 2) (x := a0) 0 rfl rfl dX0_distance_2 ?_
  refine g_iload_n (pc := 3) (x := a1) 1 rfl rfl dX0_distance_3 ?_
  refine g_iload_n (pc := 4) (x := a2) 2 rfl rfl dX0_distance_4 ?_
  refine g_bVXi (pc := 5) (y := yX1_distance) (ws := ws_ yX1_distance cX1_distance 3 (some .int)) (fr := 10) (lo := 165) (as := [gi a1, gi a2]) (st := [gi (0 : Int32), gr a3]) rfl (fun _ _ _ e => tX1_distance hs e) (fun K _ _ _ hq hM R e1 e2 => g_runV (M := mX0_distance) (pc := 5) (y := yX1_distance) (bytes := cX1_distance) (maxL := 3) (ret := (some .int)) (fr := 10) (lo := 165) (as := [gi a1, gi a2]) (st := [gi (0 : Int32), gr a3]) hq (C := "FlareSlopes") rfl gy_X1_distance (gbl rfl) (gbl rfl) (gbl rfl) q3155 q3156 q3157 dX0_distance_5 K hM R e1 e2) (fun v1 h2 => ?_) (fun q5 h6 => ?_)
  · refine g_i2l (pc := 8) dX0_distance_8 ?_
    refine g_lastore (pc := 9) rfl dX0_distance_9 fun h3 => ?_
    refine g_goto (pc := 10) (tgt := 21) rfl dX0_distance_10 ?_
    refine g_iconst (pc := 21) (v := (0 : Int32)) ic_0 dX0_distance_21 ?_
    exact g_ireturn (pc := 22) rfl dX0_distance_22
  refine g_catch (E := "java/lang/IllegalStateException") [] ⟨0, 10, 13, 21⟩ [⟨0, 10, 17, 13⟩] rfl rfl (List.forall_mem_nil _) (by decide +kernel) (by decide +kernel) q1425 q1439 ?_ ?_
  · refine g_astore (pc := 13) (lv' := []) [] rfl (gblt rfl) dX0_distance_13 ?_
    refine g_iconst (pc := 15) (v := (1 : Int32)) ic_1 dX0_distance_15 ?_
    exact g_ireturn (pc := 16) rfl dX0_distance_16
  refine g_catch (E := "java/lang/IndexOutOfBoundsException") [⟨0, 10, 13, 21⟩] ⟨0, 10, 17, 13⟩ [] rfl rfl (List.forall_mem_cons.mpr ⟨Or.inr ⟨by decide +kernel, _, q1425, ncl_java_lang_IndexOutOfBoundsException_java_lang_IllegalStateException⟩, List.forall_mem_nil _⟩) (by decide +kernel) (by decide +kernel) q325 q418 ?_ ?_
  · refine g_astore (pc := 17) (lv' := []) [] rfl (gblt rfl) dX0_distance_17 ?_
    refine g_iconst (pc := 19) (v := (2 : Int32)) ic_2 dX0_distance_19 ?_
    exact g_ireturn (pc := 20) rfl dX0_distance_20
  exact g_noneX
/-! FlareSlopesModel.distance(II)I -/
noncomputable def sX2_distance (G : GG) (N : Nat) (a0 : Option Nat) (a1 : Int32) (a2 : Int32) (h : Hp) : Out (Int32) :=
  bV h a0 18 (fun q6 => sX2_mayBoth G N (some q6) a1 a2 h) fun v1 h2 =>
  if v1 = 0 then (some (.inl (0 : Int32), h2))
  else bV h2 a0 18 (fun q5 => sX2_far G N (some q5) a1 a2 h2) fun v3 h4 =>
  some (.inl v3, h4)
abbrev mX2_distance : MI := (RX2, cX2_distance, 3, (some .int), [], 3, 67, "distance")
theorem tX2_distance {G : GG} {l : Launch} (hs : l.stackTraces = false) {N : Nat} {a0 : Option Nat} {a1 : Int32} {a2 : Int32} {h : Hp} {r : Int32 ⊕ Nat} {hf : Hp} (ho : sX2_distance G N a0 a1 a2 h = some (r, hf)) : gMet G l yX2_distance (ws_ yX2_distance cX2_distance 3 (some .int)) 3 67 [gr a0, gi a1, gi a2] h cvI r hf := by
  refine gMet.of ho hs (plainFor_of_name pn_X2) rfl rfl (gbl rfl) fun X => ?_
  show gT G l X mX2_distance cvI r hf 0 [(0, gr a0), (1, gi a1), (2, gi a2)] [] h (sX2_distance G N a0 a1 a2 h)
  delta sX2_distance
  refine g_aload_n (pc := 0) (x := a0) 0 rfl rfl dX2_distance_0 ?_
  refine g_iload_n (pc := 1) (x := a1) 1 rfl rfl dX2_distance_1 ?_
  refine g_iload_n (pc := 2) (x := a2) 2 rfl rfl dX2_distance_2 ?_
  refine g_bVi (pc := 3) (y := yX2_mayBoth) (ws := ws_ yX2_mayBoth cX2_mayBoth 3 (some .boolean)) (fr := 2) (lo := 45) (as := [gi a1, gi a2]) (st := []) (g_no) rfl (fun _ _ _ e => tX2_mayBoth hs e) (fun K _ _ _ hq hM R e1 e2 => g_runV (M := mX2_distance) (pc := 3) (y := yX2_mayBoth) (bytes := cX2_mayBoth) (maxL := 3) (ret := (some .boolean)) (fr := 2) (lo := 45) (as := [gi a1, gi a2]) (st := []) hq (C := "FlareSlopesModel") rfl gy_X2_mayBoth (gbl rfl) (gbl rfl) (gbl rfl) q4316 q4318 qs104 dX2_distance_3 K hM R e1 e2) fun v1 h2 => ?_
  refine g_if_eq (pc := 6) (tgt := 18) rfl dX2_distance_6 ?_ ?_
  · refine g_iconst (pc := 18) (v := (0 : Int32)) ic_0 dX2_distance_18 ?_
    exact g_ireturn (pc := 19) rfl dX2_distance_19
  refine g_aload_n (pc := 9) (x := a0) 0 rfl rfl dX2_distance_9 ?_
  refine g_iload_n (pc := 10) (x := a1) 1 rfl rfl dX2_distance_10 ?_
  refine g_iload_n (pc := 11) (x := a2) 2 rfl rfl dX2_distance_11 ?_
  refine g_bVi (pc := 12) (y := yX2_far) (ws := ws_ yX2_far cX2_far 3 (some .int)) (fr := 1) (lo := 20) (as := [gi a1, gi a2]) (st := []) (g_no) rfl (fun _ _ _ e => tX2_far hs e) (fun K _ _ _ hq hM R e1 e2 => g_runV (M := mX2_distance) (pc := 12) (y := yX2_far) (bytes := cX2_far) (maxL := 3) (ret := (some .int)) (fr := 1) (lo := 20) (as := [gi a1, gi a2]) (st := []) hq (C := "FlareSlopesModel") rfl gy_X2_far (gbl rfl) (gbl rfl) (gbl rfl) q4283 q4285 qs101 dX2_distance_12 K hM R e1 e2) fun v3 h4 => ?_
  refine g_goto (pc := 15) (tgt := 19) rfl dX2_distance_15 ?_
  exact g_ireturn (pc := 19) rfl dX2_distance_19
/-! FlareSlopes$State.reached(II)I -/
noncomputable def bX3_reached_19 (G : GG) (N : Nat) (a0 : Option Nat) (x2 : Int32 × Int32) (j7 : (Int32) → Hp → Out (Int32)) (w10 : (Int32 × Int32) → Hp → Out (Int32)) (x8 : Int32 × Int32) (h9 : Hp) : Out (Int32) :=
  bV h9 a0 16 (fun q22 => sX3_size G N (some q22) h9) fun v11 h12 =>
  if v11 ≤ x8.2 then (j7 x8.1 h12)
  else bnd (sX1_has G N x2.1 x8.2 h12) fun v13 h14 =>
  gJ (fun (x15 : Int32) (h16 : Hp) =>
  w10 (x15, x8.2 + (1 : Int32)) h16) fun j17 =>
  if v13 = 0 then (j17 x8.1 h14)
  else bV h14 a0 16 (fun q21 => sX3_seers G N (some q21) x8.2 h14) fun v18 h19 =>
  gLet (x8.1 ||| v18) fun v20 =>
  j17 v20 h19
noncomputable def bX3_reached_7 (G : GG) (N : Nat) (a0 : Option Nat) (a2 : Int32) (w4 : (Int32 × Int32) → Hp → Out (Int32)) (x2 : Int32 × Int32) (h3 : Hp) : Out (Int32) :=
  if a2 ≤ x2.2 then (some (.inl x2.1, h3))
  else gJ (fun (x5 : Int32) (h6 : Hp) =>
  if x5 = x2.1 then (some (.inl x5, h6))
  else w4 (x5, x2.2 + (1 : Int32)) h6) fun j7 =>
  gLp (bX3_reached_19 G N a0 x2 j7) N (x2.1, (0 : Int32)) h3
noncomputable def sX3_reached (G : GG) (N : Nat) (a0 : Option Nat) (a1 : Int32) (a2 : Int32) (h : Hp) : Out (Int32) :=
  gLet ((1 : Int32) <<< (a1 &&& 31)) fun v1 =>
  gLp (bX3_reached_7 G N a0 a2) N (v1, (0 : Int32)) h
abbrev mX3_reached : MI := (RX3, cX3_reached, 7, (some .int), [], 8, 174, "reached")
theorem tX3_reached {G : GG} {l : Launch} (hs : l.stackTraces = false) {N : Nat} {a0 : Option Nat} {a1 : Int32} {a2 : Int32} {h : Hp} {r : Int32 ⊕ Nat} {hf : Hp} (ho : sX3_reached G N a0 a1 a2 h = some (r, hf)) : gMet G l yX3_reached (ws_ yX3_reached cX3_reached 7 (some .int)) 8 174 [gr a0, gi a1, gi a2] h cvI r hf := by
  refine gMet.of ho hs (plainFor_of_name pn_X3) rfl rfl (gbl rfl) fun X => ?_
  show gT G l X mX3_reached cvI r hf 0 [(0, gr a0), (1, gi a1), (2, gi a2)] [] h (sX3_reached G N a0 a1 a2 h)
  delta sX3_reached
  refine g_iconst (pc := 0) (v := (1 : Int32)) ic_1 dX3_reached_0 ?_
  refine g_iload_n (pc := 1) (x := a1) 1 rfl rfl dX3_reached_1 ?_
  refine g_ishl (pc := 2) dX3_reached_2 ?_
  refine g_leti fun v1 => ?_
  refine g_istore_n (pc := 3) (lv' := [(3, gi v1), (0, gr a0), (2, gi a2)]) [0, 1, 3] rfl rfl (gblt rfl) dX3_reached_3 ?_
  refine g_iconst (pc := 4) (v := (0 : Int32)) ic_0 dX3_reached_4 ?_
  refine g_istore (pc := 5) (lv' := [(4, gi (0 : Int32)), (3, gi v1), (0, gr a0), (2, gi a2)]) [0, 1, 2, 3] rfl (gblt rfl) dX3_reached_5 ?_
  refine g_sub (lv' := [(0, gr a0), (2, gi a2), (3, gi v1), (4, gi (0 : Int32))]) [2, 3, 1, 0] rfl ?_
  refine g_loop (pc := 7) (fun (x2 : Int32 × Int32) => [(0, gr a0), (2, gi a2), (3, gi x2.1), (4, gi x2.2)]) (fun (_ : Int32 × Int32) => []) (fun w4 Hw4 x2 h3 => ?_) N (v1, (0 : Int32)) h
  delta bX3_reached_7
  refine g_iload (pc := 7) (x := x2.2) 3 rfl dX3_reached_7 ?_
  refine g_iload_n (pc := 9) (x := a2) 1 rfl rfl dX3_reached_9 ?_
  refine g_icmp_ge (pc := 10) (tgt := 67) rfl dX3_reached_10 ?_ ?_
  · refine g_iload_n (pc := 67) (x := x2.1) 2 rfl rfl dX3_reached_67 ?_
    exact g_ireturn (pc := 68) rfl dX3_reached_68
  refine g_iload_n (pc := 13) (x := x2.1) 2 rfl rfl dX3_reached_13 ?_
  refine g_istore (pc := 14) (lv' := [(5, gi x2.1), (0, gr a0), (2, gi a2), (3, gi x2.1), (4, gi x2.2)]) [0, 1, 2, 3, 4] rfl (gblt rfl) dX3_reached_14 ?_
  refine g_iconst (pc := 16) (v := (0 : Int32)) ic_0 dX3_reached_16 ?_
  refine g_istore (pc := 17) (lv' := [(6, gi (0 : Int32)), (5, gi x2.1), (0, gr a0), (2, gi a2), (3, gi x2.1), (4, gi x2.2)]) [0, 1, 2, 3, 4, 5] rfl (gblt rfl) dX3_reached_17 ?_
  refine g_join 53 (fun (x5 : Int32) => [(0, gr a0), (2, gi a2), (3, gi x5), (4, gi x2.2), (5, gi x2.1)]) (fun (x5 : Int32) => []) (fun x5 h6 => ?_) (fun j7 Hj7 => ?_)
  · refine g_iload_n (pc := 53) (x := x5) 2 rfl rfl dX3_reached_53 ?_
    refine g_iload (pc := 54) (x := x2.1) 4 rfl dX3_reached_54 ?_
    refine g_icmp_ne (pc := 56) (tgt := 61) rfl dX3_reached_56 ?_ ?_
    · refine g_iload_n (pc := 59) (x := x5) 2 rfl rfl dX3_reached_59 ?_
      exact g_ireturn (pc := 60) rfl dX3_reached_60
    refine g_iinc (pc := 61) (v := x2.2 + (1 : Int32)) 3 rfl (ii_1 _) (lv' := [(4, gi (x2.2 + (1 : Int32))), (0, gr a0), (2, gi a2), (3, gi x5)]) [0, 1, 2, 3] rfl (gblt rfl) dX3_reached_61 ?_
    refine g_goto (pc := 64) (tgt := 7) rfl dX3_reached_64 ?_
    exact g_sub [1, 2, 3, 0] rfl (Hw4 (x5, x2.2 + (1 : Int32)) h6)
  refine g_sub (lv' := [(0, gr a0), (2, gi a2), (3, gi x2.1), (4, gi x2.2), (5, gi x2.1), (6, gi (0 : Int32))]) [2, 3, 4, 5, 1, 0] rfl ?_
  refine g_loop (pc := 19) (fun (x8 : Int32 × Int32) => [(0, gr a0), (2, gi a2), (3, gi x8.1), (4, gi x2.2), (5, gi x2.1), (6, gi x8.2)]) (fun (_ : Int32 × Int32) => []) (fun w10 Hw10 x8 h9 => ?_) N (x2.1, (0 : Int32)) h3
  delta bX3_reached_19
  refine g_iload (pc := 19) (x := x8.2) 5 rfl dX3_reached_19 ?_
  refine g_aload_n (pc := 21) (x := a0) 0 rfl rfl dX3_reached_21 ?_
  refine g_bVi (pc := 22) (y := yX3_size) (ws := ws_ yX3_size cX3_size 1 (some .int)) (fr := 1) (lo := 20) (as := []) (st := [gi x8.2]) (g_no) rfl (fun _ _ _ e => tX3_size hs e) (fun K _ _ _ hq hM R e1 e2 => g_runV (M := mX3_reached) (pc := 22) (y := yX3_size) (bytes := cX3_size) (maxL := 1) (ret := (some .int)) (fr := 1) (lo := 20) (as := []) (st := [gi x8.2]) hq (C := "FlareSlopes$State") rfl gy_X3_size (gbl rfl) (gbl rfl) (gbl rfl) q1633 q1412 q1413 dX3_reached_22 K hM R e1 e2) fun v11 h12 => ?_
  refine g_icmp_ge (pc := 25) (tgt := 53) rfl dX3_reached_25 ?_ ?_
  · exact g_sub [0, 1, 2, 3, 4] rfl (Hj7 x8.1 h12)
  refine g_iload (pc := 28) (x := x2.1) 4 rfl dX3_reached_28 ?_
  refine g_iload (pc := 30) (x := x8.2) 5 rfl dX3_reached_30 ?_
  refine g_bi (pc := 32) (y := yX1_has) (ws := ws_ yX1_has cX1_has 2 (some .boolean)) (fr := 0) (lo := 0) (as := [gi x2.1, gi x8.2]) (st := []) (g_no) rfl (fun _ _ e => tX1_has hs e) (fun K _ _ hM R e1 e2 => g_runSN (M := mX3_reached) (pc := 32) (y := yX1_has) (bytes := cX1_has) (maxL := 2) (ret := (some .boolean)) (fr := 0) (lo := 0) (as := [gi x2.1, gi x8.2]) (st := []) gy_X1_has (gbl rfl) (gbl rfl) (gbl rfl) q2336 q2337 dX3_reached_32 K hM R e1 e2) fun v13 h14 => ?_
  refine g_join 47 (fun (x15 : Int32) => [(0, gr a0), (2, gi a2), (3, gi x15), (4, gi x2.2), (5, gi x2.1), (6, gi x8.2)]) (fun (x15 : Int32) => []) (fun x15 h16 => ?_) (fun j17 Hj17 => ?_)
  · refine g_iinc (pc := 47) (v := x8.2 + (1 : Int32)) 5 rfl (ii_1 _) (lv' := [(6, gi (x8.2 + (1 : Int32))), (0, gr a0), (2, gi a2), (3, gi x15), (4, gi x2.2), (5, gi x2.1)]) [0, 1, 2, 3, 4, 5] rfl (gblt rfl) dX3_reached_47 ?_
    refine g_goto (pc := 50) (tgt := 19) rfl dX3_reached_50 ?_
    exact g_sub [1, 2, 3, 4, 5, 0] rfl (Hw10 (x15, x8.2 + (1 : Int32)) h16)
  refine g_if_eq (pc := 35) (tgt := 47) rfl dX3_reached_35 ?_ ?_
  · exact Hj17 x8.1 h14
  refine g_iload_n (pc := 38) (x := x8.1) 2 rfl rfl dX3_reached_38 ?_
  refine g_aload_n (pc := 39) (x := a0) 0 rfl rfl dX3_reached_39 ?_
  refine g_iload (pc := 40) (x := x8.2) 5 rfl dX3_reached_40 ?_
  refine g_bVi (pc := 42) (y := yX3_seers) (ws := ws_ yX3_seers cX3_seers 4 (some .int)) (fr := 7) (lo := 151) (as := [gi x8.2]) (st := [gi x8.1]) (g_no) rfl (fun _ _ _ e => tX3_seers hs e) (fun K _ _ _ hq hM R e1 e2 => g_runV (M := mX3_reached) (pc := 42) (y := yX3_seers) (bytes := cX3_seers) (maxL := 4) (ret := (some .int)) (fr := 7) (lo := 151) (as := [gi x8.2]) (st := [gi x8.1]) hq (C := "FlareSlopes$State") rfl gy_X3_seers (gbl rfl) (gbl rfl) (gbl rfl) q3170 q1630 q1631 dX3_reached_42 K hM R e1 e2) fun v18 h19 => ?_
  refine g_ior (pc := 45) dX3_reached_45 ?_
  refine g_leti fun v20 => ?_
  refine g_istore_n (pc := 46) (lv' := [(3, gi v20), (0, gr a0), (2, gi a2), (4, gi x2.2), (5, gi x2.1), (6, gi x8.2)]) [0, 1, 2, 3, 4, 5] rfl rfl (gblt rfl) dX3_reached_46 ?_
  exact g_sub [1, 2, 0, 3, 4, 5] rfl (Hj17 v20 h19)
/-! FlareSlopes.reached(I)I -/
noncomputable def sX1_reached (G : GG) (N : Nat) (a0 : Option Nat) (a1 : Int32) (h : Hp) : Out (Int32) :=
  bV h a0 3 (fun q11 => sX1_withCabin G N (some q11) a1 h) fun v1 h2 =>
  gFr h2 a0 3 4 fun v3 =>
  gFr h2 a0 3 4 fun v4 =>
  bV h2 v4 16 (fun q10 => sX3_size G N (some q10) h2) fun v5 h6 =>
  bV h6 v3 16 (fun q9 => sX3_reached G N (some q9) a1 v5 h6) fun v7 h8 =>
  some (.inl v7, h8)
abbrev mX1_reached : MI := (RX1, cX1_reached, 3, (some .int), [], 9, 200, "reached")
theorem tX1_reached {G : GG} {l : Launch} (hs : l.stackTraces = false) {N : Nat} {a0 : Option Nat} {a1 : Int32} {h : Hp} {r : Int32 ⊕ Nat} {hf : Hp} (ho : sX1_reached G N a0 a1 h = some (r, hf)) : gMet G l yX1_reached (ws_ yX1_reached cX1_reached 3 (some .int)) 9 200 [gr a0, gi a1] h cvI r hf := by
  refine gMet.of ho hs (plainFor_of_name pn_X1) rfl rfl (gbl rfl) fun X => ?_
  show gT G l X mX1_reached cvI r hf 0 [(0, gr a0), (1, gi a1)] [] h (sX1_reached G N a0 a1 h)
  delta sX1_reached
  refine g_aload_n (pc := 0) (x := a0) 0 rfl rfl dX1_reached_0 ?_
  refine g_iload_n (pc := 1) (x := a1) 1 rfl rfl dX1_reached_1 ?_
  refine g_bVr (pc := 2) (y := yX1_withCabin) (ws := ws_ yX1_withCabin cX1_withCabin 2 (some (.object "FlareSlopes$Cabin"))) (fr := 8) (lo := 121) (as := [gi a1]) (st := []) (g_no) rfl (fun _ _ _ e => tX1_withCabin hs e) (fun K _ _ _ hq hM R e1 e2 => g_runV (M := mX1_reached) (pc := 2) (y := yX1_withCabin) (bytes := cX1_withCabin) (maxL := 2) (ret := (some (.object "FlareSlopes$Cabin"))) (fr := 8) (lo := 121) (as := [gi a1]) (st := []) hq (C := "FlareSlopes") rfl gy_X1_withCabin (gbl rfl) (gbl rfl) (gbl rfl) q1968 q1970 qs22 dX1_reached_2 K hM R e1 e2) fun v1 h2 => ?_
  refine g_astore_n (pc := 5) (lv' := [(0, gr a0), (1, gi a1)]) [1, 2] rfl rfl (gblt rfl) dX1_reached_5 ?_
  refine g_aload_n (pc := 6) (x := a0) 0 rfl rfl dX1_reached_6 ?_
  refine g_getfr (pc := 7) k_3 (gblt rfl) lk_X1_56_3 dX1_reached_7 fun v3 => ?_
  refine g_iload_n (pc := 10) (x := a1) 1 rfl rfl dX1_reached_10 ?_
  refine g_aload_n (pc := 11) (x := a0) 0 rfl rfl dX1_reached_11 ?_
  refine g_getfr (pc := 12) k_3 (gblt rfl) lk_X1_56_3 dX1_reached_12 fun v4 => ?_
  refine g_bVi (pc := 15) (y := yX3_size) (ws := ws_ yX3_size cX3_size 1 (some .int)) (fr := 1) (lo := 20) (as := []) (st := [gi a1, gr v3]) (g_no) rfl (fun _ _ _ e => tX3_size hs e) (fun K _ _ _ hq hM R e1 e2 => g_runV (M := mX1_reached) (pc := 15) (y := yX3_size) (bytes := cX3_size) (maxL := 1) (ret := (some .int)) (fr := 1) (lo := 20) (as := []) (st := [gi a1, gr v3]) hq (C := "FlareSlopes$State") rfl gy_X3_size (gbl rfl) (gbl rfl) (gbl rfl) q1411 q1412 q1413 dX1_reached_15 K hM R e1 e2) fun v5 h6 => ?_
  refine g_bVi (pc := 18) (y := yX3_reached) (ws := ws_ yX3_reached cX3_reached 7 (some .int)) (fr := 8) (lo := 174) (as := [gi a1, gi v5]) (st := []) (g_no) rfl (fun _ _ _ e => tX3_reached hs e) (fun K _ _ _ hq hM R e1 e2 => g_runV (M := mX1_reached) (pc := 18) (y := yX3_reached) (bytes := cX3_reached) (maxL := 7) (ret := (some .int)) (fr := 8) (lo := 174) (as := [gi a1, gi v5]) (st := []) hq (C := "FlareSlopes$State") rfl gy_X3_reached (gbl rfl) (gbl rfl) (gbl rfl) q3166 q3167 q3168 dX1_reached_18 K hM R e1 e2) fun v7 h8 => ?_
  exact g_ireturn (pc := 21) rfl dX1_reached_21
/-! FlareSlopesLaw.reached(LFlareSlopes;I[J)I -/
noncomputable def sX0_reached (G : GG) (N : Nat) (a0 : Option Nat) (a1 : Int32) (a2 : Option Nat) (h : Hp) : Out (Int32) :=
  bVX h a0 3 (fun q4 => sX1_reached G N (some q4) a1 h) (fun v1 h2 =>
  gSl G h2 a2 3 (0 : Int32) (v1.toInt64) fun h3 =>
  some (.inl (0 : Int32), h3)) fun q5 h6 =>
  gSw h6 (some q5) 0 (some (.inl (1 : Int32), h6)) (gSw h6 (some q5) 2 (some (.inl (2 : Int32), h6)) (none))
abbrev mX0_reached : MI := (RX0, cX0_reached, 4, (some .int), [(0, 9, 12, 21), (0, 9, 15, 13)], 10, 222, "reached")
theorem tX0_reached {G : GG} {l : Launch} (hs : l.stackTraces = false) {N : Nat} {a0 : Option Nat} {a1 : Int32} {a2 : Option Nat} {h : Hp} {r : Int32 ⊕ Nat} {hf : Hp} (ho : sX0_reached G N a0 a1 a2 h = some (r, hf)) : gMet G l yX0_reached (wsW_ yX0_reached cX0_reached 4 (some .int) [(0, 9, 12, 21), (0, 9, 15, 13)]) 10 222 [gr a0, gi a1, gr a2] h cvI r hf := by
  refine gMet.ofW ho hs (plainFor_of_name pn_X0) rfl rfl (gbl rfl) fun X => ?_
  show gT G l X mX0_reached cvI r hf 0 [(0, gr a0), (1, gi a1), (2, gr a2)] [] h (sX0_reached G N a0 a1 a2 h)
  delta sX0_reached
  refine g_aload_n (pc := 0) (x := a2) 2 rfl rfl dX0_reached_0 ?_
  refine g_iconst (pc := 1) (v := (0 : Int32)) ic_0 dX0_reached_1 ?_
  refine g_aload_n (pc := 2) (x := a0) 0 rfl rfl dX0_reached_2 ?_
  refine g_iload_n (pc := 3) (x := a1) 1 rfl rfl dX0_reached_3 ?_
  refine g_bVXi (pc := 4) (y := yX1_reached) (ws := ws_ yX1_reached cX1_reached 3 (some .int)) (fr := 9) (lo := 200) (as := [gi a1]) (st := [gi (0 : Int32), gr a2]) rfl (fun _ _ _ e => tX1_reached hs e) (fun K _ _ _ hq hM R e1 e2 => g_runV (M := mX0_reached) (pc := 4) (y := yX1_reached) (bytes := cX1_reached) (maxL := 3) (ret := (some .int)) (fr := 9) (lo := 200) (as := [gi a1]) (st := [gi (0 : Int32), gr a2]) hq (C := "FlareSlopes") rfl gy_X1_reached (gbl rfl) (gbl rfl) (gbl rfl) q3162 q3163 q3164 dX0_reached_4 K hM R e1 e2) (fun v1 h2 => ?_) (fun q5 h6 => ?_)
  · refine g_i2l (pc := 7) dX0_reached_7 ?_
    refine g_lastore (pc := 8) rfl dX0_reached_8 fun h3 => ?_
    refine g_goto (pc := 9) (tgt := 18) rfl dX0_reached_9 ?_
    refine g_iconst (pc := 18) (v := (0 : Int32)) ic_0 dX0_reached_18 ?_
    exact g_ireturn (pc := 19) rfl dX0_reached_19
  refine g_catch (E := "java/lang/IllegalStateException") [] ⟨0, 9, 12, 21⟩ [⟨0, 9, 15, 13⟩] rfl rfl (List.forall_mem_nil _) (by decide +kernel) (by decide +kernel) q1425 q1439 ?_ ?_
  · refine g_astore_n (pc := 12) (lv' := []) [] rfl rfl (gblt rfl) dX0_reached_12 ?_
    refine g_iconst (pc := 13) (v := (1 : Int32)) ic_1 dX0_reached_13 ?_
    exact g_ireturn (pc := 14) rfl dX0_reached_14
  refine g_catch (E := "java/lang/IndexOutOfBoundsException") [⟨0, 9, 12, 21⟩] ⟨0, 9, 15, 13⟩ [] rfl rfl (List.forall_mem_cons.mpr ⟨Or.inr ⟨by decide +kernel, _, q1425, ncl_java_lang_IndexOutOfBoundsException_java_lang_IllegalStateException⟩, List.forall_mem_nil _⟩) (by decide +kernel) (by decide +kernel) q325 q418 ?_ ?_
  · refine g_astore_n (pc := 15) (lv' := []) [] rfl rfl (gblt rfl) dX0_reached_15 ?_
    refine g_iconst (pc := 16) (v := (2 : Int32)) ic_2 dX0_reached_16 ?_
    exact g_ireturn (pc := 17) rfl dX0_reached_17
  exact g_noneX
/-! FlareSlopesModel.spread(I)I -/
noncomputable def bX2_spread_4 (G : GG) (N : Nat) (a0 : Option Nat) (a1 : Int32) (w3 : (Int32 × Int32) → Hp → Out (Int32)) (x1 : Int32 × Int32) (h2 : Hp) : Out (Int32) :=
  gFr h2 a0 18 1 fun v4 =>
  gAi h2 v4 0 (6 : Int32) fun v5 =>
  if v5 ≤ x1.2 then (some (.inl x1.1, h2))
  else bnd (sX2_has G N a1 x1.2 h2) fun v6 h7 =>
  gJ (fun (x8 : Int32) (h9 : Hp) =>
  gLet (x1.1 ||| x8) fun v11 =>
  w3 (v11, x1.2 + (1 : Int32)) h9) fun j10 =>
  if v6 = 0 then (j10 (0 : Int32) h7)
  else bV h7 a0 18 (fun q14 => sX2_seen G N (some q14) x1.2 h7) fun v12 h13 =>
  j10 v12 h13
noncomputable def sX2_spread (G : GG) (N : Nat) (a0 : Option Nat) (a1 : Int32) (h : Hp) : Out (Int32) :=
  gLp (bX2_spread_4 G N a0 a1) N (a1, (0 : Int32)) h
abbrev mX2_spread : MI := (RX2, cX2_spread, 4, (some .int), [], 5, 116, "spread")
theorem tX2_spread {G : GG} {l : Launch} (hs : l.stackTraces = false) {N : Nat} {a0 : Option Nat} {a1 : Int32} {h : Hp} {r : Int32 ⊕ Nat} {hf : Hp} (ho : sX2_spread G N a0 a1 h = some (r, hf)) : gMet G l yX2_spread (ws_ yX2_spread cX2_spread 4 (some .int)) 5 116 [gr a0, gi a1] h cvI r hf := by
  refine gMet.of ho hs (plainFor_of_name pn_X2) rfl rfl (gbl rfl) fun X => ?_
  show gT G l X mX2_spread cvI r hf 0 [(0, gr a0), (1, gi a1)] [] h (sX2_spread G N a0 a1 h)
  delta sX2_spread
  refine g_iload_n (pc := 0) (x := a1) 1 rfl rfl dX2_spread_0 ?_
  refine g_istore_n (pc := 1) (lv' := [(2, gi a1), (0, gr a0), (1, gi a1)]) [0, 1, 2] rfl rfl (gblt rfl) dX2_spread_1 ?_
  refine g_iconst (pc := 2) (v := (0 : Int32)) ic_0 dX2_spread_2 ?_
  refine g_istore_n (pc := 3) (lv' := [(3, gi (0 : Int32)), (2, gi a1), (0, gr a0), (1, gi a1)]) [0, 1, 2, 3] rfl rfl (gblt rfl) dX2_spread_3 ?_
  refine g_sub (lv' := [(0, gr a0), (1, gi a1), (2, gi a1), (3, gi (0 : Int32))]) [2, 3, 1, 0] rfl ?_
  refine g_loop (pc := 4) (fun (x1 : Int32 × Int32) => [(0, gr a0), (1, gi a1), (2, gi x1.1), (3, gi x1.2)]) (fun (_ : Int32 × Int32) => []) (fun w3 Hw3 x1 h2 => ?_) N (a1, (0 : Int32)) h
  delta bX2_spread_4
  refine g_iload_n (pc := 4) (x := x1.2) 3 rfl rfl dX2_spread_4 ?_
  refine g_aload_n (pc := 5) (x := a0) 0 rfl rfl dX2_spread_5 ?_
  refine g_getfr (pc := 6) k_18 (gblt rfl) lk_X2_9_18 dX2_spread_6 fun v4 => ?_
  refine g_bipush (pc := 9) (v := (6 : Int32)) bc_6 dX2_spread_9 ?_
  refine g_iaload (pc := 11) rfl dX2_spread_11 fun v5 => ?_
  refine g_icmp_ge (pc := 12) (tgt := 41) rfl dX2_spread_12 ?_ ?_
  · refine g_iload_n (pc := 41) (x := x1.1) 2 rfl rfl dX2_spread_41 ?_
    exact g_ireturn (pc := 42) rfl dX2_spread_42
  refine g_iload_n (pc := 15) (x := x1.1) 2 rfl rfl dX2_spread_15 ?_
  refine g_iload_n (pc := 16) (x := a1) 1 rfl rfl dX2_spread_16 ?_
  refine g_iload_n (pc := 17) (x := x1.2) 3 rfl rfl dX2_spread_17 ?_
  refine g_bi (pc := 18) (y := yX2_has) (ws := ws_ yX2_has cX2_has 2 (some .boolean)) (fr := 0) (lo := 0) (as := [gi a1, gi x1.2]) (st := [gi x1.1]) (g_no) rfl (fun _ _ e => tX2_has hs e) (fun K _ _ hM R e1 e2 => g_runS (M := mX2_spread) (pc := 18) (y := yX2_has) (bytes := cX2_has) (maxL := 2) (ret := (some .boolean)) (fr := 0) (lo := 0) (as := [gi a1, gi x1.2]) (st := [gi x1.1]) gy_X2_has (gbl rfl) (gbl rfl) (gbl rfl) q4257 q4258 dX2_spread_18 K hM R e1 e2) fun v6 h7 => ?_
  refine g_join 33 (fun (x8 : Int32) => [(0, gr a0), (1, gi a1), (3, gi x1.2)]) (fun (x8 : Int32) => [gi x8, gi x1.1]) (fun x8 h9 => ?_) (fun j10 Hj10 => ?_)
  · refine g_ior (pc := 33) dX2_spread_33 ?_
    refine g_leti fun v11 => ?_
    refine g_istore_n (pc := 34) (lv' := [(2, gi v11), (0, gr a0), (1, gi a1), (3, gi x1.2)]) [0, 1, 2, 3] rfl rfl (gblt rfl) dX2_spread_34 ?_
    refine g_iinc (pc := 35) (v := x1.2 + (1 : Int32)) 3 rfl (ii_1 _) (lv' := [(3, gi (x1.2 + (1 : Int32))), (2, gi v11), (0, gr a0), (1, gi a1)]) [0, 1, 2, 3] rfl (gblt rfl) dX2_spread_35 ?_
    refine g_goto (pc := 38) (tgt := 4) rfl dX2_spread_38 ?_
    exact g_sub [2, 3, 1, 0] rfl (Hw3 (v11, x1.2 + (1 : Int32)) h9)
  refine g_if_eq (pc := 21) (tgt := 32) rfl dX2_spread_21 ?_ ?_
  · refine g_iconst (pc := 32) (v := (0 : Int32)) ic_0 dX2_spread_32 ?_
    exact g_sub [0, 1, 3] rfl (Hj10 (0 : Int32) h7)
  refine g_aload_n (pc := 24) (x := a0) 0 rfl rfl dX2_spread_24 ?_
  refine g_iload_n (pc := 25) (x := x1.2) 3 rfl rfl dX2_spread_25 ?_
  refine g_bVi (pc := 26) (y := yX2_seen) (ws := ws_ yX2_seen cX2_seen 4 (some .int)) (fr := 4) (lo := 93) (as := [gi x1.2]) (st := [gi x1.1]) (g_no) rfl (fun _ _ _ e => tX2_seen hs e) (fun K _ _ _ hq hM R e1 e2 => g_runV (M := mX2_spread) (pc := 26) (y := yX2_seen) (bytes := cX2_seen) (maxL := 4) (ret := (some .int)) (fr := 4) (lo := 93) (as := [gi x1.2]) (st := [gi x1.1]) hq (C := "FlareSlopesModel") rfl gy_X2_seen (gbl rfl) (gbl rfl) (gbl rfl) q4328 q4330 qs106 dX2_spread_26 K hM R e1 e2) fun v12 h13 => ?_
  refine g_goto (pc := 29) (tgt := 33) rfl dX2_spread_29 ?_
  exact g_sub [0, 1, 3] rfl (Hj10 v12 h13)
/-! FlareSlopesModel.reached(I)I -/
noncomputable def bX2_reached_16 (G : GG) (N : Nat) (a0 : Option Nat) (w6 : (Int32 × Int32) → Hp → Out (Int32)) (x4 : Int32 × Int32) (h5 : Hp) : Out (Int32) :=
  if (10 : Int32) ≤ x4.2 then (some (.inl x4.1, h5))
  else bV h5 a0 18 (fun q9 => sX2_spread G N (some q9) x4.1 h5) fun v7 h8 =>
  w6 (v7, x4.2 + (1 : Int32)) h8
noncomputable def sX2_reached (G : GG) (N : Nat) (a0 : Option Nat) (a1 : Int32) (h : Hp) : Out (Int32) :=
  bV h a0 18 (fun q10 => sX2_mayCabin G N (some q10) a1 h) fun v1 h2 =>
  if v1 = 0 then (some (.inl (0 : Int32), h2))
  else gLet ((1 : Int32) <<< (a1 &&& 31)) fun v3 =>
  gLp (bX2_reached_16 G N a0) N (v3, (0 : Int32)) h2
abbrev mX2_reached : MI := (RX2, cX2_reached, 4, (some .int), [], 6, 139, "reached")
theorem tX2_reached {G : GG} {l : Launch} (hs : l.stackTraces = false) {N : Nat} {a0 : Option Nat} {a1 : Int32} {h : Hp} {r : Int32 ⊕ Nat} {hf : Hp} (ho : sX2_reached G N a0 a1 h = some (r, hf)) : gMet G l yX2_reached (ws_ yX2_reached cX2_reached 4 (some .int)) 6 139 [gr a0, gi a1] h cvI r hf := by
  refine gMet.of ho hs (plainFor_of_name pn_X2) rfl rfl (gbl rfl) fun X => ?_
  show gT G l X mX2_reached cvI r hf 0 [(0, gr a0), (1, gi a1)] [] h (sX2_reached G N a0 a1 h)
  delta sX2_reached
  refine g_aload_n (pc := 0) (x := a0) 0 rfl rfl dX2_reached_0 ?_
  refine g_iload_n (pc := 1) (x := a1) 1 rfl rfl dX2_reached_1 ?_
  refine g_bVi (pc := 2) (y := yX2_mayCabin) (ws := ws_ yX2_mayCabin cX2_mayCabin 2 (some .boolean)) (fr := 2) (lo := 45) (as := [gi a1]) (st := []) (g_no) rfl (fun _ _ _ e => tX2_mayCabin hs e) (fun K _ _ _ hq hM R e1 e2 => g_runV (M := mX2_reached) (pc := 2) (y := yX2_mayCabin) (bytes := cX2_mayCabin) (maxL := 2) (ret := (some .boolean)) (fr := 2) (lo := 45) (as := [gi a1]) (st := []) hq (C := "FlareSlopesModel") rfl gy_X2_mayCabin (gbl rfl) (gbl rfl) (gbl rfl) q4324 q4326 qs105 dX2_reached_2 K hM R e1 e2) fun v1 h2 => ?_
  refine g_if_ne (pc := 5) (tgt := 10) rfl dX2_reached_5 ?_ ?_
  · refine g_iconst (pc := 8) (v := (0 : Int32)) ic_0 dX2_reached_8 ?_
    exact g_ireturn (pc := 9) rfl dX2_reached_9
  refine g_iconst (pc := 10) (v := (1 : Int32)) ic_1 dX2_reached_10 ?_
  refine g_iload_n (pc := 11) (x := a1) 1 rfl rfl dX2_reached_11 ?_
  refine g_ishl (pc := 12) dX2_reached_12 ?_
  refine g_leti fun v3 => ?_
  refine g_istore_n (pc := 13) (lv' := [(2, gi v3), (0, gr a0)]) [0, 1] rfl rfl (gblt rfl) dX2_reached_13 ?_
  refine g_iconst (pc := 14) (v := (0 : Int32)) ic_0 dX2_reached_14 ?_
  refine g_istore_n (pc := 15) (lv' := [(3, gi (0 : Int32)), (2, gi v3), (0, gr a0)]) [0, 1, 2] rfl rfl (gblt rfl) dX2_reached_15 ?_
  refine g_sub (lv' := [(0, gr a0), (2, gi v3), (3, gi (0 : Int32))]) [2, 1, 0] rfl ?_
  refine g_loop (pc := 16) (fun (x4 : Int32 × Int32) => [(0, gr a0), (2, gi x4.1), (3, gi x4.2)]) (fun (_ : Int32 × Int32) => []) (fun w6 Hw6 x4 h5 => ?_) N (v3, (0 : Int32)) h2
  delta bX2_reached_16
  refine g_iload_n (pc := 16) (x := x4.2) 2 rfl rfl dX2_reached_16 ?_
  refine g_bipush (pc := 17) (v := (10 : Int32)) bc_10 dX2_reached_17 ?_
  refine g_icmp_ge (pc := 19) (tgt := 34) rfl dX2_reached_19 ?_ ?_
  · refine g_iload_n (pc := 34) (x := x4.1) 1 rfl rfl dX2_reached_34 ?_
    exact g_ireturn (pc := 35) rfl dX2_reached_35
  refine g_aload_n (pc := 22) (x := a0) 0 rfl rfl dX2_reached_22 ?_
  refine g_iload_n (pc := 23) (x := x4.1) 1 rfl rfl dX2_reached_23 ?_
  refine g_bVi (pc := 24) (y := yX2_spread) (ws := ws_ yX2_spread cX2_spread 4 (some .int)) (fr := 5) (lo := 116) (as := [gi x4.1]) (st := []) (g_no) rfl (fun _ _ _ e => tX2_spread hs e) (fun K _ _ _ hq hM R e1 e2 => g_runV (M := mX2_reached) (pc := 24) (y := yX2_spread) (bytes := cX2_spread) (maxL := 4) (ret := (some .int)) (fr := 5) (lo := 116) (as := [gi x4.1]) (st := []) hq (C := "FlareSlopesModel") rfl gy_X2_spread (gbl rfl) (gbl rfl) (gbl rfl) q4336 q4338 qs107 dX2_reached_24 K hM R e1 e2) fun v7 h8 => ?_
  refine g_istore_n (pc := 27) (lv' := [(2, gi v7), (0, gr a0), (3, gi x4.2)]) [0, 1, 2] rfl rfl (gblt rfl) dX2_reached_27 ?_
  refine g_iinc (pc := 28) (v := x4.2 + (1 : Int32)) 2 rfl (ii_1 _) (lv' := [(3, gi (x4.2 + (1 : Int32))), (2, gi v7), (0, gr a0)]) [0, 1, 2] rfl (gblt rfl) dX2_reached_28 ?_
  refine g_goto (pc := 31) (tgt := 16) rfl dX2_reached_31 ?_
  exact g_sub [2, 1, 0] rfl (Hw6 (v7, x4.2 + (1 : Int32)) h8)
/-! FlareSlopes$State.steps(II)I -/
noncomputable def bX3_steps_2 (G : GG) (N : Nat) (a0 : Option Nat) (a1 : Int32) (a2 : Int32) (w3 : (Int32) → Hp → Out (Int32)) (x1 : Int32) (h2 : Hp) : Out (Int32) :=
  bV h2 a0 16 (fun q11 => sX3_size G N (some q11) h2) fun v4 h5 =>
  if v4 ≤ x1 then (some (.inl (-1 : Int32), h5))
  else bV h5 a0 16 (fun q10 => sX3_reached G N (some q10) a1 x1 h5) fun v6 h7 =>
  bnd (sX1_has G N v6 a2 h7) fun v8 h9 =>
  if v8 = 0 then (w3 (x1 + (1 : Int32)) h9)
  else some (.inl x1, h9)
noncomputable def sX3_steps (G : GG) (N : Nat) (a0 : Option Nat) (a1 : Int32) (a2 : Int32) (h : Hp) : Out (Int32) :=
  gLp (bX3_steps_2 G N a0 a1 a2) N (0 : Int32) h
abbrev mX3_steps : MI := (RX3, cX3_steps, 4, (some .int), [], 9, 200, "steps")
theorem tX3_steps {G : GG} {l : Launch} (hs : l.stackTraces = false) {N : Nat} {a0 : Option Nat} {a1 : Int32} {a2 : Int32} {h : Hp} {r : Int32 ⊕ Nat} {hf : Hp} (ho : sX3_steps G N a0 a1 a2 h = some (r, hf)) : gMet G l yX3_steps (ws_ yX3_steps cX3_steps 4 (some .int)) 9 200 [gr a0, gi a1, gi a2] h cvI r hf := by
  refine gMet.of ho hs (plainFor_of_name pn_X3) rfl rfl (gbl rfl) fun X => ?_
  show gT G l X mX3_steps cvI r hf 0 [(0, gr a0), (1, gi a1), (2, gi a2)] [] h (sX3_steps G N a0 a1 a2 h)
  delta sX3_steps
  refine g_iconst (pc := 0) (v := (0 : Int32)) ic_0 dX3_steps_0 ?_
  refine g_istore_n (pc := 1) (lv' := [(3, gi (0 : Int32)), (0, gr a0), (1, gi a1), (2, gi a2)]) [0, 1, 2, 3] rfl rfl (gblt rfl) dX3_steps_1 ?_
  refine g_sub (lv' := [(0, gr a0), (1, gi a1), (2, gi a2), (3, gi (0 : Int32))]) [1, 2, 3, 0] rfl ?_
  refine g_loop (pc := 2) (fun (x1 : Int32) => [(0, gr a0), (1, gi a1), (2, gi a2), (3, gi x1)]) (fun (_ : Int32) => []) (fun w3 Hw3 x1 h2 => ?_) N (0 : Int32) h
  delta bX3_steps_2
  refine g_iload_n (pc := 2) (x := x1) 3 rfl rfl dX3_steps_2 ?_
  refine g_aload_n (pc := 3) (x := a0) 0 rfl rfl dX3_steps_3 ?_
  refine g_bVi (pc := 4) (y := yX3_size) (ws := ws_ yX3_size cX3_size 1 (some .int)) (fr := 1) (lo := 20) (as := []) (st := [gi x1]) (g_no) rfl (fun _ _ _ e => tX3_size hs e) (fun K _ _ _ hq hM R e1 e2 => g_runV (M := mX3_steps) (pc := 4) (y := yX3_size) (bytes := cX3_size) (maxL := 1) (ret := (some .int)) (fr := 1) (lo := 20) (as := []) (st := [gi x1]) hq (C := "FlareSlopes$State") rfl gy_X3_size (gbl rfl) (gbl rfl) (gbl rfl) q1633 q1412 q1413 dX3_steps_4 K hM R e1 e2) fun v4 h5 => ?_
  refine g_icmp_ge (pc := 7) (tgt := 31) rfl dX3_steps_7 ?_ ?_
  · refine g_iconst (pc := 31) (v := (-1 : Int32)) ic_m1 dX3_steps_31 ?_
    exact g_ireturn (pc := 32) rfl dX3_steps_32
  refine g_aload_n (pc := 10) (x := a0) 0 rfl rfl dX3_steps_10 ?_
  refine g_iload_n (pc := 11) (x := a1) 1 rfl rfl dX3_steps_11 ?_
  refine g_iload_n (pc := 12) (x := x1) 3 rfl rfl dX3_steps_12 ?_
  refine g_bVi (pc := 13) (y := yX3_reached) (ws := ws_ yX3_reached cX3_reached 7 (some .int)) (fr := 8) (lo := 174) (as := [gi a1, gi x1]) (st := []) (g_no) rfl (fun _ _ _ e => tX3_reached hs e) (fun K _ _ _ hq hM R e1 e2 => g_runV (M := mX3_steps) (pc := 13) (y := yX3_reached) (bytes := cX3_reached) (maxL := 7) (ret := (some .int)) (fr := 8) (lo := 174) (as := [gi a1, gi x1]) (st := []) hq (C := "FlareSlopes$State") rfl gy_X3_reached (gbl rfl) (gbl rfl) (gbl rfl) q3182 q3167 q3168 dX3_steps_13 K hM R e1 e2) fun v6 h7 => ?_
  refine g_iload_n (pc := 16) (x := a2) 2 rfl rfl dX3_steps_16 ?_
  refine g_bi (pc := 17) (y := yX1_has) (ws := ws_ yX1_has cX1_has 2 (some .boolean)) (fr := 0) (lo := 0) (as := [gi v6, gi a2]) (st := []) (g_no) rfl (fun _ _ e => tX1_has hs e) (fun K _ _ hM R e1 e2 => g_runSN (M := mX3_steps) (pc := 17) (y := yX1_has) (bytes := cX1_has) (maxL := 2) (ret := (some .boolean)) (fr := 0) (lo := 0) (as := [gi v6, gi a2]) (st := []) gy_X1_has (gbl rfl) (gbl rfl) (gbl rfl) q2336 q2337 dX3_steps_17 K hM R e1 e2) fun v8 h9 => ?_
  refine g_if_eq (pc := 20) (tgt := 25) rfl dX3_steps_20 ?_ ?_
  rotate_left
  · refine g_iload_n (pc := 23) (x := x1) 3 rfl rfl dX3_steps_23 ?_
    exact g_ireturn (pc := 24) rfl dX3_steps_24
  refine g_iinc (pc := 25) (v := x1 + (1 : Int32)) 3 rfl (ii_1 _) (lv' := [(3, gi (x1 + (1 : Int32))), (0, gr a0), (1, gi a1), (2, gi a2)]) [0, 1, 2, 3] rfl (gblt rfl) dX3_steps_25 ?_
  refine g_goto (pc := 28) (tgt := 2) rfl dX3_steps_28 ?_
  exact g_sub [1, 2, 3, 0] rfl (Hw3 (x1 + (1 : Int32)) h9)
/-! FlareSlopes.steps(II)I -/
noncomputable def sX1_steps (G : GG) (N : Nat) (a0 : Option Nat) (a1 : Int32) (a2 : Int32) (h : Hp) : Out (Int32) :=
  bV h a0 3 (fun q7 => sX1_withTwo G N (some q7) a1 a2 h) fun v1 h2 =>
  gFr h2 a0 3 4 fun v3 =>
  bV h2 v3 16 (fun q6 => sX3_steps G N (some q6) a1 a2 h2) fun v4 h5 =>
  some (.inl v4, h5)
abbrev mX1_steps : MI := (RX1, cX1_steps, 4, (some .int), [], 10, 223, "steps")
theorem tX1_steps {G : GG} {l : Launch} (hs : l.stackTraces = false) {N : Nat} {a0 : Option Nat} {a1 : Int32} {a2 : Int32} {h : Hp} {r : Int32 ⊕ Nat} {hf : Hp} (ho : sX1_steps G N a0 a1 a2 h = some (r, hf)) : gMet G l yX1_steps (ws_ yX1_steps cX1_steps 4 (some .int)) 10 223 [gr a0, gi a1, gi a2] h cvI r hf := by
  refine gMet.of ho hs (plainFor_of_name pn_X1) rfl rfl (gbl rfl) fun X => ?_
  show gT G l X mX1_steps cvI r hf 0 [(0, gr a0), (1, gi a1), (2, gi a2)] [] h (sX1_steps G N a0 a1 a2 h)
  delta sX1_steps
  refine g_aload_n (pc := 0) (x := a0) 0 rfl rfl dX1_steps_0 ?_
  refine g_iload_n (pc := 1) (x := a1) 1 rfl rfl dX1_steps_1 ?_
  refine g_iload_n (pc := 2) (x := a2) 2 rfl rfl dX1_steps_2 ?_
  refine g_bVr (pc := 3) (y := yX1_withTwo) (ws := ws_ yX1_withTwo cX1_withTwo 4 (some (.object "FlareSlopes$Cabin"))) (fr := 9) (lo := 142) (as := [gi a1, gi a2]) (st := []) (g_no) rfl (fun _ _ _ e => tX1_withTwo hs e) (fun K _ _ _ hq hM R e1 e2 => g_runV (M := mX1_steps) (pc := 3) (y := yX1_withTwo) (bytes := cX1_withTwo) (maxL := 4) (ret := (some (.object "FlareSlopes$Cabin"))) (fr := 9) (lo := 142) (as := [gi a1, gi a2]) (st := []) hq (C := "FlareSlopes") rfl gy_X1_withTwo (gbl rfl) (gbl rfl) (gbl rfl) q3129 q3131 qs44 dX1_steps_3 K hM R e1 e2) fun v1 h2 => ?_
  refine g_astore_n (pc := 6) (lv' := [(0, gr a0), (1, gi a1), (2, gi a2)]) [1, 2, 3] rfl rfl (gblt rfl) dX1_steps_6 ?_
  refine g_aload_n (pc := 7) (x := a0) 0 rfl rfl dX1_steps_7 ?_
  refine g_getfr (pc := 8) k_3 (gblt rfl) lk_X1_56_3 dX1_steps_8 fun v3 => ?_
  refine g_iload_n (pc := 11) (x := a1) 1 rfl rfl dX1_steps_11 ?_
  refine g_iload_n (pc := 12) (x := a2) 2 rfl rfl dX1_steps_12 ?_
  refine g_bVi (pc := 13) (y := yX3_steps) (ws := ws_ yX3_steps cX3_steps 4 (some .int)) (fr := 9) (lo := 200) (as := [gi a1, gi a2]) (st := []) (g_no) rfl (fun _ _ _ e => tX3_steps hs e) (fun K _ _ _ hq hM R e1 e2 => g_runV (M := mX1_steps) (pc := 13) (y := yX3_steps) (bytes := cX3_steps) (maxL := 4) (ret := (some .int)) (fr := 9) (lo := 200) (as := [gi a1, gi a2]) (st := []) hq (C := "FlareSlopes$State") rfl gy_X3_steps (gbl rfl) (gbl rfl) (gbl rfl) q3178 q3179 q3180 dX1_steps_13 K hM R e1 e2) fun v4 h5 => ?_
  exact g_ireturn (pc := 16) rfl dX1_steps_16
/-! FlareSlopesLaw.steps(LFlareSlopes;II[J)I -/
noncomputable def sX0_steps (G : GG) (N : Nat) (a0 : Option Nat) (a1 : Int32) (a2 : Int32) (a3 : Option Nat) (h : Hp) : Out (Int32) :=
  bVX h a0 3 (fun q4 => sX1_steps G N (some q4) a1 a2 h) (fun v1 h2 =>
  gSl G h2 a3 3 (0 : Int32) (v1.toInt64) fun h3 =>
  some (.inl (0 : Int32), h3)) fun q5 h6 =>
  gSw h6 (some q5) 0 (some (.inl (1 : Int32), h6)) (gSw h6 (some q5) 2 (some (.inl (2 : Int32), h6)) (none))
abbrev mX0_steps : MI := (RX0, cX0_steps, 5, (some .int), [(0, 10, 13, 21), (0, 10, 17, 13)], 11, 246, "steps")
theorem tX0_steps {G : GG} {l : Launch} (hs : l.stackTraces = false) {N : Nat} {a0 : Option Nat} {a1 : Int32} {a2 : Int32} {a3 : Option Nat} {h : Hp} {r : Int32 ⊕ Nat} {hf : Hp} (ho : sX0_steps G N a0 a1 a2 a3 h = some (r, hf)) : gMet G l yX0_steps (wsW_ yX0_steps cX0_steps 5 (some .int) [(0, 10, 13, 21), (0, 10, 17, 13)]) 11 246 [gr a0, gi a1, gi a2, gr a3] h cvI r hf := by
  refine gMet.ofW ho hs (plainFor_of_name pn_X0) rfl rfl (gbl rfl) fun X => ?_
  show gT G l X mX0_steps cvI r hf 0 [(0, gr a0), (1, gi a1), (2, gi a2), (3, gr a3)] [] h (sX0_steps G N a0 a1 a2 a3 h)
  delta sX0_steps
  refine g_aload_n (pc := 0) (x := a3) 3 rfl rfl dX0_steps_0 ?_
  refine g_iconst (pc := 1) (v := (0 : Int32)) ic_0 dX0_steps_1 ?_
  refine g_aload_n (pc := 2) (x := a0) 0 rfl rfl dX0_steps_2 ?_
  refine g_iload_n (pc := 3) (x := a1) 1 rfl rfl dX0_steps_3 ?_
  refine g_iload_n (pc := 4) (x := a2) 2 rfl rfl dX0_steps_4 ?_
  refine g_bVXi (pc := 5) (y := yX1_steps) (ws := ws_ yX1_steps cX1_steps 4 (some .int)) (fr := 10) (lo := 223) (as := [gi a1, gi a2]) (st := [gi (0 : Int32), gr a3]) rfl (fun _ _ _ e => tX1_steps hs e) (fun K _ _ _ hq hM R e1 e2 => g_runV (M := mX0_steps) (pc := 5) (y := yX1_steps) (bytes := cX1_steps) (maxL := 4) (ret := (some .int)) (fr := 10) (lo := 223) (as := [gi a1, gi a2]) (st := [gi (0 : Int32), gr a3]) hq (C := "FlareSlopes") rfl gy_X1_steps (gbl rfl) (gbl rfl) (gbl rfl) q3174 q3175 q3176 dX0_steps_5 K hM R e1 e2) (fun v1 h2 => ?_) (fun q5 h6 => ?_)
  · refine g_i2l (pc := 8) dX0_steps_8 ?_
    refine g_lastore (pc := 9) rfl dX0_steps_9 fun h3 => ?_
    refine g_goto (pc := 10) (tgt := 21) rfl dX0_steps_10 ?_
    refine g_iconst (pc := 21) (v := (0 : Int32)) ic_0 dX0_steps_21 ?_
    exact g_ireturn (pc := 22) rfl dX0_steps_22
  refine g_catch (E := "java/lang/IllegalStateException") [] ⟨0, 10, 13, 21⟩ [⟨0, 10, 17, 13⟩] rfl rfl (List.forall_mem_nil _) (by decide +kernel) (by decide +kernel) q1425 q1439 ?_ ?_
  · refine g_astore (pc := 13) (lv' := []) [] rfl (gblt rfl) dX0_steps_13 ?_
    refine g_iconst (pc := 15) (v := (1 : Int32)) ic_1 dX0_steps_15 ?_
    exact g_ireturn (pc := 16) rfl dX0_steps_16
  refine g_catch (E := "java/lang/IndexOutOfBoundsException") [⟨0, 10, 13, 21⟩] ⟨0, 10, 17, 13⟩ [] rfl rfl (List.forall_mem_cons.mpr ⟨Or.inr ⟨by decide +kernel, _, q1425, ncl_java_lang_IndexOutOfBoundsException_java_lang_IllegalStateException⟩, List.forall_mem_nil _⟩) (by decide +kernel) (by decide +kernel) q325 q418 ?_ ?_
  · refine g_astore (pc := 17) (lv' := []) [] rfl (gblt rfl) dX0_steps_17 ?_
    refine g_iconst (pc := 19) (v := (2 : Int32)) ic_2 dX0_steps_19 ?_
    exact g_ireturn (pc := 20) rfl dX0_steps_20
  exact g_noneX
/-! FlareSlopesModel.steps(II)I -/
noncomputable def bX2_steps_18 (G : GG) (N : Nat) (a0 : Option Nat) (a2 : Int32) (w6 : (Int32 × Int32) → Hp → Out (Int32)) (x4 : Int32 × Int32) (h5 : Hp) : Out (Int32) :=
  if (10 : Int32) ≤ x4.2 then (some (.inl (-1 : Int32), h5))
  else bnd (sX2_has G N x4.1 a2 h5) fun v7 h8 =>
  if v7 = 0 then (bV h8 a0 18 (fun q11 => sX2_spread G N (some q11) x4.1 h8) fun v9 h10 =>
  w6 (v9, x4.2 + (1 : Int32)) h10)
  else some (.inl x4.2, h8)
noncomputable def sX2_steps (G : GG) (N : Nat) (a0 : Option Nat) (a1 : Int32) (a2 : Int32) (h : Hp) : Out (Int32) :=
  bV h a0 18 (fun q12 => sX2_mayCabins G N (some q12) a1 a2 h) fun v1 h2 =>
  if v1 = 0 then (some (.inl (0 : Int32), h2))
  else gLet ((1 : Int32) <<< (a1 &&& 31)) fun v3 =>
  gLp (bX2_steps_18 G N a0 a2) N (v3, (0 : Int32)) h2
abbrev mX2_steps : MI := (RX2, cX2_steps, 5, (some .int), [], 6, 139, "steps")
theorem tX2_steps {G : GG} {l : Launch} (hs : l.stackTraces = false) {N : Nat} {a0 : Option Nat} {a1 : Int32} {a2 : Int32} {h : Hp} {r : Int32 ⊕ Nat} {hf : Hp} (ho : sX2_steps G N a0 a1 a2 h = some (r, hf)) : gMet G l yX2_steps (ws_ yX2_steps cX2_steps 5 (some .int)) 6 139 [gr a0, gi a1, gi a2] h cvI r hf := by
  refine gMet.of ho hs (plainFor_of_name pn_X2) rfl rfl (gbl rfl) fun X => ?_
  show gT G l X mX2_steps cvI r hf 0 [(0, gr a0), (1, gi a1), (2, gi a2)] [] h (sX2_steps G N a0 a1 a2 h)
  delta sX2_steps
  refine g_aload_n (pc := 0) (x := a0) 0 rfl rfl dX2_steps_0 ?_
  refine g_iload_n (pc := 1) (x := a1) 1 rfl rfl dX2_steps_1 ?_
  refine g_iload_n (pc := 2) (x := a2) 2 rfl rfl dX2_steps_2 ?_
  refine g_bVi (pc := 3) (y := yX2_mayCabins) (ws := ws_ yX2_mayCabins cX2_mayCabins 3 (some .boolean)) (fr := 2) (lo := 45) (as := [gi a1, gi a2]) (st := []) (g_no) rfl (fun _ _ _ e => tX2_mayCabins hs e) (fun K _ _ _ hq hM R e1 e2 => g_runV (M := mX2_steps) (pc := 3) (y := yX2_mayCabins) (bytes := cX2_mayCabins) (maxL := 3) (ret := (some .boolean)) (fr := 2) (lo := 45) (as := [gi a1, gi a2]) (st := []) hq (C := "FlareSlopesModel") rfl gy_X2_mayCabins (gbl rfl) (gbl rfl) (gbl rfl) q4308 q4310 qs103 dX2_steps_3 K hM R e1 e2) fun v1 h2 => ?_
  refine g_if_ne (pc := 6) (tgt := 11) rfl dX2_steps_6 ?_ ?_
  · refine g_iconst (pc := 9) (v := (0 : Int32)) ic_0 dX2_steps_9 ?_
    exact g_ireturn (pc := 10) rfl dX2_steps_10
  refine g_iconst (pc := 11) (v := (1 : Int32)) ic_1 dX2_steps_11 ?_
  refine g_iload_n (pc := 12) (x := a1) 1 rfl rfl dX2_steps_12 ?_
  refine g_ishl (pc := 13) dX2_steps_13 ?_
  refine g_leti fun v3 => ?_
  refine g_istore_n (pc := 14) (lv' := [(3, gi v3), (0, gr a0), (2, gi a2)]) [0, 1, 3] rfl rfl (gblt rfl) dX2_steps_14 ?_
  refine g_iconst (pc := 15) (v := (0 : Int32)) ic_0 dX2_steps_15 ?_
  refine g_istore (pc := 16) (lv' := [(4, gi (0 : Int32)), (3, gi v3), (0, gr a0), (2, gi a2)]) [0, 1, 2, 3] rfl (gblt rfl) dX2_steps_16 ?_
  refine g_sub (lv' := [(0, gr a0), (2, gi a2), (3, gi v3), (4, gi (0 : Int32))]) [2, 3, 1, 0] rfl ?_
  refine g_loop (pc := 18) (fun (x4 : Int32 × Int32) => [(0, gr a0), (2, gi a2), (3, gi x4.1), (4, gi x4.2)]) (fun (_ : Int32 × Int32) => []) (fun w6 Hw6 x4 h5 => ?_) N (v3, (0 : Int32)) h2
  delta bX2_steps_18
  refine g_iload (pc := 18) (x := x4.2) 3 rfl dX2_steps_18 ?_
  refine g_bipush (pc := 20) (v := (10 : Int32)) bc_10 dX2_steps_20 ?_
  refine g_icmp_ge (pc := 22) (tgt := 48) rfl dX2_steps_22 ?_ ?_
  · refine g_iconst (pc := 48) (v := (-1 : Int32)) ic_m1 dX2_steps_48 ?_
    exact g_ireturn (pc := 49) rfl dX2_steps_49
  refine g_iload_n (pc := 25) (x := x4.1) 2 rfl rfl dX2_steps_25 ?_
  refine g_iload_n (pc := 26) (x := a2) 1 rfl rfl dX2_steps_26 ?_
  refine g_bi (pc := 27) (y := yX2_has) (ws := ws_ yX2_has cX2_has 2 (some .boolean)) (fr := 0) (lo := 0) (as := [gi x4.1, gi a2]) (st := []) (g_no) rfl (fun _ _ e => tX2_has hs e) (fun K _ _ hM R e1 e2 => g_runS (M := mX2_steps) (pc := 27) (y := yX2_has) (bytes := cX2_has) (maxL := 2) (ret := (some .boolean)) (fr := 0) (lo := 0) (as := [gi x4.1, gi a2]) (st := []) gy_X2_has (gbl rfl) (gbl rfl) (gbl rfl) q4257 q4258 dX2_steps_27 K hM R e1 e2) fun v7 h8 => ?_
  refine g_if_eq (pc := 30) (tgt := 36) rfl dX2_steps_30 ?_ ?_
  rotate_left
  · refine g_iload (pc := 33) (x := x4.2) 3 rfl dX2_steps_33 ?_
    exact g_ireturn (pc := 35) rfl dX2_steps_35
  refine g_aload_n (pc := 36) (x := a0) 0 rfl rfl dX2_steps_36 ?_
  refine g_iload_n (pc := 37) (x := x4.1) 2 rfl rfl dX2_steps_37 ?_
  refine g_bVi (pc := 38) (y := yX2_spread) (ws := ws_ yX2_spread cX2_spread 4 (some .int)) (fr := 5) (lo := 116) (as := [gi x4.1]) (st := []) (g_no) rfl (fun _ _ _ e => tX2_spread hs e) (fun K _ _ _ hq hM R e1 e2 => g_runV (M := mX2_steps) (pc := 38) (y := yX2_spread) (bytes := cX2_spread) (maxL := 4) (ret := (some .int)) (fr := 5) (lo := 116) (as := [gi x4.1]) (st := []) hq (C := "FlareSlopesModel") rfl gy_X2_spread (gbl rfl) (gbl rfl) (gbl rfl) q4336 q4338 qs107 dX2_steps_38 K hM R e1 e2) fun v9 h10 => ?_
  refine g_istore_n (pc := 41) (lv' := [(3, gi v9), (0, gr a0), (2, gi a2), (4, gi x4.2)]) [0, 1, 2, 3] rfl rfl (gblt rfl) dX2_steps_41 ?_
  refine g_iinc (pc := 42) (v := x4.2 + (1 : Int32)) 3 rfl (ii_1 _) (lv' := [(4, gi (x4.2 + (1 : Int32))), (3, gi v9), (0, gr a0), (2, gi a2)]) [0, 1, 2, 3] rfl (gblt rfl) dX2_steps_42 ?_
  refine g_goto (pc := 45) (tgt := 18) rfl dX2_steps_45 ?_
  exact g_sub [2, 3, 1, 0] rfl (Hw6 (v9, x4.2 + (1 : Int32)) h10)
/-! FlareSlopes.ridgesBetween(II)I -/
noncomputable def sX1_ridgesBetween (G : GG) (N : Nat) (a0 : Option Nat) (a1 : Int32) (a2 : Int32) (h : Hp) : Out (Int32) :=
  bV h a0 3 (fun q12 => sX1_withTwo G N (some q12) a1 a2 h) fun v1 h2 =>
  gFr h2 a0 3 4 fun v3 =>
  gFr h2 v3 16 0 fun v4 =>
  gFr h2 a0 3 4 fun v5 =>
  bV h2 v5 16 (fun q11 => sX3_cabin G N (some q11) a2 h2) fun v6 h7 =>
  bV h7 v4 11 (fun q10 => sX5_ridges G N (some q10) v1 v6 h7) fun v8 h9 =>
  some (.inl v8, h9)
abbrev mX1_ridgesBetween : MI := (RX1, cX1_ridgesBetween, 4, (some .int), [], 10, 165, "ridgesBetween")
theorem tX1_ridgesBetween {G : GG} {l : Launch} (hs : l.stackTraces = false) {N : Nat} {a0 : Option Nat} {a1 : Int32} {a2 : Int32} {h : Hp} {r : Int32 ⊕ Nat} {hf : Hp} (ho : sX1_ridgesBetween G N a0 a1 a2 h = some (r, hf)) : gMet G l yX1_ridgesBetween (ws_ yX1_ridgesBetween cX1_ridgesBetween 4 (some .int)) 10 165 [gr a0, gi a1, gi a2] h cvI r hf := by
  refine gMet.of ho hs (plainFor_of_name pn_X1) rfl rfl (gbl rfl) fun X => ?_
  show gT G l X mX1_ridgesBetween cvI r hf 0 [(0, gr a0), (1, gi a1), (2, gi a2)] [] h (sX1_ridgesBetween G N a0 a1 a2 h)
  delta sX1_ridgesBetween
  refine g_aload_n (pc := 0) (x := a0) 0 rfl rfl dX1_ridgesBetween_0 ?_
  refine g_iload_n (pc := 1) (x := a1) 1 rfl rfl dX1_ridgesBetween_1 ?_
  refine g_iload_n (pc := 2) (x := a2) 2 rfl rfl dX1_ridgesBetween_2 ?_
  refine g_bVr (pc := 3) (y := yX1_withTwo) (ws := ws_ yX1_withTwo cX1_withTwo 4 (some (.object "FlareSlopes$Cabin"))) (fr := 9) (lo := 142) (as := [gi a1, gi a2]) (st := []) (g_no) rfl (fun _ _ _ e => tX1_withTwo hs e) (fun K _ _ _ hq hM R e1 e2 => g_runV (M := mX1_ridgesBetween) (pc := 3) (y := yX1_withTwo) (bytes := cX1_withTwo) (maxL := 4) (ret := (some (.object "FlareSlopes$Cabin"))) (fr := 9) (lo := 142) (as := [gi a1, gi a2]) (st := []) hq (C := "FlareSlopes") rfl gy_X1_withTwo (gbl rfl) (gbl rfl) (gbl rfl) q3129 q3131 qs44 dX1_ridgesBetween_3 K hM R e1 e2) fun v1 h2 => ?_
  refine g_astore_n (pc := 6) (lv' := [(3, gr v1), (0, gr a0), (2, gi a2)]) [0, 1, 3] rfl rfl (gblt rfl) dX1_ridgesBetween_6 ?_
  refine g_aload_n (pc := 7) (x := a0) 1 rfl rfl dX1_ridgesBetween_7 ?_
  refine g_getfr (pc := 8) k_3 (gblt rfl) lk_X1_56_3 dX1_ridgesBetween_8 fun v3 => ?_
  refine g_getfr (pc := 11) k_16 (gblt rfl) lk_X1_129_16 dX1_ridgesBetween_11 fun v4 => ?_
  refine g_aload_n (pc := 14) (x := v1) 0 rfl rfl dX1_ridgesBetween_14 ?_
  refine g_aload_n (pc := 15) (x := a0) 1 rfl rfl dX1_ridgesBetween_15 ?_
  refine g_getfr (pc := 16) k_3 (gblt rfl) lk_X1_56_3 dX1_ridgesBetween_16 fun v5 => ?_
  refine g_iload_n (pc := 19) (x := a2) 2 rfl rfl dX1_ridgesBetween_19 ?_
  refine g_bVr (pc := 20) (y := yX3_cabin) (ws := ws_ yX3_cabin cX3_cabin 2 (some (.object "FlareSlopes$Cabin"))) (fr := 3) (lo := 64) (as := [gi a2]) (st := [gr v1, gr v4]) (g_no) rfl (fun _ _ _ e => tX3_cabin hs e) (fun K _ _ _ hq hM R e1 e2 => g_runV (M := mX1_ridgesBetween) (pc := 20) (y := yX3_cabin) (bytes := cX3_cabin) (maxL := 2) (ret := (some (.object "FlareSlopes$Cabin"))) (fr := 3) (lo := 64) (as := [gi a2]) (st := [gr v1, gr v4]) hq (C := "FlareSlopes$State") rfl gy_X3_cabin (gbl rfl) (gbl rfl) (gbl rfl) q1738 q1639 q1640 dX1_ridgesBetween_20 K hM R e1 e2) fun v6 h7 => ?_
  refine g_bVi (pc := 23) (y := yX5_ridges) (ws := ws_ yX5_ridges cX5_ridges 5 (some .int)) (fr := 3) (lo := 64) (as := [gr v1, gr v6]) (st := []) (g_no) rfl (fun _ _ _ e => tX5_ridges hs e) (fun K _ _ _ hq hM R e1 e2 => g_runV (M := mX1_ridgesBetween) (pc := 23) (y := yX5_ridges) (bytes := cX5_ridges) (maxL := 5) (ret := (some .int)) (fr := 3) (lo := 64) (as := [gr v1, gr v6]) (st := []) hq (C := "FlareSlopes$Mountain") rfl gy_X5_ridges (gbl rfl) (gbl rfl) (gbl rfl) q3190 q1710 q1711 dX1_ridgesBetween_23 K hM R e1 e2) fun v8 h9 => ?_
  exact g_ireturn (pc := 26) rfl dX1_ridgesBetween_26
/-! FlareSlopesLaw.ridgesBetween(LFlareSlopes;II[J)I -/
noncomputable def sX0_ridgesBetween (G : GG) (N : Nat) (a0 : Option Nat) (a1 : Int32) (a2 : Int32) (a3 : Option Nat) (h : Hp) : Out (Int32) :=
  bVX h a0 3 (fun q4 => sX1_ridgesBetween G N (some q4) a1 a2 h) (fun v1 h2 =>
  gSl G h2 a3 3 (0 : Int32) (v1.toInt64) fun h3 =>
  some (.inl (0 : Int32), h3)) fun q5 h6 =>
  gSw h6 (some q5) 0 (some (.inl (1 : Int32), h6)) (gSw h6 (some q5) 2 (some (.inl (2 : Int32), h6)) (none))
abbrev mX0_ridgesBetween : MI := (RX0, cX0_ridgesBetween, 5, (some .int), [(0, 10, 13, 21), (0, 10, 17, 13)], 11, 188, "ridgesBetween")
theorem tX0_ridgesBetween {G : GG} {l : Launch} (hs : l.stackTraces = false) {N : Nat} {a0 : Option Nat} {a1 : Int32} {a2 : Int32} {a3 : Option Nat} {h : Hp} {r : Int32 ⊕ Nat} {hf : Hp} (ho : sX0_ridgesBetween G N a0 a1 a2 a3 h = some (r, hf)) : gMet G l yX0_ridgesBetween (wsW_ yX0_ridgesBetween cX0_ridgesBetween 5 (some .int) [(0, 10, 13, 21), (0, 10, 17, 13)]) 11 188 [gr a0, gi a1, gi a2, gr a3] h cvI r hf := by
  refine gMet.ofW ho hs (plainFor_of_name pn_X0) rfl rfl (gbl rfl) fun X => ?_
  show gT G l X mX0_ridgesBetween cvI r hf 0 [(0, gr a0), (1, gi a1), (2, gi a2), (3, gr a3)] [] h (sX0_ridgesBetween G N a0 a1 a2 a3 h)
  delta sX0_ridgesBetween
  refine g_aload_n (pc := 0) (x := a3) 3 rfl rfl dX0_ridgesBetween_0 ?_
  refine g_iconst (pc := 1) (v := (0 : Int32)) ic_0 dX0_ridgesBetween_1 ?_
  refine g_aload_n (pc := 2) (x := a0) 0 rfl rfl dX0_ridgesBetween_2 ?_
  refine g_iload_n (pc := 3) (x := a1) 1 rfl rfl dX0_ridgesBetween_3 ?_
  refine g_iload_n (pc := 4) (x := a2) 2 rfl rfl dX0_ridgesBetween_4 ?_
  refine g_bVXi (pc := 5) (y := yX1_ridgesBetween) (ws := ws_ yX1_ridgesBetween cX1_ridgesBetween 4 (some .int)) (fr := 10) (lo := 165) (as := [gi a1, gi a2]) (st := [gi (0 : Int32), gr a3]) rfl (fun _ _ _ e => tX1_ridgesBetween hs e) (fun K _ _ _ hq hM R e1 e2 => g_runV (M := mX0_ridgesBetween) (pc := 5) (y := yX1_ridgesBetween) (bytes := cX1_ridgesBetween) (maxL := 4) (ret := (some .int)) (fr := 10) (lo := 165) (as := [gi a1, gi a2]) (st := [gi (0 : Int32), gr a3]) hq (C := "FlareSlopes") rfl gy_X1_ridgesBetween (gbl rfl) (gbl rfl) (gbl rfl) q3186 q3187 q3188 dX0_ridgesBetween_5 K hM R e1 e2) (fun v1 h2 => ?_) (fun q5 h6 => ?_)
  · refine g_i2l (pc := 8) dX0_ridgesBetween_8 ?_
    refine g_lastore (pc := 9) rfl dX0_ridgesBetween_9 fun h3 => ?_
    refine g_goto (pc := 10) (tgt := 21) rfl dX0_ridgesBetween_10 ?_
    refine g_iconst (pc := 21) (v := (0 : Int32)) ic_0 dX0_ridgesBetween_21 ?_
    exact g_ireturn (pc := 22) rfl dX0_ridgesBetween_22
  refine g_catch (E := "java/lang/IllegalStateException") [] ⟨0, 10, 13, 21⟩ [⟨0, 10, 17, 13⟩] rfl rfl (List.forall_mem_nil _) (by decide +kernel) (by decide +kernel) q1425 q1439 ?_ ?_
  · refine g_astore (pc := 13) (lv' := []) [] rfl (gblt rfl) dX0_ridgesBetween_13 ?_
    refine g_iconst (pc := 15) (v := (1 : Int32)) ic_1 dX0_ridgesBetween_15 ?_
    exact g_ireturn (pc := 16) rfl dX0_ridgesBetween_16
  refine g_catch (E := "java/lang/IndexOutOfBoundsException") [⟨0, 10, 13, 21⟩] ⟨0, 10, 17, 13⟩ [] rfl rfl (List.forall_mem_cons.mpr ⟨Or.inr ⟨by decide +kernel, _, q1425, ncl_java_lang_IndexOutOfBoundsException_java_lang_IllegalStateException⟩, List.forall_mem_nil _⟩) (by decide +kernel) (by decide +kernel) q325 q418 ?_ ?_
  · refine g_astore (pc := 17) (lv' := []) [] rfl (gblt rfl) dX0_ridgesBetween_17 ?_
    refine g_iconst (pc := 19) (v := (2 : Int32)) ic_2 dX0_ridgesBetween_19 ?_
    exact g_ireturn (pc := 20) rfl dX0_ridgesBetween_20
  exact g_noneX
/-! FlareSlopesModel.ridgesBetween(II)I -/
noncomputable def sX2_ridgesBetween (G : GG) (N : Nat) (a0 : Option Nat) (a1 : Int32) (a2 : Int32) (h : Hp) : Out (Int32) :=
  bV h a0 18 (fun q10 => sX2_mayCabins G N (some q10) a1 a2 h) fun v1 h2 =>
  if v1 = 0 then (some (.inl (0 : Int32), h2))
  else bnd (sX2_cabinAt G N a1 h2) fun v3 h4 =>
  bnd (sX2_cabinAt G N a2 h4) fun v5 h6 =>
  bV h6 a0 18 (fun q9 => sX2_parting G N (some q9) v3 v5 h6) fun v7 h8 =>
  some (.inl v7, h8)
abbrev mX2_ridgesBetween : MI := (RX2, cX2_ridgesBetween, 3, (some .int), [], 3, 67, "ridgesBetween")
theorem tX2_ridgesBetween {G : GG} {l : Launch} (hs : l.stackTraces = false) {N : Nat} {a0 : Option Nat} {a1 : Int32} {a2 : Int32} {h : Hp} {r : Int32 ⊕ Nat} {hf : Hp} (ho : sX2_ridgesBetween G N a0 a1 a2 h = some (r, hf)) : gMet G l yX2_ridgesBetween (ws_ yX2_ridgesBetween cX2_ridgesBetween 3 (some .int)) 3 67 [gr a0, gi a1, gi a2] h cvI r hf := by
  refine gMet.of ho hs (plainFor_of_name pn_X2) rfl rfl (gbl rfl) fun X => ?_
  show gT G l X mX2_ridgesBetween cvI r hf 0 [(0, gr a0), (1, gi a1), (2, gi a2)] [] h (sX2_ridgesBetween G N a0 a1 a2 h)
  delta sX2_ridgesBetween
  refine g_aload_n (pc := 0) (x := a0) 0 rfl rfl dX2_ridgesBetween_0 ?_
  refine g_iload_n (pc := 1) (x := a1) 1 rfl rfl dX2_ridgesBetween_1 ?_
  refine g_iload_n (pc := 2) (x := a2) 2 rfl rfl dX2_ridgesBetween_2 ?_
  refine g_bVi (pc := 3) (y := yX2_mayCabins) (ws := ws_ yX2_mayCabins cX2_mayCabins 3 (some .boolean)) (fr := 2) (lo := 45) (as := [gi a1, gi a2]) (st := []) (g_no) rfl (fun _ _ _ e => tX2_mayCabins hs e) (fun K _ _ _ hq hM R e1 e2 => g_runV (M := mX2_ridgesBetween) (pc := 3) (y := yX2_mayCabins) (bytes := cX2_mayCabins) (maxL := 3) (ret := (some .boolean)) (fr := 2) (lo := 45) (as := [gi a1, gi a2]) (st := []) hq (C := "FlareSlopesModel") rfl gy_X2_mayCabins (gbl rfl) (gbl rfl) (gbl rfl) q4308 q4310 qs103 dX2_ridgesBetween_3 K hM R e1 e2) fun v1 h2 => ?_
  refine g_if_eq (pc := 6) (tgt := 24) rfl dX2_ridgesBetween_6 ?_ ?_
  · refine g_iconst (pc := 24) (v := (0 : Int32)) ic_0 dX2_ridgesBetween_24 ?_
    exact g_ireturn (pc := 25) rfl dX2_ridgesBetween_25
  refine g_aload_n (pc := 9) (x := a0) 0 rfl rfl dX2_ridgesBetween_9 ?_
  refine g_iload_n (pc := 10) (x := a1) 1 rfl rfl dX2_ridgesBetween_10 ?_
  refine g_bi (pc := 11) (y := yX2_cabinAt) (ws := ws_ yX2_cabinAt cX2_cabinAt 1 (some .int)) (fr := 0) (lo := 0) (as := [gi a1]) (st := [gr a0]) (g_no) rfl (fun _ _ e => tX2_cabinAt hs e) (fun K _ _ hM R e1 e2 => g_runS (M := mX2_ridgesBetween) (pc := 11) (y := yX2_cabinAt) (bytes := cX2_cabinAt) (maxL := 1) (ret := (some .int)) (fr := 0) (lo := 0) (as := [gi a1]) (st := [gr a0]) gy_X2_cabinAt (gbl rfl) (gbl rfl) (gbl rfl) q4179 q4180 dX2_ridgesBetween_11 K hM R e1 e2) fun v3 h4 => ?_
  refine g_iload_n (pc := 14) (x := a2) 2 rfl rfl dX2_ridgesBetween_14 ?_
  refine g_bi (pc := 15) (y := yX2_cabinAt) (ws := ws_ yX2_cabinAt cX2_cabinAt 1 (some .int)) (fr := 0) (lo := 0) (as := [gi a2]) (st := [gi v3, gr a0]) (g_no) rfl (fun _ _ e => tX2_cabinAt hs e) (fun K _ _ hM R e1 e2 => g_runS (M := mX2_ridgesBetween) (pc := 15) (y := yX2_cabinAt) (bytes := cX2_cabinAt) (maxL := 1) (ret := (some .int)) (fr := 0) (lo := 0) (as := [gi a2]) (st := [gi v3, gr a0]) gy_X2_cabinAt (gbl rfl) (gbl rfl) (gbl rfl) q4179 q4180 dX2_ridgesBetween_15 K hM R e1 e2) fun v5 h6 => ?_
  refine g_bVi (pc := 18) (y := yX2_parting) (ws := ws_ yX2_parting cX2_parting 6 (some .int)) (fr := 1) (lo := 21) (as := [gi v3, gi v5]) (st := []) (g_no) rfl (fun _ _ _ e => tX2_parting hs e) (fun K _ _ _ hq hM R e1 e2 => g_runV (M := mX2_ridgesBetween) (pc := 18) (y := yX2_parting) (bytes := cX2_parting) (maxL := 6) (ret := (some .int)) (fr := 1) (lo := 21) (as := [gi v3, gi v5]) (st := []) hq (C := "FlareSlopesModel") rfl gy_X2_parting (gbl rfl) (gbl rfl) (gbl rfl) q4191 q4193 qs84 dX2_ridgesBetween_18 K hM R e1 e2) fun v7 h8 => ?_
  refine g_goto (pc := 21) (tgt := 25) rfl dX2_ridgesBetween_21 ?_
  exact g_ireturn (pc := 25) rfl dX2_ridgesBetween_25
/-! FlareSlopes.vote(IIII)I -/
noncomputable def sX1_vote (G : GG) (N : Nat) (a0 : Option Nat) (a1 : Int32) (a2 : Int32) (a3 : Int32) (a4 : Int32) (h : Hp) : Out (Int32) :=
  bV h a0 3 (fun q28 => sX1_withTwo G N (some q28) a1 a2 h) fun v1 h2 =>
  gFr h2 a0 3 4 fun v3 =>
  bV h2 v3 16 (fun q27 => sX3_slopes G N (some q27) h2) fun v4 h5 =>
  bnd (sX1_checkIndex G N a3 v4 h5) fun v6 h7 =>
  bnd (sX1_in G N a4 (0 : Int32) (2 : Int32) h7) fun v8 h9 =>
  bnd (sX1_checkArgument G N v8 h9) fun v10 h11 =>
  gFr h11 v1 7 8 fun v12 =>
  gNew h11 10 [.int 0, .int 0] 2 fun v13 h14 =>
  bI v13 (fun q26 => sX7_init G N (some q26) a2 a3 h14) fun v15 h16 =>
  bV h16 v12 26 (fun q25 => sJ24_get G N (some q25) v13 h16) fun v17 h18 =>
  gCk h18 v17 [17] (if v17 = none then (some (.inl (-1 : Int32), h18))
  else if a4 = 0 then (gFi h18 v17 17 0 fun v24 =>
  if v24 = 0 then (some (.inl (0 : Int32), h18))
  else some (.inl (1 : Int32), h18))
  else if a4 = (1 : Int32) then (gFi h18 v17 17 1 fun v23 =>
  some (.inl v23, h18))
  else gFr h18 a0 3 4 fun v19 =>
  bV h18 v19 16 (fun q22 => sX3_weight G N (some q22) a2 a3 h18) fun v20 h21 =>
  some (.inl v20, h21))
abbrev mX1_vote : MI := (RX1, cX1_vote, 7, (some .int), [], 10, 165, "vote")
theorem tX1_vote {G : GG} {l : Launch} (hs : l.stackTraces = false) {N : Nat} {a0 : Option Nat} {a1 : Int32} {a2 : Int32} {a3 : Int32} {a4 : Int32} {h : Hp} {r : Int32 ⊕ Nat} {hf : Hp} (ho : sX1_vote G N a0 a1 a2 a3 a4 h = some (r, hf)) : gMet G l yX1_vote (ws_ yX1_vote cX1_vote 7 (some .int)) 10 165 [gr a0, gi a1, gi a2, gi a3, gi a4] h cvI r hf := by
  refine gMet.of ho hs (plainFor_of_name pn_X1) rfl rfl (gbl rfl) fun X => ?_
  show gT G l X mX1_vote cvI r hf 0 [(0, gr a0), (1, gi a1), (2, gi a2), (3, gi a3), (4, gi a4)] [] h (sX1_vote G N a0 a1 a2 a3 a4 h)
  delta sX1_vote
  refine g_aload_n (pc := 0) (x := a0) 0 rfl rfl dX1_vote_0 ?_
  refine g_iload_n (pc := 1) (x := a1) 1 rfl rfl dX1_vote_1 ?_
  refine g_iload_n (pc := 2) (x := a2) 2 rfl rfl dX1_vote_2 ?_
  refine g_bVr (pc := 3) (y := yX1_withTwo) (ws := ws_ yX1_withTwo cX1_withTwo 4 (some (.object "FlareSlopes$Cabin"))) (fr := 9) (lo := 142) (as := [gi a1, gi a2]) (st := []) (g_no) rfl (fun _ _ _ e => tX1_withTwo hs e) (fun K _ _ _ hq hM R e1 e2 => g_runV (M := mX1_vote) (pc := 3) (y := yX1_withTwo) (bytes := cX1_withTwo) (maxL := 4) (ret := (some (.object "FlareSlopes$Cabin"))) (fr := 9) (lo := 142) (as := [gi a1, gi a2]) (st := []) hq (C := "FlareSlopes") rfl gy_X1_withTwo (gbl rfl) (gbl rfl) (gbl rfl) q3129 q3131 qs44 dX1_vote_3 K hM R e1 e2) fun v1 h2 => ?_
  refine g_astore (pc := 6) (lv' := [(5, gr v1), (0, gr a0), (2, gi a2), (3, gi a3), (4, gi a4)]) [0, 1, 3, 4, 5] rfl (gblt rfl) dX1_vote_6 ?_
  refine g_iload_n (pc := 8) (x := a3) 3 rfl rfl dX1_vote_8 ?_
  refine g_aload_n (pc := 9) (x := a0) 1 rfl rfl dX1_vote_9 ?_
  refine g_getfr (pc := 10) k_3 (gblt rfl) lk_X1_56_3 dX1_vote_10 fun v3 => ?_
  refine g_bVi (pc := 13) (y := yX3_slopes) (ws := ws_ yX3_slopes cX3_slopes 1 (some .int)) (fr := 2) (lo := 40) (as := []) (st := [gi a3]) (g_no) rfl (fun _ _ _ e => tX3_slopes hs e) (fun K _ _ _ hq hM R e1 e2 => g_runV (M := mX1_vote) (pc := 13) (y := yX3_slopes) (bytes := cX3_slopes) (maxL := 1) (ret := (some .int)) (fr := 2) (lo := 40) (as := []) (st := [gi a3]) hq (C := "FlareSlopes$State") rfl gy_X3_slopes (gbl rfl) (gbl rfl) (gbl rfl) q1464 q1465 q1466 dX1_vote_13 K hM R e1 e2) fun v4 h5 => ?_
  refine g_bu (pc := 16) (y := yX1_checkIndex) (ws := ws_ yX1_checkIndex cX1_checkIndex 2 none) (fr := 6) (lo := 81) (as := [gi a3, gi v4]) (st := []) (g_no) rfl (fun _ _ e => tX1_checkIndex hs e) (fun K _ _ hM R e1 e2 => g_runS (M := mX1_vote) (pc := 16) (y := yX1_checkIndex) (bytes := cX1_checkIndex) (maxL := 2) (ret := none) (fr := 6) (lo := 81) (as := [gi a3, gi v4]) (st := []) gy_X1_checkIndex (gbl rfl) (gbl rfl) (gbl rfl) q410 q411 dX1_vote_16 K hM R e1 e2) fun v6 h7 => ?_
  refine g_iload (pc := 19) (x := a4) 4 rfl dX1_vote_19 ?_
  refine g_iconst (pc := 21) (v := (0 : Int32)) ic_0 dX1_vote_21 ?_
  refine g_iconst (pc := 22) (v := (2 : Int32)) ic_2 dX1_vote_22 ?_
  refine g_bi (pc := 23) (y := yX1_in) (ws := ws_ yX1_in cX1_in 3 (some .boolean)) (fr := 0) (lo := 0) (as := [gi a4, gi (0 : Int32), gi (2 : Int32)]) (st := []) (g_no) rfl (fun _ _ e => tX1_in hs e) (fun K _ _ hM R e1 e2 => g_runS (M := mX1_vote) (pc := 23) (y := yX1_in) (bytes := cX1_in) (maxL := 3) (ret := (some .boolean)) (fr := 0) (lo := 0) (as := [gi a4, gi (0 : Int32), gi (2 : Int32)]) (st := []) gy_X1_in (gbl rfl) (gbl rfl) (gbl rfl) q413 q414 dX1_vote_23 K hM R e1 e2) fun v8 h9 => ?_
  refine g_bu (pc := 26) (y := yX1_checkArgument) (ws := ws_ yX1_checkArgument cX1_checkArgument 1 none) (fr := 6) (lo := 81) (as := [gi v8]) (st := []) (g_no) rfl (fun _ _ e => tX1_checkArgument hs e) (fun K _ _ hM R e1 e2 => g_runS (M := mX1_vote) (pc := 26) (y := yX1_checkArgument) (bytes := cX1_checkArgument) (maxL := 1) (ret := none) (fr := 6) (lo := 81) (as := [gi v8]) (st := []) gy_X1_checkArgument (gbl rfl) (gbl rfl) (gbl rfl) q1958 q1959 dX1_vote_26 K hM R e1 e2) fun v10 h11 => ?_
  refine g_aload (pc := 29) (x := v1) 0 rfl dX1_vote_29 ?_
  refine g_getfr (pc := 31) k_7 (gblt rfl) lk_X1_205_7 dX1_vote_31 fun v12 => ?_
  refine g_new (pc := 34) k_10 df_10 q2784 q493 q147 dX1_vote_34 fun v13 h14 => ?_
  refine g_dup (pc := 37) rfl dX1_vote_37 ?_
  refine g_iload_n (pc := 38) (x := a2) 2 rfl rfl dX1_vote_38 ?_
  refine g_iload_n (pc := 39) (x := a3) 3 rfl rfl dX1_vote_39 ?_
  refine g_bIu (pc := 40) (y := yX7_init) (ws := ws_ yX7_init cX7_init 3 none) (fr := 1) (lo := 12) (as := [gi a2, gi a3]) (st := [gr v13, gr v12]) (g_no) rfl (fun _ _ _ e => tX7_init hs e) (fun K _ _ _ hM R e1 e2 => g_runI (M := mX1_vote) (pc := 40) (y := yX7_init) (bytes := cX7_init) (maxL := 3) (ret := none) (fr := 1) (lo := 12) (as := [gi a2, gi a3]) (st := [gr v13, gr v12]) gy_X7_init (gbl rfl) (gbl rfl) (gbl rfl) rfl q3198 q495 rfl dX1_vote_40 K hM R e1 e2) fun v15 h16 => ?_
  refine g_bVr (pc := 43) (y := yJ24_get) (ws := ws_ yJ24_get cJ24_get 3 (some (.object "java/lang/Object"))) (fr := 4) (lo := 88) (as := [gr v13]) (st := []) (g_no) rfl (fun _ _ _ e => tJ24_get hs e) (fun K _ _ _ hq hM R e1 e2 => g_runF (x := ⟨"java/util/Map", "get", "(Ljava/lang/Object;)Ljava/lang/Object;"⟩) (M := mX1_vote) (pc := 43) (y := yJ24_get) (bytes := cJ24_get) (maxL := 3) (ret := (some (.object "java/lang/Object"))) (fr := 4) (lo := 88) (as := [gr v13]) (st := []) hq (C := "java/util/LinkedHashMap") rfl gy_J24_get rfl (gbl rfl) (gbl rfl) (gbl rfl) q3200 q2001 q2000 q2005 q2003 q1613 mhx_java_util_Map q2002 q2004 dX1_vote_43 K hM R e1 e2) fun v17 h18 => ?_
  refine g_checkcast (pc := 48) q1950 as_17_FlareSlopes_Vote dX1_vote_48 ?_
  refine g_astore (pc := 51) (lv' := [(6, gr v17), (0, gr a0), (2, gi a2), (3, gi a3), (4, gi a4)]) [0, 2, 3, 4, 5] rfl (gblt rfl) dX1_vote_51 ?_
  refine g_aload (pc := 53) (x := v17) 0 rfl dX1_vote_53 ?_
  refine g_ifnonnull (pc := 55) (tgt := 60) rfl dX1_vote_55 ?_ ?_
  · refine g_iconst (pc := 58) (v := (-1 : Int32)) ic_m1 dX1_vote_58 ?_
    exact g_ireturn (pc := 59) rfl dX1_vote_59
  refine g_iload (pc := 60) (x := a4) 4 rfl dX1_vote_60 ?_
  refine g_if_ne (pc := 62) (tgt := 81) rfl dX1_vote_62 ?_ ?_
  · refine g_aload (pc := 65) (x := v17) 0 rfl dX1_vote_65 ?_
    refine g_getfi (pc := 67) k_17 (gblt rfl) lk_X1_233_17 dX1_vote_67 fun v24 => ?_
    refine g_if_eq (pc := 70) (tgt := 77) rfl dX1_vote_70 ?_ ?_
    · refine g_iconst (pc := 77) (v := (0 : Int32)) ic_0 dX1_vote_77 ?_
      refine g_goto (pc := 78) (tgt := 104) rfl dX1_vote_78 ?_
      exact g_ireturn (pc := 104) rfl dX1_vote_104
    refine g_iconst (pc := 73) (v := (1 : Int32)) ic_1 dX1_vote_73 ?_
    refine g_goto (pc := 74) (tgt := 104) rfl dX1_vote_74 ?_
    exact g_ireturn (pc := 104) rfl dX1_vote_104
  refine g_iload (pc := 81) (x := a4) 4 rfl dX1_vote_81 ?_
  refine g_iconst (pc := 83) (v := (1 : Int32)) ic_1 dX1_vote_83 ?_
  refine g_icmp_ne (pc := 84) (tgt := 95) rfl dX1_vote_84 ?_ ?_
  · refine g_aload (pc := 87) (x := v17) 0 rfl dX1_vote_87 ?_
    refine g_getfi (pc := 89) k_17 (gblt rfl) lk_X1_394_17 dX1_vote_89 fun v23 => ?_
    refine g_goto (pc := 92) (tgt := 104) rfl dX1_vote_92 ?_
    exact g_ireturn (pc := 104) rfl dX1_vote_104
  refine g_aload_n (pc := 95) (x := a0) 1 rfl rfl dX1_vote_95 ?_
  refine g_getfr (pc := 96) k_3 (gblt rfl) lk_X1_56_3 dX1_vote_96 fun v19 => ?_
  refine g_iload_n (pc := 99) (x := a2) 2 rfl rfl dX1_vote_99 ?_
  refine g_iload_n (pc := 100) (x := a3) 3 rfl rfl dX1_vote_100 ?_
  refine g_bVi (pc := 101) (y := yX3_weight) (ws := ws_ yX3_weight cX3_weight 3 (some .int)) (fr := 5) (lo := 106) (as := [gi a2, gi a3]) (st := []) (g_no) rfl (fun _ _ _ e => tX3_weight hs e) (fun K _ _ _ hq hM R e1 e2 => g_runV (M := mX1_vote) (pc := 101) (y := yX3_weight) (bytes := cX3_weight) (maxL := 3) (ret := (some .int)) (fr := 5) (lo := 106) (as := [gi a2, gi a3]) (st := []) hq (C := "FlareSlopes$State") rfl gy_X3_weight (gbl rfl) (gbl rfl) (gbl rfl) q3201 q3085 q3086 dX1_vote_101 K hM R e1 e2) fun v20 h21 => ?_
  exact g_ireturn (pc := 104) rfl dX1_vote_104
/-! FlareSlopesLaw.vote(LFlareSlopes;IIII[J)I -/
noncomputable def sX0_vote (G : GG) (N : Nat) (a0 : Option Nat) (a1 : Int32) (a2 : Int32) (a3 : Int32) (a4 : Int32) (a5 : Option Nat) (h : Hp) : Out (Int32) :=
  bVX h a0 3 (fun q4 => sX1_vote G N (some q4) a1 a2 a3 a4 h) (fun v1 h2 =>
  gSl G h2 a5 3 (0 : Int32) (v1.toInt64) fun h3 =>
  some (.inl (0 : Int32), h3)) fun q5 h6 =>
  gSw h6 (some q5) 0 (some (.inl (1 : Int32), h6)) (gSw h6 (some q5) 1 (some (.inl (3 : Int32), h6)) (gSw h6 (some q5) 2 (some (.inl (2 : Int32), h6)) (none)))
abbrev mX0_vote : MI := (RX0, cX0_vote, 7, (some .int), [(0, 14, 17, 21), (0, 14, 21, 13), (0, 14, 25, 15)], 11, 191, "vote")
theorem tX0_vote {G : GG} {l : Launch} (hs : l.stackTraces = false) {N : Nat} {a0 : Option Nat} {a1 : Int32} {a2 : Int32} {a3 : Int32} {a4 : Int32} {a5 : Option Nat} {h : Hp} {r : Int32 ⊕ Nat} {hf : Hp} (ho : sX0_vote G N a0 a1 a2 a3 a4 a5 h = some (r, hf)) : gMet G l yX0_vote (wsW_ yX0_vote cX0_vote 7 (some .int) [(0, 14, 17, 21), (0, 14, 21, 13), (0, 14, 25, 15)]) 11 191 [gr a0, gi a1, gi a2, gi a3, gi a4, gr a5] h cvI r hf := by
  refine gMet.ofW ho hs (plainFor_of_name pn_X0) rfl rfl (gbl rfl) fun X => ?_
  show gT G l X mX0_vote cvI r hf 0 [(0, gr a0), (1, gi a1), (2, gi a2), (3, gi a3), (4, gi a4), (5, gr a5)] [] h (sX0_vote G N a0 a1 a2 a3 a4 a5 h)
  delta sX0_vote
  refine g_aload (pc := 0) (x := a5) 5 rfl dX0_vote_0 ?_
  refine g_iconst (pc := 2) (v := (0 : Int32)) ic_0 dX0_vote_2 ?_
  refine g_aload_n (pc := 3) (x := a0) 0 rfl rfl dX0_vote_3 ?_
  refine g_iload_n (pc := 4) (x := a1) 1 rfl rfl dX0_vote_4 ?_
  refine g_iload_n (pc := 5) (x := a2) 2 rfl rfl dX0_vote_5 ?_
  refine g_iload_n (pc := 6) (x := a3) 3 rfl rfl dX0_vote_6 ?_
  refine g_iload (pc := 7) (x := a4) 4 rfl dX0_vote_7 ?_
  refine g_bVXi (pc := 9) (y := yX1_vote) (ws := ws_ yX1_vote cX1_vote 7 (some .int)) (fr := 10) (lo := 165) (as := [gi a1, gi a2, gi a3, gi a4]) (st := [gi (0 : Int32), gr a5]) rfl (fun _ _ _ e => tX1_vote hs e) (fun K _ _ _ hq hM R e1 e2 => g_runV (M := mX0_vote) (pc := 9) (y := yX1_vote) (bytes := cX1_vote) (maxL := 7) (ret := (some .int)) (fr := 10) (lo := 165) (as := [gi a1, gi a2, gi a3, gi a4]) (st := [gi (0 : Int32), gr a5]) hq (C := "FlareSlopes") rfl gy_X1_vote (gbl rfl) (gbl rfl) (gbl rfl) q3194 q3195 q3196 dX0_vote_9 K hM R e1 e2) (fun v1 h2 => ?_) (fun q5 h6 => ?_)
  · refine g_i2l (pc := 12) dX0_vote_12 ?_
    refine g_lastore (pc := 13) rfl dX0_vote_13 fun h3 => ?_
    refine g_goto (pc := 14) (tgt := 29) rfl dX0_vote_14 ?_
    refine g_iconst (pc := 29) (v := (0 : Int32)) ic_0 dX0_vote_29 ?_
    exact g_ireturn (pc := 30) rfl dX0_vote_30
  refine g_catch (E := "java/lang/IllegalStateException") [] ⟨0, 14, 17, 21⟩ [⟨0, 14, 21, 13⟩, ⟨0, 14, 25, 15⟩] rfl rfl (List.forall_mem_nil _) (by decide +kernel) (by decide +kernel) q1425 q1439 ?_ ?_
  · refine g_astore (pc := 17) (lv' := []) [] rfl (gblt rfl) dX0_vote_17 ?_
    refine g_iconst (pc := 19) (v := (1 : Int32)) ic_1 dX0_vote_19 ?_
    exact g_ireturn (pc := 20) rfl dX0_vote_20
  refine g_catch (E := "java/lang/IllegalArgumentException") [⟨0, 14, 17, 21⟩, ⟨0, 14, 21, 13⟩] ⟨0, 14, 25, 15⟩ [] rfl rfl (List.forall_mem_cons.mpr ⟨Or.inr ⟨by decide +kernel, _, q1425, ncl_java_lang_IllegalArgumentException_java_lang_IllegalStateException⟩, List.forall_mem_cons.mpr ⟨Or.inr ⟨by decide +kernel, _, q325, ncl_java_lang_IllegalArgumentException_java_lang_IndexOutOfBoundsException⟩, List.forall_mem_nil _⟩⟩) (by decide +kernel) (by decide +kernel) q404 q751 ?_ ?_
  · refine g_astore (pc := 25) (lv' := []) [] rfl (gblt rfl) dX0_vote_25 ?_
    refine g_iconst (pc := 27) (v := (3 : Int32)) ic_3 dX0_vote_27 ?_
    exact g_ireturn (pc := 28) rfl dX0_vote_28
  refine g_catch (E := "java/lang/IndexOutOfBoundsException") [⟨0, 14, 17, 21⟩] ⟨0, 14, 21, 13⟩ [⟨0, 14, 25, 15⟩] rfl rfl (List.forall_mem_cons.mpr ⟨Or.inr ⟨by decide +kernel, _, q1425, ncl_java_lang_IndexOutOfBoundsException_java_lang_IllegalStateException⟩, List.forall_mem_nil _⟩) (by decide +kernel) (by decide +kernel) q325 q418 ?_ ?_
  · refine g_astore (pc := 21) (lv' := []) [] rfl (gblt rfl) dX0_vote_21 ?_
    refine g_iconst (pc := 23) (v := (2 : Int32)) ic_2 dX0_vote_23 ?_
    exact g_ireturn (pc := 24) rfl dX0_vote_24
  exact g_noneX
/-! FlareSlopesModel.timeOf(I)I -/
noncomputable def sX2_timeOf (G : GG) (N : Nat) (a0 : Int32) (h : Hp) : Out (Int32) :=
  gDv (a0 - (1 : Int32)) (2 : Int32) fun v1 =>
  some (.inl v1, h)
abbrev mX2_timeOf : MI := (RX2, cX2_timeOf, 1, (some .int), [], 0, 0, "timeOf")
theorem tX2_timeOf {G : GG} {l : Launch} (hs : l.stackTraces = false) {N : Nat} {a0 : Int32} {h : Hp} {r : Int32 ⊕ Nat} {hf : Hp} (ho : sX2_timeOf G N a0 h = some (r, hf)) : gMet G l yX2_timeOf (ws_ yX2_timeOf cX2_timeOf 1 (some .int)) 0 0 [gi a0] h cvI r hf := by
  refine gMet.of ho hs (plainFor_of_name pn_X2) rfl rfl (gbl rfl) fun X => ?_
  show gT G l X mX2_timeOf cvI r hf 0 [(0, gi a0)] [] h (sX2_timeOf G N a0 h)
  delta sX2_timeOf
  refine g_iload_n (pc := 0) (x := a0) 0 rfl rfl dX2_timeOf_0 ?_
  refine g_iconst (pc := 1) (v := (1 : Int32)) ic_1 dX2_timeOf_1 ?_
  refine g_isub (pc := 2) dX2_timeOf_2 ?_
  refine g_iconst (pc := 3) (v := (2 : Int32)) ic_2 dX2_timeOf_3 ?_
  refine g_idiv (pc := 4) dX2_timeOf_4 fun v1 => ?_
  exact g_ireturn (pc := 5) rfl dX2_timeOf_5
/-! FlareSlopesModel.vote(IIII)I -/
noncomputable def sX2_vote (G : GG) (N : Nat) (a0 : Option Nat) (a1 : Int32) (a2 : Int32) (a3 : Int32) (a4 : Int32) (h : Hp) : Out (Int32) :=
  gFi h a0 18 8 fun v1 =>
  bV h a0 18 (fun q31 => sX2_isCabin G N (some q31) a1 h) fun v2 h3 =>
  gJ (fun (x4 : Int32) (h5 : Hp) =>
  bnd (sX2_in G N a4 (0 : Int32) (2 : Int32) h5) fun v7 h8 =>
  bV h8 a0 18 (fun q21 => sX2_may G N (some q21) v1 x4 v7 h8) fun v9 h10 =>
  if v9 = 0 then (some (.inl (0 : Int32), h10))
  else bV h10 a0 18 (fun q20 => sX2_voteOf G N (some q20) a1 a2 a3 h10) fun v11 h12 =>
  if v11 = 0 then (some (.inl (-1 : Int32), h12))
  else if a4 = 0 then (bnd (sX2_isRed G N v11 h12) fun v18 h19 =>
  if v18 = 0 then (some (.inl (0 : Int32), h19))
  else some (.inl (1 : Int32), h19))
  else if a4 = (1 : Int32) then (bnd (sX2_timeOf G N v11 h12) fun v16 h17 =>
  some (.inl v16, h17))
  else bV h12 a0 18 (fun q15 => sX2_weight G N (some q15) a2 a3 h12) fun v13 h14 =>
  some (.inl v13, h14)) fun j6 =>
  gJ (fun (x22 : Unit) (h23 : Hp) =>
  j6 (0 : Int32) h23) fun j24 =>
  if v2 = 0 then (j24 () h3)
  else bV h3 a0 18 (fun q30 => sX2_isCabin G N (some q30) a2 h3) fun v25 h26 =>
  if v25 = 0 then (j24 () h26)
  else bV h26 a0 18 (fun q29 => sX2_isSlope G N (some q29) a3 h26) fun v27 h28 =>
  if v27 = 0 then (j24 () h28)
  else j6 (1 : Int32) h28
abbrev mX2_vote : MI := (RX2, cX2_vote, 6, (some .int), [], 3, 64, "vote")
theorem tX2_vote {G : GG} {l : Launch} (hs : l.stackTraces = false) {N : Nat} {a0 : Option Nat} {a1 : Int32} {a2 : Int32} {a3 : Int32} {a4 : Int32} {h : Hp} {r : Int32 ⊕ Nat} {hf : Hp} (ho : sX2_vote G N a0 a1 a2 a3 a4 h = some (r, hf)) : gMet G l yX2_vote (ws_ yX2_vote cX2_vote 6 (some .int)) 3 64 [gr a0, gi a1, gi a2, gi a3, gi a4] h cvI r hf := by
  refine gMet.of ho hs (plainFor_of_name pn_X2) rfl rfl (gbl rfl) fun X => ?_
  show gT G l X mX2_vote cvI r hf 0 [(0, gr a0), (1, gi a1), (2, gi a2), (3, gi a3), (4, gi a4)] [] h (sX2_vote G N a0 a1 a2 a3 a4 h)
  delta sX2_vote
  refine g_aload_n (pc := 0) (x := a0) 0 rfl rfl dX2_vote_0 ?_
  refine g_aload_n (pc := 1) (x := a0) 0 rfl rfl dX2_vote_1 ?_
  refine g_getfi (pc := 2) k_18 (gblt rfl) lk_X2_184_18 dX2_vote_2 fun v1 => ?_
  refine g_aload_n (pc := 5) (x := a0) 0 rfl rfl dX2_vote_5 ?_
  refine g_iload_n (pc := 6) (x := a1) 1 rfl rfl dX2_vote_6 ?_
  refine g_bVi (pc := 7) (y := yX2_isCabin) (ws := ws_ yX2_isCabin cX2_isCabin 2 (some .boolean)) (fr := 1) (lo := 22) (as := [gi a1]) (st := [gi v1, gr a0]) (g_no) rfl (fun _ _ _ e => tX2_isCabin hs e) (fun K _ _ _ hq hM R e1 e2 => g_runV (M := mX2_vote) (pc := 7) (y := yX2_isCabin) (bytes := cX2_isCabin) (maxL := 2) (ret := (some .boolean)) (fr := 1) (lo := 22) (as := [gi a1]) (st := [gi v1, gr a0]) hq (C := "FlareSlopesModel") rfl gy_X2_isCabin (gbl rfl) (gbl rfl) (gbl rfl) q4214 q4216 qs87 dX2_vote_7 K hM R e1 e2) fun v2 h3 => ?_
  refine g_join 34 (fun (x4 : Int32) => [(0, gr a0), (1, gi a1), (2, gi a2), (3, gi a3), (4, gi a4)]) (fun (x4 : Int32) => [gi x4, gi v1, gr a0]) (fun x4 h5 => ?_) (fun j6 Hj6 => ?_)
  · refine g_iload (pc := 34) (x := a4) 4 rfl dX2_vote_34 ?_
    refine g_iconst (pc := 36) (v := (0 : Int32)) ic_0 dX2_vote_36 ?_
    refine g_iconst (pc := 37) (v := (2 : Int32)) ic_2 dX2_vote_37 ?_
    refine g_bi (pc := 38) (y := yX2_in) (ws := ws_ yX2_in cX2_in 3 (some .boolean)) (fr := 0) (lo := 0) (as := [gi a4, gi (0 : Int32), gi (2 : Int32)]) (st := [gi x4, gi v1, gr a0]) (g_no) rfl (fun _ _ e => tX2_in hs e) (fun K _ _ hM R e1 e2 => g_runS (M := mX2_vote) (pc := 38) (y := yX2_in) (bytes := cX2_in) (maxL := 3) (ret := (some .boolean)) (fr := 0) (lo := 0) (as := [gi a4, gi (0 : Int32), gi (2 : Int32)]) (st := [gi x4, gi v1, gr a0]) gy_X2_in (gbl rfl) (gbl rfl) (gbl rfl) q4037 q4038 dX2_vote_38 K hM R e1 e2) fun v7 h8 => ?_
    refine g_bVi (pc := 41) (y := yX2_may) (ws := ws_ yX2_may cX2_may 4 (some .boolean)) (fr := 0) (lo := 0) (as := [gi v1, gi x4, gi v7]) (st := []) (g_no) rfl (fun _ _ _ e => tX2_may hs e) (fun K _ _ _ hq hM R e1 e2 => g_runV (M := mX2_vote) (pc := 41) (y := yX2_may) (bytes := cX2_may) (maxL := 4) (ret := (some .boolean)) (fr := 0) (lo := 0) (as := [gi v1, gi x4, gi v7]) (st := []) hq (C := "FlareSlopesModel") rfl gy_X2_may (gbl rfl) (gbl rfl) (gbl rfl) q4040 q4042 qs54 dX2_vote_41 K hM R e1 e2) fun v9 h10 => ?_
    refine g_if_ne (pc := 44) (tgt := 49) rfl dX2_vote_44 ?_ ?_
    · refine g_iconst (pc := 47) (v := (0 : Int32)) ic_0 dX2_vote_47 ?_
      exact g_ireturn (pc := 48) rfl dX2_vote_48
    refine g_aload_n (pc := 49) (x := a0) 0 rfl rfl dX2_vote_49 ?_
    refine g_iload_n (pc := 50) (x := a1) 1 rfl rfl dX2_vote_50 ?_
    refine g_iload_n (pc := 51) (x := a2) 2 rfl rfl dX2_vote_51 ?_
    refine g_iload_n (pc := 52) (x := a3) 3 rfl rfl dX2_vote_52 ?_
    refine g_bVi (pc := 53) (y := yX2_voteOf) (ws := ws_ yX2_voteOf cX2_voteOf 4 (some .int)) (fr := 1) (lo := 22) (as := [gi a1, gi a2, gi a3]) (st := []) (g_no) rfl (fun _ _ _ e => tX2_voteOf hs e) (fun K _ _ _ hq hM R e1 e2 => g_runV (M := mX2_vote) (pc := 53) (y := yX2_voteOf) (bytes := cX2_voteOf) (maxL := 4) (ret := (some .int)) (fr := 1) (lo := 22) (as := [gi a1, gi a2, gi a3]) (st := []) hq (C := "FlareSlopesModel") rfl gy_X2_voteOf (gbl rfl) (gbl rfl) (gbl rfl) q4222 q4224 qs89 dX2_vote_53 K hM R e1 e2) fun v11 h12 => ?_
    refine g_istore (pc := 56) (lv' := [(5, gi v11), (0, gr a0), (2, gi a2), (3, gi a3), (4, gi a4)]) [0, 1, 3, 4, 5] rfl (gblt rfl) dX2_vote_56 ?_
    refine g_iload (pc := 58) (x := v11) 0 rfl dX2_vote_58 ?_
    refine g_if_ne (pc := 60) (tgt := 65) rfl dX2_vote_60 ?_ ?_
    · refine g_iconst (pc := 63) (v := (-1 : Int32)) ic_m1 dX2_vote_63 ?_
      exact g_ireturn (pc := 64) rfl dX2_vote_64
    refine g_iload (pc := 65) (x := a4) 4 rfl dX2_vote_65 ?_
    refine g_if_ne (pc := 67) (tgt := 86) rfl dX2_vote_67 ?_ ?_
    · refine g_iload (pc := 70) (x := v11) 0 rfl dX2_vote_70 ?_
      refine g_bi (pc := 72) (y := yX2_isRed) (ws := ws_ yX2_isRed cX2_isRed 1 (some .boolean)) (fr := 0) (lo := 0) (as := [gi v11]) (st := []) (g_no) rfl (fun _ _ e => tX2_isRed hs e) (fun K _ _ hM R e1 e2 => g_runS (M := mX2_vote) (pc := 72) (y := yX2_isRed) (bytes := cX2_isRed) (maxL := 1) (ret := (some .boolean)) (fr := 0) (lo := 0) (as := [gi v11]) (st := []) gy_X2_isRed (gbl rfl) (gbl rfl) (gbl rfl) q4203 q4204 dX2_vote_72 K hM R e1 e2) fun v18 h19 => ?_
      refine g_if_eq (pc := 75) (tgt := 82) rfl dX2_vote_75 ?_ ?_
      · refine g_iconst (pc := 82) (v := (0 : Int32)) ic_0 dX2_vote_82 ?_
        refine g_goto (pc := 83) (tgt := 106) rfl dX2_vote_83 ?_
        exact g_ireturn (pc := 106) rfl dX2_vote_106
      refine g_iconst (pc := 78) (v := (1 : Int32)) ic_1 dX2_vote_78 ?_
      refine g_goto (pc := 79) (tgt := 106) rfl dX2_vote_79 ?_
      exact g_ireturn (pc := 106) rfl dX2_vote_106
    refine g_iload (pc := 86) (x := a4) 4 rfl dX2_vote_86 ?_
    refine g_iconst (pc := 88) (v := (1 : Int32)) ic_1 dX2_vote_88 ?_
    refine g_icmp_ne (pc := 89) (tgt := 100) rfl dX2_vote_89 ?_ ?_
    · refine g_iload (pc := 92) (x := v11) 0 rfl dX2_vote_92 ?_
      refine g_bi (pc := 94) (y := yX2_timeOf) (ws := ws_ yX2_timeOf cX2_timeOf 1 (some .int)) (fr := 0) (lo := 0) (as := [gi v11]) (st := []) (g_no) rfl (fun _ _ e => tX2_timeOf hs e) (fun K _ _ hM R e1 e2 => g_runS (M := mX2_vote) (pc := 94) (y := yX2_timeOf) (bytes := cX2_timeOf) (maxL := 1) (ret := (some .int)) (fr := 0) (lo := 0) (as := [gi v11]) (st := []) gy_X2_timeOf (gbl rfl) (gbl rfl) (gbl rfl) q4356 q4357 dX2_vote_94 K hM R e1 e2) fun v16 h17 => ?_
      refine g_goto (pc := 97) (tgt := 106) rfl dX2_vote_97 ?_
      exact g_ireturn (pc := 106) rfl dX2_vote_106
    refine g_aload_n (pc := 100) (x := a0) 1 rfl rfl dX2_vote_100 ?_
    refine g_iload_n (pc := 101) (x := a2) 2 rfl rfl dX2_vote_101 ?_
    refine g_iload_n (pc := 102) (x := a3) 3 rfl rfl dX2_vote_102 ?_
    refine g_bVi (pc := 103) (y := yX2_weight) (ws := ws_ yX2_weight cX2_weight 3 (some .int)) (fr := 2) (lo := 42) (as := [gi a2, gi a3]) (st := []) (g_no) rfl (fun _ _ _ e => tX2_weight hs e) (fun K _ _ _ hq hM R e1 e2 => g_runV (M := mX2_vote) (pc := 103) (y := yX2_weight) (bytes := cX2_weight) (maxL := 3) (ret := (some .int)) (fr := 2) (lo := 42) (as := [gi a2, gi a3]) (st := []) hq (C := "FlareSlopesModel") rfl gy_X2_weight (gbl rfl) (gbl rfl) (gbl rfl) q4279 q4281 qs100 dX2_vote_103 K hM R e1 e2) fun v13 h14 => ?_
    exact g_ireturn (pc := 106) rfl dX2_vote_106
  refine g_join 33 (fun (x22 : Unit) => [(0, gr a0), (1, gi a1), (2, gi a2), (3, gi a3), (4, gi a4)]) (fun (x22 : Unit) => [gi v1, gr a0]) (fun x22 h23 => ?_) (fun j24 Hj24 => ?_)
  · refine g_iconst (pc := 33) (v := (0 : Int32)) ic_0 dX2_vote_33 ?_
    exact Hj6 (0 : Int32) h23
  refine g_if_eq (pc := 10) (tgt := 33) rfl dX2_vote_10 ?_ ?_
  · exact Hj24 () h3
  refine g_aload_n (pc := 13) (x := a0) 0 rfl rfl dX2_vote_13 ?_
  refine g_iload_n (pc := 14) (x := a2) 2 rfl rfl dX2_vote_14 ?_
  refine g_bVi (pc := 15) (y := yX2_isCabin) (ws := ws_ yX2_isCabin cX2_isCabin 2 (some .boolean)) (fr := 1) (lo := 22) (as := [gi a2]) (st := [gi v1, gr a0]) (g_no) rfl (fun _ _ _ e => tX2_isCabin hs e) (fun K _ _ _ hq hM R e1 e2 => g_runV (M := mX2_vote) (pc := 15) (y := yX2_isCabin) (bytes := cX2_isCabin) (maxL := 2) (ret := (some .boolean)) (fr := 1) (lo := 22) (as := [gi a2]) (st := [gi v1, gr a0]) hq (C := "FlareSlopesModel") rfl gy_X2_isCabin (gbl rfl) (gbl rfl) (gbl rfl) q4214 q4216 qs87 dX2_vote_15 K hM R e1 e2) fun v25 h26 => ?_
  refine g_if_eq (pc := 18) (tgt := 33) rfl dX2_vote_18 ?_ ?_
  · exact Hj24 () h26
  refine g_aload_n (pc := 21) (x := a0) 0 rfl rfl dX2_vote_21 ?_
  refine g_iload_n (pc := 22) (x := a3) 3 rfl rfl dX2_vote_22 ?_
  refine g_bVi (pc := 23) (y := yX2_isSlope) (ws := ws_ yX2_isSlope cX2_isSlope 2 (some .boolean)) (fr := 1) (lo := 22) (as := [gi a3]) (st := [gi v1, gr a0]) (g_no) rfl (fun _ _ _ e => tX2_isSlope hs e) (fun K _ _ _ hq hM R e1 e2 => g_runV (M := mX2_vote) (pc := 23) (y := yX2_isSlope) (bytes := cX2_isSlope) (maxL := 2) (ret := (some .boolean)) (fr := 1) (lo := 22) (as := [gi a3]) (st := [gi v1, gr a0]) hq (C := "FlareSlopesModel") rfl gy_X2_isSlope (gbl rfl) (gbl rfl) (gbl rfl) q4245 q4247 qs93 dX2_vote_23 K hM R e1 e2) fun v27 h28 => ?_
  refine g_if_eq (pc := 26) (tgt := 33) rfl dX2_vote_26 ?_ ?_
  · exact Hj24 () h28
  refine g_iconst (pc := 29) (v := (1 : Int32)) ic_1 dX2_vote_29 ?_
  refine g_goto (pc := 30) (tgt := 34) rfl dX2_vote_30 ?_
  exact Hj6 (1 : Int32) h28
/-! FlareSlopes.weights(IIZ)I -/
noncomputable def sX1_weights (G : GG) (N : Nat) (a0 : Option Nat) (a1 : Int32) (a2 : Int32) (a3 : Int32) (h : Hp) : Out (Int32) :=
  bV h a0 3 (fun q13 => sX1_withBoth G N (some q13) a1 a2 h) fun v1 h2 =>
  gFr h2 a0 3 4 fun v3 =>
  bV h2 v3 16 (fun q12 => sX3_laySums G N (some q12) a1 h2) fun v4 h5 =>
  if a3 = 0 then (gFr h5 a0 3 4 fun v6 =>
  gFr h5 v6 16 13 fun v7 =>
  gAi h5 v7 0 a2 fun v8 =>
  some (.inl v8, h5))
  else gFr h5 a0 3 4 fun v9 =>
  gFr h5 v9 16 12 fun v10 =>
  gAi h5 v10 0 a2 fun v11 =>
  some (.inl v11, h5)
abbrev mX1_weights : MI := (RX1, cX1_weights, 5, (some .int), [], 10, 165, "weights")
theorem tX1_weights {G : GG} {l : Launch} (hs : l.stackTraces = false) {N : Nat} {a0 : Option Nat} {a1 : Int32} {a2 : Int32} {a3 : Int32} {h : Hp} {r : Int32 ⊕ Nat} {hf : Hp} (ho : sX1_weights G N a0 a1 a2 a3 h = some (r, hf)) : gMet G l yX1_weights (ws_ yX1_weights cX1_weights 5 (some .int)) 10 165 [gr a0, gi a1, gi a2, gi a3] h cvI r hf := by
  refine gMet.of ho hs (plainFor_of_name pn_X1) rfl rfl (gbl rfl) fun X => ?_
  show gT G l X mX1_weights cvI r hf 0 [(0, gr a0), (1, gi a1), (2, gi a2), (3, gi a3)] [] h (sX1_weights G N a0 a1 a2 a3 h)
  delta sX1_weights
  refine g_aload_n (pc := 0) (x := a0) 0 rfl rfl dX1_weights_0 ?_
  refine g_iload_n (pc := 1) (x := a1) 1 rfl rfl dX1_weights_1 ?_
  refine g_iload_n (pc := 2) (x := a2) 2 rfl rfl dX1_weights_2 ?_
  refine g_bVr (pc := 3) (y := yX1_withBoth) (ws := ws_ yX1_withBoth cX1_withBoth 4 (some (.object "FlareSlopes$Cabin"))) (fr := 9) (lo := 142) (as := [gi a1, gi a2]) (st := []) (g_no) rfl (fun _ _ _ e => tX1_withBoth hs e) (fun K _ _ _ hq hM R e1 e2 => g_runV (M := mX1_weights) (pc := 3) (y := yX1_withBoth) (bytes := cX1_withBoth) (maxL := 4) (ret := (some (.object "FlareSlopes$Cabin"))) (fr := 9) (lo := 142) (as := [gi a1, gi a2]) (st := []) hq (C := "FlareSlopes") rfl gy_X1_withBoth (gbl rfl) (gbl rfl) (gbl rfl) q3141 q3143 qs45 dX1_weights_3 K hM R e1 e2) fun v1 h2 => ?_
  refine g_astore (pc := 6) (lv' := [(0, gr a0), (1, gi a1), (2, gi a2), (3, gi a3)]) [1, 2, 3, 4] rfl (gblt rfl) dX1_weights_6 ?_
  refine g_aload_n (pc := 8) (x := a0) 0 rfl rfl dX1_weights_8 ?_
  refine g_getfr (pc := 9) k_3 (gblt rfl) lk_X1_56_3 dX1_weights_9 fun v3 => ?_
  refine g_iload_n (pc := 12) (x := a1) 1 rfl rfl dX1_weights_12 ?_
  refine g_bVu (pc := 13) (y := yX3_laySums) (ws := ws_ yX3_laySums cX3_laySums 6 none) (fr := 6) (lo := 128) (as := [gi a1]) (st := []) (g_no) rfl (fun _ _ _ e => tX3_laySums hs e) (fun K _ _ _ hq hM R e1 e2 => g_runV (M := mX1_weights) (pc := 13) (y := yX3_laySums) (bytes := cX3_laySums) (maxL := 6) (ret := none) (fr := 6) (lo := 128) (as := [gi a1]) (st := []) hq (C := "FlareSlopes$State") rfl gy_X3_laySums (gbl rfl) (gbl rfl) (gbl rfl) q3071 q3072 q3073 dX1_weights_13 K hM R e1 e2) fun v4 h5 => ?_
  refine g_iload_n (pc := 16) (x := a3) 3 rfl rfl dX1_weights_16 ?_
  refine g_if_eq (pc := 17) (tgt := 32) rfl dX1_weights_17 ?_ ?_
  · refine g_aload_n (pc := 32) (x := a0) 0 rfl rfl dX1_weights_32 ?_
    refine g_getfr (pc := 33) k_3 (gblt rfl) lk_X1_56_3 dX1_weights_33 fun v6 => ?_
    refine g_getfr (pc := 36) k_16 (gblt rfl) lk_X1_314_16 dX1_weights_36 fun v7 => ?_
    refine g_iload_n (pc := 39) (x := a2) 2 rfl rfl dX1_weights_39 ?_
    refine g_iaload (pc := 40) rfl dX1_weights_40 fun v8 => ?_
    exact g_ireturn (pc := 41) rfl dX1_weights_41
  refine g_aload_n (pc := 20) (x := a0) 0 rfl rfl dX1_weights_20 ?_
  refine g_getfr (pc := 21) k_3 (gblt rfl) lk_X1_56_3 dX1_weights_21 fun v9 => ?_
  refine g_getfr (pc := 24) k_16 (gblt rfl) lk_X1_311_16 dX1_weights_24 fun v10 => ?_
  refine g_iload_n (pc := 27) (x := a2) 2 rfl rfl dX1_weights_27 ?_
  refine g_iaload (pc := 28) rfl dX1_weights_28 fun v11 => ?_
  refine g_goto (pc := 29) (tgt := 41) rfl dX1_weights_29 ?_
  exact g_ireturn (pc := 41) rfl dX1_weights_41
/-! FlareSlopesLaw.weights(LFlareSlopes;IIZ[J)I -/
noncomputable def sX0_weights (G : GG) (N : Nat) (a0 : Option Nat) (a1 : Int32) (a2 : Int32) (a3 : Int32) (a4 : Option Nat) (h : Hp) : Out (Int32) :=
  bVX h a0 3 (fun q4 => sX1_weights G N (some q4) a1 a2 a3 h) (fun v1 h2 =>
  gSl G h2 a4 3 (0 : Int32) (v1.toInt64) fun h3 =>
  some (.inl (0 : Int32), h3)) fun q5 h6 =>
  gSw h6 (some q5) 0 (some (.inl (1 : Int32), h6)) (gSw h6 (some q5) 2 (some (.inl (2 : Int32), h6)) (none))
abbrev mX0_weights : MI := (RX0, cX0_weights, 6, (some .int), [(0, 12, 15, 21), (0, 12, 19, 13)], 11, 189, "weights")
theorem tX0_weights {G : GG} {l : Launch} (hs : l.stackTraces = false) {N : Nat} {a0 : Option Nat} {a1 : Int32} {a2 : Int32} {a3 : Int32} {a4 : Option Nat} {h : Hp} {r : Int32 ⊕ Nat} {hf : Hp} (ho : sX0_weights G N a0 a1 a2 a3 a4 h = some (r, hf)) : gMet G l yX0_weights (wsW_ yX0_weights cX0_weights 6 (some .int) [(0, 12, 15, 21), (0, 12, 19, 13)]) 11 189 [gr a0, gi a1, gi a2, gi a3, gr a4] h cvI r hf := by
  refine gMet.ofW ho hs (plainFor_of_name pn_X0) rfl rfl (gbl rfl) fun X => ?_
  show gT G l X mX0_weights cvI r hf 0 [(0, gr a0), (1, gi a1), (2, gi a2), (3, gi a3), (4, gr a4)] [] h (sX0_weights G N a0 a1 a2 a3 a4 h)
  delta sX0_weights
  refine g_aload (pc := 0) (x := a4) 4 rfl dX0_weights_0 ?_
  refine g_iconst (pc := 2) (v := (0 : Int32)) ic_0 dX0_weights_2 ?_
  refine g_aload_n (pc := 3) (x := a0) 0 rfl rfl dX0_weights_3 ?_
  refine g_iload_n (pc := 4) (x := a1) 1 rfl rfl dX0_weights_4 ?_
  refine g_iload_n (pc := 5) (x := a2) 2 rfl rfl dX0_weights_5 ?_
  refine g_iload_n (pc := 6) (x := a3) 3 rfl rfl dX0_weights_6 ?_
  refine g_bVXi (pc := 7) (y := yX1_weights) (ws := ws_ yX1_weights cX1_weights 5 (some .int)) (fr := 10) (lo := 165) (as := [gi a1, gi a2, gi a3]) (st := [gi (0 : Int32), gr a4]) rfl (fun _ _ _ e => tX1_weights hs e) (fun K _ _ _ hq hM R e1 e2 => g_runV (M := mX0_weights) (pc := 7) (y := yX1_weights) (bytes := cX1_weights) (maxL := 5) (ret := (some .int)) (fr := 10) (lo := 165) (as := [gi a1, gi a2, gi a3]) (st := [gi (0 : Int32), gr a4]) hq (C := "FlareSlopes") rfl gy_X1_weights (gbl rfl) (gbl rfl) (gbl rfl) q3205 q3206 q3207 dX0_weights_7 K hM R e1 e2) (fun v1 h2 => ?_) (fun q5 h6 => ?_)
  · refine g_i2l (pc := 10) dX0_weights_10 ?_
    refine g_lastore (pc := 11) rfl dX0_weights_11 fun h3 => ?_
    refine g_goto (pc := 12) (tgt := 23) rfl dX0_weights_12 ?_
    refine g_iconst (pc := 23) (v := (0 : Int32)) ic_0 dX0_weights_23 ?_
    exact g_ireturn (pc := 24) rfl dX0_weights_24
  refine g_catch (E := "java/lang/IllegalStateException") [] ⟨0, 12, 15, 21⟩ [⟨0, 12, 19, 13⟩] rfl rfl (List.forall_mem_nil _) (by decide +kernel) (by decide +kernel) q1425 q1439 ?_ ?_
  · refine g_astore (pc := 15) (lv' := []) [] rfl (gblt rfl) dX0_weights_15 ?_
    refine g_iconst (pc := 17) (v := (1 : Int32)) ic_1 dX0_weights_17 ?_
    exact g_ireturn (pc := 18) rfl dX0_weights_18
  refine g_catch (E := "java/lang/IndexOutOfBoundsException") [⟨0, 12, 15, 21⟩] ⟨0, 12, 19, 13⟩ [] rfl rfl (List.forall_mem_cons.mpr ⟨Or.inr ⟨by decide +kernel, _, q1425, ncl_java_lang_IndexOutOfBoundsException_java_lang_IllegalStateException⟩, List.forall_mem_nil _⟩) (by decide +kernel) (by decide +kernel) q325 q418 ?_ ?_
  · refine g_astore (pc := 19) (lv' := []) [] rfl (gblt rfl) dX0_weights_19 ?_
    refine g_iconst (pc := 21) (v := (2 : Int32)) ic_2 dX0_weights_21 ?_
    exact g_ireturn (pc := 22) rfl dX0_weights_22
  exact g_noneX
/-! FlareSlopesModel.weights(IIZ)I -/
noncomputable def sX2_weights (G : GG) (N : Nat) (a0 : Option Nat) (a1 : Int32) (a2 : Int32) (a3 : Int32) (h : Hp) : Out (Int32) :=
  bV h a0 18 (fun q6 => sX2_mayBoth G N (some q6) a1 a2 h) fun v1 h2 =>
  if v1 = 0 then (some (.inl (0 : Int32), h2))
  else bV h2 a0 18 (fun q5 => sX2_sum G N (some q5) a1 a2 a3 h2) fun v3 h4 =>
  some (.inl v3, h4)
abbrev mX2_weights : MI := (RX2, cX2_weights, 4, (some .int), [], 4, 89, "weights")
theorem tX2_weights {G : GG} {l : Launch} (hs : l.stackTraces = false) {N : Nat} {a0 : Option Nat} {a1 : Int32} {a2 : Int32} {a3 : Int32} {h : Hp} {r : Int32 ⊕ Nat} {hf : Hp} (ho : sX2_weights G N a0 a1 a2 a3 h = some (r, hf)) : gMet G l yX2_weights (ws_ yX2_weights cX2_weights 4 (some .int)) 4 89 [gr a0, gi a1, gi a2, gi a3] h cvI r hf := by
  refine gMet.of ho hs (plainFor_of_name pn_X2) rfl rfl (gbl rfl) fun X => ?_
  show gT G l X mX2_weights cvI r hf 0 [(0, gr a0), (1, gi a1), (2, gi a2), (3, gi a3)] [] h (sX2_weights G N a0 a1 a2 a3 h)
  delta sX2_weights
  refine g_aload_n (pc := 0) (x := a0) 0 rfl rfl dX2_weights_0 ?_
  refine g_iload_n (pc := 1) (x := a1) 1 rfl rfl dX2_weights_1 ?_
  refine g_iload_n (pc := 2) (x := a2) 2 rfl rfl dX2_weights_2 ?_
  refine g_bVi (pc := 3) (y := yX2_mayBoth) (ws := ws_ yX2_mayBoth cX2_mayBoth 3 (some .boolean)) (fr := 2) (lo := 45) (as := [gi a1, gi a2]) (st := []) (g_no) rfl (fun _ _ _ e => tX2_mayBoth hs e) (fun K _ _ _ hq hM R e1 e2 => g_runV (M := mX2_weights) (pc := 3) (y := yX2_mayBoth) (bytes := cX2_mayBoth) (maxL := 3) (ret := (some .boolean)) (fr := 2) (lo := 45) (as := [gi a1, gi a2]) (st := []) hq (C := "FlareSlopesModel") rfl gy_X2_mayBoth (gbl rfl) (gbl rfl) (gbl rfl) q4316 q4318 qs104 dX2_weights_3 K hM R e1 e2) fun v1 h2 => ?_
  refine g_if_eq (pc := 6) (tgt := 19) rfl dX2_weights_6 ?_ ?_
  · refine g_iconst (pc := 19) (v := (0 : Int32)) ic_0 dX2_weights_19 ?_
    exact g_ireturn (pc := 20) rfl dX2_weights_20
  refine g_aload_n (pc := 9) (x := a0) 0 rfl rfl dX2_weights_9 ?_
  refine g_iload_n (pc := 10) (x := a1) 1 rfl rfl dX2_weights_10 ?_
  refine g_iload_n (pc := 11) (x := a2) 2 rfl rfl dX2_weights_11 ?_
  refine g_iload_n (pc := 12) (x := a3) 3 rfl rfl dX2_weights_12 ?_
  refine g_bVi (pc := 13) (y := yX2_sum) (ws := ws_ yX2_sum cX2_sum 6 (some .int)) (fr := 3) (lo := 64) (as := [gi a1, gi a2, gi a3]) (st := []) (g_no) rfl (fun _ _ _ e => tX2_sum hs e) (fun K _ _ _ hq hM R e1 e2 => g_runV (M := mX2_weights) (pc := 13) (y := yX2_sum) (bytes := cX2_sum) (maxL := 6) (ret := (some .int)) (fr := 3) (lo := 64) (as := [gi a1, gi a2, gi a3]) (st := []) hq (C := "FlareSlopesModel") rfl gy_X2_sum (gbl rfl) (gbl rfl) (gbl rfl) q4275 q4277 qs99 dX2_weights_13 K hM R e1 e2) fun v3 h4 => ?_
  refine g_goto (pc := 16) (tgt := 20) rfl dX2_weights_16 ?_
  exact g_ireturn (pc := 20) rfl dX2_weights_20
/-! FlareSlopes$State.rules(I)I -/
noncomputable def sX3_rules (G : GG) (N : Nat) (a0 : Option Nat) (a1 : Int32) (h : Hp) : Out (Int32) :=
  gFr h a0 16 12 fun v1 =>
  gAi h v1 0 a1 fun v2 =>
  gJ (fun (x3 : Unit) (h4 : Hp) =>
  gFr h4 a0 16 13 fun v6 =>
  gAi h4 v6 0 a1 fun v7 =>
  if v7 ≤ 0 then (some (.inl (0 : Int32), h4))
  else some (.inl (-1 : Int32), h4)) fun j5 =>
  if v2 ≤ 0 then (j5 () h)
  else gFr h a0 16 12 fun v8 =>
  gAi h v8 0 a1 fun v9 =>
  gFr h a0 16 2 fun v10 =>
  gAi h v10 0 (2 : Int32) fun v11 =>
  gFr h a0 16 12 fun v12 =>
  gAi h v12 0 a1 fun v13 =>
  gFr h a0 16 13 fun v14 =>
  gAi h v14 0 a1 fun v15 =>
  if ((100 : Int32) * v9) < (v11 * (v13 + v15)) then (j5 () h)
  else some (.inl (1 : Int32), h)
abbrev mX3_rules : MI := (RX3, cX3_rules, 2, (some .int), [], 0, 0, "rules")
theorem tX3_rules {G : GG} {l : Launch} (hs : l.stackTraces = false) {N : Nat} {a0 : Option Nat} {a1 : Int32} {h : Hp} {r : Int32 ⊕ Nat} {hf : Hp} (ho : sX3_rules G N a0 a1 h = some (r, hf)) : gMet G l yX3_rules (ws_ yX3_rules cX3_rules 2 (some .int)) 0 0 [gr a0, gi a1] h cvI r hf := by
  refine gMet.of ho hs (plainFor_of_name pn_X3) rfl rfl (gbl rfl) fun X => ?_
  show gT G l X mX3_rules cvI r hf 0 [(0, gr a0), (1, gi a1)] [] h (sX3_rules G N a0 a1 h)
  delta sX3_rules
  refine g_aload_n (pc := 0) (x := a0) 0 rfl rfl dX3_rules_0 ?_
  refine g_getfr (pc := 1) k_16 (gblt rfl) lk_X3_29_16 dX3_rules_1 fun v1 => ?_
  refine g_iload_n (pc := 4) (x := a1) 1 rfl rfl dX3_rules_4 ?_
  refine g_iaload (pc := 5) rfl dX3_rules_5 fun v2 => ?_
  refine g_join 43 (fun (x3 : Unit) => [(0, gr a0), (1, gi a1)]) (fun (x3 : Unit) => []) (fun x3 h4 => ?_) (fun j5 Hj5 => ?_)
  · refine g_aload_n (pc := 43) (x := a0) 0 rfl rfl dX3_rules_43 ?_
    refine g_getfr (pc := 44) k_16 (gblt rfl) lk_X3_32_16 dX3_rules_44 fun v6 => ?_
    refine g_iload_n (pc := 47) (x := a1) 1 rfl rfl dX3_rules_47 ?_
    refine g_iaload (pc := 48) rfl dX3_rules_48 fun v7 => ?_
    refine g_if_le (pc := 49) (tgt := 56) rfl dX3_rules_49 ?_ ?_
    · refine g_iconst (pc := 56) (v := (0 : Int32)) ic_0 dX3_rules_56 ?_
      exact g_ireturn (pc := 57) rfl dX3_rules_57
    refine g_iconst (pc := 52) (v := (-1 : Int32)) ic_m1 dX3_rules_52 ?_
    refine g_goto (pc := 53) (tgt := 57) rfl dX3_rules_53 ?_
    exact g_ireturn (pc := 57) rfl dX3_rules_57
  refine g_if_le (pc := 6) (tgt := 43) rfl dX3_rules_6 ?_ ?_
  · exact Hj5 () h
  refine g_bipush (pc := 9) (v := (100 : Int32)) bc_100 dX3_rules_9 ?_
  refine g_aload_n (pc := 11) (x := a0) 0 rfl rfl dX3_rules_11 ?_
  refine g_getfr (pc := 12) k_16 (gblt rfl) lk_X3_29_16 dX3_rules_12 fun v8 => ?_
  refine g_iload_n (pc := 15) (x := a1) 1 rfl rfl dX3_rules_15 ?_
  refine g_iaload (pc := 16) rfl dX3_rules_16 fun v9 => ?_
  refine g_imul (pc := 17) dX3_rules_17 ?_
  refine g_aload_n (pc := 18) (x := a0) 0 rfl rfl dX3_rules_18 ?_
  refine g_getfr (pc := 19) k_16 (gblt rfl) lk_X3_18_16 dX3_rules_19 fun v10 => ?_
  refine g_iconst (pc := 22) (v := (2 : Int32)) ic_2 dX3_rules_22 ?_
  refine g_iaload (pc := 23) rfl dX3_rules_23 fun v11 => ?_
  refine g_aload_n (pc := 24) (x := a0) 0 rfl rfl dX3_rules_24 ?_
  refine g_getfr (pc := 25) k_16 (gblt rfl) lk_X3_29_16 dX3_rules_25 fun v12 => ?_
  refine g_iload_n (pc := 28) (x := a1) 1 rfl rfl dX3_rules_28 ?_
  refine g_iaload (pc := 29) rfl dX3_rules_29 fun v13 => ?_
  refine g_aload_n (pc := 30) (x := a0) 0 rfl rfl dX3_rules_30 ?_
  refine g_getfr (pc := 31) k_16 (gblt rfl) lk_X3_32_16 dX3_rules_31 fun v14 => ?_
  refine g_iload_n (pc := 34) (x := a1) 1 rfl rfl dX3_rules_34 ?_
  refine g_iaload (pc := 35) rfl dX3_rules_35 fun v15 => ?_
  refine g_iadd (pc := 36) dX3_rules_36 ?_
  refine g_imul (pc := 37) dX3_rules_37 ?_
  refine g_icmp_lt (pc := 38) (tgt := 43) rfl dX3_rules_38 ?_ ?_
  · exact Hj5 () h
  refine g_iconst (pc := 41) (v := (1 : Int32)) ic_1 dX3_rules_41 ?_
  exact g_ireturn (pc := 42) rfl dX3_rules_42
/-! FlareSlopes.rules(II)I -/
noncomputable def sX1_rules (G : GG) (N : Nat) (a0 : Option Nat) (a1 : Int32) (a2 : Int32) (h : Hp) : Out (Int32) :=
  bV h a0 3 (fun q11 => sX1_withBoth G N (some q11) a1 a2 h) fun v1 h2 =>
  gFr h2 a0 3 4 fun v3 =>
  bV h2 v3 16 (fun q10 => sX3_laySums G N (some q10) a1 h2) fun v4 h5 =>
  gFr h5 a0 3 4 fun v6 =>
  bV h5 v6 16 (fun q9 => sX3_rules G N (some q9) a2 h5) fun v7 h8 =>
  some (.inl v7, h8)
abbrev mX1_rules : MI := (RX1, cX1_rules, 4, (some .int), [], 10, 165, "rules")
theorem tX1_rules {G : GG} {l : Launch} (hs : l.stackTraces = false) {N : Nat} {a0 : Option Nat} {a1 : Int32} {a2 : Int32} {h : Hp} {r : Int32 ⊕ Nat} {hf : Hp} (ho : sX1_rules G N a0 a1 a2 h = some (r, hf)) : gMet G l yX1_rules (ws_ yX1_rules cX1_rules 4 (some .int)) 10 165 [gr a0, gi a1, gi a2] h cvI r hf := by
  refine gMet.of ho hs (plainFor_of_name pn_X1) rfl rfl (gbl rfl) fun X => ?_
  show gT G l X mX1_rules cvI r hf 0 [(0, gr a0), (1, gi a1), (2, gi a2)] [] h (sX1_rules G N a0 a1 a2 h)
  delta sX1_rules
  refine g_aload_n (pc := 0) (x := a0) 0 rfl rfl dX1_rules_0 ?_
  refine g_iload_n (pc := 1) (x := a1) 1 rfl rfl dX1_rules_1 ?_
  refine g_iload_n (pc := 2) (x := a2) 2 rfl rfl dX1_rules_2 ?_
  refine g_bVr (pc := 3) (y := yX1_withBoth) (ws := ws_ yX1_withBoth cX1_withBoth 4 (some (.object "FlareSlopes$Cabin"))) (fr := 9) (lo := 142) (as := [gi a1, gi a2]) (st := []) (g_no) rfl (fun _ _ _ e => tX1_withBoth hs e) (fun K _ _ _ hq hM R e1 e2 => g_runV (M := mX1_rules) (pc := 3) (y := yX1_withBoth) (bytes := cX1_withBoth) (maxL := 4) (ret := (some (.object "FlareSlopes$Cabin"))) (fr := 9) (lo := 142) (as := [gi a1, gi a2]) (st := []) hq (C := "FlareSlopes") rfl gy_X1_withBoth (gbl rfl) (gbl rfl) (gbl rfl) q3141 q3143 qs45 dX1_rules_3 K hM R e1 e2) fun v1 h2 => ?_
  refine g_astore_n (pc := 6) (lv' := [(0, gr a0), (1, gi a1), (2, gi a2)]) [1, 2, 3] rfl rfl (gblt rfl) dX1_rules_6 ?_
  refine g_aload_n (pc := 7) (x := a0) 0 rfl rfl dX1_rules_7 ?_
  refine g_getfr (pc := 8) k_3 (gblt rfl) lk_X1_56_3 dX1_rules_8 fun v3 => ?_
  refine g_iload_n (pc := 11) (x := a1) 1 rfl rfl dX1_rules_11 ?_
  refine g_bVu (pc := 12) (y := yX3_laySums) (ws := ws_ yX3_laySums cX3_laySums 6 none) (fr := 6) (lo := 128) (as := [gi a1]) (st := []) (g_no) rfl (fun _ _ _ e => tX3_laySums hs e) (fun K _ _ _ hq hM R e1 e2 => g_runV (M := mX1_rules) (pc := 12) (y := yX3_laySums) (bytes := cX3_laySums) (maxL := 6) (ret := none) (fr := 6) (lo := 128) (as := [gi a1]) (st := []) hq (C := "FlareSlopes$State") rfl gy_X3_laySums (gbl rfl) (gbl rfl) (gbl rfl) q3071 q3072 q3073 dX1_rules_12 K hM R e1 e2) fun v4 h5 => ?_
  refine g_aload_n (pc := 15) (x := a0) 0 rfl rfl dX1_rules_15 ?_
  refine g_getfr (pc := 16) k_3 (gblt rfl) lk_X1_56_3 dX1_rules_16 fun v6 => ?_
  refine g_iload_n (pc := 19) (x := a2) 2 rfl rfl dX1_rules_19 ?_
  refine g_bVi (pc := 20) (y := yX3_rules) (ws := ws_ yX3_rules cX3_rules 2 (some .int)) (fr := 0) (lo := 0) (as := [gi a2]) (st := []) (g_no) rfl (fun _ _ _ e => tX3_rules hs e) (fun K _ _ _ hq hM R e1 e2 => g_runV (M := mX1_rules) (pc := 20) (y := yX3_rules) (bytes := cX3_rules) (maxL := 2) (ret := (some .int)) (fr := 0) (lo := 0) (as := [gi a2]) (st := []) hq (C := "FlareSlopes$State") rfl gy_X3_rules (gbl rfl) (gbl rfl) (gbl rfl) q3216 q3217 q3218 dX1_rules_20 K hM R e1 e2) fun v7 h8 => ?_
  exact g_ireturn (pc := 23) rfl dX1_rules_23
/-! FlareSlopesLaw.rules(LFlareSlopes;II[J)I -/
noncomputable def sX0_rules (G : GG) (N : Nat) (a0 : Option Nat) (a1 : Int32) (a2 : Int32) (a3 : Option Nat) (h : Hp) : Out (Int32) :=
  bVX h a0 3 (fun q4 => sX1_rules G N (some q4) a1 a2 h) (fun v1 h2 =>
  gSl G h2 a3 3 (0 : Int32) (v1.toInt64) fun h3 =>
  some (.inl (0 : Int32), h3)) fun q5 h6 =>
  gSw h6 (some q5) 0 (some (.inl (1 : Int32), h6)) (gSw h6 (some q5) 2 (some (.inl (2 : Int32), h6)) (none))
abbrev mX0_rules : MI := (RX0, cX0_rules, 5, (some .int), [(0, 10, 13, 21), (0, 10, 17, 13)], 11, 188, "rules")
theorem tX0_rules {G : GG} {l : Launch} (hs : l.stackTraces = false) {N : Nat} {a0 : Option Nat} {a1 : Int32} {a2 : Int32} {a3 : Option Nat} {h : Hp} {r : Int32 ⊕ Nat} {hf : Hp} (ho : sX0_rules G N a0 a1 a2 a3 h = some (r, hf)) : gMet G l yX0_rules (wsW_ yX0_rules cX0_rules 5 (some .int) [(0, 10, 13, 21), (0, 10, 17, 13)]) 11 188 [gr a0, gi a1, gi a2, gr a3] h cvI r hf := by
  refine gMet.ofW ho hs (plainFor_of_name pn_X0) rfl rfl (gbl rfl) fun X => ?_
  show gT G l X mX0_rules cvI r hf 0 [(0, gr a0), (1, gi a1), (2, gi a2), (3, gr a3)] [] h (sX0_rules G N a0 a1 a2 a3 h)
  delta sX0_rules
  refine g_aload_n (pc := 0) (x := a3) 3 rfl rfl dX0_rules_0 ?_
  refine g_iconst (pc := 1) (v := (0 : Int32)) ic_0 dX0_rules_1 ?_
  refine g_aload_n (pc := 2) (x := a0) 0 rfl rfl dX0_rules_2 ?_
  refine g_iload_n (pc := 3) (x := a1) 1 rfl rfl dX0_rules_3 ?_
  refine g_iload_n (pc := 4) (x := a2) 2 rfl rfl dX0_rules_4 ?_
  refine g_bVXi (pc := 5) (y := yX1_rules) (ws := ws_ yX1_rules cX1_rules 4 (some .int)) (fr := 10) (lo := 165) (as := [gi a1, gi a2]) (st := [gi (0 : Int32), gr a3]) rfl (fun _ _ _ e => tX1_rules hs e) (fun K _ _ _ hq hM R e1 e2 => g_runV (M := mX0_rules) (pc := 5) (y := yX1_rules) (bytes := cX1_rules) (maxL := 4) (ret := (some .int)) (fr := 10) (lo := 165) (as := [gi a1, gi a2]) (st := [gi (0 : Int32), gr a3]) hq (C := "FlareSlopes") rfl gy_X1_rules (gbl rfl) (gbl rfl) (gbl rfl) q3212 q3213 q3214 dX0_rules_5 K hM R e1 e2) (fun v1 h2 => ?_) (fun q5 h6 => ?_)
  · refine g_i2l (pc := 8) dX0_rules_8 ?_
    refine g_lastore (pc := 9) rfl dX0_rules_9 fun h3 => ?_
    refine g_goto (pc := 10) (tgt := 21) rfl dX0_rules_10 ?_
    refine g_iconst (pc := 21) (v := (0 : Int32)) ic_0 dX0_rules_21 ?_
    exact g_ireturn (pc := 22) rfl dX0_rules_22
  refine g_catch (E := "java/lang/IllegalStateException") [] ⟨0, 10, 13, 21⟩ [⟨0, 10, 17, 13⟩] rfl rfl (List.forall_mem_nil _) (by decide +kernel) (by decide +kernel) q1425 q1439 ?_ ?_
  · refine g_astore (pc := 13) (lv' := []) [] rfl (gblt rfl) dX0_rules_13 ?_
    refine g_iconst (pc := 15) (v := (1 : Int32)) ic_1 dX0_rules_15 ?_
    exact g_ireturn (pc := 16) rfl dX0_rules_16
  refine g_catch (E := "java/lang/IndexOutOfBoundsException") [⟨0, 10, 13, 21⟩] ⟨0, 10, 17, 13⟩ [] rfl rfl (List.forall_mem_cons.mpr ⟨Or.inr ⟨by decide +kernel, _, q1425, ncl_java_lang_IndexOutOfBoundsException_java_lang_IllegalStateException⟩, List.forall_mem_nil _⟩) (by decide +kernel) (by decide +kernel) q325 q418 ?_ ?_
  · refine g_astore (pc := 17) (lv' := []) [] rfl (gblt rfl) dX0_rules_17 ?_
    refine g_iconst (pc := 19) (v := (2 : Int32)) ic_2 dX0_rules_19 ?_
    exact g_ireturn (pc := 20) rfl dX0_rules_20
  exact g_noneX
/-! FlareSlopesModel.ruling(II)I -/
noncomputable def sX2_ruling (G : GG) (N : Nat) (a0 : Option Nat) (a1 : Int32) (a2 : Int32) (h : Hp) : Out (Int32) :=
  bV h a0 18 (fun q11 => sX2_sum G N (some q11) a1 a2 (1 : Int32) h) fun v1 h2 =>
  bV h2 a0 18 (fun q10 => sX2_sum G N (some q10) a1 a2 (0 : Int32) h2) fun v3 h4 =>
  gJ (fun (x5 : Unit) (h6 : Hp) =>
  if v3 ≤ 0 then (some (.inl (0 : Int32), h6))
  else some (.inl (-1 : Int32), h6)) fun j7 =>
  if v1 ≤ 0 then (j7 () h4)
  else gFr h4 a0 18 1 fun v8 =>
  gAi h4 v8 0 (2 : Int32) fun v9 =>
  if ((100 : Int32) * v1) < (v9 * (v1 + v3)) then (j7 () h4)
  else some (.inl (1 : Int32), h4)
abbrev mX2_ruling : MI := (RX2, cX2_ruling, 5, (some .int), [], 4, 89, "ruling")
theorem tX2_ruling {G : GG} {l : Launch} (hs : l.stackTraces = false) {N : Nat} {a0 : Option Nat} {a1 : Int32} {a2 : Int32} {h : Hp} {r : Int32 ⊕ Nat} {hf : Hp} (ho : sX2_ruling G N a0 a1 a2 h = some (r, hf)) : gMet G l yX2_ruling (ws_ yX2_ruling cX2_ruling 5 (some .int)) 4 89 [gr a0, gi a1, gi a2] h cvI r hf := by
  refine gMet.of ho hs (plainFor_of_name pn_X2) rfl rfl (gbl rfl) fun X => ?_
  show gT G l X mX2_ruling cvI r hf 0 [(0, gr a0), (1, gi a1), (2, gi a2)] [] h (sX2_ruling G N a0 a1 a2 h)
  delta sX2_ruling
  refine g_aload_n (pc := 0) (x := a0) 0 rfl rfl dX2_ruling_0 ?_
  refine g_iload_n (pc := 1) (x := a1) 1 rfl rfl dX2_ruling_1 ?_
  refine g_iload_n (pc := 2) (x := a2) 2 rfl rfl dX2_ruling_2 ?_
  refine g_iconst (pc := 3) (v := (1 : Int32)) ic_1 dX2_ruling_3 ?_
  refine g_bVi (pc := 4) (y := yX2_sum) (ws := ws_ yX2_sum cX2_sum 6 (some .int)) (fr := 3) (lo := 64) (as := [gi a1, gi a2, gi (1 : Int32)]) (st := []) (g_no) rfl (fun _ _ _ e => tX2_sum hs e) (fun K _ _ _ hq hM R e1 e2 => g_runV (M := mX2_ruling) (pc := 4) (y := yX2_sum) (bytes := cX2_sum) (maxL := 6) (ret := (some .int)) (fr := 3) (lo := 64) (as := [gi a1, gi a2, gi (1 : Int32)]) (st := []) hq (C := "FlareSlopesModel") rfl gy_X2_sum (gbl rfl) (gbl rfl) (gbl rfl) q4275 q4277 qs99 dX2_ruling_4 K hM R e1 e2) fun v1 h2 => ?_
  refine g_istore_n (pc := 7) (lv' := [(3, gi v1), (0, gr a0), (1, gi a1), (2, gi a2)]) [0, 1, 2, 3] rfl rfl (gblt rfl) dX2_ruling_7 ?_
  refine g_aload_n (pc := 8) (x := a0) 1 rfl rfl dX2_ruling_8 ?_
  refine g_iload_n (pc := 9) (x := a1) 2 rfl rfl dX2_ruling_9 ?_
  refine g_iload_n (pc := 10) (x := a2) 3 rfl rfl dX2_ruling_10 ?_
  refine g_iconst (pc := 11) (v := (0 : Int32)) ic_0 dX2_ruling_11 ?_
  refine g_bVi (pc := 12) (y := yX2_sum) (ws := ws_ yX2_sum cX2_sum 6 (some .int)) (fr := 3) (lo := 64) (as := [gi a1, gi a2, gi (0 : Int32)]) (st := []) (g_no) rfl (fun _ _ _ e => tX2_sum hs e) (fun K _ _ _ hq hM R e1 e2 => g_runV (M := mX2_ruling) (pc := 12) (y := yX2_sum) (bytes := cX2_sum) (maxL := 6) (ret := (some .int)) (fr := 3) (lo := 64) (as := [gi a1, gi a2, gi (0 : Int32)]) (st := []) hq (C := "FlareSlopesModel") rfl gy_X2_sum (gbl rfl) (gbl rfl) (gbl rfl) q4275 q4277 qs99 dX2_ruling_12 K hM R e1 e2) fun v3 h4 => ?_
  refine g_istore (pc := 15) (lv' := [(4, gi v3), (3, gi v1), (0, gr a0)]) [0, 1, 2] rfl (gblt rfl) dX2_ruling_15 ?_
  refine g_iload_n (pc := 17) (x := v1) 1 rfl rfl dX2_ruling_17 ?_
  refine g_join 41 (fun (x5 : Unit) => [(4, gi v3)]) (fun (x5 : Unit) => []) (fun x5 h6 => ?_) (fun j7 Hj7 => ?_)
  · refine g_iload (pc := 41) (x := v3) 0 rfl dX2_ruling_41 ?_
    refine g_if_le (pc := 43) (tgt := 50) rfl dX2_ruling_43 ?_ ?_
    · refine g_iconst (pc := 50) (v := (0 : Int32)) ic_0 dX2_ruling_50 ?_
      exact g_ireturn (pc := 51) rfl dX2_ruling_51
    refine g_iconst (pc := 46) (v := (-1 : Int32)) ic_m1 dX2_ruling_46 ?_
    refine g_goto (pc := 47) (tgt := 51) rfl dX2_ruling_47 ?_
    exact g_ireturn (pc := 51) rfl dX2_ruling_51
  refine g_if_le (pc := 18) (tgt := 41) rfl dX2_ruling_18 ?_ ?_
  · exact g_sub [0] rfl (Hj7 () h4)
  refine g_bipush (pc := 21) (v := (100 : Int32)) bc_100 dX2_ruling_21 ?_
  refine g_iload_n (pc := 23) (x := v1) 1 rfl rfl dX2_ruling_23 ?_
  refine g_imul (pc := 24) dX2_ruling_24 ?_
  refine g_aload_n (pc := 25) (x := a0) 2 rfl rfl dX2_ruling_25 ?_
  refine g_getfr (pc := 26) k_18 (gblt rfl) lk_X2_9_18 dX2_ruling_26 fun v8 => ?_
  refine g_iconst (pc := 29) (v := (2 : Int32)) ic_2 dX2_ruling_29 ?_
  refine g_iaload (pc := 30) rfl dX2_ruling_30 fun v9 => ?_
  refine g_iload_n (pc := 31) (x := v1) 1 rfl rfl dX2_ruling_31 ?_
  refine g_iload (pc := 32) (x := v3) 0 rfl dX2_ruling_32 ?_
  refine g_iadd (pc := 34) dX2_ruling_34 ?_
  refine g_imul (pc := 35) dX2_ruling_35 ?_
  refine g_icmp_lt (pc := 36) (tgt := 41) rfl dX2_ruling_36 ?_ ?_
  · exact g_sub [0] rfl (Hj7 () h4)
  refine g_iconst (pc := 39) (v := (1 : Int32)) ic_1 dX2_ruling_39 ?_
  exact g_ireturn (pc := 40) rfl dX2_ruling_40
/-! FlareSlopesModel.rules(II)I -/
noncomputable def sX2_rules (G : GG) (N : Nat) (a0 : Option Nat) (a1 : Int32) (a2 : Int32) (h : Hp) : Out (Int32) :=
  bV h a0 18 (fun q6 => sX2_mayBoth G N (some q6) a1 a2 h) fun v1 h2 =>
  if v1 = 0 then (some (.inl (0 : Int32), h2))
  else bV h2 a0 18 (fun q5 => sX2_ruling G N (some q5) a1 a2 h2) fun v3 h4 =>
  some (.inl v3, h4)
abbrev mX2_rules : MI := (RX2, cX2_rules, 3, (some .int), [], 5, 113, "rules")
theorem tX2_rules {G : GG} {l : Launch} (hs : l.stackTraces = false) {N : Nat} {a0 : Option Nat} {a1 : Int32} {a2 : Int32} {h : Hp} {r : Int32 ⊕ Nat} {hf : Hp} (ho : sX2_rules G N a0 a1 a2 h = some (r, hf)) : gMet G l yX2_rules (ws_ yX2_rules cX2_rules 3 (some .int)) 5 113 [gr a0, gi a1, gi a2] h cvI r hf := by
  refine gMet.of ho hs (plainFor_of_name pn_X2) rfl rfl (gbl rfl) fun X => ?_
  show gT G l X mX2_rules cvI r hf 0 [(0, gr a0), (1, gi a1), (2, gi a2)] [] h (sX2_rules G N a0 a1 a2 h)
  delta sX2_rules
  refine g_aload_n (pc := 0) (x := a0) 0 rfl rfl dX2_rules_0 ?_
  refine g_iload_n (pc := 1) (x := a1) 1 rfl rfl dX2_rules_1 ?_
  refine g_iload_n (pc := 2) (x := a2) 2 rfl rfl dX2_rules_2 ?_
  refine g_bVi (pc := 3) (y := yX2_mayBoth) (ws := ws_ yX2_mayBoth cX2_mayBoth 3 (some .boolean)) (fr := 2) (lo := 45) (as := [gi a1, gi a2]) (st := []) (g_no) rfl (fun _ _ _ e => tX2_mayBoth hs e) (fun K _ _ _ hq hM R e1 e2 => g_runV (M := mX2_rules) (pc := 3) (y := yX2_mayBoth) (bytes := cX2_mayBoth) (maxL := 3) (ret := (some .boolean)) (fr := 2) (lo := 45) (as := [gi a1, gi a2]) (st := []) hq (C := "FlareSlopesModel") rfl gy_X2_mayBoth (gbl rfl) (gbl rfl) (gbl rfl) q4316 q4318 qs104 dX2_rules_3 K hM R e1 e2) fun v1 h2 => ?_
  refine g_if_eq (pc := 6) (tgt := 18) rfl dX2_rules_6 ?_ ?_
  · refine g_iconst (pc := 18) (v := (0 : Int32)) ic_0 dX2_rules_18 ?_
    exact g_ireturn (pc := 19) rfl dX2_rules_19
  refine g_aload_n (pc := 9) (x := a0) 0 rfl rfl dX2_rules_9 ?_
  refine g_iload_n (pc := 10) (x := a1) 1 rfl rfl dX2_rules_10 ?_
  refine g_iload_n (pc := 11) (x := a2) 2 rfl rfl dX2_rules_11 ?_
  refine g_bVi (pc := 12) (y := yX2_ruling) (ws := ws_ yX2_ruling cX2_ruling 5 (some .int)) (fr := 4) (lo := 89) (as := [gi a1, gi a2]) (st := []) (g_no) rfl (fun _ _ _ e => tX2_ruling hs e) (fun K _ _ _ hq hM R e1 e2 => g_runV (M := mX2_rules) (pc := 12) (y := yX2_ruling) (bytes := cX2_ruling) (maxL := 5) (ret := (some .int)) (fr := 4) (lo := 89) (as := [gi a1, gi a2]) (st := []) hq (C := "FlareSlopesModel") rfl gy_X2_ruling (gbl rfl) (gbl rfl) (gbl rfl) q4367 q4369 qs108 dX2_rules_12 K hM R e1 e2) fun v3 h4 => ?_
  refine g_goto (pc := 15) (tgt := 19) rfl dX2_rules_15 ?_
  exact g_ireturn (pc := 19) rfl dX2_rules_19
/-! FlareSlopes.run(II)I -/
noncomputable def sX1_run (G : GG) (N : Nat) (a0 : Option Nat) (a1 : Int32) (a2 : Int32) (h : Hp) : Out (Int32) :=
  bV h a0 3 (fun q5 => sX1_withBoth G N (some q5) a1 a2 h) fun v1 h2 =>
  gFr h2 v1 7 7 fun v3 =>
  gAi h2 v3 0 a2 fun v4 =>
  some (.inl v4, h2)
abbrev mX1_run : MI := (RX1, cX1_run, 3, (some .int), [], 10, 165, "run")
theorem tX1_run {G : GG} {l : Launch} (hs : l.stackTraces = false) {N : Nat} {a0 : Option Nat} {a1 : Int32} {a2 : Int32} {h : Hp} {r : Int32 ⊕ Nat} {hf : Hp} (ho : sX1_run G N a0 a1 a2 h = some (r, hf)) : gMet G l yX1_run (ws_ yX1_run cX1_run 3 (some .int)) 10 165 [gr a0, gi a1, gi a2] h cvI r hf := by
  refine gMet.of ho hs (plainFor_of_name pn_X1) rfl rfl (gbl rfl) fun X => ?_
  show gT G l X mX1_run cvI r hf 0 [(0, gr a0), (1, gi a1), (2, gi a2)] [] h (sX1_run G N a0 a1 a2 h)
  delta sX1_run
  refine g_aload_n (pc := 0) (x := a0) 0 rfl rfl dX1_run_0 ?_
  refine g_iload_n (pc := 1) (x := a1) 1 rfl rfl dX1_run_1 ?_
  refine g_iload_n (pc := 2) (x := a2) 2 rfl rfl dX1_run_2 ?_
  refine g_bVr (pc := 3) (y := yX1_withBoth) (ws := ws_ yX1_withBoth cX1_withBoth 4 (some (.object "FlareSlopes$Cabin"))) (fr := 9) (lo := 142) (as := [gi a1, gi a2]) (st := []) (g_no) rfl (fun _ _ _ e => tX1_withBoth hs e) (fun K _ _ _ hq hM R e1 e2 => g_runV (M := mX1_run) (pc := 3) (y := yX1_withBoth) (bytes := cX1_withBoth) (maxL := 4) (ret := (some (.object "FlareSlopes$Cabin"))) (fr := 9) (lo := 142) (as := [gi a1, gi a2]) (st := []) hq (C := "FlareSlopes") rfl gy_X1_withBoth (gbl rfl) (gbl rfl) (gbl rfl) q3141 q3143 qs45 dX1_run_3 K hM R e1 e2) fun v1 h2 => ?_
  refine g_getfr (pc := 6) k_7 (gblt rfl) lk_X1_401_7 dX1_run_6 fun v3 => ?_
  refine g_iload_n (pc := 9) (x := a2) 2 rfl rfl dX1_run_9 ?_
  refine g_iaload (pc := 10) rfl dX1_run_10 fun v4 => ?_
  exact g_ireturn (pc := 11) rfl dX1_run_11
/-! FlareSlopesLaw.run(LFlareSlopes;II[J)I -/
noncomputable def sX0_run (G : GG) (N : Nat) (a0 : Option Nat) (a1 : Int32) (a2 : Int32) (a3 : Option Nat) (h : Hp) : Out (Int32) :=
  bVX h a0 3 (fun q4 => sX1_run G N (some q4) a1 a2 h) (fun v1 h2 =>
  gSl G h2 a3 3 (0 : Int32) (v1.toInt64) fun h3 =>
  some (.inl (0 : Int32), h3)) fun q5 h6 =>
  gSw h6 (some q5) 0 (some (.inl (1 : Int32), h6)) (gSw h6 (some q5) 2 (some (.inl (2 : Int32), h6)) (none))
abbrev mX0_run : MI := (RX0, cX0_run, 5, (some .int), [(0, 10, 13, 21), (0, 10, 17, 13)], 11, 187, "run")
theorem tX0_run {G : GG} {l : Launch} (hs : l.stackTraces = false) {N : Nat} {a0 : Option Nat} {a1 : Int32} {a2 : Int32} {a3 : Option Nat} {h : Hp} {r : Int32 ⊕ Nat} {hf : Hp} (ho : sX0_run G N a0 a1 a2 a3 h = some (r, hf)) : gMet G l yX0_run (wsW_ yX0_run cX0_run 5 (some .int) [(0, 10, 13, 21), (0, 10, 17, 13)]) 11 187 [gr a0, gi a1, gi a2, gr a3] h cvI r hf := by
  refine gMet.ofW ho hs (plainFor_of_name pn_X0) rfl rfl (gbl rfl) fun X => ?_
  show gT G l X mX0_run cvI r hf 0 [(0, gr a0), (1, gi a1), (2, gi a2), (3, gr a3)] [] h (sX0_run G N a0 a1 a2 a3 h)
  delta sX0_run
  refine g_aload_n (pc := 0) (x := a3) 3 rfl rfl dX0_run_0 ?_
  refine g_iconst (pc := 1) (v := (0 : Int32)) ic_0 dX0_run_1 ?_
  refine g_aload_n (pc := 2) (x := a0) 0 rfl rfl dX0_run_2 ?_
  refine g_iload_n (pc := 3) (x := a1) 1 rfl rfl dX0_run_3 ?_
  refine g_iload_n (pc := 4) (x := a2) 2 rfl rfl dX0_run_4 ?_
  refine g_bVXi (pc := 5) (y := yX1_run) (ws := ws_ yX1_run cX1_run 3 (some .int)) (fr := 10) (lo := 165) (as := [gi a1, gi a2]) (st := [gi (0 : Int32), gr a3]) rfl (fun _ _ _ e => tX1_run hs e) (fun K _ _ _ hq hM R e1 e2 => g_runV (M := mX0_run) (pc := 5) (y := yX1_run) (bytes := cX1_run) (maxL := 3) (ret := (some .int)) (fr := 10) (lo := 165) (as := [gi a1, gi a2]) (st := [gi (0 : Int32), gr a3]) hq (C := "FlareSlopes") rfl gy_X1_run (gbl rfl) (gbl rfl) (gbl rfl) q3223 q3224 q3225 dX0_run_5 K hM R e1 e2) (fun v1 h2 => ?_) (fun q5 h6 => ?_)
  · refine g_i2l (pc := 8) dX0_run_8 ?_
    refine g_lastore (pc := 9) rfl dX0_run_9 fun h3 => ?_
    refine g_goto (pc := 10) (tgt := 21) rfl dX0_run_10 ?_
    refine g_iconst (pc := 21) (v := (0 : Int32)) ic_0 dX0_run_21 ?_
    exact g_ireturn (pc := 22) rfl dX0_run_22
  refine g_catch (E := "java/lang/IllegalStateException") [] ⟨0, 10, 13, 21⟩ [⟨0, 10, 17, 13⟩] rfl rfl (List.forall_mem_nil _) (by decide +kernel) (by decide +kernel) q1425 q1439 ?_ ?_
  · refine g_astore (pc := 13) (lv' := []) [] rfl (gblt rfl) dX0_run_13 ?_
    refine g_iconst (pc := 15) (v := (1 : Int32)) ic_1 dX0_run_15 ?_
    exact g_ireturn (pc := 16) rfl dX0_run_16
  refine g_catch (E := "java/lang/IndexOutOfBoundsException") [⟨0, 10, 13, 21⟩] ⟨0, 10, 17, 13⟩ [] rfl rfl (List.forall_mem_cons.mpr ⟨Or.inr ⟨by decide +kernel, _, q1425, ncl_java_lang_IndexOutOfBoundsException_java_lang_IllegalStateException⟩, List.forall_mem_nil _⟩) (by decide +kernel) (by decide +kernel) q325 q418 ?_ ?_
  · refine g_astore (pc := 17) (lv' := []) [] rfl (gblt rfl) dX0_run_17 ?_
    refine g_iconst (pc := 19) (v := (2 : Int32)) ic_2 dX0_run_19 ?_
    exact g_ireturn (pc := 20) rfl dX0_run_20
  exact g_noneX
/-! FlareSlopesModel.runOf(II)I -/
noncomputable def sX2_runOf (G : GG) (N : Nat) (a0 : Option Nat) (a1 : Int32) (a2 : Int32) (h : Hp) : Out (Int32) :=
  gFr h a0 18 1 fun v1 =>
  gAi h v1 0 (((178 : Int32) + ((8 : Int32) * a1)) + a2) fun v2 =>
  some (.inl v2, h)
abbrev mX2_runOf : MI := (RX2, cX2_runOf, 3, (some .int), [], 0, 0, "runOf")
theorem tX2_runOf {G : GG} {l : Launch} (hs : l.stackTraces = false) {N : Nat} {a0 : Option Nat} {a1 : Int32} {a2 : Int32} {h : Hp} {r : Int32 ⊕ Nat} {hf : Hp} (ho : sX2_runOf G N a0 a1 a2 h = some (r, hf)) : gMet G l yX2_runOf (ws_ yX2_runOf cX2_runOf 3 (some .int)) 0 0 [gr a0, gi a1, gi a2] h cvI r hf := by
  refine gMet.of ho hs (plainFor_of_name pn_X2) rfl rfl (gbl rfl) fun X => ?_
  show gT G l X mX2_runOf cvI r hf 0 [(0, gr a0), (1, gi a1), (2, gi a2)] [] h (sX2_runOf G N a0 a1 a2 h)
  delta sX2_runOf
  refine g_aload_n (pc := 0) (x := a0) 0 rfl rfl dX2_runOf_0 ?_
  refine g_getfr (pc := 1) k_18 (gblt rfl) lk_X2_9_18 dX2_runOf_1 fun v1 => ?_
  refine g_sipush (pc := 4) (v := (178 : Int32)) sc_178 dX2_runOf_4 ?_
  refine g_bipush (pc := 7) (v := (8 : Int32)) bc_8 dX2_runOf_7 ?_
  refine g_iload_n (pc := 9) (x := a1) 1 rfl rfl dX2_runOf_9 ?_
  refine g_imul (pc := 10) dX2_runOf_10 ?_
  refine g_iadd (pc := 11) dX2_runOf_11 ?_
  refine g_iload_n (pc := 12) (x := a2) 2 rfl rfl dX2_runOf_12 ?_
  refine g_iadd (pc := 13) dX2_runOf_13 ?_
  refine g_iaload (pc := 14) rfl dX2_runOf_14 fun v2 => ?_
  exact g_ireturn (pc := 15) rfl dX2_runOf_15
/-! FlareSlopesModel.run(II)I -/
noncomputable def sX2_run (G : GG) (N : Nat) (a0 : Option Nat) (a1 : Int32) (a2 : Int32) (h : Hp) : Out (Int32) :=
  bV h a0 18 (fun q6 => sX2_mayBoth G N (some q6) a1 a2 h) fun v1 h2 =>
  if v1 = 0 then (some (.inl (0 : Int32), h2))
  else bV h2 a0 18 (fun q5 => sX2_runOf G N (some q5) a1 a2 h2) fun v3 h4 =>
  some (.inl v3, h4)
abbrev mX2_run : MI := (RX2, cX2_run, 3, (some .int), [], 3, 67, "run")
theorem tX2_run {G : GG} {l : Launch} (hs : l.stackTraces = false) {N : Nat} {a0 : Option Nat} {a1 : Int32} {a2 : Int32} {h : Hp} {r : Int32 ⊕ Nat} {hf : Hp} (ho : sX2_run G N a0 a1 a2 h = some (r, hf)) : gMet G l yX2_run (ws_ yX2_run cX2_run 3 (some .int)) 3 67 [gr a0, gi a1, gi a2] h cvI r hf := by
  refine gMet.of ho hs (plainFor_of_name pn_X2) rfl rfl (gbl rfl) fun X => ?_
  show gT G l X mX2_run cvI r hf 0 [(0, gr a0), (1, gi a1), (2, gi a2)] [] h (sX2_run G N a0 a1 a2 h)
  delta sX2_run
  refine g_aload_n (pc := 0) (x := a0) 0 rfl rfl dX2_run_0 ?_
  refine g_iload_n (pc := 1) (x := a1) 1 rfl rfl dX2_run_1 ?_
  refine g_iload_n (pc := 2) (x := a2) 2 rfl rfl dX2_run_2 ?_
  refine g_bVi (pc := 3) (y := yX2_mayBoth) (ws := ws_ yX2_mayBoth cX2_mayBoth 3 (some .boolean)) (fr := 2) (lo := 45) (as := [gi a1, gi a2]) (st := []) (g_no) rfl (fun _ _ _ e => tX2_mayBoth hs e) (fun K _ _ _ hq hM R e1 e2 => g_runV (M := mX2_run) (pc := 3) (y := yX2_mayBoth) (bytes := cX2_mayBoth) (maxL := 3) (ret := (some .boolean)) (fr := 2) (lo := 45) (as := [gi a1, gi a2]) (st := []) hq (C := "FlareSlopesModel") rfl gy_X2_mayBoth (gbl rfl) (gbl rfl) (gbl rfl) q4316 q4318 qs104 dX2_run_3 K hM R e1 e2) fun v1 h2 => ?_
  refine g_if_eq (pc := 6) (tgt := 18) rfl dX2_run_6 ?_ ?_
  · refine g_iconst (pc := 18) (v := (0 : Int32)) ic_0 dX2_run_18 ?_
    exact g_ireturn (pc := 19) rfl dX2_run_19
  refine g_aload_n (pc := 9) (x := a0) 0 rfl rfl dX2_run_9 ?_
  refine g_iload_n (pc := 10) (x := a1) 1 rfl rfl dX2_run_10 ?_
  refine g_iload_n (pc := 11) (x := a2) 2 rfl rfl dX2_run_11 ?_
  refine g_bVi (pc := 12) (y := yX2_runOf) (ws := ws_ yX2_runOf cX2_runOf 3 (some .int)) (fr := 0) (lo := 0) (as := [gi a1, gi a2]) (st := []) (g_no) rfl (fun _ _ _ e => tX2_runOf hs e) (fun K _ _ _ hq hM R e1 e2 => g_runV (M := mX2_run) (pc := 12) (y := yX2_runOf) (bytes := cX2_runOf) (maxL := 3) (ret := (some .int)) (fr := 0) (lo := 0) (as := [gi a1, gi a2]) (st := []) hq (C := "FlareSlopesModel") rfl gy_X2_runOf (gbl rfl) (gbl rfl) (gbl rfl) q4375 q4377 qs109 dX2_run_12 K hM R e1 e2) fun v3 h4 => ?_
  refine g_goto (pc := 15) (tgt := 19) rfl dX2_run_15 ?_
  exact g_ireturn (pc := 19) rfl dX2_run_19
/-! FlareSlopes.isClosed(II)Z -/
noncomputable def sX1_isClosed (G : GG) (N : Nat) (a0 : Option Nat) (a1 : Int32) (a2 : Int32) (h : Hp) : Out (Int32) :=
  bV h a0 3 (fun q6 => sX1_withBoth G N (some q6) a1 a2 h) fun v1 h2 =>
  bV h2 v1 7 (fun q5 => sX12_holdsClosed G N (some q5) a2 h2) fun v3 h4 =>
  gRtZ v3 h4
abbrev mX1_isClosed : MI := (RX1, cX1_isClosed, 3, (some .boolean), [], 10, 165, "isClosed")
theorem tX1_isClosed {G : GG} {l : Launch} (hs : l.stackTraces = false) {N : Nat} {a0 : Option Nat} {a1 : Int32} {a2 : Int32} {h : Hp} {r : Int32 ⊕ Nat} {hf : Hp} (ho : sX1_isClosed G N a0 a1 a2 h = some (r, hf)) : gMet G l yX1_isClosed (ws_ yX1_isClosed cX1_isClosed 3 (some .boolean)) 10 165 [gr a0, gi a1, gi a2] h cvI r hf := by
  refine gMet.of ho hs (plainFor_of_name pn_X1) rfl rfl (gbl rfl) fun X => ?_
  show gT G l X mX1_isClosed cvI r hf 0 [(0, gr a0), (1, gi a1), (2, gi a2)] [] h (sX1_isClosed G N a0 a1 a2 h)
  delta sX1_isClosed
  refine g_aload_n (pc := 0) (x := a0) 0 rfl rfl dX1_isClosed_0 ?_
  refine g_iload_n (pc := 1) (x := a1) 1 rfl rfl dX1_isClosed_1 ?_
  refine g_iload_n (pc := 2) (x := a2) 2 rfl rfl dX1_isClosed_2 ?_
  refine g_bVr (pc := 3) (y := yX1_withBoth) (ws := ws_ yX1_withBoth cX1_withBoth 4 (some (.object "FlareSlopes$Cabin"))) (fr := 9) (lo := 142) (as := [gi a1, gi a2]) (st := []) (g_no) rfl (fun _ _ _ e => tX1_withBoth hs e) (fun K _ _ _ hq hM R e1 e2 => g_runV (M := mX1_isClosed) (pc := 3) (y := yX1_withBoth) (bytes := cX1_withBoth) (maxL := 4) (ret := (some (.object "FlareSlopes$Cabin"))) (fr := 9) (lo := 142) (as := [gi a1, gi a2]) (st := []) hq (C := "FlareSlopes") rfl gy_X1_withBoth (gbl rfl) (gbl rfl) (gbl rfl) q3141 q3143 qs45 dX1_isClosed_3 K hM R e1 e2) fun v1 h2 => ?_
  refine g_iload_n (pc := 6) (x := a2) 2 rfl rfl dX1_isClosed_6 ?_
  refine g_bVi (pc := 7) (y := yX12_holdsClosed) (ws := ws_ yX12_holdsClosed cX12_holdsClosed 2 (some .boolean)) (fr := 1) (lo := 21) (as := [gi a2]) (st := []) (g_no) rfl (fun _ _ _ e => tX12_holdsClosed hs e) (fun K _ _ _ hq hM R e1 e2 => g_runV (M := mX1_isClosed) (pc := 7) (y := yX12_holdsClosed) (bytes := cX12_holdsClosed) (maxL := 2) (ret := (some .boolean)) (fr := 1) (lo := 21) (as := [gi a2]) (st := []) hq (C := "FlareSlopes$Cabin") rfl gy_X12_holdsClosed (gbl rfl) (gbl rfl) (gbl rfl) q3234 q3055 q3056 dX1_isClosed_7 K hM R e1 e2) fun v3 h4 => ?_
  exact g_zreturn (pc := 10) rfl dX1_isClosed_10
/-! FlareSlopesLaw.isClosed(LFlareSlopes;II[J)I -/
noncomputable def sX0_isClosed (G : GG) (N : Nat) (a0 : Option Nat) (a1 : Int32) (a2 : Int32) (a3 : Option Nat) (h : Hp) : Out (Int32) :=
  bVX h a0 3 (fun q7 => sX1_isClosed G N (some q7) a1 a2 h) (fun v1 h2 =>
  gJ (fun (x3 : Int64) (h4 : Hp) =>
  gSl G h4 a3 3 (0 : Int32) x3 fun h6 =>
  some (.inl (0 : Int32), h6)) fun j5 =>
  if v1 = 0 then (j5 (0 : Int64) h2)
  else j5 (1 : Int64) h2) fun q8 h9 =>
  gSw h9 (some q8) 0 (some (.inl (1 : Int32), h9)) (gSw h9 (some q8) 2 (some (.inl (2 : Int32), h9)) (none))
abbrev mX0_isClosed : MI := (RX0, cX0_isClosed, 5, (some .int), [(0, 17, 20, 21), (0, 17, 24, 13)], 11, 187, "isClosed")
theorem tX0_isClosed {G : GG} {l : Launch} (hs : l.stackTraces = false) {N : Nat} {a0 : Option Nat} {a1 : Int32} {a2 : Int32} {a3 : Option Nat} {h : Hp} {r : Int32 ⊕ Nat} {hf : Hp} (ho : sX0_isClosed G N a0 a1 a2 a3 h = some (r, hf)) : gMet G l yX0_isClosed (wsW_ yX0_isClosed cX0_isClosed 5 (some .int) [(0, 17, 20, 21), (0, 17, 24, 13)]) 11 187 [gr a0, gi a1, gi a2, gr a3] h cvI r hf := by
  refine gMet.ofW ho hs (plainFor_of_name pn_X0) rfl rfl (gbl rfl) fun X => ?_
  show gT G l X mX0_isClosed cvI r hf 0 [(0, gr a0), (1, gi a1), (2, gi a2), (3, gr a3)] [] h (sX0_isClosed G N a0 a1 a2 a3 h)
  delta sX0_isClosed
  refine g_aload_n (pc := 0) (x := a3) 3 rfl rfl dX0_isClosed_0 ?_
  refine g_iconst (pc := 1) (v := (0 : Int32)) ic_0 dX0_isClosed_1 ?_
  refine g_aload_n (pc := 2) (x := a0) 0 rfl rfl dX0_isClosed_2 ?_
  refine g_iload_n (pc := 3) (x := a1) 1 rfl rfl dX0_isClosed_3 ?_
  refine g_iload_n (pc := 4) (x := a2) 2 rfl rfl dX0_isClosed_4 ?_
  refine g_bVXi (pc := 5) (y := yX1_isClosed) (ws := ws_ yX1_isClosed cX1_isClosed 3 (some .boolean)) (fr := 10) (lo := 165) (as := [gi a1, gi a2]) (st := [gi (0 : Int32), gr a3]) rfl (fun _ _ _ e => tX1_isClosed hs e) (fun K _ _ _ hq hM R e1 e2 => g_runV (M := mX0_isClosed) (pc := 5) (y := yX1_isClosed) (bytes := cX1_isClosed) (maxL := 3) (ret := (some .boolean)) (fr := 10) (lo := 165) (as := [gi a1, gi a2]) (st := [gi (0 : Int32), gr a3]) hq (C := "FlareSlopes") rfl gy_X1_isClosed (gbl rfl) (gbl rfl) (gbl rfl) q3230 q3231 q3232 dX0_isClosed_5 K hM R e1 e2) (fun v1 h2 => ?_) (fun q8 h9 => ?_)
  · refine g_join 16 (fun (x3 : Int64) => []) (fun (x3 : Int64) => [gl x3, gi (0 : Int32), gr a3]) (fun x3 h4 => ?_) (fun j5 Hj5 => ?_)
    · refine g_lastore (pc := 16) rfl dX0_isClosed_16 fun h6 => ?_
      refine g_goto (pc := 17) (tgt := 28) rfl dX0_isClosed_17 ?_
      refine g_iconst (pc := 28) (v := (0 : Int32)) ic_0 dX0_isClosed_28 ?_
      exact g_ireturn (pc := 29) rfl dX0_isClosed_29
    refine g_if_eq (pc := 8) (tgt := 15) rfl dX0_isClosed_8 ?_ ?_
    · refine g_lconst (pc := 15) (v := (0 : Int64)) rfl dX0_isClosed_15 ?_
      exact g_sub [] rfl (Hj5 (0 : Int64) h2)
    refine g_lconst (pc := 11) (v := (1 : Int64)) rfl dX0_isClosed_11 ?_
    refine g_goto (pc := 12) (tgt := 16) rfl dX0_isClosed_12 ?_
    exact g_sub [] rfl (Hj5 (1 : Int64) h2)
  refine g_catch (E := "java/lang/IllegalStateException") [] ⟨0, 17, 20, 21⟩ [⟨0, 17, 24, 13⟩] rfl rfl (List.forall_mem_nil _) (by decide +kernel) (by decide +kernel) q1425 q1439 ?_ ?_
  · refine g_astore (pc := 20) (lv' := []) [] rfl (gblt rfl) dX0_isClosed_20 ?_
    refine g_iconst (pc := 22) (v := (1 : Int32)) ic_1 dX0_isClosed_22 ?_
    exact g_ireturn (pc := 23) rfl dX0_isClosed_23
  refine g_catch (E := "java/lang/IndexOutOfBoundsException") [⟨0, 17, 20, 21⟩] ⟨0, 17, 24, 13⟩ [] rfl rfl (List.forall_mem_cons.mpr ⟨Or.inr ⟨by decide +kernel, _, q1425, ncl_java_lang_IndexOutOfBoundsException_java_lang_IllegalStateException⟩, List.forall_mem_nil _⟩) (by decide +kernel) (by decide +kernel) q325 q418 ?_ ?_
  · refine g_astore (pc := 24) (lv' := []) [] rfl (gblt rfl) dX0_isClosed_24 ?_
    refine g_iconst (pc := 26) (v := (2 : Int32)) ic_2 dX0_isClosed_26 ?_
    exact g_ireturn (pc := 27) rfl dX0_isClosed_27
  exact g_noneX
/-! FlareSlopesModel.isClosed(II)Z -/
noncomputable def sX2_isClosed (G : GG) (N : Nat) (a0 : Option Nat) (a1 : Int32) (a2 : Int32) (h : Hp) : Out (Int32) :=
  bV h a0 18 (fun q9 => sX2_mayBoth G N (some q9) a1 a2 h) fun v1 h2 =>
  gJ (fun (x3 : Unit) (h4 : Hp) =>
  gRtZ (0 : Int32) h4) fun j5 =>
  if v1 = 0 then (j5 () h2)
  else bV h2 a0 18 (fun q8 => sX2_holds G N (some q8) a1 a2 h2) fun v6 h7 =>
  if v6 = 0 then (j5 () h7)
  else gRtZ (1 : Int32) h7
abbrev mX2_isClosed : MI := (RX2, cX2_isClosed, 3, (some .boolean), [], 3, 67, "isClosed")
theorem tX2_isClosed {G : GG} {l : Launch} (hs : l.stackTraces = false) {N : Nat} {a0 : Option Nat} {a1 : Int32} {a2 : Int32} {h : Hp} {r : Int32 ⊕ Nat} {hf : Hp} (ho : sX2_isClosed G N a0 a1 a2 h = some (r, hf)) : gMet G l yX2_isClosed (ws_ yX2_isClosed cX2_isClosed 3 (some .boolean)) 3 67 [gr a0, gi a1, gi a2] h cvI r hf := by
  refine gMet.of ho hs (plainFor_of_name pn_X2) rfl rfl (gbl rfl) fun X => ?_
  show gT G l X mX2_isClosed cvI r hf 0 [(0, gr a0), (1, gi a1), (2, gi a2)] [] h (sX2_isClosed G N a0 a1 a2 h)
  delta sX2_isClosed
  refine g_aload_n (pc := 0) (x := a0) 0 rfl rfl dX2_isClosed_0 ?_
  refine g_iload_n (pc := 1) (x := a1) 1 rfl rfl dX2_isClosed_1 ?_
  refine g_iload_n (pc := 2) (x := a2) 2 rfl rfl dX2_isClosed_2 ?_
  refine g_bVi (pc := 3) (y := yX2_mayBoth) (ws := ws_ yX2_mayBoth cX2_mayBoth 3 (some .boolean)) (fr := 2) (lo := 45) (as := [gi a1, gi a2]) (st := []) (g_no) rfl (fun _ _ _ e => tX2_mayBoth hs e) (fun K _ _ _ hq hM R e1 e2 => g_runV (M := mX2_isClosed) (pc := 3) (y := yX2_mayBoth) (bytes := cX2_mayBoth) (maxL := 3) (ret := (some .boolean)) (fr := 2) (lo := 45) (as := [gi a1, gi a2]) (st := []) hq (C := "FlareSlopesModel") rfl gy_X2_mayBoth (gbl rfl) (gbl rfl) (gbl rfl) q4316 q4318 qs104 dX2_isClosed_3 K hM R e1 e2) fun v1 h2 => ?_
  refine g_join 22 (fun (x3 : Unit) => []) (fun (x3 : Unit) => []) (fun x3 h4 => ?_) (fun j5 Hj5 => ?_)
  · refine g_iconst (pc := 22) (v := (0 : Int32)) ic_0 dX2_isClosed_22 ?_
    exact g_zreturn (pc := 23) rfl dX2_isClosed_23
  refine g_if_eq (pc := 6) (tgt := 22) rfl dX2_isClosed_6 ?_ ?_
  · exact g_sub [] rfl (Hj5 () h2)
  refine g_aload_n (pc := 9) (x := a0) 0 rfl rfl dX2_isClosed_9 ?_
  refine g_iload_n (pc := 10) (x := a1) 1 rfl rfl dX2_isClosed_10 ?_
  refine g_iload_n (pc := 11) (x := a2) 2 rfl rfl dX2_isClosed_11 ?_
  refine g_bVi (pc := 12) (y := yX2_holds) (ws := ws_ yX2_holds cX2_holds 3 (some .boolean)) (fr := 1) (lo := 21) (as := [gi a1, gi a2]) (st := []) (g_no) rfl (fun _ _ _ e => tX2_holds hs e) (fun K _ _ _ hq hM R e1 e2 => g_runV (M := mX2_isClosed) (pc := 12) (y := yX2_holds) (bytes := cX2_holds) (maxL := 3) (ret := (some .boolean)) (fr := 1) (lo := 21) (as := [gi a1, gi a2]) (st := []) hq (C := "FlareSlopesModel") rfl gy_X2_holds (gbl rfl) (gbl rfl) (gbl rfl) q4253 q4255 qs95 dX2_isClosed_12 K hM R e1 e2) fun v6 h7 => ?_
  refine g_if_eq (pc := 15) (tgt := 22) rfl dX2_isClosed_15 ?_ ?_
  · exact g_sub [] rfl (Hj5 () h7)
  refine g_iconst (pc := 18) (v := (1 : Int32)) ic_1 dX2_isClosed_18 ?_
  refine g_goto (pc := 19) (tgt := 23) rfl dX2_isClosed_19 ?_
  exact g_zreturn (pc := 23) rfl dX2_isClosed_23
/-! FlareSlopes$State.tellsClosed(II)Z -/
noncomputable def sX3_tellsClosed (G : GG) (N : Nat) (a0 : Option Nat) (a1 : Int32) (a2 : Int32) (h : Hp) : Out (Int32) :=
  bV h a0 16 (fun q19 => sX3_seers G N (some q19) a1 h) fun v1 h2 =>
  bV h2 a0 16 (fun q18 => sX3_cabin G N (some q18) a1 h2) fun v3 h4 =>
  bV h4 v3 7 (fun q17 => sX12_holdsClosed G N (some q17) a2 h4) fun v5 h6 =>
  gJ (fun (x7 : Unit) (h8 : Hp) =>
  gRtZ (1 : Int32) h8) fun j9 =>
  if v5 = 0 then (bV h6 a0 16 (fun q16 => sX3_closers G N (some q16) a2 h6) fun v10 h11 =>
  bnd (sJ20_bitCount G N (v1 &&& v10) h11) fun v12 h13 =>
  bnd (sJ20_bitCount G N v1 h13) fun v14 h15 =>
  if ((2 : Int32) * v12) ≤ v14 then (gRtZ (0 : Int32) h15)
  else j9 () h15)
  else j9 () h6
abbrev mX3_tellsClosed : MI := (RX3, cX3_tellsClosed, 4, (some .boolean), [], 8, 174, "tellsClosed")
theorem tX3_tellsClosed {G : GG} {l : Launch} (hs : l.stackTraces = false) {N : Nat} {a0 : Option Nat} {a1 : Int32} {a2 : Int32} {h : Hp} {r : Int32 ⊕ Nat} {hf : Hp} (ho : sX3_tellsClosed G N a0 a1 a2 h = some (r, hf)) : gMet G l yX3_tellsClosed (ws_ yX3_tellsClosed cX3_tellsClosed 4 (some .boolean)) 8 174 [gr a0, gi a1, gi a2] h cvI r hf := by
  refine gMet.of ho hs (plainFor_of_name pn_X3) rfl rfl (gbl rfl) fun X => ?_
  show gT G l X mX3_tellsClosed cvI r hf 0 [(0, gr a0), (1, gi a1), (2, gi a2)] [] h (sX3_tellsClosed G N a0 a1 a2 h)
  delta sX3_tellsClosed
  refine g_aload_n (pc := 0) (x := a0) 0 rfl rfl dX3_tellsClosed_0 ?_
  refine g_iload_n (pc := 1) (x := a1) 1 rfl rfl dX3_tellsClosed_1 ?_
  refine g_bVi (pc := 2) (y := yX3_seers) (ws := ws_ yX3_seers cX3_seers 4 (some .int)) (fr := 7) (lo := 151) (as := [gi a1]) (st := []) (g_no) rfl (fun _ _ _ e => tX3_seers hs e) (fun K _ _ _ hq hM R e1 e2 => g_runV (M := mX3_tellsClosed) (pc := 2) (y := yX3_seers) (bytes := cX3_seers) (maxL := 4) (ret := (some .int)) (fr := 7) (lo := 151) (as := [gi a1]) (st := []) hq (C := "FlareSlopes$State") rfl gy_X3_seers (gbl rfl) (gbl rfl) (gbl rfl) q3170 q1630 q1631 dX3_tellsClosed_2 K hM R e1 e2) fun v1 h2 => ?_
  refine g_istore_n (pc := 5) (lv' := [(3, gi v1), (0, gr a0), (1, gi a1), (2, gi a2)]) [0, 1, 2, 3] rfl rfl (gblt rfl) dX3_tellsClosed_5 ?_
  refine g_aload_n (pc := 6) (x := a0) 1 rfl rfl dX3_tellsClosed_6 ?_
  refine g_iload_n (pc := 7) (x := a1) 2 rfl rfl dX3_tellsClosed_7 ?_
  refine g_bVr (pc := 8) (y := yX3_cabin) (ws := ws_ yX3_cabin cX3_cabin 2 (some (.object "FlareSlopes$Cabin"))) (fr := 3) (lo := 64) (as := [gi a1]) (st := []) (g_no) rfl (fun _ _ _ e => tX3_cabin hs e) (fun K _ _ _ hq hM R e1 e2 => g_runV (M := mX3_tellsClosed) (pc := 8) (y := yX3_cabin) (bytes := cX3_cabin) (maxL := 2) (ret := (some (.object "FlareSlopes$Cabin"))) (fr := 3) (lo := 64) (as := [gi a1]) (st := []) hq (C := "FlareSlopes$State") rfl gy_X3_cabin (gbl rfl) (gbl rfl) (gbl rfl) q1638 q1639 q1640 dX3_tellsClosed_8 K hM R e1 e2) fun v3 h4 => ?_
  refine g_iload_n (pc := 11) (x := a2) 3 rfl rfl dX3_tellsClosed_11 ?_
  refine g_bVi (pc := 12) (y := yX12_holdsClosed) (ws := ws_ yX12_holdsClosed cX12_holdsClosed 2 (some .boolean)) (fr := 1) (lo := 21) (as := [gi a2]) (st := []) (g_no) rfl (fun _ _ _ e => tX12_holdsClosed hs e) (fun K _ _ _ hq hM R e1 e2 => g_runV (M := mX3_tellsClosed) (pc := 12) (y := yX12_holdsClosed) (bytes := cX12_holdsClosed) (maxL := 2) (ret := (some .boolean)) (fr := 1) (lo := 21) (as := [gi a2]) (st := []) hq (C := "FlareSlopes$Cabin") rfl gy_X12_holdsClosed (gbl rfl) (gbl rfl) (gbl rfl) q3054 q3055 q3056 dX3_tellsClosed_12 K hM R e1 e2) fun v5 h6 => ?_
  refine g_join 37 (fun (x7 : Unit) => []) (fun (x7 : Unit) => []) (fun x7 h8 => ?_) (fun j9 Hj9 => ?_)
  · refine g_iconst (pc := 37) (v := (1 : Int32)) ic_1 dX3_tellsClosed_37 ?_
    refine g_goto (pc := 38) (tgt := 42) rfl dX3_tellsClosed_38 ?_
    exact g_zreturn (pc := 42) rfl dX3_tellsClosed_42
  refine g_if_ne (pc := 15) (tgt := 37) rfl dX3_tellsClosed_15 ?_ ?_
  rotate_left
  · exact g_sub [] rfl (Hj9 () h6)
  refine g_iconst (pc := 18) (v := (2 : Int32)) ic_2 dX3_tellsClosed_18 ?_
  refine g_iload_n (pc := 19) (x := v1) 0 rfl rfl dX3_tellsClosed_19 ?_
  refine g_aload_n (pc := 20) (x := a0) 1 rfl rfl dX3_tellsClosed_20 ?_
  refine g_iload_n (pc := 21) (x := a2) 3 rfl rfl dX3_tellsClosed_21 ?_
  refine g_bVi (pc := 22) (y := yX3_closers) (ws := ws_ yX3_closers cX3_closers 4 (some .int)) (fr := 4) (lo := 85) (as := [gi a2]) (st := [gi v1, gi (2 : Int32)]) (g_no) rfl (fun _ _ _ e => tX3_closers hs e) (fun K _ _ _ hq hM R e1 e2 => g_runV (M := mX3_tellsClosed) (pc := 22) (y := yX3_closers) (bytes := cX3_closers) (maxL := 4) (ret := (some .int)) (fr := 4) (lo := 85) (as := [gi a2]) (st := [gi v1, gi (2 : Int32)]) hq (C := "FlareSlopes$State") rfl gy_X3_closers (gbl rfl) (gbl rfl) (gbl rfl) q3246 q3051 q3052 dX3_tellsClosed_22 K hM R e1 e2) fun v10 h11 => ?_
  refine g_iand (pc := 25) dX3_tellsClosed_25 ?_
  refine g_bi (pc := 26) (y := yJ20_bitCount) (ws := ws_ yJ20_bitCount cJ20_bitCount 1 (some .int)) (fr := 0) (lo := 0) (as := [gi (v1 &&& v10)]) (st := [gi (2 : Int32)]) (g_no) rfl (fun _ _ e => tJ20_bitCount hs e) (fun K _ _ hM R e1 e2 => g_runS (M := mX3_tellsClosed) (pc := 26) (y := yJ20_bitCount) (bytes := cJ20_bitCount) (maxL := 1) (ret := (some .int)) (fr := 0) (lo := 0) (as := [gi (v1 &&& v10)]) (st := [gi (2 : Int32)]) gy_J20_bitCount (gbl rfl) (gbl rfl) (gbl rfl) q3247 q1620 dX3_tellsClosed_26 K hM R e1 e2) fun v12 h13 => ?_
  refine g_imul (pc := 29) dX3_tellsClosed_29 ?_
  refine g_iload_n (pc := 30) (x := v1) 0 rfl rfl dX3_tellsClosed_30 ?_
  refine g_bi (pc := 31) (y := yJ20_bitCount) (ws := ws_ yJ20_bitCount cJ20_bitCount 1 (some .int)) (fr := 0) (lo := 0) (as := [gi v1]) (st := [gi ((2 : Int32) * v12)]) (g_no) rfl (fun _ _ e => tJ20_bitCount hs e) (fun K _ _ hM R e1 e2 => g_runS (M := mX3_tellsClosed) (pc := 31) (y := yJ20_bitCount) (bytes := cJ20_bitCount) (maxL := 1) (ret := (some .int)) (fr := 0) (lo := 0) (as := [gi v1]) (st := [gi ((2 : Int32) * v12)]) gy_J20_bitCount (gbl rfl) (gbl rfl) (gbl rfl) q3247 q1620 dX3_tellsClosed_31 K hM R e1 e2) fun v14 h15 => ?_
  refine g_icmp_le (pc := 34) (tgt := 41) rfl dX3_tellsClosed_34 ?_ ?_
  rotate_left
  · exact g_sub [] rfl (Hj9 () h15)
  refine g_iconst (pc := 41) (v := (0 : Int32)) ic_0 dX3_tellsClosed_41 ?_
  exact g_zreturn (pc := 42) rfl dX3_tellsClosed_42
/-! FlareSlopes.toldClosed(II)Z -/
noncomputable def sX1_toldClosed (G : GG) (N : Nat) (a0 : Option Nat) (a1 : Int32) (a2 : Int32) (h : Hp) : Out (Int32) :=
  bV h a0 3 (fun q7 => sX1_withBoth G N (some q7) a1 a2 h) fun v1 h2 =>
  gFr h2 a0 3 4 fun v3 =>
  bV h2 v3 16 (fun q6 => sX3_tellsClosed G N (some q6) a1 a2 h2) fun v4 h5 =>
  gRtZ v4 h5
abbrev mX1_toldClosed : MI := (RX1, cX1_toldClosed, 4, (some .boolean), [], 10, 197, "toldClosed")
theorem tX1_toldClosed {G : GG} {l : Launch} (hs : l.stackTraces = false) {N : Nat} {a0 : Option Nat} {a1 : Int32} {a2 : Int32} {h : Hp} {r : Int32 ⊕ Nat} {hf : Hp} (ho : sX1_toldClosed G N a0 a1 a2 h = some (r, hf)) : gMet G l yX1_toldClosed (ws_ yX1_toldClosed cX1_toldClosed 4 (some .boolean)) 10 197 [gr a0, gi a1, gi a2] h cvI r hf := by
  refine gMet.of ho hs (plainFor_of_name pn_X1) rfl rfl (gbl rfl) fun X => ?_
  show gT G l X mX1_toldClosed cvI r hf 0 [(0, gr a0), (1, gi a1), (2, gi a2)] [] h (sX1_toldClosed G N a0 a1 a2 h)
  delta sX1_toldClosed
  refine g_aload_n (pc := 0) (x := a0) 0 rfl rfl dX1_toldClosed_0 ?_
  refine g_iload_n (pc := 1) (x := a1) 1 rfl rfl dX1_toldClosed_1 ?_
  refine g_iload_n (pc := 2) (x := a2) 2 rfl rfl dX1_toldClosed_2 ?_
  refine g_bVr (pc := 3) (y := yX1_withBoth) (ws := ws_ yX1_withBoth cX1_withBoth 4 (some (.object "FlareSlopes$Cabin"))) (fr := 9) (lo := 142) (as := [gi a1, gi a2]) (st := []) (g_no) rfl (fun _ _ _ e => tX1_withBoth hs e) (fun K _ _ _ hq hM R e1 e2 => g_runV (M := mX1_toldClosed) (pc := 3) (y := yX1_withBoth) (bytes := cX1_withBoth) (maxL := 4) (ret := (some (.object "FlareSlopes$Cabin"))) (fr := 9) (lo := 142) (as := [gi a1, gi a2]) (st := []) hq (C := "FlareSlopes") rfl gy_X1_withBoth (gbl rfl) (gbl rfl) (gbl rfl) q3141 q3143 qs45 dX1_toldClosed_3 K hM R e1 e2) fun v1 h2 => ?_
  refine g_astore_n (pc := 6) (lv' := [(0, gr a0), (1, gi a1), (2, gi a2)]) [1, 2, 3] rfl rfl (gblt rfl) dX1_toldClosed_6 ?_
  refine g_aload_n (pc := 7) (x := a0) 0 rfl rfl dX1_toldClosed_7 ?_
  refine g_getfr (pc := 8) k_3 (gblt rfl) lk_X1_56_3 dX1_toldClosed_8 fun v3 => ?_
  refine g_iload_n (pc := 11) (x := a1) 1 rfl rfl dX1_toldClosed_11 ?_
  refine g_iload_n (pc := 12) (x := a2) 2 rfl rfl dX1_toldClosed_12 ?_
  refine g_bVi (pc := 13) (y := yX3_tellsClosed) (ws := ws_ yX3_tellsClosed cX3_tellsClosed 4 (some .boolean)) (fr := 8) (lo := 174) (as := [gi a1, gi a2]) (st := []) (g_no) rfl (fun _ _ _ e => tX3_tellsClosed hs e) (fun K _ _ _ hq hM R e1 e2 => g_runV (M := mX1_toldClosed) (pc := 13) (y := yX3_tellsClosed) (bytes := cX3_tellsClosed) (maxL := 4) (ret := (some .boolean)) (fr := 8) (lo := 174) (as := [gi a1, gi a2]) (st := []) hq (C := "FlareSlopes$State") rfl gy_X3_tellsClosed (gbl rfl) (gbl rfl) (gbl rfl) q3242 q3243 q3244 dX1_toldClosed_13 K hM R e1 e2) fun v4 h5 => ?_
  exact g_zreturn (pc := 16) rfl dX1_toldClosed_16
/-! FlareSlopesLaw.toldClosed(LFlareSlopes;II[J)I -/
noncomputable def sX0_toldClosed (G : GG) (N : Nat) (a0 : Option Nat) (a1 : Int32) (a2 : Int32) (a3 : Option Nat) (h : Hp) : Out (Int32) :=
  bVX h a0 3 (fun q7 => sX1_toldClosed G N (some q7) a1 a2 h) (fun v1 h2 =>
  gJ (fun (x3 : Int64) (h4 : Hp) =>
  gSl G h4 a3 3 (0 : Int32) x3 fun h6 =>
  some (.inl (0 : Int32), h6)) fun j5 =>
  if v1 = 0 then (j5 (0 : Int64) h2)
  else j5 (1 : Int64) h2) fun q8 h9 =>
  gSw h9 (some q8) 0 (some (.inl (1 : Int32), h9)) (gSw h9 (some q8) 2 (some (.inl (2 : Int32), h9)) (none))
abbrev mX0_toldClosed : MI := (RX0, cX0_toldClosed, 5, (some .int), [(0, 17, 20, 21), (0, 17, 24, 13)], 11, 220, "toldClosed")
theorem tX0_toldClosed {G : GG} {l : Launch} (hs : l.stackTraces = false) {N : Nat} {a0 : Option Nat} {a1 : Int32} {a2 : Int32} {a3 : Option Nat} {h : Hp} {r : Int32 ⊕ Nat} {hf : Hp} (ho : sX0_toldClosed G N a0 a1 a2 a3 h = some (r, hf)) : gMet G l yX0_toldClosed (wsW_ yX0_toldClosed cX0_toldClosed 5 (some .int) [(0, 17, 20, 21), (0, 17, 24, 13)]) 11 220 [gr a0, gi a1, gi a2, gr a3] h cvI r hf := by
  refine gMet.ofW ho hs (plainFor_of_name pn_X0) rfl rfl (gbl rfl) fun X => ?_
  show gT G l X mX0_toldClosed cvI r hf 0 [(0, gr a0), (1, gi a1), (2, gi a2), (3, gr a3)] [] h (sX0_toldClosed G N a0 a1 a2 a3 h)
  delta sX0_toldClosed
  refine g_aload_n (pc := 0) (x := a3) 3 rfl rfl dX0_toldClosed_0 ?_
  refine g_iconst (pc := 1) (v := (0 : Int32)) ic_0 dX0_toldClosed_1 ?_
  refine g_aload_n (pc := 2) (x := a0) 0 rfl rfl dX0_toldClosed_2 ?_
  refine g_iload_n (pc := 3) (x := a1) 1 rfl rfl dX0_toldClosed_3 ?_
  refine g_iload_n (pc := 4) (x := a2) 2 rfl rfl dX0_toldClosed_4 ?_
  refine g_bVXi (pc := 5) (y := yX1_toldClosed) (ws := ws_ yX1_toldClosed cX1_toldClosed 4 (some .boolean)) (fr := 10) (lo := 197) (as := [gi a1, gi a2]) (st := [gi (0 : Int32), gr a3]) rfl (fun _ _ _ e => tX1_toldClosed hs e) (fun K _ _ _ hq hM R e1 e2 => g_runV (M := mX0_toldClosed) (pc := 5) (y := yX1_toldClosed) (bytes := cX1_toldClosed) (maxL := 4) (ret := (some .boolean)) (fr := 10) (lo := 197) (as := [gi a1, gi a2]) (st := [gi (0 : Int32), gr a3]) hq (C := "FlareSlopes") rfl gy_X1_toldClosed (gbl rfl) (gbl rfl) (gbl rfl) q3238 q3239 q3240 dX0_toldClosed_5 K hM R e1 e2) (fun v1 h2 => ?_) (fun q8 h9 => ?_)
  · refine g_join 16 (fun (x3 : Int64) => []) (fun (x3 : Int64) => [gl x3, gi (0 : Int32), gr a3]) (fun x3 h4 => ?_) (fun j5 Hj5 => ?_)
    · refine g_lastore (pc := 16) rfl dX0_toldClosed_16 fun h6 => ?_
      refine g_goto (pc := 17) (tgt := 28) rfl dX0_toldClosed_17 ?_
      refine g_iconst (pc := 28) (v := (0 : Int32)) ic_0 dX0_toldClosed_28 ?_
      exact g_ireturn (pc := 29) rfl dX0_toldClosed_29
    refine g_if_eq (pc := 8) (tgt := 15) rfl dX0_toldClosed_8 ?_ ?_
    · refine g_lconst (pc := 15) (v := (0 : Int64)) rfl dX0_toldClosed_15 ?_
      exact g_sub [] rfl (Hj5 (0 : Int64) h2)
    refine g_lconst (pc := 11) (v := (1 : Int64)) rfl dX0_toldClosed_11 ?_
    refine g_goto (pc := 12) (tgt := 16) rfl dX0_toldClosed_12 ?_
    exact g_sub [] rfl (Hj5 (1 : Int64) h2)
  refine g_catch (E := "java/lang/IllegalStateException") [] ⟨0, 17, 20, 21⟩ [⟨0, 17, 24, 13⟩] rfl rfl (List.forall_mem_nil _) (by decide +kernel) (by decide +kernel) q1425 q1439 ?_ ?_
  · refine g_astore (pc := 20) (lv' := []) [] rfl (gblt rfl) dX0_toldClosed_20 ?_
    refine g_iconst (pc := 22) (v := (1 : Int32)) ic_1 dX0_toldClosed_22 ?_
    exact g_ireturn (pc := 23) rfl dX0_toldClosed_23
  refine g_catch (E := "java/lang/IndexOutOfBoundsException") [⟨0, 17, 20, 21⟩] ⟨0, 17, 24, 13⟩ [] rfl rfl (List.forall_mem_cons.mpr ⟨Or.inr ⟨by decide +kernel, _, q1425, ncl_java_lang_IndexOutOfBoundsException_java_lang_IllegalStateException⟩, List.forall_mem_nil _⟩) (by decide +kernel) (by decide +kernel) q325 q418 ?_ ?_
  · refine g_astore (pc := 24) (lv' := []) [] rfl (gblt rfl) dX0_toldClosed_24 ?_
    refine g_iconst (pc := 26) (v := (2 : Int32)) ic_2 dX0_toldClosed_26 ?_
    exact g_ireturn (pc := 27) rfl dX0_toldClosed_27
  exact g_noneX
/-! FlareSlopesModel.tellsClosed(II)Z -/
noncomputable def sX2_tellsClosed (G : GG) (N : Nat) (a0 : Option Nat) (a1 : Int32) (a2 : Int32) (h : Hp) : Out (Int32) :=
  bV h a0 18 (fun q16 => sX2_seen G N (some q16) a1 h) fun v1 h2 =>
  bV h2 a0 18 (fun q15 => sX2_holds G N (some q15) a1 a2 h2) fun v3 h4 =>
  gJ (fun (x5 : Unit) (h6 : Hp) =>
  gRtZ (1 : Int32) h6) fun j7 =>
  if v3 = 0 then (bV h4 a0 18 (fun q14 => sX2_closersOf G N (some q14) a2 h4) fun v8 h9 =>
  bnd (sX2_bits G N (v1 &&& v8) h9) fun v10 h11 =>
  bnd (sX2_bits G N v1 h11) fun v12 h13 =>
  if ((2 : Int32) * v10) ≤ v12 then (gRtZ (0 : Int32) h13)
  else j7 () h13)
  else j7 () h4
abbrev mX2_tellsClosed : MI := (RX2, cX2_tellsClosed, 4, (some .boolean), [], 5, 116, "tellsClosed")
theorem tX2_tellsClosed {G : GG} {l : Launch} (hs : l.stackTraces = false) {N : Nat} {a0 : Option Nat} {a1 : Int32} {a2 : Int32} {h : Hp} {r : Int32 ⊕ Nat} {hf : Hp} (ho : sX2_tellsClosed G N a0 a1 a2 h = some (r, hf)) : gMet G l yX2_tellsClosed (ws_ yX2_tellsClosed cX2_tellsClosed 4 (some .boolean)) 5 116 [gr a0, gi a1, gi a2] h cvI r hf := by
  refine gMet.of ho hs (plainFor_of_name pn_X2) rfl rfl (gbl rfl) fun X => ?_
  show gT G l X mX2_tellsClosed cvI r hf 0 [(0, gr a0), (1, gi a1), (2, gi a2)] [] h (sX2_tellsClosed G N a0 a1 a2 h)
  delta sX2_tellsClosed
  refine g_aload_n (pc := 0) (x := a0) 0 rfl rfl dX2_tellsClosed_0 ?_
  refine g_iload_n (pc := 1) (x := a1) 1 rfl rfl dX2_tellsClosed_1 ?_
  refine g_bVi (pc := 2) (y := yX2_seen) (ws := ws_ yX2_seen cX2_seen 4 (some .int)) (fr := 4) (lo := 93) (as := [gi a1]) (st := []) (g_no) rfl (fun _ _ _ e => tX2_seen hs e) (fun K _ _ _ hq hM R e1 e2 => g_runV (M := mX2_tellsClosed) (pc := 2) (y := yX2_seen) (bytes := cX2_seen) (maxL := 4) (ret := (some .int)) (fr := 4) (lo := 93) (as := [gi a1]) (st := []) hq (C := "FlareSlopesModel") rfl gy_X2_seen (gbl rfl) (gbl rfl) (gbl rfl) q4328 q4330 qs106 dX2_tellsClosed_2 K hM R e1 e2) fun v1 h2 => ?_
  refine g_istore_n (pc := 5) (lv' := [(3, gi v1), (0, gr a0), (1, gi a1), (2, gi a2)]) [0, 1, 2, 3] rfl rfl (gblt rfl) dX2_tellsClosed_5 ?_
  refine g_aload_n (pc := 6) (x := a0) 1 rfl rfl dX2_tellsClosed_6 ?_
  refine g_iload_n (pc := 7) (x := a1) 2 rfl rfl dX2_tellsClosed_7 ?_
  refine g_iload_n (pc := 8) (x := a2) 3 rfl rfl dX2_tellsClosed_8 ?_
  refine g_bVi (pc := 9) (y := yX2_holds) (ws := ws_ yX2_holds cX2_holds 3 (some .boolean)) (fr := 1) (lo := 21) (as := [gi a1, gi a2]) (st := []) (g_no) rfl (fun _ _ _ e => tX2_holds hs e) (fun K _ _ _ hq hM R e1 e2 => g_runV (M := mX2_tellsClosed) (pc := 9) (y := yX2_holds) (bytes := cX2_holds) (maxL := 3) (ret := (some .boolean)) (fr := 1) (lo := 21) (as := [gi a1, gi a2]) (st := []) hq (C := "FlareSlopesModel") rfl gy_X2_holds (gbl rfl) (gbl rfl) (gbl rfl) q4253 q4255 qs95 dX2_tellsClosed_9 K hM R e1 e2) fun v3 h4 => ?_
  refine g_join 34 (fun (x5 : Unit) => []) (fun (x5 : Unit) => []) (fun x5 h6 => ?_) (fun j7 Hj7 => ?_)
  · refine g_iconst (pc := 34) (v := (1 : Int32)) ic_1 dX2_tellsClosed_34 ?_
    refine g_goto (pc := 35) (tgt := 39) rfl dX2_tellsClosed_35 ?_
    exact g_zreturn (pc := 39) rfl dX2_tellsClosed_39
  refine g_if_ne (pc := 12) (tgt := 34) rfl dX2_tellsClosed_12 ?_ ?_
  rotate_left
  · exact g_sub [] rfl (Hj7 () h4)
  refine g_iconst (pc := 15) (v := (2 : Int32)) ic_2 dX2_tellsClosed_15 ?_
  refine g_iload_n (pc := 16) (x := v1) 0 rfl rfl dX2_tellsClosed_16 ?_
  refine g_aload_n (pc := 17) (x := a0) 1 rfl rfl dX2_tellsClosed_17 ?_
  refine g_iload_n (pc := 18) (x := a2) 3 rfl rfl dX2_tellsClosed_18 ?_
  refine g_bVi (pc := 19) (y := yX2_closersOf) (ws := ws_ yX2_closersOf cX2_closersOf 4 (some .int)) (fr := 2) (lo := 43) (as := [gi a2]) (st := [gi v1, gi (2 : Int32)]) (g_no) rfl (fun _ _ _ e => tX2_closersOf hs e) (fun K _ _ _ hq hM R e1 e2 => g_runV (M := mX2_tellsClosed) (pc := 19) (y := yX2_closersOf) (bytes := cX2_closersOf) (maxL := 4) (ret := (some .int)) (fr := 2) (lo := 43) (as := [gi a2]) (st := [gi v1, gi (2 : Int32)]) hq (C := "FlareSlopesModel") rfl gy_X2_closersOf (gbl rfl) (gbl rfl) (gbl rfl) q4249 q4251 qs94 dX2_tellsClosed_19 K hM R e1 e2) fun v8 h9 => ?_
  refine g_iand (pc := 22) dX2_tellsClosed_22 ?_
  refine g_bi (pc := 23) (y := yX2_bits) (ws := ws_ yX2_bits cX2_bits 3 (some .int)) (fr := 0) (lo := 0) (as := [gi (v1 &&& v8)]) (st := [gi (2 : Int32)]) (g_no) rfl (fun _ _ e => tX2_bits hs e) (fun K _ _ hM R e1 e2 => g_runS (M := mX2_tellsClosed) (pc := 23) (y := yX2_bits) (bytes := cX2_bits) (maxL := 3) (ret := (some .int)) (fr := 0) (lo := 0) (as := [gi (v1 &&& v8)]) (st := [gi (2 : Int32)]) gy_X2_bits (gbl rfl) (gbl rfl) (gbl rfl) q4260 q4261 dX2_tellsClosed_23 K hM R e1 e2) fun v10 h11 => ?_
  refine g_imul (pc := 26) dX2_tellsClosed_26 ?_
  refine g_iload_n (pc := 27) (x := v1) 0 rfl rfl dX2_tellsClosed_27 ?_
  refine g_bi (pc := 28) (y := yX2_bits) (ws := ws_ yX2_bits cX2_bits 3 (some .int)) (fr := 0) (lo := 0) (as := [gi v1]) (st := [gi ((2 : Int32) * v10)]) (g_no) rfl (fun _ _ e => tX2_bits hs e) (fun K _ _ hM R e1 e2 => g_runS (M := mX2_tellsClosed) (pc := 28) (y := yX2_bits) (bytes := cX2_bits) (maxL := 3) (ret := (some .int)) (fr := 0) (lo := 0) (as := [gi v1]) (st := [gi ((2 : Int32) * v10)]) gy_X2_bits (gbl rfl) (gbl rfl) (gbl rfl) q4260 q4261 dX2_tellsClosed_28 K hM R e1 e2) fun v12 h13 => ?_
  refine g_icmp_le (pc := 31) (tgt := 38) rfl dX2_tellsClosed_31 ?_ ?_
  rotate_left
  · exact g_sub [] rfl (Hj7 () h13)
  refine g_iconst (pc := 38) (v := (0 : Int32)) ic_0 dX2_tellsClosed_38 ?_
  exact g_zreturn (pc := 39) rfl dX2_tellsClosed_39
/-! FlareSlopesModel.toldClosed(II)Z -/
noncomputable def sX2_toldClosed (G : GG) (N : Nat) (a0 : Option Nat) (a1 : Int32) (a2 : Int32) (h : Hp) : Out (Int32) :=
  bV h a0 18 (fun q9 => sX2_mayBoth G N (some q9) a1 a2 h) fun v1 h2 =>
  gJ (fun (x3 : Unit) (h4 : Hp) =>
  gRtZ (0 : Int32) h4) fun j5 =>
  if v1 = 0 then (j5 () h2)
  else bV h2 a0 18 (fun q8 => sX2_tellsClosed G N (some q8) a1 a2 h2) fun v6 h7 =>
  if v6 = 0 then (j5 () h7)
  else gRtZ (1 : Int32) h7
abbrev mX2_toldClosed : MI := (RX2, cX2_toldClosed, 3, (some .boolean), [], 6, 139, "toldClosed")
theorem tX2_toldClosed {G : GG} {l : Launch} (hs : l.stackTraces = false) {N : Nat} {a0 : Option Nat} {a1 : Int32} {a2 : Int32} {h : Hp} {r : Int32 ⊕ Nat} {hf : Hp} (ho : sX2_toldClosed G N a0 a1 a2 h = some (r, hf)) : gMet G l yX2_toldClosed (ws_ yX2_toldClosed cX2_toldClosed 3 (some .boolean)) 6 139 [gr a0, gi a1, gi a2] h cvI r hf := by
  refine gMet.of ho hs (plainFor_of_name pn_X2) rfl rfl (gbl rfl) fun X => ?_
  show gT G l X mX2_toldClosed cvI r hf 0 [(0, gr a0), (1, gi a1), (2, gi a2)] [] h (sX2_toldClosed G N a0 a1 a2 h)
  delta sX2_toldClosed
  refine g_aload_n (pc := 0) (x := a0) 0 rfl rfl dX2_toldClosed_0 ?_
  refine g_iload_n (pc := 1) (x := a1) 1 rfl rfl dX2_toldClosed_1 ?_
  refine g_iload_n (pc := 2) (x := a2) 2 rfl rfl dX2_toldClosed_2 ?_
  refine g_bVi (pc := 3) (y := yX2_mayBoth) (ws := ws_ yX2_mayBoth cX2_mayBoth 3 (some .boolean)) (fr := 2) (lo := 45) (as := [gi a1, gi a2]) (st := []) (g_no) rfl (fun _ _ _ e => tX2_mayBoth hs e) (fun K _ _ _ hq hM R e1 e2 => g_runV (M := mX2_toldClosed) (pc := 3) (y := yX2_mayBoth) (bytes := cX2_mayBoth) (maxL := 3) (ret := (some .boolean)) (fr := 2) (lo := 45) (as := [gi a1, gi a2]) (st := []) hq (C := "FlareSlopesModel") rfl gy_X2_mayBoth (gbl rfl) (gbl rfl) (gbl rfl) q4316 q4318 qs104 dX2_toldClosed_3 K hM R e1 e2) fun v1 h2 => ?_
  refine g_join 22 (fun (x3 : Unit) => []) (fun (x3 : Unit) => []) (fun x3 h4 => ?_) (fun j5 Hj5 => ?_)
  · refine g_iconst (pc := 22) (v := (0 : Int32)) ic_0 dX2_toldClosed_22 ?_
    exact g_zreturn (pc := 23) rfl dX2_toldClosed_23
  refine g_if_eq (pc := 6) (tgt := 22) rfl dX2_toldClosed_6 ?_ ?_
  · exact g_sub [] rfl (Hj5 () h2)
  refine g_aload_n (pc := 9) (x := a0) 0 rfl rfl dX2_toldClosed_9 ?_
  refine g_iload_n (pc := 10) (x := a1) 1 rfl rfl dX2_toldClosed_10 ?_
  refine g_iload_n (pc := 11) (x := a2) 2 rfl rfl dX2_toldClosed_11 ?_
  refine g_bVi (pc := 12) (y := yX2_tellsClosed) (ws := ws_ yX2_tellsClosed cX2_tellsClosed 4 (some .boolean)) (fr := 5) (lo := 116) (as := [gi a1, gi a2]) (st := []) (g_no) rfl (fun _ _ _ e => tX2_tellsClosed hs e) (fun K _ _ _ hq hM R e1 e2 => g_runV (M := mX2_toldClosed) (pc := 12) (y := yX2_tellsClosed) (bytes := cX2_tellsClosed) (maxL := 4) (ret := (some .boolean)) (fr := 5) (lo := 116) (as := [gi a1, gi a2]) (st := []) hq (C := "FlareSlopesModel") rfl gy_X2_tellsClosed (gbl rfl) (gbl rfl) (gbl rfl) q4387 q4389 qs110 dX2_toldClosed_12 K hM R e1 e2) fun v6 h7 => ?_
  refine g_if_eq (pc := 15) (tgt := 22) rfl dX2_toldClosed_15 ?_ ?_
  · exact g_sub [] rfl (Hj5 () h7)
  refine g_iconst (pc := 18) (v := (1 : Int32)) ic_1 dX2_toldClosed_18 ?_
  refine g_goto (pc := 19) (tgt := 23) rfl dX2_toldClosed_19 ?_
  exact g_zreturn (pc := 23) rfl dX2_toldClosed_23
/-! FlareSlopes.closers(I)I -/
noncomputable def sX1_closers (G : GG) (N : Nat) (a0 : Option Nat) (a1 : Int32) (h : Hp) : Out (Int32) :=
  bV h a0 3 (fun q7 => sX1_withSlope G N (some q7) a1 h) fun v1 h2 =>
  gFr h2 a0 3 4 fun v3 =>
  bV h2 v3 16 (fun q6 => sX3_closers G N (some q6) a1 h2) fun v4 h5 =>
  some (.inl v4, h5)
abbrev mX1_closers : MI := (RX1, cX1_closers, 3, (some .int), [], 9, 142, "closers")
theorem tX1_closers {G : GG} {l : Launch} (hs : l.stackTraces = false) {N : Nat} {a0 : Option Nat} {a1 : Int32} {h : Hp} {r : Int32 ⊕ Nat} {hf : Hp} (ho : sX1_closers G N a0 a1 h = some (r, hf)) : gMet G l yX1_closers (ws_ yX1_closers cX1_closers 3 (some .int)) 9 142 [gr a0, gi a1] h cvI r hf := by
  refine gMet.of ho hs (plainFor_of_name pn_X1) rfl rfl (gbl rfl) fun X => ?_
  show gT G l X mX1_closers cvI r hf 0 [(0, gr a0), (1, gi a1)] [] h (sX1_closers G N a0 a1 h)
  delta sX1_closers
  refine g_aload_n (pc := 0) (x := a0) 0 rfl rfl dX1_closers_0 ?_
  refine g_iload_n (pc := 1) (x := a1) 1 rfl rfl dX1_closers_1 ?_
  refine g_bVr (pc := 2) (y := yX1_withSlope) (ws := ws_ yX1_withSlope cX1_withSlope 2 (some (.object "FlareSlopes$Spot"))) (fr := 8) (lo := 121) (as := [gi a1]) (st := []) (g_no) rfl (fun _ _ _ e => tX1_withSlope hs e) (fun K _ _ _ hq hM R e1 e2 => g_runV (M := mX1_closers) (pc := 2) (y := yX1_withSlope) (bytes := cX1_withSlope) (maxL := 2) (ret := (some (.object "FlareSlopes$Spot"))) (fr := 8) (lo := 121) (as := [gi a1]) (st := []) hq (C := "FlareSlopes") rfl gy_X1_withSlope (gbl rfl) (gbl rfl) (gbl rfl) q3044 q3046 qs40 dX1_closers_2 K hM R e1 e2) fun v1 h2 => ?_
  refine g_astore_n (pc := 5) (lv' := [(0, gr a0), (1, gi a1)]) [1, 2] rfl rfl (gblt rfl) dX1_closers_5 ?_
  refine g_aload_n (pc := 6) (x := a0) 0 rfl rfl dX1_closers_6 ?_
  refine g_getfr (pc := 7) k_3 (gblt rfl) lk_X1_56_3 dX1_closers_7 fun v3 => ?_
  refine g_iload_n (pc := 10) (x := a1) 1 rfl rfl dX1_closers_10 ?_
  refine g_bVi (pc := 11) (y := yX3_closers) (ws := ws_ yX3_closers cX3_closers 4 (some .int)) (fr := 4) (lo := 85) (as := [gi a1]) (st := []) (g_no) rfl (fun _ _ _ e => tX3_closers hs e) (fun K _ _ _ hq hM R e1 e2 => g_runV (M := mX1_closers) (pc := 11) (y := yX3_closers) (bytes := cX3_closers) (maxL := 4) (ret := (some .int)) (fr := 4) (lo := 85) (as := [gi a1]) (st := []) hq (C := "FlareSlopes$State") rfl gy_X3_closers (gbl rfl) (gbl rfl) (gbl rfl) q3050 q3051 q3052 dX1_closers_11 K hM R e1 e2) fun v4 h5 => ?_
  exact g_ireturn (pc := 14) rfl dX1_closers_14
/-! FlareSlopesLaw.closers(LFlareSlopes;I[J)I -/
noncomputable def sX0_closers (G : GG) (N : Nat) (a0 : Option Nat) (a1 : Int32) (a2 : Option Nat) (h : Hp) : Out (Int32) :=
  bVX h a0 3 (fun q4 => sX1_closers G N (some q4) a1 h) (fun v1 h2 =>
  gSl G h2 a2 3 (0 : Int32) (v1.toInt64) fun h3 =>
  some (.inl (0 : Int32), h3)) fun q5 h6 =>
  gSw h6 (some q5) 0 (some (.inl (1 : Int32), h6)) (gSw h6 (some q5) 2 (some (.inl (2 : Int32), h6)) (none))
abbrev mX0_closers : MI := (RX0, cX0_closers, 4, (some .int), [(0, 9, 12, 21), (0, 9, 15, 13)], 10, 164, "closers")
theorem tX0_closers {G : GG} {l : Launch} (hs : l.stackTraces = false) {N : Nat} {a0 : Option Nat} {a1 : Int32} {a2 : Option Nat} {h : Hp} {r : Int32 ⊕ Nat} {hf : Hp} (ho : sX0_closers G N a0 a1 a2 h = some (r, hf)) : gMet G l yX0_closers (wsW_ yX0_closers cX0_closers 4 (some .int) [(0, 9, 12, 21), (0, 9, 15, 13)]) 10 164 [gr a0, gi a1, gr a2] h cvI r hf := by
  refine gMet.ofW ho hs (plainFor_of_name pn_X0) rfl rfl (gbl rfl) fun X => ?_
  show gT G l X mX0_closers cvI r hf 0 [(0, gr a0), (1, gi a1), (2, gr a2)] [] h (sX0_closers G N a0 a1 a2 h)
  delta sX0_closers
  refine g_aload_n (pc := 0) (x := a2) 2 rfl rfl dX0_closers_0 ?_
  refine g_iconst (pc := 1) (v := (0 : Int32)) ic_0 dX0_closers_1 ?_
  refine g_aload_n (pc := 2) (x := a0) 0 rfl rfl dX0_closers_2 ?_
  refine g_iload_n (pc := 3) (x := a1) 1 rfl rfl dX0_closers_3 ?_
  refine g_bVXi (pc := 4) (y := yX1_closers) (ws := ws_ yX1_closers cX1_closers 3 (some .int)) (fr := 9) (lo := 142) (as := [gi a1]) (st := [gi (0 : Int32), gr a2]) rfl (fun _ _ _ e => tX1_closers hs e) (fun K _ _ _ hq hM R e1 e2 => g_runV (M := mX0_closers) (pc := 4) (y := yX1_closers) (bytes := cX1_closers) (maxL := 3) (ret := (some .int)) (fr := 9) (lo := 142) (as := [gi a1]) (st := [gi (0 : Int32), gr a2]) hq (C := "FlareSlopes") rfl gy_X1_closers (gbl rfl) (gbl rfl) (gbl rfl) q3251 q3252 q3253 dX0_closers_4 K hM R e1 e2) (fun v1 h2 => ?_) (fun q5 h6 => ?_)
  · refine g_i2l (pc := 7) dX0_closers_7 ?_
    refine g_lastore (pc := 8) rfl dX0_closers_8 fun h3 => ?_
    refine g_goto (pc := 9) (tgt := 18) rfl dX0_closers_9 ?_
    refine g_iconst (pc := 18) (v := (0 : Int32)) ic_0 dX0_closers_18 ?_
    exact g_ireturn (pc := 19) rfl dX0_closers_19
  refine g_catch (E := "java/lang/IllegalStateException") [] ⟨0, 9, 12, 21⟩ [⟨0, 9, 15, 13⟩] rfl rfl (List.forall_mem_nil _) (by decide +kernel) (by decide +kernel) q1425 q1439 ?_ ?_
  · refine g_astore_n (pc := 12) (lv' := []) [] rfl rfl (gblt rfl) dX0_closers_12 ?_
    refine g_iconst (pc := 13) (v := (1 : Int32)) ic_1 dX0_closers_13 ?_
    exact g_ireturn (pc := 14) rfl dX0_closers_14
  refine g_catch (E := "java/lang/IndexOutOfBoundsException") [⟨0, 9, 12, 21⟩] ⟨0, 9, 15, 13⟩ [] rfl rfl (List.forall_mem_cons.mpr ⟨Or.inr ⟨by decide +kernel, _, q1425, ncl_java_lang_IndexOutOfBoundsException_java_lang_IllegalStateException⟩, List.forall_mem_nil _⟩) (by decide +kernel) (by decide +kernel) q325 q418 ?_ ?_
  · refine g_astore_n (pc := 15) (lv' := []) [] rfl rfl (gblt rfl) dX0_closers_15 ?_
    refine g_iconst (pc := 16) (v := (2 : Int32)) ic_2 dX0_closers_16 ?_
    exact g_ireturn (pc := 17) rfl dX0_closers_17
  exact g_noneX
/-! FlareSlopesModel.maySlope(I)Z -/
noncomputable def sX2_maySlope (G : GG) (N : Nat) (a0 : Option Nat) (a1 : Int32) (h : Hp) : Out (Int32) :=
  gFi h a0 18 8 fun v1 =>
  bV h a0 18 (fun q7 => sX2_isSlope G N (some q7) a1 h) fun v2 h3 =>
  bV h3 a0 18 (fun q6 => sX2_mayTwo G N (some q6) v1 v2 h3) fun v4 h5 =>
  gRtZ v4 h5
abbrev mX2_maySlope : MI := (RX2, cX2_maySlope, 2, (some .boolean), [], 2, 45, "maySlope")
theorem tX2_maySlope {G : GG} {l : Launch} (hs : l.stackTraces = false) {N : Nat} {a0 : Option Nat} {a1 : Int32} {h : Hp} {r : Int32 ⊕ Nat} {hf : Hp} (ho : sX2_maySlope G N a0 a1 h = some (r, hf)) : gMet G l yX2_maySlope (ws_ yX2_maySlope cX2_maySlope 2 (some .boolean)) 2 45 [gr a0, gi a1] h cvI r hf := by
  refine gMet.of ho hs (plainFor_of_name pn_X2) rfl rfl (gbl rfl) fun X => ?_
  show gT G l X mX2_maySlope cvI r hf 0 [(0, gr a0), (1, gi a1)] [] h (sX2_maySlope G N a0 a1 h)
  delta sX2_maySlope
  refine g_aload_n (pc := 0) (x := a0) 0 rfl rfl dX2_maySlope_0 ?_
  refine g_aload_n (pc := 1) (x := a0) 0 rfl rfl dX2_maySlope_1 ?_
  refine g_getfi (pc := 2) k_18 (gblt rfl) lk_X2_184_18 dX2_maySlope_2 fun v1 => ?_
  refine g_aload_n (pc := 5) (x := a0) 0 rfl rfl dX2_maySlope_5 ?_
  refine g_iload_n (pc := 6) (x := a1) 1 rfl rfl dX2_maySlope_6 ?_
  refine g_bVi (pc := 7) (y := yX2_isSlope) (ws := ws_ yX2_isSlope cX2_isSlope 2 (some .boolean)) (fr := 1) (lo := 22) (as := [gi a1]) (st := [gi v1, gr a0]) (g_no) rfl (fun _ _ _ e => tX2_isSlope hs e) (fun K _ _ _ hq hM R e1 e2 => g_runV (M := mX2_maySlope) (pc := 7) (y := yX2_isSlope) (bytes := cX2_isSlope) (maxL := 2) (ret := (some .boolean)) (fr := 1) (lo := 22) (as := [gi a1]) (st := [gi v1, gr a0]) hq (C := "FlareSlopesModel") rfl gy_X2_isSlope (gbl rfl) (gbl rfl) (gbl rfl) q4245 q4247 qs93 dX2_maySlope_7 K hM R e1 e2) fun v2 h3 => ?_
  refine g_bVi (pc := 10) (y := yX2_mayTwo) (ws := ws_ yX2_mayTwo cX2_mayTwo 3 (some .boolean)) (fr := 1) (lo := 23) (as := [gi v1, gi v2]) (st := []) (g_no) rfl (fun _ _ _ e => tX2_mayTwo hs e) (fun K _ _ _ hq hM R e1 e2 => g_runV (M := mX2_maySlope) (pc := 10) (y := yX2_mayTwo) (bytes := cX2_mayTwo) (maxL := 3) (ret := (some .boolean)) (fr := 1) (lo := 23) (as := [gi v1, gi v2]) (st := []) hq (C := "FlareSlopesModel") rfl gy_X2_mayTwo (gbl rfl) (gbl rfl) (gbl rfl) q4145 q4147 qs76 dX2_maySlope_10 K hM R e1 e2) fun v4 h5 => ?_
  exact g_zreturn (pc := 13) rfl dX2_maySlope_13
/-! FlareSlopesModel.closers(I)I -/
noncomputable def sX2_closers (G : GG) (N : Nat) (a0 : Option Nat) (a1 : Int32) (h : Hp) : Out (Int32) :=
  bV h a0 18 (fun q6 => sX2_maySlope G N (some q6) a1 h) fun v1 h2 =>
  if v1 = 0 then (some (.inl (0 : Int32), h2))
  else bV h2 a0 18 (fun q5 => sX2_closersOf G N (some q5) a1 h2) fun v3 h4 =>
  some (.inl v3, h4)
abbrev mX2_closers : MI := (RX2, cX2_closers, 2, (some .int), [], 3, 66, "closers")
theorem tX2_closers {G : GG} {l : Launch} (hs : l.stackTraces = false) {N : Nat} {a0 : Option Nat} {a1 : Int32} {h : Hp} {r : Int32 ⊕ Nat} {hf : Hp} (ho : sX2_closers G N a0 a1 h = some (r, hf)) : gMet G l yX2_closers (ws_ yX2_closers cX2_closers 2 (some .int)) 3 66 [gr a0, gi a1] h cvI r hf := by
  refine gMet.of ho hs (plainFor_of_name pn_X2) rfl rfl (gbl rfl) fun X => ?_
  show gT G l X mX2_closers cvI r hf 0 [(0, gr a0), (1, gi a1)] [] h (sX2_closers G N a0 a1 h)
  delta sX2_closers
  refine g_aload_n (pc := 0) (x := a0) 0 rfl rfl dX2_closers_0 ?_
  refine g_iload_n (pc := 1) (x := a1) 1 rfl rfl dX2_closers_1 ?_
  refine g_bVi (pc := 2) (y := yX2_maySlope) (ws := ws_ yX2_maySlope cX2_maySlope 2 (some .boolean)) (fr := 2) (lo := 45) (as := [gi a1]) (st := []) (g_no) rfl (fun _ _ _ e => tX2_maySlope hs e) (fun K _ _ _ hq hM R e1 e2 => g_runV (M := mX2_closers) (pc := 2) (y := yX2_maySlope) (bytes := cX2_maySlope) (maxL := 2) (ret := (some .boolean)) (fr := 2) (lo := 45) (as := [gi a1]) (st := []) hq (C := "FlareSlopesModel") rfl gy_X2_maySlope (gbl rfl) (gbl rfl) (gbl rfl) q4411 q4413 qs111 dX2_closers_2 K hM R e1 e2) fun v1 h2 => ?_
  refine g_if_eq (pc := 5) (tgt := 16) rfl dX2_closers_5 ?_ ?_
  · refine g_iconst (pc := 16) (v := (0 : Int32)) ic_0 dX2_closers_16 ?_
    exact g_ireturn (pc := 17) rfl dX2_closers_17
  refine g_aload_n (pc := 8) (x := a0) 0 rfl rfl dX2_closers_8 ?_
  refine g_iload_n (pc := 9) (x := a1) 1 rfl rfl dX2_closers_9 ?_
  refine g_bVi (pc := 10) (y := yX2_closersOf) (ws := ws_ yX2_closersOf cX2_closersOf 4 (some .int)) (fr := 2) (lo := 43) (as := [gi a1]) (st := []) (g_no) rfl (fun _ _ _ e => tX2_closersOf hs e) (fun K _ _ _ hq hM R e1 e2 => g_runV (M := mX2_closers) (pc := 10) (y := yX2_closersOf) (bytes := cX2_closersOf) (maxL := 4) (ret := (some .int)) (fr := 2) (lo := 43) (as := [gi a1]) (st := []) hq (C := "FlareSlopesModel") rfl gy_X2_closersOf (gbl rfl) (gbl rfl) (gbl rfl) q4249 q4251 qs94 dX2_closers_10 K hM R e1 e2) fun v3 h4 => ?_
  refine g_goto (pc := 13) (tgt := 17) rfl dX2_closers_13 ?_
  exact g_ireturn (pc := 17) rfl dX2_closers_17
/-! FlareSlopes.quarrels(I)I -/
noncomputable def bX1_quarrels_26 (G : GG) (N : Nat) (a0 : Option Nat) (a1 : Int32) (x3 : Int32 × Int32) (j11 : (Int32) → Hp → Out (Int32)) (w14 : (Int32 × Int32) → Hp → Out (Int32)) (x12 : Int32 × Int32) (h13 : Hp) : Out (Int32) :=
  if x3.2 ≤ x12.2 then (j11 x12.1 h13)
  else gFr h13 a0 3 4 fun v15 =>
  bV h13 v15 16 (fun q39 => sX3_sees G N (some q39) x3.2 x12.2 h13) fun v16 h17 =>
  gJ (fun (x18 : Int32) (h19 : Hp) =>
  gLet (x12.1 + x18) fun v21 =>
  w14 (v21, x12.2 + (1 : Int32)) h19) fun j20 =>
  gJ (fun (x22 : Unit) (h23 : Hp) =>
  j20 (0 : Int32) h23) fun j24 =>
  if v16 = 0 then (j24 () h17)
  else gFr h17 a0 3 4 fun v25 =>
  bV h17 v25 16 (fun q38 => sX3_cabin G N (some q38) x3.2 h17) fun v26 h27 =>
  bV h27 v26 7 (fun q37 => sX12_holdsClosed G N (some q37) a1 h27) fun v28 h29 =>
  gFr h29 a0 3 4 fun v30 =>
  bV h29 v30 16 (fun q36 => sX3_cabin G N (some q36) x12.2 h29) fun v31 h32 =>
  bV h32 v31 7 (fun q35 => sX12_holdsClosed G N (some q35) a1 h32) fun v33 h34 =>
  if v28 = v33 then (j24 () h34)
  else j20 (1 : Int32) h34
noncomputable def bX1_quarrels_11 (G : GG) (N : Nat) (a0 : Option Nat) (a1 : Int32) (w5 : (Int32 × Int32) → Hp → Out (Int32)) (x3 : Int32 × Int32) (h4 : Hp) : Out (Int32) :=
  gFr h4 a0 3 4 fun v6 =>
  bV h4 v6 16 (fun q40 => sX3_size G N (some q40) h4) fun v7 h8 =>
  if v7 ≤ x3.2 then (some (.inl x3.1, h8))
  else gJ (fun (x9 : Int32) (h10 : Hp) =>
  w5 (x9, x3.2 + (1 : Int32)) h10) fun j11 =>
  gLp (bX1_quarrels_26 G N a0 a1 x3 j11) N (x3.1, (0 : Int32)) h8
noncomputable def sX1_quarrels (G : GG) (N : Nat) (a0 : Option Nat) (a1 : Int32) (h : Hp) : Out (Int32) :=
  bV h a0 3 (fun q41 => sX1_withSlope G N (some q41) a1 h) fun v1 h2 =>
  gLp (bX1_quarrels_11 G N a0 a1) N ((0 : Int32), (0 : Int32)) h2
abbrev mX1_quarrels : MI := (RX1, cX1_quarrels, 6, (some .int), [], 9, 151, "quarrels")
theorem tX1_quarrels {G : GG} {l : Launch} (hs : l.stackTraces = false) {N : Nat} {a0 : Option Nat} {a1 : Int32} {h : Hp} {r : Int32 ⊕ Nat} {hf : Hp} (ho : sX1_quarrels G N a0 a1 h = some (r, hf)) : gMet G l yX1_quarrels (ws_ yX1_quarrels cX1_quarrels 6 (some .int)) 9 151 [gr a0, gi a1] h cvI r hf := by
  refine gMet.of ho hs (plainFor_of_name pn_X1) rfl rfl (gbl rfl) fun X => ?_
  show gT G l X mX1_quarrels cvI r hf 0 [(0, gr a0), (1, gi a1)] [] h (sX1_quarrels G N a0 a1 h)
  delta sX1_quarrels
  refine g_aload_n (pc := 0) (x := a0) 0 rfl rfl dX1_quarrels_0 ?_
  refine g_iload_n (pc := 1) (x := a1) 1 rfl rfl dX1_quarrels_1 ?_
  refine g_bVr (pc := 2) (y := yX1_withSlope) (ws := ws_ yX1_withSlope cX1_withSlope 2 (some (.object "FlareSlopes$Spot"))) (fr := 8) (lo := 121) (as := [gi a1]) (st := []) (g_no) rfl (fun _ _ _ e => tX1_withSlope hs e) (fun K _ _ _ hq hM R e1 e2 => g_runV (M := mX1_quarrels) (pc := 2) (y := yX1_withSlope) (bytes := cX1_withSlope) (maxL := 2) (ret := (some (.object "FlareSlopes$Spot"))) (fr := 8) (lo := 121) (as := [gi a1]) (st := []) hq (C := "FlareSlopes") rfl gy_X1_withSlope (gbl rfl) (gbl rfl) (gbl rfl) q3044 q3046 qs40 dX1_quarrels_2 K hM R e1 e2) fun v1 h2 => ?_
  refine g_astore_n (pc := 5) (lv' := [(0, gr a0), (1, gi a1)]) [1, 2] rfl rfl (gblt rfl) dX1_quarrels_5 ?_
  refine g_iconst (pc := 6) (v := (0 : Int32)) ic_0 dX1_quarrels_6 ?_
  refine g_istore_n (pc := 7) (lv' := [(3, gi (0 : Int32)), (0, gr a0), (1, gi a1)]) [0, 1, 2] rfl rfl (gblt rfl) dX1_quarrels_7 ?_
  refine g_iconst (pc := 8) (v := (0 : Int32)) ic_0 dX1_quarrels_8 ?_
  refine g_istore (pc := 9) (lv' := [(4, gi (0 : Int32)), (3, gi (0 : Int32)), (0, gr a0), (1, gi a1)]) [0, 1, 2, 3] rfl (gblt rfl) dX1_quarrels_9 ?_
  refine g_sub (lv' := [(0, gr a0), (1, gi a1), (3, gi (0 : Int32)), (4, gi (0 : Int32))]) [2, 3, 1, 0] rfl ?_
  refine g_loop (pc := 11) (fun (x3 : Int32 × Int32) => [(0, gr a0), (1, gi a1), (3, gi x3.1), (4, gi x3.2)]) (fun (_ : Int32 × Int32) => []) (fun w5 Hw5 x3 h4 => ?_) N ((0 : Int32), (0 : Int32)) h2
  delta bX1_quarrels_11
  refine g_iload (pc := 11) (x := x3.2) 3 rfl dX1_quarrels_11 ?_
  refine g_aload_n (pc := 13) (x := a0) 0 rfl rfl dX1_quarrels_13 ?_
  refine g_getfr (pc := 14) k_3 (gblt rfl) lk_X1_56_3 dX1_quarrels_14 fun v6 => ?_
  refine g_bVi (pc := 17) (y := yX3_size) (ws := ws_ yX3_size cX3_size 1 (some .int)) (fr := 1) (lo := 20) (as := []) (st := [gi x3.2]) (g_no) rfl (fun _ _ _ e => tX3_size hs e) (fun K _ _ _ hq hM R e1 e2 => g_runV (M := mX1_quarrels) (pc := 17) (y := yX3_size) (bytes := cX3_size) (maxL := 1) (ret := (some .int)) (fr := 1) (lo := 20) (as := []) (st := [gi x3.2]) hq (C := "FlareSlopes$State") rfl gy_X3_size (gbl rfl) (gbl rfl) (gbl rfl) q1411 q1412 q1413 dX1_quarrels_17 K hM R e1 e2) fun v7 h8 => ?_
  refine g_icmp_ge (pc := 20) (tgt := 96) rfl dX1_quarrels_20 ?_ ?_
  · refine g_iload_n (pc := 96) (x := x3.1) 2 rfl rfl dX1_quarrels_96 ?_
    exact g_ireturn (pc := 97) rfl dX1_quarrels_97
  refine g_iconst (pc := 23) (v := (0 : Int32)) ic_0 dX1_quarrels_23 ?_
  refine g_istore (pc := 24) (lv' := [(5, gi (0 : Int32)), (0, gr a0), (1, gi a1), (3, gi x3.1), (4, gi x3.2)]) [0, 1, 2, 3, 4] rfl (gblt rfl) dX1_quarrels_24 ?_
  refine g_join 90 (fun (x9 : Int32) => [(0, gr a0), (1, gi a1), (3, gi x9), (4, gi x3.2)]) (fun (x9 : Int32) => []) (fun x9 h10 => ?_) (fun j11 Hj11 => ?_)
  · refine g_iinc (pc := 90) (v := x3.2 + (1 : Int32)) 3 rfl (ii_1 _) (lv' := [(4, gi (x3.2 + (1 : Int32))), (0, gr a0), (1, gi a1), (3, gi x9)]) [0, 1, 2, 3] rfl (gblt rfl) dX1_quarrels_90 ?_
    refine g_goto (pc := 93) (tgt := 11) rfl dX1_quarrels_93 ?_
    exact g_sub [1, 2, 3, 0] rfl (Hw5 (x9, x3.2 + (1 : Int32)) h10)
  refine g_sub (lv' := [(0, gr a0), (1, gi a1), (3, gi x3.1), (4, gi x3.2), (5, gi (0 : Int32))]) [1, 2, 3, 4, 0] rfl ?_
  refine g_loop (pc := 26) (fun (x12 : Int32 × Int32) => [(0, gr a0), (1, gi a1), (3, gi x12.1), (4, gi x3.2), (5, gi x12.2)]) (fun (_ : Int32 × Int32) => []) (fun w14 Hw14 x12 h13 => ?_) N (x3.1, (0 : Int32)) h8
  delta bX1_quarrels_26
  refine g_iload (pc := 26) (x := x12.2) 4 rfl dX1_quarrels_26 ?_
  refine g_iload (pc := 28) (x := x3.2) 3 rfl dX1_quarrels_28 ?_
  refine g_icmp_ge (pc := 30) (tgt := 90) rfl dX1_quarrels_30 ?_ ?_
  · exact g_sub [0, 1, 2, 3] rfl (Hj11 x12.1 h13)
  refine g_iload_n (pc := 33) (x := x12.1) 2 rfl rfl dX1_quarrels_33 ?_
  refine g_aload_n (pc := 34) (x := a0) 0 rfl rfl dX1_quarrels_34 ?_
  refine g_getfr (pc := 35) k_3 (gblt rfl) lk_X1_56_3 dX1_quarrels_35 fun v15 => ?_
  refine g_iload (pc := 38) (x := x3.2) 3 rfl dX1_quarrels_38 ?_
  refine g_iload (pc := 40) (x := x12.2) 4 rfl dX1_quarrels_40 ?_
  refine g_bVi (pc := 42) (y := yX3_sees) (ws := ws_ yX3_sees cX3_sees 3 (some .boolean)) (fr := 6) (lo := 129) (as := [gi x3.2, gi x12.2]) (st := [gi x12.1]) (g_no) rfl (fun _ _ _ e => tX3_sees hs e) (fun K _ _ _ hq hM R e1 e2 => g_runV (M := mX1_quarrels) (pc := 42) (y := yX3_sees) (bytes := cX3_sees) (maxL := 3) (ret := (some .boolean)) (fr := 6) (lo := 129) (as := [gi x3.2, gi x12.2]) (st := [gi x12.1]) hq (C := "FlareSlopes$State") rfl gy_X3_sees (gbl rfl) (gbl rfl) (gbl rfl) q3133 q1635 q1636 dX1_quarrels_42 K hM R e1 e2) fun v16 h17 => ?_
  refine g_join 82 (fun (x18 : Int32) => [(0, gr a0), (1, gi a1), (4, gi x3.2), (5, gi x12.2)]) (fun (x18 : Int32) => [gi x18, gi x12.1]) (fun x18 h19 => ?_) (fun j20 Hj20 => ?_)
  · refine g_iadd (pc := 82) dX1_quarrels_82 ?_
    refine g_leti fun v21 => ?_
    refine g_istore_n (pc := 83) (lv' := [(3, gi v21), (0, gr a0), (1, gi a1), (4, gi x3.2), (5, gi x12.2)]) [0, 1, 2, 3, 4] rfl rfl (gblt rfl) dX1_quarrels_83 ?_
    refine g_iinc (pc := 84) (v := x12.2 + (1 : Int32)) 4 rfl (ii_1 _) (lv' := [(5, gi (x12.2 + (1 : Int32))), (3, gi v21), (0, gr a0), (1, gi a1), (4, gi x3.2)]) [0, 1, 2, 3, 4] rfl (gblt rfl) dX1_quarrels_84 ?_
    refine g_goto (pc := 87) (tgt := 26) rfl dX1_quarrels_87 ?_
    exact g_sub [2, 3, 1, 4, 0] rfl (Hw14 (v21, x12.2 + (1 : Int32)) h19)
  refine g_join 81 (fun (x22 : Unit) => [(0, gr a0), (1, gi a1), (4, gi x3.2), (5, gi x12.2)]) (fun (x22 : Unit) => [gi x12.1]) (fun x22 h23 => ?_) (fun j24 Hj24 => ?_)
  · refine g_iconst (pc := 81) (v := (0 : Int32)) ic_0 dX1_quarrels_81 ?_
    exact Hj20 (0 : Int32) h23
  refine g_if_eq (pc := 45) (tgt := 81) rfl dX1_quarrels_45 ?_ ?_
  · exact g_sub [0, 1, 3, 4] rfl (Hj24 () h17)
  refine g_aload_n (pc := 48) (x := a0) 0 rfl rfl dX1_quarrels_48 ?_
  refine g_getfr (pc := 49) k_3 (gblt rfl) lk_X1_56_3 dX1_quarrels_49 fun v25 => ?_
  refine g_iload (pc := 52) (x := x3.2) 3 rfl dX1_quarrels_52 ?_
  refine g_bVr (pc := 54) (y := yX3_cabin) (ws := ws_ yX3_cabin cX3_cabin 2 (some (.object "FlareSlopes$Cabin"))) (fr := 3) (lo := 64) (as := [gi x3.2]) (st := [gi x12.1]) (g_no) rfl (fun _ _ _ e => tX3_cabin hs e) (fun K _ _ _ hq hM R e1 e2 => g_runV (M := mX1_quarrels) (pc := 54) (y := yX3_cabin) (bytes := cX3_cabin) (maxL := 2) (ret := (some (.object "FlareSlopes$Cabin"))) (fr := 3) (lo := 64) (as := [gi x3.2]) (st := [gi x12.1]) hq (C := "FlareSlopes$State") rfl gy_X3_cabin (gbl rfl) (gbl rfl) (gbl rfl) q1738 q1639 q1640 dX1_quarrels_54 K hM R e1 e2) fun v26 h27 => ?_
  refine g_iload_n (pc := 57) (x := a1) 1 rfl rfl dX1_quarrels_57 ?_
  refine g_bVi (pc := 58) (y := yX12_holdsClosed) (ws := ws_ yX12_holdsClosed cX12_holdsClosed 2 (some .boolean)) (fr := 1) (lo := 21) (as := [gi a1]) (st := [gi x12.1]) (g_no) rfl (fun _ _ _ e => tX12_holdsClosed hs e) (fun K _ _ _ hq hM R e1 e2 => g_runV (M := mX1_quarrels) (pc := 58) (y := yX12_holdsClosed) (bytes := cX12_holdsClosed) (maxL := 2) (ret := (some .boolean)) (fr := 1) (lo := 21) (as := [gi a1]) (st := [gi x12.1]) hq (C := "FlareSlopes$Cabin") rfl gy_X12_holdsClosed (gbl rfl) (gbl rfl) (gbl rfl) q3234 q3055 q3056 dX1_quarrels_58 K hM R e1 e2) fun v28 h29 => ?_
  refine g_aload_n (pc := 61) (x := a0) 0 rfl rfl dX1_quarrels_61 ?_
  refine g_getfr (pc := 62) k_3 (gblt rfl) lk_X1_56_3 dX1_quarrels_62 fun v30 => ?_
  refine g_iload (pc := 65) (x := x12.2) 4 rfl dX1_quarrels_65 ?_
  refine g_bVr (pc := 67) (y := yX3_cabin) (ws := ws_ yX3_cabin cX3_cabin 2 (some (.object "FlareSlopes$Cabin"))) (fr := 3) (lo := 64) (as := [gi x12.2]) (st := [gi v28, gi x12.1]) (g_no) rfl (fun _ _ _ e => tX3_cabin hs e) (fun K _ _ _ hq hM R e1 e2 => g_runV (M := mX1_quarrels) (pc := 67) (y := yX3_cabin) (bytes := cX3_cabin) (maxL := 2) (ret := (some (.object "FlareSlopes$Cabin"))) (fr := 3) (lo := 64) (as := [gi x12.2]) (st := [gi v28, gi x12.1]) hq (C := "FlareSlopes$State") rfl gy_X3_cabin (gbl rfl) (gbl rfl) (gbl rfl) q1738 q1639 q1640 dX1_quarrels_67 K hM R e1 e2) fun v31 h32 => ?_
  refine g_iload_n (pc := 70) (x := a1) 1 rfl rfl dX1_quarrels_70 ?_
  refine g_bVi (pc := 71) (y := yX12_holdsClosed) (ws := ws_ yX12_holdsClosed cX12_holdsClosed 2 (some .boolean)) (fr := 1) (lo := 21) (as := [gi a1]) (st := [gi v28, gi x12.1]) (g_no) rfl (fun _ _ _ e => tX12_holdsClosed hs e) (fun K _ _ _ hq hM R e1 e2 => g_runV (M := mX1_quarrels) (pc := 71) (y := yX12_holdsClosed) (bytes := cX12_holdsClosed) (maxL := 2) (ret := (some .boolean)) (fr := 1) (lo := 21) (as := [gi a1]) (st := [gi v28, gi x12.1]) hq (C := "FlareSlopes$Cabin") rfl gy_X12_holdsClosed (gbl rfl) (gbl rfl) (gbl rfl) q3234 q3055 q3056 dX1_quarrels_71 K hM R e1 e2) fun v33 h34 => ?_
  refine g_icmp_eq (pc := 74) (tgt := 81) rfl dX1_quarrels_74 ?_ ?_
  · exact g_sub [0, 1, 3, 4] rfl (Hj24 () h34)
  refine g_iconst (pc := 77) (v := (1 : Int32)) ic_1 dX1_quarrels_77 ?_
  refine g_goto (pc := 78) (tgt := 82) rfl dX1_quarrels_78 ?_
  exact g_sub [0, 1, 3, 4] rfl (Hj20 (1 : Int32) h34)
/-! FlareSlopesLaw.quarrels(LFlareSlopes;I[J)I -/
noncomputable def sX0_quarrels (G : GG) (N : Nat) (a0 : Option Nat) (a1 : Int32) (a2 : Option Nat) (h : Hp) : Out (Int32) :=
  bVX h a0 3 (fun q4 => sX1_quarrels G N (some q4) a1 h) (fun v1 h2 =>
  gSl G h2 a2 3 (0 : Int32) (v1.toInt64) fun h3 =>
  some (.inl (0 : Int32), h3)) fun q5 h6 =>
  gSw h6 (some q5) 0 (some (.inl (1 : Int32), h6)) (gSw h6 (some q5) 2 (some (.inl (2 : Int32), h6)) (none))
abbrev mX0_quarrels : MI := (RX0, cX0_quarrels, 4, (some .int), [(0, 9, 12, 21), (0, 9, 15, 13)], 10, 176, "quarrels")
theorem tX0_quarrels {G : GG} {l : Launch} (hs : l.stackTraces = false) {N : Nat} {a0 : Option Nat} {a1 : Int32} {a2 : Option Nat} {h : Hp} {r : Int32 ⊕ Nat} {hf : Hp} (ho : sX0_quarrels G N a0 a1 a2 h = some (r, hf)) : gMet G l yX0_quarrels (wsW_ yX0_quarrels cX0_quarrels 4 (some .int) [(0, 9, 12, 21), (0, 9, 15, 13)]) 10 176 [gr a0, gi a1, gr a2] h cvI r hf := by
  refine gMet.ofW ho hs (plainFor_of_name pn_X0) rfl rfl (gbl rfl) fun X => ?_
  show gT G l X mX0_quarrels cvI r hf 0 [(0, gr a0), (1, gi a1), (2, gr a2)] [] h (sX0_quarrels G N a0 a1 a2 h)
  delta sX0_quarrels
  refine g_aload_n (pc := 0) (x := a2) 2 rfl rfl dX0_quarrels_0 ?_
  refine g_iconst (pc := 1) (v := (0 : Int32)) ic_0 dX0_quarrels_1 ?_
  refine g_aload_n (pc := 2) (x := a0) 0 rfl rfl dX0_quarrels_2 ?_
  refine g_iload_n (pc := 3) (x := a1) 1 rfl rfl dX0_quarrels_3 ?_
  refine g_bVXi (pc := 4) (y := yX1_quarrels) (ws := ws_ yX1_quarrels cX1_quarrels 6 (some .int)) (fr := 9) (lo := 151) (as := [gi a1]) (st := [gi (0 : Int32), gr a2]) rfl (fun _ _ _ e => tX1_quarrels hs e) (fun K _ _ _ hq hM R e1 e2 => g_runV (M := mX0_quarrels) (pc := 4) (y := yX1_quarrels) (bytes := cX1_quarrels) (maxL := 6) (ret := (some .int)) (fr := 9) (lo := 151) (as := [gi a1]) (st := [gi (0 : Int32), gr a2]) hq (C := "FlareSlopes") rfl gy_X1_quarrels (gbl rfl) (gbl rfl) (gbl rfl) q3258 q3259 q3260 dX0_quarrels_4 K hM R e1 e2) (fun v1 h2 => ?_) (fun q5 h6 => ?_)
  · refine g_i2l (pc := 7) dX0_quarrels_7 ?_
    refine g_lastore (pc := 8) rfl dX0_quarrels_8 fun h3 => ?_
    refine g_goto (pc := 9) (tgt := 18) rfl dX0_quarrels_9 ?_
    refine g_iconst (pc := 18) (v := (0 : Int32)) ic_0 dX0_quarrels_18 ?_
    exact g_ireturn (pc := 19) rfl dX0_quarrels_19
  refine g_catch (E := "java/lang/IllegalStateException") [] ⟨0, 9, 12, 21⟩ [⟨0, 9, 15, 13⟩] rfl rfl (List.forall_mem_nil _) (by decide +kernel) (by decide +kernel) q1425 q1439 ?_ ?_
  · refine g_astore_n (pc := 12) (lv' := []) [] rfl rfl (gblt rfl) dX0_quarrels_12 ?_
    refine g_iconst (pc := 13) (v := (1 : Int32)) ic_1 dX0_quarrels_13 ?_
    exact g_ireturn (pc := 14) rfl dX0_quarrels_14
  refine g_catch (E := "java/lang/IndexOutOfBoundsException") [⟨0, 9, 12, 21⟩] ⟨0, 9, 15, 13⟩ [] rfl rfl (List.forall_mem_cons.mpr ⟨Or.inr ⟨by decide +kernel, _, q1425, ncl_java_lang_IndexOutOfBoundsException_java_lang_IllegalStateException⟩, List.forall_mem_nil _⟩) (by decide +kernel) (by decide +kernel) q325 q418 ?_ ?_
  · refine g_astore_n (pc := 15) (lv' := []) [] rfl rfl (gblt rfl) dX0_quarrels_15 ?_
    refine g_iconst (pc := 16) (v := (2 : Int32)) ic_2 dX0_quarrels_16 ?_
    exact g_ireturn (pc := 17) rfl dX0_quarrels_17
  exact g_noneX
/-! FlareSlopesModel.quarrels(I)I -/
noncomputable def bX2_quarrels_28 (G : GG) (N : Nat) (a0 : Option Nat) (a1 : Int32) (x3 : Int32 × Int32) (j10 : (Int32) → Hp → Out (Int32)) (w13 : (Int32 × Int32) → Hp → Out (Int32)) (x11 : Int32 × Int32) (h12 : Hp) : Out (Int32) :=
  if x3.2 ≤ x11.2 then (j10 x11.1 h12)
  else bV h12 a0 18 (fun q29 => sX2_holds G N (some q29) x3.2 a1 h12) fun v14 h15 =>
  bV h15 a0 18 (fun q28 => sX2_holds G N (some q28) x11.2 a1 h15) fun v16 h17 =>
  gJ (fun (x18 : Int32) (h19 : Hp) =>
  gLet (x11.1 + x18) fun v21 =>
  w13 (v21, x11.2 + (1 : Int32)) h19) fun j20 =>
  gJ (fun (x22 : Unit) (h23 : Hp) =>
  j20 (0 : Int32) h23) fun j24 =>
  if v14 = v16 then (j24 () h17)
  else bV h17 a0 18 (fun q27 => sX2_seeOneAnother G N (some q27) x3.2 x11.2 h17) fun v25 h26 =>
  if v25 = 0 then (j24 () h26)
  else j20 (1 : Int32) h26
noncomputable def bX2_quarrels_14 (G : GG) (N : Nat) (a0 : Option Nat) (a1 : Int32) (w5 : (Int32 × Int32) → Hp → Out (Int32)) (x3 : Int32 × Int32) (h4 : Hp) : Out (Int32) :=
  gFr h4 a0 18 1 fun v6 =>
  gAi h4 v6 0 (6 : Int32) fun v7 =>
  if v7 ≤ x3.2 then (some (.inl x3.1, h4))
  else gJ (fun (x8 : Int32) (h9 : Hp) =>
  w5 (x8, x3.2 + (1 : Int32)) h9) fun j10 =>
  gLp (bX2_quarrels_28 G N a0 a1 x3 j10) N (x3.1, (0 : Int32)) h4
noncomputable def sX2_quarrels (G : GG) (N : Nat) (a0 : Option Nat) (a1 : Int32) (h : Hp) : Out (Int32) :=
  bV h a0 18 (fun q30 => sX2_maySlope G N (some q30) a1 h) fun v1 h2 =>
  if v1 = 0 then (some (.inl (0 : Int32), h2))
  else gLp (bX2_quarrels_14 G N a0 a1) N ((0 : Int32), (0 : Int32)) h2
abbrev mX2_quarrels : MI := (RX2, cX2_quarrels, 5, (some .int), [], 4, 93, "quarrels")
theorem tX2_quarrels {G : GG} {l : Launch} (hs : l.stackTraces = false) {N : Nat} {a0 : Option Nat} {a1 : Int32} {h : Hp} {r : Int32 ⊕ Nat} {hf : Hp} (ho : sX2_quarrels G N a0 a1 h = some (r, hf)) : gMet G l yX2_quarrels (ws_ yX2_quarrels cX2_quarrels 5 (some .int)) 4 93 [gr a0, gi a1] h cvI r hf := by
  refine gMet.of ho hs (plainFor_of_name pn_X2) rfl rfl (gbl rfl) fun X => ?_
  show gT G l X mX2_quarrels cvI r hf 0 [(0, gr a0), (1, gi a1)] [] h (sX2_quarrels G N a0 a1 h)
  delta sX2_quarrels
  refine g_aload_n (pc := 0) (x := a0) 0 rfl rfl dX2_quarrels_0 ?_
  refine g_iload_n (pc := 1) (x := a1) 1 rfl rfl dX2_quarrels_1 ?_
  refine g_bVi (pc := 2) (y := yX2_maySlope) (ws := ws_ yX2_maySlope cX2_maySlope 2 (some .boolean)) (fr := 2) (lo := 45) (as := [gi a1]) (st := []) (g_no) rfl (fun _ _ _ e => tX2_maySlope hs e) (fun K _ _ _ hq hM R e1 e2 => g_runV (M := mX2_quarrels) (pc := 2) (y := yX2_maySlope) (bytes := cX2_maySlope) (maxL := 2) (ret := (some .boolean)) (fr := 2) (lo := 45) (as := [gi a1]) (st := []) hq (C := "FlareSlopesModel") rfl gy_X2_maySlope (gbl rfl) (gbl rfl) (gbl rfl) q4411 q4413 qs111 dX2_quarrels_2 K hM R e1 e2) fun v1 h2 => ?_
  refine g_if_ne (pc := 5) (tgt := 10) rfl dX2_quarrels_5 ?_ ?_
  · refine g_iconst (pc := 8) (v := (0 : Int32)) ic_0 dX2_quarrels_8 ?_
    exact g_ireturn (pc := 9) rfl dX2_quarrels_9
  refine g_iconst (pc := 10) (v := (0 : Int32)) ic_0 dX2_quarrels_10 ?_
  refine g_istore_n (pc := 11) (lv' := [(2, gi (0 : Int32)), (0, gr a0), (1, gi a1)]) [0, 1, 2] rfl rfl (gblt rfl) dX2_quarrels_11 ?_
  refine g_iconst (pc := 12) (v := (0 : Int32)) ic_0 dX2_quarrels_12 ?_
  refine g_istore_n (pc := 13) (lv' := [(3, gi (0 : Int32)), (2, gi (0 : Int32)), (0, gr a0), (1, gi a1)]) [0, 1, 2, 3] rfl rfl (gblt rfl) dX2_quarrels_13 ?_
  refine g_sub (lv' := [(0, gr a0), (1, gi a1), (2, gi (0 : Int32)), (3, gi (0 : Int32))]) [2, 3, 1, 0] rfl ?_
  refine g_loop (pc := 14) (fun (x3 : Int32 × Int32) => [(0, gr a0), (1, gi a1), (2, gi x3.1), (3, gi x3.2)]) (fun (_ : Int32 × Int32) => []) (fun w5 Hw5 x3 h4 => ?_) N ((0 : Int32), (0 : Int32)) h2
  delta bX2_quarrels_14
  refine g_iload_n (pc := 14) (x := x3.2) 3 rfl rfl dX2_quarrels_14 ?_
  refine g_aload_n (pc := 15) (x := a0) 0 rfl rfl dX2_quarrels_15 ?_
  refine g_getfr (pc := 16) k_18 (gblt rfl) lk_X2_9_18 dX2_quarrels_16 fun v6 => ?_
  refine g_bipush (pc := 19) (v := (6 : Int32)) bc_6 dX2_quarrels_19 ?_
  refine g_iaload (pc := 21) rfl dX2_quarrels_21 fun v7 => ?_
  refine g_icmp_ge (pc := 22) (tgt := 80) rfl dX2_quarrels_22 ?_ ?_
  · refine g_iload_n (pc := 80) (x := x3.1) 2 rfl rfl dX2_quarrels_80 ?_
    exact g_ireturn (pc := 81) rfl dX2_quarrels_81
  refine g_iconst (pc := 25) (v := (0 : Int32)) ic_0 dX2_quarrels_25 ?_
  refine g_istore (pc := 26) (lv' := [(4, gi (0 : Int32)), (0, gr a0), (1, gi a1), (2, gi x3.1), (3, gi x3.2)]) [0, 1, 2, 3, 4] rfl (gblt rfl) dX2_quarrels_26 ?_
  refine g_join 74 (fun (x8 : Int32) => [(0, gr a0), (1, gi a1), (2, gi x8), (3, gi x3.2)]) (fun (x8 : Int32) => []) (fun x8 h9 => ?_) (fun j10 Hj10 => ?_)
  · refine g_iinc (pc := 74) (v := x3.2 + (1 : Int32)) 3 rfl (ii_1 _) (lv' := [(3, gi (x3.2 + (1 : Int32))), (0, gr a0), (1, gi a1), (2, gi x8)]) [0, 1, 2, 3] rfl (gblt rfl) dX2_quarrels_74 ?_
    refine g_goto (pc := 77) (tgt := 14) rfl dX2_quarrels_77 ?_
    exact g_sub [1, 2, 3, 0] rfl (Hw5 (x8, x3.2 + (1 : Int32)) h9)
  refine g_sub (lv' := [(0, gr a0), (1, gi a1), (2, gi x3.1), (3, gi x3.2), (4, gi (0 : Int32))]) [1, 2, 3, 4, 0] rfl ?_
  refine g_loop (pc := 28) (fun (x11 : Int32 × Int32) => [(0, gr a0), (1, gi a1), (2, gi x11.1), (3, gi x3.2), (4, gi x11.2)]) (fun (_ : Int32 × Int32) => []) (fun w13 Hw13 x11 h12 => ?_) N (x3.1, (0 : Int32)) h4
  delta bX2_quarrels_28
  refine g_iload (pc := 28) (x := x11.2) 4 rfl dX2_quarrels_28 ?_
  refine g_iload_n (pc := 30) (x := x3.2) 3 rfl rfl dX2_quarrels_30 ?_
  refine g_icmp_ge (pc := 31) (tgt := 74) rfl dX2_quarrels_31 ?_ ?_
  · exact g_sub [0, 1, 2, 3] rfl (Hj10 x11.1 h12)
  refine g_iload_n (pc := 34) (x := x11.1) 2 rfl rfl dX2_quarrels_34 ?_
  refine g_aload_n (pc := 35) (x := a0) 0 rfl rfl dX2_quarrels_35 ?_
  refine g_iload_n (pc := 36) (x := x3.2) 3 rfl rfl dX2_quarrels_36 ?_
  refine g_iload_n (pc := 37) (x := a1) 1 rfl rfl dX2_quarrels_37 ?_
  refine g_bVi (pc := 38) (y := yX2_holds) (ws := ws_ yX2_holds cX2_holds 3 (some .boolean)) (fr := 1) (lo := 21) (as := [gi x3.2, gi a1]) (st := [gi x11.1]) (g_no) rfl (fun _ _ _ e => tX2_holds hs e) (fun K _ _ _ hq hM R e1 e2 => g_runV (M := mX2_quarrels) (pc := 38) (y := yX2_holds) (bytes := cX2_holds) (maxL := 3) (ret := (some .boolean)) (fr := 1) (lo := 21) (as := [gi x3.2, gi a1]) (st := [gi x11.1]) hq (C := "FlareSlopesModel") rfl gy_X2_holds (gbl rfl) (gbl rfl) (gbl rfl) q4253 q4255 qs95 dX2_quarrels_38 K hM R e1 e2) fun v14 h15 => ?_
  refine g_aload_n (pc := 41) (x := a0) 0 rfl rfl dX2_quarrels_41 ?_
  refine g_iload (pc := 42) (x := x11.2) 4 rfl dX2_quarrels_42 ?_
  refine g_iload_n (pc := 44) (x := a1) 1 rfl rfl dX2_quarrels_44 ?_
  refine g_bVi (pc := 45) (y := yX2_holds) (ws := ws_ yX2_holds cX2_holds 3 (some .boolean)) (fr := 1) (lo := 21) (as := [gi x11.2, gi a1]) (st := [gi v14, gi x11.1]) (g_no) rfl (fun _ _ _ e => tX2_holds hs e) (fun K _ _ _ hq hM R e1 e2 => g_runV (M := mX2_quarrels) (pc := 45) (y := yX2_holds) (bytes := cX2_holds) (maxL := 3) (ret := (some .boolean)) (fr := 1) (lo := 21) (as := [gi x11.2, gi a1]) (st := [gi v14, gi x11.1]) hq (C := "FlareSlopesModel") rfl gy_X2_holds (gbl rfl) (gbl rfl) (gbl rfl) q4253 q4255 qs95 dX2_quarrels_45 K hM R e1 e2) fun v16 h17 => ?_
  refine g_join 66 (fun (x18 : Int32) => [(0, gr a0), (1, gi a1), (3, gi x3.2), (4, gi x11.2)]) (fun (x18 : Int32) => [gi x18, gi x11.1]) (fun x18 h19 => ?_) (fun j20 Hj20 => ?_)
  · refine g_iadd (pc := 66) dX2_quarrels_66 ?_
    refine g_leti fun v21 => ?_
    refine g_istore_n (pc := 67) (lv' := [(2, gi v21), (0, gr a0), (1, gi a1), (3, gi x3.2), (4, gi x11.2)]) [0, 1, 2, 3, 4] rfl rfl (gblt rfl) dX2_quarrels_67 ?_
    refine g_iinc (pc := 68) (v := x11.2 + (1 : Int32)) 4 rfl (ii_1 _) (lv' := [(4, gi (x11.2 + (1 : Int32))), (2, gi v21), (0, gr a0), (1, gi a1), (3, gi x3.2)]) [0, 1, 2, 3, 4] rfl (gblt rfl) dX2_quarrels_68 ?_
    refine g_goto (pc := 71) (tgt := 28) rfl dX2_quarrels_71 ?_
    exact g_sub [2, 3, 1, 4, 0] rfl (Hw13 (v21, x11.2 + (1 : Int32)) h19)
  refine g_join 65 (fun (x22 : Unit) => [(0, gr a0), (1, gi a1), (3, gi x3.2), (4, gi x11.2)]) (fun (x22 : Unit) => [gi x11.1]) (fun x22 h23 => ?_) (fun j24 Hj24 => ?_)
  · refine g_iconst (pc := 65) (v := (0 : Int32)) ic_0 dX2_quarrels_65 ?_
    exact Hj20 (0 : Int32) h23
  refine g_icmp_eq (pc := 48) (tgt := 65) rfl dX2_quarrels_48 ?_ ?_
  · exact g_sub [0, 1, 3, 4] rfl (Hj24 () h17)
  refine g_aload_n (pc := 51) (x := a0) 0 rfl rfl dX2_quarrels_51 ?_
  refine g_iload_n (pc := 52) (x := x3.2) 3 rfl rfl dX2_quarrels_52 ?_
  refine g_iload (pc := 53) (x := x11.2) 4 rfl dX2_quarrels_53 ?_
  refine g_bVi (pc := 55) (y := yX2_seeOneAnother) (ws := ws_ yX2_seeOneAnother cX2_seeOneAnother 3 (some .boolean)) (fr := 3) (lo := 71) (as := [gi x3.2, gi x11.2]) (st := [gi x11.1]) (g_no) rfl (fun _ _ _ e => tX2_seeOneAnother hs e) (fun K _ _ _ hq hM R e1 e2 => g_runV (M := mX2_quarrels) (pc := 55) (y := yX2_seeOneAnother) (bytes := cX2_seeOneAnother) (maxL := 3) (ret := (some .boolean)) (fr := 3) (lo := 71) (as := [gi x3.2, gi x11.2]) (st := [gi x11.1]) hq (C := "FlareSlopesModel") rfl gy_X2_seeOneAnother (gbl rfl) (gbl rfl) (gbl rfl) q4175 q4177 qs81 dX2_quarrels_55 K hM R e1 e2) fun v25 h26 => ?_
  refine g_if_eq (pc := 58) (tgt := 65) rfl dX2_quarrels_58 ?_ ?_
  · exact g_sub [0, 1, 3, 4] rfl (Hj24 () h26)
  refine g_iconst (pc := 61) (v := (1 : Int32)) ic_1 dX2_quarrels_61 ?_
  refine g_goto (pc := 62) (tgt := 66) rfl dX2_quarrels_62 ?_
  exact g_sub [0, 1, 3, 4] rfl (Hj20 (1 : Int32) h26)
/-! java/util/AbstractCollection.<init>()V -/
noncomputable def sJ0_init_c29 (G : GG) (N : Nat) (a0 : Option Nat) (h : Hp) : Out (Unit) :=
  gNN a0 (some (.inl (), h))
abbrev mJ0_init_c29 : MI := (RJ0, cJ0_init, 1, none, [], 1, 12, "<init>")
theorem tJ0_init_c29 {G : GG} {l : Launch} (hs : l.stackTraces = false) {N : Nat} {a0 : Option Nat} {h : Hp} {r : Unit ⊕ Nat} {hf : Hp} (ho : sJ0_init_c29 G N a0 h = some (r, hf)) : gMet G l yJ0_init (ws_ yJ0_init cJ0_init 1 none) 1 12 [gr a0] h cvU r hf := by
  refine gMet.of ho hs (plainFor_of_name pn_J0) rfl rfl (gbl rfl) fun X => ?_
  show gT G l X mJ0_init_c29 cvU r hf 0 [(0, gr a0)] [] h (sJ0_init_c29 G N a0 h)
  delta sJ0_init_c29
  refine g_aload_n (pc := 0) (x := a0) 0 rfl rfl dJ0_init_0 ?_
  refine g_objInit' (pc := 1) q217 oi_in oi_code (gbl rfl) (gbl rfl) dJ0_init_1 ?_
  exact g_return (pc := 4) rfl dJ0_init_4
/-! java/util/AbstractSet.<init>()V -/
noncomputable def sJ35_init_c29 (G : GG) (N : Nat) (a0 : Option Nat) (h : Hp) : Out (Unit) :=
  bI a0 (fun q3 => sJ0_init_c29 G N (some q3) h) fun v1 h2 =>
  some (.inl (), h2)
abbrev mJ35_init_c29 : MI := (RJ35, cJ35_init, 1, none, [], 2, 32, "<init>")
theorem tJ35_init_c29 {G : GG} {l : Launch} (hs : l.stackTraces = false) {N : Nat} {a0 : Option Nat} {h : Hp} {r : Unit ⊕ Nat} {hf : Hp} (ho : sJ35_init_c29 G N a0 h = some (r, hf)) : gMet G l yJ35_init (ws_ yJ35_init cJ35_init 1 none) 2 32 [gr a0] h cvU r hf := by
  refine gMet.of ho hs (plainFor_of_name pn_J35) rfl rfl (gbl rfl) fun X => ?_
  show gT G l X mJ35_init_c29 cvU r hf 0 [(0, gr a0)] [] h (sJ35_init_c29 G N a0 h)
  delta sJ35_init_c29
  refine g_aload_n (pc := 0) (x := a0) 0 rfl rfl dJ35_init_0 ?_
  refine g_bIu (pc := 1) (y := yJ0_init) (ws := ws_ yJ0_init cJ0_init 1 none) (fr := 1) (lo := 12) (as := []) (st := []) (g_no) rfl (fun _ _ _ e => tJ0_init_c29 hs e) (fun K _ _ _ hM R e1 e2 => g_runI (M := mJ35_init_c29) (pc := 1) (y := yJ0_init) (bytes := cJ0_init) (maxL := 1) (ret := none) (fr := 1) (lo := 12) (as := []) (st := []) gy_J0_init (gbl rfl) (gbl rfl) (gbl rfl) rfl q1924 q215 rfl dJ35_init_1 K hM R e1 e2) fun v1 h2 => ?_
  exact g_return (pc := 4) rfl dJ35_init_4
/-! java/util/LinkedHashMap$LinkedEntrySet.<init>(Ljava/util/LinkedHashMap;Z)V -/
noncomputable def sJ50_init (G : GG) (N : Nat) (a0 : Option Nat) (a1 : Option Nat) (a2 : Int32) (h : Hp) : Out (Unit) :=
  gP G h a0 29 1 (va_rf a1) fun h1 =>
  bI a0 (fun q5 => sJ35_init_c29 G N (some q5) h1) fun v2 h3 =>
  gPz G h3 a0 29 0 a2 fun h4 =>
  some (.inl (), h4)
abbrev mJ50_init : MI := (RJ50, cJ50_init, 3, none, [], 3, 52, "<init>")
theorem tJ50_init {G : GG} {l : Launch} (hs : l.stackTraces = false) {N : Nat} {a0 : Option Nat} {a1 : Option Nat} {a2 : Int32} {h : Hp} {r : Unit ⊕ Nat} {hf : Hp} (ho : sJ50_init G N a0 a1 a2 h = some (r, hf)) : gMet G l yJ50_init (ws_ yJ50_init cJ50_init 3 none) 3 52 [gr a0, gr a1, gi a2] h cvU r hf := by
  refine gMet.of ho hs (plainFor_of_name pn_J50) rfl rfl (gbl rfl) fun X => ?_
  show gT G l X mJ50_init cvU r hf 0 [(0, gr a0), (1, gr a1), (2, gi a2)] [] h (sJ50_init G N a0 a1 a2 h)
  delta sJ50_init
  refine g_aload_n (pc := 0) (x := a0) 0 rfl rfl dJ50_init_0 ?_
  refine g_aload_n (pc := 1) (x := a1) 1 rfl rfl dJ50_init_1 ?_
  refine g_putFin (pc := 2) k_29 (gblt rfl) lk_J50_1_29 q3289 rfl rfl rfl rfl (gNr _ _) dJ50_init_2 fun h1 => ?_
  refine g_aload_n (pc := 5) (x := a0) 0 rfl rfl dJ50_init_5 ?_
  refine g_bIu (pc := 6) (y := yJ35_init) (ws := ws_ yJ35_init cJ35_init 1 none) (fr := 2) (lo := 32) (as := []) (st := []) (g_no) rfl (fun _ _ _ e => tJ35_init_c29 hs e) (fun K _ _ _ hM R e1 e2 => g_runI (M := mJ50_init) (pc := 6) (y := yJ35_init) (bytes := cJ35_init) (maxL := 1) (ret := none) (fr := 2) (lo := 32) (as := []) (st := []) gy_J35_init (gbl rfl) (gbl rfl) (gbl rfl) rfl q3287 q1922 rfl dJ50_init_6 K hM R e1 e2) fun v2 h3 => ?_
  refine g_aload_n (pc := 9) (x := a0) 0 rfl rfl dJ50_init_9 ?_
  refine g_iload_n (pc := 10) (x := a2) 2 rfl rfl dJ50_init_10 ?_
  refine g_putzFin (pc := 11) k_29 (gblt rfl) lk_J50_13_29 q3288 rfl rfl rfl rfl dJ50_init_11 fun h4 => ?_
  exact g_return (pc := 14) rfl dJ50_init_14
/-! java/util/LinkedHashMap.sequencedEntrySet()Ljava/util/SequencedSet; -/
noncomputable def sJ24_sequencedEntrySet (G : GG) (N : Nat) (a0 : Option Nat) (h : Hp) : Out (Option Nat) :=
  gFr h a0 26 1 fun v1 =>
  if v1 = none then (gNew h 29 [.int 0, .null] 2 fun v2 h3 =>
  bI v2 (fun q7 => sJ50_init G N (some q7) a0 (0 : Int32) h3) fun v4 h5 =>
  gP G h5 a0 26 1 (va_rf v2) fun h6 =>
  some (.inl v2, h6))
  else gCk h v1 [29] (some (.inl v1, h))
abbrev mJ24_sequencedEntrySet : MI := (RJ24, cJ24_sequencedEntrySet, 3, (some (.object "java/util/SequencedSet")), [], 4, 74, "sequencedEntrySet")
theorem tJ24_sequencedEntrySet {G : GG} {l : Launch} (hs : l.stackTraces = false) {N : Nat} {a0 : Option Nat} {h : Hp} {r : Option Nat ⊕ Nat} {hf : Hp} (ho : sJ24_sequencedEntrySet G N a0 h = some (r, hf)) : gMet G l yJ24_sequencedEntrySet (ws_ yJ24_sequencedEntrySet cJ24_sequencedEntrySet 3 (some (.object "java/util/SequencedSet"))) 4 74 [gr a0] h cvR r hf := by
  refine gMet.of ho hs (plainFor_of_name pn_J24) rfl rfl (gbl rfl) fun X => ?_
  show gT G l X mJ24_sequencedEntrySet cvR r hf 0 [(0, gr a0)] [] h (sJ24_sequencedEntrySet G N a0 h)
  delta sJ24_sequencedEntrySet
  refine g_aload_n (pc := 0) (x := a0) 0 rfl rfl dJ24_sequencedEntrySet_0 ?_
  refine g_getfr (pc := 1) k_26 (gblt rfl) lk_J24_151_26 dJ24_sequencedEntrySet_1 fun v1 => ?_
  refine g_astore_n (pc := 4) (lv' := [(1, gr v1), (0, gr a0)]) [0, 1] rfl rfl (gblt rfl) dJ24_sequencedEntrySet_4 ?_
  refine g_aload_n (pc := 5) (x := v1) 0 rfl rfl dJ24_sequencedEntrySet_5 ?_
  refine g_ifnonnull (pc := 6) (tgt := 26) rfl dJ24_sequencedEntrySet_6 ?_ ?_
  rotate_left
  · refine g_aload_n (pc := 26) (x := v1) 0 rfl rfl dJ24_sequencedEntrySet_26 ?_
    refine g_checkcast (pc := 27) q1932 as_29_java_util_SequencedSet dJ24_sequencedEntrySet_27 ?_
    exact g_areturn (pc := 30) rfl (Or.inl ⟨_, rfl⟩) dJ24_sequencedEntrySet_30
  refine g_new (pc := 9) k_29 df_29 q3282 q3283 q196 dJ24_sequencedEntrySet_9 fun v2 h3 => ?_
  refine g_dup (pc := 12) rfl dJ24_sequencedEntrySet_12 ?_
  refine g_aload_n (pc := 13) (x := a0) 1 rfl rfl dJ24_sequencedEntrySet_13 ?_
  refine g_iconst (pc := 14) (v := (0 : Int32)) ic_0 dJ24_sequencedEntrySet_14 ?_
  refine g_bIu (pc := 15) (y := yJ50_init) (ws := ws_ yJ50_init cJ50_init 3 none) (fr := 3) (lo := 52) (as := [gr a0, gi (0 : Int32)]) (st := [gr v2]) (g_no) rfl (fun _ _ _ e => tJ50_init hs e) (fun K _ _ _ hM R e1 e2 => g_runI (M := mJ24_sequencedEntrySet) (pc := 15) (y := yJ50_init) (bytes := cJ50_init) (maxL := 3) (ret := none) (fr := 3) (lo := 52) (as := [gr a0, gi (0 : Int32)]) (st := [gr v2]) gy_J50_init (gbl rfl) (gbl rfl) (gbl rfl) rfl q3284 q3285 rfl dJ24_sequencedEntrySet_15 K hM R e1 e2) fun v4 h5 => ?_
  refine g_astore_n (pc := 18) (lv' := [(2, gr v2), (0, gr a0)]) [0, 2] rfl rfl (gblt rfl) dJ24_sequencedEntrySet_18 ?_
  refine g_aload_n (pc := 19) (x := a0) 1 rfl rfl dJ24_sequencedEntrySet_19 ?_
  refine g_aload_n (pc := 20) (x := v2) 0 rfl rfl dJ24_sequencedEntrySet_20 ?_
  refine g_put (pc := 21) k_26 (gblt rfl) lk_J24_151_26 rfl rfl (gNr _ _) dJ24_sequencedEntrySet_21 fun h6 => ?_
  refine g_aload_n (pc := 24) (x := v2) 0 rfl rfl dJ24_sequencedEntrySet_24 ?_
  exact g_areturn (pc := 25) rfl (Or.inl ⟨_, rfl⟩) dJ24_sequencedEntrySet_25
/-! java/util/LinkedHashMap.entrySet()Ljava/util/Set; -/
noncomputable def sJ24_entrySet (G : GG) (N : Nat) (a0 : Option Nat) (h : Hp) : Out (Option Nat) :=
  bV h a0 26 (fun q3 => sJ24_sequencedEntrySet G N (some q3) h) fun v1 h2 =>
  some (.inl v1, h2)
abbrev mJ24_entrySet : MI := (RJ24, cJ24_entrySet, 1, (some (.object "java/util/Set")), [], 5, 96, "entrySet")
theorem tJ24_entrySet {G : GG} {l : Launch} (hs : l.stackTraces = false) {N : Nat} {a0 : Option Nat} {h : Hp} {r : Option Nat ⊕ Nat} {hf : Hp} (ho : sJ24_entrySet G N a0 h = some (r, hf)) : gMet G l yJ24_entrySet (ws_ yJ24_entrySet cJ24_entrySet 1 (some (.object "java/util/Set"))) 5 96 [gr a0] h cvR r hf := by
  refine gMet.of ho hs (plainFor_of_name pn_J24) rfl rfl (gbl rfl) fun X => ?_
  show gT G l X mJ24_entrySet cvR r hf 0 [(0, gr a0)] [] h (sJ24_entrySet G N a0 h)
  delta sJ24_entrySet
  refine g_aload_n (pc := 0) (x := a0) 0 rfl rfl dJ24_entrySet_0 ?_
  refine g_bVr (pc := 1) (y := yJ24_sequencedEntrySet) (ws := ws_ yJ24_sequencedEntrySet cJ24_sequencedEntrySet 3 (some (.object "java/util/SequencedSet"))) (fr := 4) (lo := 74) (as := []) (st := []) (g_no) rfl (fun _ _ _ e => tJ24_sequencedEntrySet hs e) (fun K _ _ _ hq hM R e1 e2 => g_runV (M := mJ24_entrySet) (pc := 1) (y := yJ24_sequencedEntrySet) (bytes := cJ24_sequencedEntrySet) (maxL := 3) (ret := (some (.object "java/util/SequencedSet"))) (fr := 4) (lo := 74) (as := []) (st := []) hq (C := "java/util/LinkedHashMap") rfl gy_J24_sequencedEntrySet (gbl rfl) (gbl rfl) (gbl rfl) q3278 q3279 q3280 dJ24_entrySet_1 K hM R e1 e2) fun v1 h2 => ?_
  exact g_areturn (pc := 4) rfl (Or.inl ⟨_, rfl⟩) dJ24_entrySet_4
/-! java/util/LinkedHashMap$LinkedHashIterator.<init>(Ljava/util/LinkedHashMap;Z)V -/
noncomputable def sJ31_init_c28 (G : GG) (N : Nat) (a0 : Option Nat) (a1 : Option Nat) (a2 : Int32) (h : Hp) : Out (Unit) :=
  gP G h a0 28 4 (va_rf a1) fun h1 =>
  gNN a0 (gPz G h1 a0 28 3 a2 fun h2 =>
  gJ (fun (x3 : Option Nat) (h4 : Hp) =>
  gP G h4 a0 28 0 (va_rf x3) fun h6 =>
  gFi h6 a1 26 3 fun v7 =>
  gP G h6 a0 28 2 (.int v7) fun h8 =>
  gP G h8 a0 28 1 (va_rf none) fun h9 =>
  some (.inl (), h9)) fun j5 =>
  if a2 = 0 then (gFr h2 a1 26 8 fun v10 =>
  j5 v10 h2)
  else gFr h2 a1 26 9 fun v11 =>
  j5 v11 h2)
abbrev mJ31_init_c28 : MI := (RJ31, cJ31_init, 3, none, [], 1, 12, "<init>")
theorem tJ31_init_c28 {G : GG} {l : Launch} (hs : l.stackTraces = false) {N : Nat} {a0 : Option Nat} {a1 : Option Nat} {a2 : Int32} {h : Hp} {r : Unit ⊕ Nat} {hf : Hp} (ho : sJ31_init_c28 G N a0 a1 a2 h = some (r, hf)) : gMet G l yJ31_init (ws_ yJ31_init cJ31_init 3 none) 1 12 [gr a0, gr a1, gi a2] h cvU r hf := by
  refine gMet.of ho hs (plainFor_of_name pn_J31) rfl rfl (gbl rfl) fun X => ?_
  show gT G l X mJ31_init_c28 cvU r hf 0 [(0, gr a0), (1, gr a1), (2, gi a2)] [] h (sJ31_init_c28 G N a0 a1 a2 h)
  delta sJ31_init_c28
  refine g_aload_n (pc := 0) (x := a0) 0 rfl rfl dJ31_init_0 ?_
  refine g_aload_n (pc := 1) (x := a1) 1 rfl rfl dJ31_init_1 ?_
  refine g_putFin (pc := 2) k_28 (gblt rfl) lk_J31_1_28 q1852 rfl rfl rfl rfl (gNr _ _) dJ31_init_2 fun h1 => ?_
  refine g_aload_n (pc := 5) (x := a0) 0 rfl rfl dJ31_init_5 ?_
  refine g_objInit' (pc := 6) q1847 oi_in oi_code (gbl rfl) (gbl rfl) dJ31_init_6 ?_
  refine g_aload_n (pc := 9) (x := a0) 0 rfl rfl dJ31_init_9 ?_
  refine g_iload_n (pc := 10) (x := a2) 2 rfl rfl dJ31_init_10 ?_
  refine g_putz (pc := 11) k_28 (gblt rfl) lk_J31_13_28 rfl rfl dJ31_init_11 fun h2 => ?_
  refine g_aload_n (pc := 14) (x := a0) 0 rfl rfl dJ31_init_14 ?_
  refine g_iload_n (pc := 15) (x := a2) 2 rfl rfl dJ31_init_15 ?_
  refine g_join 30 (fun (x3 : Option Nat) => [(0, gr a0), (1, gr a1)]) (fun (x3 : Option Nat) => [gr x3, gr a0]) (fun x3 h4 => ?_) (fun j5 Hj5 => ?_)
  · refine g_put (pc := 30) k_28 (gblt rfl) lk_J31_26_28 rfl rfl (gNr _ _) dJ31_init_30 fun h6 => ?_
    refine g_aload_n (pc := 33) (x := a0) 0 rfl rfl dJ31_init_33 ?_
    refine g_aload_n (pc := 34) (x := a1) 1 rfl rfl dJ31_init_34 ?_
    refine g_getfi (pc := 35) k_26 (gblt rfl) lk_J31_29_26 dJ31_init_35 fun v7 => ?_
    refine g_put (pc := 38) k_28 (gblt rfl) lk_J31_33_28 rfl rfl (gNi _) dJ31_init_38 fun h8 => ?_
    refine g_aload_n (pc := 41) (x := a0) 0 rfl rfl dJ31_init_41 ?_
    refine g_aconst_null (pc := 42) dJ31_init_42 ?_
    refine g_put (pc := 43) k_28 (gblt rfl) lk_J31_36_28 rfl rfl (gNr _ _) dJ31_init_43 fun h9 => ?_
    exact g_return (pc := 46) rfl dJ31_init_46
  refine g_if_eq (pc := 16) (tgt := 26) rfl dJ31_init_16 ?_ ?_
  · refine g_aload_n (pc := 26) (x := a1) 1 rfl rfl dJ31_init_26 ?_
    refine g_getfr (pc := 27) k_26 (gblt rfl) lk_J31_23_26 dJ31_init_27 fun v10 => ?_
    exact g_sub [0, 1] rfl (Hj5 v10 h2)
  refine g_aload_n (pc := 19) (x := a1) 1 rfl rfl dJ31_init_19 ?_
  refine g_getfr (pc := 20) k_26 (gblt rfl) lk_J31_17_26 dJ31_init_20 fun v11 => ?_
  refine g_goto (pc := 23) (tgt := 30) rfl dJ31_init_23 ?_
  exact g_sub [0, 1] rfl (Hj5 v11 h2)
/-! java/util/LinkedHashMap$LinkedEntryIterator.<init>(Ljava/util/LinkedHashMap;Z)V -/
noncomputable def sJ32_init (G : GG) (N : Nat) (a0 : Option Nat) (a1 : Option Nat) (a2 : Int32) (h : Hp) : Out (Unit) :=
  bI a0 (fun q3 => sJ31_init_c28 G N (some q3) a1 a2 h) fun v1 h2 =>
  some (.inl (), h2)
abbrev mJ32_init : MI := (RJ32, cJ32_init, 3, none, [], 2, 34, "<init>")
theorem tJ32_init {G : GG} {l : Launch} (hs : l.stackTraces = false) {N : Nat} {a0 : Option Nat} {a1 : Option Nat} {a2 : Int32} {h : Hp} {r : Unit ⊕ Nat} {hf : Hp} (ho : sJ32_init G N a0 a1 a2 h = some (r, hf)) : gMet G l yJ32_init (ws_ yJ32_init cJ32_init 3 none) 2 34 [gr a0, gr a1, gi a2] h cvU r hf := by
  refine gMet.of ho hs (plainFor_of_name pn_J32) rfl rfl (gbl rfl) fun X => ?_
  show gT G l X mJ32_init cvU r hf 0 [(0, gr a0), (1, gr a1), (2, gi a2)] [] h (sJ32_init G N a0 a1 a2 h)
  delta sJ32_init
  refine g_aload_n (pc := 0) (x := a0) 0 rfl rfl dJ32_init_0 ?_
  refine g_aload_n (pc := 1) (x := a1) 1 rfl rfl dJ32_init_1 ?_
  refine g_iload_n (pc := 2) (x := a2) 2 rfl rfl dJ32_init_2 ?_
  refine g_bIu (pc := 3) (y := yJ31_init) (ws := ws_ yJ31_init cJ31_init 3 none) (fr := 1) (lo := 12) (as := [gr a1, gi a2]) (st := []) (g_no) rfl (fun _ _ _ e => tJ31_init_c28 hs e) (fun K _ _ _ hM R e1 e2 => g_runI (M := mJ32_init) (pc := 3) (y := yJ31_init) (bytes := cJ31_init) (maxL := 3) (ret := none) (fr := 1) (lo := 12) (as := [gr a1, gi a2]) (st := []) gy_J31_init (gbl rfl) (gbl rfl) (gbl rfl) rfl q1844 q1845 rfl dJ32_init_3 K hM R e1 e2) fun v1 h2 => ?_
  exact g_return (pc := 6) rfl dJ32_init_6
/-! java/util/LinkedHashMap$LinkedEntrySet.iterator()Ljava/util/Iterator; -/
noncomputable def sJ50_iterator (G : GG) (N : Nat) (a0 : Option Nat) (h : Hp) : Out (Option Nat) :=
  gNew h 28 [.null, .null, .int 0, .int 0, .null] 5 fun v1 h2 =>
  gFr h2 a0 29 1 fun v3 =>
  gFi h2 a0 29 0 fun v4 =>
  bI v1 (fun q7 => sJ32_init G N (some q7) v3 v4 h2) fun v5 h6 =>
  some (.inl v1, h6)
abbrev mJ50_iterator : MI := (RJ50, cJ50_iterator, 1, (some (.object "java/util/Iterator")), [], 3, 56, "iterator")
theorem tJ50_iterator {G : GG} {l : Launch} (hs : l.stackTraces = false) {N : Nat} {a0 : Option Nat} {h : Hp} {r : Option Nat ⊕ Nat} {hf : Hp} (ho : sJ50_iterator G N a0 h = some (r, hf)) : gMet G l yJ50_iterator (ws_ yJ50_iterator cJ50_iterator 1 (some (.object "java/util/Iterator"))) 3 56 [gr a0] h cvR r hf := by
  refine gMet.of ho hs (plainFor_of_name pn_J50) rfl rfl (gbl rfl) fun X => ?_
  show gT G l X mJ50_iterator cvR r hf 0 [(0, gr a0)] [] h (sJ50_iterator G N a0 h)
  delta sJ50_iterator
  refine g_new (pc := 0) k_28 df_28 q1839 q1840 q174 dJ50_iterator_0 fun v1 h2 => ?_
  refine g_dup (pc := 3) rfl dJ50_iterator_3 ?_
  refine g_aload_n (pc := 4) (x := a0) 0 rfl rfl dJ50_iterator_4 ?_
  refine g_getfr (pc := 5) k_29 (gblt rfl) lk_J50_1_29 dJ50_iterator_5 fun v3 => ?_
  refine g_aload_n (pc := 8) (x := a0) 0 rfl rfl dJ50_iterator_8 ?_
  refine g_getfi (pc := 9) k_29 (gblt rfl) lk_J50_13_29 dJ50_iterator_9 fun v4 => ?_
  refine g_bIu (pc := 12) (y := yJ32_init) (ws := ws_ yJ32_init cJ32_init 3 none) (fr := 2) (lo := 34) (as := [gr v3, gi v4]) (st := [gr v1]) (g_no) rfl (fun _ _ _ e => tJ32_init hs e) (fun K _ _ _ hM R e1 e2 => g_runI (M := mJ50_iterator) (pc := 12) (y := yJ32_init) (bytes := cJ32_init) (maxL := 3) (ret := none) (fr := 2) (lo := 34) (as := [gr v3, gi v4]) (st := [gr v1]) gy_J32_init (gbl rfl) (gbl rfl) (gbl rfl) rfl q1841 q1842 rfl dJ50_iterator_12 K hM R e1 e2) fun v5 h6 => ?_
  exact g_areturn (pc := 15) rfl (Or.inl ⟨_, rfl⟩) dJ50_iterator_15
/-! java/util/LinkedHashMap$LinkedHashIterator.hasNext()Z -/
noncomputable def sJ31_hasNext_c28 (G : GG) (N : Nat) (a0 : Option Nat) (h : Hp) : Out (Int32) :=
  gFr h a0 28 0 fun v1 =>
  if v1 = none then (gRtZ (0 : Int32) h)
  else gRtZ (1 : Int32) h
abbrev mJ31_hasNext_c28 : MI := (RJ31, cJ31_hasNext, 1, (some .boolean), [], 0, 0, "hasNext")
theorem tJ31_hasNext_c28 {G : GG} {l : Launch} (hs : l.stackTraces = false) {N : Nat} {a0 : Option Nat} {h : Hp} {r : Int32 ⊕ Nat} {hf : Hp} (ho : sJ31_hasNext_c28 G N a0 h = some (r, hf)) : gMet G l yJ31_hasNext (ws_ yJ31_hasNext cJ31_hasNext 1 (some .boolean)) 0 0 [gr a0] h cvI r hf := by
  refine gMet.of ho hs (plainFor_of_name pn_J31) rfl rfl (gbl rfl) fun X => ?_
  show gT G l X mJ31_hasNext_c28 cvI r hf 0 [(0, gr a0)] [] h (sJ31_hasNext_c28 G N a0 h)
  delta sJ31_hasNext_c28
  refine g_aload_n (pc := 0) (x := a0) 0 rfl rfl dJ31_hasNext_0 ?_
  refine g_getfr (pc := 1) k_28 (gblt rfl) lk_J31_26_28 dJ31_hasNext_1 fun v1 => ?_
  refine g_ifnull (pc := 4) (tgt := 11) rfl dJ31_hasNext_4 ?_ ?_
  · refine g_iconst (pc := 11) (v := (0 : Int32)) ic_0 dJ31_hasNext_11 ?_
    exact g_zreturn (pc := 12) rfl dJ31_hasNext_12
  refine g_iconst (pc := 7) (v := (1 : Int32)) ic_1 dJ31_hasNext_7 ?_
  refine g_goto (pc := 8) (tgt := 12) rfl dJ31_hasNext_8 ?_
  exact g_zreturn (pc := 12) rfl dJ31_hasNext_12
/-! java/util/LinkedHashMap$LinkedHashIterator.nextNode()Ljava/util/LinkedHashMap$Entry; -/
noncomputable def sJ31_nextNode_c28 (G : GG) (N : Nat) (a0 : Option Nat) (h : Hp) : Out (Option Nat) :=
  gFr h a0 28 0 fun v1 =>
  gFr h a0 28 4 fun v2 =>
  gFi h v2 26 3 fun v3 =>
  gFi h a0 28 2 fun v4 =>
  if v3 = v4 then (if v1 = none then (none)
  else gP G h a0 28 1 (va_rf v1) fun h5 =>
  gFi h5 a0 28 3 fun v6 =>
  gJ (fun (x7 : Option Nat) (h8 : Hp) =>
  gP G h8 a0 28 0 (va_rf x7) fun h10 =>
  some (.inl v1, h10)) fun j9 =>
  if v6 = 0 then (gFr h5 v1 27 5 fun v11 =>
  j9 v11 h5)
  else gFr h5 v1 27 4 fun v12 =>
  j9 v12 h5)
  else none
abbrev mJ31_nextNode_c28 : MI := (RJ31, cJ31_nextNode, 2, (some (.object "java/util/LinkedHashMap$Entry")), [], 0, 0, "nextNode")
theorem tJ31_nextNode_c28 {G : GG} {l : Launch} (hs : l.stackTraces = false) {N : Nat} {a0 : Option Nat} {h : Hp} {r : Option Nat ⊕ Nat} {hf : Hp} (ho : sJ31_nextNode_c28 G N a0 h = some (r, hf)) : gMet G l yJ31_nextNode (ws_ yJ31_nextNode cJ31_nextNode 2 (some (.object "java/util/LinkedHashMap$Entry"))) 0 0 [gr a0] h cvR r hf := by
  refine gMet.of ho hs (plainFor_of_name pn_J31) rfl rfl (gbl rfl) fun X => ?_
  show gT G l X mJ31_nextNode_c28 cvR r hf 0 [(0, gr a0)] [] h (sJ31_nextNode_c28 G N a0 h)
  delta sJ31_nextNode_c28
  refine g_aload_n (pc := 0) (x := a0) 0 rfl rfl dJ31_nextNode_0 ?_
  refine g_getfr (pc := 1) k_28 (gblt rfl) lk_J31_26_28 dJ31_nextNode_1 fun v1 => ?_
  refine g_astore_n (pc := 4) (lv' := [(1, gr v1), (0, gr a0)]) [0, 1] rfl rfl (gblt rfl) dJ31_nextNode_4 ?_
  refine g_aload_n (pc := 5) (x := a0) 1 rfl rfl dJ31_nextNode_5 ?_
  refine g_getfr (pc := 6) k_28 (gblt rfl) lk_J31_1_28 dJ31_nextNode_6 fun v2 => ?_
  refine g_getfi (pc := 9) k_26 (gblt rfl) lk_J31_29_26 dJ31_nextNode_9 fun v3 => ?_
  refine g_aload_n (pc := 12) (x := a0) 1 rfl rfl dJ31_nextNode_12 ?_
  refine g_getfi (pc := 13) k_28 (gblt rfl) lk_J31_33_28 dJ31_nextNode_13 fun v4 => ?_
  refine g_icmp_eq (pc := 16) (tgt := 27) rfl dJ31_nextNode_16 ?_ ?_
  rotate_left
  · exact g_none
  refine g_aload_n (pc := 27) (x := v1) 0 rfl rfl dJ31_nextNode_27 ?_
  refine g_ifnonnull (pc := 28) (tgt := 39) rfl dJ31_nextNode_28 ?_ ?_
  · exact g_none
  refine g_aload_n (pc := 39) (x := a0) 1 rfl rfl dJ31_nextNode_39 ?_
  refine g_aload_n (pc := 40) (x := v1) 0 rfl rfl dJ31_nextNode_40 ?_
  refine g_put (pc := 41) k_28 (gblt rfl) lk_J31_36_28 rfl rfl (gNr _ _) dJ31_nextNode_41 fun h5 => ?_
  refine g_aload_n (pc := 44) (x := a0) 1 rfl rfl dJ31_nextNode_44 ?_
  refine g_aload_n (pc := 45) (x := a0) 1 rfl rfl dJ31_nextNode_45 ?_
  refine g_getfi (pc := 46) k_28 (gblt rfl) lk_J31_13_28 dJ31_nextNode_46 fun v6 => ?_
  refine g_join 63 (fun (x7 : Option Nat) => [(1, gr v1)]) (fun (x7 : Option Nat) => [gr x7, gr a0]) (fun x7 h8 => ?_) (fun j9 Hj9 => ?_)
  · refine g_put (pc := 63) k_28 (gblt rfl) lk_J31_26_28 rfl rfl (gNr _ _) dJ31_nextNode_63 fun h10 => ?_
    refine g_aload_n (pc := 66) (x := v1) 0 rfl rfl dJ31_nextNode_66 ?_
    exact g_areturn (pc := 67) rfl (Or.inl ⟨_, rfl⟩) dJ31_nextNode_67
  refine g_if_eq (pc := 49) (tgt := 59) rfl dJ31_nextNode_49 ?_ ?_
  · refine g_aload_n (pc := 59) (x := v1) 0 rfl rfl dJ31_nextNode_59 ?_
    refine g_getfr (pc := 60) k_27 (gblt rfl) lk_J31_50_27 dJ31_nextNode_60 fun v11 => ?_
    exact g_sub [0] rfl (Hj9 v11 h5)
  refine g_aload_n (pc := 52) (x := v1) 0 rfl rfl dJ31_nextNode_52 ?_
  refine g_getfr (pc := 53) k_27 (gblt rfl) lk_J31_45_27 dJ31_nextNode_53 fun v12 => ?_
  refine g_goto (pc := 56) (tgt := 63) rfl dJ31_nextNode_56 ?_
  exact g_sub [0] rfl (Hj9 v12 h5)
/-! java/util/LinkedHashMap$LinkedEntryIterator.next()Ljava/util/Map$Entry; -/
noncomputable def sJ32_next_2 (G : GG) (N : Nat) (a0 : Option Nat) (h : Hp) : Out (Option Nat) :=
  bV h a0 28 (fun q3 => sJ31_nextNode_c28 G N (some q3) h) fun v1 h2 =>
  some (.inl v1, h2)
abbrev mJ32_next_2 : MI := (RJ32, cJ32_next_2, 1, (some (.object "java/util/Map$Entry")), [], 1, 21, "next")
theorem tJ32_next_2 {G : GG} {l : Launch} (hs : l.stackTraces = false) {N : Nat} {a0 : Option Nat} {h : Hp} {r : Option Nat ⊕ Nat} {hf : Hp} (ho : sJ32_next_2 G N a0 h = some (r, hf)) : gMet G l yJ32_next_2 (ws_ yJ32_next_2 cJ32_next_2 1 (some (.object "java/util/Map$Entry"))) 1 21 [gr a0] h cvR r hf := by
  refine gMet.of ho hs (plainFor_of_name pn_J32) rfl rfl (gbl rfl) fun X => ?_
  show gT G l X mJ32_next_2 cvR r hf 0 [(0, gr a0)] [] h (sJ32_next_2 G N a0 h)
  delta sJ32_next_2
  refine g_aload_n (pc := 0) (x := a0) 0 rfl rfl dJ32_next_2_0 ?_
  refine g_bVr (pc := 1) (y := yJ31_nextNode) (ws := ws_ yJ31_nextNode cJ31_nextNode 2 (some (.object "java/util/LinkedHashMap$Entry"))) (fr := 0) (lo := 0) (as := []) (st := []) (g_no) rfl (fun _ _ _ e => tJ31_nextNode_c28 hs e) (fun K _ _ _ hq hM R e1 e2 => g_runU (x := ⟨"java/util/LinkedHashMap$LinkedEntryIterator", "nextNode", "()Ljava/util/LinkedHashMap$Entry;"⟩) (owner := "java/util/LinkedHashMap$LinkedHashIterator") (M := mJ32_next_2) (pc := 1) (y := yJ31_nextNode) (bytes := cJ31_nextNode) (maxL := 2) (ret := (some (.object "java/util/LinkedHashMap$Entry"))) (fr := 0) (lo := 0) (as := []) (st := []) hq (C := "java/util/LinkedHashMap$LinkedEntryIterator") rfl gy_J31_nextNode rfl (gbl rfl) (gbl rfl) (gbl rfl) q1580 q1581 ⟨q1584, _, _, _, q1585⟩ mhx_java_util_LinkedHashMap_LinkedHashIterator q1583 q1584 dJ32_next_2_1 K hM R e1 e2) fun v1 h2 => ?_
  exact g_areturn (pc := 4) rfl (Or.inl ⟨_, rfl⟩) dJ32_next_2_4
/-! java/util/LinkedHashMap$LinkedEntryIterator.next()Ljava/lang/Object; -/
noncomputable def sJ32_next (G : GG) (N : Nat) (a0 : Option Nat) (h : Hp) : Out (Option Nat) :=
  bV h a0 28 (fun q3 => sJ32_next_2 G N (some q3) h) fun v1 h2 =>
  some (.inl v1, h2)
abbrev mJ32_next : MI := (RJ32, cJ32_next, 1, (some (.object "java/lang/Object")), [], 2, 41, "next")
theorem tJ32_next {G : GG} {l : Launch} (hs : l.stackTraces = false) {N : Nat} {a0 : Option Nat} {h : Hp} {r : Option Nat ⊕ Nat} {hf : Hp} (ho : sJ32_next G N a0 h = some (r, hf)) : gMet G l yJ32_next (ws_ yJ32_next cJ32_next 1 (some (.object "java/lang/Object"))) 2 41 [gr a0] h cvR r hf := by
  refine gMet.of ho hs (plainFor_of_name pn_J32) rfl rfl (gbl rfl) fun X => ?_
  show gT G l X mJ32_next cvR r hf 0 [(0, gr a0)] [] h (sJ32_next G N a0 h)
  delta sJ32_next
  refine g_aload_n (pc := 0) (x := a0) 0 rfl rfl dJ32_next_0 ?_
  refine g_bVr (pc := 1) (y := yJ32_next_2) (ws := ws_ yJ32_next_2 cJ32_next_2 1 (some (.object "java/util/Map$Entry"))) (fr := 1) (lo := 21) (as := []) (st := []) (g_no) rfl (fun _ _ _ e => tJ32_next_2 hs e) (fun K _ _ _ hq hM R e1 e2 => g_runV (M := mJ32_next) (pc := 1) (y := yJ32_next_2) (bytes := cJ32_next_2) (maxL := 1) (ret := (some (.object "java/util/Map$Entry"))) (fr := 1) (lo := 21) (as := []) (st := []) hq (C := "java/util/LinkedHashMap$LinkedEntryIterator") rfl gy_J32_next_2 (gbl rfl) (gbl rfl) (gbl rfl) q1576 q1577 q1578 dJ32_next_1 K hM R e1 e2) fun v1 h2 => ?_
  exact g_areturn (pc := 4) rfl (Or.inl ⟨_, rfl⟩) dJ32_next_4
/-! java/util/HashMap$Node.getValue()Ljava/lang/Object; -/
noncomputable def sJ47_getValue_c27 (G : GG) (N : Nat) (a0 : Option Nat) (h : Hp) : Out (Option Nat) :=
  gFr h a0 27 2 fun v1 =>
  some (.inl v1, h)
abbrev mJ47_getValue_c27 : MI := (RJ47, cJ47_getValue, 1, (some (.object "java/lang/Object")), [], 0, 0, "getValue")
theorem tJ47_getValue_c27 {G : GG} {l : Launch} (hs : l.stackTraces = false) {N : Nat} {a0 : Option Nat} {h : Hp} {r : Option Nat ⊕ Nat} {hf : Hp} (ho : sJ47_getValue_c27 G N a0 h = some (r, hf)) : gMet G l yJ47_getValue (ws_ yJ47_getValue cJ47_getValue 1 (some (.object "java/lang/Object"))) 0 0 [gr a0] h cvR r hf := by
  refine gMet.of ho hs (plainFor_of_name pn_J47) rfl rfl (gbl rfl) fun X => ?_
  show gT G l X mJ47_getValue_c27 cvR r hf 0 [(0, gr a0)] [] h (sJ47_getValue_c27 G N a0 h)
  delta sJ47_getValue_c27
  refine g_aload_n (pc := 0) (x := a0) 0 rfl rfl dJ47_getValue_0 ?_
  refine g_getfr (pc := 1) k_27 (gblt rfl) lk_J47_17_27 dJ47_getValue_1 fun v1 => ?_
  exact g_areturn (pc := 4) rfl (Or.inl ⟨_, rfl⟩) dJ47_getValue_4
/-! java/util/HashSet.iterator()Ljava/util/Iterator; -/
noncomputable def sJ40_iterator_c34 (G : GG) (N : Nat) (a0 : Option Nat) (h : Hp) : Out (Option Nat) :=
  gFr h a0 34 0 fun v1 =>
  bV h v1 26 (fun q7 => sJ24_keySet G N (some q7) h) fun v2 h3 =>
  bV h3 v2 31 (fun q6 => sJ37_iterator G N (some q6) h3) fun v4 h5 =>
  some (.inl v4, h5)
abbrev mJ40_iterator_c34 : MI := (RJ40, cJ40_iterator, 1, (some (.object "java/util/Iterator")), [], 6, 116, "iterator")
theorem tJ40_iterator_c34 {G : GG} {l : Launch} (hs : l.stackTraces = false) {N : Nat} {a0 : Option Nat} {h : Hp} {r : Option Nat ⊕ Nat} {hf : Hp} (ho : sJ40_iterator_c34 G N a0 h = some (r, hf)) : gMet G l yJ40_iterator (ws_ yJ40_iterator cJ40_iterator 1 (some (.object "java/util/Iterator"))) 6 116 [gr a0] h cvR r hf := by
  refine gMet.of ho hs (plainFor_of_name pn_J40) rfl rfl (gbl rfl) fun X => ?_
  show gT G l X mJ40_iterator_c34 cvR r hf 0 [(0, gr a0)] [] h (sJ40_iterator_c34 G N a0 h)
  delta sJ40_iterator_c34
  refine g_aload_n (pc := 0) (x := a0) 0 rfl rfl dJ40_iterator_0 ?_
  refine g_getfr (pc := 1) k_34 (gblt rfl) lk_J40_10_34 dJ40_iterator_1 fun v1 => ?_
  refine g_bVr (pc := 4) (y := yJ24_keySet) (ws := ws_ yJ24_keySet cJ24_keySet 1 (some (.object "java/util/Set"))) (fr := 5) (lo := 96) (as := []) (st := []) (g_no) rfl (fun _ _ _ e => tJ24_keySet hs e) (fun K _ _ _ hq hM R e1 e2 => g_runUA (x := ⟨"java/util/HashMap", "keySet", "()Ljava/util/Set;"⟩) (owner := "java/util/HashMap") (M := mJ40_iterator_c34) (pc := 4) (y := yJ24_keySet) (bytes := cJ24_keySet) (maxL := 1) (ret := (some (.object "java/util/Set"))) (fr := 5) (lo := 96) (as := []) (st := []) hq (C := "java/util/LinkedHashMap") rfl gy_J24_keySet rfl (gbl rfl) (gbl rfl) (gbl rfl) q1906 q1908 q1933 mhx_java_util_HashMap q1909 q1910 dJ40_iterator_4 K hM R e1 e2) fun v2 h3 => ?_
  refine g_bVr (pc := 7) (y := yJ37_iterator) (ws := ws_ yJ37_iterator cJ37_iterator 1 (some (.object "java/util/Iterator"))) (fr := 3) (lo := 56) (as := []) (st := []) (g_no) rfl (fun _ _ _ e => tJ37_iterator hs e) (fun K _ _ _ hq hM R e1 e2 => g_runF (x := ⟨"java/util/Set", "iterator", "()Ljava/util/Iterator;"⟩) (M := mJ40_iterator_c34) (pc := 7) (y := yJ37_iterator) (bytes := cJ37_iterator) (maxL := 1) (ret := (some (.object "java/util/Iterator"))) (fr := 3) (lo := 56) (as := []) (st := []) hq (C := "java/util/LinkedHashMap$LinkedKeySet") rfl gy_J37_iterator rfl (gbl rfl) (gbl rfl) (gbl rfl) q1935 q1937 q1936 q1868 q1866 q1942 mhx_java_util_Set q1943 q1867 dJ40_iterator_7 K hM R e1 e2) fun v4 h5 => ?_
  exact g_areturn (pc := 12) rfl (Or.inl ⟨_, rfl⟩) dJ40_iterator_12
/-! java/util/HashMap.containsKey(Ljava/lang/Object;)Z -/
noncomputable def sJ23_containsKey_c26 (G : GG) (N : Nat) (a0 : Option Nat) (a1 : Option Nat) (h : Hp) : Out (Int32) :=
  bV h a0 26 (fun q3 => sJ23_getNode_c26 G N (some q3) a1 h) fun v1 h2 =>
  if v1 = none then (gRtZ (0 : Int32) h2)
  else gRtZ (1 : Int32) h2
abbrev mJ23_containsKey_c26 : MI := (RJ23, cJ23_containsKey, 2, (some .boolean), [], 4, 88, "containsKey")
theorem tJ23_containsKey_c26 {G : GG} {l : Launch} (hs : l.stackTraces = false) {N : Nat} {a0 : Option Nat} {a1 : Option Nat} {h : Hp} {r : Int32 ⊕ Nat} {hf : Hp} (ho : sJ23_containsKey_c26 G N a0 a1 h = some (r, hf)) : gMet G l yJ23_containsKey (ws_ yJ23_containsKey cJ23_containsKey 2 (some .boolean)) 4 88 [gr a0, gr a1] h cvI r hf := by
  refine gMet.of ho hs (plainFor_of_name pn_J23) rfl rfl (gbl rfl) fun X => ?_
  show gT G l X mJ23_containsKey_c26 cvI r hf 0 [(0, gr a0), (1, gr a1)] [] h (sJ23_containsKey_c26 G N a0 a1 h)
  delta sJ23_containsKey_c26
  refine g_aload_n (pc := 0) (x := a0) 0 rfl rfl dJ23_containsKey_0 ?_
  refine g_aload_n (pc := 1) (x := a1) 1 rfl rfl dJ23_containsKey_1 ?_
  refine g_bVr (pc := 2) (y := yJ23_getNode) (ws := ws_ yJ23_getNode cJ23_getNode 8 (some (.object "java/util/HashMap$Node"))) (fr := 3) (lo := 61) (as := [gr a1]) (st := []) (g_no) rfl (fun _ _ _ e => tJ23_getNode_c26 hs e) (fun K _ _ _ hq hM R e1 e2 => g_runV (M := mJ23_containsKey_c26) (pc := 2) (y := yJ23_getNode) (bytes := cJ23_getNode) (maxL := 8) (ret := (some (.object "java/util/HashMap$Node"))) (fr := 3) (lo := 61) (as := [gr a1]) (st := []) hq (C := "java/util/LinkedHashMap") rfl gy_J23_getNode (gbl rfl) (gbl rfl) (gbl rfl) q3339 q2011 q4640 dJ23_containsKey_2 K hM R e1 e2) fun v1 h2 => ?_
  refine g_ifnull (pc := 5) (tgt := 12) rfl dJ23_containsKey_5 ?_ ?_
  · refine g_iconst (pc := 12) (v := (0 : Int32)) ic_0 dJ23_containsKey_12 ?_
    exact g_zreturn (pc := 13) rfl dJ23_containsKey_13
  refine g_iconst (pc := 8) (v := (1 : Int32)) ic_1 dJ23_containsKey_8 ?_
  refine g_goto (pc := 9) (tgt := 13) rfl dJ23_containsKey_9 ?_
  exact g_zreturn (pc := 13) rfl dJ23_containsKey_13
/-! java/util/HashSet.contains(Ljava/lang/Object;)Z -/
noncomputable def sJ40_contains_c34 (G : GG) (N : Nat) (a0 : Option Nat) (a1 : Option Nat) (h : Hp) : Out (Int32) :=
  gFr h a0 34 0 fun v1 =>
  bV h v1 26 (fun q4 => sJ23_containsKey_c26 G N (some q4) a1 h) fun v2 h3 =>
  gRtZ v2 h3
abbrev mJ40_contains_c34 : MI := (RJ40, cJ40_contains, 2, (some .boolean), [], 5, 109, "contains")
theorem tJ40_contains_c34 {G : GG} {l : Launch} (hs : l.stackTraces = false) {N : Nat} {a0 : Option Nat} {a1 : Option Nat} {h : Hp} {r : Int32 ⊕ Nat} {hf : Hp} (ho : sJ40_contains_c34 G N a0 a1 h = some (r, hf)) : gMet G l yJ40_contains (ws_ yJ40_contains cJ40_contains 2 (some .boolean)) 5 109 [gr a0, gr a1] h cvI r hf := by
  refine gMet.of ho hs (plainFor_of_name pn_J40) rfl rfl (gbl rfl) fun X => ?_
  show gT G l X mJ40_contains_c34 cvI r hf 0 [(0, gr a0), (1, gr a1)] [] h (sJ40_contains_c34 G N a0 a1 h)
  delta sJ40_contains_c34
  refine g_aload_n (pc := 0) (x := a0) 0 rfl rfl dJ40_contains_0 ?_
  refine g_getfr (pc := 1) k_34 (gblt rfl) lk_J40_10_34 dJ40_contains_1 fun v1 => ?_
  refine g_aload_n (pc := 4) (x := a1) 1 rfl rfl dJ40_contains_4 ?_
  refine g_bVi (pc := 5) (y := yJ23_containsKey) (ws := ws_ yJ23_containsKey cJ23_containsKey 2 (some .boolean)) (fr := 4) (lo := 88) (as := [gr a1]) (st := []) (g_no) rfl (fun _ _ _ e => tJ23_containsKey_c26 hs e) (fun K _ _ _ hq hM R e1 e2 => g_runV (M := mJ40_contains_c34) (pc := 5) (y := yJ23_containsKey) (bytes := cJ23_containsKey) (maxL := 2) (ret := (some .boolean)) (fr := 4) (lo := 88) (as := [gr a1]) (st := []) hq (C := "java/util/LinkedHashMap") rfl gy_J23_containsKey (gbl rfl) (gbl rfl) (gbl rfl) q3379 q3335 q3337 dJ40_contains_5 K hM R e1 e2) fun v2 h3 => ?_
  exact g_zreturn (pc := 8) rfl dJ40_contains_8
/-! FlareSlopes.disputes(I)I -/
noncomputable def bX1_disputes_116 (G : GG) (N : Nat) (v5 : Option Nat) (v19 : Option Nat) (w23 : (Int32) → Hp → Out (Int32)) (x21 : Int32) (h22 : Hp) : Out (Int32) :=
  bV h22 v19 30 (fun q41 => sJ31_hasNext_c30 G N (some q41) h22) fun v24 h25 =>
  if v24 = 0 then (some (.inl x21, h25))
  else bV h25 v19 30 (fun q40 => sJ33_next G N (some q40) h25) fun v26 h27 =>
  gCk h27 v26 [19] (bV h27 v26 19 (fun q39 => sJ20_intValue G N (some q39) h27) fun v28 h29 =>
  bnd (sJ20_valueOf G N v28 h29) fun v30 h31 =>
  bV h31 v5 34 (fun q38 => sJ40_contains_c34 G N (some q38) v30 h31) fun v32 h33 =>
  gJ (fun (x34 : Int32) (h35 : Hp) =>
  w23 x34 h35) fun j36 =>
  if v32 = 0 then (j36 x21 h33)
  else gLet (x21 ||| ((1 : Int32) <<< (v28 &&& 31))) fun v37 =>
  j36 v37 h33)
noncomputable def bX1_disputes_36 (G : GG) (N : Nat) (v1 : Option Nat) (v5 : Option Nat) (v14 : Option Nat) (j18 : (Unit) → Hp → Out (Int32)) (w45 : (Unit) → Hp → Out (Int32)) (x43 : Unit) (h44 : Hp) : Out (Int32) :=
  bV h44 v14 28 (fun q67 => sJ31_hasNext_c28 G N (some q67) h44) fun v46 h47 =>
  if v46 = 0 then (j18 () h47)
  else bV h47 v14 28 (fun q66 => sJ32_next G N (some q66) h47) fun v48 h49 =>
  gCk h49 v48 [27] (bV h49 v48 27 (fun q65 => sJ47_getValue_c27 G N (some q65) h49) fun v50 h51 =>
  gCk h51 v50 [17] (gFi h51 v50 17 0 fun v52 =>
  gJ (fun (x53 : Option Nat) (h54 : Hp) =>
  bV h54 v48 27 (fun q64 => sJ47_getKey_c27 G N (some q64) h54) fun v56 h57 =>
  gCk h57 v56 [10] (gFi h57 v56 10 1 fun v58 =>
  bnd (sJ20_valueOf G N v58 h57) fun v59 h60 =>
  bV h60 x53 34 (fun q63 => sJ40_add_c34 G N (some q63) v59 h60) fun v61 h62 =>
  w45 () h62)) fun j55 =>
  if v52 = 0 then (j55 v5 h51)
  else j55 v1 h51))
noncomputable def sX1_disputes (G : GG) (N : Nat) (a0 : Option Nat) (a1 : Int32) (h : Hp) : Out (Int32) :=
  gNew h 34 [.null] 1 fun v1 h2 =>
  bI v1 (fun q72 => sJ41_init G N (some q72) h2) fun v3 h4 =>
  gNew h4 34 [.null] 1 fun v5 h6 =>
  bI v5 (fun q71 => sJ41_init G N (some q71) h6) fun v7 h8 =>
  bV h8 a0 3 (fun q70 => sX1_withCabin G N (some q70) a1 h8) fun v9 h10 =>
  gFr h10 v9 7 8 fun v11 =>
  bV h10 v11 26 (fun q69 => sJ24_entrySet G N (some q69) h10) fun v12 h13 =>
  bV h13 v12 29 (fun q68 => sJ50_iterator G N (some q68) h13) fun v14 h15 =>
  gJ (fun (x16 : Unit) (h17 : Hp) =>
  bV h17 v1 34 (fun q42 => sJ40_iterator_c34 G N (some q42) h17) fun v19 h20 =>
  gLp (bX1_disputes_116 G N v5 v19) N (0 : Int32) h20) fun j18 =>
  gLp (bX1_disputes_36 G N v1 v5 v14 j18) N () h15
abbrev mX1_disputes : MI := (RX1, cX1_disputes, 7, (some .int), [], 9, 160, "disputes")
theorem tX1_disputes {G : GG} {l : Launch} (hs : l.stackTraces = false) {N : Nat} {a0 : Option Nat} {a1 : Int32} {h : Hp} {r : Int32 ⊕ Nat} {hf : Hp} (ho : sX1_disputes G N a0 a1 h = some (r, hf)) : gMet G l yX1_disputes (ws_ yX1_disputes cX1_disputes 7 (some .int)) 9 160 [gr a0, gi a1] h cvI r hf := by
  refine gMet.of ho hs (plainFor_of_name pn_X1) rfl rfl (gbl rfl) fun X => ?_
  show gT G l X mX1_disputes cvI r hf 0 [(0, gr a0), (1, gi a1)] [] h (sX1_disputes G N a0 a1 h)
  delta sX1_disputes
  refine g_new (pc := 0) k_34 df_34 q2360 q2361 q186 dX1_disputes_0 fun v1 h2 => ?_
  refine g_dup (pc := 3) rfl dX1_disputes_3 ?_
  refine g_bIu (pc := 4) (y := yJ41_init) (ws := ws_ yJ41_init cJ41_init 1 none) (fr := 5) (lo := 109) (as := []) (st := [gr v1]) (g_no) rfl (fun _ _ _ e => tJ41_init hs e) (fun K _ _ _ hM R e1 e2 => g_runI (M := mX1_disputes) (pc := 4) (y := yJ41_init) (bytes := cJ41_init) (maxL := 1) (ret := none) (fr := 5) (lo := 109) (as := []) (st := [gr v1]) gy_J41_init (gbl rfl) (gbl rfl) (gbl rfl) rfl q2362 q2363 rfl dX1_disputes_4 K hM R e1 e2) fun v3 h4 => ?_
  refine g_astore_n (pc := 7) (lv' := [(2, gr v1), (0, gr a0), (1, gi a1)]) [0, 1, 2] rfl rfl (gblt rfl) dX1_disputes_7 ?_
  refine g_new (pc := 8) k_34 df_34 q2360 q2361 q186 dX1_disputes_8 fun v5 h6 => ?_
  refine g_dup (pc := 11) rfl dX1_disputes_11 ?_
  refine g_bIu (pc := 12) (y := yJ41_init) (ws := ws_ yJ41_init cJ41_init 1 none) (fr := 5) (lo := 109) (as := []) (st := [gr v5]) (g_no) rfl (fun _ _ _ e => tJ41_init hs e) (fun K _ _ _ hM R e1 e2 => g_runI (M := mX1_disputes) (pc := 12) (y := yJ41_init) (bytes := cJ41_init) (maxL := 1) (ret := none) (fr := 5) (lo := 109) (as := []) (st := [gr v5]) gy_J41_init (gbl rfl) (gbl rfl) (gbl rfl) rfl q2362 q2363 rfl dX1_disputes_12 K hM R e1 e2) fun v7 h8 => ?_
  refine g_astore_n (pc := 15) (lv' := [(3, gr v5), (2, gr v1), (0, gr a0), (1, gi a1)]) [0, 1, 2, 3] rfl rfl (gblt rfl) dX1_disputes_15 ?_
  refine g_aload_n (pc := 16) (x := a0) 2 rfl rfl dX1_disputes_16 ?_
  refine g_iload_n (pc := 17) (x := a1) 3 rfl rfl dX1_disputes_17 ?_
  refine g_bVr (pc := 18) (y := yX1_withCabin) (ws := ws_ yX1_withCabin cX1_withCabin 2 (some (.object "FlareSlopes$Cabin"))) (fr := 8) (lo := 121) (as := [gi a1]) (st := []) (g_no) rfl (fun _ _ _ e => tX1_withCabin hs e) (fun K _ _ _ hq hM R e1 e2 => g_runV (M := mX1_disputes) (pc := 18) (y := yX1_withCabin) (bytes := cX1_withCabin) (maxL := 2) (ret := (some (.object "FlareSlopes$Cabin"))) (fr := 8) (lo := 121) (as := [gi a1]) (st := []) hq (C := "FlareSlopes") rfl gy_X1_withCabin (gbl rfl) (gbl rfl) (gbl rfl) q1968 q1970 qs22 dX1_disputes_18 K hM R e1 e2) fun v9 h10 => ?_
  refine g_getfr (pc := 21) k_7 (gblt rfl) lk_X1_205_7 dX1_disputes_21 fun v11 => ?_
  refine g_bVr (pc := 24) (y := yJ24_entrySet) (ws := ws_ yJ24_entrySet cJ24_entrySet 1 (some (.object "java/util/Set"))) (fr := 5) (lo := 96) (as := []) (st := []) (g_no) rfl (fun _ _ _ e => tJ24_entrySet hs e) (fun K _ _ _ hq hM R e1 e2 => g_runF (x := ⟨"java/util/Map", "entrySet", "()Ljava/util/Set;"⟩) (M := mX1_disputes) (pc := 24) (y := yJ24_entrySet) (bytes := cJ24_entrySet) (maxL := 1) (ret := (some (.object "java/util/Set"))) (fr := 5) (lo := 96) (as := []) (st := []) hq (C := "java/util/LinkedHashMap") rfl gy_J24_entrySet rfl (gbl rfl) (gbl rfl) (gbl rfl) q3270 q3272 q3271 q3276 q3274 q1613 mhx_java_util_Map q3273 q3275 dX1_disputes_24 K hM R e1 e2) fun v12 h13 => ?_
  refine g_bVr (pc := 29) (y := yJ50_iterator) (ws := ws_ yJ50_iterator cJ50_iterator 1 (some (.object "java/util/Iterator"))) (fr := 3) (lo := 56) (as := []) (st := []) (g_no) rfl (fun _ _ _ e => tJ50_iterator hs e) (fun K _ _ _ hq hM R e1 e2 => g_runF (x := ⟨"java/util/Set", "iterator", "()Ljava/util/Iterator;"⟩) (M := mX1_disputes) (pc := 29) (y := yJ50_iterator) (bytes := cJ50_iterator) (maxL := 1) (ret := (some (.object "java/util/Iterator"))) (fr := 3) (lo := 56) (as := []) (st := []) hq (C := "java/util/LinkedHashMap$LinkedEntrySet") rfl gy_J50_iterator rfl (gbl rfl) (gbl rfl) (gbl rfl) q2783 q1937 q1936 q1837 q1835 q1940 mhx_java_util_Set q1941 q1836 dX1_disputes_29 K hM R e1 e2) fun v14 h15 => ?_
  refine g_astore (pc := 34) (lv' := [(4, gr v14), (3, gr v5), (2, gr v1)]) [0, 1, 2] rfl (gblt rfl) dX1_disputes_34 ?_
  refine g_join 105 (fun (x16 : Unit) => [(2, gr v1), (3, gr v5)]) (fun (x16 : Unit) => []) (fun x16 h17 => ?_) (fun j18 Hj18 => ?_)
  · refine g_iconst (pc := 105) (v := (0 : Int32)) ic_0 dX1_disputes_105 ?_
    refine g_istore (pc := 106) (lv' := [(4, gi (0 : Int32)), (2, gr v1), (3, gr v5)]) [0, 1, 2] rfl (gblt rfl) dX1_disputes_106 ?_
    refine g_aload_n (pc := 108) (x := v1) 1 rfl rfl dX1_disputes_108 ?_
    refine g_bVr (pc := 109) (y := yJ40_iterator) (ws := ws_ yJ40_iterator cJ40_iterator 1 (some (.object "java/util/Iterator"))) (fr := 6) (lo := 116) (as := []) (st := []) (g_no) rfl (fun _ _ _ e => tJ40_iterator_c34 hs e) (fun K _ _ _ hq hM R e1 e2 => g_runF (x := ⟨"java/util/Set", "iterator", "()Ljava/util/Iterator;"⟩) (M := mX1_disputes) (pc := 109) (y := yJ40_iterator) (bytes := cJ40_iterator) (maxL := 1) (ret := (some (.object "java/util/Iterator"))) (fr := 6) (lo := 116) (as := []) (st := []) hq (C := "java/util/LinkedHashSet") rfl gy_J40_iterator rfl (gbl rfl) (gbl rfl) (gbl rfl) q2783 q1937 q1936 q1904 q1902 q1944 mhx_java_util_Set q1945 q1903 dX1_disputes_109 K hM R e1 e2) fun v19 h20 => ?_
    refine g_astore (pc := 114) (lv' := [(5, gr v19), (4, gi (0 : Int32)), (3, gr v5)]) [0, 1, 3] rfl (gblt rfl) dX1_disputes_114 ?_
    refine g_sub (lv' := [(3, gr v5), (4, gi (0 : Int32)), (5, gr v19)]) [2, 1, 0] rfl ?_
    refine g_loop (pc := 116) (fun (x21 : Int32) => [(3, gr v5), (4, gi x21), (5, gr v19)]) (fun (_ : Int32) => []) (fun w23 Hw23 x21 h22 => ?_) N (0 : Int32) h20
    delta bX1_disputes_116
    refine g_aload (pc := 116) (x := v19) 2 rfl dX1_disputes_116 ?_
    refine g_bVi (pc := 118) (y := yJ31_hasNext) (ws := ws_ yJ31_hasNext cJ31_hasNext 1 (some .boolean)) (fr := 0) (lo := 0) (as := []) (st := []) (g_no) rfl (fun _ _ _ e => tJ31_hasNext_c30 hs e) (fun K _ _ _ hq hM R e1 e2 => g_runF (x := ⟨"java/util/Iterator", "hasNext", "()Z"⟩) (M := mX1_disputes) (pc := 118) (y := yJ31_hasNext) (bytes := cJ31_hasNext) (maxL := 1) (ret := (some .boolean)) (fr := 0) (lo := 0) (as := []) (st := []) hq (C := "java/util/LinkedHashMap$LinkedKeyIterator") rfl gy_J31_hasNext rfl (gbl rfl) (gbl rfl) (gbl rfl) q1947 q1505 q1504 q1528 q1532 q1530 mhx_java_util_Iterator q1531 q1527 dX1_disputes_118 K hM R e1 e2) fun v24 h25 => ?_
    refine g_if_eq (pc := 123) (tgt := 167) rfl dX1_disputes_123 ?_ ?_
    · refine g_iload (pc := 167) (x := x21) 1 rfl dX1_disputes_167 ?_
      exact g_ireturn (pc := 169) rfl dX1_disputes_169
    refine g_aload (pc := 126) (x := v19) 2 rfl dX1_disputes_126 ?_
    refine g_bVr (pc := 128) (y := yJ33_next) (ws := ws_ yJ33_next cJ33_next 1 (some (.object "java/lang/Object"))) (fr := 1) (lo := 21) (as := []) (st := []) (g_no) rfl (fun _ _ _ e => tJ33_next hs e) (fun K _ _ _ hq hM R e1 e2 => g_runF (x := ⟨"java/util/Iterator", "next", "()Ljava/lang/Object;"⟩) (M := mX1_disputes) (pc := 128) (y := yJ33_next) (bytes := cJ33_next) (maxL := 1) (ret := (some (.object "java/lang/Object"))) (fr := 1) (lo := 21) (as := []) (st := []) hq (C := "java/util/LinkedHashMap$LinkedKeyIterator") rfl gy_J33_next rfl (gbl rfl) (gbl rfl) (gbl rfl) q1949 q1539 q1538 q1589 q1587 q1530 mhx_java_util_Iterator q1586 q1588 dX1_disputes_128 K hM R e1 e2) fun v26 h27 => ?_
    refine g_checkcast (pc := 133) q3323 as_19_java_lang_Integer dX1_disputes_133 ?_
    refine g_bVi (pc := 136) (y := yJ20_intValue) (ws := ws_ yJ20_intValue cJ20_intValue 1 (some .int)) (fr := 0) (lo := 0) (as := []) (st := []) (g_no) rfl (fun _ _ _ e => tJ20_intValue hs e) (fun K _ _ _ hq hM R e1 e2 => g_runV (M := mX1_disputes) (pc := 136) (y := yJ20_intValue) (bytes := cJ20_intValue) (maxL := 1) (ret := (some .int)) (fr := 0) (lo := 0) (as := []) (st := []) hq (C := "java/lang/Integer") rfl gy_J20_intValue (gbl rfl) (gbl rfl) (gbl rfl) q3324 q2089 q2090 dX1_disputes_136 K hM R e1 e2) fun v28 h29 => ?_
    refine g_istore (pc := 139) (lv' := [(6, gi v28), (3, gr v5), (4, gi x21), (5, gr v19)]) [0, 1, 2, 3] rfl (gblt rfl) dX1_disputes_139 ?_
    refine g_aload_n (pc := 141) (x := v5) 1 rfl rfl dX1_disputes_141 ?_
    refine g_iload (pc := 142) (x := v28) 0 rfl dX1_disputes_142 ?_
    refine g_br (pc := 144) (y := yJ20_valueOf) (ws := ws_ yJ20_valueOf cJ20_valueOf 1 (some (.object "java/lang/Integer"))) (fr := 3) (lo := 53) (as := [gi v28]) (st := [gr v5]) (g_no) rfl (fun _ _ e => tJ20_valueOf hs e) (fun K _ _ hM R e1 e2 => g_runS (M := mX1_disputes) (pc := 144) (y := yJ20_valueOf) (bytes := cJ20_valueOf) (maxL := 1) (ret := (some (.object "java/lang/Integer"))) (fr := 3) (lo := 53) (as := [gi v28]) (st := [gr v5]) gy_J20_valueOf (gbl rfl) (gbl rfl) (gbl rfl) q2785 q2786 dX1_disputes_144 K hM R e1 e2) fun v30 h31 => ?_
    refine g_bVi (pc := 147) (y := yJ40_contains) (ws := ws_ yJ40_contains cJ40_contains 2 (some .boolean)) (fr := 5) (lo := 109) (as := [gr v30]) (st := []) (g_no) rfl (fun _ _ _ e => tJ40_contains_c34 hs e) (fun K _ _ _ hq hM R e1 e2 => g_runF (x := ⟨"java/util/Set", "contains", "(Ljava/lang/Object;)Z"⟩) (M := mX1_disputes) (pc := 147) (y := yJ40_contains) (bytes := cJ40_contains) (maxL := 2) (ret := (some .boolean)) (fr := 5) (lo := 109) (as := [gr v30]) (st := []) hq (C := "java/util/LinkedHashSet") rfl gy_J40_contains rfl (gbl rfl) (gbl rfl) (gbl rfl) q3326 q3328 q3327 q3377 q3375 q1944 mhx_java_util_Set q3374 q3376 dX1_disputes_147 K hM R e1 e2) fun v32 h33 => ?_
    refine g_join 164 (fun (x34 : Int32) => [(3, gr v5), (4, gi x34), (5, gr v19)]) (fun (x34 : Int32) => []) (fun x34 h35 => ?_) (fun j36 Hj36 => ?_)
    · refine g_goto (pc := 164) (tgt := 116) rfl dX1_disputes_164 ?_
      exact Hw23 x34 h35
    refine g_if_eq (pc := 152) (tgt := 164) rfl dX1_disputes_152 ?_ ?_
    · exact g_sub [1, 2, 3] rfl (Hj36 x21 h33)
    refine g_iload (pc := 155) (x := x21) 2 rfl dX1_disputes_155 ?_
    refine g_iconst (pc := 157) (v := (1 : Int32)) ic_1 dX1_disputes_157 ?_
    refine g_iload (pc := 158) (x := v28) 0 rfl dX1_disputes_158 ?_
    refine g_ishl (pc := 160) dX1_disputes_160 ?_
    refine g_ior (pc := 161) dX1_disputes_161 ?_
    refine g_leti fun v37 => ?_
    refine g_istore (pc := 162) (lv' := [(4, gi v37), (3, gr v5), (5, gr v19)]) [0, 2, 3] rfl (gblt rfl) dX1_disputes_162 ?_
    exact g_sub [1, 0, 2] rfl (Hj36 v37 h33)
  refine g_sub (lv' := [(2, gr v1), (3, gr v5), (4, gr v14)]) [2, 1, 0] rfl ?_
  refine g_loop (pc := 36) (fun (x43 : Unit) => [(2, gr v1), (3, gr v5), (4, gr v14)]) (fun (_ : Unit) => []) (fun w45 Hw45 x43 h44 => ?_) N () h15
  delta bX1_disputes_36
  refine g_aload (pc := 36) (x := v14) 2 rfl dX1_disputes_36 ?_
  refine g_bVi (pc := 38) (y := yJ31_hasNext) (ws := ws_ yJ31_hasNext cJ31_hasNext 1 (some .boolean)) (fr := 0) (lo := 0) (as := []) (st := []) (g_no) rfl (fun _ _ _ e => tJ31_hasNext_c28 hs e) (fun K _ _ _ hq hM R e1 e2 => g_runF (x := ⟨"java/util/Iterator", "hasNext", "()Z"⟩) (M := mX1_disputes) (pc := 38) (y := yJ31_hasNext) (bytes := cJ31_hasNext) (maxL := 1) (ret := (some .boolean)) (fr := 0) (lo := 0) (as := []) (st := []) hq (C := "java/util/LinkedHashMap$LinkedEntryIterator") rfl gy_J31_hasNext rfl (gbl rfl) (gbl rfl) (gbl rfl) q1947 q1505 q1504 q1528 q1526 q1524 mhx_java_util_Iterator q1525 q1527 dX1_disputes_38 K hM R e1 e2) fun v46 h47 => ?_
  refine g_if_eq (pc := 43) (tgt := 105) rfl dX1_disputes_43 ?_ ?_
  · exact g_sub [0, 1] rfl (Hj18 () h47)
  refine g_aload (pc := 46) (x := v14) 2 rfl dX1_disputes_46 ?_
  refine g_bVr (pc := 48) (y := yJ32_next) (ws := ws_ yJ32_next cJ32_next 1 (some (.object "java/lang/Object"))) (fr := 2) (lo := 41) (as := []) (st := []) (g_no) rfl (fun _ _ _ e => tJ32_next hs e) (fun K _ _ _ hq hM R e1 e2 => g_runF (x := ⟨"java/util/Iterator", "next", "()Ljava/lang/Object;"⟩) (M := mX1_disputes) (pc := 48) (y := yJ32_next) (bytes := cJ32_next) (maxL := 1) (ret := (some (.object "java/lang/Object"))) (fr := 2) (lo := 41) (as := []) (st := []) hq (C := "java/util/LinkedHashMap$LinkedEntryIterator") rfl gy_J32_next rfl (gbl rfl) (gbl rfl) (gbl rfl) q1949 q1539 q1538 q1574 q1572 q1524 mhx_java_util_Iterator q1571 q1573 dX1_disputes_48 K hM R e1 e2) fun v48 h49 => ?_
  refine g_checkcast (pc := 53) q3295 as_27_java_util_Map_Entry dX1_disputes_53 ?_
  refine g_astore (pc := 56) (lv' := [(5, gr v48), (2, gr v1), (3, gr v5), (4, gr v14)]) [0, 1, 2, 3] rfl (gblt rfl) dX1_disputes_56 ?_
  refine g_aload (pc := 58) (x := v48) 0 rfl dX1_disputes_58 ?_
  refine g_bVr (pc := 60) (y := yJ47_getValue) (ws := ws_ yJ47_getValue cJ47_getValue 1 (some (.object "java/lang/Object"))) (fr := 0) (lo := 0) (as := []) (st := []) (g_no) rfl (fun _ _ _ e => tJ47_getValue_c27 hs e) (fun K _ _ _ hq hM R e1 e2 => g_runF (x := ⟨"java/util/Map$Entry", "getValue", "()Ljava/lang/Object;"⟩) (M := mX1_disputes) (pc := 60) (y := yJ47_getValue) (bytes := cJ47_getValue) (maxL := 1) (ret := (some (.object "java/lang/Object"))) (fr := 0) (lo := 0) (as := []) (st := []) hq (C := "java/util/LinkedHashMap$Entry") rfl gy_J47_getValue rfl (gbl rfl) (gbl rfl) (gbl rfl) q3297 q3299 q3298 q3304 q3311 q3309 mhx_java_util_Map_Entry q3310 q3303 dX1_disputes_60 K hM R e1 e2) fun v50 h51 => ?_
  refine g_checkcast (pc := 65) q1950 as_17_FlareSlopes_Vote dX1_disputes_65 ?_
  refine g_getfi (pc := 68) k_17 (gblt rfl) lk_X1_233_17 dX1_disputes_68 fun v52 => ?_
  refine g_join 79 (fun (x53 : Option Nat) => [(2, gr v1), (3, gr v5), (4, gr v14), (5, gr v48)]) (fun (x53 : Option Nat) => [gr x53]) (fun x53 h54 => ?_) (fun j55 Hj55 => ?_)
  · refine g_aload (pc := 79) (x := v48) 3 rfl dX1_disputes_79 ?_
    refine g_bVr (pc := 81) (y := yJ47_getKey) (ws := ws_ yJ47_getKey cJ47_getKey 1 (some (.object "java/lang/Object"))) (fr := 0) (lo := 0) (as := []) (st := [gr x53]) (g_no) rfl (fun _ _ _ e => tJ47_getKey_c27 hs e) (fun K _ _ _ hq hM R e1 e2 => g_runF (x := ⟨"java/util/Map$Entry", "getKey", "()Ljava/lang/Object;"⟩) (M := mX1_disputes) (pc := 81) (y := yJ47_getKey) (bytes := cJ47_getKey) (maxL := 1) (ret := (some (.object "java/lang/Object"))) (fr := 0) (lo := 0) (as := []) (st := [gr x53]) hq (C := "java/util/LinkedHashMap$Entry") rfl gy_J47_getKey rfl (gbl rfl) (gbl rfl) (gbl rfl) q3313 q3315 q3314 q3318 q3322 q3309 mhx_java_util_Map_Entry q3321 q1599 dX1_disputes_81 K hM R e1 e2) fun v56 h57 => ?_
    refine g_checkcast (pc := 86) q2784 as_10_FlareSlopes_Key dX1_disputes_86 ?_
    refine g_getfi (pc := 89) k_10 (gblt rfl) lk_X1_269_10 dX1_disputes_89 fun v58 => ?_
    refine g_br (pc := 92) (y := yJ20_valueOf) (ws := ws_ yJ20_valueOf cJ20_valueOf 1 (some (.object "java/lang/Integer"))) (fr := 3) (lo := 53) (as := [gi v58]) (st := [gr x53]) (g_no) rfl (fun _ _ e => tJ20_valueOf hs e) (fun K _ _ hM R e1 e2 => g_runS (M := mX1_disputes) (pc := 92) (y := yJ20_valueOf) (bytes := cJ20_valueOf) (maxL := 1) (ret := (some (.object "java/lang/Integer"))) (fr := 3) (lo := 53) (as := [gi v58]) (st := [gr x53]) gy_J20_valueOf (gbl rfl) (gbl rfl) (gbl rfl) q2785 q2786 dX1_disputes_92 K hM R e1 e2) fun v59 h60 => ?_
    refine g_bVi (pc := 95) (y := yJ40_add) (ws := ws_ yJ40_add cJ40_add 2 (some .boolean)) (fr := 6) (lo := 139) (as := [gr v59]) (st := []) (g_no) rfl (fun _ _ _ e => tJ40_add_c34 hs e) (fun K _ _ _ hq hM R e1 e2 => g_runF (x := ⟨"java/util/Set", "add", "(Ljava/lang/Object;)Z"⟩) (M := mX1_disputes) (pc := 95) (y := yJ40_add) (bytes := cJ40_add) (maxL := 2) (ret := (some .boolean)) (fr := 6) (lo := 139) (as := [gr v59]) (st := []) hq (C := "java/util/LinkedHashSet") rfl gy_J40_add rfl (gbl rfl) (gbl rfl) (gbl rfl) q2805 q2807 q2806 q2820 q2818 q1944 mhx_java_util_Set q2817 q2819 dX1_disputes_95 K hM R e1 e2) fun v61 h62 => ?_
    refine g_istore (pc := 100) (lv' := [(2, gr v1), (3, gr v5), (4, gr v14)]) [1, 2, 3] rfl (gblt rfl) dX1_disputes_100 ?_
    refine g_goto (pc := 102) (tgt := 36) rfl dX1_disputes_102 ?_
    exact Hw45 () h62
  refine g_if_eq (pc := 71) (tgt := 78) rfl dX1_disputes_71 ?_ ?_
  · refine g_aload_n (pc := 78) (x := v5) 2 rfl rfl dX1_disputes_78 ?_
    exact g_sub [1, 2, 3, 0] rfl (Hj55 v5 h51)
  refine g_aload_n (pc := 74) (x := v1) 1 rfl rfl dX1_disputes_74 ?_
  refine g_goto (pc := 75) (tgt := 79) rfl dX1_disputes_75 ?_
  exact g_sub [1, 2, 3, 0] rfl (Hj55 v1 h51)
