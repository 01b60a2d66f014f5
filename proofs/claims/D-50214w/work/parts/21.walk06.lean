set_option maxRecDepth 100000
set_option maxHeartbeats 4000000
/-! FlareSlopes.closesIn(II)I -/
noncomputable def sX1_closesIn (G : GG) (N : Nat) (a0 : Option Nat) (a1 : Int32) (a2 : Int32) (h : Hp) : Out (Int32) :=
  bV h a0 3 (fun q3 => sX1_holdsIn G N (some q3) a1 a2 (1 : Int32) h) fun v1 h2 =>
  some (.inl v1, h2)
abbrev mX1_closesIn : MI := (RX1, cX1_closesIn, 3, (some .int), [], 11, 211, "closesIn")
theorem tX1_closesIn {G : GG} {l : Launch} (hs : l.stackTraces = false) {N : Nat} {a0 : Option Nat} {a1 : Int32} {a2 : Int32} {h : Hp} {r : Int32 ⊕ Nat} {hf : Hp} (ho : sX1_closesIn G N a0 a1 a2 h = some (r, hf)) : gMet G l yX1_closesIn (ws_ yX1_closesIn cX1_closesIn 3 (some .int)) 11 211 [gr a0, gi a1, gi a2] h cvI r hf := by
  refine gMet.of ho hs (plainFor_of_name pn_X1) rfl rfl (gbl rfl) fun X => ?_
  show gT G l X mX1_closesIn cvI r hf 0 [(0, gr a0), (1, gi a1), (2, gi a2)] [] h (sX1_closesIn G N a0 a1 a2 h)
  delta sX1_closesIn
  refine g_aload_n (pc := 0) (x := a0) 0 rfl rfl dX1_closesIn_0 ?_
  refine g_iload_n (pc := 1) (x := a1) 1 rfl rfl dX1_closesIn_1 ?_
  refine g_iload_n (pc := 2) (x := a2) 2 rfl rfl dX1_closesIn_2 ?_
  refine g_iconst (pc := 3) (v := (1 : Int32)) ic_1 dX1_closesIn_3 ?_
  refine g_bVi (pc := 4) (y := yX1_holdsIn) (ws := ws_ yX1_holdsIn cX1_holdsIn 7 (some .int)) (fr := 10) (lo := 185) (as := [gi a1, gi a2, gi (1 : Int32)]) (st := []) (g_no) rfl (fun _ _ _ e => tX1_holdsIn hs e) (fun K _ _ _ hq hM R e1 e2 => g_runV (M := mX1_closesIn) (pc := 4) (y := yX1_holdsIn) (bytes := cX1_holdsIn) (maxL := 7) (ret := (some .int)) (fr := 10) (lo := 185) (as := [gi a1, gi a2, gi (1 : Int32)]) (st := []) hq (C := "FlareSlopes") rfl gy_X1_holdsIn (gbl rfl) (gbl rfl) (gbl rfl) q3462 q3464 qs46 dX1_closesIn_4 K hM R e1 e2) fun v1 h2 => ?_
  exact g_ireturn (pc := 7) rfl dX1_closesIn_7
/-! FlareSlopesLaw.closesIn(LFlareSlopes;II[J)I -/
noncomputable def sX0_closesIn (G : GG) (N : Nat) (a0 : Option Nat) (a1 : Int32) (a2 : Int32) (a3 : Option Nat) (h : Hp) : Out (Int32) :=
  bVX h a0 3 (fun q4 => sX1_closesIn G N (some q4) a1 a2 h) (fun v1 h2 =>
  gSl G h2 a3 3 (0 : Int32) (v1.toInt64) fun h3 =>
  some (.inl (0 : Int32), h3)) fun q5 h6 =>
  gSw h6 (some q5) 0 (some (.inl (1 : Int32), h6)) (gSw h6 (some q5) 2 (some (.inl (2 : Int32), h6)) (none))
abbrev mX0_closesIn : MI := (RX0, cX0_closesIn, 5, (some .int), [(0, 10, 13, 21), (0, 10, 17, 13)], 12, 233, "closesIn")
theorem tX0_closesIn {G : GG} {l : Launch} (hs : l.stackTraces = false) {N : Nat} {a0 : Option Nat} {a1 : Int32} {a2 : Int32} {a3 : Option Nat} {h : Hp} {r : Int32 ⊕ Nat} {hf : Hp} (ho : sX0_closesIn G N a0 a1 a2 a3 h = some (r, hf)) : gMet G l yX0_closesIn (wsW_ yX0_closesIn cX0_closesIn 5 (some .int) [(0, 10, 13, 21), (0, 10, 17, 13)]) 12 233 [gr a0, gi a1, gi a2, gr a3] h cvI r hf := by
  refine gMet.ofW ho hs (plainFor_of_name pn_X0) rfl rfl (gbl rfl) fun X => ?_
  show gT G l X mX0_closesIn cvI r hf 0 [(0, gr a0), (1, gi a1), (2, gi a2), (3, gr a3)] [] h (sX0_closesIn G N a0 a1 a2 a3 h)
  delta sX0_closesIn
  refine g_aload_n (pc := 0) (x := a3) 3 rfl rfl dX0_closesIn_0 ?_
  refine g_iconst (pc := 1) (v := (0 : Int32)) ic_0 dX0_closesIn_1 ?_
  refine g_aload_n (pc := 2) (x := a0) 0 rfl rfl dX0_closesIn_2 ?_
  refine g_iload_n (pc := 3) (x := a1) 1 rfl rfl dX0_closesIn_3 ?_
  refine g_iload_n (pc := 4) (x := a2) 2 rfl rfl dX0_closesIn_4 ?_
  refine g_bVXi (pc := 5) (y := yX1_closesIn) (ws := ws_ yX1_closesIn cX1_closesIn 3 (some .int)) (fr := 11) (lo := 211) (as := [gi a1, gi a2]) (st := [gi (0 : Int32), gr a3]) rfl (fun _ _ _ e => tX1_closesIn hs e) (fun K _ _ _ hq hM R e1 e2 => g_runV (M := mX0_closesIn) (pc := 5) (y := yX1_closesIn) (bytes := cX1_closesIn) (maxL := 3) (ret := (some .int)) (fr := 11) (lo := 211) (as := [gi a1, gi a2]) (st := [gi (0 : Int32), gr a3]) hq (C := "FlareSlopes") rfl gy_X1_closesIn (gbl rfl) (gbl rfl) (gbl rfl) q3458 q3459 q3460 dX0_closesIn_5 K hM R e1 e2) (fun v1 h2 => ?_) (fun q5 h6 => ?_)
  · refine g_i2l (pc := 8) dX0_closesIn_8 ?_
    refine g_lastore (pc := 9) rfl dX0_closesIn_9 fun h3 => ?_
    refine g_goto (pc := 10) (tgt := 21) rfl dX0_closesIn_10 ?_
    refine g_iconst (pc := 21) (v := (0 : Int32)) ic_0 dX0_closesIn_21 ?_
    exact g_ireturn (pc := 22) rfl dX0_closesIn_22
  refine g_catch (E := "java/lang/IllegalStateException") [] ⟨0, 10, 13, 21⟩ [⟨0, 10, 17, 13⟩] rfl rfl (List.forall_mem_nil _) (by decide +kernel) (by decide +kernel) q1425 q1439 ?_ ?_
  · refine g_astore (pc := 13) (lv' := []) [] rfl (gblt rfl) dX0_closesIn_13 ?_
    refine g_iconst (pc := 15) (v := (1 : Int32)) ic_1 dX0_closesIn_15 ?_
    exact g_ireturn (pc := 16) rfl dX0_closesIn_16
  refine g_catch (E := "java/lang/IndexOutOfBoundsException") [⟨0, 10, 13, 21⟩] ⟨0, 10, 17, 13⟩ [] rfl rfl (List.forall_mem_cons.mpr ⟨Or.inr ⟨by decide +kernel, _, q1425, ncl_java_lang_IndexOutOfBoundsException_java_lang_IllegalStateException⟩, List.forall_mem_nil _⟩) (by decide +kernel) (by decide +kernel) q325 q418 ?_ ?_
  · refine g_astore (pc := 17) (lv' := []) [] rfl (gblt rfl) dX0_closesIn_17 ?_
    refine g_iconst (pc := 19) (v := (2 : Int32)) ic_2 dX0_closesIn_19 ?_
    exact g_ireturn (pc := 20) rfl dX0_closesIn_20
  exact g_noneX
/-! FlareSlopesModel.thinks()V -/
noncomputable def sX2_thinks (G : GG) (N : Nat) (a0 : Option Nat) (h : Hp) : Out (Unit) :=
  gFr h a0 18 1 fun v1 =>
  gFr h a0 18 2 fun v2 =>
  bnd (sX2_copies G N v1 (0 : Int32) v2 (0 : Int32) h) fun v3 h4 =>
  some (.inl (), h4)
abbrev mX2_thinks : MI := (RX2, cX2_thinks, 1, none, [], 1, 24, "thinks")
theorem tX2_thinks {G : GG} {l : Launch} (hs : l.stackTraces = false) {N : Nat} {a0 : Option Nat} {h : Hp} {r : Unit ⊕ Nat} {hf : Hp} (ho : sX2_thinks G N a0 h = some (r, hf)) : gMet G l yX2_thinks (ws_ yX2_thinks cX2_thinks 1 none) 1 24 [gr a0] h cvU r hf := by
  refine gMet.of ho hs (plainFor_of_name pn_X2) rfl rfl (gbl rfl) fun X => ?_
  show gT G l X mX2_thinks cvU r hf 0 [(0, gr a0)] [] h (sX2_thinks G N a0 h)
  delta sX2_thinks
  refine g_aload_n (pc := 0) (x := a0) 0 rfl rfl dX2_thinks_0 ?_
  refine g_getfr (pc := 1) k_18 (gblt rfl) lk_X2_9_18 dX2_thinks_1 fun v1 => ?_
  refine g_iconst (pc := 4) (v := (0 : Int32)) ic_0 dX2_thinks_4 ?_
  refine g_aload_n (pc := 5) (x := a0) 0 rfl rfl dX2_thinks_5 ?_
  refine g_getfr (pc := 6) k_18 (gblt rfl) lk_X2_13_18 dX2_thinks_6 fun v2 => ?_
  refine g_iconst (pc := 9) (v := (0 : Int32)) ic_0 dX2_thinks_9 ?_
  refine g_bu (pc := 10) (y := yX2_copies) (ws := ws_ yX2_copies cX2_copies 5 none) (fr := 0) (lo := 0) (as := [gr v1, gi (0 : Int32), gr v2, gi (0 : Int32)]) (st := []) (g_no) rfl (fun _ _ e => tX2_copies hs e) (fun K _ _ hM R e1 e2 => g_runS (M := mX2_thinks) (pc := 10) (y := yX2_copies) (bytes := cX2_copies) (maxL := 5) (ret := none) (fr := 0) (lo := 0) (as := [gr v1, gi (0 : Int32), gr v2, gi (0 : Int32)]) (st := []) gy_X2_copies (gbl rfl) (gbl rfl) (gbl rfl) q4044 q4045 dX2_thinks_10 K hM R e1 e2) fun v3 h4 => ?_
  exact g_return (pc := 13) rfl dX2_thinks_13
/-! FlareSlopesModel.back(I)I -/
noncomputable def sX2_back (G : GG) (N : Nat) (a0 : Option Nat) (a1 : Int32) (h : Hp) : Out (Int32) :=
  gFr h a0 18 2 fun v1 =>
  gFr h a0 18 1 fun v2 =>
  bnd (sX2_copies G N v1 (0 : Int32) v2 (0 : Int32) h) fun v3 h4 =>
  some (.inl a1, h4)
abbrev mX2_back : MI := (RX2, cX2_back, 2, (some .int), [], 1, 24, "back")
theorem tX2_back {G : GG} {l : Launch} (hs : l.stackTraces = false) {N : Nat} {a0 : Option Nat} {a1 : Int32} {h : Hp} {r : Int32 ⊕ Nat} {hf : Hp} (ho : sX2_back G N a0 a1 h = some (r, hf)) : gMet G l yX2_back (ws_ yX2_back cX2_back 2 (some .int)) 1 24 [gr a0, gi a1] h cvI r hf := by
  refine gMet.of ho hs (plainFor_of_name pn_X2) rfl rfl (gbl rfl) fun X => ?_
  show gT G l X mX2_back cvI r hf 0 [(0, gr a0), (1, gi a1)] [] h (sX2_back G N a0 a1 h)
  delta sX2_back
  refine g_aload_n (pc := 0) (x := a0) 0 rfl rfl dX2_back_0 ?_
  refine g_getfr (pc := 1) k_18 (gblt rfl) lk_X2_13_18 dX2_back_1 fun v1 => ?_
  refine g_iconst (pc := 4) (v := (0 : Int32)) ic_0 dX2_back_4 ?_
  refine g_aload_n (pc := 5) (x := a0) 0 rfl rfl dX2_back_5 ?_
  refine g_getfr (pc := 6) k_18 (gblt rfl) lk_X2_9_18 dX2_back_6 fun v2 => ?_
  refine g_iconst (pc := 9) (v := (0 : Int32)) ic_0 dX2_back_9 ?_
  refine g_bu (pc := 10) (y := yX2_copies) (ws := ws_ yX2_copies cX2_copies 5 none) (fr := 0) (lo := 0) (as := [gr v1, gi (0 : Int32), gr v2, gi (0 : Int32)]) (st := []) (g_no) rfl (fun _ _ e => tX2_copies hs e) (fun K _ _ hM R e1 e2 => g_runS (M := mX2_back) (pc := 10) (y := yX2_copies) (bytes := cX2_copies) (maxL := 5) (ret := none) (fr := 0) (lo := 0) (as := [gr v1, gi (0 : Int32), gr v2, gi (0 : Int32)]) (st := []) gy_X2_copies (gbl rfl) (gbl rfl) (gbl rfl) q4044 q4045 dX2_back_10 K hM R e1 e2) fun v3 h4 => ?_
  refine g_iload_n (pc := 13) (x := a1) 1 rfl rfl dX2_back_13 ?_
  exact g_ireturn (pc := 14) rfl dX2_back_14
/-! FlareSlopesModel.forgets()V -/
noncomputable def bX2_forgets_4 (G : GG) (N : Nat) (a0 : Option Nat) (w3 : (Int32) → Hp → Out (Unit)) (x1 : Int32) (h2 : Hp) : Out (Unit) :=
  if (1058 : Int32) ≤ x1 then (some (.inl (), h2))
  else gFr h2 a0 18 1 fun v4 =>
  gAi h2 v4 0 x1 fun v5 =>
  gJ (fun (x6 : Unit) (h7 : Hp) =>
  w3 (x1 + (1 : Int32)) h7) fun j8 =>
  if v5 ≤ 0 then (j8 () h2)
  else gFr h2 a0 18 1 fun v9 =>
  gAi h2 v9 0 (90 : Int32) fun v10 =>
  gFr h2 a0 18 1 fun v11 =>
  gAi h2 v11 0 x1 fun v12 =>
  bnd (sX2_timeOf G N v12 h2) fun v13 h14 =>
  gFr h14 a0 18 1 fun v15 =>
  gAi h14 v15 0 (1 : Int32) fun v16 =>
  if (v10 - v13) < v16 then (j8 () h14)
  else gFr h14 a0 18 1 fun v17 =>
  gSi G h14 v17 0 x1 (0 : Int32) fun h18 =>
  j8 () h18
noncomputable def sX2_forgets (G : GG) (N : Nat) (a0 : Option Nat) (h : Hp) : Out (Unit) :=
  gLp (bX2_forgets_4 G N a0) N (258 : Int32) h
abbrev mX2_forgets : MI := (RX2, cX2_forgets, 2, none, [], 1, 20, "forgets")
theorem tX2_forgets {G : GG} {l : Launch} (hs : l.stackTraces = false) {N : Nat} {a0 : Option Nat} {h : Hp} {r : Unit ⊕ Nat} {hf : Hp} (ho : sX2_forgets G N a0 h = some (r, hf)) : gMet G l yX2_forgets (ws_ yX2_forgets cX2_forgets 2 none) 1 20 [gr a0] h cvU r hf := by
  refine gMet.of ho hs (plainFor_of_name pn_X2) rfl rfl (gbl rfl) fun X => ?_
  show gT G l X mX2_forgets cvU r hf 0 [(0, gr a0)] [] h (sX2_forgets G N a0 h)
  delta sX2_forgets
  refine g_sipush (pc := 0) (v := (258 : Int32)) sc_258 dX2_forgets_0 ?_
  refine g_istore_n (pc := 3) (lv' := [(1, gi (258 : Int32)), (0, gr a0)]) [0, 1] rfl rfl (gblt rfl) dX2_forgets_3 ?_
  refine g_sub (lv' := [(0, gr a0), (1, gi (258 : Int32))]) [1, 0] rfl ?_
  refine g_loop (pc := 4) (fun (x1 : Int32) => [(0, gr a0), (1, gi x1)]) (fun (_ : Int32) => []) (fun w3 Hw3 x1 h2 => ?_) N (258 : Int32) h
  delta bX2_forgets_4
  refine g_iload_n (pc := 4) (x := x1) 1 rfl rfl dX2_forgets_4 ?_
  refine g_sipush (pc := 5) (v := (1058 : Int32)) sc_1058 dX2_forgets_5 ?_
  refine g_icmp_ge (pc := 8) (tgt := 59) rfl dX2_forgets_8 ?_ ?_
  · exact g_return (pc := 59) rfl dX2_forgets_59
  refine g_aload_n (pc := 11) (x := a0) 0 rfl rfl dX2_forgets_11 ?_
  refine g_getfr (pc := 12) k_18 (gblt rfl) lk_X2_9_18 dX2_forgets_12 fun v4 => ?_
  refine g_iload_n (pc := 15) (x := x1) 1 rfl rfl dX2_forgets_15 ?_
  refine g_iaload (pc := 16) rfl dX2_forgets_16 fun v5 => ?_
  refine g_join 53 (fun (x6 : Unit) => [(0, gr a0), (1, gi x1)]) (fun (x6 : Unit) => []) (fun x6 h7 => ?_) (fun j8 Hj8 => ?_)
  · refine g_iinc (pc := 53) (v := x1 + (1 : Int32)) 1 rfl (ii_1 _) (lv' := [(1, gi (x1 + (1 : Int32))), (0, gr a0)]) [0, 1] rfl (gblt rfl) dX2_forgets_53 ?_
    refine g_goto (pc := 56) (tgt := 4) rfl dX2_forgets_56 ?_
    exact g_sub [1, 0] rfl (Hw3 (x1 + (1 : Int32)) h7)
  refine g_if_le (pc := 17) (tgt := 53) rfl dX2_forgets_17 ?_ ?_
  · exact Hj8 () h2
  refine g_aload_n (pc := 20) (x := a0) 0 rfl rfl dX2_forgets_20 ?_
  refine g_getfr (pc := 21) k_18 (gblt rfl) lk_X2_9_18 dX2_forgets_21 fun v9 => ?_
  refine g_bipush (pc := 24) (v := (90 : Int32)) bc_90 dX2_forgets_24 ?_
  refine g_iaload (pc := 26) rfl dX2_forgets_26 fun v10 => ?_
  refine g_aload_n (pc := 27) (x := a0) 0 rfl rfl dX2_forgets_27 ?_
  refine g_getfr (pc := 28) k_18 (gblt rfl) lk_X2_9_18 dX2_forgets_28 fun v11 => ?_
  refine g_iload_n (pc := 31) (x := x1) 1 rfl rfl dX2_forgets_31 ?_
  refine g_iaload (pc := 32) rfl dX2_forgets_32 fun v12 => ?_
  refine g_bi (pc := 33) (y := yX2_timeOf) (ws := ws_ yX2_timeOf cX2_timeOf 1 (some .int)) (fr := 0) (lo := 0) (as := [gi v12]) (st := [gi v10]) (g_no) rfl (fun _ _ e => tX2_timeOf hs e) (fun K _ _ hM R e1 e2 => g_runS (M := mX2_forgets) (pc := 33) (y := yX2_timeOf) (bytes := cX2_timeOf) (maxL := 1) (ret := (some .int)) (fr := 0) (lo := 0) (as := [gi v12]) (st := [gi v10]) gy_X2_timeOf (gbl rfl) (gbl rfl) (gbl rfl) q4356 q4357 dX2_forgets_33 K hM R e1 e2) fun v13 h14 => ?_
  refine g_isub (pc := 36) dX2_forgets_36 ?_
  refine g_aload_n (pc := 37) (x := a0) 0 rfl rfl dX2_forgets_37 ?_
  refine g_getfr (pc := 38) k_18 (gblt rfl) lk_X2_9_18 dX2_forgets_38 fun v15 => ?_
  refine g_iconst (pc := 41) (v := (1 : Int32)) ic_1 dX2_forgets_41 ?_
  refine g_iaload (pc := 42) rfl dX2_forgets_42 fun v16 => ?_
  refine g_icmp_lt (pc := 43) (tgt := 53) rfl dX2_forgets_43 ?_ ?_
  · exact Hj8 () h14
  refine g_aload_n (pc := 46) (x := a0) 0 rfl rfl dX2_forgets_46 ?_
  refine g_getfr (pc := 47) k_18 (gblt rfl) lk_X2_9_18 dX2_forgets_47 fun v17 => ?_
  refine g_iload_n (pc := 50) (x := x1) 1 rfl rfl dX2_forgets_50 ?_
  refine g_iconst (pc := 51) (v := (0 : Int32)) ic_0 dX2_forgets_51 ?_
  refine g_iastore (pc := 52) rfl dX2_forgets_52 fun h18 => ?_
  exact Hj8 () h18
/-! FlareSlopesModel.judges(II)V -/
noncomputable def sX2_judges (G : GG) (N : Nat) (a0 : Option Nat) (a1 : Int32) (a2 : Int32) (h : Hp) : Out (Unit) :=
  bV h a0 18 (fun q40 => sX2_ruling G N (some q40) a1 a2 h) fun v1 h2 =>
  bV h2 a0 18 (fun q39 => sX2_runOf G N (some q39) a1 a2 h2) fun v3 h4 =>
  gJ (fun (x5 : Int32) (h6 : Hp) =>
  gFr h6 a0 18 1 fun v8 =>
  gSi G h6 v8 0 (((178 : Int32) + ((8 : Int32) * a1)) + a2) x5 fun h9 =>
  bV h9 a0 18 (fun q34 => sX2_holds G N (some q34) a1 a2 h9) fun v10 h11 =>
  gJ (fun (x12 : Unit) (h13 : Hp) =>
  bV h13 a0 18 (fun q25 => sX2_holds G N (some q25) a1 a2 h13) fun v15 h16 =>
  if v15 = 0 then (some (.inl (), h16))
  else gFr h16 a0 18 1 fun v17 =>
  gAi h16 v17 0 (4 : Int32) fun v18 =>
  if (-v18) < x5 then (some (.inl (), h16))
  else gFr h16 a0 18 1 fun v19 =>
  gAi h16 v19 0 ((138 : Int32) + a1) fun v20 =>
  gSi G h16 v19 0 ((138 : Int32) + a1) (v20 - ((1 : Int32) <<< (a2 &&& 31))) fun h21 =>
  gFr h21 a0 18 1 fun v22 =>
  gAi h21 v22 0 (93 : Int32) fun v23 =>
  gSi G h21 v22 0 (93 : Int32) (v23 + (1 : Int32)) fun h24 =>
  some (.inl (), h24)) fun j14 =>
  if v10 = 0 then (gFr h11 a0 18 1 fun v26 =>
  gAi h11 v26 0 (3 : Int32) fun v27 =>
  if x5 < v27 then (j14 () h11)
  else gFr h11 a0 18 1 fun v28 =>
  gAi h11 v28 0 ((138 : Int32) + a1) fun v29 =>
  gSi G h11 v28 0 ((138 : Int32) + a1) (v29 + ((1 : Int32) <<< (a2 &&& 31))) fun h30 =>
  gFr h30 a0 18 1 fun v31 =>
  gAi h30 v31 0 (92 : Int32) fun v32 =>
  gSi G h30 v31 0 (92 : Int32) (v32 + (1 : Int32)) fun h33 =>
  some (.inl (), h33))
  else j14 () h11) fun j7 =>
  if v1 = 0 then (j7 (0 : Int32) h4)
  else if v1 ≤ 0 then (bnd (sJ14_min G N (0 : Int32) v3 h4) fun v35 h36 =>
  j7 (v35 - (1 : Int32)) h36)
  else bnd (sJ14_max G N (0 : Int32) v3 h4) fun v37 h38 =>
  j7 (v37 + (1 : Int32)) h38
abbrev mX2_judges : MI := (RX2, cX2_judges, 6, none, [], 5, 113, "judges")
theorem tX2_judges {G : GG} {l : Launch} (hs : l.stackTraces = false) {N : Nat} {a0 : Option Nat} {a1 : Int32} {a2 : Int32} {h : Hp} {r : Unit ⊕ Nat} {hf : Hp} (ho : sX2_judges G N a0 a1 a2 h = some (r, hf)) : gMet G l yX2_judges (ws_ yX2_judges cX2_judges 6 none) 5 113 [gr a0, gi a1, gi a2] h cvU r hf := by
  refine gMet.of ho hs (plainFor_of_name pn_X2) rfl rfl (gbl rfl) fun X => ?_
  show gT G l X mX2_judges cvU r hf 0 [(0, gr a0), (1, gi a1), (2, gi a2)] [] h (sX2_judges G N a0 a1 a2 h)
  delta sX2_judges
  refine g_aload_n (pc := 0) (x := a0) 0 rfl rfl dX2_judges_0 ?_
  refine g_iload_n (pc := 1) (x := a1) 1 rfl rfl dX2_judges_1 ?_
  refine g_iload_n (pc := 2) (x := a2) 2 rfl rfl dX2_judges_2 ?_
  refine g_bVi (pc := 3) (y := yX2_ruling) (ws := ws_ yX2_ruling cX2_ruling 5 (some .int)) (fr := 4) (lo := 89) (as := [gi a1, gi a2]) (st := []) (g_no) rfl (fun _ _ _ e => tX2_ruling hs e) (fun K _ _ _ hq hM R e1 e2 => g_runV (M := mX2_judges) (pc := 3) (y := yX2_ruling) (bytes := cX2_ruling) (maxL := 5) (ret := (some .int)) (fr := 4) (lo := 89) (as := [gi a1, gi a2]) (st := []) hq (C := "FlareSlopesModel") rfl gy_X2_ruling (gbl rfl) (gbl rfl) (gbl rfl) q4367 q4369 qs108 dX2_judges_3 K hM R e1 e2) fun v1 h2 => ?_
  refine g_istore_n (pc := 6) (lv' := [(3, gi v1), (0, gr a0), (1, gi a1), (2, gi a2)]) [0, 1, 2, 3] rfl rfl (gblt rfl) dX2_judges_6 ?_
  refine g_aload_n (pc := 7) (x := a0) 1 rfl rfl dX2_judges_7 ?_
  refine g_iload_n (pc := 8) (x := a1) 2 rfl rfl dX2_judges_8 ?_
  refine g_iload_n (pc := 9) (x := a2) 3 rfl rfl dX2_judges_9 ?_
  refine g_bVi (pc := 10) (y := yX2_runOf) (ws := ws_ yX2_runOf cX2_runOf 3 (some .int)) (fr := 0) (lo := 0) (as := [gi a1, gi a2]) (st := []) (g_no) rfl (fun _ _ _ e => tX2_runOf hs e) (fun K _ _ _ hq hM R e1 e2 => g_runV (M := mX2_judges) (pc := 10) (y := yX2_runOf) (bytes := cX2_runOf) (maxL := 3) (ret := (some .int)) (fr := 0) (lo := 0) (as := [gi a1, gi a2]) (st := []) hq (C := "FlareSlopesModel") rfl gy_X2_runOf (gbl rfl) (gbl rfl) (gbl rfl) q4375 q4377 qs109 dX2_judges_10 K hM R e1 e2) fun v3 h4 => ?_
  refine g_istore (pc := 13) (lv' := [(4, gi v3), (3, gi v1), (0, gr a0), (1, gi a1), (2, gi a2)]) [0, 1, 2, 3, 4] rfl (gblt rfl) dX2_judges_13 ?_
  refine g_iload_n (pc := 15) (x := v1) 1 rfl rfl dX2_judges_15 ?_
  refine g_join 46 (fun (x5 : Int32) => [(0, gr a0), (1, gi a1), (2, gi a2)]) (fun (x5 : Int32) => [gi x5]) (fun x5 h6 => ?_) (fun j7 Hj7 => ?_)
  · refine g_istore (pc := 46) (lv' := [(5, gi x5), (0, gr a0), (1, gi a1), (2, gi a2)]) [0, 1, 2, 3] rfl (gblt rfl) dX2_judges_46 ?_
    refine g_aload_n (pc := 48) (x := a0) 1 rfl rfl dX2_judges_48 ?_
    refine g_getfr (pc := 49) k_18 (gblt rfl) lk_X2_9_18 dX2_judges_49 fun v8 => ?_
    refine g_sipush (pc := 52) (v := (178 : Int32)) sc_178 dX2_judges_52 ?_
    refine g_bipush (pc := 55) (v := (8 : Int32)) bc_8 dX2_judges_55 ?_
    refine g_iload_n (pc := 57) (x := a1) 2 rfl rfl dX2_judges_57 ?_
    refine g_imul (pc := 58) dX2_judges_58 ?_
    refine g_iadd (pc := 59) dX2_judges_59 ?_
    refine g_iload_n (pc := 60) (x := a2) 3 rfl rfl dX2_judges_60 ?_
    refine g_iadd (pc := 61) dX2_judges_61 ?_
    refine g_iload (pc := 62) (x := x5) 0 rfl dX2_judges_62 ?_
    refine g_iastore (pc := 64) rfl dX2_judges_64 fun h9 => ?_
    refine g_aload_n (pc := 65) (x := a0) 1 rfl rfl dX2_judges_65 ?_
    refine g_iload_n (pc := 66) (x := a1) 2 rfl rfl dX2_judges_66 ?_
    refine g_iload_n (pc := 67) (x := a2) 3 rfl rfl dX2_judges_67 ?_
    refine g_bVi (pc := 68) (y := yX2_holds) (ws := ws_ yX2_holds cX2_holds 3 (some .boolean)) (fr := 1) (lo := 21) (as := [gi a1, gi a2]) (st := []) (g_no) rfl (fun _ _ _ e => tX2_holds hs e) (fun K _ _ _ hq hM R e1 e2 => g_runV (M := mX2_judges) (pc := 68) (y := yX2_holds) (bytes := cX2_holds) (maxL := 3) (ret := (some .boolean)) (fr := 1) (lo := 21) (as := [gi a1, gi a2]) (st := []) hq (C := "FlareSlopesModel") rfl gy_X2_holds (gbl rfl) (gbl rfl) (gbl rfl) q4253 q4255 qs95 dX2_judges_68 K hM R e1 e2) fun v10 h11 => ?_
    refine g_join 115 (fun (x12 : Unit) => [(0, gr a0), (1, gi a1), (2, gi a2), (5, gi x5)]) (fun (x12 : Unit) => []) (fun x12 h13 => ?_) (fun j14 Hj14 => ?_)
    · refine g_aload_n (pc := 115) (x := a0) 0 rfl rfl dX2_judges_115 ?_
      refine g_iload_n (pc := 116) (x := a1) 1 rfl rfl dX2_judges_116 ?_
      refine g_iload_n (pc := 117) (x := a2) 2 rfl rfl dX2_judges_117 ?_
      refine g_bVi (pc := 118) (y := yX2_holds) (ws := ws_ yX2_holds cX2_holds 3 (some .boolean)) (fr := 1) (lo := 21) (as := [gi a1, gi a2]) (st := []) (g_no) rfl (fun _ _ _ e => tX2_holds hs e) (fun K _ _ _ hq hM R e1 e2 => g_runV (M := mX2_judges) (pc := 118) (y := yX2_holds) (bytes := cX2_holds) (maxL := 3) (ret := (some .boolean)) (fr := 1) (lo := 21) (as := [gi a1, gi a2]) (st := []) hq (C := "FlareSlopesModel") rfl gy_X2_holds (gbl rfl) (gbl rfl) (gbl rfl) q4253 q4255 qs95 dX2_judges_118 K hM R e1 e2) fun v15 h16 => ?_
      refine g_if_eq (pc := 121) (tgt := 163) rfl dX2_judges_121 ?_ ?_
      · exact g_return (pc := 163) rfl dX2_judges_163
      refine g_iload (pc := 124) (x := x5) 3 rfl dX2_judges_124 ?_
      refine g_aload_n (pc := 126) (x := a0) 0 rfl rfl dX2_judges_126 ?_
      refine g_getfr (pc := 127) k_18 (gblt rfl) lk_X2_9_18 dX2_judges_127 fun v17 => ?_
      refine g_iconst (pc := 130) (v := (4 : Int32)) ic_4 dX2_judges_130 ?_
      refine g_iaload (pc := 131) rfl dX2_judges_131 fun v18 => ?_
      refine g_ineg (pc := 132) dX2_judges_132 ?_
      refine g_icmp_gt (pc := 133) (tgt := 163) rfl dX2_judges_133 ?_ ?_
      · exact g_return (pc := 163) rfl dX2_judges_163
      refine g_aload_n (pc := 136) (x := a0) 0 rfl rfl dX2_judges_136 ?_
      refine g_getfr (pc := 137) k_18 (gblt rfl) lk_X2_9_18 dX2_judges_137 fun v19 => ?_
      refine g_sipush (pc := 140) (v := (138 : Int32)) sc_138 dX2_judges_140 ?_
      refine g_iload_n (pc := 143) (x := a1) 1 rfl rfl dX2_judges_143 ?_
      refine g_iadd (pc := 144) dX2_judges_144 ?_
      refine g_dup2 (pc := 145) rfl rfl dX2_judges_145 ?_
      refine g_iaload (pc := 146) rfl dX2_judges_146 fun v20 => ?_
      refine g_iconst (pc := 147) (v := (1 : Int32)) ic_1 dX2_judges_147 ?_
      refine g_iload_n (pc := 148) (x := a2) 2 rfl rfl dX2_judges_148 ?_
      refine g_ishl (pc := 149) dX2_judges_149 ?_
      refine g_isub (pc := 150) dX2_judges_150 ?_
      refine g_iastore (pc := 151) rfl dX2_judges_151 fun h21 => ?_
      refine g_aload_n (pc := 152) (x := a0) 0 rfl rfl dX2_judges_152 ?_
      refine g_getfr (pc := 153) k_18 (gblt rfl) lk_X2_9_18 dX2_judges_153 fun v22 => ?_
      refine g_bipush (pc := 156) (v := (93 : Int32)) bc_93 dX2_judges_156 ?_
      refine g_dup2 (pc := 158) rfl rfl dX2_judges_158 ?_
      refine g_iaload (pc := 159) rfl dX2_judges_159 fun v23 => ?_
      refine g_iconst (pc := 160) (v := (1 : Int32)) ic_1 dX2_judges_160 ?_
      refine g_iadd (pc := 161) dX2_judges_161 ?_
      refine g_iastore (pc := 162) rfl dX2_judges_162 fun h24 => ?_
      exact g_return (pc := 163) rfl dX2_judges_163
    refine g_if_ne (pc := 71) (tgt := 115) rfl dX2_judges_71 ?_ ?_
    rotate_left
    · exact g_sub [1, 2, 3, 0] rfl (Hj14 () h11)
    refine g_iload (pc := 74) (x := x5) 0 rfl dX2_judges_74 ?_
    refine g_aload_n (pc := 76) (x := a0) 1 rfl rfl dX2_judges_76 ?_
    refine g_getfr (pc := 77) k_18 (gblt rfl) lk_X2_9_18 dX2_judges_77 fun v26 => ?_
    refine g_iconst (pc := 80) (v := (3 : Int32)) ic_3 dX2_judges_80 ?_
    refine g_iaload (pc := 81) rfl dX2_judges_81 fun v27 => ?_
    refine g_icmp_lt (pc := 82) (tgt := 115) rfl dX2_judges_82 ?_ ?_
    · exact g_sub [1, 2, 3, 0] rfl (Hj14 () h11)
    refine g_aload_n (pc := 85) (x := a0) 1 rfl rfl dX2_judges_85 ?_
    refine g_getfr (pc := 86) k_18 (gblt rfl) lk_X2_9_18 dX2_judges_86 fun v28 => ?_
    refine g_sipush (pc := 89) (v := (138 : Int32)) sc_138 dX2_judges_89 ?_
    refine g_iload_n (pc := 92) (x := a1) 2 rfl rfl dX2_judges_92 ?_
    refine g_iadd (pc := 93) dX2_judges_93 ?_
    refine g_dup2 (pc := 94) rfl rfl dX2_judges_94 ?_
    refine g_iaload (pc := 95) rfl dX2_judges_95 fun v29 => ?_
    refine g_iconst (pc := 96) (v := (1 : Int32)) ic_1 dX2_judges_96 ?_
    refine g_iload_n (pc := 97) (x := a2) 3 rfl rfl dX2_judges_97 ?_
    refine g_ishl (pc := 98) dX2_judges_98 ?_
    refine g_iadd (pc := 99) dX2_judges_99 ?_
    refine g_iastore (pc := 100) rfl dX2_judges_100 fun h30 => ?_
    refine g_aload_n (pc := 101) (x := a0) 1 rfl rfl dX2_judges_101 ?_
    refine g_getfr (pc := 102) k_18 (gblt rfl) lk_X2_9_18 dX2_judges_102 fun v31 => ?_
    refine g_bipush (pc := 105) (v := (92 : Int32)) bc_92 dX2_judges_105 ?_
    refine g_dup2 (pc := 107) rfl rfl dX2_judges_107 ?_
    refine g_iaload (pc := 108) rfl dX2_judges_108 fun v32 => ?_
    refine g_iconst (pc := 109) (v := (1 : Int32)) ic_1 dX2_judges_109 ?_
    refine g_iadd (pc := 110) dX2_judges_110 ?_
    refine g_iastore (pc := 111) rfl dX2_judges_111 fun h33 => ?_
    refine g_goto (pc := 112) (tgt := 163) rfl dX2_judges_112 ?_
    exact g_return (pc := 163) rfl dX2_judges_163
  refine g_if_ne (pc := 16) (tgt := 23) rfl dX2_judges_16 ?_ ?_
  · refine g_iconst (pc := 19) (v := (0 : Int32)) ic_0 dX2_judges_19 ?_
    refine g_goto (pc := 20) (tgt := 46) rfl dX2_judges_20 ?_
    exact g_sub [2, 3, 4] rfl (Hj7 (0 : Int32) h4)
  refine g_iload_n (pc := 23) (x := v1) 1 rfl rfl dX2_judges_23 ?_
  refine g_if_le (pc := 24) (tgt := 38) rfl dX2_judges_24 ?_ ?_
  · refine g_iconst (pc := 38) (v := (0 : Int32)) ic_0 dX2_judges_38 ?_
    refine g_iload (pc := 39) (x := v3) 0 rfl dX2_judges_39 ?_
    refine g_bi (pc := 41) (y := yJ14_min) (ws := ws_ yJ14_min cJ14_min 2 (some .int)) (fr := 0) (lo := 0) (as := [gi (0 : Int32), gi v3]) (st := []) (g_no) rfl (fun _ _ e => tJ14_min hs e) (fun K _ _ hM R e1 e2 => g_runS (M := mX2_judges) (pc := 41) (y := yJ14_min) (bytes := cJ14_min) (maxL := 2) (ret := (some .int)) (fr := 0) (lo := 0) (as := [gi (0 : Int32), gi v3]) (st := []) gy_J14_min (gbl rfl) (gbl rfl) (gbl rfl) q4447 q656 dX2_judges_41 K hM R e1 e2) fun v35 h36 => ?_
    refine g_iconst (pc := 44) (v := (1 : Int32)) ic_1 dX2_judges_44 ?_
    refine g_isub (pc := 45) dX2_judges_45 ?_
    exact g_sub [2, 3, 4] rfl (Hj7 (v35 - (1 : Int32)) h36)
  refine g_iconst (pc := 27) (v := (0 : Int32)) ic_0 dX2_judges_27 ?_
  refine g_iload (pc := 28) (x := v3) 0 rfl dX2_judges_28 ?_
  refine g_bi (pc := 30) (y := yJ14_max) (ws := ws_ yJ14_max cJ14_max 2 (some .int)) (fr := 0) (lo := 0) (as := [gi (0 : Int32), gi v3]) (st := []) (g_no) rfl (fun _ _ e => tJ14_max hs e) (fun K _ _ hM R e1 e2 => g_runS (M := mX2_judges) (pc := 30) (y := yJ14_max) (bytes := cJ14_max) (maxL := 2) (ret := (some .int)) (fr := 0) (lo := 0) (as := [gi (0 : Int32), gi v3]) (st := []) gy_J14_max (gbl rfl) (gbl rfl) (gbl rfl) q4190 q638 dX2_judges_30 K hM R e1 e2) fun v37 h38 => ?_
  refine g_iconst (pc := 33) (v := (1 : Int32)) ic_1 dX2_judges_33 ?_
  refine g_iadd (pc := 34) dX2_judges_34 ?_
  refine g_goto (pc := 35) (tgt := 46) rfl dX2_judges_35 ?_
  exact g_sub [2, 3, 4] rfl (Hj7 (v37 + (1 : Int32)) h38)
/-! FlareSlopesModel.ticks()V -/
noncomputable def bX2_ticks_30 (G : GG) (N : Nat) (a0 : Option Nat) (x6 : Int32) (j13 : (Unit) → Hp → Out (Unit)) (w16 : (Int32) → Hp → Out (Unit)) (x14 : Int32) (h15 : Hp) : Out (Unit) :=
  gFr h15 a0 18 1 fun v17 =>
  gAi h15 v17 0 (7 : Int32) fun v18 =>
  if v18 ≤ x14 then (j13 () h15)
  else bV h15 a0 18 (fun q21 => sX2_judges G N (some q21) x6 x14 h15) fun v19 h20 =>
  w16 (x14 + (1 : Int32)) h20
noncomputable def bX2_ticks_17 (G : GG) (N : Nat) (a0 : Option Nat) (w8 : (Int32) → Hp → Out (Unit)) (x6 : Int32) (h7 : Hp) : Out (Unit) :=
  gFr h7 a0 18 1 fun v9 =>
  gAi h7 v9 0 (6 : Int32) fun v10 =>
  if v10 ≤ x6 then (some (.inl (), h7))
  else gJ (fun (x11 : Unit) (h12 : Hp) =>
  w8 (x6 + (1 : Int32)) h12) fun j13 =>
  gLp (bX2_ticks_30 G N a0 x6 j13) N (0 : Int32) h7
noncomputable def sX2_ticks (G : GG) (N : Nat) (a0 : Option Nat) (h : Hp) : Out (Unit) :=
  gFr h a0 18 1 fun v1 =>
  gAi h v1 0 (90 : Int32) fun v2 =>
  gSi G h v1 0 (90 : Int32) (v2 + (1 : Int32)) fun h3 =>
  bV h3 a0 18 (fun q22 => sX2_forgets G N (some q22) h3) fun v4 h5 =>
  gLp (bX2_ticks_17 G N a0) N (0 : Int32) h5
abbrev mX2_ticks : MI := (RX2, cX2_ticks, 3, none, [], 6, 138, "ticks")
theorem tX2_ticks {G : GG} {l : Launch} (hs : l.stackTraces = false) {N : Nat} {a0 : Option Nat} {h : Hp} {r : Unit ⊕ Nat} {hf : Hp} (ho : sX2_ticks G N a0 h = some (r, hf)) : gMet G l yX2_ticks (ws_ yX2_ticks cX2_ticks 3 none) 6 138 [gr a0] h cvU r hf := by
  refine gMet.of ho hs (plainFor_of_name pn_X2) rfl rfl (gbl rfl) fun X => ?_
  show gT G l X mX2_ticks cvU r hf 0 [(0, gr a0)] [] h (sX2_ticks G N a0 h)
  delta sX2_ticks
  refine g_aload_n (pc := 0) (x := a0) 0 rfl rfl dX2_ticks_0 ?_
  refine g_getfr (pc := 1) k_18 (gblt rfl) lk_X2_9_18 dX2_ticks_1 fun v1 => ?_
  refine g_bipush (pc := 4) (v := (90 : Int32)) bc_90 dX2_ticks_4 ?_
  refine g_dup2 (pc := 6) rfl rfl dX2_ticks_6 ?_
  refine g_iaload (pc := 7) rfl dX2_ticks_7 fun v2 => ?_
  refine g_iconst (pc := 8) (v := (1 : Int32)) ic_1 dX2_ticks_8 ?_
  refine g_iadd (pc := 9) dX2_ticks_9 ?_
  refine g_iastore (pc := 10) rfl dX2_ticks_10 fun h3 => ?_
  refine g_aload_n (pc := 11) (x := a0) 0 rfl rfl dX2_ticks_11 ?_
  refine g_bVu (pc := 12) (y := yX2_forgets) (ws := ws_ yX2_forgets cX2_forgets 2 none) (fr := 1) (lo := 20) (as := []) (st := []) (g_no) rfl (fun _ _ _ e => tX2_forgets hs e) (fun K _ _ _ hq hM R e1 e2 => g_runV (M := mX2_ticks) (pc := 12) (y := yX2_forgets) (bytes := cX2_forgets) (maxL := 2) (ret := none) (fr := 1) (lo := 20) (as := []) (st := []) hq (C := "FlareSlopesModel") rfl gy_X2_forgets (gbl rfl) (gbl rfl) (gbl rfl) q4468 q4470 qs117 dX2_ticks_12 K hM R e1 e2) fun v4 h5 => ?_
  refine g_iconst (pc := 15) (v := (0 : Int32)) ic_0 dX2_ticks_15 ?_
  refine g_istore_n (pc := 16) (lv' := [(1, gi (0 : Int32)), (0, gr a0)]) [0, 1] rfl rfl (gblt rfl) dX2_ticks_16 ?_
  refine g_sub (lv' := [(0, gr a0), (1, gi (0 : Int32))]) [1, 0] rfl ?_
  refine g_loop (pc := 17) (fun (x6 : Int32) => [(0, gr a0), (1, gi x6)]) (fun (_ : Int32) => []) (fun w8 Hw8 x6 h7 => ?_) N (0 : Int32) h5
  delta bX2_ticks_17
  refine g_iload_n (pc := 17) (x := x6) 1 rfl rfl dX2_ticks_17 ?_
  refine g_aload_n (pc := 18) (x := a0) 0 rfl rfl dX2_ticks_18 ?_
  refine g_getfr (pc := 19) k_18 (gblt rfl) lk_X2_9_18 dX2_ticks_19 fun v9 => ?_
  refine g_bipush (pc := 22) (v := (6 : Int32)) bc_6 dX2_ticks_22 ?_
  refine g_iaload (pc := 24) rfl dX2_ticks_24 fun v10 => ?_
  refine g_icmp_ge (pc := 25) (tgt := 59) rfl dX2_ticks_25 ?_ ?_
  · exact g_return (pc := 59) rfl dX2_ticks_59
  refine g_iconst (pc := 28) (v := (0 : Int32)) ic_0 dX2_ticks_28 ?_
  refine g_istore_n (pc := 29) (lv' := [(2, gi (0 : Int32)), (0, gr a0), (1, gi x6)]) [0, 1, 2] rfl rfl (gblt rfl) dX2_ticks_29 ?_
  refine g_join 53 (fun (x11 : Unit) => [(0, gr a0), (1, gi x6)]) (fun (x11 : Unit) => []) (fun x11 h12 => ?_) (fun j13 Hj13 => ?_)
  · refine g_iinc (pc := 53) (v := x6 + (1 : Int32)) 1 rfl (ii_1 _) (lv' := [(1, gi (x6 + (1 : Int32))), (0, gr a0)]) [0, 1] rfl (gblt rfl) dX2_ticks_53 ?_
    refine g_goto (pc := 56) (tgt := 17) rfl dX2_ticks_56 ?_
    exact g_sub [1, 0] rfl (Hw8 (x6 + (1 : Int32)) h12)
  refine g_sub (lv' := [(0, gr a0), (1, gi x6), (2, gi (0 : Int32))]) [1, 2, 0] rfl ?_
  refine g_loop (pc := 30) (fun (x14 : Int32) => [(0, gr a0), (1, gi x6), (2, gi x14)]) (fun (_ : Int32) => []) (fun w16 Hw16 x14 h15 => ?_) N (0 : Int32) h7
  delta bX2_ticks_30
  refine g_iload_n (pc := 30) (x := x14) 2 rfl rfl dX2_ticks_30 ?_
  refine g_aload_n (pc := 31) (x := a0) 0 rfl rfl dX2_ticks_31 ?_
  refine g_getfr (pc := 32) k_18 (gblt rfl) lk_X2_9_18 dX2_ticks_32 fun v17 => ?_
  refine g_bipush (pc := 35) (v := (7 : Int32)) bc_7 dX2_ticks_35 ?_
  refine g_iaload (pc := 37) rfl dX2_ticks_37 fun v18 => ?_
  refine g_icmp_ge (pc := 38) (tgt := 53) rfl dX2_ticks_38 ?_ ?_
  · exact g_sub [0, 1] rfl (Hj13 () h15)
  refine g_aload_n (pc := 41) (x := a0) 0 rfl rfl dX2_ticks_41 ?_
  refine g_iload_n (pc := 42) (x := x6) 1 rfl rfl dX2_ticks_42 ?_
  refine g_iload_n (pc := 43) (x := x14) 2 rfl rfl dX2_ticks_43 ?_
  refine g_bVu (pc := 44) (y := yX2_judges) (ws := ws_ yX2_judges cX2_judges 6 none) (fr := 5) (lo := 113) (as := [gi x6, gi x14]) (st := []) (g_no) rfl (fun _ _ _ e => tX2_judges hs e) (fun K _ _ _ hq hM R e1 e2 => g_runV (M := mX2_ticks) (pc := 44) (y := yX2_judges) (bytes := cX2_judges) (maxL := 6) (ret := none) (fr := 5) (lo := 113) (as := [gi x6, gi x14]) (st := []) hq (C := "FlareSlopesModel") rfl gy_X2_judges (gbl rfl) (gbl rfl) (gbl rfl) q4472 q4474 qs118 dX2_ticks_44 K hM R e1 e2) fun v19 h20 => ?_
  refine g_iinc (pc := 47) (v := x14 + (1 : Int32)) 2 rfl (ii_1 _) (lv' := [(2, gi (x14 + (1 : Int32))), (0, gr a0), (1, gi x6)]) [0, 1, 2] rfl (gblt rfl) dX2_ticks_47 ?_
  refine g_goto (pc := 50) (tgt := 30) rfl dX2_ticks_50 ?_
  exact g_sub [1, 2, 0] rfl (Hw16 (x14 + (1 : Int32)) h20)
/-! FlareSlopesModel.holdsIn(IIZ)I -/
noncomputable def bX2_holdsIn_7 (G : GG) (N : Nat) (a0 : Option Nat) (a1 : Int32) (a2 : Int32) (a3 : Int32) (j5 : (Int32) → Hp → Out (Int32)) (j11 : (Unit) → Hp → Out (Int32)) (w17 : (Int32) → Hp → Out (Int32)) (x15 : Int32) (h16 : Hp) : Out (Int32) :=
  if (200 : Int32) < x15 then (j11 () h16)
  else bV h16 a0 18 (fun q23 => sX2_holds G N (some q23) a1 a2 h16) fun v18 h19 =>
  if v18 = a3 then (j5 x15 h19)
  else bV h19 a0 18 (fun q22 => sX2_ticks G N (some q22) h19) fun v20 h21 =>
  w17 (x15 + (1 : Int32)) h21
noncomputable def sX2_holdsIn (G : GG) (N : Nat) (a0 : Option Nat) (a1 : Int32) (a2 : Int32) (a3 : Int32) (h : Hp) : Out (Int32) :=
  bV h a0 18 (fun q24 => sX2_thinks G N (some q24) h) fun v1 h2 =>
  gJ (fun (x3 : Int32) (h4 : Hp) =>
  bV h4 a0 18 (fun q8 => sX2_back G N (some q8) x3 h4) fun v6 h7 =>
  some (.inl v6, h7)) fun j5 =>
  gJ (fun (x9 : Unit) (h10 : Hp) =>
  bV h10 a0 18 (fun q14 => sX2_back G N (some q14) (-1 : Int32) h10) fun v12 h13 =>
  some (.inl v12, h13)) fun j11 =>
  gLp (bX2_holdsIn_7 G N a0 a1 a2 a3 j5 j11) N (0 : Int32) h2
abbrev mX2_holdsIn : MI := (RX2, cX2_holdsIn, 5, (some .int), [], 7, 160, "holdsIn")
theorem tX2_holdsIn {G : GG} {l : Launch} (hs : l.stackTraces = false) {N : Nat} {a0 : Option Nat} {a1 : Int32} {a2 : Int32} {a3 : Int32} {h : Hp} {r : Int32 ⊕ Nat} {hf : Hp} (ho : sX2_holdsIn G N a0 a1 a2 a3 h = some (r, hf)) : gMet G l yX2_holdsIn (ws_ yX2_holdsIn cX2_holdsIn 5 (some .int)) 7 160 [gr a0, gi a1, gi a2, gi a3] h cvI r hf := by
  refine gMet.of ho hs (plainFor_of_name pn_X2) rfl rfl (gbl rfl) fun X => ?_
  show gT G l X mX2_holdsIn cvI r hf 0 [(0, gr a0), (1, gi a1), (2, gi a2), (3, gi a3)] [] h (sX2_holdsIn G N a0 a1 a2 a3 h)
  delta sX2_holdsIn
  refine g_aload_n (pc := 0) (x := a0) 0 rfl rfl dX2_holdsIn_0 ?_
  refine g_bVu (pc := 1) (y := yX2_thinks) (ws := ws_ yX2_thinks cX2_thinks 1 none) (fr := 1) (lo := 24) (as := []) (st := []) (g_no) rfl (fun _ _ _ e => tX2_thinks hs e) (fun K _ _ _ hq hM R e1 e2 => g_runV (M := mX2_holdsIn) (pc := 1) (y := yX2_thinks) (bytes := cX2_thinks) (maxL := 1) (ret := none) (fr := 1) (lo := 24) (as := []) (st := []) hq (C := "FlareSlopesModel") rfl gy_X2_thinks (gbl rfl) (gbl rfl) (gbl rfl) q4456 q4458 qs114 dX2_holdsIn_1 K hM R e1 e2) fun v1 h2 => ?_
  refine g_iconst (pc := 4) (v := (0 : Int32)) ic_0 dX2_holdsIn_4 ?_
  refine g_istore (pc := 5) (lv' := [(4, gi (0 : Int32)), (0, gr a0), (1, gi a1), (2, gi a2), (3, gi a3)]) [0, 1, 2, 3, 4] rfl (gblt rfl) dX2_holdsIn_5 ?_
  refine g_join 25 (fun (x3 : Int32) => [(0, gr a0), (4, gi x3)]) (fun (x3 : Int32) => []) (fun x3 h4 => ?_) (fun j5 Hj5 => ?_)
  · refine g_aload_n (pc := 25) (x := a0) 0 rfl rfl dX2_holdsIn_25 ?_
    refine g_iload (pc := 26) (x := x3) 1 rfl dX2_holdsIn_26 ?_
    refine g_bVi (pc := 28) (y := yX2_back) (ws := ws_ yX2_back cX2_back 2 (some .int)) (fr := 1) (lo := 24) (as := [gi x3]) (st := []) (g_no) rfl (fun _ _ _ e => tX2_back hs e) (fun K _ _ _ hq hM R e1 e2 => g_runV (M := mX2_holdsIn) (pc := 28) (y := yX2_back) (bytes := cX2_back) (maxL := 2) (ret := (some .int)) (fr := 1) (lo := 24) (as := [gi x3]) (st := []) hq (C := "FlareSlopesModel") rfl gy_X2_back (gbl rfl) (gbl rfl) (gbl rfl) q4460 q4462 qs115 dX2_holdsIn_28 K hM R e1 e2) fun v6 h7 => ?_
    exact g_ireturn (pc := 31) rfl dX2_holdsIn_31
  refine g_join 42 (fun (x9 : Unit) => [(0, gr a0)]) (fun (x9 : Unit) => []) (fun x9 h10 => ?_) (fun j11 Hj11 => ?_)
  · refine g_aload_n (pc := 42) (x := a0) 0 rfl rfl dX2_holdsIn_42 ?_
    refine g_iconst (pc := 43) (v := (-1 : Int32)) ic_m1 dX2_holdsIn_43 ?_
    refine g_bVi (pc := 44) (y := yX2_back) (ws := ws_ yX2_back cX2_back 2 (some .int)) (fr := 1) (lo := 24) (as := [gi (-1 : Int32)]) (st := []) (g_no) rfl (fun _ _ _ e => tX2_back hs e) (fun K _ _ _ hq hM R e1 e2 => g_runV (M := mX2_holdsIn) (pc := 44) (y := yX2_back) (bytes := cX2_back) (maxL := 2) (ret := (some .int)) (fr := 1) (lo := 24) (as := [gi (-1 : Int32)]) (st := []) hq (C := "FlareSlopesModel") rfl gy_X2_back (gbl rfl) (gbl rfl) (gbl rfl) q4460 q4462 qs115 dX2_holdsIn_44 K hM R e1 e2) fun v12 h13 => ?_
    exact g_ireturn (pc := 47) rfl dX2_holdsIn_47
  refine g_sub (lv' := [(0, gr a0), (1, gi a1), (2, gi a2), (3, gi a3), (4, gi (0 : Int32))]) [1, 2, 3, 4, 0] rfl ?_
  refine g_loop (pc := 7) (fun (x15 : Int32) => [(0, gr a0), (1, gi a1), (2, gi a2), (3, gi a3), (4, gi x15)]) (fun (_ : Int32) => []) (fun w17 Hw17 x15 h16 => ?_) N (0 : Int32) h2
  delta bX2_holdsIn_7
  refine g_iload (pc := 7) (x := x15) 4 rfl dX2_holdsIn_7 ?_
  refine g_sipush (pc := 9) (v := (200 : Int32)) sc_200 dX2_holdsIn_9 ?_
  refine g_icmp_gt (pc := 12) (tgt := 42) rfl dX2_holdsIn_12 ?_ ?_
  · exact g_sub [0] rfl (Hj11 () h16)
  refine g_aload_n (pc := 15) (x := a0) 0 rfl rfl dX2_holdsIn_15 ?_
  refine g_iload_n (pc := 16) (x := a1) 1 rfl rfl dX2_holdsIn_16 ?_
  refine g_iload_n (pc := 17) (x := a2) 2 rfl rfl dX2_holdsIn_17 ?_
  refine g_bVi (pc := 18) (y := yX2_holds) (ws := ws_ yX2_holds cX2_holds 3 (some .boolean)) (fr := 1) (lo := 21) (as := [gi a1, gi a2]) (st := []) (g_no) rfl (fun _ _ _ e => tX2_holds hs e) (fun K _ _ _ hq hM R e1 e2 => g_runV (M := mX2_holdsIn) (pc := 18) (y := yX2_holds) (bytes := cX2_holds) (maxL := 3) (ret := (some .boolean)) (fr := 1) (lo := 21) (as := [gi a1, gi a2]) (st := []) hq (C := "FlareSlopesModel") rfl gy_X2_holds (gbl rfl) (gbl rfl) (gbl rfl) q4253 q4255 qs95 dX2_holdsIn_18 K hM R e1 e2) fun v18 h19 => ?_
  refine g_iload_n (pc := 21) (x := a3) 3 rfl rfl dX2_holdsIn_21 ?_
  refine g_icmp_ne (pc := 22) (tgt := 32) rfl dX2_holdsIn_22 ?_ ?_
  · exact g_sub [0, 4] rfl (Hj5 x15 h19)
  refine g_aload_n (pc := 32) (x := a0) 0 rfl rfl dX2_holdsIn_32 ?_
  refine g_bVu (pc := 33) (y := yX2_ticks) (ws := ws_ yX2_ticks cX2_ticks 3 none) (fr := 6) (lo := 138) (as := []) (st := []) (g_no) rfl (fun _ _ _ e => tX2_ticks hs e) (fun K _ _ _ hq hM R e1 e2 => g_runV (M := mX2_holdsIn) (pc := 33) (y := yX2_ticks) (bytes := cX2_ticks) (maxL := 3) (ret := none) (fr := 6) (lo := 138) (as := []) (st := []) hq (C := "FlareSlopesModel") rfl gy_X2_ticks (gbl rfl) (gbl rfl) (gbl rfl) q4464 q4466 qs116 dX2_holdsIn_33 K hM R e1 e2) fun v20 h21 => ?_
  refine g_iinc (pc := 36) (v := x15 + (1 : Int32)) 4 rfl (ii_1 _) (lv' := [(4, gi (x15 + (1 : Int32))), (0, gr a0), (1, gi a1), (2, gi a2), (3, gi a3)]) [0, 1, 2, 3, 4] rfl (gblt rfl) dX2_holdsIn_36 ?_
  refine g_goto (pc := 39) (tgt := 7) rfl dX2_holdsIn_39 ?_
  exact g_sub [1, 2, 3, 4, 0] rfl (Hw17 (x15 + (1 : Int32)) h21)
/-! FlareSlopesModel.closesIn(II)I -/
noncomputable def sX2_closesIn (G : GG) (N : Nat) (a0 : Option Nat) (a1 : Int32) (a2 : Int32) (h : Hp) : Out (Int32) :=
  bV h a0 18 (fun q6 => sX2_mayBoth G N (some q6) a1 a2 h) fun v1 h2 =>
  if v1 = 0 then (some (.inl (0 : Int32), h2))
  else bV h2 a0 18 (fun q5 => sX2_holdsIn G N (some q5) a1 a2 (1 : Int32) h2) fun v3 h4 =>
  some (.inl v3, h4)
abbrev mX2_closesIn : MI := (RX2, cX2_closesIn, 3, (some .int), [], 8, 184, "closesIn")
theorem tX2_closesIn {G : GG} {l : Launch} (hs : l.stackTraces = false) {N : Nat} {a0 : Option Nat} {a1 : Int32} {a2 : Int32} {h : Hp} {r : Int32 ⊕ Nat} {hf : Hp} (ho : sX2_closesIn G N a0 a1 a2 h = some (r, hf)) : gMet G l yX2_closesIn (ws_ yX2_closesIn cX2_closesIn 3 (some .int)) 8 184 [gr a0, gi a1, gi a2] h cvI r hf := by
  refine gMet.of ho hs (plainFor_of_name pn_X2) rfl rfl (gbl rfl) fun X => ?_
  show gT G l X mX2_closesIn cvI r hf 0 [(0, gr a0), (1, gi a1), (2, gi a2)] [] h (sX2_closesIn G N a0 a1 a2 h)
  delta sX2_closesIn
  refine g_aload_n (pc := 0) (x := a0) 0 rfl rfl dX2_closesIn_0 ?_
  refine g_iload_n (pc := 1) (x := a1) 1 rfl rfl dX2_closesIn_1 ?_
  refine g_iload_n (pc := 2) (x := a2) 2 rfl rfl dX2_closesIn_2 ?_
  refine g_bVi (pc := 3) (y := yX2_mayBoth) (ws := ws_ yX2_mayBoth cX2_mayBoth 3 (some .boolean)) (fr := 2) (lo := 45) (as := [gi a1, gi a2]) (st := []) (g_no) rfl (fun _ _ _ e => tX2_mayBoth hs e) (fun K _ _ _ hq hM R e1 e2 => g_runV (M := mX2_closesIn) (pc := 3) (y := yX2_mayBoth) (bytes := cX2_mayBoth) (maxL := 3) (ret := (some .boolean)) (fr := 2) (lo := 45) (as := [gi a1, gi a2]) (st := []) hq (C := "FlareSlopesModel") rfl gy_X2_mayBoth (gbl rfl) (gbl rfl) (gbl rfl) q4316 q4318 qs104 dX2_closesIn_3 K hM R e1 e2) fun v1 h2 => ?_
  refine g_if_eq (pc := 6) (tgt := 19) rfl dX2_closesIn_6 ?_ ?_
  · refine g_iconst (pc := 19) (v := (0 : Int32)) ic_0 dX2_closesIn_19 ?_
    exact g_ireturn (pc := 20) rfl dX2_closesIn_20
  refine g_aload_n (pc := 9) (x := a0) 0 rfl rfl dX2_closesIn_9 ?_
  refine g_iload_n (pc := 10) (x := a1) 1 rfl rfl dX2_closesIn_10 ?_
  refine g_iload_n (pc := 11) (x := a2) 2 rfl rfl dX2_closesIn_11 ?_
  refine g_iconst (pc := 12) (v := (1 : Int32)) ic_1 dX2_closesIn_12 ?_
  refine g_bVi (pc := 13) (y := yX2_holdsIn) (ws := ws_ yX2_holdsIn cX2_holdsIn 5 (some .int)) (fr := 7) (lo := 160) (as := [gi a1, gi a2, gi (1 : Int32)]) (st := []) (g_no) rfl (fun _ _ _ e => tX2_holdsIn hs e) (fun K _ _ _ hq hM R e1 e2 => g_runV (M := mX2_closesIn) (pc := 13) (y := yX2_holdsIn) (bytes := cX2_holdsIn) (maxL := 5) (ret := (some .int)) (fr := 7) (lo := 160) (as := [gi a1, gi a2, gi (1 : Int32)]) (st := []) hq (C := "FlareSlopesModel") rfl gy_X2_holdsIn (gbl rfl) (gbl rfl) (gbl rfl) q4452 q4454 qs113 dX2_closesIn_13 K hM R e1 e2) fun v3 h4 => ?_
  refine g_goto (pc := 16) (tgt := 20) rfl dX2_closesIn_16 ?_
  exact g_ireturn (pc := 20) rfl dX2_closesIn_20
/-! FlareSlopes.opensIn(II)I -/
noncomputable def sX1_opensIn (G : GG) (N : Nat) (a0 : Option Nat) (a1 : Int32) (a2 : Int32) (h : Hp) : Out (Int32) :=
  bV h a0 3 (fun q3 => sX1_holdsIn G N (some q3) a1 a2 (0 : Int32) h) fun v1 h2 =>
  some (.inl v1, h2)
abbrev mX1_opensIn : MI := (RX1, cX1_opensIn, 3, (some .int), [], 11, 211, "opensIn")
theorem tX1_opensIn {G : GG} {l : Launch} (hs : l.stackTraces = false) {N : Nat} {a0 : Option Nat} {a1 : Int32} {a2 : Int32} {h : Hp} {r : Int32 ⊕ Nat} {hf : Hp} (ho : sX1_opensIn G N a0 a1 a2 h = some (r, hf)) : gMet G l yX1_opensIn (ws_ yX1_opensIn cX1_opensIn 3 (some .int)) 11 211 [gr a0, gi a1, gi a2] h cvI r hf := by
  refine gMet.of ho hs (plainFor_of_name pn_X1) rfl rfl (gbl rfl) fun X => ?_
  show gT G l X mX1_opensIn cvI r hf 0 [(0, gr a0), (1, gi a1), (2, gi a2)] [] h (sX1_opensIn G N a0 a1 a2 h)
  delta sX1_opensIn
  refine g_aload_n (pc := 0) (x := a0) 0 rfl rfl dX1_opensIn_0 ?_
  refine g_iload_n (pc := 1) (x := a1) 1 rfl rfl dX1_opensIn_1 ?_
  refine g_iload_n (pc := 2) (x := a2) 2 rfl rfl dX1_opensIn_2 ?_
  refine g_iconst (pc := 3) (v := (0 : Int32)) ic_0 dX1_opensIn_3 ?_
  refine g_bVi (pc := 4) (y := yX1_holdsIn) (ws := ws_ yX1_holdsIn cX1_holdsIn 7 (some .int)) (fr := 10) (lo := 185) (as := [gi a1, gi a2, gi (0 : Int32)]) (st := []) (g_no) rfl (fun _ _ _ e => tX1_holdsIn hs e) (fun K _ _ _ hq hM R e1 e2 => g_runV (M := mX1_opensIn) (pc := 4) (y := yX1_holdsIn) (bytes := cX1_holdsIn) (maxL := 7) (ret := (some .int)) (fr := 10) (lo := 185) (as := [gi a1, gi a2, gi (0 : Int32)]) (st := []) hq (C := "FlareSlopes") rfl gy_X1_holdsIn (gbl rfl) (gbl rfl) (gbl rfl) q3462 q3464 qs46 dX1_opensIn_4 K hM R e1 e2) fun v1 h2 => ?_
  exact g_ireturn (pc := 7) rfl dX1_opensIn_7
/-! FlareSlopesLaw.opensIn(LFlareSlopes;II[J)I -/
noncomputable def sX0_opensIn (G : GG) (N : Nat) (a0 : Option Nat) (a1 : Int32) (a2 : Int32) (a3 : Option Nat) (h : Hp) : Out (Int32) :=
  bVX h a0 3 (fun q4 => sX1_opensIn G N (some q4) a1 a2 h) (fun v1 h2 =>
  gSl G h2 a3 3 (0 : Int32) (v1.toInt64) fun h3 =>
  some (.inl (0 : Int32), h3)) fun q5 h6 =>
  gSw h6 (some q5) 0 (some (.inl (1 : Int32), h6)) (gSw h6 (some q5) 2 (some (.inl (2 : Int32), h6)) (none))
abbrev mX0_opensIn : MI := (RX0, cX0_opensIn, 5, (some .int), [(0, 10, 13, 21), (0, 10, 17, 13)], 12, 233, "opensIn")
theorem tX0_opensIn {G : GG} {l : Launch} (hs : l.stackTraces = false) {N : Nat} {a0 : Option Nat} {a1 : Int32} {a2 : Int32} {a3 : Option Nat} {h : Hp} {r : Int32 ⊕ Nat} {hf : Hp} (ho : sX0_opensIn G N a0 a1 a2 a3 h = some (r, hf)) : gMet G l yX0_opensIn (wsW_ yX0_opensIn cX0_opensIn 5 (some .int) [(0, 10, 13, 21), (0, 10, 17, 13)]) 12 233 [gr a0, gi a1, gi a2, gr a3] h cvI r hf := by
  refine gMet.ofW ho hs (plainFor_of_name pn_X0) rfl rfl (gbl rfl) fun X => ?_
  show gT G l X mX0_opensIn cvI r hf 0 [(0, gr a0), (1, gi a1), (2, gi a2), (3, gr a3)] [] h (sX0_opensIn G N a0 a1 a2 a3 h)
  delta sX0_opensIn
  refine g_aload_n (pc := 0) (x := a3) 3 rfl rfl dX0_opensIn_0 ?_
  refine g_iconst (pc := 1) (v := (0 : Int32)) ic_0 dX0_opensIn_1 ?_
  refine g_aload_n (pc := 2) (x := a0) 0 rfl rfl dX0_opensIn_2 ?_
  refine g_iload_n (pc := 3) (x := a1) 1 rfl rfl dX0_opensIn_3 ?_
  refine g_iload_n (pc := 4) (x := a2) 2 rfl rfl dX0_opensIn_4 ?_
  refine g_bVXi (pc := 5) (y := yX1_opensIn) (ws := ws_ yX1_opensIn cX1_opensIn 3 (some .int)) (fr := 11) (lo := 211) (as := [gi a1, gi a2]) (st := [gi (0 : Int32), gr a3]) rfl (fun _ _ _ e => tX1_opensIn hs e) (fun K _ _ _ hq hM R e1 e2 => g_runV (M := mX0_opensIn) (pc := 5) (y := yX1_opensIn) (bytes := cX1_opensIn) (maxL := 3) (ret := (some .int)) (fr := 11) (lo := 211) (as := [gi a1, gi a2]) (st := [gi (0 : Int32), gr a3]) hq (C := "FlareSlopes") rfl gy_X1_opensIn (gbl rfl) (gbl rfl) (gbl rfl) q3571 q3572 q3573 dX0_opensIn_5 K hM R e1 e2) (fun v1 h2 => ?_) (fun q5 h6 => ?_)
  · refine g_i2l (pc := 8) dX0_opensIn_8 ?_
    refine g_lastore (pc := 9) rfl dX0_opensIn_9 fun h3 => ?_
    refine g_goto (pc := 10) (tgt := 21) rfl dX0_opensIn_10 ?_
    refine g_iconst (pc := 21) (v := (0 : Int32)) ic_0 dX0_opensIn_21 ?_
    exact g_ireturn (pc := 22) rfl dX0_opensIn_22
  refine g_catch (E := "java/lang/IllegalStateException") [] ⟨0, 10, 13, 21⟩ [⟨0, 10, 17, 13⟩] rfl rfl (List.forall_mem_nil _) (by decide +kernel) (by decide +kernel) q1425 q1439 ?_ ?_
  · refine g_astore (pc := 13) (lv' := []) [] rfl (gblt rfl) dX0_opensIn_13 ?_
    refine g_iconst (pc := 15) (v := (1 : Int32)) ic_1 dX0_opensIn_15 ?_
    exact g_ireturn (pc := 16) rfl dX0_opensIn_16
  refine g_catch (E := "java/lang/IndexOutOfBoundsException") [⟨0, 10, 13, 21⟩] ⟨0, 10, 17, 13⟩ [] rfl rfl (List.forall_mem_cons.mpr ⟨Or.inr ⟨by decide +kernel, _, q1425, ncl_java_lang_IndexOutOfBoundsException_java_lang_IllegalStateException⟩, List.forall_mem_nil _⟩) (by decide +kernel) (by decide +kernel) q325 q418 ?_ ?_
  · refine g_astore (pc := 17) (lv' := []) [] rfl (gblt rfl) dX0_opensIn_17 ?_
    refine g_iconst (pc := 19) (v := (2 : Int32)) ic_2 dX0_opensIn_19 ?_
    exact g_ireturn (pc := 20) rfl dX0_opensIn_20
  exact g_noneX
/-! FlareSlopesModel.opensIn(II)I -/
noncomputable def sX2_opensIn (G : GG) (N : Nat) (a0 : Option Nat) (a1 : Int32) (a2 : Int32) (h : Hp) : Out (Int32) :=
  bV h a0 18 (fun q6 => sX2_mayBoth G N (some q6) a1 a2 h) fun v1 h2 =>
  if v1 = 0 then (some (.inl (0 : Int32), h2))
  else bV h2 a0 18 (fun q5 => sX2_holdsIn G N (some q5) a1 a2 (0 : Int32) h2) fun v3 h4 =>
  some (.inl v3, h4)
abbrev mX2_opensIn : MI := (RX2, cX2_opensIn, 3, (some .int), [], 8, 184, "opensIn")
theorem tX2_opensIn {G : GG} {l : Launch} (hs : l.stackTraces = false) {N : Nat} {a0 : Option Nat} {a1 : Int32} {a2 : Int32} {h : Hp} {r : Int32 ⊕ Nat} {hf : Hp} (ho : sX2_opensIn G N a0 a1 a2 h = some (r, hf)) : gMet G l yX2_opensIn (ws_ yX2_opensIn cX2_opensIn 3 (some .int)) 8 184 [gr a0, gi a1, gi a2] h cvI r hf := by
  refine gMet.of ho hs (plainFor_of_name pn_X2) rfl rfl (gbl rfl) fun X => ?_
  show gT G l X mX2_opensIn cvI r hf 0 [(0, gr a0), (1, gi a1), (2, gi a2)] [] h (sX2_opensIn G N a0 a1 a2 h)
  delta sX2_opensIn
  refine g_aload_n (pc := 0) (x := a0) 0 rfl rfl dX2_opensIn_0 ?_
  refine g_iload_n (pc := 1) (x := a1) 1 rfl rfl dX2_opensIn_1 ?_
  refine g_iload_n (pc := 2) (x := a2) 2 rfl rfl dX2_opensIn_2 ?_
  refine g_bVi (pc := 3) (y := yX2_mayBoth) (ws := ws_ yX2_mayBoth cX2_mayBoth 3 (some .boolean)) (fr := 2) (lo := 45) (as := [gi a1, gi a2]) (st := []) (g_no) rfl (fun _ _ _ e => tX2_mayBoth hs e) (fun K _ _ _ hq hM R e1 e2 => g_runV (M := mX2_opensIn) (pc := 3) (y := yX2_mayBoth) (bytes := cX2_mayBoth) (maxL := 3) (ret := (some .boolean)) (fr := 2) (lo := 45) (as := [gi a1, gi a2]) (st := []) hq (C := "FlareSlopesModel") rfl gy_X2_mayBoth (gbl rfl) (gbl rfl) (gbl rfl) q4316 q4318 qs104 dX2_opensIn_3 K hM R e1 e2) fun v1 h2 => ?_
  refine g_if_eq (pc := 6) (tgt := 19) rfl dX2_opensIn_6 ?_ ?_
  · refine g_iconst (pc := 19) (v := (0 : Int32)) ic_0 dX2_opensIn_19 ?_
    exact g_ireturn (pc := 20) rfl dX2_opensIn_20
  refine g_aload_n (pc := 9) (x := a0) 0 rfl rfl dX2_opensIn_9 ?_
  refine g_iload_n (pc := 10) (x := a1) 1 rfl rfl dX2_opensIn_10 ?_
  refine g_iload_n (pc := 11) (x := a2) 2 rfl rfl dX2_opensIn_11 ?_
  refine g_iconst (pc := 12) (v := (0 : Int32)) ic_0 dX2_opensIn_12 ?_
  refine g_bVi (pc := 13) (y := yX2_holdsIn) (ws := ws_ yX2_holdsIn cX2_holdsIn 5 (some .int)) (fr := 7) (lo := 160) (as := [gi a1, gi a2, gi (0 : Int32)]) (st := []) (g_no) rfl (fun _ _ _ e => tX2_holdsIn hs e) (fun K _ _ _ hq hM R e1 e2 => g_runV (M := mX2_opensIn) (pc := 13) (y := yX2_holdsIn) (bytes := cX2_holdsIn) (maxL := 5) (ret := (some .int)) (fr := 7) (lo := 160) (as := [gi a1, gi a2, gi (0 : Int32)]) (st := []) hq (C := "FlareSlopesModel") rfl gy_X2_holdsIn (gbl rfl) (gbl rfl) (gbl rfl) q4452 q4454 qs113 dX2_opensIn_13 K hM R e1 e2) fun v3 h4 => ?_
  refine g_goto (pc := 16) (tgt := 20) rfl dX2_opensIn_16 ?_
  exact g_ireturn (pc := 20) rfl dX2_opensIn_20
/-! FlareSlopes.checkTicks(I)V -/
noncomputable def sX1_checkTicks (G : GG) (N : Nat) (a0 : Int32) (h : Hp) : Out (Unit) :=
  bnd (sX1_in G N a0 (0 : Int32) (200 : Int32) h) fun v1 h2 =>
  bnd (sX1_checkArgument G N v1 h2) fun v3 h4 =>
  some (.inl (), h4)
abbrev mX1_checkTicks : MI := (RX1, cX1_checkTicks, 1, none, [], 7, 101, "checkTicks")
theorem tX1_checkTicks {G : GG} {l : Launch} (hs : l.stackTraces = false) {N : Nat} {a0 : Int32} {h : Hp} {r : Unit ⊕ Nat} {hf : Hp} (ho : sX1_checkTicks G N a0 h = some (r, hf)) : gMet G l yX1_checkTicks (ws_ yX1_checkTicks cX1_checkTicks 1 none) 7 101 [gi a0] h cvU r hf := by
  refine gMet.of ho hs (plainFor_of_name pn_X1) rfl rfl (gbl rfl) fun X => ?_
  show gT G l X mX1_checkTicks cvU r hf 0 [(0, gi a0)] [] h (sX1_checkTicks G N a0 h)
  delta sX1_checkTicks
  refine g_iload_n (pc := 0) (x := a0) 0 rfl rfl dX1_checkTicks_0 ?_
  refine g_iconst (pc := 1) (v := (0 : Int32)) ic_0 dX1_checkTicks_1 ?_
  refine g_sipush (pc := 2) (v := (200 : Int32)) sc_200 dX1_checkTicks_2 ?_
  refine g_bi (pc := 5) (y := yX1_in) (ws := ws_ yX1_in cX1_in 3 (some .boolean)) (fr := 0) (lo := 0) (as := [gi a0, gi (0 : Int32), gi (200 : Int32)]) (st := []) (g_no) rfl (fun _ _ e => tX1_in hs e) (fun K _ _ hM R e1 e2 => g_runS (M := mX1_checkTicks) (pc := 5) (y := yX1_in) (bytes := cX1_in) (maxL := 3) (ret := (some .boolean)) (fr := 0) (lo := 0) (as := [gi a0, gi (0 : Int32), gi (200 : Int32)]) (st := []) gy_X1_in (gbl rfl) (gbl rfl) (gbl rfl) q413 q414 dX1_checkTicks_5 K hM R e1 e2) fun v1 h2 => ?_
  refine g_bu (pc := 8) (y := yX1_checkArgument) (ws := ws_ yX1_checkArgument cX1_checkArgument 1 none) (fr := 6) (lo := 81) (as := [gi v1]) (st := []) (g_no) rfl (fun _ _ e => tX1_checkArgument hs e) (fun K _ _ hM R e1 e2 => g_runS (M := mX1_checkTicks) (pc := 8) (y := yX1_checkArgument) (bytes := cX1_checkArgument) (maxL := 1) (ret := none) (fr := 6) (lo := 81) (as := [gi v1]) (st := []) gy_X1_checkArgument (gbl rfl) (gbl rfl) (gbl rfl) q1958 q1959 dX1_checkTicks_8 K hM R e1 e2) fun v3 h4 => ?_
  exact g_return (pc := 11) rfl dX1_checkTicks_11
/-! FlareSlopes$State.ticks(I)LFlareSlopes$State; -/
noncomputable def bX3_ticks_2 (G : GG) (N : Nat) (a0 : Option Nat) (a1 : Int32) (w3 : (Int32) → Hp → Out (Option Nat)) (x1 : Int32) (h2 : Hp) : Out (Option Nat) :=
  if a1 ≤ x1 then (some (.inl a0, h2))
  else bV h2 a0 16 (fun q6 => sX3_tick G N (some q6) h2) fun v4 h5 =>
  w3 (x1 + (1 : Int32)) h5
noncomputable def sX3_ticks (G : GG) (N : Nat) (a0 : Option Nat) (a1 : Int32) (h : Hp) : Out (Option Nat) :=
  gLp (bX3_ticks_2 G N a0 a1) N (0 : Int32) h
abbrev mX3_ticks : MI := (RX3, cX3_ticks, 3, (some (.object "FlareSlopes$State")), [], 8, 180, "ticks")
theorem tX3_ticks {G : GG} {l : Launch} (hs : l.stackTraces = false) {N : Nat} {a0 : Option Nat} {a1 : Int32} {h : Hp} {r : Option Nat ⊕ Nat} {hf : Hp} (ho : sX3_ticks G N a0 a1 h = some (r, hf)) : gMet G l yX3_ticks (ws_ yX3_ticks cX3_ticks 3 (some (.object "FlareSlopes$State"))) 8 180 [gr a0, gi a1] h cvR r hf := by
  refine gMet.of ho hs (plainFor_of_name pn_X3) rfl rfl (gbl rfl) fun X => ?_
  show gT G l X mX3_ticks cvR r hf 0 [(0, gr a0), (1, gi a1)] [] h (sX3_ticks G N a0 a1 h)
  delta sX3_ticks
  refine g_iconst (pc := 0) (v := (0 : Int32)) ic_0 dX3_ticks_0 ?_
  refine g_istore_n (pc := 1) (lv' := [(2, gi (0 : Int32)), (0, gr a0), (1, gi a1)]) [0, 1, 2] rfl rfl (gblt rfl) dX3_ticks_1 ?_
  refine g_sub (lv' := [(0, gr a0), (1, gi a1), (2, gi (0 : Int32))]) [1, 2, 0] rfl ?_
  refine g_loop (pc := 2) (fun (x1 : Int32) => [(0, gr a0), (1, gi a1), (2, gi x1)]) (fun (_ : Int32) => []) (fun w3 Hw3 x1 h2 => ?_) N (0 : Int32) h
  delta bX3_ticks_2
  refine g_iload_n (pc := 2) (x := x1) 2 rfl rfl dX3_ticks_2 ?_
  refine g_iload_n (pc := 3) (x := a1) 1 rfl rfl dX3_ticks_3 ?_
  refine g_icmp_ge (pc := 4) (tgt := 17) rfl dX3_ticks_4 ?_ ?_
  · refine g_aload_n (pc := 17) (x := a0) 0 rfl rfl dX3_ticks_17 ?_
    exact g_areturn (pc := 18) rfl (Or.inl ⟨_, rfl⟩) dX3_ticks_18
  refine g_aload_n (pc := 7) (x := a0) 0 rfl rfl dX3_ticks_7 ?_
  refine g_bVu (pc := 8) (y := yX3_tick) (ws := ws_ yX3_tick cX3_tick 3 none) (fr := 7) (lo := 158) (as := []) (st := []) (g_no) rfl (fun _ _ _ e => tX3_tick hs e) (fun K _ _ _ hq hM R e1 e2 => g_runV (M := mX3_ticks) (pc := 8) (y := yX3_tick) (bytes := cX3_tick) (maxL := 3) (ret := none) (fr := 7) (lo := 158) (as := []) (st := []) hq (C := "FlareSlopes$State") rfl gy_X3_tick (gbl rfl) (gbl rfl) (gbl rfl) q3589 q3521 q3522 dX3_ticks_8 K hM R e1 e2) fun v4 h5 => ?_
  refine g_iinc (pc := 11) (v := x1 + (1 : Int32)) 2 rfl (ii_1 _) (lv' := [(2, gi (x1 + (1 : Int32))), (0, gr a0), (1, gi a1)]) [0, 1, 2] rfl (gblt rfl) dX3_ticks_11 ?_
  refine g_goto (pc := 14) (tgt := 2) rfl dX3_ticks_14 ?_
  exact g_sub [1, 2, 0] rfl (Hw3 (x1 + (1 : Int32)) h5)
/-! FlareSlopes.closersIn(II)I -/
noncomputable def sX1_closersIn (G : GG) (N : Nat) (a0 : Option Nat) (a1 : Int32) (a2 : Int32) (h : Hp) : Out (Int32) :=
  bV h a0 3 (fun q17 => sX1_withSlope G N (some q17) a1 h) fun v1 h2 =>
  bnd (sX1_checkTicks G N a2 h2) fun v3 h4 =>
  gNew h4 16 [.null, .null, .null, .null, .int 0, .int 0, .int 0, .int 0, .int 0, .int 0, .int 0, .int 0, .null, .null] 14 fun v5 h6 =>
  gFr h6 a0 3 4 fun v7 =>
  bI v5 (fun q16 => sX3_init_2 G N (some q16) v7 h6) fun v8 h9 =>
  bV h9 v5 16 (fun q15 => sX3_ticks G N (some q15) a2 h9) fun v10 h11 =>
  bV h11 v10 16 (fun q14 => sX3_closers G N (some q14) a1 h11) fun v12 h13 =>
  some (.inl v12, h13)
abbrev mX1_closersIn : MI := (RX1, cX1_closersIn, 4, (some .int), [], 9, 202, "closersIn")
theorem tX1_closersIn {G : GG} {l : Launch} (hs : l.stackTraces = false) {N : Nat} {a0 : Option Nat} {a1 : Int32} {a2 : Int32} {h : Hp} {r : Int32 ⊕ Nat} {hf : Hp} (ho : sX1_closersIn G N a0 a1 a2 h = some (r, hf)) : gMet G l yX1_closersIn (ws_ yX1_closersIn cX1_closersIn 4 (some .int)) 9 202 [gr a0, gi a1, gi a2] h cvI r hf := by
  refine gMet.of ho hs (plainFor_of_name pn_X1) rfl rfl (gbl rfl) fun X => ?_
  show gT G l X mX1_closersIn cvI r hf 0 [(0, gr a0), (1, gi a1), (2, gi a2)] [] h (sX1_closersIn G N a0 a1 a2 h)
  delta sX1_closersIn
  refine g_aload_n (pc := 0) (x := a0) 0 rfl rfl dX1_closersIn_0 ?_
  refine g_iload_n (pc := 1) (x := a1) 1 rfl rfl dX1_closersIn_1 ?_
  refine g_bVr (pc := 2) (y := yX1_withSlope) (ws := ws_ yX1_withSlope cX1_withSlope 2 (some (.object "FlareSlopes$Spot"))) (fr := 8) (lo := 121) (as := [gi a1]) (st := []) (g_no) rfl (fun _ _ _ e => tX1_withSlope hs e) (fun K _ _ _ hq hM R e1 e2 => g_runV (M := mX1_closersIn) (pc := 2) (y := yX1_withSlope) (bytes := cX1_withSlope) (maxL := 2) (ret := (some (.object "FlareSlopes$Spot"))) (fr := 8) (lo := 121) (as := [gi a1]) (st := []) hq (C := "FlareSlopes") rfl gy_X1_withSlope (gbl rfl) (gbl rfl) (gbl rfl) q3044 q3046 qs40 dX1_closersIn_2 K hM R e1 e2) fun v1 h2 => ?_
  refine g_astore_n (pc := 5) (lv' := [(0, gr a0), (1, gi a1), (2, gi a2)]) [1, 2, 3] rfl rfl (gblt rfl) dX1_closersIn_5 ?_
  refine g_iload_n (pc := 6) (x := a2) 2 rfl rfl dX1_closersIn_6 ?_
  refine g_bu (pc := 7) (y := yX1_checkTicks) (ws := ws_ yX1_checkTicks cX1_checkTicks 1 none) (fr := 7) (lo := 101) (as := [gi a2]) (st := []) (g_no) rfl (fun _ _ e => tX1_checkTicks hs e) (fun K _ _ hM R e1 e2 => g_runS (M := mX1_closersIn) (pc := 7) (y := yX1_checkTicks) (bytes := cX1_checkTicks) (maxL := 1) (ret := none) (fr := 7) (lo := 101) (as := [gi a2]) (st := []) gy_X1_checkTicks (gbl rfl) (gbl rfl) (gbl rfl) q3582 q3583 dX1_closersIn_7 K hM R e1 e2) fun v3 h4 => ?_
  refine g_new (pc := 10) k_16 df_16 q233 q437 q141 dX1_closersIn_10 fun v5 h6 => ?_
  refine g_dup (pc := 13) rfl dX1_closersIn_13 ?_
  refine g_aload_n (pc := 14) (x := a0) 0 rfl rfl dX1_closersIn_14 ?_
  refine g_getfr (pc := 15) k_3 (gblt rfl) lk_X1_56_3 dX1_closersIn_15 fun v7 => ?_
  refine g_bIu (pc := 18) (y := yX3_init_2) (ws := ws_ yX3_init_2 cX3_init_2 4 none) (fr := 7) (lo := 162) (as := [gr v7]) (st := [gr v5]) (g_no) rfl (fun _ _ _ e => tX3_init_2 hs e) (fun K _ _ _ hM R e1 e2 => g_runI (M := mX1_closersIn) (pc := 18) (y := yX3_init_2) (bytes := cX3_init_2) (maxL := 4) (ret := none) (fr := 7) (lo := 162) (as := [gr v7]) (st := [gr v5]) gy_X3_init_2 (gbl rfl) (gbl rfl) (gbl rfl) rfl q3466 q3467 rfl dX1_closersIn_18 K hM R e1 e2) fun v8 h9 => ?_
  refine g_iload_n (pc := 21) (x := a2) 2 rfl rfl dX1_closersIn_21 ?_
  refine g_bVr (pc := 22) (y := yX3_ticks) (ws := ws_ yX3_ticks cX3_ticks 3 (some (.object "FlareSlopes$State"))) (fr := 8) (lo := 180) (as := [gi a2]) (st := []) (g_no) rfl (fun _ _ _ e => tX3_ticks hs e) (fun K _ _ _ hq hM R e1 e2 => g_runV (M := mX1_closersIn) (pc := 22) (y := yX3_ticks) (bytes := cX3_ticks) (maxL := 3) (ret := (some (.object "FlareSlopes$State"))) (fr := 8) (lo := 180) (as := [gi a2]) (st := []) hq (C := "FlareSlopes$State") rfl gy_X3_ticks (gbl rfl) (gbl rfl) (gbl rfl) q3585 q3586 q3587 dX1_closersIn_22 K hM R e1 e2) fun v10 h11 => ?_
  refine g_iload_n (pc := 25) (x := a1) 1 rfl rfl dX1_closersIn_25 ?_
  refine g_bVi (pc := 26) (y := yX3_closers) (ws := ws_ yX3_closers cX3_closers 4 (some .int)) (fr := 4) (lo := 85) (as := [gi a1]) (st := []) (g_no) rfl (fun _ _ _ e => tX3_closers hs e) (fun K _ _ _ hq hM R e1 e2 => g_runV (M := mX1_closersIn) (pc := 26) (y := yX3_closers) (bytes := cX3_closers) (maxL := 4) (ret := (some .int)) (fr := 4) (lo := 85) (as := [gi a1]) (st := []) hq (C := "FlareSlopes$State") rfl gy_X3_closers (gbl rfl) (gbl rfl) (gbl rfl) q3050 q3051 q3052 dX1_closersIn_26 K hM R e1 e2) fun v12 h13 => ?_
  exact g_ireturn (pc := 29) rfl dX1_closersIn_29
/-! FlareSlopesLaw.closersIn(LFlareSlopes;II[J)I -/
noncomputable def sX0_closersIn (G : GG) (N : Nat) (a0 : Option Nat) (a1 : Int32) (a2 : Int32) (a3 : Option Nat) (h : Hp) : Out (Int32) :=
  bVX h a0 3 (fun q4 => sX1_closersIn G N (some q4) a1 a2 h) (fun v1 h2 =>
  gSl G h2 a3 3 (0 : Int32) (v1.toInt64) fun h3 =>
  some (.inl (0 : Int32), h3)) fun q5 h6 =>
  gSw h6 (some q5) 0 (some (.inl (1 : Int32), h6)) (gSw h6 (some q5) 1 (some (.inl (3 : Int32), h6)) (gSw h6 (some q5) 2 (some (.inl (2 : Int32), h6)) (none)))
abbrev mX0_closersIn : MI := (RX0, cX0_closersIn, 5, (some .int), [(0, 10, 13, 21), (0, 10, 17, 13), (0, 10, 21, 15)], 10, 225, "closersIn")
theorem tX0_closersIn {G : GG} {l : Launch} (hs : l.stackTraces = false) {N : Nat} {a0 : Option Nat} {a1 : Int32} {a2 : Int32} {a3 : Option Nat} {h : Hp} {r : Int32 ⊕ Nat} {hf : Hp} (ho : sX0_closersIn G N a0 a1 a2 a3 h = some (r, hf)) : gMet G l yX0_closersIn (wsW_ yX0_closersIn cX0_closersIn 5 (some .int) [(0, 10, 13, 21), (0, 10, 17, 13), (0, 10, 21, 15)]) 10 225 [gr a0, gi a1, gi a2, gr a3] h cvI r hf := by
  refine gMet.ofW ho hs (plainFor_of_name pn_X0) rfl rfl (gbl rfl) fun X => ?_
  show gT G l X mX0_closersIn cvI r hf 0 [(0, gr a0), (1, gi a1), (2, gi a2), (3, gr a3)] [] h (sX0_closersIn G N a0 a1 a2 a3 h)
  delta sX0_closersIn
  refine g_aload_n (pc := 0) (x := a3) 3 rfl rfl dX0_closersIn_0 ?_
  refine g_iconst (pc := 1) (v := (0 : Int32)) ic_0 dX0_closersIn_1 ?_
  refine g_aload_n (pc := 2) (x := a0) 0 rfl rfl dX0_closersIn_2 ?_
  refine g_iload_n (pc := 3) (x := a1) 1 rfl rfl dX0_closersIn_3 ?_
  refine g_iload_n (pc := 4) (x := a2) 2 rfl rfl dX0_closersIn_4 ?_
  refine g_bVXi (pc := 5) (y := yX1_closersIn) (ws := ws_ yX1_closersIn cX1_closersIn 4 (some .int)) (fr := 9) (lo := 202) (as := [gi a1, gi a2]) (st := [gi (0 : Int32), gr a3]) rfl (fun _ _ _ e => tX1_closersIn hs e) (fun K _ _ _ hq hM R e1 e2 => g_runV (M := mX0_closersIn) (pc := 5) (y := yX1_closersIn) (bytes := cX1_closersIn) (maxL := 4) (ret := (some .int)) (fr := 9) (lo := 202) (as := [gi a1, gi a2]) (st := [gi (0 : Int32), gr a3]) hq (C := "FlareSlopes") rfl gy_X1_closersIn (gbl rfl) (gbl rfl) (gbl rfl) q3578 q3579 q3580 dX0_closersIn_5 K hM R e1 e2) (fun v1 h2 => ?_) (fun q5 h6 => ?_)
  · refine g_i2l (pc := 8) dX0_closersIn_8 ?_
    refine g_lastore (pc := 9) rfl dX0_closersIn_9 fun h3 => ?_
    refine g_goto (pc := 10) (tgt := 25) rfl dX0_closersIn_10 ?_
    refine g_iconst (pc := 25) (v := (0 : Int32)) ic_0 dX0_closersIn_25 ?_
    exact g_ireturn (pc := 26) rfl dX0_closersIn_26
  refine g_catch (E := "java/lang/IllegalStateException") [] ⟨0, 10, 13, 21⟩ [⟨0, 10, 17, 13⟩, ⟨0, 10, 21, 15⟩] rfl rfl (List.forall_mem_nil _) (by decide +kernel) (by decide +kernel) q1425 q1439 ?_ ?_
  · refine g_astore (pc := 13) (lv' := []) [] rfl (gblt rfl) dX0_closersIn_13 ?_
    refine g_iconst (pc := 15) (v := (1 : Int32)) ic_1 dX0_closersIn_15 ?_
    exact g_ireturn (pc := 16) rfl dX0_closersIn_16
  refine g_catch (E := "java/lang/IllegalArgumentException") [⟨0, 10, 13, 21⟩, ⟨0, 10, 17, 13⟩] ⟨0, 10, 21, 15⟩ [] rfl rfl (List.forall_mem_cons.mpr ⟨Or.inr ⟨by decide +kernel, _, q1425, ncl_java_lang_IllegalArgumentException_java_lang_IllegalStateException⟩, List.forall_mem_cons.mpr ⟨Or.inr ⟨by decide +kernel, _, q325, ncl_java_lang_IllegalArgumentException_java_lang_IndexOutOfBoundsException⟩, List.forall_mem_nil _⟩⟩) (by decide +kernel) (by decide +kernel) q404 q751 ?_ ?_
  · refine g_astore (pc := 21) (lv' := []) [] rfl (gblt rfl) dX0_closersIn_21 ?_
    refine g_iconst (pc := 23) (v := (3 : Int32)) ic_3 dX0_closersIn_23 ?_
    exact g_ireturn (pc := 24) rfl dX0_closersIn_24
  refine g_catch (E := "java/lang/IndexOutOfBoundsException") [⟨0, 10, 13, 21⟩] ⟨0, 10, 17, 13⟩ [⟨0, 10, 21, 15⟩] rfl rfl (List.forall_mem_cons.mpr ⟨Or.inr ⟨by decide +kernel, _, q1425, ncl_java_lang_IndexOutOfBoundsException_java_lang_IllegalStateException⟩, List.forall_mem_nil _⟩) (by decide +kernel) (by decide +kernel) q325 q418 ?_ ?_
  · refine g_astore (pc := 17) (lv' := []) [] rfl (gblt rfl) dX0_closersIn_17 ?_
    refine g_iconst (pc := 19) (v := (2 : Int32)) ic_2 dX0_closersIn_19 ?_
    exact g_ireturn (pc := 20) rfl dX0_closersIn_20
  exact g_noneX
/-! FlareSlopesModel.isFar(I)Z -/
noncomputable def sX2_isFar (G : GG) (N : Nat) (a0 : Int32) (h : Hp) : Out (Int32) :=
  bnd (sX2_in G N a0 (0 : Int32) (200 : Int32) h) fun v1 h2 =>
  gRtZ v1 h2
abbrev mX2_isFar : MI := (RX2, cX2_isFar, 1, (some .boolean), [], 1, 22, "isFar")
theorem tX2_isFar {G : GG} {l : Launch} (hs : l.stackTraces = false) {N : Nat} {a0 : Int32} {h : Hp} {r : Int32 ⊕ Nat} {hf : Hp} (ho : sX2_isFar G N a0 h = some (r, hf)) : gMet G l yX2_isFar (ws_ yX2_isFar cX2_isFar 1 (some .boolean)) 1 22 [gi a0] h cvI r hf := by
  refine gMet.of ho hs (plainFor_of_name pn_X2) rfl rfl (gbl rfl) fun X => ?_
  show gT G l X mX2_isFar cvI r hf 0 [(0, gi a0)] [] h (sX2_isFar G N a0 h)
  delta sX2_isFar
  refine g_iload_n (pc := 0) (x := a0) 0 rfl rfl dX2_isFar_0 ?_
  refine g_iconst (pc := 1) (v := (0 : Int32)) ic_0 dX2_isFar_1 ?_
  refine g_sipush (pc := 2) (v := (200 : Int32)) sc_200 dX2_isFar_2 ?_
  refine g_bi (pc := 5) (y := yX2_in) (ws := ws_ yX2_in cX2_in 3 (some .boolean)) (fr := 0) (lo := 0) (as := [gi a0, gi (0 : Int32), gi (200 : Int32)]) (st := []) (g_no) rfl (fun _ _ e => tX2_in hs e) (fun K _ _ hM R e1 e2 => g_runS (M := mX2_isFar) (pc := 5) (y := yX2_in) (bytes := cX2_in) (maxL := 3) (ret := (some .boolean)) (fr := 0) (lo := 0) (as := [gi a0, gi (0 : Int32), gi (200 : Int32)]) (st := []) gy_X2_in (gbl rfl) (gbl rfl) (gbl rfl) q4037 q4038 dX2_isFar_5 K hM R e1 e2) fun v1 h2 => ?_
  exact g_zreturn (pc := 8) rfl dX2_isFar_8
/-! FlareSlopesModel.passes(I)V -/
noncomputable def bX2_passes_2 (G : GG) (N : Nat) (a0 : Option Nat) (a1 : Int32) (w3 : (Int32) → Hp → Out (Unit)) (x1 : Int32) (h2 : Hp) : Out (Unit) :=
  if a1 ≤ x1 then (some (.inl (), h2))
  else bV h2 a0 18 (fun q6 => sX2_ticks G N (some q6) h2) fun v4 h5 =>
  w3 (x1 + (1 : Int32)) h5
noncomputable def sX2_passes (G : GG) (N : Nat) (a0 : Option Nat) (a1 : Int32) (h : Hp) : Out (Unit) :=
  gLp (bX2_passes_2 G N a0 a1) N (0 : Int32) h
abbrev mX2_passes : MI := (RX2, cX2_passes, 3, none, [], 7, 160, "passes")
theorem tX2_passes {G : GG} {l : Launch} (hs : l.stackTraces = false) {N : Nat} {a0 : Option Nat} {a1 : Int32} {h : Hp} {r : Unit ⊕ Nat} {hf : Hp} (ho : sX2_passes G N a0 a1 h = some (r, hf)) : gMet G l yX2_passes (ws_ yX2_passes cX2_passes 3 none) 7 160 [gr a0, gi a1] h cvU r hf := by
  refine gMet.of ho hs (plainFor_of_name pn_X2) rfl rfl (gbl rfl) fun X => ?_
  show gT G l X mX2_passes cvU r hf 0 [(0, gr a0), (1, gi a1)] [] h (sX2_passes G N a0 a1 h)
  delta sX2_passes
  refine g_iconst (pc := 0) (v := (0 : Int32)) ic_0 dX2_passes_0 ?_
  refine g_istore_n (pc := 1) (lv' := [(2, gi (0 : Int32)), (0, gr a0), (1, gi a1)]) [0, 1, 2] rfl rfl (gblt rfl) dX2_passes_1 ?_
  refine g_sub (lv' := [(0, gr a0), (1, gi a1), (2, gi (0 : Int32))]) [1, 2, 0] rfl ?_
  refine g_loop (pc := 2) (fun (x1 : Int32) => [(0, gr a0), (1, gi a1), (2, gi x1)]) (fun (_ : Int32) => []) (fun w3 Hw3 x1 h2 => ?_) N (0 : Int32) h
  delta bX2_passes_2
  refine g_iload_n (pc := 2) (x := x1) 2 rfl rfl dX2_passes_2 ?_
  refine g_iload_n (pc := 3) (x := a1) 1 rfl rfl dX2_passes_3 ?_
  refine g_icmp_ge (pc := 4) (tgt := 17) rfl dX2_passes_4 ?_ ?_
  · exact g_return (pc := 17) rfl dX2_passes_17
  refine g_aload_n (pc := 7) (x := a0) 0 rfl rfl dX2_passes_7 ?_
  refine g_bVu (pc := 8) (y := yX2_ticks) (ws := ws_ yX2_ticks cX2_ticks 3 none) (fr := 6) (lo := 138) (as := []) (st := []) (g_no) rfl (fun _ _ _ e => tX2_ticks hs e) (fun K _ _ _ hq hM R e1 e2 => g_runV (M := mX2_passes) (pc := 8) (y := yX2_ticks) (bytes := cX2_ticks) (maxL := 3) (ret := none) (fr := 6) (lo := 138) (as := []) (st := []) hq (C := "FlareSlopesModel") rfl gy_X2_ticks (gbl rfl) (gbl rfl) (gbl rfl) q4464 q4466 qs116 dX2_passes_8 K hM R e1 e2) fun v4 h5 => ?_
  refine g_iinc (pc := 11) (v := x1 + (1 : Int32)) 2 rfl (ii_1 _) (lv' := [(2, gi (x1 + (1 : Int32))), (0, gr a0), (1, gi a1)]) [0, 1, 2] rfl (gblt rfl) dX2_passes_11 ?_
  refine g_goto (pc := 14) (tgt := 2) rfl dX2_passes_14 ?_
  exact g_sub [1, 2, 0] rfl (Hw3 (x1 + (1 : Int32)) h5)
/-! FlareSlopesModel.closersIn(II)I -/
noncomputable def sX2_closersIn (G : GG) (N : Nat) (a0 : Option Nat) (a1 : Int32) (a2 : Int32) (h : Hp) : Out (Int32) :=
  gFi h a0 18 8 fun v1 =>
  bV h a0 18 (fun q21 => sX2_isSlope G N (some q21) a1 h) fun v2 h3 =>
  bnd (sX2_isFar G N a2 h3) fun v4 h5 =>
  bV h5 a0 18 (fun q20 => sX2_may G N (some q20) v1 v2 v4 h5) fun v6 h7 =>
  if v6 = 0 then (some (.inl (0 : Int32), h7))
  else bV h7 a0 18 (fun q19 => sX2_thinks G N (some q19) h7) fun v8 h9 =>
  bV h9 a0 18 (fun q18 => sX2_passes G N (some q18) a2 h9) fun v10 h11 =>
  bV h11 a0 18 (fun q17 => sX2_closersOf G N (some q17) a1 h11) fun v12 h13 =>
  bV h13 a0 18 (fun q16 => sX2_back G N (some q16) v12 h13) fun v14 h15 =>
  some (.inl v14, h15)
abbrev mX2_closersIn : MI := (RX2, cX2_closersIn, 3, (some .int), [], 8, 182, "closersIn")
theorem tX2_closersIn {G : GG} {l : Launch} (hs : l.stackTraces = false) {N : Nat} {a0 : Option Nat} {a1 : Int32} {a2 : Int32} {h : Hp} {r : Int32 ⊕ Nat} {hf : Hp} (ho : sX2_closersIn G N a0 a1 a2 h = some (r, hf)) : gMet G l yX2_closersIn (ws_ yX2_closersIn cX2_closersIn 3 (some .int)) 8 182 [gr a0, gi a1, gi a2] h cvI r hf := by
  refine gMet.of ho hs (plainFor_of_name pn_X2) rfl rfl (gbl rfl) fun X => ?_
  show gT G l X mX2_closersIn cvI r hf 0 [(0, gr a0), (1, gi a1), (2, gi a2)] [] h (sX2_closersIn G N a0 a1 a2 h)
  delta sX2_closersIn
  refine g_aload_n (pc := 0) (x := a0) 0 rfl rfl dX2_closersIn_0 ?_
  refine g_aload_n (pc := 1) (x := a0) 0 rfl rfl dX2_closersIn_1 ?_
  refine g_getfi (pc := 2) k_18 (gblt rfl) lk_X2_184_18 dX2_closersIn_2 fun v1 => ?_
  refine g_aload_n (pc := 5) (x := a0) 0 rfl rfl dX2_closersIn_5 ?_
  refine g_iload_n (pc := 6) (x := a1) 1 rfl rfl dX2_closersIn_6 ?_
  refine g_bVi (pc := 7) (y := yX2_isSlope) (ws := ws_ yX2_isSlope cX2_isSlope 2 (some .boolean)) (fr := 1) (lo := 22) (as := [gi a1]) (st := [gi v1, gr a0]) (g_no) rfl (fun _ _ _ e => tX2_isSlope hs e) (fun K _ _ _ hq hM R e1 e2 => g_runV (M := mX2_closersIn) (pc := 7) (y := yX2_isSlope) (bytes := cX2_isSlope) (maxL := 2) (ret := (some .boolean)) (fr := 1) (lo := 22) (as := [gi a1]) (st := [gi v1, gr a0]) hq (C := "FlareSlopesModel") rfl gy_X2_isSlope (gbl rfl) (gbl rfl) (gbl rfl) q4245 q4247 qs93 dX2_closersIn_7 K hM R e1 e2) fun v2 h3 => ?_
  refine g_iload_n (pc := 10) (x := a2) 2 rfl rfl dX2_closersIn_10 ?_
  refine g_bi (pc := 11) (y := yX2_isFar) (ws := ws_ yX2_isFar cX2_isFar 1 (some .boolean)) (fr := 1) (lo := 22) (as := [gi a2]) (st := [gi v2, gi v1, gr a0]) (g_no) rfl (fun _ _ e => tX2_isFar hs e) (fun K _ _ hM R e1 e2 => g_runS (M := mX2_closersIn) (pc := 11) (y := yX2_isFar) (bytes := cX2_isFar) (maxL := 1) (ret := (some .boolean)) (fr := 1) (lo := 22) (as := [gi a2]) (st := [gi v2, gi v1, gr a0]) gy_X2_isFar (gbl rfl) (gbl rfl) (gbl rfl) q4484 q4485 dX2_closersIn_11 K hM R e1 e2) fun v4 h5 => ?_
  refine g_bVi (pc := 14) (y := yX2_may) (ws := ws_ yX2_may cX2_may 4 (some .boolean)) (fr := 0) (lo := 0) (as := [gi v1, gi v2, gi v4]) (st := []) (g_no) rfl (fun _ _ _ e => tX2_may hs e) (fun K _ _ _ hq hM R e1 e2 => g_runV (M := mX2_closersIn) (pc := 14) (y := yX2_may) (bytes := cX2_may) (maxL := 4) (ret := (some .boolean)) (fr := 0) (lo := 0) (as := [gi v1, gi v2, gi v4]) (st := []) hq (C := "FlareSlopesModel") rfl gy_X2_may (gbl rfl) (gbl rfl) (gbl rfl) q4040 q4042 qs54 dX2_closersIn_14 K hM R e1 e2) fun v6 h7 => ?_
  refine g_if_ne (pc := 17) (tgt := 22) rfl dX2_closersIn_17 ?_ ?_
  · refine g_iconst (pc := 20) (v := (0 : Int32)) ic_0 dX2_closersIn_20 ?_
    exact g_ireturn (pc := 21) rfl dX2_closersIn_21
  refine g_aload_n (pc := 22) (x := a0) 0 rfl rfl dX2_closersIn_22 ?_
  refine g_bVu (pc := 23) (y := yX2_thinks) (ws := ws_ yX2_thinks cX2_thinks 1 none) (fr := 1) (lo := 24) (as := []) (st := []) (g_no) rfl (fun _ _ _ e => tX2_thinks hs e) (fun K _ _ _ hq hM R e1 e2 => g_runV (M := mX2_closersIn) (pc := 23) (y := yX2_thinks) (bytes := cX2_thinks) (maxL := 1) (ret := none) (fr := 1) (lo := 24) (as := []) (st := []) hq (C := "FlareSlopesModel") rfl gy_X2_thinks (gbl rfl) (gbl rfl) (gbl rfl) q4456 q4458 qs114 dX2_closersIn_23 K hM R e1 e2) fun v8 h9 => ?_
  refine g_aload_n (pc := 26) (x := a0) 0 rfl rfl dX2_closersIn_26 ?_
  refine g_iload_n (pc := 27) (x := a2) 2 rfl rfl dX2_closersIn_27 ?_
  refine g_bVu (pc := 28) (y := yX2_passes) (ws := ws_ yX2_passes cX2_passes 3 none) (fr := 7) (lo := 160) (as := [gi a2]) (st := []) (g_no) rfl (fun _ _ _ e => tX2_passes hs e) (fun K _ _ _ hq hM R e1 e2 => g_runV (M := mX2_closersIn) (pc := 28) (y := yX2_passes) (bytes := cX2_passes) (maxL := 3) (ret := none) (fr := 7) (lo := 160) (as := [gi a2]) (st := []) hq (C := "FlareSlopesModel") rfl gy_X2_passes (gbl rfl) (gbl rfl) (gbl rfl) q4487 q4489 qs119 dX2_closersIn_28 K hM R e1 e2) fun v10 h11 => ?_
  refine g_aload_n (pc := 31) (x := a0) 0 rfl rfl dX2_closersIn_31 ?_
  refine g_aload_n (pc := 32) (x := a0) 0 rfl rfl dX2_closersIn_32 ?_
  refine g_iload_n (pc := 33) (x := a1) 1 rfl rfl dX2_closersIn_33 ?_
  refine g_bVi (pc := 34) (y := yX2_closersOf) (ws := ws_ yX2_closersOf cX2_closersOf 4 (some .int)) (fr := 2) (lo := 43) (as := [gi a1]) (st := [gr a0]) (g_no) rfl (fun _ _ _ e => tX2_closersOf hs e) (fun K _ _ _ hq hM R e1 e2 => g_runV (M := mX2_closersIn) (pc := 34) (y := yX2_closersOf) (bytes := cX2_closersOf) (maxL := 4) (ret := (some .int)) (fr := 2) (lo := 43) (as := [gi a1]) (st := [gr a0]) hq (C := "FlareSlopesModel") rfl gy_X2_closersOf (gbl rfl) (gbl rfl) (gbl rfl) q4249 q4251 qs94 dX2_closersIn_34 K hM R e1 e2) fun v12 h13 => ?_
  refine g_bVi (pc := 37) (y := yX2_back) (ws := ws_ yX2_back cX2_back 2 (some .int)) (fr := 1) (lo := 24) (as := [gi v12]) (st := []) (g_no) rfl (fun _ _ _ e => tX2_back hs e) (fun K _ _ _ hq hM R e1 e2 => g_runV (M := mX2_closersIn) (pc := 37) (y := yX2_back) (bytes := cX2_back) (maxL := 2) (ret := (some .int)) (fr := 1) (lo := 24) (as := [gi v12]) (st := []) hq (C := "FlareSlopesModel") rfl gy_X2_back (gbl rfl) (gbl rfl) (gbl rfl) q4460 q4462 qs115 dX2_closersIn_37 K hM R e1 e2) fun v14 h15 => ?_
  exact g_ireturn (pc := 40) rfl dX2_closersIn_40
/-! FlareSlopes.votesIn(I)I -/
noncomputable def sX1_votesIn (G : GG) (N : Nat) (a0 : Option Nat) (a1 : Int32) (h : Hp) : Out (Int32) :=
  bV h a0 3 (fun q16 => sX1_loaded G N (some q16) h) fun v1 h2 =>
  bnd (sX1_checkTicks G N a1 h2) fun v3 h4 =>
  gNew h4 16 [.null, .null, .null, .null, .int 0, .int 0, .int 0, .int 0, .int 0, .int 0, .int 0, .int 0, .null, .null] 14 fun v5 h6 =>
  bI v5 (fun q15 => sX3_init_2 G N (some q15) v1 h6) fun v7 h8 =>
  bV h8 v5 16 (fun q14 => sX3_ticks G N (some q14) a1 h8) fun v9 h10 =>
  bV h10 v9 16 (fun q13 => sX3_remembered G N (some q13) h10) fun v11 h12 =>
  some (.inl v11, h12)
abbrev mX1_votesIn : MI := (RX1, cX1_votesIn, 3, (some .int), [], 9, 202, "votesIn")
theorem tX1_votesIn {G : GG} {l : Launch} (hs : l.stackTraces = false) {N : Nat} {a0 : Option Nat} {a1 : Int32} {h : Hp} {r : Int32 ⊕ Nat} {hf : Hp} (ho : sX1_votesIn G N a0 a1 h = some (r, hf)) : gMet G l yX1_votesIn (ws_ yX1_votesIn cX1_votesIn 3 (some .int)) 9 202 [gr a0, gi a1] h cvI r hf := by
  refine gMet.of ho hs (plainFor_of_name pn_X1) rfl rfl (gbl rfl) fun X => ?_
  show gT G l X mX1_votesIn cvI r hf 0 [(0, gr a0), (1, gi a1)] [] h (sX1_votesIn G N a0 a1 h)
  delta sX1_votesIn
  refine g_aload_n (pc := 0) (x := a0) 0 rfl rfl dX1_votesIn_0 ?_
  refine g_bVr (pc := 1) (y := yX1_loaded) (ws := ws_ yX1_loaded cX1_loaded 1 (some (.object "FlareSlopes$State"))) (fr := 7) (lo := 101) (as := []) (st := []) (g_no) rfl (fun _ _ _ e => tX1_loaded hs e) (fun K _ _ _ hq hM R e1 e2 => g_runV (M := mX1_votesIn) (pc := 1) (y := yX1_loaded) (bytes := cX1_loaded) (maxL := 1) (ret := (some (.object "FlareSlopes$State"))) (fr := 7) (lo := 101) (as := []) (st := []) hq (C := "FlareSlopes") rfl gy_X1_loaded (gbl rfl) (gbl rfl) (gbl rfl) q1430 q1432 qs17 dX1_votesIn_1 K hM R e1 e2) fun v1 h2 => ?_
  refine g_astore_n (pc := 4) (lv' := [(2, gr v1), (1, gi a1)]) [0, 2] rfl rfl (gblt rfl) dX1_votesIn_4 ?_
  refine g_iload_n (pc := 5) (x := a1) 1 rfl rfl dX1_votesIn_5 ?_
  refine g_bu (pc := 6) (y := yX1_checkTicks) (ws := ws_ yX1_checkTicks cX1_checkTicks 1 none) (fr := 7) (lo := 101) (as := [gi a1]) (st := []) (g_no) rfl (fun _ _ e => tX1_checkTicks hs e) (fun K _ _ hM R e1 e2 => g_runS (M := mX1_votesIn) (pc := 6) (y := yX1_checkTicks) (bytes := cX1_checkTicks) (maxL := 1) (ret := none) (fr := 7) (lo := 101) (as := [gi a1]) (st := []) gy_X1_checkTicks (gbl rfl) (gbl rfl) (gbl rfl) q3582 q3583 dX1_votesIn_6 K hM R e1 e2) fun v3 h4 => ?_
  refine g_new (pc := 9) k_16 df_16 q233 q437 q141 dX1_votesIn_9 fun v5 h6 => ?_
  refine g_dup (pc := 12) rfl dX1_votesIn_12 ?_
  refine g_aload_n (pc := 13) (x := v1) 0 rfl rfl dX1_votesIn_13 ?_
  refine g_bIu (pc := 14) (y := yX3_init_2) (ws := ws_ yX3_init_2 cX3_init_2 4 none) (fr := 7) (lo := 162) (as := [gr v1]) (st := [gr v5]) (g_no) rfl (fun _ _ _ e => tX3_init_2 hs e) (fun K _ _ _ hM R e1 e2 => g_runI (M := mX1_votesIn) (pc := 14) (y := yX3_init_2) (bytes := cX3_init_2) (maxL := 4) (ret := none) (fr := 7) (lo := 162) (as := [gr v1]) (st := [gr v5]) gy_X3_init_2 (gbl rfl) (gbl rfl) (gbl rfl) rfl q3466 q3467 rfl dX1_votesIn_14 K hM R e1 e2) fun v7 h8 => ?_
  refine g_iload_n (pc := 17) (x := a1) 1 rfl rfl dX1_votesIn_17 ?_
  refine g_bVr (pc := 18) (y := yX3_ticks) (ws := ws_ yX3_ticks cX3_ticks 3 (some (.object "FlareSlopes$State"))) (fr := 8) (lo := 180) (as := [gi a1]) (st := []) (g_no) rfl (fun _ _ _ e => tX3_ticks hs e) (fun K _ _ _ hq hM R e1 e2 => g_runV (M := mX1_votesIn) (pc := 18) (y := yX3_ticks) (bytes := cX3_ticks) (maxL := 3) (ret := (some (.object "FlareSlopes$State"))) (fr := 8) (lo := 180) (as := [gi a1]) (st := []) hq (C := "FlareSlopes$State") rfl gy_X3_ticks (gbl rfl) (gbl rfl) (gbl rfl) q3585 q3586 q3587 dX1_votesIn_18 K hM R e1 e2) fun v9 h10 => ?_
  refine g_bVi (pc := 21) (y := yX3_remembered) (ws := ws_ yX3_remembered cX3_remembered 4 (some .int)) (fr := 3) (lo := 53) (as := []) (st := []) (g_no) rfl (fun _ _ _ e => tX3_remembered hs e) (fun K _ _ _ hq hM R e1 e2 => g_runV (M := mX1_votesIn) (pc := 21) (y := yX3_remembered) (bytes := cX3_remembered) (maxL := 4) (ret := (some .int)) (fr := 3) (lo := 53) (as := []) (st := []) hq (C := "FlareSlopes$State") rfl gy_X3_remembered (gbl rfl) (gbl rfl) (gbl rfl) q1470 q1471 q1472 dX1_votesIn_21 K hM R e1 e2) fun v11 h12 => ?_
  exact g_ireturn (pc := 24) rfl dX1_votesIn_24
/-! FlareSlopesLaw.votesIn(LFlareSlopes;I[J)I -/
noncomputable def sX0_votesIn (G : GG) (N : Nat) (a0 : Option Nat) (a1 : Int32) (a2 : Option Nat) (h : Hp) : Out (Int32) :=
  bVX h a0 3 (fun q4 => sX1_votesIn G N (some q4) a1 h) (fun v1 h2 =>
  gSl G h2 a2 3 (0 : Int32) (v1.toInt64) fun h3 =>
  some (.inl (0 : Int32), h3)) fun q5 h6 =>
  gSw h6 (some q5) 0 (some (.inl (1 : Int32), h6)) (gSw h6 (some q5) 1 (some (.inl (2 : Int32), h6)) (none))
abbrev mX0_votesIn : MI := (RX0, cX0_votesIn, 4, (some .int), [(0, 9, 12, 21), (0, 9, 15, 15)], 10, 224, "votesIn")
theorem tX0_votesIn {G : GG} {l : Launch} (hs : l.stackTraces = false) {N : Nat} {a0 : Option Nat} {a1 : Int32} {a2 : Option Nat} {h : Hp} {r : Int32 ⊕ Nat} {hf : Hp} (ho : sX0_votesIn G N a0 a1 a2 h = some (r, hf)) : gMet G l yX0_votesIn (wsW_ yX0_votesIn cX0_votesIn 4 (some .int) [(0, 9, 12, 21), (0, 9, 15, 15)]) 10 224 [gr a0, gi a1, gr a2] h cvI r hf := by
  refine gMet.ofW ho hs (plainFor_of_name pn_X0) rfl rfl (gbl rfl) fun X => ?_
  show gT G l X mX0_votesIn cvI r hf 0 [(0, gr a0), (1, gi a1), (2, gr a2)] [] h (sX0_votesIn G N a0 a1 a2 h)
  delta sX0_votesIn
  refine g_aload_n (pc := 0) (x := a2) 2 rfl rfl dX0_votesIn_0 ?_
  refine g_iconst (pc := 1) (v := (0 : Int32)) ic_0 dX0_votesIn_1 ?_
  refine g_aload_n (pc := 2) (x := a0) 0 rfl rfl dX0_votesIn_2 ?_
  refine g_iload_n (pc := 3) (x := a1) 1 rfl rfl dX0_votesIn_3 ?_
  refine g_bVXi (pc := 4) (y := yX1_votesIn) (ws := ws_ yX1_votesIn cX1_votesIn 3 (some .int)) (fr := 9) (lo := 202) (as := [gi a1]) (st := [gi (0 : Int32), gr a2]) rfl (fun _ _ _ e => tX1_votesIn hs e) (fun K _ _ _ hq hM R e1 e2 => g_runV (M := mX0_votesIn) (pc := 4) (y := yX1_votesIn) (bytes := cX1_votesIn) (maxL := 3) (ret := (some .int)) (fr := 9) (lo := 202) (as := [gi a1]) (st := [gi (0 : Int32), gr a2]) hq (C := "FlareSlopes") rfl gy_X1_votesIn (gbl rfl) (gbl rfl) (gbl rfl) q3593 q3594 q3595 dX0_votesIn_4 K hM R e1 e2) (fun v1 h2 => ?_) (fun q5 h6 => ?_)
  · refine g_i2l (pc := 7) dX0_votesIn_7 ?_
    refine g_lastore (pc := 8) rfl dX0_votesIn_8 fun h3 => ?_
    refine g_goto (pc := 9) (tgt := 18) rfl dX0_votesIn_9 ?_
    refine g_iconst (pc := 18) (v := (0 : Int32)) ic_0 dX0_votesIn_18 ?_
    exact g_ireturn (pc := 19) rfl dX0_votesIn_19
  refine g_catch (E := "java/lang/IllegalStateException") [] ⟨0, 9, 12, 21⟩ [⟨0, 9, 15, 15⟩] rfl rfl (List.forall_mem_nil _) (by decide +kernel) (by decide +kernel) q1425 q1439 ?_ ?_
  · refine g_astore_n (pc := 12) (lv' := []) [] rfl rfl (gblt rfl) dX0_votesIn_12 ?_
    refine g_iconst (pc := 13) (v := (1 : Int32)) ic_1 dX0_votesIn_13 ?_
    exact g_ireturn (pc := 14) rfl dX0_votesIn_14
  refine g_catch (E := "java/lang/IllegalArgumentException") [⟨0, 9, 12, 21⟩] ⟨0, 9, 15, 15⟩ [] rfl rfl (List.forall_mem_cons.mpr ⟨Or.inr ⟨by decide +kernel, _, q1425, ncl_java_lang_IllegalArgumentException_java_lang_IllegalStateException⟩, List.forall_mem_nil _⟩) (by decide +kernel) (by decide +kernel) q404 q751 ?_ ?_
  · refine g_astore_n (pc := 15) (lv' := []) [] rfl rfl (gblt rfl) dX0_votesIn_15 ?_
    refine g_iconst (pc := 16) (v := (2 : Int32)) ic_2 dX0_votesIn_16 ?_
    exact g_ireturn (pc := 17) rfl dX0_votesIn_17
  exact g_noneX
/-! FlareSlopesModel.votesIn(I)I -/
noncomputable def sX2_votesIn (G : GG) (N : Nat) (a0 : Option Nat) (a1 : Int32) (h : Hp) : Out (Int32) :=
  gFi h a0 18 8 fun v1 =>
  bnd (sX2_isFar G N a1 h) fun v2 h3 =>
  bV h3 a0 18 (fun q18 => sX2_mayTwo G N (some q18) v1 v2 h3) fun v4 h5 =>
  if v4 = 0 then (some (.inl (0 : Int32), h5))
  else bV h5 a0 18 (fun q17 => sX2_thinks G N (some q17) h5) fun v6 h7 =>
  bV h7 a0 18 (fun q16 => sX2_passes G N (some q16) a1 h7) fun v8 h9 =>
  bV h9 a0 18 (fun q15 => sX2_allVotes G N (some q15) h9) fun v10 h11 =>
  bV h11 a0 18 (fun q14 => sX2_back G N (some q14) v10 h11) fun v12 h13 =>
  some (.inl v12, h13)
abbrev mX2_votesIn : MI := (RX2, cX2_votesIn, 2, (some .int), [], 8, 182, "votesIn")
theorem tX2_votesIn {G : GG} {l : Launch} (hs : l.stackTraces = false) {N : Nat} {a0 : Option Nat} {a1 : Int32} {h : Hp} {r : Int32 ⊕ Nat} {hf : Hp} (ho : sX2_votesIn G N a0 a1 h = some (r, hf)) : gMet G l yX2_votesIn (ws_ yX2_votesIn cX2_votesIn 2 (some .int)) 8 182 [gr a0, gi a1] h cvI r hf := by
  refine gMet.of ho hs (plainFor_of_name pn_X2) rfl rfl (gbl rfl) fun X => ?_
  show gT G l X mX2_votesIn cvI r hf 0 [(0, gr a0), (1, gi a1)] [] h (sX2_votesIn G N a0 a1 h)
  delta sX2_votesIn
  refine g_aload_n (pc := 0) (x := a0) 0 rfl rfl dX2_votesIn_0 ?_
  refine g_aload_n (pc := 1) (x := a0) 0 rfl rfl dX2_votesIn_1 ?_
  refine g_getfi (pc := 2) k_18 (gblt rfl) lk_X2_184_18 dX2_votesIn_2 fun v1 => ?_
  refine g_iload_n (pc := 5) (x := a1) 1 rfl rfl dX2_votesIn_5 ?_
  refine g_bi (pc := 6) (y := yX2_isFar) (ws := ws_ yX2_isFar cX2_isFar 1 (some .boolean)) (fr := 1) (lo := 22) (as := [gi a1]) (st := [gi v1, gr a0]) (g_no) rfl (fun _ _ e => tX2_isFar hs e) (fun K _ _ hM R e1 e2 => g_runS (M := mX2_votesIn) (pc := 6) (y := yX2_isFar) (bytes := cX2_isFar) (maxL := 1) (ret := (some .boolean)) (fr := 1) (lo := 22) (as := [gi a1]) (st := [gi v1, gr a0]) gy_X2_isFar (gbl rfl) (gbl rfl) (gbl rfl) q4484 q4485 dX2_votesIn_6 K hM R e1 e2) fun v2 h3 => ?_
  refine g_bVi (pc := 9) (y := yX2_mayTwo) (ws := ws_ yX2_mayTwo cX2_mayTwo 3 (some .boolean)) (fr := 1) (lo := 23) (as := [gi v1, gi v2]) (st := []) (g_no) rfl (fun _ _ _ e => tX2_mayTwo hs e) (fun K _ _ _ hq hM R e1 e2 => g_runV (M := mX2_votesIn) (pc := 9) (y := yX2_mayTwo) (bytes := cX2_mayTwo) (maxL := 3) (ret := (some .boolean)) (fr := 1) (lo := 23) (as := [gi v1, gi v2]) (st := []) hq (C := "FlareSlopesModel") rfl gy_X2_mayTwo (gbl rfl) (gbl rfl) (gbl rfl) q4145 q4147 qs76 dX2_votesIn_9 K hM R e1 e2) fun v4 h5 => ?_
  refine g_if_ne (pc := 12) (tgt := 17) rfl dX2_votesIn_12 ?_ ?_
  · refine g_iconst (pc := 15) (v := (0 : Int32)) ic_0 dX2_votesIn_15 ?_
    exact g_ireturn (pc := 16) rfl dX2_votesIn_16
  refine g_aload_n (pc := 17) (x := a0) 0 rfl rfl dX2_votesIn_17 ?_
  refine g_bVu (pc := 18) (y := yX2_thinks) (ws := ws_ yX2_thinks cX2_thinks 1 none) (fr := 1) (lo := 24) (as := []) (st := []) (g_no) rfl (fun _ _ _ e => tX2_thinks hs e) (fun K _ _ _ hq hM R e1 e2 => g_runV (M := mX2_votesIn) (pc := 18) (y := yX2_thinks) (bytes := cX2_thinks) (maxL := 1) (ret := none) (fr := 1) (lo := 24) (as := []) (st := []) hq (C := "FlareSlopesModel") rfl gy_X2_thinks (gbl rfl) (gbl rfl) (gbl rfl) q4456 q4458 qs114 dX2_votesIn_18 K hM R e1 e2) fun v6 h7 => ?_
  refine g_aload_n (pc := 21) (x := a0) 0 rfl rfl dX2_votesIn_21 ?_
  refine g_iload_n (pc := 22) (x := a1) 1 rfl rfl dX2_votesIn_22 ?_
  refine g_bVu (pc := 23) (y := yX2_passes) (ws := ws_ yX2_passes cX2_passes 3 none) (fr := 7) (lo := 160) (as := [gi a1]) (st := []) (g_no) rfl (fun _ _ _ e => tX2_passes hs e) (fun K _ _ _ hq hM R e1 e2 => g_runV (M := mX2_votesIn) (pc := 23) (y := yX2_passes) (bytes := cX2_passes) (maxL := 3) (ret := none) (fr := 7) (lo := 160) (as := [gi a1]) (st := []) hq (C := "FlareSlopesModel") rfl gy_X2_passes (gbl rfl) (gbl rfl) (gbl rfl) q4487 q4489 qs119 dX2_votesIn_23 K hM R e1 e2) fun v8 h9 => ?_
  refine g_aload_n (pc := 26) (x := a0) 0 rfl rfl dX2_votesIn_26 ?_
  refine g_aload_n (pc := 27) (x := a0) 0 rfl rfl dX2_votesIn_27 ?_
  refine g_bVi (pc := 28) (y := yX2_allVotes) (ws := ws_ yX2_allVotes cX2_allVotes 3 (some .int)) (fr := 2) (lo := 45) (as := []) (st := [gr a0]) (g_no) rfl (fun _ _ _ e => tX2_allVotes hs e) (fun K _ _ _ hq hM R e1 e2 => g_runV (M := mX2_votesIn) (pc := 28) (y := yX2_allVotes) (bytes := cX2_allVotes) (maxL := 3) (ret := (some .int)) (fr := 2) (lo := 45) (as := []) (st := [gr a0]) hq (C := "FlareSlopesModel") rfl gy_X2_allVotes (gbl rfl) (gbl rfl) (gbl rfl) q4157 q4159 qs78 dX2_votesIn_28 K hM R e1 e2) fun v10 h11 => ?_
  refine g_bVi (pc := 31) (y := yX2_back) (ws := ws_ yX2_back cX2_back 2 (some .int)) (fr := 1) (lo := 24) (as := [gi v10]) (st := []) (g_no) rfl (fun _ _ _ e => tX2_back hs e) (fun K _ _ _ hq hM R e1 e2 => g_runV (M := mX2_votesIn) (pc := 31) (y := yX2_back) (bytes := cX2_back) (maxL := 2) (ret := (some .int)) (fr := 1) (lo := 24) (as := [gi v10]) (st := []) hq (C := "FlareSlopesModel") rfl gy_X2_back (gbl rfl) (gbl rfl) (gbl rfl) q4460 q4462 qs115 dX2_votesIn_31 K hM R e1 e2) fun v12 h13 => ?_
  exact g_ireturn (pc := 34) rfl dX2_votesIn_34
/-! FlareSlopes.seeIn(II)I -/
noncomputable def bX1_seeIn_23 (G : GG) (N : Nat) (a1 : Int32) (a2 : Int32) (v3 : Option Nat) (w10 : (Int32) → Hp → Out (Int32)) (x8 : Int32) (h9 : Hp) : Out (Int32) :=
  if (200 : Int32) < x8 then (some (.inl (-1 : Int32), h9))
  else bV h9 v3 16 (fun q15 => sX3_sees G N (some q15) a1 a2 h9) fun v11 h12 =>
  if v11 = 0 then (gFi h12 v3 16 4 fun v13 =>
  gP G h12 v3 16 4 (.int (v13 + (1 : Int32))) fun h14 =>
  w10 (x8 + (1 : Int32)) h14)
  else some (.inl x8, h12)
noncomputable def sX1_seeIn (G : GG) (N : Nat) (a0 : Option Nat) (a1 : Int32) (a2 : Int32) (h : Hp) : Out (Int32) :=
  bV h a0 3 (fun q17 => sX1_withTwo G N (some q17) a1 a2 h) fun v1 h2 =>
  gNew h2 16 [.null, .null, .null, .null, .int 0, .int 0, .int 0, .int 0, .int 0, .int 0, .int 0, .int 0, .null, .null] 14 fun v3 h4 =>
  gFr h4 a0 3 4 fun v5 =>
  bI v3 (fun q16 => sX3_init_2 G N (some q16) v5 h4) fun v6 h7 =>
  gLp (bX1_seeIn_23 G N a1 a2 v3) N (0 : Int32) h7
abbrev mX1_seeIn : MI := (RX1, cX1_seeIn, 6, (some .int), [], 10, 185, "seeIn")
theorem tX1_seeIn {G : GG} {l : Launch} (hs : l.stackTraces = false) {N : Nat} {a0 : Option Nat} {a1 : Int32} {a2 : Int32} {h : Hp} {r : Int32 ⊕ Nat} {hf : Hp} (ho : sX1_seeIn G N a0 a1 a2 h = some (r, hf)) : gMet G l yX1_seeIn (ws_ yX1_seeIn cX1_seeIn 6 (some .int)) 10 185 [gr a0, gi a1, gi a2] h cvI r hf := by
  refine gMet.of ho hs (plainFor_of_name pn_X1) rfl rfl (gbl rfl) fun X => ?_
  show gT G l X mX1_seeIn cvI r hf 0 [(0, gr a0), (1, gi a1), (2, gi a2)] [] h (sX1_seeIn G N a0 a1 a2 h)
  delta sX1_seeIn
  refine g_aload_n (pc := 0) (x := a0) 0 rfl rfl dX1_seeIn_0 ?_
  refine g_iload_n (pc := 1) (x := a1) 1 rfl rfl dX1_seeIn_1 ?_
  refine g_iload_n (pc := 2) (x := a2) 2 rfl rfl dX1_seeIn_2 ?_
  refine g_bVr (pc := 3) (y := yX1_withTwo) (ws := ws_ yX1_withTwo cX1_withTwo 4 (some (.object "FlareSlopes$Cabin"))) (fr := 9) (lo := 142) (as := [gi a1, gi a2]) (st := []) (g_no) rfl (fun _ _ _ e => tX1_withTwo hs e) (fun K _ _ _ hq hM R e1 e2 => g_runV (M := mX1_seeIn) (pc := 3) (y := yX1_withTwo) (bytes := cX1_withTwo) (maxL := 4) (ret := (some (.object "FlareSlopes$Cabin"))) (fr := 9) (lo := 142) (as := [gi a1, gi a2]) (st := []) hq (C := "FlareSlopes") rfl gy_X1_withTwo (gbl rfl) (gbl rfl) (gbl rfl) q3129 q3131 qs44 dX1_seeIn_3 K hM R e1 e2) fun v1 h2 => ?_
  refine g_astore_n (pc := 6) (lv' := [(0, gr a0), (1, gi a1), (2, gi a2)]) [1, 2, 3] rfl rfl (gblt rfl) dX1_seeIn_6 ?_
  refine g_new (pc := 7) k_16 df_16 q233 q437 q141 dX1_seeIn_7 fun v3 h4 => ?_
  refine g_dup (pc := 10) rfl dX1_seeIn_10 ?_
  refine g_aload_n (pc := 11) (x := a0) 0 rfl rfl dX1_seeIn_11 ?_
  refine g_getfr (pc := 12) k_3 (gblt rfl) lk_X1_56_3 dX1_seeIn_12 fun v5 => ?_
  refine g_bIu (pc := 15) (y := yX3_init_2) (ws := ws_ yX3_init_2 cX3_init_2 4 none) (fr := 7) (lo := 162) (as := [gr v5]) (st := [gr v3]) (g_no) rfl (fun _ _ _ e => tX3_init_2 hs e) (fun K _ _ _ hM R e1 e2 => g_runI (M := mX1_seeIn) (pc := 15) (y := yX3_init_2) (bytes := cX3_init_2) (maxL := 4) (ret := none) (fr := 7) (lo := 162) (as := [gr v5]) (st := [gr v3]) gy_X3_init_2 (gbl rfl) (gbl rfl) (gbl rfl) rfl q3466 q3467 rfl dX1_seeIn_15 K hM R e1 e2) fun v6 h7 => ?_
  refine g_astore (pc := 18) (lv' := [(4, gr v3), (1, gi a1), (2, gi a2)]) [0, 2, 3] rfl (gblt rfl) dX1_seeIn_18 ?_
  refine g_iconst (pc := 20) (v := (0 : Int32)) ic_0 dX1_seeIn_20 ?_
  refine g_istore (pc := 21) (lv' := [(5, gi (0 : Int32)), (4, gr v3), (1, gi a1), (2, gi a2)]) [0, 1, 2, 3] rfl (gblt rfl) dX1_seeIn_21 ?_
  refine g_sub (lv' := [(1, gi a1), (2, gi a2), (4, gr v3), (5, gi (0 : Int32))]) [2, 3, 1, 0] rfl ?_
  refine g_loop (pc := 23) (fun (x8 : Int32) => [(1, gi a1), (2, gi a2), (4, gr v3), (5, gi x8)]) (fun (_ : Int32) => []) (fun w10 Hw10 x8 h9 => ?_) N (0 : Int32) h7
  delta bX1_seeIn_23
  refine g_iload (pc := 23) (x := x8) 3 rfl dX1_seeIn_23 ?_
  refine g_sipush (pc := 25) (v := (200 : Int32)) sc_200 dX1_seeIn_25 ?_
  refine g_icmp_gt (pc := 28) (tgt := 61) rfl dX1_seeIn_28 ?_ ?_
  · refine g_iconst (pc := 61) (v := (-1 : Int32)) ic_m1 dX1_seeIn_61 ?_
    exact g_ireturn (pc := 62) rfl dX1_seeIn_62
  refine g_aload (pc := 31) (x := v3) 2 rfl dX1_seeIn_31 ?_
  refine g_iload_n (pc := 33) (x := a1) 0 rfl rfl dX1_seeIn_33 ?_
  refine g_iload_n (pc := 34) (x := a2) 1 rfl rfl dX1_seeIn_34 ?_
  refine g_bVi (pc := 35) (y := yX3_sees) (ws := ws_ yX3_sees cX3_sees 3 (some .boolean)) (fr := 6) (lo := 129) (as := [gi a1, gi a2]) (st := []) (g_no) rfl (fun _ _ _ e => tX3_sees hs e) (fun K _ _ _ hq hM R e1 e2 => g_runV (M := mX1_seeIn) (pc := 35) (y := yX3_sees) (bytes := cX3_sees) (maxL := 3) (ret := (some .boolean)) (fr := 6) (lo := 129) (as := [gi a1, gi a2]) (st := []) hq (C := "FlareSlopes$State") rfl gy_X3_sees (gbl rfl) (gbl rfl) (gbl rfl) q3133 q1635 q1636 dX1_seeIn_35 K hM R e1 e2) fun v11 h12 => ?_
  refine g_if_eq (pc := 38) (tgt := 44) rfl dX1_seeIn_38 ?_ ?_
  rotate_left
  · refine g_iload (pc := 41) (x := x8) 3 rfl dX1_seeIn_41 ?_
    exact g_ireturn (pc := 43) rfl dX1_seeIn_43
  refine g_aload (pc := 44) (x := v3) 2 rfl dX1_seeIn_44 ?_
  refine g_dup (pc := 46) rfl dX1_seeIn_46 ?_
  refine g_getfi (pc := 47) k_16 (gblt rfl) lk_X1_155_16 dX1_seeIn_47 fun v13 => ?_
  refine g_iconst (pc := 50) (v := (1 : Int32)) ic_1 dX1_seeIn_50 ?_
  refine g_iadd (pc := 51) dX1_seeIn_51 ?_
  refine g_put (pc := 52) k_16 (gblt rfl) lk_X1_155_16 rfl rfl (gNi _) dX1_seeIn_52 fun h14 => ?_
  refine g_iinc (pc := 55) (v := x8 + (1 : Int32)) 3 rfl (ii_1 _) (lv' := [(5, gi (x8 + (1 : Int32))), (1, gi a1), (2, gi a2), (4, gr v3)]) [0, 1, 2, 3] rfl (gblt rfl) dX1_seeIn_55 ?_
  refine g_goto (pc := 58) (tgt := 23) rfl dX1_seeIn_58 ?_
  exact g_sub [1, 2, 3, 0] rfl (Hw10 (x8 + (1 : Int32)) h14)
/-! FlareSlopesLaw.seeIn(LFlareSlopes;II[J)I -/
noncomputable def sX0_seeIn (G : GG) (N : Nat) (a0 : Option Nat) (a1 : Int32) (a2 : Int32) (a3 : Option Nat) (h : Hp) : Out (Int32) :=
  bVX h a0 3 (fun q4 => sX1_seeIn G N (some q4) a1 a2 h) (fun v1 h2 =>
  gSl G h2 a3 3 (0 : Int32) (v1.toInt64) fun h3 =>
  some (.inl (0 : Int32), h3)) fun q5 h6 =>
  gSw h6 (some q5) 0 (some (.inl (1 : Int32), h6)) (gSw h6 (some q5) 2 (some (.inl (2 : Int32), h6)) (none))
abbrev mX0_seeIn : MI := (RX0, cX0_seeIn, 5, (some .int), [(0, 10, 13, 21), (0, 10, 17, 13)], 11, 210, "seeIn")
theorem tX0_seeIn {G : GG} {l : Launch} (hs : l.stackTraces = false) {N : Nat} {a0 : Option Nat} {a1 : Int32} {a2 : Int32} {a3 : Option Nat} {h : Hp} {r : Int32 ⊕ Nat} {hf : Hp} (ho : sX0_seeIn G N a0 a1 a2 a3 h = some (r, hf)) : gMet G l yX0_seeIn (wsW_ yX0_seeIn cX0_seeIn 5 (some .int) [(0, 10, 13, 21), (0, 10, 17, 13)]) 11 210 [gr a0, gi a1, gi a2, gr a3] h cvI r hf := by
  refine gMet.ofW ho hs (plainFor_of_name pn_X0) rfl rfl (gbl rfl) fun X => ?_
  show gT G l X mX0_seeIn cvI r hf 0 [(0, gr a0), (1, gi a1), (2, gi a2), (3, gr a3)] [] h (sX0_seeIn G N a0 a1 a2 a3 h)
  delta sX0_seeIn
  refine g_aload_n (pc := 0) (x := a3) 3 rfl rfl dX0_seeIn_0 ?_
  refine g_iconst (pc := 1) (v := (0 : Int32)) ic_0 dX0_seeIn_1 ?_
  refine g_aload_n (pc := 2) (x := a0) 0 rfl rfl dX0_seeIn_2 ?_
  refine g_iload_n (pc := 3) (x := a1) 1 rfl rfl dX0_seeIn_3 ?_
  refine g_iload_n (pc := 4) (x := a2) 2 rfl rfl dX0_seeIn_4 ?_
  refine g_bVXi (pc := 5) (y := yX1_seeIn) (ws := ws_ yX1_seeIn cX1_seeIn 6 (some .int)) (fr := 10) (lo := 185) (as := [gi a1, gi a2]) (st := [gi (0 : Int32), gr a3]) rfl (fun _ _ _ e => tX1_seeIn hs e) (fun K _ _ _ hq hM R e1 e2 => g_runV (M := mX0_seeIn) (pc := 5) (y := yX1_seeIn) (bytes := cX1_seeIn) (maxL := 6) (ret := (some .int)) (fr := 10) (lo := 185) (as := [gi a1, gi a2]) (st := [gi (0 : Int32), gr a3]) hq (C := "FlareSlopes") rfl gy_X1_seeIn (gbl rfl) (gbl rfl) (gbl rfl) q3600 q3601 q3602 dX0_seeIn_5 K hM R e1 e2) (fun v1 h2 => ?_) (fun q5 h6 => ?_)
  · refine g_i2l (pc := 8) dX0_seeIn_8 ?_
    refine g_lastore (pc := 9) rfl dX0_seeIn_9 fun h3 => ?_
    refine g_goto (pc := 10) (tgt := 21) rfl dX0_seeIn_10 ?_
    refine g_iconst (pc := 21) (v := (0 : Int32)) ic_0 dX0_seeIn_21 ?_
    exact g_ireturn (pc := 22) rfl dX0_seeIn_22
  refine g_catch (E := "java/lang/IllegalStateException") [] ⟨0, 10, 13, 21⟩ [⟨0, 10, 17, 13⟩] rfl rfl (List.forall_mem_nil _) (by decide +kernel) (by decide +kernel) q1425 q1439 ?_ ?_
  · refine g_astore (pc := 13) (lv' := []) [] rfl (gblt rfl) dX0_seeIn_13 ?_
    refine g_iconst (pc := 15) (v := (1 : Int32)) ic_1 dX0_seeIn_15 ?_
    exact g_ireturn (pc := 16) rfl dX0_seeIn_16
  refine g_catch (E := "java/lang/IndexOutOfBoundsException") [⟨0, 10, 13, 21⟩] ⟨0, 10, 17, 13⟩ [] rfl rfl (List.forall_mem_cons.mpr ⟨Or.inr ⟨by decide +kernel, _, q1425, ncl_java_lang_IndexOutOfBoundsException_java_lang_IllegalStateException⟩, List.forall_mem_nil _⟩) (by decide +kernel) (by decide +kernel) q325 q418 ?_ ?_
  · refine g_astore (pc := 17) (lv' := []) [] rfl (gblt rfl) dX0_seeIn_17 ?_
    refine g_iconst (pc := 19) (v := (2 : Int32)) ic_2 dX0_seeIn_19 ?_
    exact g_ireturn (pc := 20) rfl dX0_seeIn_20
  exact g_noneX
/-! FlareSlopesModel.seeIn(II)I -/
noncomputable def bX2_seeIn_17 (G : GG) (N : Nat) (a0 : Option Nat) (a1 : Int32) (a2 : Int32) (j7 : (Int32) → Hp → Out (Int32)) (j13 : (Unit) → Hp → Out (Int32)) (w19 : (Int32) → Hp → Out (Int32)) (x17 : Int32) (h18 : Hp) : Out (Int32) :=
  if (200 : Int32) < x17 then (j13 () h18)
  else bV h18 a0 18 (fun q25 => sX2_seeOneAnother G N (some q25) a1 a2 h18) fun v20 h21 =>
  if v20 = 0 then (gFr h21 a0 18 1 fun v22 =>
  gAi h21 v22 0 (90 : Int32) fun v23 =>
  gSi G h21 v22 0 (90 : Int32) (v23 + (1 : Int32)) fun h24 =>
  w19 (x17 + (1 : Int32)) h24)
  else j7 x17 h21
noncomputable def sX2_seeIn (G : GG) (N : Nat) (a0 : Option Nat) (a1 : Int32) (a2 : Int32) (h : Hp) : Out (Int32) :=
  bV h a0 18 (fun q27 => sX2_mayCabins G N (some q27) a1 a2 h) fun v1 h2 =>
  if v1 = 0 then (some (.inl (0 : Int32), h2))
  else bV h2 a0 18 (fun q26 => sX2_thinks G N (some q26) h2) fun v3 h4 =>
  gJ (fun (x5 : Int32) (h6 : Hp) =>
  bV h6 a0 18 (fun q10 => sX2_back G N (some q10) x5 h6) fun v8 h9 =>
  some (.inl v8, h9)) fun j7 =>
  gJ (fun (x11 : Unit) (h12 : Hp) =>
  bV h12 a0 18 (fun q16 => sX2_back G N (some q16) (-1 : Int32) h12) fun v14 h15 =>
  some (.inl v14, h15)) fun j13 =>
  gLp (bX2_seeIn_17 G N a0 a1 a2 j7 j13) N (0 : Int32) h4
abbrev mX2_seeIn : MI := (RX2, cX2_seeIn, 4, (some .int), [], 4, 93, "seeIn")
theorem tX2_seeIn {G : GG} {l : Launch} (hs : l.stackTraces = false) {N : Nat} {a0 : Option Nat} {a1 : Int32} {a2 : Int32} {h : Hp} {r : Int32 ⊕ Nat} {hf : Hp} (ho : sX2_seeIn G N a0 a1 a2 h = some (r, hf)) : gMet G l yX2_seeIn (ws_ yX2_seeIn cX2_seeIn 4 (some .int)) 4 93 [gr a0, gi a1, gi a2] h cvI r hf := by
  refine gMet.of ho hs (plainFor_of_name pn_X2) rfl rfl (gbl rfl) fun X => ?_
  show gT G l X mX2_seeIn cvI r hf 0 [(0, gr a0), (1, gi a1), (2, gi a2)] [] h (sX2_seeIn G N a0 a1 a2 h)
  delta sX2_seeIn
  refine g_aload_n (pc := 0) (x := a0) 0 rfl rfl dX2_seeIn_0 ?_
  refine g_iload_n (pc := 1) (x := a1) 1 rfl rfl dX2_seeIn_1 ?_
  refine g_iload_n (pc := 2) (x := a2) 2 rfl rfl dX2_seeIn_2 ?_
  refine g_bVi (pc := 3) (y := yX2_mayCabins) (ws := ws_ yX2_mayCabins cX2_mayCabins 3 (some .boolean)) (fr := 2) (lo := 45) (as := [gi a1, gi a2]) (st := []) (g_no) rfl (fun _ _ _ e => tX2_mayCabins hs e) (fun K _ _ _ hq hM R e1 e2 => g_runV (M := mX2_seeIn) (pc := 3) (y := yX2_mayCabins) (bytes := cX2_mayCabins) (maxL := 3) (ret := (some .boolean)) (fr := 2) (lo := 45) (as := [gi a1, gi a2]) (st := []) hq (C := "FlareSlopesModel") rfl gy_X2_mayCabins (gbl rfl) (gbl rfl) (gbl rfl) q4308 q4310 qs103 dX2_seeIn_3 K hM R e1 e2) fun v1 h2 => ?_
  refine g_if_ne (pc := 6) (tgt := 11) rfl dX2_seeIn_6 ?_ ?_
  · refine g_iconst (pc := 9) (v := (0 : Int32)) ic_0 dX2_seeIn_9 ?_
    exact g_ireturn (pc := 10) rfl dX2_seeIn_10
  refine g_aload_n (pc := 11) (x := a0) 0 rfl rfl dX2_seeIn_11 ?_
  refine g_bVu (pc := 12) (y := yX2_thinks) (ws := ws_ yX2_thinks cX2_thinks 1 none) (fr := 1) (lo := 24) (as := []) (st := []) (g_no) rfl (fun _ _ _ e => tX2_thinks hs e) (fun K _ _ _ hq hM R e1 e2 => g_runV (M := mX2_seeIn) (pc := 12) (y := yX2_thinks) (bytes := cX2_thinks) (maxL := 1) (ret := none) (fr := 1) (lo := 24) (as := []) (st := []) hq (C := "FlareSlopesModel") rfl gy_X2_thinks (gbl rfl) (gbl rfl) (gbl rfl) q4456 q4458 qs114 dX2_seeIn_12 K hM R e1 e2) fun v3 h4 => ?_
  refine g_iconst (pc := 15) (v := (0 : Int32)) ic_0 dX2_seeIn_15 ?_
  refine g_istore_n (pc := 16) (lv' := [(3, gi (0 : Int32)), (0, gr a0), (1, gi a1), (2, gi a2)]) [0, 1, 2, 3] rfl rfl (gblt rfl) dX2_seeIn_16 ?_
  refine g_join 33 (fun (x5 : Int32) => [(0, gr a0), (3, gi x5)]) (fun (x5 : Int32) => []) (fun x5 h6 => ?_) (fun j7 Hj7 => ?_)
  · refine g_aload_n (pc := 33) (x := a0) 0 rfl rfl dX2_seeIn_33 ?_
    refine g_iload_n (pc := 34) (x := x5) 1 rfl rfl dX2_seeIn_34 ?_
    refine g_bVi (pc := 35) (y := yX2_back) (ws := ws_ yX2_back cX2_back 2 (some .int)) (fr := 1) (lo := 24) (as := [gi x5]) (st := []) (g_no) rfl (fun _ _ _ e => tX2_back hs e) (fun K _ _ _ hq hM R e1 e2 => g_runV (M := mX2_seeIn) (pc := 35) (y := yX2_back) (bytes := cX2_back) (maxL := 2) (ret := (some .int)) (fr := 1) (lo := 24) (as := [gi x5]) (st := []) hq (C := "FlareSlopesModel") rfl gy_X2_back (gbl rfl) (gbl rfl) (gbl rfl) q4460 q4462 qs115 dX2_seeIn_35 K hM R e1 e2) fun v8 h9 => ?_
    exact g_ireturn (pc := 38) rfl dX2_seeIn_38
  refine g_join 56 (fun (x11 : Unit) => [(0, gr a0)]) (fun (x11 : Unit) => []) (fun x11 h12 => ?_) (fun j13 Hj13 => ?_)
  · refine g_aload_n (pc := 56) (x := a0) 0 rfl rfl dX2_seeIn_56 ?_
    refine g_iconst (pc := 57) (v := (-1 : Int32)) ic_m1 dX2_seeIn_57 ?_
    refine g_bVi (pc := 58) (y := yX2_back) (ws := ws_ yX2_back cX2_back 2 (some .int)) (fr := 1) (lo := 24) (as := [gi (-1 : Int32)]) (st := []) (g_no) rfl (fun _ _ _ e => tX2_back hs e) (fun K _ _ _ hq hM R e1 e2 => g_runV (M := mX2_seeIn) (pc := 58) (y := yX2_back) (bytes := cX2_back) (maxL := 2) (ret := (some .int)) (fr := 1) (lo := 24) (as := [gi (-1 : Int32)]) (st := []) hq (C := "FlareSlopesModel") rfl gy_X2_back (gbl rfl) (gbl rfl) (gbl rfl) q4460 q4462 qs115 dX2_seeIn_58 K hM R e1 e2) fun v14 h15 => ?_
    exact g_ireturn (pc := 61) rfl dX2_seeIn_61
  refine g_sub (lv' := [(0, gr a0), (1, gi a1), (2, gi a2), (3, gi (0 : Int32))]) [1, 2, 3, 0] rfl ?_
  refine g_loop (pc := 17) (fun (x17 : Int32) => [(0, gr a0), (1, gi a1), (2, gi a2), (3, gi x17)]) (fun (_ : Int32) => []) (fun w19 Hw19 x17 h18 => ?_) N (0 : Int32) h4
  delta bX2_seeIn_17
  refine g_iload_n (pc := 17) (x := x17) 3 rfl rfl dX2_seeIn_17 ?_
  refine g_sipush (pc := 18) (v := (200 : Int32)) sc_200 dX2_seeIn_18 ?_
  refine g_icmp_gt (pc := 21) (tgt := 56) rfl dX2_seeIn_21 ?_ ?_
  · exact g_sub [0] rfl (Hj13 () h18)
  refine g_aload_n (pc := 24) (x := a0) 0 rfl rfl dX2_seeIn_24 ?_
  refine g_iload_n (pc := 25) (x := a1) 1 rfl rfl dX2_seeIn_25 ?_
  refine g_iload_n (pc := 26) (x := a2) 2 rfl rfl dX2_seeIn_26 ?_
  refine g_bVi (pc := 27) (y := yX2_seeOneAnother) (ws := ws_ yX2_seeOneAnother cX2_seeOneAnother 3 (some .boolean)) (fr := 3) (lo := 71) (as := [gi a1, gi a2]) (st := []) (g_no) rfl (fun _ _ _ e => tX2_seeOneAnother hs e) (fun K _ _ _ hq hM R e1 e2 => g_runV (M := mX2_seeIn) (pc := 27) (y := yX2_seeOneAnother) (bytes := cX2_seeOneAnother) (maxL := 3) (ret := (some .boolean)) (fr := 3) (lo := 71) (as := [gi a1, gi a2]) (st := []) hq (C := "FlareSlopesModel") rfl gy_X2_seeOneAnother (gbl rfl) (gbl rfl) (gbl rfl) q4175 q4177 qs81 dX2_seeIn_27 K hM R e1 e2) fun v20 h21 => ?_
  refine g_if_eq (pc := 30) (tgt := 39) rfl dX2_seeIn_30 ?_ ?_
  rotate_left
  · exact g_sub [0, 3] rfl (Hj7 x17 h21)
  refine g_aload_n (pc := 39) (x := a0) 0 rfl rfl dX2_seeIn_39 ?_
  refine g_getfr (pc := 40) k_18 (gblt rfl) lk_X2_9_18 dX2_seeIn_40 fun v22 => ?_
  refine g_bipush (pc := 43) (v := (90 : Int32)) bc_90 dX2_seeIn_43 ?_
  refine g_dup2 (pc := 45) rfl rfl dX2_seeIn_45 ?_
  refine g_iaload (pc := 46) rfl dX2_seeIn_46 fun v23 => ?_
  refine g_iconst (pc := 47) (v := (1 : Int32)) ic_1 dX2_seeIn_47 ?_
  refine g_iadd (pc := 48) dX2_seeIn_48 ?_
  refine g_iastore (pc := 49) rfl dX2_seeIn_49 fun h24 => ?_
  refine g_iinc (pc := 50) (v := x17 + (1 : Int32)) 3 rfl (ii_1 _) (lv' := [(3, gi (x17 + (1 : Int32))), (0, gr a0), (1, gi a1), (2, gi a2)]) [0, 1, 2, 3] rfl (gblt rfl) dX2_seeIn_50 ?_
  refine g_goto (pc := 53) (tgt := 17) rfl dX2_seeIn_53 ?_
  exact g_sub [1, 2, 3, 0] rfl (Hw19 (x17 + (1 : Int32)) h24)
/-! FlareSlopes$Vote.<init>(ZI)V -/
noncomputable def sX17_init (G : GG) (N : Nat) (a0 : Option Nat) (a1 : Int32) (a2 : Int32) (h : Hp) : Out (Unit) :=
  gNN a0 (gPz G h a0 17 0 a1 fun h1 =>
  gP G h1 a0 17 1 (.int a2) fun h2 =>
  some (.inl (), h2))
abbrev mX17_init : MI := (RX17, cX17_init, 3, none, [], 1, 12, "<init>")
theorem tX17_init {G : GG} {l : Launch} (hs : l.stackTraces = false) {N : Nat} {a0 : Option Nat} {a1 : Int32} {a2 : Int32} {h : Hp} {r : Unit ⊕ Nat} {hf : Hp} (ho : sX17_init G N a0 a1 a2 h = some (r, hf)) : gMet G l yX17_init (ws_ yX17_init cX17_init 3 none) 1 12 [gr a0, gi a1, gi a2] h cvU r hf := by
  refine gMet.of ho hs (plainFor_of_name pn_X17) rfl rfl (gbl rfl) fun X => ?_
  show gT G l X mX17_init cvU r hf 0 [(0, gr a0), (1, gi a1), (2, gi a2)] [] h (sX17_init G N a0 a1 a2 h)
  delta sX17_init
  refine g_aload_n (pc := 0) (x := a0) 0 rfl rfl dX17_init_0 ?_
  refine g_objInit' (pc := 1) q3625 oi_in oi_code (gbl rfl) (gbl rfl) dX17_init_1 ?_
  refine g_aload_n (pc := 4) (x := a0) 0 rfl rfl dX17_init_4 ?_
  refine g_iload_n (pc := 5) (x := a1) 1 rfl rfl dX17_init_5 ?_
  refine g_putzFin (pc := 6) k_17 (gblt rfl) lk_X17_7_17 q3626 rfl rfl rfl rfl dX17_init_6 fun h1 => ?_
  refine g_aload_n (pc := 9) (x := a0) 0 rfl rfl dX17_init_9 ?_
  refine g_iload_n (pc := 10) (x := a2) 2 rfl rfl dX17_init_10 ?_
  refine g_putFin (pc := 11) k_17 (gblt rfl) lk_X17_13_17 q3629 rfl rfl rfl rfl (gNi _) dX17_init_11 fun h2 => ?_
  exact g_return (pc := 14) rfl dX17_init_14
/-! FlareSlopes$State.fires(IIZ)I -/
noncomputable def bX3_fires_35 (G : GG) (N : Nat) (a0 : Option Nat) (v1 : Int32) (v3 : Option Nat) (v7 : Option Nat) (w14 : (Int32) → Hp → Out (Int32)) (x12 : Int32) (h13 : Hp) : Out (Int32) :=
  bV h13 a0 16 (fun q29 => sX3_size G N (some q29) h13) fun v15 h16 =>
  if v15 ≤ x12 then (some (.inl v1, h16))
  else bnd (sX1_has G N v1 x12 h16) fun v17 h18 =>
  gJ (fun (x19 : Unit) (h20 : Hp) =>
  w14 (x12 + (1 : Int32)) h20) fun j21 =>
  if v17 = 0 then (j21 () h18)
  else bV h18 a0 16 (fun q28 => sX3_cabin G N (some q28) x12 h18) fun v22 h23 =>
  gFr h23 v22 7 8 fun v24 =>
  bV h23 v24 26 (fun q27 => sJ23_put_c26 G N (some q27) v3 v7 h23) fun v25 h26 =>
  j21 () h26
noncomputable def sX3_fires (G : GG) (N : Nat) (a0 : Option Nat) (a1 : Int32) (a2 : Int32) (a3 : Int32) (h : Hp) : Out (Int32) :=
  bV h a0 16 (fun q32 => sX3_seers G N (some q32) a1 h) fun v1 h2 =>
  gNew h2 10 [.int 0, .int 0] 2 fun v3 h4 =>
  bI v3 (fun q31 => sX7_init G N (some q31) a1 a2 h4) fun v5 h6 =>
  gNew h6 17 [.int 0, .int 0] 2 fun v7 h8 =>
  gFi h8 a0 16 4 fun v9 =>
  bI v7 (fun q30 => sX17_init G N (some q30) a3 v9 h8) fun v10 h11 =>
  gLp (bX3_fires_35 G N a0 v1 v3 v7) N (0 : Int32) h11
abbrev mX3_fires : MI := (RX3, cX3_fires, 8, (some .int), [], 8, 174, "fires")
theorem tX3_fires {G : GG} {l : Launch} (hs : l.stackTraces = false) {N : Nat} {a0 : Option Nat} {a1 : Int32} {a2 : Int32} {a3 : Int32} {h : Hp} {r : Int32 ⊕ Nat} {hf : Hp} (ho : sX3_fires G N a0 a1 a2 a3 h = some (r, hf)) : gMet G l yX3_fires (ws_ yX3_fires cX3_fires 8 (some .int)) 8 174 [gr a0, gi a1, gi a2, gi a3] h cvI r hf := by
  refine gMet.of ho hs (plainFor_of_name pn_X3) rfl rfl (gbl rfl) fun X => ?_
  show gT G l X mX3_fires cvI r hf 0 [(0, gr a0), (1, gi a1), (2, gi a2), (3, gi a3)] [] h (sX3_fires G N a0 a1 a2 a3 h)
  delta sX3_fires
  refine g_aload_n (pc := 0) (x := a0) 0 rfl rfl dX3_fires_0 ?_
  refine g_iload_n (pc := 1) (x := a1) 1 rfl rfl dX3_fires_1 ?_
  refine g_bVi (pc := 2) (y := yX3_seers) (ws := ws_ yX3_seers cX3_seers 4 (some .int)) (fr := 7) (lo := 151) (as := [gi a1]) (st := []) (g_no) rfl (fun _ _ _ e => tX3_seers hs e) (fun K _ _ _ hq hM R e1 e2 => g_runV (M := mX3_fires) (pc := 2) (y := yX3_seers) (bytes := cX3_seers) (maxL := 4) (ret := (some .int)) (fr := 7) (lo := 151) (as := [gi a1]) (st := []) hq (C := "FlareSlopes$State") rfl gy_X3_seers (gbl rfl) (gbl rfl) (gbl rfl) q3170 q1630 q1631 dX3_fires_2 K hM R e1 e2) fun v1 h2 => ?_
  refine g_istore (pc := 5) (lv' := [(4, gi v1), (0, gr a0), (1, gi a1), (2, gi a2), (3, gi a3)]) [0, 1, 2, 3, 4] rfl (gblt rfl) dX3_fires_5 ?_
  refine g_new (pc := 7) k_10 df_10 q3619 q493 q147 dX3_fires_7 fun v3 h4 => ?_
  refine g_dup (pc := 10) rfl dX3_fires_10 ?_
  refine g_iload_n (pc := 11) (x := a1) 2 rfl rfl dX3_fires_11 ?_
  refine g_iload_n (pc := 12) (x := a2) 3 rfl rfl dX3_fires_12 ?_
  refine g_bIu (pc := 13) (y := yX7_init) (ws := ws_ yX7_init cX7_init 3 none) (fr := 1) (lo := 12) (as := [gi a1, gi a2]) (st := [gr v3]) (g_no) rfl (fun _ _ _ e => tX7_init hs e) (fun K _ _ _ hM R e1 e2 => g_runI (M := mX3_fires) (pc := 13) (y := yX7_init) (bytes := cX7_init) (maxL := 3) (ret := none) (fr := 1) (lo := 12) (as := [gi a1, gi a2]) (st := [gr v3]) gy_X7_init (gbl rfl) (gbl rfl) (gbl rfl) rfl q3620 q495 rfl dX3_fires_13 K hM R e1 e2) fun v5 h6 => ?_
  refine g_astore (pc := 16) (lv' := [(5, gr v3), (4, gi v1), (0, gr a0), (3, gi a3)]) [0, 1, 2, 5] rfl (gblt rfl) dX3_fires_16 ?_
  refine g_new (pc := 18) k_17 df_17 q2322 q3621 q198 dX3_fires_18 fun v7 h8 => ?_
  refine g_dup (pc := 21) rfl dX3_fires_21 ?_
  refine g_iload_n (pc := 22) (x := a3) 3 rfl rfl dX3_fires_22 ?_
  refine g_aload_n (pc := 23) (x := a0) 2 rfl rfl dX3_fires_23 ?_
  refine g_getfi (pc := 24) k_16 (gblt rfl) lk_X3_98_16 dX3_fires_24 fun v9 => ?_
  refine g_bIu (pc := 27) (y := yX17_init) (ws := ws_ yX17_init cX17_init 3 none) (fr := 1) (lo := 12) (as := [gi a3, gi v9]) (st := [gr v7]) (g_no) rfl (fun _ _ _ e => tX17_init hs e) (fun K _ _ _ hM R e1 e2 => g_runI (M := mX3_fires) (pc := 27) (y := yX17_init) (bytes := cX17_init) (maxL := 3) (ret := none) (fr := 1) (lo := 12) (as := [gi a3, gi v9]) (st := [gr v7]) gy_X17_init (gbl rfl) (gbl rfl) (gbl rfl) rfl q3622 q3623 rfl dX3_fires_27 K hM R e1 e2) fun v10 h11 => ?_
  refine g_astore (pc := 30) (lv' := [(6, gr v7), (5, gr v3), (4, gi v1), (0, gr a0)]) [0, 1, 2, 3] rfl (gblt rfl) dX3_fires_30 ?_
  refine g_iconst (pc := 32) (v := (0 : Int32)) ic_0 dX3_fires_32 ?_
  refine g_istore (pc := 33) (lv' := [(7, gi (0 : Int32)), (6, gr v7), (5, gr v3), (4, gi v1), (0, gr a0)]) [0, 1, 2, 3, 4] rfl (gblt rfl) dX3_fires_33 ?_
  refine g_sub (lv' := [(0, gr a0), (4, gi v1), (5, gr v3), (6, gr v7), (7, gi (0 : Int32))]) [4, 3, 2, 1, 0] rfl ?_
  refine g_loop (pc := 35) (fun (x12 : Int32) => [(0, gr a0), (4, gi v1), (5, gr v3), (6, gr v7), (7, gi x12)]) (fun (_ : Int32) => []) (fun w14 Hw14 x12 h13 => ?_) N (0 : Int32) h11
  delta bX3_fires_35
  refine g_iload (pc := 35) (x := x12) 4 rfl dX3_fires_35 ?_
  refine g_aload_n (pc := 37) (x := a0) 0 rfl rfl dX3_fires_37 ?_
  refine g_bVi (pc := 38) (y := yX3_size) (ws := ws_ yX3_size cX3_size 1 (some .int)) (fr := 1) (lo := 20) (as := []) (st := [gi x12]) (g_no) rfl (fun _ _ _ e => tX3_size hs e) (fun K _ _ _ hq hM R e1 e2 => g_runV (M := mX3_fires) (pc := 38) (y := yX3_size) (bytes := cX3_size) (maxL := 1) (ret := (some .int)) (fr := 1) (lo := 20) (as := []) (st := [gi x12]) hq (C := "FlareSlopes$State") rfl gy_X3_size (gbl rfl) (gbl rfl) (gbl rfl) q1633 q1412 q1413 dX3_fires_38 K hM R e1 e2) fun v15 h16 => ?_
  refine g_icmp_ge (pc := 41) (tgt := 79) rfl dX3_fires_41 ?_ ?_
  · refine g_iload (pc := 79) (x := v1) 1 rfl dX3_fires_79 ?_
    exact g_ireturn (pc := 81) rfl dX3_fires_81
  refine g_iload (pc := 44) (x := v1) 1 rfl dX3_fires_44 ?_
  refine g_iload (pc := 46) (x := x12) 4 rfl dX3_fires_46 ?_
  refine g_bi (pc := 48) (y := yX1_has) (ws := ws_ yX1_has cX1_has 2 (some .boolean)) (fr := 0) (lo := 0) (as := [gi v1, gi x12]) (st := []) (g_no) rfl (fun _ _ e => tX1_has hs e) (fun K _ _ hM R e1 e2 => g_runSN (M := mX3_fires) (pc := 48) (y := yX1_has) (bytes := cX1_has) (maxL := 2) (ret := (some .boolean)) (fr := 0) (lo := 0) (as := [gi v1, gi x12]) (st := []) gy_X1_has (gbl rfl) (gbl rfl) (gbl rfl) q2336 q2337 dX3_fires_48 K hM R e1 e2) fun v17 h18 => ?_
  refine g_join 73 (fun (x19 : Unit) => [(0, gr a0), (4, gi v1), (5, gr v3), (6, gr v7), (7, gi x12)]) (fun (x19 : Unit) => []) (fun x19 h20 => ?_) (fun j21 Hj21 => ?_)
  · refine g_iinc (pc := 73) (v := x12 + (1 : Int32)) 4 rfl (ii_1 _) (lv' := [(7, gi (x12 + (1 : Int32))), (0, gr a0), (4, gi v1), (5, gr v3), (6, gr v7)]) [0, 1, 2, 3, 4] rfl (gblt rfl) dX3_fires_73 ?_
    refine g_goto (pc := 76) (tgt := 35) rfl dX3_fires_76 ?_
    exact g_sub [1, 2, 3, 4, 0] rfl (Hw14 (x12 + (1 : Int32)) h20)
  refine g_if_eq (pc := 51) (tgt := 73) rfl dX3_fires_51 ?_ ?_
  · exact Hj21 () h18
  refine g_aload_n (pc := 54) (x := a0) 0 rfl rfl dX3_fires_54 ?_
  refine g_iload (pc := 55) (x := x12) 4 rfl dX3_fires_55 ?_
  refine g_bVr (pc := 57) (y := yX3_cabin) (ws := ws_ yX3_cabin cX3_cabin 2 (some (.object "FlareSlopes$Cabin"))) (fr := 3) (lo := 64) (as := [gi x12]) (st := []) (g_no) rfl (fun _ _ _ e => tX3_cabin hs e) (fun K _ _ _ hq hM R e1 e2 => g_runV (M := mX3_fires) (pc := 57) (y := yX3_cabin) (bytes := cX3_cabin) (maxL := 2) (ret := (some (.object "FlareSlopes$Cabin"))) (fr := 3) (lo := 64) (as := [gi x12]) (st := []) hq (C := "FlareSlopes$State") rfl gy_X3_cabin (gbl rfl) (gbl rfl) (gbl rfl) q1638 q1639 q1640 dX3_fires_57 K hM R e1 e2) fun v22 h23 => ?_
  refine g_getfr (pc := 60) k_7 (gblt rfl) lk_X3_188_7 dX3_fires_60 fun v24 => ?_
  refine g_aload (pc := 63) (x := v3) 2 rfl dX3_fires_63 ?_
  refine g_aload (pc := 65) (x := v7) 3 rfl dX3_fires_65 ?_
  refine g_bVr (pc := 67) (y := yJ23_put) (ws := ws_ yJ23_put cJ23_put 3 (some (.object "java/lang/Object"))) (fr := 5) (lo := 117) (as := [gr v3, gr v7]) (st := []) (g_no) rfl (fun _ _ _ e => tJ23_put_c26 hs e) (fun K _ _ _ hq hM R e1 e2 => g_runF (x := ⟨"java/util/Map", "put", "(Ljava/lang/Object;Ljava/lang/Object;)Ljava/lang/Object;"⟩) (M := mX3_fires) (pc := 67) (y := yJ23_put) (bytes := cJ23_put) (maxL := 3) (ret := (some (.object "java/lang/Object"))) (fr := 5) (lo := 117) (as := [gr v3, gr v7]) (st := []) hq (C := "java/util/LinkedHashMap") rfl gy_J23_put rfl (gbl rfl) (gbl rfl) (gbl rfl) q3638 q3491 q3490 q3494 q3493 q1613 mhx_java_util_Map q3492 q2825 dX3_fires_67 K hM R e1 e2) fun v25 h26 => ?_
  refine g_pop (pc := 72) rfl dX3_fires_72 ?_
  exact Hj21 () h26
/-! FlareSlopes.closersBy(III)I -/
noncomputable def sX1_closersBy (G : GG) (N : Nat) (a0 : Option Nat) (a1 : Int32) (a2 : Int32) (a3 : Int32) (h : Hp) : Out (Int32) :=
  gNew h 16 [.null, .null, .null, .null, .int 0, .int 0, .int 0, .int 0, .int 0, .int 0, .int 0, .int 0, .null, .null] 14 fun v1 h2 =>
  gFr h2 a0 3 4 fun v3 =>
  bI v1 (fun q15 => sX3_init_2 G N (some q15) v3 h2) fun v4 h5 =>
  bV h5 v1 16 (fun q14 => sX3_fires G N (some q14) a1 a2 (1 : Int32) h5) fun v6 h7 =>
  bV h7 v1 16 (fun q13 => sX3_ticks G N (some q13) a3 h7) fun v8 h9 =>
  bV h9 v8 16 (fun q12 => sX3_closers G N (some q12) a2 h9) fun v10 h11 =>
  some (.inl v10, h11)
abbrev mX1_closersBy : MI := (RX1, cX1_closersBy, 6, (some .int), [], 9, 202, "closersBy")
theorem tX1_closersBy {G : GG} {l : Launch} (hs : l.stackTraces = false) {N : Nat} {a0 : Option Nat} {a1 : Int32} {a2 : Int32} {a3 : Int32} {h : Hp} {r : Int32 ⊕ Nat} {hf : Hp} (ho : sX1_closersBy G N a0 a1 a2 a3 h = some (r, hf)) : gMet G l yX1_closersBy (ws_ yX1_closersBy cX1_closersBy 6 (some .int)) 9 202 [gr a0, gi a1, gi a2, gi a3] h cvI r hf := by
  refine gMet.of ho hs (plainFor_of_name pn_X1) rfl rfl (gbl rfl) fun X => ?_
  show gT G l X mX1_closersBy cvI r hf 0 [(0, gr a0), (1, gi a1), (2, gi a2), (3, gi a3)] [] h (sX1_closersBy G N a0 a1 a2 a3 h)
  delta sX1_closersBy
  refine g_new (pc := 0) k_16 df_16 q233 q437 q141 dX1_closersBy_0 fun v1 h2 => ?_
  refine g_dup (pc := 3) rfl dX1_closersBy_3 ?_
  refine g_aload_n (pc := 4) (x := a0) 0 rfl rfl dX1_closersBy_4 ?_
  refine g_getfr (pc := 5) k_3 (gblt rfl) lk_X1_56_3 dX1_closersBy_5 fun v3 => ?_
  refine g_bIu (pc := 8) (y := yX3_init_2) (ws := ws_ yX3_init_2 cX3_init_2 4 none) (fr := 7) (lo := 162) (as := [gr v3]) (st := [gr v1]) (g_no) rfl (fun _ _ _ e => tX3_init_2 hs e) (fun K _ _ _ hM R e1 e2 => g_runI (M := mX1_closersBy) (pc := 8) (y := yX3_init_2) (bytes := cX3_init_2) (maxL := 4) (ret := none) (fr := 7) (lo := 162) (as := [gr v3]) (st := [gr v1]) gy_X3_init_2 (gbl rfl) (gbl rfl) (gbl rfl) rfl q3466 q3467 rfl dX1_closersBy_8 K hM R e1 e2) fun v4 h5 => ?_
  refine g_astore (pc := 11) (lv' := [(4, gr v1), (1, gi a1), (2, gi a2), (3, gi a3)]) [0, 2, 3, 4] rfl (gblt rfl) dX1_closersBy_11 ?_
  refine g_aload (pc := 13) (x := v1) 0 rfl dX1_closersBy_13 ?_
  refine g_iload_n (pc := 15) (x := a1) 1 rfl rfl dX1_closersBy_15 ?_
  refine g_iload_n (pc := 16) (x := a2) 2 rfl rfl dX1_closersBy_16 ?_
  refine g_iconst (pc := 17) (v := (1 : Int32)) ic_1 dX1_closersBy_17 ?_
  refine g_bVi (pc := 18) (y := yX3_fires) (ws := ws_ yX3_fires cX3_fires 8 (some .int)) (fr := 8) (lo := 174) (as := [gi a1, gi a2, gi (1 : Int32)]) (st := []) (g_no) rfl (fun _ _ _ e => tX3_fires hs e) (fun K _ _ _ hq hM R e1 e2 => g_runV (M := mX1_closersBy) (pc := 18) (y := yX3_fires) (bytes := cX3_fires) (maxL := 8) (ret := (some .int)) (fr := 8) (lo := 174) (as := [gi a1, gi a2, gi (1 : Int32)]) (st := []) hq (C := "FlareSlopes$State") rfl gy_X3_fires (gbl rfl) (gbl rfl) (gbl rfl) q3615 q3616 q3617 dX1_closersBy_18 K hM R e1 e2) fun v6 h7 => ?_
  refine g_istore (pc := 21) (lv' := [(4, gr v1), (2, gi a2), (3, gi a3)]) [1, 3, 4] rfl (gblt rfl) dX1_closersBy_21 ?_
  refine g_aload (pc := 23) (x := v1) 0 rfl dX1_closersBy_23 ?_
  refine g_iload_n (pc := 25) (x := a3) 2 rfl rfl dX1_closersBy_25 ?_
  refine g_bVr (pc := 26) (y := yX3_ticks) (ws := ws_ yX3_ticks cX3_ticks 3 (some (.object "FlareSlopes$State"))) (fr := 8) (lo := 180) (as := [gi a3]) (st := []) (g_no) rfl (fun _ _ _ e => tX3_ticks hs e) (fun K _ _ _ hq hM R e1 e2 => g_runV (M := mX1_closersBy) (pc := 26) (y := yX3_ticks) (bytes := cX3_ticks) (maxL := 3) (ret := (some (.object "FlareSlopes$State"))) (fr := 8) (lo := 180) (as := [gi a3]) (st := []) hq (C := "FlareSlopes$State") rfl gy_X3_ticks (gbl rfl) (gbl rfl) (gbl rfl) q3585 q3586 q3587 dX1_closersBy_26 K hM R e1 e2) fun v8 h9 => ?_
  refine g_iload_n (pc := 29) (x := a2) 1 rfl rfl dX1_closersBy_29 ?_
  refine g_bVi (pc := 30) (y := yX3_closers) (ws := ws_ yX3_closers cX3_closers 4 (some .int)) (fr := 4) (lo := 85) (as := [gi a2]) (st := []) (g_no) rfl (fun _ _ _ e => tX3_closers hs e) (fun K _ _ _ hq hM R e1 e2 => g_runV (M := mX1_closersBy) (pc := 30) (y := yX3_closers) (bytes := cX3_closers) (maxL := 4) (ret := (some .int)) (fr := 4) (lo := 85) (as := [gi a2]) (st := []) hq (C := "FlareSlopes$State") rfl gy_X3_closers (gbl rfl) (gbl rfl) (gbl rfl) q3050 q3051 q3052 dX1_closersBy_30 K hM R e1 e2) fun v10 h11 => ?_
  exact g_ireturn (pc := 33) rfl dX1_closersBy_33
/-! FlareSlopes.closersIf(III)I -/
noncomputable def sX1_closersIf (G : GG) (N : Nat) (a0 : Option Nat) (a1 : Int32) (a2 : Int32) (a3 : Int32) (h : Hp) : Out (Int32) :=
  bV h a0 3 (fun q8 => sX1_withBoth G N (some q8) a1 a2 h) fun v1 h2 =>
  bnd (sX1_checkTicks G N a3 h2) fun v3 h4 =>
  bV h4 a0 3 (fun q7 => sX1_closersBy G N (some q7) a1 a2 a3 h4) fun v5 h6 =>
  some (.inl v5, h6)
abbrev mX1_closersIf : MI := (RX1, cX1_closersIf, 5, (some .int), [], 10, 227, "closersIf")
theorem tX1_closersIf {G : GG} {l : Launch} (hs : l.stackTraces = false) {N : Nat} {a0 : Option Nat} {a1 : Int32} {a2 : Int32} {a3 : Int32} {h : Hp} {r : Int32 ⊕ Nat} {hf : Hp} (ho : sX1_closersIf G N a0 a1 a2 a3 h = some (r, hf)) : gMet G l yX1_closersIf (ws_ yX1_closersIf cX1_closersIf 5 (some .int)) 10 227 [gr a0, gi a1, gi a2, gi a3] h cvI r hf := by
  refine gMet.of ho hs (plainFor_of_name pn_X1) rfl rfl (gbl rfl) fun X => ?_
  show gT G l X mX1_closersIf cvI r hf 0 [(0, gr a0), (1, gi a1), (2, gi a2), (3, gi a3)] [] h (sX1_closersIf G N a0 a1 a2 a3 h)
  delta sX1_closersIf
  refine g_aload_n (pc := 0) (x := a0) 0 rfl rfl dX1_closersIf_0 ?_
  refine g_iload_n (pc := 1) (x := a1) 1 rfl rfl dX1_closersIf_1 ?_
  refine g_iload_n (pc := 2) (x := a2) 2 rfl rfl dX1_closersIf_2 ?_
  refine g_bVr (pc := 3) (y := yX1_withBoth) (ws := ws_ yX1_withBoth cX1_withBoth 4 (some (.object "FlareSlopes$Cabin"))) (fr := 9) (lo := 142) (as := [gi a1, gi a2]) (st := []) (g_no) rfl (fun _ _ _ e => tX1_withBoth hs e) (fun K _ _ _ hq hM R e1 e2 => g_runV (M := mX1_closersIf) (pc := 3) (y := yX1_withBoth) (bytes := cX1_withBoth) (maxL := 4) (ret := (some (.object "FlareSlopes$Cabin"))) (fr := 9) (lo := 142) (as := [gi a1, gi a2]) (st := []) hq (C := "FlareSlopes") rfl gy_X1_withBoth (gbl rfl) (gbl rfl) (gbl rfl) q3141 q3143 qs45 dX1_closersIf_3 K hM R e1 e2) fun v1 h2 => ?_
  refine g_astore (pc := 6) (lv' := [(0, gr a0), (1, gi a1), (2, gi a2), (3, gi a3)]) [1, 2, 3, 4] rfl (gblt rfl) dX1_closersIf_6 ?_
  refine g_iload_n (pc := 8) (x := a3) 3 rfl rfl dX1_closersIf_8 ?_
  refine g_bu (pc := 9) (y := yX1_checkTicks) (ws := ws_ yX1_checkTicks cX1_checkTicks 1 none) (fr := 7) (lo := 101) (as := [gi a3]) (st := []) (g_no) rfl (fun _ _ e => tX1_checkTicks hs e) (fun K _ _ hM R e1 e2 => g_runS (M := mX1_closersIf) (pc := 9) (y := yX1_checkTicks) (bytes := cX1_checkTicks) (maxL := 1) (ret := none) (fr := 7) (lo := 101) (as := [gi a3]) (st := []) gy_X1_checkTicks (gbl rfl) (gbl rfl) (gbl rfl) q3582 q3583 dX1_closersIf_9 K hM R e1 e2) fun v3 h4 => ?_
  refine g_aload_n (pc := 12) (x := a0) 0 rfl rfl dX1_closersIf_12 ?_
  refine g_iload_n (pc := 13) (x := a1) 1 rfl rfl dX1_closersIf_13 ?_
  refine g_iload_n (pc := 14) (x := a2) 2 rfl rfl dX1_closersIf_14 ?_
  refine g_iload_n (pc := 15) (x := a3) 3 rfl rfl dX1_closersIf_15 ?_
  refine g_bVi (pc := 16) (y := yX1_closersBy) (ws := ws_ yX1_closersBy cX1_closersBy 6 (some .int)) (fr := 9) (lo := 202) (as := [gi a1, gi a2, gi a3]) (st := []) (g_no) rfl (fun _ _ _ e => tX1_closersBy hs e) (fun K _ _ _ hq hM R e1 e2 => g_runV (M := mX1_closersIf) (pc := 16) (y := yX1_closersBy) (bytes := cX1_closersBy) (maxL := 6) (ret := (some .int)) (fr := 9) (lo := 202) (as := [gi a1, gi a2, gi a3]) (st := []) hq (C := "FlareSlopes") rfl gy_X1_closersBy (gbl rfl) (gbl rfl) (gbl rfl) q3611 q3613 qs51 dX1_closersIf_16 K hM R e1 e2) fun v5 h6 => ?_
  exact g_ireturn (pc := 19) rfl dX1_closersIf_19
/-! FlareSlopesLaw.closersIf(LFlareSlopes;III[J)I -/
noncomputable def sX0_closersIf (G : GG) (N : Nat) (a0 : Option Nat) (a1 : Int32) (a2 : Int32) (a3 : Int32) (a4 : Option Nat) (h : Hp) : Out (Int32) :=
  bVX h a0 3 (fun q4 => sX1_closersIf G N (some q4) a1 a2 a3 h) (fun v1 h2 =>
  gSl G h2 a4 3 (0 : Int32) (v1.toInt64) fun h3 =>
  some (.inl (0 : Int32), h3)) fun q5 h6 =>
  gSw h6 (some q5) 0 (some (.inl (1 : Int32), h6)) (gSw h6 (some q5) 1 (some (.inl (3 : Int32), h6)) (gSw h6 (some q5) 2 (some (.inl (2 : Int32), h6)) (none)))
abbrev mX0_closersIf : MI := (RX0, cX0_closersIf, 6, (some .int), [(0, 12, 15, 21), (0, 12, 19, 13), (0, 12, 23, 15)], 11, 251, "closersIf")
theorem tX0_closersIf {G : GG} {l : Launch} (hs : l.stackTraces = false) {N : Nat} {a0 : Option Nat} {a1 : Int32} {a2 : Int32} {a3 : Int32} {a4 : Option Nat} {h : Hp} {r : Int32 ⊕ Nat} {hf : Hp} (ho : sX0_closersIf G N a0 a1 a2 a3 a4 h = some (r, hf)) : gMet G l yX0_closersIf (wsW_ yX0_closersIf cX0_closersIf 6 (some .int) [(0, 12, 15, 21), (0, 12, 19, 13), (0, 12, 23, 15)]) 11 251 [gr a0, gi a1, gi a2, gi a3, gr a4] h cvI r hf := by
  refine gMet.ofW ho hs (plainFor_of_name pn_X0) rfl rfl (gbl rfl) fun X => ?_
  show gT G l X mX0_closersIf cvI r hf 0 [(0, gr a0), (1, gi a1), (2, gi a2), (3, gi a3), (4, gr a4)] [] h (sX0_closersIf G N a0 a1 a2 a3 a4 h)
  delta sX0_closersIf
  refine g_aload (pc := 0) (x := a4) 4 rfl dX0_closersIf_0 ?_
  refine g_iconst (pc := 2) (v := (0 : Int32)) ic_0 dX0_closersIf_2 ?_
  refine g_aload_n (pc := 3) (x := a0) 0 rfl rfl dX0_closersIf_3 ?_
  refine g_iload_n (pc := 4) (x := a1) 1 rfl rfl dX0_closersIf_4 ?_
  refine g_iload_n (pc := 5) (x := a2) 2 rfl rfl dX0_closersIf_5 ?_
  refine g_iload_n (pc := 6) (x := a3) 3 rfl rfl dX0_closersIf_6 ?_
  refine g_bVXi (pc := 7) (y := yX1_closersIf) (ws := ws_ yX1_closersIf cX1_closersIf 5 (some .int)) (fr := 10) (lo := 227) (as := [gi a1, gi a2, gi a3]) (st := [gi (0 : Int32), gr a4]) rfl (fun _ _ _ e => tX1_closersIf hs e) (fun K _ _ _ hq hM R e1 e2 => g_runV (M := mX0_closersIf) (pc := 7) (y := yX1_closersIf) (bytes := cX1_closersIf) (maxL := 5) (ret := (some .int)) (fr := 10) (lo := 227) (as := [gi a1, gi a2, gi a3]) (st := [gi (0 : Int32), gr a4]) hq (C := "FlareSlopes") rfl gy_X1_closersIf (gbl rfl) (gbl rfl) (gbl rfl) q3607 q3608 q3609 dX0_closersIf_7 K hM R e1 e2) (fun v1 h2 => ?_) (fun q5 h6 => ?_)
  · refine g_i2l (pc := 10) dX0_closersIf_10 ?_
    refine g_lastore (pc := 11) rfl dX0_closersIf_11 fun h3 => ?_
    refine g_goto (pc := 12) (tgt := 27) rfl dX0_closersIf_12 ?_
    refine g_iconst (pc := 27) (v := (0 : Int32)) ic_0 dX0_closersIf_27 ?_
    exact g_ireturn (pc := 28) rfl dX0_closersIf_28
  refine g_catch (E := "java/lang/IllegalStateException") [] ⟨0, 12, 15, 21⟩ [⟨0, 12, 19, 13⟩, ⟨0, 12, 23, 15⟩] rfl rfl (List.forall_mem_nil _) (by decide +kernel) (by decide +kernel) q1425 q1439 ?_ ?_
  · refine g_astore (pc := 15) (lv' := []) [] rfl (gblt rfl) dX0_closersIf_15 ?_
    refine g_iconst (pc := 17) (v := (1 : Int32)) ic_1 dX0_closersIf_17 ?_
    exact g_ireturn (pc := 18) rfl dX0_closersIf_18
  refine g_catch (E := "java/lang/IllegalArgumentException") [⟨0, 12, 15, 21⟩, ⟨0, 12, 19, 13⟩] ⟨0, 12, 23, 15⟩ [] rfl rfl (List.forall_mem_cons.mpr ⟨Or.inr ⟨by decide +kernel, _, q1425, ncl_java_lang_IllegalArgumentException_java_lang_IllegalStateException⟩, List.forall_mem_cons.mpr ⟨Or.inr ⟨by decide +kernel, _, q325, ncl_java_lang_IllegalArgumentException_java_lang_IndexOutOfBoundsException⟩, List.forall_mem_nil _⟩⟩) (by decide +kernel) (by decide +kernel) q404 q751 ?_ ?_
  · refine g_astore (pc := 23) (lv' := []) [] rfl (gblt rfl) dX0_closersIf_23 ?_
    refine g_iconst (pc := 25) (v := (3 : Int32)) ic_3 dX0_closersIf_25 ?_
    exact g_ireturn (pc := 26) rfl dX0_closersIf_26
  refine g_catch (E := "java/lang/IndexOutOfBoundsException") [⟨0, 12, 15, 21⟩] ⟨0, 12, 19, 13⟩ [⟨0, 12, 23, 15⟩] rfl rfl (List.forall_mem_cons.mpr ⟨Or.inr ⟨by decide +kernel, _, q1425, ncl_java_lang_IndexOutOfBoundsException_java_lang_IllegalStateException⟩, List.forall_mem_nil _⟩) (by decide +kernel) (by decide +kernel) q325 q418 ?_ ?_
  · refine g_astore (pc := 19) (lv' := []) [] rfl (gblt rfl) dX0_closersIf_19 ?_
    refine g_iconst (pc := 21) (v := (2 : Int32)) ic_2 dX0_closersIf_21 ?_
    exact g_ireturn (pc := 22) rfl dX0_closersIf_22
  exact g_noneX
/-! FlareSlopesModel.made(IZ)I -/
noncomputable def sX2_made (G : GG) (N : Nat) (a0 : Int32) (a1 : Int32) (h : Hp) : Out (Int32) :=
  gJ (fun (x1 : Int32) (h2 : Hp) =>
  some (.inl (((2 : Int32) * a0) + x1), h2)) fun j3 =>
  if a1 = 0 then (j3 (1 : Int32) h)
  else j3 (2 : Int32) h
abbrev mX2_made : MI := (RX2, cX2_made, 2, (some .int), [], 0, 0, "made")
theorem tX2_made {G : GG} {l : Launch} (hs : l.stackTraces = false) {N : Nat} {a0 : Int32} {a1 : Int32} {h : Hp} {r : Int32 ⊕ Nat} {hf : Hp} (ho : sX2_made G N a0 a1 h = some (r, hf)) : gMet G l yX2_made (ws_ yX2_made cX2_made 2 (some .int)) 0 0 [gi a0, gi a1] h cvI r hf := by
  refine gMet.of ho hs (plainFor_of_name pn_X2) rfl rfl (gbl rfl) fun X => ?_
  show gT G l X mX2_made cvI r hf 0 [(0, gi a0), (1, gi a1)] [] h (sX2_made G N a0 a1 h)
  delta sX2_made
  refine g_iconst (pc := 0) (v := (2 : Int32)) ic_2 dX2_made_0 ?_
  refine g_iload_n (pc := 1) (x := a0) 0 rfl rfl dX2_made_1 ?_
  refine g_imul (pc := 2) dX2_made_2 ?_
  refine g_iload_n (pc := 3) (x := a1) 1 rfl rfl dX2_made_3 ?_
  refine g_join 12 (fun (x1 : Int32) => []) (fun (x1 : Int32) => [gi x1, gi ((2 : Int32) * a0)]) (fun x1 h2 => ?_) (fun j3 Hj3 => ?_)
  · refine g_iadd (pc := 12) dX2_made_12 ?_
    exact g_ireturn (pc := 13) rfl dX2_made_13
  refine g_if_eq (pc := 4) (tgt := 11) rfl dX2_made_4 ?_ ?_
  · refine g_iconst (pc := 11) (v := (1 : Int32)) ic_1 dX2_made_11 ?_
    exact g_sub [] rfl (Hj3 (1 : Int32) h)
  refine g_iconst (pc := 7) (v := (2 : Int32)) ic_2 dX2_made_7 ?_
  refine g_goto (pc := 8) (tgt := 12) rfl dX2_made_8 ?_
  exact g_sub [] rfl (Hj3 (2 : Int32) h)
/-! FlareSlopesModel.shows(IIZ)I -/
noncomputable def bX2_shows_10 (G : GG) (N : Nat) (a0 : Option Nat) (a1 : Int32) (a2 : Int32) (a3 : Int32) (v1 : Int32) (w5 : (Int32) → Hp → Out (Int32)) (x3 : Int32) (h4 : Hp) : Out (Int32) :=
  gFr h4 a0 18 1 fun v6 =>
  gAi h4 v6 0 (6 : Int32) fun v7 =>
  if v7 ≤ x3 then (some (.inl v1, h4))
  else bnd (sX2_has G N v1 x3 h4) fun v8 h9 =>
  gJ (fun (x10 : Unit) (h11 : Hp) =>
  w5 (x3 + (1 : Int32)) h11) fun j12 =>
  if v8 = 0 then (j12 () h9)
  else gFr h9 a0 18 1 fun v13 =>
  bnd (sX2_voteAt G N x3 a1 a2 h9) fun v14 h15 =>
  gFr h15 a0 18 1 fun v16 =>
  gAi h15 v16 0 (90 : Int32) fun v17 =>
  bnd (sX2_made G N v17 a3 h15) fun v18 h19 =>
  gSi G h19 v13 0 v14 v18 fun h20 =>
  j12 () h20
noncomputable def sX2_shows (G : GG) (N : Nat) (a0 : Option Nat) (a1 : Int32) (a2 : Int32) (a3 : Int32) (h : Hp) : Out (Int32) :=
  bV h a0 18 (fun q21 => sX2_seen G N (some q21) a1 h) fun v1 h2 =>
  gLp (bX2_shows_10 G N a0 a1 a2 a3 v1) N (0 : Int32) h2
abbrev mX2_shows : MI := (RX2, cX2_shows, 6, (some .int), [], 5, 116, "shows")
theorem tX2_shows {G : GG} {l : Launch} (hs : l.stackTraces = false) {N : Nat} {a0 : Option Nat} {a1 : Int32} {a2 : Int32} {a3 : Int32} {h : Hp} {r : Int32 ⊕ Nat} {hf : Hp} (ho : sX2_shows G N a0 a1 a2 a3 h = some (r, hf)) : gMet G l yX2_shows (ws_ yX2_shows cX2_shows 6 (some .int)) 5 116 [gr a0, gi a1, gi a2, gi a3] h cvI r hf := by
  refine gMet.of ho hs (plainFor_of_name pn_X2) rfl rfl (gbl rfl) fun X => ?_
  show gT G l X mX2_shows cvI r hf 0 [(0, gr a0), (1, gi a1), (2, gi a2), (3, gi a3)] [] h (sX2_shows G N a0 a1 a2 a3 h)
  delta sX2_shows
  refine g_aload_n (pc := 0) (x := a0) 0 rfl rfl dX2_shows_0 ?_
  refine g_iload_n (pc := 1) (x := a1) 1 rfl rfl dX2_shows_1 ?_
  refine g_bVi (pc := 2) (y := yX2_seen) (ws := ws_ yX2_seen cX2_seen 4 (some .int)) (fr := 4) (lo := 93) (as := [gi a1]) (st := []) (g_no) rfl (fun _ _ _ e => tX2_seen hs e) (fun K _ _ _ hq hM R e1 e2 => g_runV (M := mX2_shows) (pc := 2) (y := yX2_seen) (bytes := cX2_seen) (maxL := 4) (ret := (some .int)) (fr := 4) (lo := 93) (as := [gi a1]) (st := []) hq (C := "FlareSlopesModel") rfl gy_X2_seen (gbl rfl) (gbl rfl) (gbl rfl) q4328 q4330 qs106 dX2_shows_2 K hM R e1 e2) fun v1 h2 => ?_
  refine g_istore (pc := 5) (lv' := [(4, gi v1), (0, gr a0), (1, gi a1), (2, gi a2), (3, gi a3)]) [0, 1, 2, 3, 4] rfl (gblt rfl) dX2_shows_5 ?_
  refine g_iconst (pc := 7) (v := (0 : Int32)) ic_0 dX2_shows_7 ?_
  refine g_istore (pc := 8) (lv' := [(5, gi (0 : Int32)), (4, gi v1), (0, gr a0), (1, gi a1), (2, gi a2), (3, gi a3)]) [0, 1, 2, 3, 4, 5] rfl (gblt rfl) dX2_shows_8 ?_
  refine g_sub (lv' := [(0, gr a0), (1, gi a1), (2, gi a2), (3, gi a3), (4, gi v1), (5, gi (0 : Int32))]) [2, 3, 4, 5, 1, 0] rfl ?_
  refine g_loop (pc := 10) (fun (x3 : Int32) => [(0, gr a0), (1, gi a1), (2, gi a2), (3, gi a3), (4, gi v1), (5, gi x3)]) (fun (_ : Int32) => []) (fun w5 Hw5 x3 h4 => ?_) N (0 : Int32) h2
  delta bX2_shows_10
  refine g_iload (pc := 10) (x := x3) 5 rfl dX2_shows_10 ?_
  refine g_aload_n (pc := 12) (x := a0) 0 rfl rfl dX2_shows_12 ?_
  refine g_getfr (pc := 13) k_18 (gblt rfl) lk_X2_9_18 dX2_shows_13 fun v6 => ?_
  refine g_bipush (pc := 16) (v := (6 : Int32)) bc_6 dX2_shows_16 ?_
  refine g_iaload (pc := 18) rfl dX2_shows_18 fun v7 => ?_
  refine g_icmp_ge (pc := 19) (tgt := 61) rfl dX2_shows_19 ?_ ?_
  · refine g_iload (pc := 61) (x := v1) 4 rfl dX2_shows_61 ?_
    exact g_ireturn (pc := 63) rfl dX2_shows_63
  refine g_iload (pc := 22) (x := v1) 4 rfl dX2_shows_22 ?_
  refine g_iload (pc := 24) (x := x3) 5 rfl dX2_shows_24 ?_
  refine g_bi (pc := 26) (y := yX2_has) (ws := ws_ yX2_has cX2_has 2 (some .boolean)) (fr := 0) (lo := 0) (as := [gi v1, gi x3]) (st := []) (g_no) rfl (fun _ _ e => tX2_has hs e) (fun K _ _ hM R e1 e2 => g_runS (M := mX2_shows) (pc := 26) (y := yX2_has) (bytes := cX2_has) (maxL := 2) (ret := (some .boolean)) (fr := 0) (lo := 0) (as := [gi v1, gi x3]) (st := []) gy_X2_has (gbl rfl) (gbl rfl) (gbl rfl) q4257 q4258 dX2_shows_26 K hM R e1 e2) fun v8 h9 => ?_
  refine g_join 55 (fun (x10 : Unit) => [(0, gr a0), (1, gi a1), (2, gi a2), (3, gi a3), (4, gi v1), (5, gi x3)]) (fun (x10 : Unit) => []) (fun x10 h11 => ?_) (fun j12 Hj12 => ?_)
  · refine g_iinc (pc := 55) (v := x3 + (1 : Int32)) 5 rfl (ii_1 _) (lv' := [(5, gi (x3 + (1 : Int32))), (0, gr a0), (1, gi a1), (2, gi a2), (3, gi a3), (4, gi v1)]) [0, 1, 2, 3, 4, 5] rfl (gblt rfl) dX2_shows_55 ?_
    refine g_goto (pc := 58) (tgt := 10) rfl dX2_shows_58 ?_
    exact g_sub [1, 2, 3, 4, 5, 0] rfl (Hw5 (x3 + (1 : Int32)) h11)
  refine g_if_eq (pc := 29) (tgt := 55) rfl dX2_shows_29 ?_ ?_
  · exact Hj12 () h9
  refine g_aload_n (pc := 32) (x := a0) 0 rfl rfl dX2_shows_32 ?_
  refine g_getfr (pc := 33) k_18 (gblt rfl) lk_X2_9_18 dX2_shows_33 fun v13 => ?_
  refine g_iload (pc := 36) (x := x3) 5 rfl dX2_shows_36 ?_
  refine g_iload_n (pc := 38) (x := a1) 1 rfl rfl dX2_shows_38 ?_
  refine g_iload_n (pc := 39) (x := a2) 2 rfl rfl dX2_shows_39 ?_
  refine g_bi (pc := 40) (y := yX2_voteAt) (ws := ws_ yX2_voteAt cX2_voteAt 3 (some .int)) (fr := 0) (lo := 0) (as := [gi x3, gi a1, gi a2]) (st := [gr v13]) (g_no) rfl (fun _ _ e => tX2_voteAt hs e) (fun K _ _ hM R e1 e2 => g_runS (M := mX2_shows) (pc := 40) (y := yX2_voteAt) (bytes := cX2_voteAt) (maxL := 3) (ret := (some .int)) (fr := 0) (lo := 0) (as := [gi x3, gi a1, gi a2]) (st := [gr v13]) gy_X2_voteAt (gbl rfl) (gbl rfl) (gbl rfl) q4165 q4166 dX2_shows_40 K hM R e1 e2) fun v14 h15 => ?_
  refine g_aload_n (pc := 43) (x := a0) 0 rfl rfl dX2_shows_43 ?_
  refine g_getfr (pc := 44) k_18 (gblt rfl) lk_X2_9_18 dX2_shows_44 fun v16 => ?_
  refine g_bipush (pc := 47) (v := (90 : Int32)) bc_90 dX2_shows_47 ?_
  refine g_iaload (pc := 49) rfl dX2_shows_49 fun v17 => ?_
  refine g_iload_n (pc := 50) (x := a3) 3 rfl rfl dX2_shows_50 ?_
  refine g_bi (pc := 51) (y := yX2_made) (ws := ws_ yX2_made cX2_made 2 (some .int)) (fr := 0) (lo := 0) (as := [gi v17, gi a3]) (st := [gi v14, gr v13]) (g_no) rfl (fun _ _ e => tX2_made hs e) (fun K _ _ hM R e1 e2 => g_runS (M := mX2_shows) (pc := 51) (y := yX2_made) (bytes := cX2_made) (maxL := 2) (ret := (some .int)) (fr := 0) (lo := 0) (as := [gi v17, gi a3]) (st := [gi v14, gr v13]) gy_X2_made (gbl rfl) (gbl rfl) (gbl rfl) q4511 q4512 dX2_shows_51 K hM R e1 e2) fun v18 h19 => ?_
  refine g_iastore (pc := 54) rfl dX2_shows_54 fun h20 => ?_
  exact Hj12 () h20
/-! FlareSlopesModel.closersBy(III)I -/
noncomputable def sX2_closersBy (G : GG) (N : Nat) (a0 : Option Nat) (a1 : Int32) (a2 : Int32) (a3 : Int32) (h : Hp) : Out (Int32) :=
  bV h a0 18 (fun q15 => sX2_thinks G N (some q15) h) fun v1 h2 =>
  bV h2 a0 18 (fun q14 => sX2_shows G N (some q14) a1 a2 (1 : Int32) h2) fun v3 h4 =>
  bV h4 a0 18 (fun q13 => sX2_passes G N (some q13) a3 h4) fun v5 h6 =>
  bV h6 a0 18 (fun q12 => sX2_closersOf G N (some q12) a2 h6) fun v7 h8 =>
  bV h8 a0 18 (fun q11 => sX2_back G N (some q11) v7 h8) fun v9 h10 =>
  some (.inl v9, h10)
abbrev mX2_closersBy : MI := (RX2, cX2_closersBy, 5, (some .int), [], 8, 182, "closersBy")
theorem tX2_closersBy {G : GG} {l : Launch} (hs : l.stackTraces = false) {N : Nat} {a0 : Option Nat} {a1 : Int32} {a2 : Int32} {a3 : Int32} {h : Hp} {r : Int32 ⊕ Nat} {hf : Hp} (ho : sX2_closersBy G N a0 a1 a2 a3 h = some (r, hf)) : gMet G l yX2_closersBy (ws_ yX2_closersBy cX2_closersBy 5 (some .int)) 8 182 [gr a0, gi a1, gi a2, gi a3] h cvI r hf := by
  refine gMet.of ho hs (plainFor_of_name pn_X2) rfl rfl (gbl rfl) fun X => ?_
  show gT G l X mX2_closersBy cvI r hf 0 [(0, gr a0), (1, gi a1), (2, gi a2), (3, gi a3)] [] h (sX2_closersBy G N a0 a1 a2 a3 h)
  delta sX2_closersBy
  refine g_aload_n (pc := 0) (x := a0) 0 rfl rfl dX2_closersBy_0 ?_
  refine g_bVu (pc := 1) (y := yX2_thinks) (ws := ws_ yX2_thinks cX2_thinks 1 none) (fr := 1) (lo := 24) (as := []) (st := []) (g_no) rfl (fun _ _ _ e => tX2_thinks hs e) (fun K _ _ _ hq hM R e1 e2 => g_runV (M := mX2_closersBy) (pc := 1) (y := yX2_thinks) (bytes := cX2_thinks) (maxL := 1) (ret := none) (fr := 1) (lo := 24) (as := []) (st := []) hq (C := "FlareSlopesModel") rfl gy_X2_thinks (gbl rfl) (gbl rfl) (gbl rfl) q4456 q4458 qs114 dX2_closersBy_1 K hM R e1 e2) fun v1 h2 => ?_
  refine g_aload_n (pc := 4) (x := a0) 0 rfl rfl dX2_closersBy_4 ?_
  refine g_iload_n (pc := 5) (x := a1) 1 rfl rfl dX2_closersBy_5 ?_
  refine g_iload_n (pc := 6) (x := a2) 2 rfl rfl dX2_closersBy_6 ?_
  refine g_iconst (pc := 7) (v := (1 : Int32)) ic_1 dX2_closersBy_7 ?_
  refine g_bVi (pc := 8) (y := yX2_shows) (ws := ws_ yX2_shows cX2_shows 6 (some .int)) (fr := 5) (lo := 116) (as := [gi a1, gi a2, gi (1 : Int32)]) (st := []) (g_no) rfl (fun _ _ _ e => tX2_shows hs e) (fun K _ _ _ hq hM R e1 e2 => g_runV (M := mX2_closersBy) (pc := 8) (y := yX2_shows) (bytes := cX2_shows) (maxL := 6) (ret := (some .int)) (fr := 5) (lo := 116) (as := [gi a1, gi a2, gi (1 : Int32)]) (st := []) hq (C := "FlareSlopesModel") rfl gy_X2_shows (gbl rfl) (gbl rfl) (gbl rfl) q4507 q4509 qs121 dX2_closersBy_8 K hM R e1 e2) fun v3 h4 => ?_
  refine g_istore (pc := 11) (lv' := [(0, gr a0), (2, gi a2), (3, gi a3)]) [1, 3, 4] rfl (gblt rfl) dX2_closersBy_11 ?_
  refine g_aload_n (pc := 13) (x := a0) 0 rfl rfl dX2_closersBy_13 ?_
  refine g_iload_n (pc := 14) (x := a3) 2 rfl rfl dX2_closersBy_14 ?_
  refine g_bVu (pc := 15) (y := yX2_passes) (ws := ws_ yX2_passes cX2_passes 3 none) (fr := 7) (lo := 160) (as := [gi a3]) (st := []) (g_no) rfl (fun _ _ _ e => tX2_passes hs e) (fun K _ _ _ hq hM R e1 e2 => g_runV (M := mX2_closersBy) (pc := 15) (y := yX2_passes) (bytes := cX2_passes) (maxL := 3) (ret := none) (fr := 7) (lo := 160) (as := [gi a3]) (st := []) hq (C := "FlareSlopesModel") rfl gy_X2_passes (gbl rfl) (gbl rfl) (gbl rfl) q4487 q4489 qs119 dX2_closersBy_15 K hM R e1 e2) fun v5 h6 => ?_
  refine g_aload_n (pc := 18) (x := a0) 0 rfl rfl dX2_closersBy_18 ?_
  refine g_aload_n (pc := 19) (x := a0) 0 rfl rfl dX2_closersBy_19 ?_
  refine g_iload_n (pc := 20) (x := a2) 1 rfl rfl dX2_closersBy_20 ?_
  refine g_bVi (pc := 21) (y := yX2_closersOf) (ws := ws_ yX2_closersOf cX2_closersOf 4 (some .int)) (fr := 2) (lo := 43) (as := [gi a2]) (st := [gr a0]) (g_no) rfl (fun _ _ _ e => tX2_closersOf hs e) (fun K _ _ _ hq hM R e1 e2 => g_runV (M := mX2_closersBy) (pc := 21) (y := yX2_closersOf) (bytes := cX2_closersOf) (maxL := 4) (ret := (some .int)) (fr := 2) (lo := 43) (as := [gi a2]) (st := [gr a0]) hq (C := "FlareSlopesModel") rfl gy_X2_closersOf (gbl rfl) (gbl rfl) (gbl rfl) q4249 q4251 qs94 dX2_closersBy_21 K hM R e1 e2) fun v7 h8 => ?_
  refine g_bVi (pc := 24) (y := yX2_back) (ws := ws_ yX2_back cX2_back 2 (some .int)) (fr := 1) (lo := 24) (as := [gi v7]) (st := []) (g_no) rfl (fun _ _ _ e => tX2_back hs e) (fun K _ _ _ hq hM R e1 e2 => g_runV (M := mX2_closersBy) (pc := 24) (y := yX2_back) (bytes := cX2_back) (maxL := 2) (ret := (some .int)) (fr := 1) (lo := 24) (as := [gi v7]) (st := []) hq (C := "FlareSlopesModel") rfl gy_X2_back (gbl rfl) (gbl rfl) (gbl rfl) q4460 q4462 qs115 dX2_closersBy_24 K hM R e1 e2) fun v9 h10 => ?_
  exact g_ireturn (pc := 27) rfl dX2_closersBy_27
/-! FlareSlopesModel.closersIf(III)I -/
noncomputable def sX2_closersIf (G : GG) (N : Nat) (a0 : Option Nat) (a1 : Int32) (a2 : Int32) (a3 : Int32) (h : Hp) : Out (Int32) :=
  gFi h a0 18 8 fun v1 =>
  bV h a0 18 (fun q21 => sX2_isCabin G N (some q21) a1 h) fun v2 h3 =>
  gJ (fun (x4 : Int32) (h5 : Hp) =>
  bnd (sX2_isFar G N a3 h5) fun v7 h8 =>
  bV h8 a0 18 (fun q14 => sX2_may G N (some q14) v1 x4 v7 h8) fun v9 h10 =>
  if v9 = 0 then (some (.inl (0 : Int32), h10))
  else bV h10 a0 18 (fun q13 => sX2_closersBy G N (some q13) a1 a2 a3 h10) fun v11 h12 =>
  some (.inl v11, h12)) fun j6 =>
  gJ (fun (x15 : Unit) (h16 : Hp) =>
  j6 (0 : Int32) h16) fun j17 =>
  if v2 = 0 then (j17 () h3)
  else bV h3 a0 18 (fun q20 => sX2_isSlope G N (some q20) a2 h3) fun v18 h19 =>
  if v18 = 0 then (j17 () h19)
  else j6 (1 : Int32) h19
abbrev mX2_closersIf : MI := (RX2, cX2_closersIf, 4, (some .int), [], 9, 206, "closersIf")
theorem tX2_closersIf {G : GG} {l : Launch} (hs : l.stackTraces = false) {N : Nat} {a0 : Option Nat} {a1 : Int32} {a2 : Int32} {a3 : Int32} {h : Hp} {r : Int32 ⊕ Nat} {hf : Hp} (ho : sX2_closersIf G N a0 a1 a2 a3 h = some (r, hf)) : gMet G l yX2_closersIf (ws_ yX2_closersIf cX2_closersIf 4 (some .int)) 9 206 [gr a0, gi a1, gi a2, gi a3] h cvI r hf := by
  refine gMet.of ho hs (plainFor_of_name pn_X2) rfl rfl (gbl rfl) fun X => ?_
  show gT G l X mX2_closersIf cvI r hf 0 [(0, gr a0), (1, gi a1), (2, gi a2), (3, gi a3)] [] h (sX2_closersIf G N a0 a1 a2 a3 h)
  delta sX2_closersIf
  refine g_aload_n (pc := 0) (x := a0) 0 rfl rfl dX2_closersIf_0 ?_
  refine g_aload_n (pc := 1) (x := a0) 0 rfl rfl dX2_closersIf_1 ?_
  refine g_getfi (pc := 2) k_18 (gblt rfl) lk_X2_184_18 dX2_closersIf_2 fun v1 => ?_
  refine g_aload_n (pc := 5) (x := a0) 0 rfl rfl dX2_closersIf_5 ?_
  refine g_iload_n (pc := 6) (x := a1) 1 rfl rfl dX2_closersIf_6 ?_
  refine g_bVi (pc := 7) (y := yX2_isCabin) (ws := ws_ yX2_isCabin cX2_isCabin 2 (some .boolean)) (fr := 1) (lo := 22) (as := [gi a1]) (st := [gi v1, gr a0]) (g_no) rfl (fun _ _ _ e => tX2_isCabin hs e) (fun K _ _ _ hq hM R e1 e2 => g_runV (M := mX2_closersIf) (pc := 7) (y := yX2_isCabin) (bytes := cX2_isCabin) (maxL := 2) (ret := (some .boolean)) (fr := 1) (lo := 22) (as := [gi a1]) (st := [gi v1, gr a0]) hq (C := "FlareSlopesModel") rfl gy_X2_isCabin (gbl rfl) (gbl rfl) (gbl rfl) q4214 q4216 qs87 dX2_closersIf_7 K hM R e1 e2) fun v2 h3 => ?_
  refine g_join 26 (fun (x4 : Int32) => [(0, gr a0), (1, gi a1), (2, gi a2), (3, gi a3)]) (fun (x4 : Int32) => [gi x4, gi v1, gr a0]) (fun x4 h5 => ?_) (fun j6 Hj6 => ?_)
  · refine g_iload_n (pc := 26) (x := a3) 3 rfl rfl dX2_closersIf_26 ?_
    refine g_bi (pc := 27) (y := yX2_isFar) (ws := ws_ yX2_isFar cX2_isFar 1 (some .boolean)) (fr := 1) (lo := 22) (as := [gi a3]) (st := [gi x4, gi v1, gr a0]) (g_no) rfl (fun _ _ e => tX2_isFar hs e) (fun K _ _ hM R e1 e2 => g_runS (M := mX2_closersIf) (pc := 27) (y := yX2_isFar) (bytes := cX2_isFar) (maxL := 1) (ret := (some .boolean)) (fr := 1) (lo := 22) (as := [gi a3]) (st := [gi x4, gi v1, gr a0]) gy_X2_isFar (gbl rfl) (gbl rfl) (gbl rfl) q4484 q4485 dX2_closersIf_27 K hM R e1 e2) fun v7 h8 => ?_
    refine g_bVi (pc := 30) (y := yX2_may) (ws := ws_ yX2_may cX2_may 4 (some .boolean)) (fr := 0) (lo := 0) (as := [gi v1, gi x4, gi v7]) (st := []) (g_no) rfl (fun _ _ _ e => tX2_may hs e) (fun K _ _ _ hq hM R e1 e2 => g_runV (M := mX2_closersIf) (pc := 30) (y := yX2_may) (bytes := cX2_may) (maxL := 4) (ret := (some .boolean)) (fr := 0) (lo := 0) (as := [gi v1, gi x4, gi v7]) (st := []) hq (C := "FlareSlopesModel") rfl gy_X2_may (gbl rfl) (gbl rfl) (gbl rfl) q4040 q4042 qs54 dX2_closersIf_30 K hM R e1 e2) fun v9 h10 => ?_
    refine g_if_eq (pc := 33) (tgt := 46) rfl dX2_closersIf_33 ?_ ?_
    · refine g_iconst (pc := 46) (v := (0 : Int32)) ic_0 dX2_closersIf_46 ?_
      exact g_ireturn (pc := 47) rfl dX2_closersIf_47
    refine g_aload_n (pc := 36) (x := a0) 0 rfl rfl dX2_closersIf_36 ?_
    refine g_iload_n (pc := 37) (x := a1) 1 rfl rfl dX2_closersIf_37 ?_
    refine g_iload_n (pc := 38) (x := a2) 2 rfl rfl dX2_closersIf_38 ?_
    refine g_iload_n (pc := 39) (x := a3) 3 rfl rfl dX2_closersIf_39 ?_
    refine g_bVi (pc := 40) (y := yX2_closersBy) (ws := ws_ yX2_closersBy cX2_closersBy 5 (some .int)) (fr := 8) (lo := 182) (as := [gi a1, gi a2, gi a3]) (st := []) (g_no) rfl (fun _ _ _ e => tX2_closersBy hs e) (fun K _ _ _ hq hM R e1 e2 => g_runV (M := mX2_closersIf) (pc := 40) (y := yX2_closersBy) (bytes := cX2_closersBy) (maxL := 5) (ret := (some .int)) (fr := 8) (lo := 182) (as := [gi a1, gi a2, gi a3]) (st := []) hq (C := "FlareSlopesModel") rfl gy_X2_closersBy (gbl rfl) (gbl rfl) (gbl rfl) q4503 q4505 qs120 dX2_closersIf_40 K hM R e1 e2) fun v11 h12 => ?_
    refine g_goto (pc := 43) (tgt := 47) rfl dX2_closersIf_43 ?_
    exact g_ireturn (pc := 47) rfl dX2_closersIf_47
  refine g_join 25 (fun (x15 : Unit) => [(0, gr a0), (1, gi a1), (2, gi a2), (3, gi a3)]) (fun (x15 : Unit) => [gi v1, gr a0]) (fun x15 h16 => ?_) (fun j17 Hj17 => ?_)
  · refine g_iconst (pc := 25) (v := (0 : Int32)) ic_0 dX2_closersIf_25 ?_
    exact Hj6 (0 : Int32) h16
  refine g_if_eq (pc := 10) (tgt := 25) rfl dX2_closersIf_10 ?_ ?_
  · exact Hj17 () h3
  refine g_aload_n (pc := 13) (x := a0) 0 rfl rfl dX2_closersIf_13 ?_
  refine g_iload_n (pc := 14) (x := a2) 2 rfl rfl dX2_closersIf_14 ?_
  refine g_bVi (pc := 15) (y := yX2_isSlope) (ws := ws_ yX2_isSlope cX2_isSlope 2 (some .boolean)) (fr := 1) (lo := 22) (as := [gi a2]) (st := [gi v1, gr a0]) (g_no) rfl (fun _ _ _ e => tX2_isSlope hs e) (fun K _ _ _ hq hM R e1 e2 => g_runV (M := mX2_closersIf) (pc := 15) (y := yX2_isSlope) (bytes := cX2_isSlope) (maxL := 2) (ret := (some .boolean)) (fr := 1) (lo := 22) (as := [gi a2]) (st := [gi v1, gr a0]) hq (C := "FlareSlopesModel") rfl gy_X2_isSlope (gbl rfl) (gbl rfl) (gbl rfl) q4245 q4247 qs93 dX2_closersIf_15 K hM R e1 e2) fun v18 h19 => ?_
  refine g_if_eq (pc := 18) (tgt := 25) rfl dX2_closersIf_18 ?_ ?_
  · exact Hj17 () h19
  refine g_iconst (pc := 21) (v := (1 : Int32)) ic_1 dX2_closersIf_21 ?_
  refine g_goto (pc := 22) (tgt := 26) rfl dX2_closersIf_22 ?_
  exact Hj6 (1 : Int32) h19
/-! FlareSlopes.bestCaller(II)I -/
noncomputable def bX1_bestCaller_19 (G : GG) (N : Nat) (a0 : Option Nat) (a1 : Int32) (a2 : Int32) (w7 : (Int32 × Int32 × Int32) → Hp → Out (Int32)) (x5 : Int32 × Int32 × Int32) (h6 : Hp) : Out (Int32) :=
  gFr h6 a0 3 4 fun v8 =>
  bV h6 v8 16 (fun q19 => sX3_size G N (some q19) h6) fun v9 h10 =>
  if v9 ≤ x5.2.2 then (some (.inl x5.1, h10))
  else bV h10 a0 3 (fun q18 => sX1_closersBy G N (some q18) x5.2.2 a1 a2 h10) fun v11 h12 =>
  bnd (sJ20_bitCount G N v11 h12) fun v13 h14 =>
  gJ (fun (x15 : Int32 × Int32) (h16 : Hp) =>
  w7 (x15.1, x15.2, x5.2.2 + (1 : Int32)) h16) fun j17 =>
  if x5.2.1 < v13 then (j17 (x5.2.2, v13) h14)
  else j17 (x5.1, x5.2.1) h14
noncomputable def sX1_bestCaller (G : GG) (N : Nat) (a0 : Option Nat) (a1 : Int32) (a2 : Int32) (h : Hp) : Out (Int32) :=
  bV h a0 3 (fun q20 => sX1_withSlope G N (some q20) a1 h) fun v1 h2 =>
  bnd (sX1_checkTicks G N a2 h2) fun v3 h4 =>
  gLp (bX1_bestCaller_19 G N a0 a1 a2) N ((-1 : Int32), (-1 : Int32), (0 : Int32)) h4
abbrev mX1_bestCaller : MI := (RX1, cX1_bestCaller, 8, (some .int), [], 10, 227, "bestCaller")
theorem tX1_bestCaller {G : GG} {l : Launch} (hs : l.stackTraces = false) {N : Nat} {a0 : Option Nat} {a1 : Int32} {a2 : Int32} {h : Hp} {r : Int32 ⊕ Nat} {hf : Hp} (ho : sX1_bestCaller G N a0 a1 a2 h = some (r, hf)) : gMet G l yX1_bestCaller (ws_ yX1_bestCaller cX1_bestCaller 8 (some .int)) 10 227 [gr a0, gi a1, gi a2] h cvI r hf := by
  refine gMet.of ho hs (plainFor_of_name pn_X1) rfl rfl (gbl rfl) fun X => ?_
  show gT G l X mX1_bestCaller cvI r hf 0 [(0, gr a0), (1, gi a1), (2, gi a2)] [] h (sX1_bestCaller G N a0 a1 a2 h)
  delta sX1_bestCaller
  refine g_aload_n (pc := 0) (x := a0) 0 rfl rfl dX1_bestCaller_0 ?_
  refine g_iload_n (pc := 1) (x := a1) 1 rfl rfl dX1_bestCaller_1 ?_
  refine g_bVr (pc := 2) (y := yX1_withSlope) (ws := ws_ yX1_withSlope cX1_withSlope 2 (some (.object "FlareSlopes$Spot"))) (fr := 8) (lo := 121) (as := [gi a1]) (st := []) (g_no) rfl (fun _ _ _ e => tX1_withSlope hs e) (fun K _ _ _ hq hM R e1 e2 => g_runV (M := mX1_bestCaller) (pc := 2) (y := yX1_withSlope) (bytes := cX1_withSlope) (maxL := 2) (ret := (some (.object "FlareSlopes$Spot"))) (fr := 8) (lo := 121) (as := [gi a1]) (st := []) hq (C := "FlareSlopes") rfl gy_X1_withSlope (gbl rfl) (gbl rfl) (gbl rfl) q3044 q3046 qs40 dX1_bestCaller_2 K hM R e1 e2) fun v1 h2 => ?_
  refine g_astore_n (pc := 5) (lv' := [(0, gr a0), (1, gi a1), (2, gi a2)]) [1, 2, 3] rfl rfl (gblt rfl) dX1_bestCaller_5 ?_
  refine g_iload_n (pc := 6) (x := a2) 2 rfl rfl dX1_bestCaller_6 ?_
  refine g_bu (pc := 7) (y := yX1_checkTicks) (ws := ws_ yX1_checkTicks cX1_checkTicks 1 none) (fr := 7) (lo := 101) (as := [gi a2]) (st := []) (g_no) rfl (fun _ _ e => tX1_checkTicks hs e) (fun K _ _ hM R e1 e2 => g_runS (M := mX1_bestCaller) (pc := 7) (y := yX1_checkTicks) (bytes := cX1_checkTicks) (maxL := 1) (ret := none) (fr := 7) (lo := 101) (as := [gi a2]) (st := []) gy_X1_checkTicks (gbl rfl) (gbl rfl) (gbl rfl) q3582 q3583 dX1_bestCaller_7 K hM R e1 e2) fun v3 h4 => ?_
  refine g_iconst (pc := 10) (v := (-1 : Int32)) ic_m1 dX1_bestCaller_10 ?_
  refine g_istore (pc := 11) (lv' := [(4, gi (-1 : Int32)), (0, gr a0), (1, gi a1), (2, gi a2)]) [0, 1, 2, 3] rfl (gblt rfl) dX1_bestCaller_11 ?_
  refine g_iconst (pc := 13) (v := (-1 : Int32)) ic_m1 dX1_bestCaller_13 ?_
  refine g_istore (pc := 14) (lv' := [(5, gi (-1 : Int32)), (4, gi (-1 : Int32)), (0, gr a0), (1, gi a1), (2, gi a2)]) [0, 1, 2, 3, 4] rfl (gblt rfl) dX1_bestCaller_14 ?_
  refine g_iconst (pc := 16) (v := (0 : Int32)) ic_0 dX1_bestCaller_16 ?_
  refine g_istore (pc := 17) (lv' := [(6, gi (0 : Int32)), (5, gi (-1 : Int32)), (4, gi (-1 : Int32)), (0, gr a0), (1, gi a1), (2, gi a2)]) [0, 1, 2, 3, 4, 5] rfl (gblt rfl) dX1_bestCaller_17 ?_
  refine g_sub (lv' := [(0, gr a0), (1, gi a1), (2, gi a2), (4, gi (-1 : Int32)), (5, gi (-1 : Int32)), (6, gi (0 : Int32))]) [3, 4, 5, 2, 1, 0] rfl ?_
  refine g_loop (pc := 19) (fun (x5 : Int32 × Int32 × Int32) => [(0, gr a0), (1, gi a1), (2, gi a2), (4, gi x5.1), (5, gi x5.2.1), (6, gi x5.2.2)]) (fun (_ : Int32 × Int32 × Int32) => []) (fun w7 Hw7 x5 h6 => ?_) N ((-1 : Int32), (-1 : Int32), (0 : Int32)) h4
  delta bX1_bestCaller_19
  refine g_iload (pc := 19) (x := x5.2.2) 5 rfl dX1_bestCaller_19 ?_
  refine g_aload_n (pc := 21) (x := a0) 0 rfl rfl dX1_bestCaller_21 ?_
  refine g_getfr (pc := 22) k_3 (gblt rfl) lk_X1_56_3 dX1_bestCaller_22 fun v8 => ?_
  refine g_bVi (pc := 25) (y := yX3_size) (ws := ws_ yX3_size cX3_size 1 (some .int)) (fr := 1) (lo := 20) (as := []) (st := [gi x5.2.2]) (g_no) rfl (fun _ _ _ e => tX3_size hs e) (fun K _ _ _ hq hM R e1 e2 => g_runV (M := mX1_bestCaller) (pc := 25) (y := yX3_size) (bytes := cX3_size) (maxL := 1) (ret := (some .int)) (fr := 1) (lo := 20) (as := []) (st := [gi x5.2.2]) hq (C := "FlareSlopes$State") rfl gy_X3_size (gbl rfl) (gbl rfl) (gbl rfl) q1411 q1412 q1413 dX1_bestCaller_25 K hM R e1 e2) fun v9 h10 => ?_
  refine g_icmp_ge (pc := 28) (tgt := 68) rfl dX1_bestCaller_28 ?_ ?_
  · refine g_iload (pc := 68) (x := x5.1) 3 rfl dX1_bestCaller_68 ?_
    exact g_ireturn (pc := 70) rfl dX1_bestCaller_70
  refine g_aload_n (pc := 31) (x := a0) 0 rfl rfl dX1_bestCaller_31 ?_
  refine g_iload (pc := 32) (x := x5.2.2) 5 rfl dX1_bestCaller_32 ?_
  refine g_iload_n (pc := 34) (x := a1) 1 rfl rfl dX1_bestCaller_34 ?_
  refine g_iload_n (pc := 35) (x := a2) 2 rfl rfl dX1_bestCaller_35 ?_
  refine g_bVi (pc := 36) (y := yX1_closersBy) (ws := ws_ yX1_closersBy cX1_closersBy 6 (some .int)) (fr := 9) (lo := 202) (as := [gi x5.2.2, gi a1, gi a2]) (st := []) (g_no) rfl (fun _ _ _ e => tX1_closersBy hs e) (fun K _ _ _ hq hM R e1 e2 => g_runV (M := mX1_bestCaller) (pc := 36) (y := yX1_closersBy) (bytes := cX1_closersBy) (maxL := 6) (ret := (some .int)) (fr := 9) (lo := 202) (as := [gi x5.2.2, gi a1, gi a2]) (st := []) hq (C := "FlareSlopes") rfl gy_X1_closersBy (gbl rfl) (gbl rfl) (gbl rfl) q3611 q3613 qs51 dX1_bestCaller_36 K hM R e1 e2) fun v11 h12 => ?_
  refine g_bi (pc := 39) (y := yJ20_bitCount) (ws := ws_ yJ20_bitCount cJ20_bitCount 1 (some .int)) (fr := 0) (lo := 0) (as := [gi v11]) (st := []) (g_no) rfl (fun _ _ e => tJ20_bitCount hs e) (fun K _ _ hM R e1 e2 => g_runS (M := mX1_bestCaller) (pc := 39) (y := yJ20_bitCount) (bytes := cJ20_bitCount) (maxL := 1) (ret := (some .int)) (fr := 0) (lo := 0) (as := [gi v11]) (st := []) gy_J20_bitCount (gbl rfl) (gbl rfl) (gbl rfl) q1619 q1620 dX1_bestCaller_39 K hM R e1 e2) fun v13 h14 => ?_
  refine g_istore (pc := 42) (lv' := [(7, gi v13), (0, gr a0), (1, gi a1), (2, gi a2), (4, gi x5.1), (5, gi x5.2.1), (6, gi x5.2.2)]) [0, 1, 2, 3, 4, 5, 6] rfl (gblt rfl) dX1_bestCaller_42 ?_
  refine g_iload (pc := 44) (x := v13) 0 rfl dX1_bestCaller_44 ?_
  refine g_iload (pc := 46) (x := x5.2.1) 5 rfl dX1_bestCaller_46 ?_
  refine g_join 62 (fun (x15 : Int32 × Int32) => [(0, gr a0), (1, gi a1), (2, gi a2), (4, gi x15.1), (5, gi x15.2), (6, gi x5.2.2)]) (fun (x15 : Int32 × Int32) => []) (fun x15 h16 => ?_) (fun j17 Hj17 => ?_)
  · refine g_iinc (pc := 62) (v := x5.2.2 + (1 : Int32)) 5 rfl (ii_1 _) (lv' := [(6, gi (x5.2.2 + (1 : Int32))), (0, gr a0), (1, gi a1), (2, gi a2), (4, gi x15.1), (5, gi x15.2)]) [0, 1, 2, 3, 4, 5] rfl (gblt rfl) dX1_bestCaller_62 ?_
    refine g_goto (pc := 65) (tgt := 19) rfl dX1_bestCaller_65 ?_
    exact g_sub [1, 2, 3, 4, 5, 0] rfl (Hw7 (x15.1, x15.2, x5.2.2 + (1 : Int32)) h16)
  refine g_icmp_gt (pc := 48) (tgt := 54) rfl dX1_bestCaller_48 ?_ ?_
  rotate_left
  · refine g_goto (pc := 51) (tgt := 62) rfl dX1_bestCaller_51 ?_
    exact g_sub [1, 2, 3, 4, 5, 6] rfl (Hj17 (x5.1, x5.2.1) h14)
  refine g_iload (pc := 54) (x := x5.2.2) 6 rfl dX1_bestCaller_54 ?_
  refine g_istore (pc := 56) (lv' := [(4, gi x5.2.2), (7, gi v13), (0, gr a0), (1, gi a1), (2, gi a2), (6, gi x5.2.2)]) [0, 1, 2, 3, 4, 6] rfl (gblt rfl) dX1_bestCaller_56 ?_
  refine g_iload (pc := 58) (x := v13) 1 rfl dX1_bestCaller_58 ?_
  refine g_istore (pc := 60) (lv' := [(5, gi v13), (4, gi x5.2.2), (0, gr a0), (1, gi a1), (2, gi a2), (6, gi x5.2.2)]) [0, 1, 3, 4, 5, 6] rfl (gblt rfl) dX1_bestCaller_60 ?_
  exact g_sub [2, 3, 4, 1, 0, 5] rfl (Hj17 (x5.2.2, v13) h14)
/-! FlareSlopesLaw.bestCaller(LFlareSlopes;II[J)I -/
noncomputable def sX0_bestCaller (G : GG) (N : Nat) (a0 : Option Nat) (a1 : Int32) (a2 : Int32) (a3 : Option Nat) (h : Hp) : Out (Int32) :=
  bVX h a0 3 (fun q4 => sX1_bestCaller G N (some q4) a1 a2 h) (fun v1 h2 =>
  gSl G h2 a3 3 (0 : Int32) (v1.toInt64) fun h3 =>
  some (.inl (0 : Int32), h3)) fun q5 h6 =>
  gSw h6 (some q5) 0 (some (.inl (1 : Int32), h6)) (gSw h6 (some q5) 1 (some (.inl (3 : Int32), h6)) (gSw h6 (some q5) 2 (some (.inl (2 : Int32), h6)) (none)))
abbrev mX0_bestCaller : MI := (RX0, cX0_bestCaller, 5, (some .int), [(0, 10, 13, 21), (0, 10, 17, 13), (0, 10, 21, 15)], 11, 254, "bestCaller")
theorem tX0_bestCaller {G : GG} {l : Launch} (hs : l.stackTraces = false) {N : Nat} {a0 : Option Nat} {a1 : Int32} {a2 : Int32} {a3 : Option Nat} {h : Hp} {r : Int32 ⊕ Nat} {hf : Hp} (ho : sX0_bestCaller G N a0 a1 a2 a3 h = some (r, hf)) : gMet G l yX0_bestCaller (wsW_ yX0_bestCaller cX0_bestCaller 5 (some .int) [(0, 10, 13, 21), (0, 10, 17, 13), (0, 10, 21, 15)]) 11 254 [gr a0, gi a1, gi a2, gr a3] h cvI r hf := by
  refine gMet.ofW ho hs (plainFor_of_name pn_X0) rfl rfl (gbl rfl) fun X => ?_
  show gT G l X mX0_bestCaller cvI r hf 0 [(0, gr a0), (1, gi a1), (2, gi a2), (3, gr a3)] [] h (sX0_bestCaller G N a0 a1 a2 a3 h)
  delta sX0_bestCaller
  refine g_aload_n (pc := 0) (x := a3) 3 rfl rfl dX0_bestCaller_0 ?_
  refine g_iconst (pc := 1) (v := (0 : Int32)) ic_0 dX0_bestCaller_1 ?_
  refine g_aload_n (pc := 2) (x := a0) 0 rfl rfl dX0_bestCaller_2 ?_
  refine g_iload_n (pc := 3) (x := a1) 1 rfl rfl dX0_bestCaller_3 ?_
  refine g_iload_n (pc := 4) (x := a2) 2 rfl rfl dX0_bestCaller_4 ?_
  refine g_bVXi (pc := 5) (y := yX1_bestCaller) (ws := ws_ yX1_bestCaller cX1_bestCaller 8 (some .int)) (fr := 10) (lo := 227) (as := [gi a1, gi a2]) (st := [gi (0 : Int32), gr a3]) rfl (fun _ _ _ e => tX1_bestCaller hs e) (fun K _ _ _ hq hM R e1 e2 => g_runV (M := mX0_bestCaller) (pc := 5) (y := yX1_bestCaller) (bytes := cX1_bestCaller) (maxL := 8) (ret := (some .int)) (fr := 10) (lo := 227) (as := [gi a1, gi a2]) (st := [gi (0 : Int32), gr a3]) hq (C := "FlareSlopes") rfl gy_X1_bestCaller (gbl rfl) (gbl rfl) (gbl rfl) q3642 q3643 q3644 dX0_bestCaller_5 K hM R e1 e2) (fun v1 h2 => ?_) (fun q5 h6 => ?_)
  · refine g_i2l (pc := 8) dX0_bestCaller_8 ?_
    refine g_lastore (pc := 9) rfl dX0_bestCaller_9 fun h3 => ?_
    refine g_goto (pc := 10) (tgt := 25) rfl dX0_bestCaller_10 ?_
    refine g_iconst (pc := 25) (v := (0 : Int32)) ic_0 dX0_bestCaller_25 ?_
    exact g_ireturn (pc := 26) rfl dX0_bestCaller_26
  refine g_catch (E := "java/lang/IllegalStateException") [] ⟨0, 10, 13, 21⟩ [⟨0, 10, 17, 13⟩, ⟨0, 10, 21, 15⟩] rfl rfl (List.forall_mem_nil _) (by decide +kernel) (by decide +kernel) q1425 q1439 ?_ ?_
  · refine g_astore (pc := 13) (lv' := []) [] rfl (gblt rfl) dX0_bestCaller_13 ?_
    refine g_iconst (pc := 15) (v := (1 : Int32)) ic_1 dX0_bestCaller_15 ?_
    exact g_ireturn (pc := 16) rfl dX0_bestCaller_16
  refine g_catch (E := "java/lang/IllegalArgumentException") [⟨0, 10, 13, 21⟩, ⟨0, 10, 17, 13⟩] ⟨0, 10, 21, 15⟩ [] rfl rfl (List.forall_mem_cons.mpr ⟨Or.inr ⟨by decide +kernel, _, q1425, ncl_java_lang_IllegalArgumentException_java_lang_IllegalStateException⟩, List.forall_mem_cons.mpr ⟨Or.inr ⟨by decide +kernel, _, q325, ncl_java_lang_IllegalArgumentException_java_lang_IndexOutOfBoundsException⟩, List.forall_mem_nil _⟩⟩) (by decide +kernel) (by decide +kernel) q404 q751 ?_ ?_
  · refine g_astore (pc := 21) (lv' := []) [] rfl (gblt rfl) dX0_bestCaller_21 ?_
    refine g_iconst (pc := 23) (v := (3 : Int32)) ic_3 dX0_bestCaller_23 ?_
    exact g_ireturn (pc := 24) rfl dX0_bestCaller_24
  refine g_catch (E := "java/lang/IndexOutOfBoundsException") [⟨0, 10, 13, 21⟩] ⟨0, 10, 17, 13⟩ [⟨0, 10, 21, 15⟩] rfl rfl (List.forall_mem_cons.mpr ⟨Or.inr ⟨by decide +kernel, _, q1425, ncl_java_lang_IndexOutOfBoundsException_java_lang_IllegalStateException⟩, List.forall_mem_nil _⟩) (by decide +kernel) (by decide +kernel) q325 q418 ?_ ?_
  · refine g_astore (pc := 17) (lv' := []) [] rfl (gblt rfl) dX0_bestCaller_17 ?_
    refine g_iconst (pc := 19) (v := (2 : Int32)) ic_2 dX0_bestCaller_19 ?_
    exact g_ireturn (pc := 20) rfl dX0_bestCaller_20
  exact g_noneX
/-! FlareSlopesModel.bestCaller(II)I -/
noncomputable def bX2_bestCaller_30 (G : GG) (N : Nat) (a0 : Option Nat) (a1 : Int32) (a2 : Int32) (w10 : (Int32 × Int32 × Int32) → Hp → Out (Int32)) (x8 : Int32 × Int32 × Int32) (h9 : Hp) : Out (Int32) :=
  gFr h9 a0 18 1 fun v11 =>
  gAi h9 v11 0 (6 : Int32) fun v12 =>
  if v12 ≤ x8.2.2 then (some (.inl x8.1, h9))
  else bV h9 a0 18 (fun q20 => sX2_closersBy G N (some q20) x8.2.2 a1 a2 h9) fun v13 h14 =>
  bnd (sX2_bits G N v13 h14) fun v15 h16 =>
  gJ (fun (x17 : Int32 × Int32) (h18 : Hp) =>
  w10 (x17.1, x17.2, x8.2.2 + (1 : Int32)) h18) fun j19 =>
  if x8.2.1 < v15 then (j19 (x8.2.2, v15) h16)
  else j19 (x8.1, x8.2.1) h16
noncomputable def sX2_bestCaller (G : GG) (N : Nat) (a0 : Option Nat) (a1 : Int32) (a2 : Int32) (h : Hp) : Out (Int32) :=
  gFi h a0 18 8 fun v1 =>
  bV h a0 18 (fun q22 => sX2_isSlope G N (some q22) a1 h) fun v2 h3 =>
  bnd (sX2_isFar G N a2 h3) fun v4 h5 =>
  bV h5 a0 18 (fun q21 => sX2_may G N (some q21) v1 v2 v4 h5) fun v6 h7 =>
  if v6 = 0 then (some (.inl (0 : Int32), h7))
  else gLp (bX2_bestCaller_30 G N a0 a1 a2) N ((-1 : Int32), (-1 : Int32), (0 : Int32)) h7
abbrev mX2_bestCaller : MI := (RX2, cX2_bestCaller, 7, (some .int), [], 9, 206, "bestCaller")
theorem tX2_bestCaller {G : GG} {l : Launch} (hs : l.stackTraces = false) {N : Nat} {a0 : Option Nat} {a1 : Int32} {a2 : Int32} {h : Hp} {r : Int32 ⊕ Nat} {hf : Hp} (ho : sX2_bestCaller G N a0 a1 a2 h = some (r, hf)) : gMet G l yX2_bestCaller (ws_ yX2_bestCaller cX2_bestCaller 7 (some .int)) 9 206 [gr a0, gi a1, gi a2] h cvI r hf := by
  refine gMet.of ho hs (plainFor_of_name pn_X2) rfl rfl (gbl rfl) fun X => ?_
  show gT G l X mX2_bestCaller cvI r hf 0 [(0, gr a0), (1, gi a1), (2, gi a2)] [] h (sX2_bestCaller G N a0 a1 a2 h)
  delta sX2_bestCaller
  refine g_aload_n (pc := 0) (x := a0) 0 rfl rfl dX2_bestCaller_0 ?_
  refine g_aload_n (pc := 1) (x := a0) 0 rfl rfl dX2_bestCaller_1 ?_
  refine g_getfi (pc := 2) k_18 (gblt rfl) lk_X2_184_18 dX2_bestCaller_2 fun v1 => ?_
  refine g_aload_n (pc := 5) (x := a0) 0 rfl rfl dX2_bestCaller_5 ?_
  refine g_iload_n (pc := 6) (x := a1) 1 rfl rfl dX2_bestCaller_6 ?_
  refine g_bVi (pc := 7) (y := yX2_isSlope) (ws := ws_ yX2_isSlope cX2_isSlope 2 (some .boolean)) (fr := 1) (lo := 22) (as := [gi a1]) (st := [gi v1, gr a0]) (g_no) rfl (fun _ _ _ e => tX2_isSlope hs e) (fun K _ _ _ hq hM R e1 e2 => g_runV (M := mX2_bestCaller) (pc := 7) (y := yX2_isSlope) (bytes := cX2_isSlope) (maxL := 2) (ret := (some .boolean)) (fr := 1) (lo := 22) (as := [gi a1]) (st := [gi v1, gr a0]) hq (C := "FlareSlopesModel") rfl gy_X2_isSlope (gbl rfl) (gbl rfl) (gbl rfl) q4245 q4247 qs93 dX2_bestCaller_7 K hM R e1 e2) fun v2 h3 => ?_
  refine g_iload_n (pc := 10) (x := a2) 2 rfl rfl dX2_bestCaller_10 ?_
  refine g_bi (pc := 11) (y := yX2_isFar) (ws := ws_ yX2_isFar cX2_isFar 1 (some .boolean)) (fr := 1) (lo := 22) (as := [gi a2]) (st := [gi v2, gi v1, gr a0]) (g_no) rfl (fun _ _ e => tX2_isFar hs e) (fun K _ _ hM R e1 e2 => g_runS (M := mX2_bestCaller) (pc := 11) (y := yX2_isFar) (bytes := cX2_isFar) (maxL := 1) (ret := (some .boolean)) (fr := 1) (lo := 22) (as := [gi a2]) (st := [gi v2, gi v1, gr a0]) gy_X2_isFar (gbl rfl) (gbl rfl) (gbl rfl) q4484 q4485 dX2_bestCaller_11 K hM R e1 e2) fun v4 h5 => ?_
  refine g_bVi (pc := 14) (y := yX2_may) (ws := ws_ yX2_may cX2_may 4 (some .boolean)) (fr := 0) (lo := 0) (as := [gi v1, gi v2, gi v4]) (st := []) (g_no) rfl (fun _ _ _ e => tX2_may hs e) (fun K _ _ _ hq hM R e1 e2 => g_runV (M := mX2_bestCaller) (pc := 14) (y := yX2_may) (bytes := cX2_may) (maxL := 4) (ret := (some .boolean)) (fr := 0) (lo := 0) (as := [gi v1, gi v2, gi v4]) (st := []) hq (C := "FlareSlopesModel") rfl gy_X2_may (gbl rfl) (gbl rfl) (gbl rfl) q4040 q4042 qs54 dX2_bestCaller_14 K hM R e1 e2) fun v6 h7 => ?_
  refine g_if_ne (pc := 17) (tgt := 22) rfl dX2_bestCaller_17 ?_ ?_
  · refine g_iconst (pc := 20) (v := (0 : Int32)) ic_0 dX2_bestCaller_20 ?_
    exact g_ireturn (pc := 21) rfl dX2_bestCaller_21
  refine g_iconst (pc := 22) (v := (-1 : Int32)) ic_m1 dX2_bestCaller_22 ?_
  refine g_istore_n (pc := 23) (lv' := [(3, gi (-1 : Int32)), (0, gr a0), (1, gi a1), (2, gi a2)]) [0, 1, 2, 3] rfl rfl (gblt rfl) dX2_bestCaller_23 ?_
  refine g_iconst (pc := 24) (v := (-1 : Int32)) ic_m1 dX2_bestCaller_24 ?_
  refine g_istore (pc := 25) (lv' := [(4, gi (-1 : Int32)), (3, gi (-1 : Int32)), (0, gr a0), (1, gi a1), (2, gi a2)]) [0, 1, 2, 3, 4] rfl (gblt rfl) dX2_bestCaller_25 ?_
  refine g_iconst (pc := 27) (v := (0 : Int32)) ic_0 dX2_bestCaller_27 ?_
  refine g_istore (pc := 28) (lv' := [(5, gi (0 : Int32)), (4, gi (-1 : Int32)), (3, gi (-1 : Int32)), (0, gr a0), (1, gi a1), (2, gi a2)]) [0, 1, 2, 3, 4, 5] rfl (gblt rfl) dX2_bestCaller_28 ?_
  refine g_sub (lv' := [(0, gr a0), (1, gi a1), (2, gi a2), (3, gi (-1 : Int32)), (4, gi (-1 : Int32)), (5, gi (0 : Int32))]) [3, 4, 5, 2, 1, 0] rfl ?_
  refine g_loop (pc := 30) (fun (x8 : Int32 × Int32 × Int32) => [(0, gr a0), (1, gi a1), (2, gi a2), (3, gi x8.1), (4, gi x8.2.1), (5, gi x8.2.2)]) (fun (_ : Int32 × Int32 × Int32) => []) (fun w10 Hw10 x8 h9 => ?_) N ((-1 : Int32), (-1 : Int32), (0 : Int32)) h7
  delta bX2_bestCaller_30
  refine g_iload (pc := 30) (x := x8.2.2) 5 rfl dX2_bestCaller_30 ?_
  refine g_aload_n (pc := 32) (x := a0) 0 rfl rfl dX2_bestCaller_32 ?_
  refine g_getfr (pc := 33) k_18 (gblt rfl) lk_X2_9_18 dX2_bestCaller_33 fun v11 => ?_
  refine g_bipush (pc := 36) (v := (6 : Int32)) bc_6 dX2_bestCaller_36 ?_
  refine g_iaload (pc := 38) rfl dX2_bestCaller_38 fun v12 => ?_
  refine g_icmp_ge (pc := 39) (tgt := 78) rfl dX2_bestCaller_39 ?_ ?_
  · refine g_iload_n (pc := 78) (x := x8.1) 3 rfl rfl dX2_bestCaller_78 ?_
    exact g_ireturn (pc := 79) rfl dX2_bestCaller_79
  refine g_aload_n (pc := 42) (x := a0) 0 rfl rfl dX2_bestCaller_42 ?_
  refine g_iload (pc := 43) (x := x8.2.2) 5 rfl dX2_bestCaller_43 ?_
  refine g_iload_n (pc := 45) (x := a1) 1 rfl rfl dX2_bestCaller_45 ?_
  refine g_iload_n (pc := 46) (x := a2) 2 rfl rfl dX2_bestCaller_46 ?_
  refine g_bVi (pc := 47) (y := yX2_closersBy) (ws := ws_ yX2_closersBy cX2_closersBy 5 (some .int)) (fr := 8) (lo := 182) (as := [gi x8.2.2, gi a1, gi a2]) (st := []) (g_no) rfl (fun _ _ _ e => tX2_closersBy hs e) (fun K _ _ _ hq hM R e1 e2 => g_runV (M := mX2_bestCaller) (pc := 47) (y := yX2_closersBy) (bytes := cX2_closersBy) (maxL := 5) (ret := (some .int)) (fr := 8) (lo := 182) (as := [gi x8.2.2, gi a1, gi a2]) (st := []) hq (C := "FlareSlopesModel") rfl gy_X2_closersBy (gbl rfl) (gbl rfl) (gbl rfl) q4503 q4505 qs120 dX2_bestCaller_47 K hM R e1 e2) fun v13 h14 => ?_
  refine g_bi (pc := 50) (y := yX2_bits) (ws := ws_ yX2_bits cX2_bits 3 (some .int)) (fr := 0) (lo := 0) (as := [gi v13]) (st := []) (g_no) rfl (fun _ _ e => tX2_bits hs e) (fun K _ _ hM R e1 e2 => g_runS (M := mX2_bestCaller) (pc := 50) (y := yX2_bits) (bytes := cX2_bits) (maxL := 3) (ret := (some .int)) (fr := 0) (lo := 0) (as := [gi v13]) (st := []) gy_X2_bits (gbl rfl) (gbl rfl) (gbl rfl) q4260 q4261 dX2_bestCaller_50 K hM R e1 e2) fun v15 h16 => ?_
  refine g_istore (pc := 53) (lv' := [(6, gi v15), (0, gr a0), (1, gi a1), (2, gi a2), (3, gi x8.1), (4, gi x8.2.1), (5, gi x8.2.2)]) [0, 1, 2, 3, 4, 5, 6] rfl (gblt rfl) dX2_bestCaller_53 ?_
  refine g_iload (pc := 55) (x := v15) 0 rfl dX2_bestCaller_55 ?_
  refine g_iload (pc := 57) (x := x8.2.1) 5 rfl dX2_bestCaller_57 ?_
  refine g_join 72 (fun (x17 : Int32 × Int32) => [(0, gr a0), (1, gi a1), (2, gi a2), (3, gi x17.1), (4, gi x17.2), (5, gi x8.2.2)]) (fun (x17 : Int32 × Int32) => []) (fun x17 h18 => ?_) (fun j19 Hj19 => ?_)
  · refine g_iinc (pc := 72) (v := x8.2.2 + (1 : Int32)) 5 rfl (ii_1 _) (lv' := [(5, gi (x8.2.2 + (1 : Int32))), (0, gr a0), (1, gi a1), (2, gi a2), (3, gi x17.1), (4, gi x17.2)]) [0, 1, 2, 3, 4, 5] rfl (gblt rfl) dX2_bestCaller_72 ?_
    refine g_goto (pc := 75) (tgt := 30) rfl dX2_bestCaller_75 ?_
    exact g_sub [1, 2, 3, 4, 5, 0] rfl (Hw10 (x17.1, x17.2, x8.2.2 + (1 : Int32)) h18)
  refine g_icmp_gt (pc := 59) (tgt := 65) rfl dX2_bestCaller_59 ?_ ?_
  rotate_left
  · refine g_goto (pc := 62) (tgt := 72) rfl dX2_bestCaller_62 ?_
    exact g_sub [1, 2, 3, 4, 5, 6] rfl (Hj19 (x8.1, x8.2.1) h16)
  refine g_iload (pc := 65) (x := x8.2.2) 6 rfl dX2_bestCaller_65 ?_
  refine g_istore_n (pc := 67) (lv' := [(3, gi x8.2.2), (6, gi v15), (0, gr a0), (1, gi a1), (2, gi a2), (5, gi x8.2.2)]) [0, 1, 2, 3, 4, 6] rfl rfl (gblt rfl) dX2_bestCaller_67 ?_
  refine g_iload (pc := 68) (x := v15) 1 rfl dX2_bestCaller_68 ?_
  refine g_istore (pc := 70) (lv' := [(4, gi v15), (3, gi x8.2.2), (0, gr a0), (1, gi a1), (2, gi a2), (5, gi x8.2.2)]) [0, 1, 3, 4, 5, 6] rfl (gblt rfl) dX2_bestCaller_70 ?_
  exact g_sub [2, 3, 4, 1, 0, 5] rfl (Hj19 (x8.2.2, v15) h16)
/-! FlareSlopes.leastShare(II)I -/
noncomputable def sX1_leastShare (G : GG) (N : Nat) (a0 : Option Nat) (a1 : Int32) (a2 : Int32) (h : Hp) : Out (Int32) :=
  bV h a0 3 (fun q20 => sX1_withBoth G N (some q20) a1 a2 h) fun v1 h2 =>
  gFr h2 a0 3 4 fun v3 =>
  bV h2 v3 16 (fun q19 => sX3_laySums G N (some q19) a1 h2) fun v4 h5 =>
  gFr h5 a0 3 4 fun v6 =>
  gFr h5 v6 16 12 fun v7 =>
  gAi h5 v7 0 a2 fun v8 =>
  if v8 = 0 then (some (.inl (-1 : Int32), h5))
  else gFr h5 a0 3 4 fun v9 =>
  gFr h5 v9 16 12 fun v10 =>
  gAi h5 v10 0 a2 fun v11 =>
  gFr h5 a0 3 4 fun v12 =>
  gFr h5 v12 16 12 fun v13 =>
  gAi h5 v13 0 a2 fun v14 =>
  gFr h5 a0 3 4 fun v15 =>
  gFr h5 v15 16 13 fun v16 =>
  gAi h5 v16 0 a2 fun v17 =>
  gDv ((100 : Int32) * v11) (v14 + v17) fun v18 =>
  if v18 = 0 then (some (.inl (-1 : Int32), h5))
  else some (.inl v18, h5)
abbrev mX1_leastShare : MI := (RX1, cX1_leastShare, 5, (some .int), [], 10, 165, "leastShare")
theorem tX1_leastShare {G : GG} {l : Launch} (hs : l.stackTraces = false) {N : Nat} {a0 : Option Nat} {a1 : Int32} {a2 : Int32} {h : Hp} {r : Int32 ⊕ Nat} {hf : Hp} (ho : sX1_leastShare G N a0 a1 a2 h = some (r, hf)) : gMet G l yX1_leastShare (ws_ yX1_leastShare cX1_leastShare 5 (some .int)) 10 165 [gr a0, gi a1, gi a2] h cvI r hf := by
  refine gMet.of ho hs (plainFor_of_name pn_X1) rfl rfl (gbl rfl) fun X => ?_
  show gT G l X mX1_leastShare cvI r hf 0 [(0, gr a0), (1, gi a1), (2, gi a2)] [] h (sX1_leastShare G N a0 a1 a2 h)
  delta sX1_leastShare
  refine g_aload_n (pc := 0) (x := a0) 0 rfl rfl dX1_leastShare_0 ?_
  refine g_iload_n (pc := 1) (x := a1) 1 rfl rfl dX1_leastShare_1 ?_
  refine g_iload_n (pc := 2) (x := a2) 2 rfl rfl dX1_leastShare_2 ?_
  refine g_bVr (pc := 3) (y := yX1_withBoth) (ws := ws_ yX1_withBoth cX1_withBoth 4 (some (.object "FlareSlopes$Cabin"))) (fr := 9) (lo := 142) (as := [gi a1, gi a2]) (st := []) (g_no) rfl (fun _ _ _ e => tX1_withBoth hs e) (fun K _ _ _ hq hM R e1 e2 => g_runV (M := mX1_leastShare) (pc := 3) (y := yX1_withBoth) (bytes := cX1_withBoth) (maxL := 4) (ret := (some (.object "FlareSlopes$Cabin"))) (fr := 9) (lo := 142) (as := [gi a1, gi a2]) (st := []) hq (C := "FlareSlopes") rfl gy_X1_withBoth (gbl rfl) (gbl rfl) (gbl rfl) q3141 q3143 qs45 dX1_leastShare_3 K hM R e1 e2) fun v1 h2 => ?_
  refine g_astore_n (pc := 6) (lv' := [(0, gr a0), (1, gi a1), (2, gi a2)]) [1, 2, 3] rfl rfl (gblt rfl) dX1_leastShare_6 ?_
  refine g_aload_n (pc := 7) (x := a0) 0 rfl rfl dX1_leastShare_7 ?_
  refine g_getfr (pc := 8) k_3 (gblt rfl) lk_X1_56_3 dX1_leastShare_8 fun v3 => ?_
  refine g_iload_n (pc := 11) (x := a1) 1 rfl rfl dX1_leastShare_11 ?_
  refine g_bVu (pc := 12) (y := yX3_laySums) (ws := ws_ yX3_laySums cX3_laySums 6 none) (fr := 6) (lo := 128) (as := [gi a1]) (st := []) (g_no) rfl (fun _ _ _ e => tX3_laySums hs e) (fun K _ _ _ hq hM R e1 e2 => g_runV (M := mX1_leastShare) (pc := 12) (y := yX3_laySums) (bytes := cX3_laySums) (maxL := 6) (ret := none) (fr := 6) (lo := 128) (as := [gi a1]) (st := []) hq (C := "FlareSlopes$State") rfl gy_X3_laySums (gbl rfl) (gbl rfl) (gbl rfl) q3071 q3072 q3073 dX1_leastShare_12 K hM R e1 e2) fun v4 h5 => ?_
  refine g_aload_n (pc := 15) (x := a0) 0 rfl rfl dX1_leastShare_15 ?_
  refine g_getfr (pc := 16) k_3 (gblt rfl) lk_X1_56_3 dX1_leastShare_16 fun v6 => ?_
  refine g_getfr (pc := 19) k_16 (gblt rfl) lk_X1_311_16 dX1_leastShare_19 fun v7 => ?_
  refine g_iload_n (pc := 22) (x := a2) 2 rfl rfl dX1_leastShare_22 ?_
  refine g_iaload (pc := 23) rfl dX1_leastShare_23 fun v8 => ?_
  refine g_if_ne (pc := 24) (tgt := 29) rfl dX1_leastShare_24 ?_ ?_
  · refine g_iconst (pc := 27) (v := (-1 : Int32)) ic_m1 dX1_leastShare_27 ?_
    exact g_ireturn (pc := 28) rfl dX1_leastShare_28
  refine g_bipush (pc := 29) (v := (100 : Int32)) bc_100 dX1_leastShare_29 ?_
  refine g_aload_n (pc := 31) (x := a0) 0 rfl rfl dX1_leastShare_31 ?_
  refine g_getfr (pc := 32) k_3 (gblt rfl) lk_X1_56_3 dX1_leastShare_32 fun v9 => ?_
  refine g_getfr (pc := 35) k_16 (gblt rfl) lk_X1_311_16 dX1_leastShare_35 fun v10 => ?_
  refine g_iload_n (pc := 38) (x := a2) 2 rfl rfl dX1_leastShare_38 ?_
  refine g_iaload (pc := 39) rfl dX1_leastShare_39 fun v11 => ?_
  refine g_imul (pc := 40) dX1_leastShare_40 ?_
  refine g_aload_n (pc := 41) (x := a0) 0 rfl rfl dX1_leastShare_41 ?_
  refine g_getfr (pc := 42) k_3 (gblt rfl) lk_X1_56_3 dX1_leastShare_42 fun v12 => ?_
  refine g_getfr (pc := 45) k_16 (gblt rfl) lk_X1_311_16 dX1_leastShare_45 fun v13 => ?_
  refine g_iload_n (pc := 48) (x := a2) 2 rfl rfl dX1_leastShare_48 ?_
  refine g_iaload (pc := 49) rfl dX1_leastShare_49 fun v14 => ?_
  refine g_aload_n (pc := 50) (x := a0) 0 rfl rfl dX1_leastShare_50 ?_
  refine g_getfr (pc := 51) k_3 (gblt rfl) lk_X1_56_3 dX1_leastShare_51 fun v15 => ?_
  refine g_getfr (pc := 54) k_16 (gblt rfl) lk_X1_314_16 dX1_leastShare_54 fun v16 => ?_
  refine g_iload_n (pc := 57) (x := a2) 2 rfl rfl dX1_leastShare_57 ?_
  refine g_iaload (pc := 58) rfl dX1_leastShare_58 fun v17 => ?_
  refine g_iadd (pc := 59) dX1_leastShare_59 ?_
  refine g_idiv (pc := 60) dX1_leastShare_60 fun v18 => ?_
  refine g_istore (pc := 61) (lv' := [(4, gi v18)]) [0] rfl (gblt rfl) dX1_leastShare_61 ?_
  refine g_iload (pc := 63) (x := v18) 0 rfl dX1_leastShare_63 ?_
  refine g_if_ne (pc := 65) (tgt := 72) rfl dX1_leastShare_65 ?_ ?_
  rotate_left
  · refine g_iload (pc := 72) (x := v18) 0 rfl dX1_leastShare_72 ?_
    exact g_ireturn (pc := 74) rfl dX1_leastShare_74
  refine g_iconst (pc := 68) (v := (-1 : Int32)) ic_m1 dX1_leastShare_68 ?_
  refine g_goto (pc := 69) (tgt := 74) rfl dX1_leastShare_69 ?_
  exact g_ireturn (pc := 74) rfl dX1_leastShare_74
/-! FlareSlopesLaw.leastShare(LFlareSlopes;II[J)I -/
noncomputable def sX0_leastShare (G : GG) (N : Nat) (a0 : Option Nat) (a1 : Int32) (a2 : Int32) (a3 : Option Nat) (h : Hp) : Out (Int32) :=
  bVX h a0 3 (fun q4 => sX1_leastShare G N (some q4) a1 a2 h) (fun v1 h2 =>
  gSl G h2 a3 3 (0 : Int32) (v1.toInt64) fun h3 =>
  some (.inl (0 : Int32), h3)) fun q5 h6 =>
  gSw h6 (some q5) 0 (some (.inl (1 : Int32), h6)) (gSw h6 (some q5) 2 (some (.inl (2 : Int32), h6)) (none))
abbrev mX0_leastShare : MI := (RX0, cX0_leastShare, 5, (some .int), [(0, 10, 13, 21), (0, 10, 17, 13)], 11, 189, "leastShare")
theorem tX0_leastShare {G : GG} {l : Launch} (hs : l.stackTraces = false) {N : Nat} {a0 : Option Nat} {a1 : Int32} {a2 : Int32} {a3 : Option Nat} {h : Hp} {r : Int32 ⊕ Nat} {hf : Hp} (ho : sX0_leastShare G N a0 a1 a2 a3 h = some (r, hf)) : gMet G l yX0_leastShare (wsW_ yX0_leastShare cX0_leastShare 5 (some .int) [(0, 10, 13, 21), (0, 10, 17, 13)]) 11 189 [gr a0, gi a1, gi a2, gr a3] h cvI r hf := by
  refine gMet.ofW ho hs (plainFor_of_name pn_X0) rfl rfl (gbl rfl) fun X => ?_
  show gT G l X mX0_leastShare cvI r hf 0 [(0, gr a0), (1, gi a1), (2, gi a2), (3, gr a3)] [] h (sX0_leastShare G N a0 a1 a2 a3 h)
  delta sX0_leastShare
  refine g_aload_n (pc := 0) (x := a3) 3 rfl rfl dX0_leastShare_0 ?_
  refine g_iconst (pc := 1) (v := (0 : Int32)) ic_0 dX0_leastShare_1 ?_
  refine g_aload_n (pc := 2) (x := a0) 0 rfl rfl dX0_leastShare_2 ?_
  refine g_iload_n (pc := 3) (x := a1) 1 rfl rfl dX0_leastShare_3 ?_
  refine g_iload_n (pc := 4) (x := a2) 2 rfl rfl dX0_leastShare_4 ?_
  refine g_bVXi (pc := 5) (y := yX1_leastShare) (ws := ws_ yX1_leastShare cX1_leastShare 5 (some .int)) (fr := 10) (lo := 165) (as := [gi a1, gi a2]) (st := [gi (0 : Int32), gr a3]) rfl (fun _ _ _ e => tX1_leastShare hs e) (fun K _ _ _ hq hM R e1 e2 => g_runV (M := mX0_leastShare) (pc := 5) (y := yX1_leastShare) (bytes := cX1_leastShare) (maxL := 5) (ret := (some .int)) (fr := 10) (lo := 165) (as := [gi a1, gi a2]) (st := [gi (0 : Int32), gr a3]) hq (C := "FlareSlopes") rfl gy_X1_leastShare (gbl rfl) (gbl rfl) (gbl rfl) q3649 q3650 q3651 dX0_leastShare_5 K hM R e1 e2) (fun v1 h2 => ?_) (fun q5 h6 => ?_)
  · refine g_i2l (pc := 8) dX0_leastShare_8 ?_
    refine g_lastore (pc := 9) rfl dX0_leastShare_9 fun h3 => ?_
    refine g_goto (pc := 10) (tgt := 21) rfl dX0_leastShare_10 ?_
    refine g_iconst (pc := 21) (v := (0 : Int32)) ic_0 dX0_leastShare_21 ?_
    exact g_ireturn (pc := 22) rfl dX0_leastShare_22
  refine g_catch (E := "java/lang/IllegalStateException") [] ⟨0, 10, 13, 21⟩ [⟨0, 10, 17, 13⟩] rfl rfl (List.forall_mem_nil _) (by decide +kernel) (by decide +kernel) q1425 q1439 ?_ ?_
  · refine g_astore (pc := 13) (lv' := []) [] rfl (gblt rfl) dX0_leastShare_13 ?_
    refine g_iconst (pc := 15) (v := (1 : Int32)) ic_1 dX0_leastShare_15 ?_
    exact g_ireturn (pc := 16) rfl dX0_leastShare_16
  refine g_catch (E := "java/lang/IndexOutOfBoundsException") [⟨0, 10, 13, 21⟩] ⟨0, 10, 17, 13⟩ [] rfl rfl (List.forall_mem_cons.mpr ⟨Or.inr ⟨by decide +kernel, _, q1425, ncl_java_lang_IndexOutOfBoundsException_java_lang_IllegalStateException⟩, List.forall_mem_nil _⟩) (by decide +kernel) (by decide +kernel) q325 q418 ?_ ?_
  · refine g_astore (pc := 17) (lv' := []) [] rfl (gblt rfl) dX0_leastShare_17 ?_
    refine g_iconst (pc := 19) (v := (2 : Int32)) ic_2 dX0_leastShare_19 ?_
    exact g_ireturn (pc := 20) rfl dX0_leastShare_20
  exact g_noneX
/-! FlareSlopesModel.leastShare(II)I -/
noncomputable def bX2_leastShare_34 (G : GG) (N : Nat) (v3 : Int32) (v7 : Int32) (w10 : (Int32) → Hp → Out (Int32)) (x8 : Int32) (h9 : Hp) : Out (Int32) :=
  if x8 ≤ 0 then (some (.inl (-1 : Int32), h9))
  else if v3 ≤ 0 then (some (.inl (-1 : Int32), h9))
  else if ((100 : Int32) * v3) < (x8 * v7) then (w10 (x8 + (-1 : Int32)) h9)
  else some (.inl x8, h9)
noncomputable def sX2_leastShare (G : GG) (N : Nat) (a0 : Option Nat) (a1 : Int32) (a2 : Int32) (h : Hp) : Out (Int32) :=
  bV h a0 18 (fun q13 => sX2_mayBoth G N (some q13) a1 a2 h) fun v1 h2 =>
  if v1 = 0 then (some (.inl (0 : Int32), h2))
  else bV h2 a0 18 (fun q12 => sX2_sum G N (some q12) a1 a2 (1 : Int32) h2) fun v3 h4 =>
  bV h4 a0 18 (fun q11 => sX2_sum G N (some q11) a1 a2 (0 : Int32) h4) fun v5 h6 =>
  gLet (v3 + v5) fun v7 =>
  gLp (bX2_leastShare_34 G N v3 v7) N (100 : Int32) h6
abbrev mX2_leastShare : MI := (RX2, cX2_leastShare, 6, (some .int), [], 4, 89, "leastShare")
theorem tX2_leastShare {G : GG} {l : Launch} (hs : l.stackTraces = false) {N : Nat} {a0 : Option Nat} {a1 : Int32} {a2 : Int32} {h : Hp} {r : Int32 ⊕ Nat} {hf : Hp} (ho : sX2_leastShare G N a0 a1 a2 h = some (r, hf)) : gMet G l yX2_leastShare (ws_ yX2_leastShare cX2_leastShare 6 (some .int)) 4 89 [gr a0, gi a1, gi a2] h cvI r hf := by
  refine gMet.of ho hs (plainFor_of_name pn_X2) rfl rfl (gbl rfl) fun X => ?_
  show gT G l X mX2_leastShare cvI r hf 0 [(0, gr a0), (1, gi a1), (2, gi a2)] [] h (sX2_leastShare G N a0 a1 a2 h)
  delta sX2_leastShare
  refine g_aload_n (pc := 0) (x := a0) 0 rfl rfl dX2_leastShare_0 ?_
  refine g_iload_n (pc := 1) (x := a1) 1 rfl rfl dX2_leastShare_1 ?_
  refine g_iload_n (pc := 2) (x := a2) 2 rfl rfl dX2_leastShare_2 ?_
  refine g_bVi (pc := 3) (y := yX2_mayBoth) (ws := ws_ yX2_mayBoth cX2_mayBoth 3 (some .boolean)) (fr := 2) (lo := 45) (as := [gi a1, gi a2]) (st := []) (g_no) rfl (fun _ _ _ e => tX2_mayBoth hs e) (fun K _ _ _ hq hM R e1 e2 => g_runV (M := mX2_leastShare) (pc := 3) (y := yX2_mayBoth) (bytes := cX2_mayBoth) (maxL := 3) (ret := (some .boolean)) (fr := 2) (lo := 45) (as := [gi a1, gi a2]) (st := []) hq (C := "FlareSlopesModel") rfl gy_X2_mayBoth (gbl rfl) (gbl rfl) (gbl rfl) q4316 q4318 qs104 dX2_leastShare_3 K hM R e1 e2) fun v1 h2 => ?_
  refine g_if_ne (pc := 6) (tgt := 11) rfl dX2_leastShare_6 ?_ ?_
  · refine g_iconst (pc := 9) (v := (0 : Int32)) ic_0 dX2_leastShare_9 ?_
    exact g_ireturn (pc := 10) rfl dX2_leastShare_10
  refine g_aload_n (pc := 11) (x := a0) 0 rfl rfl dX2_leastShare_11 ?_
  refine g_iload_n (pc := 12) (x := a1) 1 rfl rfl dX2_leastShare_12 ?_
  refine g_iload_n (pc := 13) (x := a2) 2 rfl rfl dX2_leastShare_13 ?_
  refine g_iconst (pc := 14) (v := (1 : Int32)) ic_1 dX2_leastShare_14 ?_
  refine g_bVi (pc := 15) (y := yX2_sum) (ws := ws_ yX2_sum cX2_sum 6 (some .int)) (fr := 3) (lo := 64) (as := [gi a1, gi a2, gi (1 : Int32)]) (st := []) (g_no) rfl (fun _ _ _ e => tX2_sum hs e) (fun K _ _ _ hq hM R e1 e2 => g_runV (M := mX2_leastShare) (pc := 15) (y := yX2_sum) (bytes := cX2_sum) (maxL := 6) (ret := (some .int)) (fr := 3) (lo := 64) (as := [gi a1, gi a2, gi (1 : Int32)]) (st := []) hq (C := "FlareSlopesModel") rfl gy_X2_sum (gbl rfl) (gbl rfl) (gbl rfl) q4275 q4277 qs99 dX2_leastShare_15 K hM R e1 e2) fun v3 h4 => ?_
  refine g_istore_n (pc := 18) (lv' := [(3, gi v3), (0, gr a0), (1, gi a1), (2, gi a2)]) [0, 1, 2, 3] rfl rfl (gblt rfl) dX2_leastShare_18 ?_
  refine g_iload_n (pc := 19) (x := v3) 0 rfl rfl dX2_leastShare_19 ?_
  refine g_aload_n (pc := 20) (x := a0) 1 rfl rfl dX2_leastShare_20 ?_
  refine g_iload_n (pc := 21) (x := a1) 2 rfl rfl dX2_leastShare_21 ?_
  refine g_iload_n (pc := 22) (x := a2) 3 rfl rfl dX2_leastShare_22 ?_
  refine g_iconst (pc := 23) (v := (0 : Int32)) ic_0 dX2_leastShare_23 ?_
  refine g_bVi (pc := 24) (y := yX2_sum) (ws := ws_ yX2_sum cX2_sum 6 (some .int)) (fr := 3) (lo := 64) (as := [gi a1, gi a2, gi (0 : Int32)]) (st := [gi v3]) (g_no) rfl (fun _ _ _ e => tX2_sum hs e) (fun K _ _ _ hq hM R e1 e2 => g_runV (M := mX2_leastShare) (pc := 24) (y := yX2_sum) (bytes := cX2_sum) (maxL := 6) (ret := (some .int)) (fr := 3) (lo := 64) (as := [gi a1, gi a2, gi (0 : Int32)]) (st := [gi v3]) hq (C := "FlareSlopesModel") rfl gy_X2_sum (gbl rfl) (gbl rfl) (gbl rfl) q4275 q4277 qs99 dX2_leastShare_24 K hM R e1 e2) fun v5 h6 => ?_
  refine g_iadd (pc := 27) dX2_leastShare_27 ?_
  refine g_leti fun v7 => ?_
  refine g_istore (pc := 28) (lv' := [(4, gi v7), (3, gi v3)]) [0, 1] rfl (gblt rfl) dX2_leastShare_28 ?_
  refine g_bipush (pc := 30) (v := (100 : Int32)) bc_100 dX2_leastShare_30 ?_
  refine g_istore (pc := 32) (lv' := [(5, gi (100 : Int32)), (4, gi v7), (3, gi v3)]) [0, 1, 2] rfl (gblt rfl) dX2_leastShare_32 ?_
  refine g_sub (lv' := [(3, gi v3), (4, gi v7), (5, gi (100 : Int32))]) [2, 1, 0] rfl ?_
  refine g_loop (pc := 34) (fun (x8 : Int32) => [(3, gi v3), (4, gi v7), (5, gi x8)]) (fun (_ : Int32) => []) (fun w10 Hw10 x8 h9 => ?_) N (100 : Int32) h6
  delta bX2_leastShare_34
  refine g_iload (pc := 34) (x := x8) 2 rfl dX2_leastShare_34 ?_
  refine g_if_le (pc := 36) (tgt := 64) rfl dX2_leastShare_36 ?_ ?_
  · refine g_iconst (pc := 64) (v := (-1 : Int32)) ic_m1 dX2_leastShare_64 ?_
    exact g_ireturn (pc := 65) rfl dX2_leastShare_65
  refine g_iload_n (pc := 39) (x := v3) 0 rfl rfl dX2_leastShare_39 ?_
  refine g_if_le (pc := 40) (tgt := 64) rfl dX2_leastShare_40 ?_ ?_
  · refine g_iconst (pc := 64) (v := (-1 : Int32)) ic_m1 dX2_leastShare_64 ?_
    exact g_ireturn (pc := 65) rfl dX2_leastShare_65
  refine g_bipush (pc := 43) (v := (100 : Int32)) bc_100 dX2_leastShare_43 ?_
  refine g_iload_n (pc := 45) (x := v3) 0 rfl rfl dX2_leastShare_45 ?_
  refine g_imul (pc := 46) dX2_leastShare_46 ?_
  refine g_iload (pc := 47) (x := x8) 2 rfl dX2_leastShare_47 ?_
  refine g_iload (pc := 49) (x := v7) 1 rfl dX2_leastShare_49 ?_
  refine g_imul (pc := 51) dX2_leastShare_51 ?_
  refine g_icmp_lt (pc := 52) (tgt := 58) rfl dX2_leastShare_52 ?_ ?_
  rotate_left
  · refine g_iload (pc := 55) (x := x8) 2 rfl dX2_leastShare_55 ?_
    exact g_ireturn (pc := 57) rfl dX2_leastShare_57
  refine g_iinc (pc := 58) (v := x8 + (-1 : Int32)) 2 rfl (ii_m1 _) (lv' := [(5, gi (x8 + (-1 : Int32))), (3, gi v3), (4, gi v7)]) [0, 1, 2] rfl (gblt rfl) dX2_leastShare_58 ?_
  refine g_goto (pc := 61) (tgt := 34) rfl dX2_leastShare_61 ?_
  exact g_sub [1, 2, 0] rfl (Hw10 (x8 + (-1 : Int32)) h9)
/-! FlareSlopes$State.tells(I)I -/
noncomputable def bX3_tells_4 (G : GG) (N : Nat) (a0 : Option Nat) (a1 : Int32) (w3 : (Int32 × Int32) → Hp → Out (Int32)) (x1 : Int32 × Int32) (h2 : Hp) : Out (Int32) :=
  bV h2 a0 16 (fun q13 => sX3_slopes G N (some q13) h2) fun v4 h5 =>
  if v4 ≤ x1.2 then (some (.inl x1.1, h5))
  else bV h5 a0 16 (fun q12 => sX3_tellsClosed G N (some q12) a1 x1.2 h5) fun v6 h7 =>
  gJ (fun (x8 : Int32) (h9 : Hp) =>
  w3 (x8, x1.2 + (1 : Int32)) h9) fun j10 =>
  if v6 = 0 then (j10 x1.1 h7)
  else gLet (x1.1 ||| ((1 : Int32) <<< (x1.2 &&& 31))) fun v11 =>
  j10 v11 h7
noncomputable def sX3_tells (G : GG) (N : Nat) (a0 : Option Nat) (a1 : Int32) (h : Hp) : Out (Int32) :=
  gLp (bX3_tells_4 G N a0 a1) N ((0 : Int32), (0 : Int32)) h
abbrev mX3_tells : MI := (RX3, cX3_tells, 4, (some .int), [], 9, 197, "tells")
theorem tX3_tells {G : GG} {l : Launch} (hs : l.stackTraces = false) {N : Nat} {a0 : Option Nat} {a1 : Int32} {h : Hp} {r : Int32 ⊕ Nat} {hf : Hp} (ho : sX3_tells G N a0 a1 h = some (r, hf)) : gMet G l yX3_tells (ws_ yX3_tells cX3_tells 4 (some .int)) 9 197 [gr a0, gi a1] h cvI r hf := by
  refine gMet.of ho hs (plainFor_of_name pn_X3) rfl rfl (gbl rfl) fun X => ?_
  show gT G l X mX3_tells cvI r hf 0 [(0, gr a0), (1, gi a1)] [] h (sX3_tells G N a0 a1 h)
  delta sX3_tells
  refine g_iconst (pc := 0) (v := (0 : Int32)) ic_0 dX3_tells_0 ?_
  refine g_istore_n (pc := 1) (lv' := [(2, gi (0 : Int32)), (0, gr a0), (1, gi a1)]) [0, 1, 2] rfl rfl (gblt rfl) dX3_tells_1 ?_
  refine g_iconst (pc := 2) (v := (0 : Int32)) ic_0 dX3_tells_2 ?_
  refine g_istore_n (pc := 3) (lv' := [(3, gi (0 : Int32)), (2, gi (0 : Int32)), (0, gr a0), (1, gi a1)]) [0, 1, 2, 3] rfl rfl (gblt rfl) dX3_tells_3 ?_
  refine g_sub (lv' := [(0, gr a0), (1, gi a1), (2, gi (0 : Int32)), (3, gi (0 : Int32))]) [2, 3, 1, 0] rfl ?_
  refine g_loop (pc := 4) (fun (x1 : Int32 × Int32) => [(0, gr a0), (1, gi a1), (2, gi x1.1), (3, gi x1.2)]) (fun (_ : Int32 × Int32) => []) (fun w3 Hw3 x1 h2 => ?_) N ((0 : Int32), (0 : Int32)) h
  delta bX3_tells_4
  refine g_iload_n (pc := 4) (x := x1.2) 3 rfl rfl dX3_tells_4 ?_
  refine g_aload_n (pc := 5) (x := a0) 0 rfl rfl dX3_tells_5 ?_
  refine g_bVi (pc := 6) (y := yX3_slopes) (ws := ws_ yX3_slopes cX3_slopes 1 (some .int)) (fr := 2) (lo := 40) (as := []) (st := [gi x1.2]) (g_no) rfl (fun _ _ _ e => tX3_slopes hs e) (fun K _ _ _ hq hM R e1 e2 => g_runV (M := mX3_tells) (pc := 6) (y := yX3_slopes) (bytes := cX3_slopes) (maxL := 1) (ret := (some .int)) (fr := 2) (lo := 40) (as := []) (st := [gi x1.2]) hq (C := "FlareSlopes$State") rfl gy_X3_slopes (gbl rfl) (gbl rfl) (gbl rfl) q1993 q1465 q1466 dX3_tells_6 K hM R e1 e2) fun v4 h5 => ?_
  refine g_icmp_ge (pc := 9) (tgt := 33) rfl dX3_tells_9 ?_ ?_
  · refine g_iload_n (pc := 33) (x := x1.1) 2 rfl rfl dX3_tells_33 ?_
    exact g_ireturn (pc := 34) rfl dX3_tells_34
  refine g_aload_n (pc := 12) (x := a0) 0 rfl rfl dX3_tells_12 ?_
  refine g_iload_n (pc := 13) (x := a1) 1 rfl rfl dX3_tells_13 ?_
  refine g_iload_n (pc := 14) (x := x1.2) 3 rfl rfl dX3_tells_14 ?_
  refine g_bVi (pc := 15) (y := yX3_tellsClosed) (ws := ws_ yX3_tellsClosed cX3_tellsClosed 4 (some .boolean)) (fr := 8) (lo := 174) (as := [gi a1, gi x1.2]) (st := []) (g_no) rfl (fun _ _ _ e => tX3_tellsClosed hs e) (fun K _ _ _ hq hM R e1 e2 => g_runV (M := mX3_tells) (pc := 15) (y := yX3_tellsClosed) (bytes := cX3_tellsClosed) (maxL := 4) (ret := (some .boolean)) (fr := 8) (lo := 174) (as := [gi a1, gi x1.2]) (st := []) hq (C := "FlareSlopes$State") rfl gy_X3_tellsClosed (gbl rfl) (gbl rfl) (gbl rfl) q3664 q3243 q3244 dX3_tells_15 K hM R e1 e2) fun v6 h7 => ?_
  refine g_join 27 (fun (x8 : Int32) => [(0, gr a0), (1, gi a1), (2, gi x8), (3, gi x1.2)]) (fun (x8 : Int32) => []) (fun x8 h9 => ?_) (fun j10 Hj10 => ?_)
  · refine g_iinc (pc := 27) (v := x1.2 + (1 : Int32)) 3 rfl (ii_1 _) (lv' := [(3, gi (x1.2 + (1 : Int32))), (0, gr a0), (1, gi a1), (2, gi x8)]) [0, 1, 2, 3] rfl (gblt rfl) dX3_tells_27 ?_
    refine g_goto (pc := 30) (tgt := 4) rfl dX3_tells_30 ?_
    exact g_sub [1, 2, 3, 0] rfl (Hw3 (x8, x1.2 + (1 : Int32)) h9)
  refine g_if_eq (pc := 18) (tgt := 27) rfl dX3_tells_18 ?_ ?_
  · exact Hj10 x1.1 h7
  refine g_iload_n (pc := 21) (x := x1.1) 2 rfl rfl dX3_tells_21 ?_
  refine g_iconst (pc := 22) (v := (1 : Int32)) ic_1 dX3_tells_22 ?_
  refine g_iload_n (pc := 23) (x := x1.2) 3 rfl rfl dX3_tells_23 ?_
  refine g_ishl (pc := 24) dX3_tells_24 ?_
  refine g_ior (pc := 25) dX3_tells_25 ?_
  refine g_leti fun v11 => ?_
  refine g_istore_n (pc := 26) (lv' := [(2, gi v11), (0, gr a0), (1, gi a1), (3, gi x1.2)]) [0, 1, 2, 3] rfl rfl (gblt rfl) dX3_tells_26 ?_
  exact g_sub [1, 2, 0, 3] rfl (Hj10 v11 h7)
/-! java/util/Arrays.rangeCheck(III)V -/
noncomputable def sJ15_rangeCheck (G : GG) (N : Nat) (a0 : Int32) (a1 : Int32) (a2 : Int32) (h : Hp) : Out (Unit) :=
  if a1 ≤ a2 then (if 0 ≤ a1 then (if a2 ≤ a0 then (some (.inl (), h))
  else none)
  else none)
  else none
abbrev mJ15_rangeCheck : MI := (RJ15, cJ15_rangeCheck, 3, none, [], 0, 0, "rangeCheck")
theorem tJ15_rangeCheck {G : GG} {l : Launch} (hs : l.stackTraces = false) {N : Nat} {a0 : Int32} {a1 : Int32} {a2 : Int32} {h : Hp} {r : Unit ⊕ Nat} {hf : Hp} (ho : sJ15_rangeCheck G N a0 a1 a2 h = some (r, hf)) : gMet G l yJ15_rangeCheck (ws_ yJ15_rangeCheck cJ15_rangeCheck 3 none) 0 0 [gi a0, gi a1, gi a2] h cvU r hf := by
  refine gMet.of ho hs (plainFor_of_name pn_J15) rfl rfl (gbl rfl) fun X => ?_
  show gT G l X mJ15_rangeCheck cvU r hf 0 [(0, gi a0), (1, gi a1), (2, gi a2)] [] h (sJ15_rangeCheck G N a0 a1 a2 h)
  delta sJ15_rangeCheck
  refine g_iload_n (pc := 0) (x := a1) 1 rfl rfl dJ15_rangeCheck_0 ?_
  refine g_iload_n (pc := 1) (x := a2) 2 rfl rfl dJ15_rangeCheck_1 ?_
  refine g_icmp_le (pc := 2) (tgt := 46) rfl dJ15_rangeCheck_2 ?_ ?_
  rotate_left
  · exact g_none
  refine g_iload_n (pc := 46) (x := a1) 1 rfl rfl dJ15_rangeCheck_46 ?_
  refine g_if_ge (pc := 47) (tgt := 59) rfl dJ15_rangeCheck_47 ?_ ?_
  rotate_left
  · exact g_none
  refine g_iload_n (pc := 59) (x := a2) 2 rfl rfl dJ15_rangeCheck_59 ?_
  refine g_iload_n (pc := 60) (x := a0) 0 rfl rfl dJ15_rangeCheck_60 ?_
  refine g_icmp_le (pc := 61) (tgt := 73) rfl dJ15_rangeCheck_61 ?_ ?_
  · exact g_return (pc := 73) rfl dJ15_rangeCheck_73
  exact g_none
/-! java/util/Arrays.fill([BIIB)V -/
noncomputable def bJ15_fill_10 (G : GG) (N : Nat) (a0 : Option Nat) (a2 : Int32) (a3 : Int32) (w6 : (Int32) → Hp → Out (Unit)) (x4 : Int32) (h5 : Hp) : Out (Unit) :=
  if a2 ≤ x4 then (some (.inl (), h5))
  else gSb G h5 a0 1 x4 a3 fun h7 =>
  w6 (x4 + (1 : Int32)) h7
noncomputable def sJ15_fill (G : GG) (N : Nat) (a0 : Option Nat) (a1 : Int32) (a2 : Int32) (a3 : Int32) (h : Hp) : Out (Unit) :=
  gLen h a0 fun v1 =>
  bnd (sJ15_rangeCheck G N v1 a1 a2 h) fun v2 h3 =>
  gLp (bJ15_fill_10 G N a0 a2 a3) N a1 h3
abbrev mJ15_fill : MI := (RJ15, cJ15_fill, 5, none, [], 1, 22, "fill")
theorem tJ15_fill {G : GG} {l : Launch} (hs : l.stackTraces = false) {N : Nat} {a0 : Option Nat} {a1 : Int32} {a2 : Int32} {a3 : Int32} {h : Hp} {r : Unit ⊕ Nat} {hf : Hp} (ho : sJ15_fill G N a0 a1 a2 a3 h = some (r, hf)) : gMet G l yJ15_fill (ws_ yJ15_fill cJ15_fill 5 none) 1 22 [gr a0, gi a1, gi a2, gi a3] h cvU r hf := by
  refine gMet.of ho hs (plainFor_of_name pn_J15) rfl rfl (gbl rfl) fun X => ?_
  show gT G l X mJ15_fill cvU r hf 0 [(0, gr a0), (1, gi a1), (2, gi a2), (3, gi a3)] [] h (sJ15_fill G N a0 a1 a2 a3 h)
  delta sJ15_fill
  refine g_aload_n (pc := 0) (x := a0) 0 rfl rfl dJ15_fill_0 ?_
  refine g_alen (pc := 1) dJ15_fill_1 fun v1 => ?_
  refine g_iload_n (pc := 2) (x := a1) 1 rfl rfl dJ15_fill_2 ?_
  refine g_iload_n (pc := 3) (x := a2) 2 rfl rfl dJ15_fill_3 ?_
  refine g_bu (pc := 4) (y := yJ15_rangeCheck) (ws := ws_ yJ15_rangeCheck cJ15_rangeCheck 3 none) (fr := 0) (lo := 0) (as := [gi v1, gi a1, gi a2]) (st := []) (g_no) rfl (fun _ _ e => tJ15_rangeCheck hs e) (fun K _ _ hM R e1 e2 => g_runS (M := mJ15_fill) (pc := 4) (y := yJ15_rangeCheck) (bytes := cJ15_rangeCheck) (maxL := 3) (ret := none) (fr := 0) (lo := 0) (as := [gi v1, gi a1, gi a2]) (st := []) gy_J15_rangeCheck (gbl rfl) (gbl rfl) (gbl rfl) q3697 q3698 dJ15_fill_4 K hM R e1 e2) fun v2 h3 => ?_
  refine g_iload_n (pc := 7) (x := a1) 1 rfl rfl dJ15_fill_7 ?_
  refine g_istore (pc := 8) (lv' := [(4, gi a1), (0, gr a0), (2, gi a2), (3, gi a3)]) [0, 1, 3, 4] rfl (gblt rfl) dJ15_fill_8 ?_
  refine g_sub (lv' := [(0, gr a0), (2, gi a2), (3, gi a3), (4, gi a1)]) [1, 2, 3, 0] rfl ?_
  refine g_loop (pc := 10) (fun (x4 : Int32) => [(0, gr a0), (2, gi a2), (3, gi a3), (4, gi x4)]) (fun (_ : Int32) => []) (fun w6 Hw6 x4 h5 => ?_) N a1 h3
  delta bJ15_fill_10
  refine g_iload (pc := 10) (x := x4) 3 rfl dJ15_fill_10 ?_
  refine g_iload_n (pc := 12) (x := a2) 1 rfl rfl dJ15_fill_12 ?_
  refine g_icmp_ge (pc := 13) (tgt := 27) rfl dJ15_fill_13 ?_ ?_
  · exact g_return (pc := 27) rfl dJ15_fill_27
  refine g_aload_n (pc := 16) (x := a0) 0 rfl rfl dJ15_fill_16 ?_
  refine g_iload (pc := 17) (x := x4) 3 rfl dJ15_fill_17 ?_
  refine g_iload_n (pc := 19) (x := a3) 2 rfl rfl dJ15_fill_19 ?_
  refine g_bastore (pc := 20) rfl dJ15_fill_20 fun h7 => ?_
  refine g_iinc (pc := 21) (v := x4 + (1 : Int32)) 3 rfl (ii_1 _) (lv' := [(4, gi (x4 + (1 : Int32))), (0, gr a0), (2, gi a2), (3, gi a3)]) [0, 1, 2, 3] rfl (gblt rfl) dJ15_fill_21 ?_
  refine g_goto (pc := 24) (tgt := 10) rfl dJ15_fill_24 ?_
  exact g_sub [1, 2, 3, 0] rfl (Hw6 (x4 + (1 : Int32)) h7)
/-! java/lang/StringLatin1.fillNull([BII)V -/
noncomputable def sJ16_fillNull (G : GG) (N : Nat) (a0 : Option Nat) (a1 : Int32) (a2 : Int32) (h : Hp) : Out (Unit) :=
  bnd (sJ15_fill G N a0 a1 a2 (0 : Int32) h) fun v1 h2 =>
  some (.inl (), h2)
abbrev mJ16_fillNull : MI := (RJ16, cJ16_fillNull, 3, none, [], 2, 46, "fillNull")
theorem tJ16_fillNull {G : GG} {l : Launch} (hs : l.stackTraces = false) {N : Nat} {a0 : Option Nat} {a1 : Int32} {a2 : Int32} {h : Hp} {r : Unit ⊕ Nat} {hf : Hp} (ho : sJ16_fillNull G N a0 a1 a2 h = some (r, hf)) : gMet G l yJ16_fillNull (ws_ yJ16_fillNull cJ16_fillNull 3 none) 2 46 [gr a0, gi a1, gi a2] h cvU r hf := by
  refine gMet.of ho hs (plainFor_of_name pn_J16) rfl rfl (gbl rfl) fun X => ?_
  show gT G l X mJ16_fillNull cvU r hf 0 [(0, gr a0), (1, gi a1), (2, gi a2)] [] h (sJ16_fillNull G N a0 a1 a2 h)
  delta sJ16_fillNull
  refine g_aload_n (pc := 0) (x := a0) 0 rfl rfl dJ16_fillNull_0 ?_
  refine g_iload_n (pc := 1) (x := a1) 1 rfl rfl dJ16_fillNull_1 ?_
  refine g_iload_n (pc := 2) (x := a2) 2 rfl rfl dJ16_fillNull_2 ?_
  refine g_iconst (pc := 3) (v := (0 : Int32)) ic_0 dJ16_fillNull_3 ?_
  refine g_bu (pc := 4) (y := yJ15_fill) (ws := ws_ yJ15_fill cJ15_fill 5 none) (fr := 1) (lo := 22) (as := [gr a0, gi a1, gi a2, gi (0 : Int32)]) (st := []) (g_no) rfl (fun _ _ e => tJ15_fill hs e) (fun K _ _ hM R e1 e2 => g_runS (M := mJ16_fillNull) (pc := 4) (y := yJ15_fill) (bytes := cJ15_fill) (maxL := 5) (ret := none) (fr := 1) (lo := 22) (as := [gr a0, gi a1, gi a2, gi (0 : Int32)]) (st := []) gy_J15_fill (gbl rfl) (gbl rfl) (gbl rfl) q3694 q3695 dJ16_fillNull_4 K hM R e1 e2) fun v1 h2 => ?_
  exact g_return (pc := 7) rfl dJ16_fillNull_7
/-! java/lang/AbstractStringBuilder.setLength(I)V -/
noncomputable def sJ2_setLength_c21 (G : GG) (N : Nat) (a0 : Option Nat) (a1 : Int32) (h : Hp) : Out (Unit) :=
  if 0 ≤ a1 then (bV h a0 21 (fun q17 => sJ2_ensureCapacityInternal_c21 G N (some q17) a1 h) fun v1 h2 =>
  gFi h2 a0 21 3 fun v3 =>
  gJ (fun (x4 : Unit) (h5 : Hp) =>
  gP G h5 a0 21 3 (.int a1) fun h7 =>
  some (.inl (), h7)) fun j6 =>
  if a1 ≤ v3 then (gFi h2 a0 21 3 fun v8 =>
  if v8 ≤ a1 then (j6 () h2)
  else gPz G h2 a0 21 2 (1 : Int32) fun h9 =>
  j6 () h9)
  else bV h2 a0 21 (fun q16 => sJ2_isLatin1_c21 G N (some q16) h2) fun v10 h11 =>
  if v10 = 0 then (none)
  else gFr h11 a0 21 0 fun v12 =>
  gFi h11 a0 21 3 fun v13 =>
  bnd (sJ16_fillNull G N v12 v13 a1 h11) fun v14 h15 =>
  j6 () h15)
  else none
abbrev mJ2_setLength_c21 : MI := (RJ2, cJ2_setLength, 2, none, [], 4, 91, "setLength")
theorem tJ2_setLength_c21 {G : GG} {l : Launch} (hs : l.stackTraces = false) {N : Nat} {a0 : Option Nat} {a1 : Int32} {h : Hp} {r : Unit ⊕ Nat} {hf : Hp} (ho : sJ2_setLength_c21 G N a0 a1 h = some (r, hf)) : gMet G l yJ2_setLength (ws_ yJ2_setLength cJ2_setLength 2 none) 4 91 [gr a0, gi a1] h cvU r hf := by
  refine gMet.of ho hs (plainFor_of_name pn_J2) rfl rfl (gbl rfl) fun X => ?_
  show gT G l X mJ2_setLength_c21 cvU r hf 0 [(0, gr a0), (1, gi a1)] [] h (sJ2_setLength_c21 G N a0 a1 h)
  delta sJ2_setLength_c21
  refine g_iload_n (pc := 0) (x := a1) 1 rfl rfl dJ2_setLength_0 ?_
  refine g_if_ge (pc := 1) (tgt := 13) rfl dJ2_setLength_1 ?_ ?_
  rotate_left
  · exact g_none
  refine g_aload_n (pc := 13) (x := a0) 0 rfl rfl dJ2_setLength_13 ?_
  refine g_iload_n (pc := 14) (x := a1) 1 rfl rfl dJ2_setLength_14 ?_
  refine g_bVu (pc := 15) (y := yJ2_ensureCapacityInternal) (ws := ws_ yJ2_ensureCapacityInternal cJ2_ensureCapacityInternal 3 none) (fr := 3) (lo := 69) (as := [gi a1]) (st := []) (g_no) rfl (fun _ _ _ e => tJ2_ensureCapacityInternal_c21 hs e) (fun K _ _ _ hq hM R e1 e2 => g_runVP (M := mJ2_setLength_c21) (pc := 15) (y := yJ2_ensureCapacityInternal) (bytes := cJ2_ensureCapacityInternal) (maxL := 3) (ret := none) (fr := 3) (lo := 69) (as := [gi a1]) (st := []) hq (C := "java/lang/StringBuilder") rfl gy_J2_ensureCapacityInternal (gbl rfl) (gbl rfl) (gbl rfl) q626 q4618 q627 q628 dJ2_setLength_15 K hM R e1 e2) fun v1 h2 => ?_
  refine g_aload_n (pc := 18) (x := a0) 0 rfl rfl dJ2_setLength_18 ?_
  refine g_getfi (pc := 19) k_21 (gblt rfl) lk_J2_79_21 dJ2_setLength_19 fun v3 => ?_
  refine g_iload_n (pc := 22) (x := a1) 1 rfl rfl dJ2_setLength_22 ?_
  refine g_join 76 (fun (x4 : Unit) => [(0, gr a0), (1, gi a1)]) (fun (x4 : Unit) => []) (fun x4 h5 => ?_) (fun j6 Hj6 => ?_)
  · refine g_aload_n (pc := 76) (x := a0) 0 rfl rfl dJ2_setLength_76 ?_
    refine g_iload_n (pc := 77) (x := a1) 1 rfl rfl dJ2_setLength_77 ?_
    refine g_put (pc := 78) k_21 (gblt rfl) lk_J2_79_21 rfl rfl (gNi _) dJ2_setLength_78 fun h7 => ?_
    exact g_return (pc := 81) rfl dJ2_setLength_81
  refine g_icmp_ge (pc := 23) (tgt := 63) rfl dJ2_setLength_23 ?_ ?_
  · refine g_aload_n (pc := 63) (x := a0) 0 rfl rfl dJ2_setLength_63 ?_
    refine g_getfi (pc := 64) k_21 (gblt rfl) lk_J2_79_21 dJ2_setLength_64 fun v8 => ?_
    refine g_iload_n (pc := 67) (x := a1) 1 rfl rfl dJ2_setLength_67 ?_
    refine g_icmp_le (pc := 68) (tgt := 76) rfl dJ2_setLength_68 ?_ ?_
    · exact Hj6 () h2
    refine g_aload_n (pc := 71) (x := a0) 0 rfl rfl dJ2_setLength_71 ?_
    refine g_iconst (pc := 72) (v := (1 : Int32)) ic_1 dJ2_setLength_72 ?_
    refine g_putz (pc := 73) k_21 (gblt rfl) lk_J2_73_21 rfl rfl dJ2_setLength_73 fun h9 => ?_
    exact Hj6 () h9
  refine g_aload_n (pc := 26) (x := a0) 0 rfl rfl dJ2_setLength_26 ?_
  refine g_bVi (pc := 27) (y := yJ2_isLatin1) (ws := ws_ yJ2_isLatin1 cJ2_isLatin1 1 (some .boolean)) (fr := 0) (lo := 0) (as := []) (st := []) (g_no) rfl (fun _ _ _ e => tJ2_isLatin1_c21 hs e) (fun K _ _ _ hq hM R e1 e2 => g_runV (M := mJ2_setLength_c21) (pc := 27) (y := yJ2_isLatin1) (bytes := cJ2_isLatin1) (maxL := 1) (ret := (some .boolean)) (fr := 0) (lo := 0) (as := []) (st := []) hq (C := "java/lang/StringBuilder") rfl gy_J2_isLatin1 (gbl rfl) (gbl rfl) (gbl rfl) q661 q662 q664 dJ2_setLength_27 K hM R e1 e2) fun v10 h11 => ?_
  refine g_if_eq (pc := 30) (tgt := 48) rfl dJ2_setLength_30 ?_ ?_
  · exact g_none
  refine g_aload_n (pc := 33) (x := a0) 0 rfl rfl dJ2_setLength_33 ?_
  refine g_getfr (pc := 34) k_21 (gblt rfl) lk_J2_15_21 dJ2_setLength_34 fun v12 => ?_
  refine g_aload_n (pc := 37) (x := a0) 0 rfl rfl dJ2_setLength_37 ?_
  refine g_getfi (pc := 38) k_21 (gblt rfl) lk_J2_79_21 dJ2_setLength_38 fun v13 => ?_
  refine g_iload_n (pc := 41) (x := a1) 1 rfl rfl dJ2_setLength_41 ?_
  refine g_bu (pc := 42) (y := yJ16_fillNull) (ws := ws_ yJ16_fillNull cJ16_fillNull 3 none) (fr := 2) (lo := 46) (as := [gr v12, gi v13, gi a1]) (st := []) (g_no) rfl (fun _ _ e => tJ16_fillNull hs e) (fun K _ _ hM R e1 e2 => g_runS (M := mJ2_setLength_c21) (pc := 42) (y := yJ16_fillNull) (bytes := cJ16_fillNull) (maxL := 3) (ret := none) (fr := 2) (lo := 46) (as := [gr v12, gi v13, gi a1]) (st := []) gy_J16_fillNull (gbl rfl) (gbl rfl) (gbl rfl) q3691 q3692 dJ2_setLength_42 K hM R e1 e2) fun v14 h15 => ?_
  refine g_goto (pc := 45) (tgt := 76) rfl dJ2_setLength_45 ?_
  exact Hj6 () h15
/-! java/lang/StringBuilder.setLength(I)V -/
noncomputable def sJ3_setLength (G : GG) (N : Nat) (a0 : Option Nat) (a1 : Int32) (h : Hp) : Out (Unit) :=
  bV h a0 21 (fun q3 => sJ2_setLength_c21 G N (some q3) a1 h) fun v1 h2 =>
  some (.inl (), h2)
abbrev mJ3_setLength : MI := (RJ3, cJ3_setLength, 2, none, [], 5, 112, "setLength")
theorem tJ3_setLength {G : GG} {l : Launch} (hs : l.stackTraces = false) {N : Nat} {a0 : Option Nat} {a1 : Int32} {h : Hp} {r : Unit ⊕ Nat} {hf : Hp} (ho : sJ3_setLength G N a0 a1 h = some (r, hf)) : gMet G l yJ3_setLength (ws_ yJ3_setLength cJ3_setLength 2 none) 5 112 [gr a0, gi a1] h cvU r hf := by
  refine gMet.of ho hs (plainFor_of_name pn_J3) rfl rfl (gbl rfl) fun X => ?_
  show gT G l X mJ3_setLength cvU r hf 0 [(0, gr a0), (1, gi a1)] [] h (sJ3_setLength G N a0 a1 h)
  delta sJ3_setLength
  refine g_aload_n (pc := 0) (x := a0) 0 rfl rfl dJ3_setLength_0 ?_
  refine g_iload_n (pc := 1) (x := a1) 1 rfl rfl dJ3_setLength_1 ?_
  refine g_bVu (pc := 2) (y := yJ2_setLength) (ws := ws_ yJ2_setLength cJ2_setLength 2 none) (fr := 4) (lo := 91) (as := [gi a1]) (st := []) (g_no) rfl (fun _ _ _ e => tJ2_setLength_c21 hs e) (fun K _ _ _ hq hM R e1 e2 => g_runSU (M := mJ3_setLength) (pc := 2) (y := yJ2_setLength) (bytes := cJ2_setLength) (maxL := 2) (ret := none) (fr := 4) (lo := 91) (as := [gi a1]) (st := []) hq (C := "java/lang/StringBuilder") rfl gy_J2_setLength (gbl rfl) (gbl rfl) (gbl rfl) q3669 q4642 q266 q3670 (by decide +kernel) dJ3_setLength_2 K hM R e1 e2) fun v1 h2 => ?_
  exact g_return (pc := 5) rfl dJ3_setLength_5
/-! java/lang/AbstractStringBuilder.inflateIfNeededFor(Ljava/lang/String;)V -/
noncomputable def sJ2_inflateIfNeededFor_c21 (G : GG) (N : Nat) (a0 : Option Nat) (a1 : Option Nat) (h : Hp) : Out (Unit) :=
  if (1 : Int32) = 0 then (some (.inl (), h))
  else gFi h a0 21 1 fun v1 =>
  bV h a1 20 (fun q4 => sJ4_coder G N (some q4) h) fun v2 h3 =>
  if v1 = v2 then (some (.inl (), h3))
  else none
abbrev mJ2_inflateIfNeededFor_c21 : MI := (RJ2, cJ2_inflateIfNeededFor, 2, none, [], 1, 20, "inflateIfNeededFor")
theorem tJ2_inflateIfNeededFor_c21 {G : GG} {l : Launch} (hs : l.stackTraces = false) {N : Nat} {a0 : Option Nat} {a1 : Option Nat} {h : Hp} {r : Unit ⊕ Nat} {hf : Hp} (ho : sJ2_inflateIfNeededFor_c21 G N a0 a1 h = some (r, hf)) : gMet G l yJ2_inflateIfNeededFor (ws_ yJ2_inflateIfNeededFor cJ2_inflateIfNeededFor 2 none) 1 20 [gr a0, gr a1] h cvU r hf := by
  refine gMet.of ho hs (plainFor_of_name pn_J2) rfl rfl (gbl rfl) fun X => ?_
  show gT G l X mJ2_inflateIfNeededFor_c21 cvU r hf 0 [(0, gr a0), (1, gr a1)] [] h (sJ2_inflateIfNeededFor_c21 G N a0 a1 h)
  delta sJ2_inflateIfNeededFor_c21
  refine g_gets (pc := 0) (sv := .inl (.int 1)) (w := gi (1 : Int32)) sfl_0 rfl ⟨Or.inl q244, Or.inl rfl⟩ dJ2_inflateIfNeededFor_0 ?_
  refine g_if_eq (pc := 3) (tgt := 21) rfl dJ2_inflateIfNeededFor_3 ?_ ?_
  · exact g_return (pc := 21) rfl dJ2_inflateIfNeededFor_21
  refine g_aload_n (pc := 6) (x := a0) 0 rfl rfl dJ2_inflateIfNeededFor_6 ?_
  refine g_getfi (pc := 7) k_21 (gblt rfl) lk_J2_22_21 dJ2_inflateIfNeededFor_7 fun v1 => ?_
  refine g_aload_n (pc := 10) (x := a1) 1 rfl rfl dJ2_inflateIfNeededFor_10 ?_
  refine g_bVi (pc := 11) (y := yJ4_coder) (ws := ws_ yJ4_coder cJ4_coder 1 (some .byte)) (fr := 0) (lo := 0) (as := []) (st := [gi v1]) (g_no) rfl (fun _ _ _ e => tJ4_coder hs e) (fun K _ _ _ hq hM R e1 e2 => g_runV (M := mJ2_inflateIfNeededFor_c21) (pc := 11) (y := yJ4_coder) (bytes := cJ4_coder) (maxL := 1) (ret := (some .byte)) (fr := 0) (lo := 0) (as := []) (st := [gi v1]) hq (C := "java/lang/String") rfl gy_J4_coder (gbl rfl) (gbl rfl) (gbl rfl) q826 q814 q815 dJ2_inflateIfNeededFor_11 K hM R e1 e2) fun v2 h3 => ?_
  refine g_icmp_eq (pc := 14) (tgt := 21) rfl dJ2_inflateIfNeededFor_14 ?_ ?_
  · exact g_return (pc := 21) rfl dJ2_inflateIfNeededFor_21
  exact g_none
/-! java/lang/String.getBytes([BIB)V -/
noncomputable def sJ4_getBytes (G : GG) (N : Nat) (a0 : Option Nat) (a1 : Option Nat) (a2 : Int32) (a3 : Int32) (h : Hp) : Out (Unit) :=
  bV h a0 20 (fun q7 => sJ4_coder G N (some q7) h) fun v1 h2 =>
  if v1 = a3 then (gFr h2 a0 20 0 fun v3 =>
  gFr h2 a0 20 0 fun v4 =>
  gLen h2 v4 fun v5 =>
  gCp G h2 v3 (0 : Int32) a1 (a2 <<< (a3 &&& 31)) v5 1 .byte fun h6 =>
  some (.inl (), h6))
  else none
abbrev mJ4_getBytes : MI := (RJ4, cJ4_getBytes, 4, none, [], 1, 20, "getBytes")
theorem tJ4_getBytes {G : GG} {l : Launch} (hs : l.stackTraces = false) {N : Nat} {a0 : Option Nat} {a1 : Option Nat} {a2 : Int32} {a3 : Int32} {h : Hp} {r : Unit ⊕ Nat} {hf : Hp} (ho : sJ4_getBytes G N a0 a1 a2 a3 h = some (r, hf)) : gMet G l yJ4_getBytes (ws_ yJ4_getBytes cJ4_getBytes 4 none) 1 20 [gr a0, gr a1, gi a2, gi a3] h cvU r hf := by
  refine gMet.of ho hs (plainFor_of_name pn_J4) rfl rfl (gbl rfl) fun X => ?_
  show gT G l X mJ4_getBytes cvU r hf 0 [(0, gr a0), (1, gr a1), (2, gi a2), (3, gi a3)] [] h (sJ4_getBytes G N a0 a1 a2 a3 h)
  delta sJ4_getBytes
  refine g_aload_n (pc := 0) (x := a0) 0 rfl rfl dJ4_getBytes_0 ?_
  refine g_bVi (pc := 1) (y := yJ4_coder) (ws := ws_ yJ4_coder cJ4_coder 1 (some .byte)) (fr := 0) (lo := 0) (as := []) (st := []) (g_no) rfl (fun _ _ _ e => tJ4_coder hs e) (fun K _ _ _ hq hM R e1 e2 => g_runV (M := mJ4_getBytes) (pc := 1) (y := yJ4_coder) (bytes := cJ4_coder) (maxL := 1) (ret := (some .byte)) (fr := 0) (lo := 0) (as := []) (st := []) hq (C := "java/lang/String") rfl gy_J4_coder (gbl rfl) (gbl rfl) (gbl rfl) q813 q814 q815 dJ4_getBytes_1 K hM R e1 e2) fun v1 h2 => ?_
  refine g_iload_n (pc := 4) (x := a3) 3 rfl rfl dJ4_getBytes_4 ?_
  refine g_icmp_ne (pc := 5) (tgt := 28) rfl dJ4_getBytes_5 ?_ ?_
  rotate_left
  · exact g_none
  refine g_aload_n (pc := 8) (x := a0) 0 rfl rfl dJ4_getBytes_8 ?_
  refine g_getfr (pc := 9) k_20 (gblt rfl) lk_J4_9_20 dJ4_getBytes_9 fun v3 => ?_
  refine g_iconst (pc := 12) (v := (0 : Int32)) ic_0 dJ4_getBytes_12 ?_
  refine g_aload_n (pc := 13) (x := a1) 1 rfl rfl dJ4_getBytes_13 ?_
  refine g_iload_n (pc := 14) (x := a2) 2 rfl rfl dJ4_getBytes_14 ?_
  refine g_iload_n (pc := 15) (x := a3) 3 rfl rfl dJ4_getBytes_15 ?_
  refine g_ishl (pc := 16) dJ4_getBytes_16 ?_
  refine g_aload_n (pc := 17) (x := a0) 0 rfl rfl dJ4_getBytes_17 ?_
  refine g_getfr (pc := 18) k_20 (gblt rfl) lk_J4_9_20 dJ4_getBytes_18 fun v4 => ?_
  refine g_alen (pc := 21) dJ4_getBytes_21 fun v5 => ?_
  refine g_arraycopy (pc := 22) (t := 1) rfl rfl q831 ac_nat ac_stat q152 (gbl rfl) (gbl rfl) dJ4_getBytes_22 fun h6 => ?_
  refine g_goto (pc := 25) (tgt := 43) rfl dJ4_getBytes_25 ?_
  exact g_return (pc := 43) rfl dJ4_getBytes_43
/-! java/lang/AbstractStringBuilder.putStringAt(ILjava/lang/String;)V -/
noncomputable def sJ2_putStringAt_c21 (G : GG) (N : Nat) (a0 : Option Nat) (a1 : Int32) (a2 : Option Nat) (h : Hp) : Out (Unit) :=
  bV h a0 21 (fun q8 => sJ2_inflateIfNeededFor_c21 G N (some q8) a2 h) fun v1 h2 =>
  gFr h2 a0 21 0 fun v3 =>
  gFi h2 a0 21 1 fun v4 =>
  bV h2 a2 20 (fun q7 => sJ4_getBytes G N (some q7) v3 a1 v4 h2) fun v5 h6 =>
  some (.inl (), h6)
abbrev mJ2_putStringAt_c21 : MI := (RJ2, cJ2_putStringAt, 3, none, [], 2, 43, "putStringAt")
theorem tJ2_putStringAt_c21 {G : GG} {l : Launch} (hs : l.stackTraces = false) {N : Nat} {a0 : Option Nat} {a1 : Int32} {a2 : Option Nat} {h : Hp} {r : Unit ⊕ Nat} {hf : Hp} (ho : sJ2_putStringAt_c21 G N a0 a1 a2 h = some (r, hf)) : gMet G l yJ2_putStringAt (ws_ yJ2_putStringAt cJ2_putStringAt 3 none) 2 43 [gr a0, gi a1, gr a2] h cvU r hf := by
  refine gMet.of ho hs (plainFor_of_name pn_J2) rfl rfl (gbl rfl) fun X => ?_
  show gT G l X mJ2_putStringAt_c21 cvU r hf 0 [(0, gr a0), (1, gi a1), (2, gr a2)] [] h (sJ2_putStringAt_c21 G N a0 a1 a2 h)
  delta sJ2_putStringAt_c21
  refine g_aload_n (pc := 0) (x := a0) 0 rfl rfl dJ2_putStringAt_0 ?_
  refine g_aload_n (pc := 1) (x := a2) 2 rfl rfl dJ2_putStringAt_1 ?_
  refine g_bVu (pc := 2) (y := yJ2_inflateIfNeededFor) (ws := ws_ yJ2_inflateIfNeededFor cJ2_inflateIfNeededFor 2 none) (fr := 1) (lo := 20) (as := [gr a2]) (st := []) (g_no) rfl (fun _ _ _ e => tJ2_inflateIfNeededFor_c21 hs e) (fun K _ _ _ hq hM R e1 e2 => g_runVP (M := mJ2_putStringAt_c21) (pc := 2) (y := yJ2_inflateIfNeededFor) (bytes := cJ2_inflateIfNeededFor) (maxL := 2) (ret := none) (fr := 1) (lo := 20) (as := [gr a2]) (st := []) hq (C := "java/lang/StringBuilder") rfl gy_J2_inflateIfNeededFor (gbl rfl) (gbl rfl) (gbl rfl) q822 q4625 q823 q824 dJ2_putStringAt_2 K hM R e1 e2) fun v1 h2 => ?_
  refine g_aload_n (pc := 5) (x := a2) 2 rfl rfl dJ2_putStringAt_5 ?_
  refine g_aload_n (pc := 6) (x := a0) 0 rfl rfl dJ2_putStringAt_6 ?_
  refine g_getfr (pc := 7) k_21 (gblt rfl) lk_J2_15_21 dJ2_putStringAt_7 fun v3 => ?_
  refine g_iload_n (pc := 10) (x := a1) 1 rfl rfl dJ2_putStringAt_10 ?_
  refine g_aload_n (pc := 11) (x := a0) 0 rfl rfl dJ2_putStringAt_11 ?_
  refine g_getfi (pc := 12) k_21 (gblt rfl) lk_J2_22_21 dJ2_putStringAt_12 fun v4 => ?_
  refine g_bVu (pc := 15) (y := yJ4_getBytes) (ws := ws_ yJ4_getBytes cJ4_getBytes 4 none) (fr := 1) (lo := 20) (as := [gr v3, gi a1, gi v4]) (st := []) (g_no) rfl (fun _ _ _ e => tJ4_getBytes hs e) (fun K _ _ _ hq hM R e1 e2 => g_runV (M := mJ2_putStringAt_c21) (pc := 15) (y := yJ4_getBytes) (bytes := cJ4_getBytes) (maxL := 4) (ret := none) (fr := 1) (lo := 20) (as := [gr v3, gi a1, gi v4]) (st := []) hq (C := "java/lang/String") rfl gy_J4_getBytes (gbl rfl) (gbl rfl) (gbl rfl) q827 q828 q829 dJ2_putStringAt_15 K hM R e1 e2) fun v5 h6 => ?_
  exact g_return (pc := 18) rfl dJ2_putStringAt_18
/-! java/lang/AbstractStringBuilder.append(Ljava/lang/String;)Ljava/lang/AbstractStringBuilder; -/
noncomputable def sJ2_append_3_c21 (G : GG) (N : Nat) (a0 : Option Nat) (a1 : Option Nat) (h : Hp) : Out (Option Nat) :=
  if a1 = none then (none)
  else bV h a1 20 (fun q13 => sJ4_length G N (some q13) h) fun v1 h2 =>
  gFi h2 a0 21 3 fun v3 =>
  bV h2 a0 21 (fun q12 => sJ2_ensureCapacityInternal_c21 G N (some q12) (v3 + v1) h2) fun v4 h5 =>
  gFi h5 a0 21 3 fun v6 =>
  bV h5 a0 21 (fun q11 => sJ2_putStringAt_c21 G N (some q11) v6 a1 h5) fun v7 h8 =>
  gFi h8 a0 21 3 fun v9 =>
  gP G h8 a0 21 3 (.int (v9 + v1)) fun h10 =>
  some (.inl a0, h10)
abbrev mJ2_append_3_c21 : MI := (RJ2, cJ2_append_3, 3, (some (.object "java/lang/AbstractStringBuilder")), [], 4, 91, "append")
theorem tJ2_append_3_c21 {G : GG} {l : Launch} (hs : l.stackTraces = false) {N : Nat} {a0 : Option Nat} {a1 : Option Nat} {h : Hp} {r : Option Nat ⊕ Nat} {hf : Hp} (ho : sJ2_append_3_c21 G N a0 a1 h = some (r, hf)) : gMet G l yJ2_append_3 (ws_ yJ2_append_3 cJ2_append_3 3 (some (.object "java/lang/AbstractStringBuilder"))) 4 91 [gr a0, gr a1] h cvR r hf := by
  refine gMet.of ho hs (plainFor_of_name pn_J2) rfl rfl (gbl rfl) fun X => ?_
  show gT G l X mJ2_append_3_c21 cvR r hf 0 [(0, gr a0), (1, gr a1)] [] h (sJ2_append_3_c21 G N a0 a1 h)
  delta sJ2_append_3_c21
  refine g_aload_n (pc := 0) (x := a1) 1 rfl rfl dJ2_append_3_0 ?_
  refine g_ifnonnull (pc := 1) (tgt := 9) rfl dJ2_append_3_1 ?_ ?_
  · exact g_none
  refine g_aload_n (pc := 9) (x := a1) 1 rfl rfl dJ2_append_3_9 ?_
  refine g_bVi (pc := 10) (y := yJ4_length) (ws := ws_ yJ4_length cJ4_length 1 (some .int)) (fr := 1) (lo := 20) (as := []) (st := []) (g_no) rfl (fun _ _ _ e => tJ4_length hs e) (fun K _ _ _ hq hM R e1 e2 => g_runV (M := mJ2_append_3_c21) (pc := 10) (y := yJ4_length) (bytes := cJ4_length) (maxL := 1) (ret := (some .int)) (fr := 1) (lo := 20) (as := []) (st := []) hq (C := "java/lang/String") rfl gy_J4_length (gbl rfl) (gbl rfl) (gbl rfl) q809 q810 q811 dJ2_append_3_10 K hM R e1 e2) fun v1 h2 => ?_
  refine g_istore_n (pc := 13) (lv' := [(2, gi v1), (0, gr a0), (1, gr a1)]) [0, 1, 2] rfl rfl (gblt rfl) dJ2_append_3_13 ?_
  refine g_aload_n (pc := 14) (x := a0) 1 rfl rfl dJ2_append_3_14 ?_
  refine g_aload_n (pc := 15) (x := a0) 1 rfl rfl dJ2_append_3_15 ?_
  refine g_getfi (pc := 16) k_21 (gblt rfl) lk_J2_79_21 dJ2_append_3_16 fun v3 => ?_
  refine g_iload_n (pc := 19) (x := v1) 0 rfl rfl dJ2_append_3_19 ?_
  refine g_iadd (pc := 20) dJ2_append_3_20 ?_
  refine g_bVu (pc := 21) (y := yJ2_ensureCapacityInternal) (ws := ws_ yJ2_ensureCapacityInternal cJ2_ensureCapacityInternal 3 none) (fr := 3) (lo := 69) (as := [gi (v3 + v1)]) (st := []) (g_no) rfl (fun _ _ _ e => tJ2_ensureCapacityInternal_c21 hs e) (fun K _ _ _ hq hM R e1 e2 => g_runVP (M := mJ2_append_3_c21) (pc := 21) (y := yJ2_ensureCapacityInternal) (bytes := cJ2_ensureCapacityInternal) (maxL := 3) (ret := none) (fr := 3) (lo := 69) (as := [gi (v3 + v1)]) (st := []) hq (C := "java/lang/StringBuilder") rfl gy_J2_ensureCapacityInternal (gbl rfl) (gbl rfl) (gbl rfl) q626 q4618 q627 q628 dJ2_append_3_21 K hM R e1 e2) fun v4 h5 => ?_
  refine g_aload_n (pc := 24) (x := a0) 1 rfl rfl dJ2_append_3_24 ?_
  refine g_aload_n (pc := 25) (x := a0) 1 rfl rfl dJ2_append_3_25 ?_
  refine g_getfi (pc := 26) k_21 (gblt rfl) lk_J2_79_21 dJ2_append_3_26 fun v6 => ?_
  refine g_aload_n (pc := 29) (x := a1) 2 rfl rfl dJ2_append_3_29 ?_
  refine g_bVu (pc := 30) (y := yJ2_putStringAt) (ws := ws_ yJ2_putStringAt cJ2_putStringAt 3 none) (fr := 2) (lo := 43) (as := [gi v6, gr a1]) (st := []) (g_no) rfl (fun _ _ _ e => tJ2_putStringAt_c21 hs e) (fun K _ _ _ hq hM R e1 e2 => g_runVP (M := mJ2_append_3_c21) (pc := 30) (y := yJ2_putStringAt) (bytes := cJ2_putStringAt) (maxL := 3) (ret := none) (fr := 2) (lo := 43) (as := [gi v6, gr a1]) (st := []) hq (C := "java/lang/StringBuilder") rfl gy_J2_putStringAt (gbl rfl) (gbl rfl) (gbl rfl) q818 q4624 q819 q820 dJ2_append_3_30 K hM R e1 e2) fun v7 h8 => ?_
  refine g_aload_n (pc := 33) (x := a0) 1 rfl rfl dJ2_append_3_33 ?_
  refine g_dup (pc := 34) rfl dJ2_append_3_34 ?_
  refine g_getfi (pc := 35) k_21 (gblt rfl) lk_J2_79_21 dJ2_append_3_35 fun v9 => ?_
  refine g_iload_n (pc := 38) (x := v1) 0 rfl rfl dJ2_append_3_38 ?_
  refine g_iadd (pc := 39) dJ2_append_3_39 ?_
  refine g_put (pc := 40) k_21 (gblt rfl) lk_J2_79_21 rfl rfl (gNi _) dJ2_append_3_40 fun h10 => ?_
  refine g_aload_n (pc := 43) (x := a0) 1 rfl rfl dJ2_append_3_43 ?_
  exact g_areturn (pc := 44) rfl (Or.inl ⟨_, rfl⟩) dJ2_append_3_44
/-! java/lang/StringBuilder.append(Ljava/lang/String;)Ljava/lang/StringBuilder; -/
noncomputable def sJ3_append_3 (G : GG) (N : Nat) (a0 : Option Nat) (a1 : Option Nat) (h : Hp) : Out (Option Nat) :=
  bV h a0 21 (fun q3 => sJ2_append_3_c21 G N (some q3) a1 h) fun v1 h2 =>
  some (.inl a0, h2)
abbrev mJ3_append_3 : MI := (RJ3, cJ3_append_3, 2, (some (.object "java/lang/StringBuilder")), [], 5, 113, "append")
theorem tJ3_append_3 {G : GG} {l : Launch} (hs : l.stackTraces = false) {N : Nat} {a0 : Option Nat} {a1 : Option Nat} {h : Hp} {r : Option Nat ⊕ Nat} {hf : Hp} (ho : sJ3_append_3 G N a0 a1 h = some (r, hf)) : gMet G l yJ3_append_3 (ws_ yJ3_append_3 cJ3_append_3 2 (some (.object "java/lang/StringBuilder"))) 5 113 [gr a0, gr a1] h cvR r hf := by
  refine gMet.of ho hs (plainFor_of_name pn_J3) rfl rfl (gbl rfl) fun X => ?_
  show gT G l X mJ3_append_3 cvR r hf 0 [(0, gr a0), (1, gr a1)] [] h (sJ3_append_3 G N a0 a1 h)
  delta sJ3_append_3
  refine g_aload_n (pc := 0) (x := a0) 0 rfl rfl dJ3_append_3_0 ?_
  refine g_aload_n (pc := 1) (x := a1) 1 rfl rfl dJ3_append_3_1 ?_
  refine g_bVr (pc := 2) (y := yJ2_append_3) (ws := ws_ yJ2_append_3 cJ2_append_3 3 (some (.object "java/lang/AbstractStringBuilder"))) (fr := 4) (lo := 91) (as := [gr a1]) (st := []) (g_no) rfl (fun _ _ _ e => tJ2_append_3_c21 hs e) (fun K _ _ _ hq hM R e1 e2 => g_runSU (M := mJ3_append_3) (pc := 2) (y := yJ2_append_3) (bytes := cJ2_append_3) (maxL := 3) (ret := (some (.object "java/lang/AbstractStringBuilder"))) (fr := 4) (lo := 91) (as := [gr a1]) (st := []) hq (C := "java/lang/StringBuilder") rfl gy_J2_append_3 (gbl rfl) (gbl rfl) (gbl rfl) q799 q4622 q266 q800 (by decide +kernel) dJ3_append_3_2 K hM R e1 e2) fun v1 h2 => ?_
  refine g_pop (pc := 5) rfl dJ3_append_3_5 ?_
  refine g_aload_n (pc := 6) (x := a0) 0 rfl rfl dJ3_append_3_6 ?_
  exact g_areturn (pc := 7) rfl (Or.inl ⟨_, rfl⟩) dJ3_append_3_7
/-! FlareSlopes.writeBulletin(I)I -/
noncomputable def bX1_writeBulletin_59 (G : GG) (N : Nat) (a0 : Option Nat) (v4 : Int32) (j22 : (Unit) → Hp → Out (Int32)) (w29 : (Int32) → Hp → Out (Int32)) (x27 : Int32) (h28 : Hp) : Out (Int32) :=
  gFr h28 a0 3 4 fun v30 =>
  bV h28 v30 16 (fun q53 => sX3_slopes G N (some q53) h28) fun v31 h32 =>
  if v31 ≤ x27 then (j22 () h32)
  else gFr h32 a0 3 7 fun v33 =>
  bV h32 v33 21 (fun q52 => sJ3_append G N (some q52) (32 : Int32) h32) fun v34 h35 =>
  gFr h35 a0 3 4 fun v36 =>
  bV h35 v36 16 (fun q51 => sX3_slope G N (some q51) x27 h35) fun v37 h38 =>
  gFr h38 v37 15 0 fun v39 =>
  bV h38 v34 21 (fun q50 => sJ3_append_3 G N (some q50) v39 h38) fun v40 h41 =>
  bnd (sX1_has G N v4 x27 h41) fun v42 h43 =>
  gJ (fun (x44 : Int32) (h45 : Hp) =>
  bV h45 v40 21 (fun q49 => sJ3_append G N (some q49) x44 h45) fun v47 h48 =>
  w29 (x27 + (1 : Int32)) h48) fun j46 =>
  if v42 = 0 then (j46 (43 : Int32) h43)
  else j46 (45 : Int32) h43
noncomputable def sX1_writeBulletin (G : GG) (N : Nat) (a0 : Option Nat) (a1 : Int32) (h : Hp) : Out (Int32) :=
  bV h a0 3 (fun q59 => sX1_withCabin G N (some q59) a1 h) fun v1 h2 =>
  gFr h2 a0 3 4 fun v3 =>
  bV h2 v3 16 (fun q58 => sX3_tells G N (some q58) a1 h2) fun v4 h5 =>
  gFr h5 a0 3 7 fun v6 =>
  bV h5 v6 21 (fun q57 => sJ3_setLength G N (some q57) (0 : Int32) h5) fun v7 h8 =>
  gFr h8 a0 3 7 fun v9 =>
  gFr h8 a0 3 4 fun v10 =>
  gFr h8 v10 16 0 fun v11 =>
  gFr h8 v11 11 0 fun v12 =>
  bV h8 v12 13 (fun q56 => sX6_get G N (some q56) a1 h8) fun v13 h14 =>
  gCk h14 v13 [15] (gFr h14 v13 15 0 fun v15 =>
  bV h14 v9 21 (fun q55 => sJ3_append_3 G N (some q55) v15 h14) fun v16 h17 =>
  bV h17 v16 21 (fun q54 => sJ3_append G N (some q54) (58 : Int32) h17) fun v18 h19 =>
  gJ (fun (x20 : Unit) (h21 : Hp) =>
  gFr h21 a0 3 7 fun v23 =>
  bV h21 v23 21 (fun q26 => sJ3_length G N (some q26) h21) fun v24 h25 =>
  some (.inl v24, h25)) fun j22 =>
  gLp (bX1_writeBulletin_59 G N a0 v4 j22) N (0 : Int32) h19)
abbrev mX1_writeBulletin : MI := (RX1, cX1_writeBulletin, 5, (some .int), [], 10, 220, "writeBulletin")
theorem tX1_writeBulletin {G : GG} {l : Launch} (hs : l.stackTraces = false) {N : Nat} {a0 : Option Nat} {a1 : Int32} {h : Hp} {r : Int32 ⊕ Nat} {hf : Hp} (ho : sX1_writeBulletin G N a0 a1 h = some (r, hf)) : gMet G l yX1_writeBulletin (ws_ yX1_writeBulletin cX1_writeBulletin 5 (some .int)) 10 220 [gr a0, gi a1] h cvI r hf := by
  refine gMet.of ho hs (plainFor_of_name pn_X1) rfl rfl (gbl rfl) fun X => ?_
  show gT G l X mX1_writeBulletin cvI r hf 0 [(0, gr a0), (1, gi a1)] [] h (sX1_writeBulletin G N a0 a1 h)
  delta sX1_writeBulletin
  refine g_aload_n (pc := 0) (x := a0) 0 rfl rfl dX1_writeBulletin_0 ?_
  refine g_iload_n (pc := 1) (x := a1) 1 rfl rfl dX1_writeBulletin_1 ?_
  refine g_bVr (pc := 2) (y := yX1_withCabin) (ws := ws_ yX1_withCabin cX1_withCabin 2 (some (.object "FlareSlopes$Cabin"))) (fr := 8) (lo := 121) (as := [gi a1]) (st := []) (g_no) rfl (fun _ _ _ e => tX1_withCabin hs e) (fun K _ _ _ hq hM R e1 e2 => g_runV (M := mX1_writeBulletin) (pc := 2) (y := yX1_withCabin) (bytes := cX1_withCabin) (maxL := 2) (ret := (some (.object "FlareSlopes$Cabin"))) (fr := 8) (lo := 121) (as := [gi a1]) (st := []) hq (C := "FlareSlopes") rfl gy_X1_withCabin (gbl rfl) (gbl rfl) (gbl rfl) q1968 q1970 qs22 dX1_writeBulletin_2 K hM R e1 e2) fun v1 h2 => ?_
  refine g_astore_n (pc := 5) (lv' := [(0, gr a0), (1, gi a1)]) [1, 2] rfl rfl (gblt rfl) dX1_writeBulletin_5 ?_
  refine g_aload_n (pc := 6) (x := a0) 0 rfl rfl dX1_writeBulletin_6 ?_
  refine g_getfr (pc := 7) k_3 (gblt rfl) lk_X1_56_3 dX1_writeBulletin_7 fun v3 => ?_
  refine g_iload_n (pc := 10) (x := a1) 1 rfl rfl dX1_writeBulletin_10 ?_
  refine g_bVi (pc := 11) (y := yX3_tells) (ws := ws_ yX3_tells cX3_tells 4 (some .int)) (fr := 9) (lo := 197) (as := [gi a1]) (st := []) (g_no) rfl (fun _ _ _ e => tX3_tells hs e) (fun K _ _ _ hq hM R e1 e2 => g_runV (M := mX1_writeBulletin) (pc := 11) (y := yX3_tells) (bytes := cX3_tells) (maxL := 4) (ret := (some .int)) (fr := 9) (lo := 197) (as := [gi a1]) (st := []) hq (C := "FlareSlopes$State") rfl gy_X3_tells (gbl rfl) (gbl rfl) (gbl rfl) q3660 q3661 q3662 dX1_writeBulletin_11 K hM R e1 e2) fun v4 h5 => ?_
  refine g_istore_n (pc := 14) (lv' := [(3, gi v4), (0, gr a0), (1, gi a1)]) [0, 1, 2] rfl rfl (gblt rfl) dX1_writeBulletin_14 ?_
  refine g_aload_n (pc := 15) (x := a0) 1 rfl rfl dX1_writeBulletin_15 ?_
  refine g_getfr (pc := 16) k_3 (gblt rfl) lk_X1_39_3 dX1_writeBulletin_16 fun v6 => ?_
  refine g_iconst (pc := 19) (v := (0 : Int32)) ic_0 dX1_writeBulletin_19 ?_
  refine g_bVu (pc := 20) (y := yJ3_setLength) (ws := ws_ yJ3_setLength cJ3_setLength 2 none) (fr := 5) (lo := 112) (as := [gi (0 : Int32)]) (st := []) (g_no) rfl (fun _ _ _ e => tJ3_setLength hs e) (fun K _ _ _ hq hM R e1 e2 => g_runV (M := mX1_writeBulletin) (pc := 20) (y := yJ3_setLength) (bytes := cJ3_setLength) (maxL := 2) (ret := none) (fr := 5) (lo := 112) (as := [gi (0 : Int32)]) (st := []) hq (C := "java/lang/StringBuilder") rfl gy_J3_setLength (gbl rfl) (gbl rfl) (gbl rfl) q3665 q3666 q3667 dX1_writeBulletin_20 K hM R e1 e2) fun v7 h8 => ?_
  refine g_aload_n (pc := 23) (x := a0) 1 rfl rfl dX1_writeBulletin_23 ?_
  refine g_getfr (pc := 24) k_3 (gblt rfl) lk_X1_39_3 dX1_writeBulletin_24 fun v9 => ?_
  refine g_aload_n (pc := 27) (x := a0) 1 rfl rfl dX1_writeBulletin_27 ?_
  refine g_getfr (pc := 28) k_3 (gblt rfl) lk_X1_56_3 dX1_writeBulletin_28 fun v10 => ?_
  refine g_getfr (pc := 31) k_16 (gblt rfl) lk_X1_129_16 dX1_writeBulletin_31 fun v11 => ?_
  refine g_getfr (pc := 34) k_11 (gblt rfl) lk_X1_138_11 dX1_writeBulletin_34 fun v12 => ?_
  refine g_iload_n (pc := 37) (x := a1) 2 rfl rfl dX1_writeBulletin_37 ?_
  refine g_bVr (pc := 38) (y := yX6_get) (ws := ws_ yX6_get cX6_get 2 (some (.object "FlareSlopes$Named"))) (fr := 3) (lo := 64) (as := [gi a1]) (st := [gr v9]) (g_no) rfl (fun _ _ _ e => tX6_get hs e) (fun K _ _ _ hq hM R e1 e2 => g_runV (M := mX1_writeBulletin) (pc := 38) (y := yX6_get) (bytes := cX6_get) (maxL := 2) (ret := (some (.object "FlareSlopes$Named"))) (fr := 3) (lo := 64) (as := [gi a1]) (st := [gr v9]) hq (C := "FlareSlopes$Register") rfl gy_X6_get (gbl rfl) (gbl rfl) (gbl rfl) q3717 q986 q987 dX1_writeBulletin_38 K hM R e1 e2) fun v13 h14 => ?_
  refine g_checkcast (pc := 41) q3718 as_15_FlareSlopes_Spot dX1_writeBulletin_41 ?_
  refine g_getfr (pc := 44) k_15 (gblt rfl) lk_X1_475_15 dX1_writeBulletin_44 fun v15 => ?_
  refine g_bVr (pc := 47) (y := yJ3_append_3) (ws := ws_ yJ3_append_3 cJ3_append_3 2 (some (.object "java/lang/StringBuilder"))) (fr := 5) (lo := 113) (as := [gr v15]) (st := []) (g_no) rfl (fun _ _ _ e => tJ3_append_3 hs e) (fun K _ _ _ hq hM R e1 e2 => g_runV (M := mX1_writeBulletin) (pc := 47) (y := yJ3_append_3) (bytes := cJ3_append_3) (maxL := 2) (ret := (some (.object "java/lang/StringBuilder"))) (fr := 5) (lo := 113) (as := [gr v15]) (st := []) hq (C := "java/lang/StringBuilder") rfl gy_J3_append_3 (gbl rfl) (gbl rfl) (gbl rfl) q3719 q796 q797 dX1_writeBulletin_47 K hM R e1 e2) fun v16 h17 => ?_
  refine g_bipush (pc := 50) (v := (58 : Int32)) bc_58 dX1_writeBulletin_50 ?_
  refine g_bVr (pc := 52) (y := yJ3_append) (ws := ws_ yJ3_append cJ3_append 2 (some (.object "java/lang/StringBuilder"))) (fr := 5) (lo := 112) (as := [gi (58 : Int32)]) (st := []) (g_no) rfl (fun _ _ _ e => tJ3_append hs e) (fun K _ _ _ hq hM R e1 e2 => g_runV (M := mX1_writeBulletin) (pc := 52) (y := yJ3_append) (bytes := cJ3_append) (maxL := 2) (ret := (some (.object "java/lang/StringBuilder"))) (fr := 5) (lo := 112) (as := [gi (58 : Int32)]) (st := []) hq (C := "java/lang/StringBuilder") rfl gy_J3_append (gbl rfl) (gbl rfl) (gbl rfl) q1452 q620 q621 dX1_writeBulletin_52 K hM R e1 e2) fun v18 h19 => ?_
  refine g_pop (pc := 55) rfl dX1_writeBulletin_55 ?_
  refine g_iconst (pc := 56) (v := (0 : Int32)) ic_0 dX1_writeBulletin_56 ?_
  refine g_istore (pc := 57) (lv' := [(4, gi (0 : Int32)), (3, gi v4), (0, gr a0)]) [0, 1, 2] rfl (gblt rfl) dX1_writeBulletin_57 ?_
  refine g_join 121 (fun (x20 : Unit) => [(0, gr a0)]) (fun (x20 : Unit) => []) (fun x20 h21 => ?_) (fun j22 Hj22 => ?_)
  · refine g_aload_n (pc := 121) (x := a0) 0 rfl rfl dX1_writeBulletin_121 ?_
    refine g_getfr (pc := 122) k_3 (gblt rfl) lk_X1_39_3 dX1_writeBulletin_122 fun v23 => ?_
    refine g_bVi (pc := 125) (y := yJ3_length) (ws := ws_ yJ3_length cJ3_length 1 (some .int)) (fr := 1) (lo := 20) (as := []) (st := []) (g_no) rfl (fun _ _ _ e => tJ3_length hs e) (fun K _ _ _ hq hM R e1 e2 => g_runV (M := mX1_writeBulletin) (pc := 125) (y := yJ3_length) (bytes := cJ3_length) (maxL := 1) (ret := (some .int)) (fr := 1) (lo := 20) (as := []) (st := []) hq (C := "java/lang/StringBuilder") rfl gy_J3_length (gbl rfl) (gbl rfl) (gbl rfl) q3721 q735 q4643 dX1_writeBulletin_125 K hM R e1 e2) fun v24 h25 => ?_
    exact g_ireturn (pc := 128) rfl dX1_writeBulletin_128
  refine g_sub (lv' := [(0, gr a0), (3, gi v4), (4, gi (0 : Int32))]) [2, 1, 0] rfl ?_
  refine g_loop (pc := 59) (fun (x27 : Int32) => [(0, gr a0), (3, gi v4), (4, gi x27)]) (fun (_ : Int32) => []) (fun w29 Hw29 x27 h28 => ?_) N (0 : Int32) h19
  delta bX1_writeBulletin_59
  refine g_iload (pc := 59) (x := x27) 2 rfl dX1_writeBulletin_59 ?_
  refine g_aload_n (pc := 61) (x := a0) 0 rfl rfl dX1_writeBulletin_61 ?_
  refine g_getfr (pc := 62) k_3 (gblt rfl) lk_X1_56_3 dX1_writeBulletin_62 fun v30 => ?_
  refine g_bVi (pc := 65) (y := yX3_slopes) (ws := ws_ yX3_slopes cX3_slopes 1 (some .int)) (fr := 2) (lo := 40) (as := []) (st := [gi x27]) (g_no) rfl (fun _ _ _ e => tX3_slopes hs e) (fun K _ _ _ hq hM R e1 e2 => g_runV (M := mX1_writeBulletin) (pc := 65) (y := yX3_slopes) (bytes := cX3_slopes) (maxL := 1) (ret := (some .int)) (fr := 2) (lo := 40) (as := []) (st := [gi x27]) hq (C := "FlareSlopes$State") rfl gy_X3_slopes (gbl rfl) (gbl rfl) (gbl rfl) q1464 q1465 q1466 dX1_writeBulletin_65 K hM R e1 e2) fun v31 h32 => ?_
  refine g_icmp_ge (pc := 68) (tgt := 121) rfl dX1_writeBulletin_68 ?_ ?_
  · exact g_sub [0] rfl (Hj22 () h32)
  refine g_aload_n (pc := 71) (x := a0) 0 rfl rfl dX1_writeBulletin_71 ?_
  refine g_getfr (pc := 72) k_3 (gblt rfl) lk_X1_39_3 dX1_writeBulletin_72 fun v33 => ?_
  refine g_bipush (pc := 75) (v := (32 : Int32)) bc_32 dX1_writeBulletin_75 ?_
  refine g_bVr (pc := 77) (y := yJ3_append) (ws := ws_ yJ3_append cJ3_append 2 (some (.object "java/lang/StringBuilder"))) (fr := 5) (lo := 112) (as := [gi (32 : Int32)]) (st := []) (g_no) rfl (fun _ _ _ e => tJ3_append hs e) (fun K _ _ _ hq hM R e1 e2 => g_runV (M := mX1_writeBulletin) (pc := 77) (y := yJ3_append) (bytes := cJ3_append) (maxL := 2) (ret := (some (.object "java/lang/StringBuilder"))) (fr := 5) (lo := 112) (as := [gi (32 : Int32)]) (st := []) hq (C := "java/lang/StringBuilder") rfl gy_J3_append (gbl rfl) (gbl rfl) (gbl rfl) q1452 q620 q621 dX1_writeBulletin_77 K hM R e1 e2) fun v34 h35 => ?_
  refine g_aload_n (pc := 80) (x := a0) 0 rfl rfl dX1_writeBulletin_80 ?_
  refine g_getfr (pc := 81) k_3 (gblt rfl) lk_X1_56_3 dX1_writeBulletin_81 fun v36 => ?_
  refine g_iload (pc := 84) (x := x27) 2 rfl dX1_writeBulletin_84 ?_
  refine g_bVr (pc := 86) (y := yX3_slope) (ws := ws_ yX3_slope cX3_slope 2 (some (.object "FlareSlopes$Spot"))) (fr := 4) (lo := 85) (as := [gi x27]) (st := [gr v34]) (g_no) rfl (fun _ _ _ e => tX3_slope hs e) (fun K _ _ _ hq hM R e1 e2 => g_runV (M := mX1_writeBulletin) (pc := 86) (y := yX3_slope) (bytes := cX3_slope) (maxL := 2) (ret := (some (.object "FlareSlopes$Spot"))) (fr := 4) (lo := 85) (as := [gi x27]) (st := [gr v34]) hq (C := "FlareSlopes$State") rfl gy_X3_slope (gbl rfl) (gbl rfl) (gbl rfl) q3048 q2354 q2355 dX1_writeBulletin_86 K hM R e1 e2) fun v37 h38 => ?_
  refine g_getfr (pc := 89) k_15 (gblt rfl) lk_X1_475_15 dX1_writeBulletin_89 fun v39 => ?_
  refine g_bVr (pc := 92) (y := yJ3_append_3) (ws := ws_ yJ3_append_3 cJ3_append_3 2 (some (.object "java/lang/StringBuilder"))) (fr := 5) (lo := 113) (as := [gr v39]) (st := []) (g_no) rfl (fun _ _ _ e => tJ3_append_3 hs e) (fun K _ _ _ hq hM R e1 e2 => g_runV (M := mX1_writeBulletin) (pc := 92) (y := yJ3_append_3) (bytes := cJ3_append_3) (maxL := 2) (ret := (some (.object "java/lang/StringBuilder"))) (fr := 5) (lo := 113) (as := [gr v39]) (st := []) hq (C := "java/lang/StringBuilder") rfl gy_J3_append_3 (gbl rfl) (gbl rfl) (gbl rfl) q3719 q796 q797 dX1_writeBulletin_92 K hM R e1 e2) fun v40 h41 => ?_
  refine g_iload_n (pc := 95) (x := v4) 1 rfl rfl dX1_writeBulletin_95 ?_
  refine g_iload (pc := 96) (x := x27) 2 rfl dX1_writeBulletin_96 ?_
  refine g_bi (pc := 98) (y := yX1_has) (ws := ws_ yX1_has cX1_has 2 (some .boolean)) (fr := 0) (lo := 0) (as := [gi v4, gi x27]) (st := [gr v40]) (g_no) rfl (fun _ _ e => tX1_has hs e) (fun K _ _ hM R e1 e2 => g_runS (M := mX1_writeBulletin) (pc := 98) (y := yX1_has) (bytes := cX1_has) (maxL := 2) (ret := (some .boolean)) (fr := 0) (lo := 0) (as := [gi v4, gi x27]) (st := [gr v40]) gy_X1_has (gbl rfl) (gbl rfl) (gbl rfl) q3720 q2337 dX1_writeBulletin_98 K hM R e1 e2) fun v42 h43 => ?_
  refine g_join 111 (fun (x44 : Int32) => [(0, gr a0), (3, gi v4), (4, gi x27)]) (fun (x44 : Int32) => [gi x44, gr v40]) (fun x44 h45 => ?_) (fun j46 Hj46 => ?_)
  · refine g_bVr (pc := 111) (y := yJ3_append) (ws := ws_ yJ3_append cJ3_append 2 (some (.object "java/lang/StringBuilder"))) (fr := 5) (lo := 112) (as := [gi x44]) (st := []) (g_no) rfl (fun _ _ _ e => tJ3_append hs e) (fun K _ _ _ hq hM R e1 e2 => g_runV (M := mX1_writeBulletin) (pc := 111) (y := yJ3_append) (bytes := cJ3_append) (maxL := 2) (ret := (some (.object "java/lang/StringBuilder"))) (fr := 5) (lo := 112) (as := [gi x44]) (st := []) hq (C := "java/lang/StringBuilder") rfl gy_J3_append (gbl rfl) (gbl rfl) (gbl rfl) q1452 q620 q621 dX1_writeBulletin_111 K hM R e1 e2) fun v47 h48 => ?_
    refine g_pop (pc := 114) rfl dX1_writeBulletin_114 ?_
    refine g_iinc (pc := 115) (v := x27 + (1 : Int32)) 2 rfl (ii_1 _) (lv' := [(4, gi (x27 + (1 : Int32))), (0, gr a0), (3, gi v4)]) [0, 1, 2] rfl (gblt rfl) dX1_writeBulletin_115 ?_
    refine g_goto (pc := 118) (tgt := 59) rfl dX1_writeBulletin_118 ?_
    exact g_sub [1, 2, 0] rfl (Hw29 (x27 + (1 : Int32)) h48)
  refine g_if_eq (pc := 101) (tgt := 109) rfl dX1_writeBulletin_101 ?_ ?_
  · refine g_bipush (pc := 109) (v := (43 : Int32)) bc_43 dX1_writeBulletin_109 ?_
    exact Hj46 (43 : Int32) h43
  refine g_bipush (pc := 104) (v := (45 : Int32)) bc_45 dX1_writeBulletin_104 ?_
  refine g_goto (pc := 106) (tgt := 111) rfl dX1_writeBulletin_106 ?_
  exact Hj46 (45 : Int32) h43
/-! FlareSlopesLaw.writeBulletin(LFlareSlopes;I[J)I -/
noncomputable def sX0_writeBulletin (G : GG) (N : Nat) (a0 : Option Nat) (a1 : Int32) (a2 : Option Nat) (h : Hp) : Out (Int32) :=
  bVX h a0 3 (fun q4 => sX1_writeBulletin G N (some q4) a1 h) (fun v1 h2 =>
  gSl G h2 a2 3 (0 : Int32) (v1.toInt64) fun h3 =>
  some (.inl (0 : Int32), h3)) fun q5 h6 =>
  gSw h6 (some q5) 0 (some (.inl (1 : Int32), h6)) (gSw h6 (some q5) 2 (some (.inl (2 : Int32), h6)) (none))
abbrev mX0_writeBulletin : MI := (RX0, cX0_writeBulletin, 4, (some .int), [(0, 9, 12, 21), (0, 9, 15, 13)], 11, 244, "writeBulletin")
theorem tX0_writeBulletin {G : GG} {l : Launch} (hs : l.stackTraces = false) {N : Nat} {a0 : Option Nat} {a1 : Int32} {a2 : Option Nat} {h : Hp} {r : Int32 ⊕ Nat} {hf : Hp} (ho : sX0_writeBulletin G N a0 a1 a2 h = some (r, hf)) : gMet G l yX0_writeBulletin (wsW_ yX0_writeBulletin cX0_writeBulletin 4 (some .int) [(0, 9, 12, 21), (0, 9, 15, 13)]) 11 244 [gr a0, gi a1, gr a2] h cvI r hf := by
  refine gMet.ofW ho hs (plainFor_of_name pn_X0) rfl rfl (gbl rfl) fun X => ?_
  show gT G l X mX0_writeBulletin cvI r hf 0 [(0, gr a0), (1, gi a1), (2, gr a2)] [] h (sX0_writeBulletin G N a0 a1 a2 h)
  delta sX0_writeBulletin
  refine g_aload_n (pc := 0) (x := a2) 2 rfl rfl dX0_writeBulletin_0 ?_
  refine g_iconst (pc := 1) (v := (0 : Int32)) ic_0 dX0_writeBulletin_1 ?_
  refine g_aload_n (pc := 2) (x := a0) 0 rfl rfl dX0_writeBulletin_2 ?_
  refine g_iload_n (pc := 3) (x := a1) 1 rfl rfl dX0_writeBulletin_3 ?_
  refine g_bVXi (pc := 4) (y := yX1_writeBulletin) (ws := ws_ yX1_writeBulletin cX1_writeBulletin 5 (some .int)) (fr := 10) (lo := 220) (as := [gi a1]) (st := [gi (0 : Int32), gr a2]) rfl (fun _ _ _ e => tX1_writeBulletin hs e) (fun K _ _ _ hq hM R e1 e2 => g_runV (M := mX0_writeBulletin) (pc := 4) (y := yX1_writeBulletin) (bytes := cX1_writeBulletin) (maxL := 5) (ret := (some .int)) (fr := 10) (lo := 220) (as := [gi a1]) (st := [gi (0 : Int32), gr a2]) hq (C := "FlareSlopes") rfl gy_X1_writeBulletin (gbl rfl) (gbl rfl) (gbl rfl) q3656 q3657 q3658 dX0_writeBulletin_4 K hM R e1 e2) (fun v1 h2 => ?_) (fun q5 h6 => ?_)
  · refine g_i2l (pc := 7) dX0_writeBulletin_7 ?_
    refine g_lastore (pc := 8) rfl dX0_writeBulletin_8 fun h3 => ?_
    refine g_goto (pc := 9) (tgt := 18) rfl dX0_writeBulletin_9 ?_
    refine g_iconst (pc := 18) (v := (0 : Int32)) ic_0 dX0_writeBulletin_18 ?_
    exact g_ireturn (pc := 19) rfl dX0_writeBulletin_19
  refine g_catch (E := "java/lang/IllegalStateException") [] ⟨0, 9, 12, 21⟩ [⟨0, 9, 15, 13⟩] rfl rfl (List.forall_mem_nil _) (by decide +kernel) (by decide +kernel) q1425 q1439 ?_ ?_
  · refine g_astore_n (pc := 12) (lv' := []) [] rfl rfl (gblt rfl) dX0_writeBulletin_12 ?_
    refine g_iconst (pc := 13) (v := (1 : Int32)) ic_1 dX0_writeBulletin_13 ?_
    exact g_ireturn (pc := 14) rfl dX0_writeBulletin_14
  refine g_catch (E := "java/lang/IndexOutOfBoundsException") [⟨0, 9, 12, 21⟩] ⟨0, 9, 15, 13⟩ [] rfl rfl (List.forall_mem_cons.mpr ⟨Or.inr ⟨by decide +kernel, _, q1425, ncl_java_lang_IndexOutOfBoundsException_java_lang_IllegalStateException⟩, List.forall_mem_nil _⟩) (by decide +kernel) (by decide +kernel) q325 q418 ?_ ?_
  · refine g_astore_n (pc := 15) (lv' := []) [] rfl rfl (gblt rfl) dX0_writeBulletin_15 ?_
    refine g_iconst (pc := 16) (v := (2 : Int32)) ic_2 dX0_writeBulletin_16 ?_
    exact g_ireturn (pc := 17) rfl dX0_writeBulletin_17
  exact g_noneX
/-! FlareSlopesModel.writesByte(I)V -/
noncomputable def sX2_writesByte (G : GG) (N : Nat) (a0 : Option Nat) (a1 : Int32) (h : Hp) : Out (Unit) :=
  gFr h a0 18 20 fun v1 =>
  gFi h a0 18 21 fun v2 =>
  gSb G h v1 1 v2 (a1.toInt8.toInt32) fun h3 =>
  gFi h3 a0 18 21 fun v4 =>
  gP G h3 a0 18 21 (.int (v4 + (1 : Int32))) fun h5 =>
  some (.inl (), h5)
abbrev mX2_writesByte : MI := (RX2, cX2_writesByte, 2, none, [], 0, 0, "writesByte")
theorem tX2_writesByte {G : GG} {l : Launch} (hs : l.stackTraces = false) {N : Nat} {a0 : Option Nat} {a1 : Int32} {h : Hp} {r : Unit ⊕ Nat} {hf : Hp} (ho : sX2_writesByte G N a0 a1 h = some (r, hf)) : gMet G l yX2_writesByte (ws_ yX2_writesByte cX2_writesByte 2 none) 0 0 [gr a0, gi a1] h cvU r hf := by
  refine gMet.of ho hs (plainFor_of_name pn_X2) rfl rfl (gbl rfl) fun X => ?_
  show gT G l X mX2_writesByte cvU r hf 0 [(0, gr a0), (1, gi a1)] [] h (sX2_writesByte G N a0 a1 h)
  delta sX2_writesByte
  refine g_aload_n (pc := 0) (x := a0) 0 rfl rfl dX2_writesByte_0 ?_
  refine g_getfr (pc := 1) k_18 (gblt rfl) lk_X2_41_18 dX2_writesByte_1 fun v1 => ?_
  refine g_aload_n (pc := 4) (x := a0) 0 rfl rfl dX2_writesByte_4 ?_
  refine g_getfi (pc := 5) k_18 (gblt rfl) lk_X2_377_18 dX2_writesByte_5 fun v2 => ?_
  refine g_iload_n (pc := 8) (x := a1) 1 rfl rfl dX2_writesByte_8 ?_
  refine g_i2b (pc := 9) dX2_writesByte_9 ?_
  refine g_bastore (pc := 10) rfl dX2_writesByte_10 fun h3 => ?_
  refine g_aload_n (pc := 11) (x := a0) 0 rfl rfl dX2_writesByte_11 ?_
  refine g_dup (pc := 12) rfl dX2_writesByte_12 ?_
  refine g_getfi (pc := 13) k_18 (gblt rfl) lk_X2_377_18 dX2_writesByte_13 fun v4 => ?_
  refine g_iconst (pc := 16) (v := (1 : Int32)) ic_1 dX2_writesByte_16 ?_
  refine g_iadd (pc := 17) dX2_writesByte_17 ?_
  refine g_put (pc := 18) k_18 (gblt rfl) lk_X2_377_18 rfl rfl (gNi _) dX2_writesByte_18 fun h5 => ?_
  exact g_return (pc := 21) rfl dX2_writesByte_21
/-! FlareSlopesModel.writesName(I)V -/
noncomputable def bX2_writesName_34 (G : GG) (N : Nat) (a0 : Option Nat) (w8 : (Int64 × Int64) → Hp → Out (Unit)) (x6 : Int64 × Int64) (h7 : Hp) : Out (Unit) :=
  if (lg_cmp x6.1 (0 : Int64)) ≤ 0 then (some (.inl (), h7))
  else gDvl x6.2 x6.1 fun v9 =>
  bV h7 a0 18 (fun q14 => sX2_writesByte G N (some q14) (((96 : Int64) + v9).toInt32) h7) fun v10 h11 =>
  gRml x6.2 x6.1 fun v12 =>
  gDvl x6.1 (27 : Int64) fun v13 =>
  w8 (v13, v12) h11
noncomputable def bX2_writesName_2 (G : GG) (N : Nat) (a0 : Option Nat) (a1 : Int32) (j3 : (Int64) → Hp → Out (Unit)) (w17 : (Int64) → Hp → Out (Unit)) (x15 : Int64) (h16 : Hp) : Out (Unit) :=
  gFr h16 a0 18 6 fun v18 =>
  gAl h16 v18 3 a1 fun v19 =>
  if 0 < (lg_cmp (x15 * (27 : Int64)) v19) then (j3 x15 h16)
  else gLet (x15 * (27 : Int64)) fun v20 =>
  w17 v20 h16
noncomputable def sX2_writesName (G : GG) (N : Nat) (a0 : Option Nat) (a1 : Int32) (h : Hp) : Out (Unit) :=
  gJ (fun (x1 : Int64) (h2 : Hp) =>
  gFr h2 a0 18 6 fun v4 =>
  gAl h2 v4 3 a1 fun v5 =>
  gLp (bX2_writesName_34 G N a0) N (x1, v5) h2) fun j3 =>
  gLp (bX2_writesName_2 G N a0 a1 j3) N (1 : Int64) h
abbrev mX2_writesName : MI := (RX2, cX2_writesName, 6, none, [], 1, 21, "writesName")
theorem tX2_writesName {G : GG} {l : Launch} (hs : l.stackTraces = false) {N : Nat} {a0 : Option Nat} {a1 : Int32} {h : Hp} {r : Unit ⊕ Nat} {hf : Hp} (ho : sX2_writesName G N a0 a1 h = some (r, hf)) : gMet G l yX2_writesName (ws_ yX2_writesName cX2_writesName 6 none) 1 21 [gr a0, gi a1] h cvU r hf := by
  refine gMet.of ho hs (plainFor_of_name pn_X2) rfl rfl (gbl rfl) fun X => ?_
  show gT G l X mX2_writesName cvU r hf 0 [(0, gr a0), (1, gi a1)] [] h (sX2_writesName G N a0 a1 h)
  delta sX2_writesName
  refine g_lconst (pc := 0) (v := (1 : Int64)) rfl dX2_writesName_0 ?_
  refine g_lstore_n (pc := 1) (lv' := [(2, gl (1 : Int64)), (0, gr a0), (1, gi a1)]) [0, 1, 2] rfl rfl (gblt rfl) dX2_writesName_1 ?_
  refine g_join 26 (fun (x1 : Int64) => [(0, gr a0), (1, gi a1), (2, gl x1)]) (fun (x1 : Int64) => []) (fun x1 h2 => ?_) (fun j3 Hj3 => ?_)
  · refine g_aload_n (pc := 26) (x := a0) 0 rfl rfl dX2_writesName_26 ?_
    refine g_getfr (pc := 27) k_18 (gblt rfl) lk_X2_26_18 dX2_writesName_27 fun v4 => ?_
    refine g_iload_n (pc := 30) (x := a1) 1 rfl rfl dX2_writesName_30 ?_
    refine g_laload (pc := 31) rfl dX2_writesName_31 fun v5 => ?_
    refine g_lstore (pc := 32) (lv' := [(4, gl v5), (0, gr a0), (2, gl x1)]) [0, 1, 3] rfl (gblt rfl) dX2_writesName_32 ?_
    refine g_sub (lv' := [(0, gr a0), (2, gl x1), (4, gl v5)]) [1, 2, 0] rfl ?_
    refine g_loop (pc := 34) (fun (x6 : Int64 × Int64) => [(0, gr a0), (2, gl x6.1), (4, gl x6.2)]) (fun (_ : Int64 × Int64) => []) (fun w8 Hw8 x6 h7 => ?_) N (x1, v5) h2
    delta bX2_writesName_34
    refine g_lload_n (pc := 34) (x := x6.1) 1 rfl rfl dX2_writesName_34 ?_
    refine g_lconst (pc := 35) (v := (0 : Int64)) rfl dX2_writesName_35 ?_
    refine g_lcmp (pc := 36) dX2_writesName_36 ?_
    refine g_if_le (pc := 37) (tgt := 68) rfl dX2_writesName_37 ?_ ?_
    · exact g_return (pc := 68) rfl dX2_writesName_68
    refine g_aload_n (pc := 40) (x := a0) 0 rfl rfl dX2_writesName_40 ?_
    refine g_ldc2 (pc := 41) q4530 dX2_writesName_41 ?_
    refine g_lload (pc := 44) (x := x6.2) 2 rfl dX2_writesName_44 ?_
    refine g_lload_n (pc := 46) (x := x6.1) 1 rfl rfl dX2_writesName_46 ?_
    refine g_ldiv (pc := 47) dX2_writesName_47 fun v9 => ?_
    refine g_ladd (pc := 48) dX2_writesName_48 ?_
    refine g_l2i (pc := 49) dX2_writesName_49 ?_
    refine g_bVu (pc := 50) (y := yX2_writesByte) (ws := ws_ yX2_writesByte cX2_writesByte 2 none) (fr := 0) (lo := 0) (as := [gi (((96 : Int64) + v9).toInt32)]) (st := []) (g_no) rfl (fun _ _ _ e => tX2_writesByte hs e) (fun K _ _ _ hq hM R e1 e2 => g_runV (M := mX2_writesName) (pc := 50) (y := yX2_writesByte) (bytes := cX2_writesByte) (maxL := 2) (ret := none) (fr := 0) (lo := 0) (as := [gi (((96 : Int64) + v9).toInt32)]) (st := []) hq (C := "FlareSlopesModel") rfl gy_X2_writesByte (gbl rfl) (gbl rfl) (gbl rfl) q4531 q4533 qs123 dX2_writesName_50 K hM R e1 e2) fun v10 h11 => ?_
    refine g_lload (pc := 53) (x := x6.2) 2 rfl dX2_writesName_53 ?_
    refine g_lload_n (pc := 55) (x := x6.1) 1 rfl rfl dX2_writesName_55 ?_
    refine g_lrem (pc := 56) dX2_writesName_56 fun v12 => ?_
    refine g_lstore (pc := 57) (lv' := [(4, gl v12), (0, gr a0), (2, gl x6.1)]) [0, 1, 2] rfl (gblt rfl) dX2_writesName_57 ?_
    refine g_lload_n (pc := 59) (x := x6.1) 2 rfl rfl dX2_writesName_59 ?_
    refine g_ldc2 (pc := 60) q4063 dX2_writesName_60 ?_
    refine g_ldiv (pc := 63) dX2_writesName_63 fun v13 => ?_
    refine g_lstore_n (pc := 64) (lv' := [(2, gl v13), (4, gl v12), (0, gr a0)]) [0, 1, 2] rfl rfl (gblt rfl) dX2_writesName_64 ?_
    refine g_goto (pc := 65) (tgt := 34) rfl dX2_writesName_65 ?_
    exact g_sub [2, 0, 1] rfl (Hw8 (v13, v12) h11)
  refine g_sub (lv' := [(0, gr a0), (1, gi a1), (2, gl (1 : Int64))]) [1, 2, 0] rfl ?_
  refine g_loop (pc := 2) (fun (x15 : Int64) => [(0, gr a0), (1, gi a1), (2, gl x15)]) (fun (_ : Int64) => []) (fun w17 Hw17 x15 h16 => ?_) N (1 : Int64) h
  delta bX2_writesName_2
  refine g_lload_n (pc := 2) (x := x15) 2 rfl rfl dX2_writesName_2 ?_
  refine g_ldc2 (pc := 3) q4063 dX2_writesName_3 ?_
  refine g_lmul (pc := 6) dX2_writesName_6 ?_
  refine g_aload_n (pc := 7) (x := a0) 0 rfl rfl dX2_writesName_7 ?_
  refine g_getfr (pc := 8) k_18 (gblt rfl) lk_X2_26_18 dX2_writesName_8 fun v18 => ?_
  refine g_iload_n (pc := 11) (x := a1) 1 rfl rfl dX2_writesName_11 ?_
  refine g_laload (pc := 12) rfl dX2_writesName_12 fun v19 => ?_
  refine g_lcmp (pc := 13) dX2_writesName_13 ?_
  refine g_if_gt (pc := 14) (tgt := 26) rfl dX2_writesName_14 ?_ ?_
  · exact Hj3 x15 h16
  refine g_lload_n (pc := 17) (x := x15) 2 rfl rfl dX2_writesName_17 ?_
  refine g_ldc2 (pc := 18) q4063 dX2_writesName_18 ?_
  refine g_lmul (pc := 21) dX2_writesName_21 ?_
  refine g_letl fun v20 => ?_
  refine g_lstore_n (pc := 22) (lv' := [(2, gl v20), (0, gr a0), (1, gi a1)]) [0, 1, 2] rfl rfl (gblt rfl) dX2_writesName_22 ?_
  refine g_goto (pc := 23) (tgt := 2) rfl dX2_writesName_23 ?_
  exact g_sub [1, 2, 0] rfl (Hw17 v20 h16)
/-! FlareSlopesModel.writeBulletin(I)I -/
noncomputable def bX2_writeBulletin_28 (G : GG) (N : Nat) (a0 : Option Nat) (a1 : Int32) (j10 : (Unit) → Hp → Out (Int32)) (w14 : (Int32) → Hp → Out (Int32)) (x12 : Int32) (h13 : Hp) : Out (Int32) :=
  gFr h13 a0 18 1 fun v15 =>
  gAi h13 v15 0 (7 : Int32) fun v16 =>
  if v16 ≤ x12 then (j10 () h13)
  else bV h13 a0 18 (fun q31 => sX2_writesByte G N (some q31) (32 : Int32) h13) fun v17 h18 =>
  bV h18 a0 18 (fun q30 => sX2_writesName G N (some q30) ((10 : Int32) + x12) h18) fun v19 h20 =>
  bV h20 a0 18 (fun q29 => sX2_tellsClosed G N (some q29) a1 x12 h20) fun v21 h22 =>
  gJ (fun (x23 : Int32) (h24 : Hp) =>
  bV h24 a0 18 (fun q28 => sX2_writesByte G N (some q28) x23 h24) fun v26 h27 =>
  w14 (x12 + (1 : Int32)) h27) fun j25 =>
  if v21 = 0 then (j25 (43 : Int32) h22)
  else j25 (45 : Int32) h22
noncomputable def sX2_writeBulletin (G : GG) (N : Nat) (a0 : Option Nat) (a1 : Int32) (h : Hp) : Out (Int32) :=
  bV h a0 18 (fun q34 => sX2_mayCabin G N (some q34) a1 h) fun v1 h2 =>
  if v1 = 0 then (some (.inl (0 : Int32), h2))
  else gP G h2 a0 18 21 (.int (0 : Int32)) fun h3 =>
  bV h3 a0 18 (fun q33 => sX2_writesName G N (some q33) a1 h3) fun v4 h5 =>
  bV h5 a0 18 (fun q32 => sX2_writesByte G N (some q32) (58 : Int32) h5) fun v6 h7 =>
  gJ (fun (x8 : Unit) (h9 : Hp) =>
  gFi h9 a0 18 21 fun v11 =>
  some (.inl v11, h9)) fun j10 =>
  gLp (bX2_writeBulletin_28 G N a0 a1 j10) N (0 : Int32) h7
abbrev mX2_writeBulletin : MI := (RX2, cX2_writeBulletin, 3, (some .int), [], 6, 139, "writeBulletin")
theorem tX2_writeBulletin {G : GG} {l : Launch} (hs : l.stackTraces = false) {N : Nat} {a0 : Option Nat} {a1 : Int32} {h : Hp} {r : Int32 ⊕ Nat} {hf : Hp} (ho : sX2_writeBulletin G N a0 a1 h = some (r, hf)) : gMet G l yX2_writeBulletin (ws_ yX2_writeBulletin cX2_writeBulletin 3 (some .int)) 6 139 [gr a0, gi a1] h cvI r hf := by
  refine gMet.of ho hs (plainFor_of_name pn_X2) rfl rfl (gbl rfl) fun X => ?_
  show gT G l X mX2_writeBulletin cvI r hf 0 [(0, gr a0), (1, gi a1)] [] h (sX2_writeBulletin G N a0 a1 h)
  delta sX2_writeBulletin
  refine g_aload_n (pc := 0) (x := a0) 0 rfl rfl dX2_writeBulletin_0 ?_
  refine g_iload_n (pc := 1) (x := a1) 1 rfl rfl dX2_writeBulletin_1 ?_
  refine g_bVi (pc := 2) (y := yX2_mayCabin) (ws := ws_ yX2_mayCabin cX2_mayCabin 2 (some .boolean)) (fr := 2) (lo := 45) (as := [gi a1]) (st := []) (g_no) rfl (fun _ _ _ e => tX2_mayCabin hs e) (fun K _ _ _ hq hM R e1 e2 => g_runV (M := mX2_writeBulletin) (pc := 2) (y := yX2_mayCabin) (bytes := cX2_mayCabin) (maxL := 2) (ret := (some .boolean)) (fr := 2) (lo := 45) (as := [gi a1]) (st := []) hq (C := "FlareSlopesModel") rfl gy_X2_mayCabin (gbl rfl) (gbl rfl) (gbl rfl) q4324 q4326 qs105 dX2_writeBulletin_2 K hM R e1 e2) fun v1 h2 => ?_
  refine g_if_ne (pc := 5) (tgt := 10) rfl dX2_writeBulletin_5 ?_ ?_
  · refine g_iconst (pc := 8) (v := (0 : Int32)) ic_0 dX2_writeBulletin_8 ?_
    exact g_ireturn (pc := 9) rfl dX2_writeBulletin_9
  refine g_aload_n (pc := 10) (x := a0) 0 rfl rfl dX2_writeBulletin_10 ?_
  refine g_iconst (pc := 11) (v := (0 : Int32)) ic_0 dX2_writeBulletin_11 ?_
  refine g_put (pc := 12) k_18 (gblt rfl) lk_X2_377_18 rfl rfl (gNi _) dX2_writeBulletin_12 fun h3 => ?_
  refine g_aload_n (pc := 15) (x := a0) 0 rfl rfl dX2_writeBulletin_15 ?_
  refine g_iload_n (pc := 16) (x := a1) 1 rfl rfl dX2_writeBulletin_16 ?_
  refine g_bVu (pc := 17) (y := yX2_writesName) (ws := ws_ yX2_writesName cX2_writesName 6 none) (fr := 1) (lo := 21) (as := [gi a1]) (st := []) (g_no) rfl (fun _ _ _ e => tX2_writesName hs e) (fun K _ _ _ hq hM R e1 e2 => g_runV (M := mX2_writeBulletin) (pc := 17) (y := yX2_writesName) (bytes := cX2_writesName) (maxL := 6) (ret := none) (fr := 1) (lo := 21) (as := [gi a1]) (st := []) hq (C := "FlareSlopesModel") rfl gy_X2_writesName (gbl rfl) (gbl rfl) (gbl rfl) q4526 q4528 qs122 dX2_writeBulletin_17 K hM R e1 e2) fun v4 h5 => ?_
  refine g_aload_n (pc := 20) (x := a0) 0 rfl rfl dX2_writeBulletin_20 ?_
  refine g_bipush (pc := 21) (v := (58 : Int32)) bc_58 dX2_writeBulletin_21 ?_
  refine g_bVu (pc := 23) (y := yX2_writesByte) (ws := ws_ yX2_writesByte cX2_writesByte 2 none) (fr := 0) (lo := 0) (as := [gi (58 : Int32)]) (st := []) (g_no) rfl (fun _ _ _ e => tX2_writesByte hs e) (fun K _ _ _ hq hM R e1 e2 => g_runV (M := mX2_writeBulletin) (pc := 23) (y := yX2_writesByte) (bytes := cX2_writesByte) (maxL := 2) (ret := none) (fr := 0) (lo := 0) (as := [gi (58 : Int32)]) (st := []) hq (C := "FlareSlopesModel") rfl gy_X2_writesByte (gbl rfl) (gbl rfl) (gbl rfl) q4531 q4533 qs123 dX2_writeBulletin_23 K hM R e1 e2) fun v6 h7 => ?_
  refine g_iconst (pc := 26) (v := (0 : Int32)) ic_0 dX2_writeBulletin_26 ?_
  refine g_istore_n (pc := 27) (lv' := [(2, gi (0 : Int32)), (0, gr a0), (1, gi a1)]) [0, 1, 2] rfl rfl (gblt rfl) dX2_writeBulletin_27 ?_
  refine g_join 79 (fun (x8 : Unit) => [(0, gr a0)]) (fun (x8 : Unit) => []) (fun x8 h9 => ?_) (fun j10 Hj10 => ?_)
  · refine g_aload_n (pc := 79) (x := a0) 0 rfl rfl dX2_writeBulletin_79 ?_
    refine g_getfi (pc := 80) k_18 (gblt rfl) lk_X2_377_18 dX2_writeBulletin_80 fun v11 => ?_
    exact g_ireturn (pc := 83) rfl dX2_writeBulletin_83
  refine g_sub (lv' := [(0, gr a0), (1, gi a1), (2, gi (0 : Int32))]) [1, 2, 0] rfl ?_
  refine g_loop (pc := 28) (fun (x12 : Int32) => [(0, gr a0), (1, gi a1), (2, gi x12)]) (fun (_ : Int32) => []) (fun w14 Hw14 x12 h13 => ?_) N (0 : Int32) h7
  delta bX2_writeBulletin_28
  refine g_iload_n (pc := 28) (x := x12) 2 rfl rfl dX2_writeBulletin_28 ?_
  refine g_aload_n (pc := 29) (x := a0) 0 rfl rfl dX2_writeBulletin_29 ?_
  refine g_getfr (pc := 30) k_18 (gblt rfl) lk_X2_9_18 dX2_writeBulletin_30 fun v15 => ?_
  refine g_bipush (pc := 33) (v := (7 : Int32)) bc_7 dX2_writeBulletin_33 ?_
  refine g_iaload (pc := 35) rfl dX2_writeBulletin_35 fun v16 => ?_
  refine g_icmp_ge (pc := 36) (tgt := 79) rfl dX2_writeBulletin_36 ?_ ?_
  · exact g_sub [0] rfl (Hj10 () h13)
  refine g_aload_n (pc := 39) (x := a0) 0 rfl rfl dX2_writeBulletin_39 ?_
  refine g_bipush (pc := 40) (v := (32 : Int32)) bc_32 dX2_writeBulletin_40 ?_
  refine g_bVu (pc := 42) (y := yX2_writesByte) (ws := ws_ yX2_writesByte cX2_writesByte 2 none) (fr := 0) (lo := 0) (as := [gi (32 : Int32)]) (st := []) (g_no) rfl (fun _ _ _ e => tX2_writesByte hs e) (fun K _ _ _ hq hM R e1 e2 => g_runV (M := mX2_writeBulletin) (pc := 42) (y := yX2_writesByte) (bytes := cX2_writesByte) (maxL := 2) (ret := none) (fr := 0) (lo := 0) (as := [gi (32 : Int32)]) (st := []) hq (C := "FlareSlopesModel") rfl gy_X2_writesByte (gbl rfl) (gbl rfl) (gbl rfl) q4531 q4533 qs123 dX2_writeBulletin_42 K hM R e1 e2) fun v17 h18 => ?_
  refine g_aload_n (pc := 45) (x := a0) 0 rfl rfl dX2_writeBulletin_45 ?_
  refine g_bipush (pc := 46) (v := (10 : Int32)) bc_10 dX2_writeBulletin_46 ?_
  refine g_iload_n (pc := 48) (x := x12) 2 rfl rfl dX2_writeBulletin_48 ?_
  refine g_iadd (pc := 49) dX2_writeBulletin_49 ?_
  refine g_bVu (pc := 50) (y := yX2_writesName) (ws := ws_ yX2_writesName cX2_writesName 6 none) (fr := 1) (lo := 21) (as := [gi ((10 : Int32) + x12)]) (st := []) (g_no) rfl (fun _ _ _ e => tX2_writesName hs e) (fun K _ _ _ hq hM R e1 e2 => g_runV (M := mX2_writeBulletin) (pc := 50) (y := yX2_writesName) (bytes := cX2_writesName) (maxL := 6) (ret := none) (fr := 1) (lo := 21) (as := [gi ((10 : Int32) + x12)]) (st := []) hq (C := "FlareSlopesModel") rfl gy_X2_writesName (gbl rfl) (gbl rfl) (gbl rfl) q4526 q4528 qs122 dX2_writeBulletin_50 K hM R e1 e2) fun v19 h20 => ?_
  refine g_aload_n (pc := 53) (x := a0) 0 rfl rfl dX2_writeBulletin_53 ?_
  refine g_aload_n (pc := 54) (x := a0) 0 rfl rfl dX2_writeBulletin_54 ?_
  refine g_iload_n (pc := 55) (x := a1) 1 rfl rfl dX2_writeBulletin_55 ?_
  refine g_iload_n (pc := 56) (x := x12) 2 rfl rfl dX2_writeBulletin_56 ?_
  refine g_bVi (pc := 57) (y := yX2_tellsClosed) (ws := ws_ yX2_tellsClosed cX2_tellsClosed 4 (some .boolean)) (fr := 5) (lo := 116) (as := [gi a1, gi x12]) (st := [gr a0]) (g_no) rfl (fun _ _ _ e => tX2_tellsClosed hs e) (fun K _ _ _ hq hM R e1 e2 => g_runV (M := mX2_writeBulletin) (pc := 57) (y := yX2_tellsClosed) (bytes := cX2_tellsClosed) (maxL := 4) (ret := (some .boolean)) (fr := 5) (lo := 116) (as := [gi a1, gi x12]) (st := [gr a0]) hq (C := "FlareSlopesModel") rfl gy_X2_tellsClosed (gbl rfl) (gbl rfl) (gbl rfl) q4387 q4389 qs110 dX2_writeBulletin_57 K hM R e1 e2) fun v21 h22 => ?_
  refine g_join 70 (fun (x23 : Int32) => [(0, gr a0), (1, gi a1), (2, gi x12)]) (fun (x23 : Int32) => [gi x23, gr a0]) (fun x23 h24 => ?_) (fun j25 Hj25 => ?_)
  · refine g_bVu (pc := 70) (y := yX2_writesByte) (ws := ws_ yX2_writesByte cX2_writesByte 2 none) (fr := 0) (lo := 0) (as := [gi x23]) (st := []) (g_no) rfl (fun _ _ _ e => tX2_writesByte hs e) (fun K _ _ _ hq hM R e1 e2 => g_runV (M := mX2_writeBulletin) (pc := 70) (y := yX2_writesByte) (bytes := cX2_writesByte) (maxL := 2) (ret := none) (fr := 0) (lo := 0) (as := [gi x23]) (st := []) hq (C := "FlareSlopesModel") rfl gy_X2_writesByte (gbl rfl) (gbl rfl) (gbl rfl) q4531 q4533 qs123 dX2_writeBulletin_70 K hM R e1 e2) fun v26 h27 => ?_
    refine g_iinc (pc := 73) (v := x12 + (1 : Int32)) 2 rfl (ii_1 _) (lv' := [(2, gi (x12 + (1 : Int32))), (0, gr a0), (1, gi a1)]) [0, 1, 2] rfl (gblt rfl) dX2_writeBulletin_73 ?_
    refine g_goto (pc := 76) (tgt := 28) rfl dX2_writeBulletin_76 ?_
    exact g_sub [1, 2, 0] rfl (Hw14 (x12 + (1 : Int32)) h27)
  refine g_if_eq (pc := 60) (tgt := 68) rfl dX2_writeBulletin_60 ?_ ?_
  · refine g_bipush (pc := 68) (v := (43 : Int32)) bc_43 dX2_writeBulletin_68 ?_
    exact Hj25 (43 : Int32) h22
  refine g_bipush (pc := 63) (v := (45 : Int32)) bc_45 dX2_writeBulletin_63 ?_
  refine g_goto (pc := 65) (tgt := 70) rfl dX2_writeBulletin_65 ?_
  exact Hj25 (45 : Int32) h22
/-! java/lang/Integer.stringSize(I)I -/
noncomputable def bJ20_stringSize_16 (G : GG) (N : Nat) (x1 : Int32 × Int32) (j6 : (Int32) → Hp → Out (Int32)) (j9 : (Unit) → Hp → Out (Int32)) (w12 : (Int32 × Int32) → Hp → Out (Int32)) (x10 : Int32 × Int32) (h11 : Hp) : Out (Int32) :=
  if (10 : Int32) ≤ x10.2 then (j9 () h11)
  else if x1.1 ≤ x10.1 then (gLet ((10 : Int32) * x10.1) fun v13 =>
  w12 (v13, x10.2 + (1 : Int32)) h11)
  else j6 x10.2 h11
noncomputable def sJ20_stringSize (G : GG) (N : Nat) (a0 : Int32) (h : Hp) : Out (Int32) :=
  gJ (fun (x1 : Int32 × Int32) (h2 : Hp) =>
  gJ (fun (x4 : Int32) (h5 : Hp) =>
  some (.inl (x4 + x1.2), h5)) fun j6 =>
  gJ (fun (x7 : Unit) (h8 : Hp) =>
  some (.inl ((10 : Int32) + x1.2), h8)) fun j9 =>
  gLp (bJ20_stringSize_16 G N x1 j6 j9) N ((-10 : Int32), (1 : Int32)) h2) fun j3 =>
  if a0 < 0 then (j3 (a0, (1 : Int32)) h)
  else gLet (-a0) fun v14 =>
  j3 (v14, (0 : Int32)) h
abbrev mJ20_stringSize : MI := (RJ20, cJ20_stringSize, 4, (some .int), [], 0, 0, "stringSize")
theorem tJ20_stringSize {G : GG} {l : Launch} (hs : l.stackTraces = false) {N : Nat} {a0 : Int32} {h : Hp} {r : Int32 ⊕ Nat} {hf : Hp} (ho : sJ20_stringSize G N a0 h = some (r, hf)) : gMet G l yJ20_stringSize (ws_ yJ20_stringSize cJ20_stringSize 4 (some .int)) 0 0 [gi a0] h cvI r hf := by
  refine gMet.of ho hs (plainFor_of_name pn_J20) rfl rfl (gbl rfl) fun X => ?_
  show gT G l X mJ20_stringSize cvI r hf 0 [(0, gi a0)] [] h (sJ20_stringSize G N a0 h)
  delta sJ20_stringSize
  refine g_iconst (pc := 0) (v := (1 : Int32)) ic_1 dJ20_stringSize_0 ?_
  refine g_istore_n (pc := 1) (lv' := [(1, gi (1 : Int32)), (0, gi a0)]) [0, 1] rfl rfl (gblt rfl) dJ20_stringSize_1 ?_
  refine g_iload_n (pc := 2) (x := a0) 1 rfl rfl dJ20_stringSize_2 ?_
  refine g_join 11 (fun (x1 : Int32 × Int32) => [(0, gi x1.1), (1, gi x1.2)]) (fun (x1 : Int32 × Int32) => []) (fun x1 h2 => ?_) (fun j3 Hj3 => ?_)
  · refine g_bipush (pc := 11) (v := (-10 : Int32)) bc_m10 dJ20_stringSize_11 ?_
    refine g_istore_n (pc := 13) (lv' := [(2, gi (-10 : Int32)), (0, gi x1.1), (1, gi x1.2)]) [0, 1, 2] rfl rfl (gblt rfl) dJ20_stringSize_13 ?_
    refine g_iconst (pc := 14) (v := (1 : Int32)) ic_1 dJ20_stringSize_14 ?_
    refine g_istore_n (pc := 15) (lv' := [(3, gi (1 : Int32)), (2, gi (-10 : Int32)), (0, gi x1.1), (1, gi x1.2)]) [0, 1, 2, 3] rfl rfl (gblt rfl) dJ20_stringSize_15 ?_
    refine g_join 27 (fun (x4 : Int32) => [(1, gi x1.2), (3, gi x4)]) (fun (x4 : Int32) => []) (fun x4 h5 => ?_) (fun j6 Hj6 => ?_)
    · refine g_iload_n (pc := 27) (x := x4) 1 rfl rfl dJ20_stringSize_27 ?_
      refine g_iload_n (pc := 28) (x := x1.2) 0 rfl rfl dJ20_stringSize_28 ?_
      refine g_iadd (pc := 29) dJ20_stringSize_29 ?_
      exact g_ireturn (pc := 30) rfl dJ20_stringSize_30
    refine g_join 42 (fun (x7 : Unit) => [(1, gi x1.2)]) (fun (x7 : Unit) => []) (fun x7 h8 => ?_) (fun j9 Hj9 => ?_)
    · refine g_bipush (pc := 42) (v := (10 : Int32)) bc_10 dJ20_stringSize_42 ?_
      refine g_iload_n (pc := 44) (x := x1.2) 0 rfl rfl dJ20_stringSize_44 ?_
      refine g_iadd (pc := 45) dJ20_stringSize_45 ?_
      exact g_ireturn (pc := 46) rfl dJ20_stringSize_46
    refine g_sub (lv' := [(0, gi x1.1), (1, gi x1.2), (2, gi (-10 : Int32)), (3, gi (1 : Int32))]) [2, 3, 1, 0] rfl ?_
    refine g_loop (pc := 16) (fun (x10 : Int32 × Int32) => [(0, gi x1.1), (1, gi x1.2), (2, gi x10.1), (3, gi x10.2)]) (fun (_ : Int32 × Int32) => []) (fun w12 Hw12 x10 h11 => ?_) N ((-10 : Int32), (1 : Int32)) h2
    delta bJ20_stringSize_16
    refine g_iload_n (pc := 16) (x := x10.2) 3 rfl rfl dJ20_stringSize_16 ?_
    refine g_bipush (pc := 17) (v := (10 : Int32)) bc_10 dJ20_stringSize_17 ?_
    refine g_icmp_ge (pc := 19) (tgt := 42) rfl dJ20_stringSize_19 ?_ ?_
    · exact g_sub [1] rfl (Hj9 () h11)
    refine g_iload_n (pc := 22) (x := x1.1) 0 rfl rfl dJ20_stringSize_22 ?_
    refine g_iload_n (pc := 23) (x := x10.1) 2 rfl rfl dJ20_stringSize_23 ?_
    refine g_icmp_le (pc := 24) (tgt := 31) rfl dJ20_stringSize_24 ?_ ?_
    rotate_left
    · exact g_sub [1, 3] rfl (Hj6 x10.2 h11)
    refine g_bipush (pc := 31) (v := (10 : Int32)) bc_10 dJ20_stringSize_31 ?_
    refine g_iload_n (pc := 33) (x := x10.1) 2 rfl rfl dJ20_stringSize_33 ?_
    refine g_imul (pc := 34) dJ20_stringSize_34 ?_
    refine g_leti fun v13 => ?_
    refine g_istore_n (pc := 35) (lv' := [(2, gi v13), (0, gi x1.1), (1, gi x1.2), (3, gi x10.2)]) [0, 1, 2, 3] rfl rfl (gblt rfl) dJ20_stringSize_35 ?_
    refine g_iinc (pc := 36) (v := x10.2 + (1 : Int32)) 3 rfl (ii_1 _) (lv' := [(3, gi (x10.2 + (1 : Int32))), (2, gi v13), (0, gi x1.1), (1, gi x1.2)]) [0, 1, 2, 3] rfl (gblt rfl) dJ20_stringSize_36 ?_
    refine g_goto (pc := 39) (tgt := 16) rfl dJ20_stringSize_39 ?_
    exact g_sub [2, 3, 1, 0] rfl (Hw12 (v13, x10.2 + (1 : Int32)) h11)
  refine g_if_lt (pc := 3) (tgt := 11) rfl dJ20_stringSize_3 ?_ ?_
  · exact g_sub [1, 0] rfl (Hj3 (a0, (1 : Int32)) h)
  refine g_iconst (pc := 6) (v := (0 : Int32)) ic_0 dJ20_stringSize_6 ?_
  refine g_istore_n (pc := 7) (lv' := [(1, gi (0 : Int32)), (0, gi a0)]) [0, 1] rfl rfl (gblt rfl) dJ20_stringSize_7 ?_
  refine g_iload_n (pc := 8) (x := a0) 1 rfl rfl dJ20_stringSize_8 ?_
  refine g_ineg (pc := 9) dJ20_stringSize_9 ?_
  refine g_leti fun v14 => ?_
  refine g_istore_n (pc := 10) (lv' := [(0, gi v14), (1, gi (0 : Int32))]) [0, 1] rfl rfl (gblt rfl) dJ20_stringSize_10 ?_
  exact Hj3 (v14, (0 : Int32)) h
/-! java/lang/Integer.getChars(II[B)I -/
noncomputable def bJ20_getChars_22 (G : GG) (N : Nat) (a2 : Option Nat) (j9 : (Int32 × Int32) → Hp → Out (Int32)) (w20 : (Int32 × Int32) → Hp → Out (Int32)) (x18 : Int32 × Int32) (h19 : Hp) : Out (Int32) :=
  if (-100 : Int32) < x18.1 then (j9 (x18.1, x18.2) h19)
  else gDv x18.1 (100 : Int32) fun v21 =>
  gLet ((v21 * (100 : Int32)) - x18.1) fun v22 =>
  gAi h19 (some (G.2.2.2.2 12)) 1 v22 fun v23 =>
  gSb G h19 a2 1 (x18.2 + (-1 : Int32)) v23 fun h24 =>
  gAi h24 (some (G.2.2.2.2 13)) 1 v22 fun v25 =>
  gSb G h24 a2 1 ((x18.2 + (-1 : Int32)) + (-1 : Int32)) v25 fun h26 =>
  w20 (v21, (x18.2 + (-1 : Int32)) + (-1 : Int32)) h26
noncomputable def sJ20_getChars (G : GG) (N : Nat) (a0 : Int32) (a1 : Int32) (a2 : Option Nat) (h : Hp) : Out (Int32) :=
  gJ (fun (x1 : Int32) (h2 : Hp) =>
  gJ (fun (x4 : Int32) (h5 : Hp) =>
  gJ (fun (x7 : Int32 × Int32) (h8 : Hp) =>
  gAi h8 (some (G.2.2.2.2 12)) 1 (-x7.1) fun v10 =>
  gSb G h8 a2 1 (x7.2 + (-1 : Int32)) v10 fun h11 =>
  gJ (fun (x12 : Int32) (h13 : Hp) =>
  if x1 = 0 then (some (.inl x12, h13))
  else gSb G h13 a2 1 (x12 + (-1 : Int32)) (45 : Int32) fun h15 =>
  some (.inl (x12 + (-1 : Int32)), h15)) fun j14 =>
  if (-9 : Int32) ≤ x7.1 then (j14 (x7.2 + (-1 : Int32)) h11)
  else gAi h11 (some (G.2.2.2.2 13)) 1 (-x7.1) fun v16 =>
  gSb G h11 a2 1 ((x7.2 + (-1 : Int32)) + (-1 : Int32)) v16 fun h17 =>
  j14 ((x7.2 + (-1 : Int32)) + (-1 : Int32)) h17) fun j9 =>
  gLp (bJ20_getChars_22 G N a2 j9) N (x4, a1) h5) fun j6 =>
  if x1 = 0 then (gLet (-a0) fun v27 =>
  j6 v27 h2)
  else j6 a0 h2) fun j3 =>
  if 0 ≤ a0 then (j3 (0 : Int32) h)
  else j3 (1 : Int32) h
abbrev mJ20_getChars : MI := (RJ20, cJ20_getChars, 7, (some .int), [], 0, 0, "getChars")
theorem tJ20_getChars {G : GG} {l : Launch} (hs : l.stackTraces = false) {N : Nat} {a0 : Int32} {a1 : Int32} {a2 : Option Nat} {h : Hp} {r : Int32 ⊕ Nat} {hf : Hp} (ho : sJ20_getChars G N a0 a1 a2 h = some (r, hf)) : gMet G l yJ20_getChars (ws_ yJ20_getChars cJ20_getChars 7 (some .int)) 0 0 [gi a0, gi a1, gr a2] h cvI r hf := by
  refine gMet.of ho hs (plainFor_of_name pn_J20) rfl rfl (gbl rfl) fun X => ?_
  show gT G l X mJ20_getChars cvI r hf 0 [(0, gi a0), (1, gi a1), (2, gr a2)] [] h (sJ20_getChars G N a0 a1 a2 h)
  delta sJ20_getChars
  refine g_iload_n (pc := 0) (x := a1) 1 rfl rfl dJ20_getChars_0 ?_
  refine g_istore (pc := 1) (lv' := [(5, gi a1), (0, gi a0), (2, gr a2)]) [0, 1, 3] rfl (gblt rfl) dJ20_getChars_1 ?_
  refine g_iload_n (pc := 3) (x := a0) 1 rfl rfl dJ20_getChars_3 ?_
  refine g_join 12 (fun (x1 : Int32) => [(0, gi a0), (2, gr a2), (5, gi a1)]) (fun (x1 : Int32) => [gi x1]) (fun x1 h2 => ?_) (fun j3 Hj3 => ?_)
  · refine g_istore (pc := 12) (lv' := [(6, gi x1), (0, gi a0), (2, gr a2), (5, gi a1)]) [0, 1, 2, 3] rfl (gblt rfl) dJ20_getChars_12 ?_
    refine g_iload (pc := 14) (x := x1) 0 rfl dJ20_getChars_14 ?_
    refine g_join 22 (fun (x4 : Int32) => [(0, gi x4), (2, gr a2), (5, gi a1), (6, gi x1)]) (fun (x4 : Int32) => []) (fun x4 h5 => ?_) (fun j6 Hj6 => ?_)
    · refine g_join 72 (fun (x7 : Int32 × Int32) => [(0, gi x7.1), (2, gr a2), (5, gi x7.2), (6, gi x1)]) (fun (x7 : Int32 × Int32) => []) (fun x7 h8 => ?_) (fun j9 Hj9 => ?_)
      · refine g_aload_n (pc := 72) (x := a2) 1 rfl rfl dJ20_getChars_72 ?_
        refine g_iinc (pc := 73) (v := x7.2 + (-1 : Int32)) 2 rfl (ii_m1 _) (lv' := [(5, gi (x7.2 + (-1 : Int32))), (0, gi x7.1), (2, gr a2), (6, gi x1)]) [0, 1, 2, 3] rfl (gblt rfl) dJ20_getChars_73 ?_
        refine g_iload (pc := 76) (x := (x7.2 + (-1 : Int32))) 0 rfl dJ20_getChars_76 ?_
        refine g_gets (pc := 78) (sv := .inr 12) (w := gr (some (G.2.2.2.2 12))) sfl_8 rfl ⟨Or.inl q773, Or.inl rfl⟩ dJ20_getChars_78 ?_
        refine g_iload_n (pc := 81) (x := x7.1) 1 rfl rfl dJ20_getChars_81 ?_
        refine g_ineg (pc := 82) dJ20_getChars_82 ?_
        refine g_baload (pc := 83) rfl dJ20_getChars_83 fun v10 => ?_
        refine g_bastore (pc := 84) rfl dJ20_getChars_84 fun h11 => ?_
        refine g_iload_n (pc := 85) (x := x7.1) 1 rfl rfl dJ20_getChars_85 ?_
        refine g_bipush (pc := 86) (v := (-9 : Int32)) bc_m9 dJ20_getChars_86 ?_
        refine g_join 104 (fun (x12 : Int32) => [(2, gr a2), (5, gi x12), (6, gi x1)]) (fun (x12 : Int32) => []) (fun x12 h13 => ?_) (fun j14 Hj14 => ?_)
        · refine g_iload (pc := 104) (x := x1) 2 rfl dJ20_getChars_104 ?_
          refine g_if_eq (pc := 106) (tgt := 118) rfl dJ20_getChars_106 ?_ ?_
          · refine g_iload (pc := 118) (x := x12) 1 rfl dJ20_getChars_118 ?_
            exact g_ireturn (pc := 120) rfl dJ20_getChars_120
          refine g_aload_n (pc := 109) (x := a2) 0 rfl rfl dJ20_getChars_109 ?_
          refine g_iinc (pc := 110) (v := x12 + (-1 : Int32)) 1 rfl (ii_m1 _) (lv' := [(5, gi (x12 + (-1 : Int32)))]) [0] rfl (gblt rfl) dJ20_getChars_110 ?_
          refine g_iload (pc := 113) (x := (x12 + (-1 : Int32))) 0 rfl dJ20_getChars_113 ?_
          refine g_bipush (pc := 115) (v := (45 : Int32)) bc_45 dJ20_getChars_115 ?_
          refine g_bastore (pc := 117) rfl dJ20_getChars_117 fun h15 => ?_
          refine g_iload (pc := 118) (x := (x12 + (-1 : Int32))) 0 rfl dJ20_getChars_118 ?_
          exact g_ireturn (pc := 120) rfl dJ20_getChars_120
        refine g_icmp_ge (pc := 88) (tgt := 104) rfl dJ20_getChars_88 ?_ ?_
        · exact g_sub [2, 0, 3] rfl (Hj14 (x7.2 + (-1 : Int32)) h11)
        refine g_aload_n (pc := 91) (x := a2) 2 rfl rfl dJ20_getChars_91 ?_
        refine g_iinc (pc := 92) (v := (x7.2 + (-1 : Int32)) + (-1 : Int32)) 0 rfl (ii_m1 _) (lv' := [(5, gi ((x7.2 + (-1 : Int32)) + (-1 : Int32))), (0, gi x7.1), (2, gr a2), (6, gi x1)]) [0, 1, 2, 3] rfl (gblt rfl) dJ20_getChars_92 ?_
        refine g_iload (pc := 95) (x := ((x7.2 + (-1 : Int32)) + (-1 : Int32))) 0 rfl dJ20_getChars_95 ?_
        refine g_gets (pc := 97) (sv := .inr 13) (w := gr (some (G.2.2.2.2 13))) sfl_9 rfl ⟨Or.inl q775, Or.inl rfl⟩ dJ20_getChars_97 ?_
        refine g_iload_n (pc := 100) (x := x7.1) 1 rfl rfl dJ20_getChars_100 ?_
        refine g_ineg (pc := 101) dJ20_getChars_101 ?_
        refine g_baload (pc := 102) rfl dJ20_getChars_102 fun v16 => ?_
        refine g_bastore (pc := 103) rfl dJ20_getChars_103 fun h17 => ?_
        exact g_sub [2, 0, 3] rfl (Hj14 ((x7.2 + (-1 : Int32)) + (-1 : Int32)) h17)
      refine g_loop (pc := 22) (fun (x18 : Int32 × Int32) => [(0, gi x18.1), (2, gr a2), (5, gi x18.2), (6, gi x1)]) (fun (_ : Int32 × Int32) => []) (fun w20 Hw20 x18 h19 => ?_) N (x4, a1) h5
      delta bJ20_getChars_22
      refine g_iload_n (pc := 22) (x := x18.1) 0 rfl rfl dJ20_getChars_22 ?_
      refine g_bipush (pc := 23) (v := (-100 : Int32)) bc_m100 dJ20_getChars_23 ?_
      refine g_icmp_gt (pc := 25) (tgt := 72) rfl dJ20_getChars_25 ?_ ?_
      · exact Hj9 (x18.1, x18.2) h19
      refine g_iload_n (pc := 28) (x := x18.1) 0 rfl rfl dJ20_getChars_28 ?_
      refine g_bipush (pc := 29) (v := (100 : Int32)) bc_100 dJ20_getChars_29 ?_
      refine g_idiv (pc := 31) dJ20_getChars_31 fun v21 => ?_
      refine g_istore_n (pc := 32) (lv' := [(3, gi v21), (0, gi x18.1), (2, gr a2), (5, gi x18.2), (6, gi x1)]) [0, 1, 2, 3, 4] rfl rfl (gblt rfl) dJ20_getChars_32 ?_
      refine g_iload_n (pc := 33) (x := v21) 0 rfl rfl dJ20_getChars_33 ?_
      refine g_bipush (pc := 34) (v := (100 : Int32)) bc_100 dJ20_getChars_34 ?_
      refine g_imul (pc := 36) dJ20_getChars_36 ?_
      refine g_iload_n (pc := 37) (x := x18.1) 1 rfl rfl dJ20_getChars_37 ?_
      refine g_isub (pc := 38) dJ20_getChars_38 ?_
      refine g_leti fun v22 => ?_
      refine g_istore (pc := 39) (lv' := [(4, gi v22), (3, gi v21), (2, gr a2), (5, gi x18.2), (6, gi x1)]) [0, 1, 3, 4, 5] rfl (gblt rfl) dJ20_getChars_39 ?_
      refine g_iload_n (pc := 41) (x := v21) 1 rfl rfl dJ20_getChars_41 ?_
      refine g_istore_n (pc := 42) (lv' := [(0, gi v21), (4, gi v22), (2, gr a2), (5, gi x18.2), (6, gi x1)]) [0, 1, 3, 4, 5] rfl rfl (gblt rfl) dJ20_getChars_42 ?_
      refine g_aload_n (pc := 43) (x := a2) 2 rfl rfl dJ20_getChars_43 ?_
      refine g_iinc (pc := 44) (v := x18.2 + (-1 : Int32)) 3 rfl (ii_m1 _) (lv' := [(5, gi (x18.2 + (-1 : Int32))), (0, gi v21), (4, gi v22), (2, gr a2), (6, gi x1)]) [0, 1, 2, 3, 4] rfl (gblt rfl) dJ20_getChars_44 ?_
      refine g_iload (pc := 47) (x := (x18.2 + (-1 : Int32))) 0 rfl dJ20_getChars_47 ?_
      refine g_gets (pc := 49) (sv := .inr 12) (w := gr (some (G.2.2.2.2 12))) sfl_8 rfl ⟨Or.inl q773, Or.inl rfl⟩ dJ20_getChars_49 ?_
      refine g_iload (pc := 52) (x := v22) 2 rfl dJ20_getChars_52 ?_
      refine g_baload (pc := 54) rfl dJ20_getChars_54 fun v23 => ?_
      refine g_bastore (pc := 55) rfl dJ20_getChars_55 fun h24 => ?_
      refine g_aload_n (pc := 56) (x := a2) 3 rfl rfl dJ20_getChars_56 ?_
      refine g_iinc (pc := 57) (v := (x18.2 + (-1 : Int32)) + (-1 : Int32)) 0 rfl (ii_m1 _) (lv' := [(5, gi ((x18.2 + (-1 : Int32)) + (-1 : Int32))), (0, gi v21), (4, gi v22), (2, gr a2), (6, gi x1)]) [0, 1, 2, 3, 4] rfl (gblt rfl) dJ20_getChars_57 ?_
      refine g_iload (pc := 60) (x := ((x18.2 + (-1 : Int32)) + (-1 : Int32))) 0 rfl dJ20_getChars_60 ?_
      refine g_gets (pc := 62) (sv := .inr 13) (w := gr (some (G.2.2.2.2 13))) sfl_9 rfl ⟨Or.inl q775, Or.inl rfl⟩ dJ20_getChars_62 ?_
      refine g_iload (pc := 65) (x := v22) 2 rfl dJ20_getChars_65 ?_
      refine g_baload (pc := 67) rfl dJ20_getChars_67 fun v25 => ?_
      refine g_bastore (pc := 68) rfl dJ20_getChars_68 fun h26 => ?_
      refine g_goto (pc := 69) (tgt := 22) rfl dJ20_getChars_69 ?_
      exact g_sub [1, 3, 0, 4] rfl (Hw20 (v21, (x18.2 + (-1 : Int32)) + (-1 : Int32)) h26)
    refine g_if_ne (pc := 16) (tgt := 22) rfl dJ20_getChars_16 ?_ ?_
    rotate_left
    · exact g_sub [1, 2, 3, 0] rfl (Hj6 a0 h2)
    refine g_iload_n (pc := 19) (x := a0) 1 rfl rfl dJ20_getChars_19 ?_
    refine g_ineg (pc := 20) dJ20_getChars_20 ?_
    refine g_leti fun v27 => ?_
    refine g_istore_n (pc := 21) (lv' := [(0, gi v27), (6, gi x1), (2, gr a2), (5, gi a1)]) [0, 1, 2, 3] rfl rfl (gblt rfl) dJ20_getChars_21 ?_
    exact g_sub [0, 2, 3, 1] rfl (Hj6 v27 h2)
  refine g_if_ge (pc := 4) (tgt := 11) rfl dJ20_getChars_4 ?_ ?_
  · refine g_iconst (pc := 11) (v := (0 : Int32)) ic_0 dJ20_getChars_11 ?_
    exact g_sub [1, 2, 0] rfl (Hj3 (0 : Int32) h)
  refine g_iconst (pc := 7) (v := (1 : Int32)) ic_1 dJ20_getChars_7 ?_
  refine g_goto (pc := 8) (tgt := 12) rfl dJ20_getChars_8 ?_
  exact g_sub [1, 2, 0] rfl (Hj3 (1 : Int32) h)
/-! java/lang/AbstractStringBuilder.append(I)Ljava/lang/AbstractStringBuilder; -/
noncomputable def sJ2_append_2_c21 (G : GG) (N : Nat) (a0 : Option Nat) (a1 : Int32) (h : Hp) : Out (Option Nat) :=
  gFi h a0 21 3 fun v1 =>
  bnd (sJ20_stringSize G N a1 h) fun v2 h3 =>
  gLet (v1 + v2) fun v4 =>
  bV h3 a0 21 (fun q14 => sJ2_ensureCapacityInternal_c21 G N (some q14) v4 h3) fun v5 h6 =>
  bV h6 a0 21 (fun q13 => sJ2_isLatin1_c21 G N (some q13) h6) fun v7 h8 =>
  if v7 = 0 then (none)
  else gFr h8 a0 21 0 fun v9 =>
  bnd (sJ20_getChars G N a1 v4 v9 h8) fun v10 h11 =>
  gP G h11 a0 21 3 (.int v4) fun h12 =>
  some (.inl a0, h12)
abbrev mJ2_append_2_c21 : MI := (RJ2, cJ2_append_2, 4, (some (.object "java/lang/AbstractStringBuilder")), [], 4, 91, "append")
theorem tJ2_append_2_c21 {G : GG} {l : Launch} (hs : l.stackTraces = false) {N : Nat} {a0 : Option Nat} {a1 : Int32} {h : Hp} {r : Option Nat ⊕ Nat} {hf : Hp} (ho : sJ2_append_2_c21 G N a0 a1 h = some (r, hf)) : gMet G l yJ2_append_2 (ws_ yJ2_append_2 cJ2_append_2 4 (some (.object "java/lang/AbstractStringBuilder"))) 4 91 [gr a0, gi a1] h cvR r hf := by
  refine gMet.of ho hs (plainFor_of_name pn_J2) rfl rfl (gbl rfl) fun X => ?_
  show gT G l X mJ2_append_2_c21 cvR r hf 0 [(0, gr a0), (1, gi a1)] [] h (sJ2_append_2_c21 G N a0 a1 h)
  delta sJ2_append_2_c21
  refine g_aload_n (pc := 0) (x := a0) 0 rfl rfl dJ2_append_2_0 ?_
  refine g_getfi (pc := 1) k_21 (gblt rfl) lk_J2_79_21 dJ2_append_2_1 fun v1 => ?_
  refine g_istore_n (pc := 4) (lv' := [(2, gi v1), (0, gr a0), (1, gi a1)]) [0, 1, 2] rfl rfl (gblt rfl) dJ2_append_2_4 ?_
  refine g_iload_n (pc := 5) (x := v1) 0 rfl rfl dJ2_append_2_5 ?_
  refine g_iload_n (pc := 6) (x := a1) 2 rfl rfl dJ2_append_2_6 ?_
  refine g_bi (pc := 7) (y := yJ20_stringSize) (ws := ws_ yJ20_stringSize cJ20_stringSize 4 (some .int)) (fr := 0) (lo := 0) (as := [gi a1]) (st := [gi v1]) (g_no) rfl (fun _ _ e => tJ20_stringSize hs e) (fun K _ _ hM R e1 e2 => g_runS (M := mJ2_append_2_c21) (pc := 7) (y := yJ20_stringSize) (bytes := cJ20_stringSize) (maxL := 4) (ret := (some .int)) (fr := 0) (lo := 0) (as := [gi a1]) (st := [gi v1]) gy_J20_stringSize (gbl rfl) (gbl rfl) (gbl rfl) q767 q768 dJ2_append_2_7 K hM R e1 e2) fun v2 h3 => ?_
  refine g_iadd (pc := 10) dJ2_append_2_10 ?_
  refine g_leti fun v4 => ?_
  refine g_istore_n (pc := 11) (lv' := [(3, gi v4), (0, gr a0), (1, gi a1)]) [0, 2, 3] rfl rfl (gblt rfl) dJ2_append_2_11 ?_
  refine g_aload_n (pc := 12) (x := a0) 1 rfl rfl dJ2_append_2_12 ?_
  refine g_iload_n (pc := 13) (x := v4) 0 rfl rfl dJ2_append_2_13 ?_
  refine g_bVu (pc := 14) (y := yJ2_ensureCapacityInternal) (ws := ws_ yJ2_ensureCapacityInternal cJ2_ensureCapacityInternal 3 none) (fr := 3) (lo := 69) (as := [gi v4]) (st := []) (g_no) rfl (fun _ _ _ e => tJ2_ensureCapacityInternal_c21 hs e) (fun K _ _ _ hq hM R e1 e2 => g_runVP (M := mJ2_append_2_c21) (pc := 14) (y := yJ2_ensureCapacityInternal) (bytes := cJ2_ensureCapacityInternal) (maxL := 3) (ret := none) (fr := 3) (lo := 69) (as := [gi v4]) (st := []) hq (C := "java/lang/StringBuilder") rfl gy_J2_ensureCapacityInternal (gbl rfl) (gbl rfl) (gbl rfl) q626 q4618 q627 q628 dJ2_append_2_14 K hM R e1 e2) fun v5 h6 => ?_
  refine g_aload_n (pc := 17) (x := a0) 1 rfl rfl dJ2_append_2_17 ?_
  refine g_bVi (pc := 18) (y := yJ2_isLatin1) (ws := ws_ yJ2_isLatin1 cJ2_isLatin1 1 (some .boolean)) (fr := 0) (lo := 0) (as := []) (st := []) (g_no) rfl (fun _ _ _ e => tJ2_isLatin1_c21 hs e) (fun K _ _ _ hq hM R e1 e2 => g_runV (M := mJ2_append_2_c21) (pc := 18) (y := yJ2_isLatin1) (bytes := cJ2_isLatin1) (maxL := 1) (ret := (some .boolean)) (fr := 0) (lo := 0) (as := []) (st := []) hq (C := "java/lang/StringBuilder") rfl gy_J2_isLatin1 (gbl rfl) (gbl rfl) (gbl rfl) q661 q662 q664 dJ2_append_2_18 K hM R e1 e2) fun v7 h8 => ?_
  refine g_if_eq (pc := 21) (tgt := 37) rfl dJ2_append_2_21 ?_ ?_
  · exact g_none
  refine g_iload_n (pc := 24) (x := a1) 2 rfl rfl dJ2_append_2_24 ?_
  refine g_iload_n (pc := 25) (x := v4) 0 rfl rfl dJ2_append_2_25 ?_
  refine g_aload_n (pc := 26) (x := a0) 1 rfl rfl dJ2_append_2_26 ?_
  refine g_getfr (pc := 27) k_21 (gblt rfl) lk_J2_15_21 dJ2_append_2_27 fun v9 => ?_
  refine g_bi (pc := 30) (y := yJ20_getChars) (ws := ws_ yJ20_getChars cJ20_getChars 7 (some .int)) (fr := 0) (lo := 0) (as := [gi a1, gi v4, gr v9]) (st := []) (g_no) rfl (fun _ _ e => tJ20_getChars hs e) (fun K _ _ hM R e1 e2 => g_runS (M := mJ2_append_2_c21) (pc := 30) (y := yJ20_getChars) (bytes := cJ20_getChars) (maxL := 7) (ret := (some .int)) (fr := 0) (lo := 0) (as := [gi a1, gi v4, gr v9]) (st := []) gy_J20_getChars (gbl rfl) (gbl rfl) (gbl rfl) q770 q771 dJ2_append_2_30 K hM R e1 e2) fun v10 h11 => ?_
  refine g_pop (pc := 33) rfl dJ2_append_2_33 ?_
  refine g_goto (pc := 34) (tgt := 48) rfl dJ2_append_2_34 ?_
  refine g_aload_n (pc := 48) (x := a0) 1 rfl rfl dJ2_append_2_48 ?_
  refine g_iload_n (pc := 49) (x := v4) 0 rfl rfl dJ2_append_2_49 ?_
  refine g_put (pc := 50) k_21 (gblt rfl) lk_J2_79_21 rfl rfl (gNi _) dJ2_append_2_50 fun h12 => ?_
  refine g_aload_n (pc := 53) (x := a0) 1 rfl rfl dJ2_append_2_53 ?_
  exact g_areturn (pc := 54) rfl (Or.inl ⟨_, rfl⟩) dJ2_append_2_54
/-! java/lang/StringBuilder.append(I)Ljava/lang/StringBuilder; -/
noncomputable def sJ3_append_2 (G : GG) (N : Nat) (a0 : Option Nat) (a1 : Int32) (h : Hp) : Out (Option Nat) :=
  bV h a0 21 (fun q3 => sJ2_append_2_c21 G N (some q3) a1 h) fun v1 h2 =>
  some (.inl a0, h2)
abbrev mJ3_append_2 : MI := (RJ3, cJ3_append_2, 2, (some (.object "java/lang/StringBuilder")), [], 5, 114, "append")
theorem tJ3_append_2 {G : GG} {l : Launch} (hs : l.stackTraces = false) {N : Nat} {a0 : Option Nat} {a1 : Int32} {h : Hp} {r : Option Nat ⊕ Nat} {hf : Hp} (ho : sJ3_append_2 G N a0 a1 h = some (r, hf)) : gMet G l yJ3_append_2 (ws_ yJ3_append_2 cJ3_append_2 2 (some (.object "java/lang/StringBuilder"))) 5 114 [gr a0, gi a1] h cvR r hf := by
  refine gMet.of ho hs (plainFor_of_name pn_J3) rfl rfl (gbl rfl) fun X => ?_
  show gT G l X mJ3_append_2 cvR r hf 0 [(0, gr a0), (1, gi a1)] [] h (sJ3_append_2 G N a0 a1 h)
  delta sJ3_append_2
  refine g_aload_n (pc := 0) (x := a0) 0 rfl rfl dJ3_append_2_0 ?_
  refine g_iload_n (pc := 1) (x := a1) 1 rfl rfl dJ3_append_2_1 ?_
  refine g_bVr (pc := 2) (y := yJ2_append_2) (ws := ws_ yJ2_append_2 cJ2_append_2 4 (some (.object "java/lang/AbstractStringBuilder"))) (fr := 4) (lo := 91) (as := [gi a1]) (st := []) (g_no) rfl (fun _ _ _ e => tJ2_append_2_c21 hs e) (fun K _ _ _ hq hM R e1 e2 => g_runSU (M := mJ3_append_2) (pc := 2) (y := yJ2_append_2) (bytes := cJ2_append_2) (maxL := 4) (ret := (some (.object "java/lang/AbstractStringBuilder"))) (fr := 4) (lo := 91) (as := [gi a1]) (st := []) hq (C := "java/lang/StringBuilder") rfl gy_J2_append_2 (gbl rfl) (gbl rfl) (gbl rfl) q764 q4621 q266 q765 (by decide +kernel) dJ3_append_2_2 K hM R e1 e2) fun v1 h2 => ?_
  refine g_pop (pc := 5) rfl dJ3_append_2_5 ?_
  refine g_aload_n (pc := 6) (x := a0) 0 rfl rfl dJ3_append_2_6 ?_
  exact g_areturn (pc := 7) rfl (Or.inl ⟨_, rfl⟩) dJ3_append_2_7
/-! FlareSlopes.writeVotes(II)I -/
noncomputable def bX1_writeVotes_18 (G : GG) (N : Nat) (a0 : Option Nat) (a2 : Int32) (v1 : Option Nat) (j8 : (Unit) → Hp → Out (Int32)) (w15 : (Int32) → Hp → Out (Int32)) (x13 : Int32) (h14 : Hp) : Out (Int32) :=
  gFr h14 a0 3 4 fun v16 =>
  bV h14 v16 16 (fun q67 => sX3_size G N (some q67) h14) fun v17 h18 =>
  if v17 ≤ x13 then (j8 () h18)
  else gFr h18 v1 7 8 fun v19 =>
  gNew h18 10 [.int 0, .int 0] 2 fun v20 h21 =>
  bI v20 (fun q66 => sX7_init G N (some q66) x13 a2 h21) fun v22 h23 =>
  bV h23 v19 26 (fun q65 => sJ24_get G N (some q65) v20 h23) fun v24 h25 =>
  gCk h25 v24 [17] (gJ (fun (x26 : Unit) (h27 : Hp) =>
  w15 (x13 + (1 : Int32)) h27) fun j28 =>
  if v24 = none then (j28 () h25)
  else gFr h25 a0 3 7 fun v29 =>
  bV h25 v29 21 (fun q64 => sJ3_length G N (some q64) h25) fun v30 h31 =>
  gJ (fun (x32 : Unit) (h33 : Hp) =>
  gFr h33 a0 3 7 fun v35 =>
  gFi h33 v24 17 0 fun v36 =>
  gJ (fun (x37 : Int32) (h38 : Hp) =>
  bV h38 v35 21 (fun q59 => sJ3_append G N (some q59) x37 h38) fun v40 h41 =>
  gFr h41 a0 3 4 fun v42 =>
  gFr h41 v42 16 0 fun v43 =>
  gFr h41 v43 11 0 fun v44 =>
  bV h41 v44 13 (fun q58 => sX6_get G N (some q58) x13 h41) fun v45 h46 =>
  gCk h46 v45 [15] (gFr h46 v45 15 0 fun v47 =>
  bV h46 v40 21 (fun q57 => sJ3_append_3 G N (some q57) v47 h46) fun v48 h49 =>
  bV h49 v48 21 (fun q56 => sJ3_append G N (some q56) (64 : Int32) h49) fun v50 h51 =>
  gFi h51 v24 17 1 fun v52 =>
  bV h51 v50 21 (fun q55 => sJ3_append_2 G N (some q55) v52 h51) fun v53 h54 =>
  j28 () h54)) fun j39 =>
  if v36 = 0 then (j39 (103 : Int32) h33)
  else j39 (114 : Int32) h33) fun j34 =>
  if v30 ≤ 0 then (j34 () h31)
  else gFr h31 a0 3 7 fun v60 =>
  bV h31 v60 21 (fun q63 => sJ3_append G N (some q63) (32 : Int32) h31) fun v61 h62 =>
  j34 () h62)
noncomputable def sX1_writeVotes (G : GG) (N : Nat) (a0 : Option Nat) (a1 : Int32) (a2 : Int32) (h : Hp) : Out (Int32) :=
  bV h a0 3 (fun q69 => sX1_withBoth G N (some q69) a1 a2 h) fun v1 h2 =>
  gFr h2 a0 3 7 fun v3 =>
  bV h2 v3 21 (fun q68 => sJ3_setLength G N (some q68) (0 : Int32) h2) fun v4 h5 =>
  gJ (fun (x6 : Unit) (h7 : Hp) =>
  gFr h7 a0 3 7 fun v9 =>
  bV h7 v9 21 (fun q12 => sJ3_length G N (some q12) h7) fun v10 h11 =>
  some (.inl v10, h11)) fun j8 =>
  gLp (bX1_writeVotes_18 G N a0 a2 v1 j8) N (0 : Int32) h5
abbrev mX1_writeVotes : MI := (RX1, cX1_writeVotes, 6, (some .int), [], 10, 165, "writeVotes")
theorem tX1_writeVotes {G : GG} {l : Launch} (hs : l.stackTraces = false) {N : Nat} {a0 : Option Nat} {a1 : Int32} {a2 : Int32} {h : Hp} {r : Int32 ⊕ Nat} {hf : Hp} (ho : sX1_writeVotes G N a0 a1 a2 h = some (r, hf)) : gMet G l yX1_writeVotes (ws_ yX1_writeVotes cX1_writeVotes 6 (some .int)) 10 165 [gr a0, gi a1, gi a2] h cvI r hf := by
  refine gMet.of ho hs (plainFor_of_name pn_X1) rfl rfl (gbl rfl) fun X => ?_
  show gT G l X mX1_writeVotes cvI r hf 0 [(0, gr a0), (1, gi a1), (2, gi a2)] [] h (sX1_writeVotes G N a0 a1 a2 h)
  delta sX1_writeVotes
  refine g_aload_n (pc := 0) (x := a0) 0 rfl rfl dX1_writeVotes_0 ?_
  refine g_iload_n (pc := 1) (x := a1) 1 rfl rfl dX1_writeVotes_1 ?_
  refine g_iload_n (pc := 2) (x := a2) 2 rfl rfl dX1_writeVotes_2 ?_
  refine g_bVr (pc := 3) (y := yX1_withBoth) (ws := ws_ yX1_withBoth cX1_withBoth 4 (some (.object "FlareSlopes$Cabin"))) (fr := 9) (lo := 142) (as := [gi a1, gi a2]) (st := []) (g_no) rfl (fun _ _ _ e => tX1_withBoth hs e) (fun K _ _ _ hq hM R e1 e2 => g_runV (M := mX1_writeVotes) (pc := 3) (y := yX1_withBoth) (bytes := cX1_withBoth) (maxL := 4) (ret := (some (.object "FlareSlopes$Cabin"))) (fr := 9) (lo := 142) (as := [gi a1, gi a2]) (st := []) hq (C := "FlareSlopes") rfl gy_X1_withBoth (gbl rfl) (gbl rfl) (gbl rfl) q3141 q3143 qs45 dX1_writeVotes_3 K hM R e1 e2) fun v1 h2 => ?_
  refine g_astore_n (pc := 6) (lv' := [(3, gr v1), (0, gr a0), (2, gi a2)]) [0, 1, 3] rfl rfl (gblt rfl) dX1_writeVotes_6 ?_
  refine g_aload_n (pc := 7) (x := a0) 1 rfl rfl dX1_writeVotes_7 ?_
  refine g_getfr (pc := 8) k_3 (gblt rfl) lk_X1_39_3 dX1_writeVotes_8 fun v3 => ?_
  refine g_iconst (pc := 11) (v := (0 : Int32)) ic_0 dX1_writeVotes_11 ?_
  refine g_bVu (pc := 12) (y := yJ3_setLength) (ws := ws_ yJ3_setLength cJ3_setLength 2 none) (fr := 5) (lo := 112) (as := [gi (0 : Int32)]) (st := []) (g_no) rfl (fun _ _ _ e => tJ3_setLength hs e) (fun K _ _ _ hq hM R e1 e2 => g_runV (M := mX1_writeVotes) (pc := 12) (y := yJ3_setLength) (bytes := cJ3_setLength) (maxL := 2) (ret := none) (fr := 5) (lo := 112) (as := [gi (0 : Int32)]) (st := []) hq (C := "java/lang/StringBuilder") rfl gy_J3_setLength (gbl rfl) (gbl rfl) (gbl rfl) q3665 q3666 q3667 dX1_writeVotes_12 K hM R e1 e2) fun v4 h5 => ?_
  refine g_iconst (pc := 15) (v := (0 : Int32)) ic_0 dX1_writeVotes_15 ?_
  refine g_istore (pc := 16) (lv' := [(4, gi (0 : Int32)), (3, gr v1), (0, gr a0), (2, gi a2)]) [0, 1, 2, 3] rfl (gblt rfl) dX1_writeVotes_16 ?_
  refine g_join 148 (fun (x6 : Unit) => [(0, gr a0)]) (fun (x6 : Unit) => []) (fun x6 h7 => ?_) (fun j8 Hj8 => ?_)
  · refine g_aload_n (pc := 148) (x := a0) 0 rfl rfl dX1_writeVotes_148 ?_
    refine g_getfr (pc := 149) k_3 (gblt rfl) lk_X1_39_3 dX1_writeVotes_149 fun v9 => ?_
    refine g_bVi (pc := 152) (y := yJ3_length) (ws := ws_ yJ3_length cJ3_length 1 (some .int)) (fr := 1) (lo := 20) (as := []) (st := []) (g_no) rfl (fun _ _ _ e => tJ3_length hs e) (fun K _ _ _ hq hM R e1 e2 => g_runV (M := mX1_writeVotes) (pc := 152) (y := yJ3_length) (bytes := cJ3_length) (maxL := 1) (ret := (some .int)) (fr := 1) (lo := 20) (as := []) (st := []) hq (C := "java/lang/StringBuilder") rfl gy_J3_length (gbl rfl) (gbl rfl) (gbl rfl) q3721 q735 q4643 dX1_writeVotes_152 K hM R e1 e2) fun v10 h11 => ?_
    exact g_ireturn (pc := 155) rfl dX1_writeVotes_155
  refine g_sub (lv' := [(0, gr a0), (2, gi a2), (3, gr v1), (4, gi (0 : Int32))]) [2, 3, 1, 0] rfl ?_
  refine g_loop (pc := 18) (fun (x13 : Int32) => [(0, gr a0), (2, gi a2), (3, gr v1), (4, gi x13)]) (fun (_ : Int32) => []) (fun w15 Hw15 x13 h14 => ?_) N (0 : Int32) h5
  delta bX1_writeVotes_18
  refine g_iload (pc := 18) (x := x13) 3 rfl dX1_writeVotes_18 ?_
  refine g_aload_n (pc := 20) (x := a0) 0 rfl rfl dX1_writeVotes_20 ?_
  refine g_getfr (pc := 21) k_3 (gblt rfl) lk_X1_56_3 dX1_writeVotes_21 fun v16 => ?_
  refine g_bVi (pc := 24) (y := yX3_size) (ws := ws_ yX3_size cX3_size 1 (some .int)) (fr := 1) (lo := 20) (as := []) (st := [gi x13]) (g_no) rfl (fun _ _ _ e => tX3_size hs e) (fun K _ _ _ hq hM R e1 e2 => g_runV (M := mX1_writeVotes) (pc := 24) (y := yX3_size) (bytes := cX3_size) (maxL := 1) (ret := (some .int)) (fr := 1) (lo := 20) (as := []) (st := [gi x13]) hq (C := "FlareSlopes$State") rfl gy_X3_size (gbl rfl) (gbl rfl) (gbl rfl) q1411 q1412 q1413 dX1_writeVotes_24 K hM R e1 e2) fun v17 h18 => ?_
  refine g_icmp_ge (pc := 27) (tgt := 148) rfl dX1_writeVotes_27 ?_ ?_
  · exact g_sub [0] rfl (Hj8 () h18)
  refine g_aload_n (pc := 30) (x := v1) 2 rfl rfl dX1_writeVotes_30 ?_
  refine g_getfr (pc := 31) k_7 (gblt rfl) lk_X1_205_7 dX1_writeVotes_31 fun v19 => ?_
  refine g_new (pc := 34) k_10 df_10 q2784 q493 q147 dX1_writeVotes_34 fun v20 h21 => ?_
  refine g_dup (pc := 37) rfl dX1_writeVotes_37 ?_
  refine g_iload (pc := 38) (x := x13) 3 rfl dX1_writeVotes_38 ?_
  refine g_iload_n (pc := 40) (x := a2) 1 rfl rfl dX1_writeVotes_40 ?_
  refine g_bIu (pc := 41) (y := yX7_init) (ws := ws_ yX7_init cX7_init 3 none) (fr := 1) (lo := 12) (as := [gi x13, gi a2]) (st := [gr v20, gr v19]) (g_no) rfl (fun _ _ _ e => tX7_init hs e) (fun K _ _ _ hM R e1 e2 => g_runI (M := mX1_writeVotes) (pc := 41) (y := yX7_init) (bytes := cX7_init) (maxL := 3) (ret := none) (fr := 1) (lo := 12) (as := [gi x13, gi a2]) (st := [gr v20, gr v19]) gy_X7_init (gbl rfl) (gbl rfl) (gbl rfl) rfl q3198 q495 rfl dX1_writeVotes_41 K hM R e1 e2) fun v22 h23 => ?_
  refine g_bVr (pc := 44) (y := yJ24_get) (ws := ws_ yJ24_get cJ24_get 3 (some (.object "java/lang/Object"))) (fr := 4) (lo := 88) (as := [gr v20]) (st := []) (g_no) rfl (fun _ _ _ e => tJ24_get hs e) (fun K _ _ _ hq hM R e1 e2 => g_runF (x := ⟨"java/util/Map", "get", "(Ljava/lang/Object;)Ljava/lang/Object;"⟩) (M := mX1_writeVotes) (pc := 44) (y := yJ24_get) (bytes := cJ24_get) (maxL := 3) (ret := (some (.object "java/lang/Object"))) (fr := 4) (lo := 88) (as := [gr v20]) (st := []) hq (C := "java/util/LinkedHashMap") rfl gy_J24_get rfl (gbl rfl) (gbl rfl) (gbl rfl) q3200 q2001 q2000 q2005 q2003 q1613 mhx_java_util_Map q2002 q2004 dX1_writeVotes_44 K hM R e1 e2) fun v24 h25 => ?_
  refine g_checkcast (pc := 49) q1950 as_17_FlareSlopes_Vote dX1_writeVotes_49 ?_
  refine g_astore (pc := 52) (lv' := [(5, gr v24), (0, gr a0), (2, gi a2), (3, gr v1), (4, gi x13)]) [0, 1, 2, 3, 4] rfl (gblt rfl) dX1_writeVotes_52 ?_
  refine g_aload (pc := 54) (x := v24) 0 rfl dX1_writeVotes_54 ?_
  refine g_join 142 (fun (x26 : Unit) => [(0, gr a0), (2, gi a2), (3, gr v1), (4, gi x13)]) (fun (x26 : Unit) => []) (fun x26 h27 => ?_) (fun j28 Hj28 => ?_)
  · refine g_iinc (pc := 142) (v := x13 + (1 : Int32)) 3 rfl (ii_1 _) (lv' := [(4, gi (x13 + (1 : Int32))), (0, gr a0), (2, gi a2), (3, gr v1)]) [0, 1, 2, 3] rfl (gblt rfl) dX1_writeVotes_142 ?_
    refine g_goto (pc := 145) (tgt := 18) rfl dX1_writeVotes_145 ?_
    exact g_sub [1, 2, 3, 0] rfl (Hw15 (x13 + (1 : Int32)) h27)
  refine g_ifnonnull (pc := 56) (tgt := 62) rfl dX1_writeVotes_56 ?_ ?_
  · refine g_goto (pc := 59) (tgt := 142) rfl dX1_writeVotes_59 ?_
    exact g_sub [1, 2, 3, 4] rfl (Hj28 () h25)
  refine g_aload_n (pc := 62) (x := a0) 1 rfl rfl dX1_writeVotes_62 ?_
  refine g_getfr (pc := 63) k_3 (gblt rfl) lk_X1_39_3 dX1_writeVotes_63 fun v29 => ?_
  refine g_bVi (pc := 66) (y := yJ3_length) (ws := ws_ yJ3_length cJ3_length 1 (some .int)) (fr := 1) (lo := 20) (as := []) (st := []) (g_no) rfl (fun _ _ _ e => tJ3_length hs e) (fun K _ _ _ hq hM R e1 e2 => g_runV (M := mX1_writeVotes) (pc := 66) (y := yJ3_length) (bytes := cJ3_length) (maxL := 1) (ret := (some .int)) (fr := 1) (lo := 20) (as := []) (st := []) hq (C := "java/lang/StringBuilder") rfl gy_J3_length (gbl rfl) (gbl rfl) (gbl rfl) q3721 q735 q4643 dX1_writeVotes_66 K hM R e1 e2) fun v30 h31 => ?_
  refine g_join 82 (fun (x32 : Unit) => [(0, gr a0), (2, gi a2), (3, gr v1), (4, gi x13), (5, gr v24)]) (fun (x32 : Unit) => []) (fun x32 h33 => ?_) (fun j34 Hj34 => ?_)
  · refine g_aload_n (pc := 82) (x := a0) 0 rfl rfl dX1_writeVotes_82 ?_
    refine g_getfr (pc := 83) k_3 (gblt rfl) lk_X1_39_3 dX1_writeVotes_83 fun v35 => ?_
    refine g_aload (pc := 86) (x := v24) 4 rfl dX1_writeVotes_86 ?_
    refine g_getfi (pc := 88) k_17 (gblt rfl) lk_X1_233_17 dX1_writeVotes_88 fun v36 => ?_
    refine g_join 101 (fun (x37 : Int32) => [(0, gr a0), (2, gi a2), (3, gr v1), (4, gi x13), (5, gr v24)]) (fun (x37 : Int32) => [gi x37, gr v35]) (fun x37 h38 => ?_) (fun j39 Hj39 => ?_)
    · refine g_bVr (pc := 101) (y := yJ3_append) (ws := ws_ yJ3_append cJ3_append 2 (some (.object "java/lang/StringBuilder"))) (fr := 5) (lo := 112) (as := [gi x37]) (st := []) (g_no) rfl (fun _ _ _ e => tJ3_append hs e) (fun K _ _ _ hq hM R e1 e2 => g_runV (M := mX1_writeVotes) (pc := 101) (y := yJ3_append) (bytes := cJ3_append) (maxL := 2) (ret := (some (.object "java/lang/StringBuilder"))) (fr := 5) (lo := 112) (as := [gi x37]) (st := []) hq (C := "java/lang/StringBuilder") rfl gy_J3_append (gbl rfl) (gbl rfl) (gbl rfl) q1452 q620 q621 dX1_writeVotes_101 K hM R e1 e2) fun v40 h41 => ?_
      refine g_aload_n (pc := 104) (x := a0) 0 rfl rfl dX1_writeVotes_104 ?_
      refine g_getfr (pc := 105) k_3 (gblt rfl) lk_X1_56_3 dX1_writeVotes_105 fun v42 => ?_
      refine g_getfr (pc := 108) k_16 (gblt rfl) lk_X1_129_16 dX1_writeVotes_108 fun v43 => ?_
      refine g_getfr (pc := 111) k_11 (gblt rfl) lk_X1_138_11 dX1_writeVotes_111 fun v44 => ?_
      refine g_iload (pc := 114) (x := x13) 3 rfl dX1_writeVotes_114 ?_
      refine g_bVr (pc := 116) (y := yX6_get) (ws := ws_ yX6_get cX6_get 2 (some (.object "FlareSlopes$Named"))) (fr := 3) (lo := 64) (as := [gi x13]) (st := [gr v40]) (g_no) rfl (fun _ _ _ e => tX6_get hs e) (fun K _ _ _ hq hM R e1 e2 => g_runV (M := mX1_writeVotes) (pc := 116) (y := yX6_get) (bytes := cX6_get) (maxL := 2) (ret := (some (.object "FlareSlopes$Named"))) (fr := 3) (lo := 64) (as := [gi x13]) (st := [gr v40]) hq (C := "FlareSlopes$Register") rfl gy_X6_get (gbl rfl) (gbl rfl) (gbl rfl) q3717 q986 q987 dX1_writeVotes_116 K hM R e1 e2) fun v45 h46 => ?_
      refine g_checkcast (pc := 119) q3718 as_15_FlareSlopes_Spot dX1_writeVotes_119 ?_
      refine g_getfr (pc := 122) k_15 (gblt rfl) lk_X1_475_15 dX1_writeVotes_122 fun v47 => ?_
      refine g_bVr (pc := 125) (y := yJ3_append_3) (ws := ws_ yJ3_append_3 cJ3_append_3 2 (some (.object "java/lang/StringBuilder"))) (fr := 5) (lo := 113) (as := [gr v47]) (st := []) (g_no) rfl (fun _ _ _ e => tJ3_append_3 hs e) (fun K _ _ _ hq hM R e1 e2 => g_runV (M := mX1_writeVotes) (pc := 125) (y := yJ3_append_3) (bytes := cJ3_append_3) (maxL := 2) (ret := (some (.object "java/lang/StringBuilder"))) (fr := 5) (lo := 113) (as := [gr v47]) (st := []) hq (C := "java/lang/StringBuilder") rfl gy_J3_append_3 (gbl rfl) (gbl rfl) (gbl rfl) q3719 q796 q797 dX1_writeVotes_125 K hM R e1 e2) fun v48 h49 => ?_
      refine g_bipush (pc := 128) (v := (64 : Int32)) bc_64 dX1_writeVotes_128 ?_
      refine g_bVr (pc := 130) (y := yJ3_append) (ws := ws_ yJ3_append cJ3_append 2 (some (.object "java/lang/StringBuilder"))) (fr := 5) (lo := 112) (as := [gi (64 : Int32)]) (st := []) (g_no) rfl (fun _ _ _ e => tJ3_append hs e) (fun K _ _ _ hq hM R e1 e2 => g_runV (M := mX1_writeVotes) (pc := 130) (y := yJ3_append) (bytes := cJ3_append) (maxL := 2) (ret := (some (.object "java/lang/StringBuilder"))) (fr := 5) (lo := 112) (as := [gi (64 : Int32)]) (st := []) hq (C := "java/lang/StringBuilder") rfl gy_J3_append (gbl rfl) (gbl rfl) (gbl rfl) q1452 q620 q621 dX1_writeVotes_130 K hM R e1 e2) fun v50 h51 => ?_
      refine g_aload (pc := 133) (x := v24) 4 rfl dX1_writeVotes_133 ?_
      refine g_getfi (pc := 135) k_17 (gblt rfl) lk_X1_394_17 dX1_writeVotes_135 fun v52 => ?_
      refine g_bVr (pc := 138) (y := yJ3_append_2) (ws := ws_ yJ3_append_2 cJ3_append_2 2 (some (.object "java/lang/StringBuilder"))) (fr := 5) (lo := 114) (as := [gi v52]) (st := []) (g_no) rfl (fun _ _ _ e => tJ3_append_2 hs e) (fun K _ _ _ hq hM R e1 e2 => g_runV (M := mX1_writeVotes) (pc := 138) (y := yJ3_append_2) (bytes := cJ3_append_2) (maxL := 2) (ret := (some (.object "java/lang/StringBuilder"))) (fr := 5) (lo := 114) (as := [gi v52]) (st := []) hq (C := "java/lang/StringBuilder") rfl gy_J3_append_2 (gbl rfl) (gbl rfl) (gbl rfl) q3729 q761 q762 dX1_writeVotes_138 K hM R e1 e2) fun v53 h54 => ?_
      refine g_pop (pc := 141) rfl dX1_writeVotes_141 ?_
      exact g_sub [0, 1, 2, 3] rfl (Hj28 () h54)
    refine g_if_eq (pc := 91) (tgt := 99) rfl dX1_writeVotes_91 ?_ ?_
    · refine g_bipush (pc := 99) (v := (103 : Int32)) bc_103 dX1_writeVotes_99 ?_
      exact Hj39 (103 : Int32) h33
    refine g_bipush (pc := 94) (v := (114 : Int32)) bc_114 dX1_writeVotes_94 ?_
    refine g_goto (pc := 96) (tgt := 101) rfl dX1_writeVotes_96 ?_
    exact Hj39 (114 : Int32) h33
  refine g_if_le (pc := 69) (tgt := 82) rfl dX1_writeVotes_69 ?_ ?_
  · exact g_sub [1, 2, 3, 4, 0] rfl (Hj34 () h31)
  refine g_aload_n (pc := 72) (x := a0) 1 rfl rfl dX1_writeVotes_72 ?_
  refine g_getfr (pc := 73) k_3 (gblt rfl) lk_X1_39_3 dX1_writeVotes_73 fun v60 => ?_
  refine g_bipush (pc := 76) (v := (32 : Int32)) bc_32 dX1_writeVotes_76 ?_
  refine g_bVr (pc := 78) (y := yJ3_append) (ws := ws_ yJ3_append cJ3_append 2 (some (.object "java/lang/StringBuilder"))) (fr := 5) (lo := 112) (as := [gi (32 : Int32)]) (st := []) (g_no) rfl (fun _ _ _ e => tJ3_append hs e) (fun K _ _ _ hq hM R e1 e2 => g_runV (M := mX1_writeVotes) (pc := 78) (y := yJ3_append) (bytes := cJ3_append) (maxL := 2) (ret := (some (.object "java/lang/StringBuilder"))) (fr := 5) (lo := 112) (as := [gi (32 : Int32)]) (st := []) hq (C := "java/lang/StringBuilder") rfl gy_J3_append (gbl rfl) (gbl rfl) (gbl rfl) q1452 q620 q621 dX1_writeVotes_78 K hM R e1 e2) fun v61 h62 => ?_
  refine g_pop (pc := 81) rfl dX1_writeVotes_81 ?_
  exact g_sub [1, 2, 3, 4, 0] rfl (Hj34 () h62)
/-! FlareSlopesLaw.writeVotes(LFlareSlopes;II[J)I -/
noncomputable def sX0_writeVotes (G : GG) (N : Nat) (a0 : Option Nat) (a1 : Int32) (a2 : Int32) (a3 : Option Nat) (h : Hp) : Out (Int32) :=
  bVX h a0 3 (fun q4 => sX1_writeVotes G N (some q4) a1 a2 h) (fun v1 h2 =>
  gSl G h2 a3 3 (0 : Int32) (v1.toInt64) fun h3 =>
  some (.inl (0 : Int32), h3)) fun q5 h6 =>
  gSw h6 (some q5) 0 (some (.inl (1 : Int32), h6)) (gSw h6 (some q5) 2 (some (.inl (2 : Int32), h6)) (none))
abbrev mX0_writeVotes : MI := (RX0, cX0_writeVotes, 5, (some .int), [(0, 10, 13, 21), (0, 10, 17, 13)], 11, 190, "writeVotes")
theorem tX0_writeVotes {G : GG} {l : Launch} (hs : l.stackTraces = false) {N : Nat} {a0 : Option Nat} {a1 : Int32} {a2 : Int32} {a3 : Option Nat} {h : Hp} {r : Int32 ⊕ Nat} {hf : Hp} (ho : sX0_writeVotes G N a0 a1 a2 a3 h = some (r, hf)) : gMet G l yX0_writeVotes (wsW_ yX0_writeVotes cX0_writeVotes 5 (some .int) [(0, 10, 13, 21), (0, 10, 17, 13)]) 11 190 [gr a0, gi a1, gi a2, gr a3] h cvI r hf := by
  refine gMet.ofW ho hs (plainFor_of_name pn_X0) rfl rfl (gbl rfl) fun X => ?_
  show gT G l X mX0_writeVotes cvI r hf 0 [(0, gr a0), (1, gi a1), (2, gi a2), (3, gr a3)] [] h (sX0_writeVotes G N a0 a1 a2 a3 h)
  delta sX0_writeVotes
  refine g_aload_n (pc := 0) (x := a3) 3 rfl rfl dX0_writeVotes_0 ?_
  refine g_iconst (pc := 1) (v := (0 : Int32)) ic_0 dX0_writeVotes_1 ?_
  refine g_aload_n (pc := 2) (x := a0) 0 rfl rfl dX0_writeVotes_2 ?_
  refine g_iload_n (pc := 3) (x := a1) 1 rfl rfl dX0_writeVotes_3 ?_
  refine g_iload_n (pc := 4) (x := a2) 2 rfl rfl dX0_writeVotes_4 ?_
  refine g_bVXi (pc := 5) (y := yX1_writeVotes) (ws := ws_ yX1_writeVotes cX1_writeVotes 6 (some .int)) (fr := 10) (lo := 165) (as := [gi a1, gi a2]) (st := [gi (0 : Int32), gr a3]) rfl (fun _ _ _ e => tX1_writeVotes hs e) (fun K _ _ _ hq hM R e1 e2 => g_runV (M := mX0_writeVotes) (pc := 5) (y := yX1_writeVotes) (bytes := cX1_writeVotes) (maxL := 6) (ret := (some .int)) (fr := 10) (lo := 165) (as := [gi a1, gi a2]) (st := [gi (0 : Int32), gr a3]) hq (C := "FlareSlopes") rfl gy_X1_writeVotes (gbl rfl) (gbl rfl) (gbl rfl) q3725 q3726 q3727 dX0_writeVotes_5 K hM R e1 e2) (fun v1 h2 => ?_) (fun q5 h6 => ?_)
  · refine g_i2l (pc := 8) dX0_writeVotes_8 ?_
    refine g_lastore (pc := 9) rfl dX0_writeVotes_9 fun h3 => ?_
    refine g_goto (pc := 10) (tgt := 21) rfl dX0_writeVotes_10 ?_
    refine g_iconst (pc := 21) (v := (0 : Int32)) ic_0 dX0_writeVotes_21 ?_
    exact g_ireturn (pc := 22) rfl dX0_writeVotes_22
  refine g_catch (E := "java/lang/IllegalStateException") [] ⟨0, 10, 13, 21⟩ [⟨0, 10, 17, 13⟩] rfl rfl (List.forall_mem_nil _) (by decide +kernel) (by decide +kernel) q1425 q1439 ?_ ?_
  · refine g_astore (pc := 13) (lv' := []) [] rfl (gblt rfl) dX0_writeVotes_13 ?_
    refine g_iconst (pc := 15) (v := (1 : Int32)) ic_1 dX0_writeVotes_15 ?_
    exact g_ireturn (pc := 16) rfl dX0_writeVotes_16
  refine g_catch (E := "java/lang/IndexOutOfBoundsException") [⟨0, 10, 13, 21⟩] ⟨0, 10, 17, 13⟩ [] rfl rfl (List.forall_mem_cons.mpr ⟨Or.inr ⟨by decide +kernel, _, q1425, ncl_java_lang_IndexOutOfBoundsException_java_lang_IllegalStateException⟩, List.forall_mem_nil _⟩) (by decide +kernel) (by decide +kernel) q325 q418 ?_ ?_
  · refine g_astore (pc := 17) (lv' := []) [] rfl (gblt rfl) dX0_writeVotes_17 ?_
    refine g_iconst (pc := 19) (v := (2 : Int32)) ic_2 dX0_writeVotes_19 ?_
    exact g_ireturn (pc := 20) rfl dX0_writeVotes_20
  exact g_noneX
/-! FlareSlopesModel.writesNumber(I)V -/
noncomputable def sX2_writesNumber_d0 (G : GG) (N : Nat) (a0 : Option Nat) (a1 : Int32) (h : Hp) : Out (Unit) :=
  gJ (fun (x1 : Unit) (h2 : Hp) =>
  gRm a1 (10 : Int32) fun v4 =>
  bV h2 a0 18 (fun q7 => sX2_writesByte G N (some q7) ((48 : Int32) + v4) h2) fun v5 h6 =>
  some (.inl (), h6)) fun j3 =>
  if a1 ≤ (9 : Int32) then (j3 () h)
  else gDv a1 (10 : Int32) fun v8 =>
  none
abbrev mX2_writesNumber_d0 : MI := (RX2, cX2_writesNumber, 2, none, [], 1, 21, "writesNumber")
theorem tX2_writesNumber_d0 {G : GG} {l : Launch} (hs : l.stackTraces = false) {N : Nat} {a0 : Option Nat} {a1 : Int32} {h : Hp} {r : Unit ⊕ Nat} {hf : Hp} (ho : sX2_writesNumber_d0 G N a0 a1 h = some (r, hf)) : gMet G l yX2_writesNumber (ws_ yX2_writesNumber cX2_writesNumber 2 none) 1 21 [gr a0, gi a1] h cvU r hf := by
  refine gMet.of ho hs (plainFor_of_name pn_X2) rfl rfl (gbl rfl) fun X => ?_
  show gT G l X mX2_writesNumber_d0 cvU r hf 0 [(0, gr a0), (1, gi a1)] [] h (sX2_writesNumber_d0 G N a0 a1 h)
  delta sX2_writesNumber_d0
  refine g_iload_n (pc := 0) (x := a1) 1 rfl rfl dX2_writesNumber_0 ?_
  refine g_bipush (pc := 1) (v := (9 : Int32)) bc_9 dX2_writesNumber_1 ?_
  refine g_join 14 (fun (x1 : Unit) => [(0, gr a0), (1, gi a1)]) (fun (x1 : Unit) => []) (fun x1 h2 => ?_) (fun j3 Hj3 => ?_)
  · refine g_aload_n (pc := 14) (x := a0) 0 rfl rfl dX2_writesNumber_14 ?_
    refine g_bipush (pc := 15) (v := (48 : Int32)) bc_48 dX2_writesNumber_15 ?_
    refine g_iload_n (pc := 17) (x := a1) 1 rfl rfl dX2_writesNumber_17 ?_
    refine g_bipush (pc := 18) (v := (10 : Int32)) bc_10 dX2_writesNumber_18 ?_
    refine g_irem (pc := 20) dX2_writesNumber_20 fun v4 => ?_
    refine g_iadd (pc := 21) dX2_writesNumber_21 ?_
    refine g_bVu (pc := 22) (y := yX2_writesByte) (ws := ws_ yX2_writesByte cX2_writesByte 2 none) (fr := 0) (lo := 0) (as := [gi ((48 : Int32) + v4)]) (st := []) (g_no) rfl (fun _ _ _ e => tX2_writesByte hs e) (fun K _ _ _ hq hM R e1 e2 => g_runV (M := mX2_writesNumber_d0) (pc := 22) (y := yX2_writesByte) (bytes := cX2_writesByte) (maxL := 2) (ret := none) (fr := 0) (lo := 0) (as := [gi ((48 : Int32) + v4)]) (st := []) hq (C := "FlareSlopesModel") rfl gy_X2_writesByte (gbl rfl) (gbl rfl) (gbl rfl) q4531 q4533 qs123 dX2_writesNumber_22 K hM R e1 e2) fun v5 h6 => ?_
    exact g_return (pc := 25) rfl dX2_writesNumber_25
  refine g_icmp_le (pc := 3) (tgt := 14) rfl dX2_writesNumber_3 ?_ ?_
  · exact Hj3 () h
  refine g_aload_n (pc := 6) (x := a0) 0 rfl rfl dX2_writesNumber_6 ?_
  refine g_iload_n (pc := 7) (x := a1) 1 rfl rfl dX2_writesNumber_7 ?_
  refine g_bipush (pc := 8) (v := (10 : Int32)) bc_10 dX2_writesNumber_8 ?_
  refine g_idiv (pc := 10) dX2_writesNumber_10 fun v8 => ?_
  exact g_none
/-! FlareSlopesModel.writesNumber(I)V -/
noncomputable def sX2_writesNumber_d1 (G : GG) (N : Nat) (a0 : Option Nat) (a1 : Int32) (h : Hp) : Out (Unit) :=
  gJ (fun (x1 : Unit) (h2 : Hp) =>
  gRm a1 (10 : Int32) fun v4 =>
  bV h2 a0 18 (fun q7 => sX2_writesByte G N (some q7) ((48 : Int32) + v4) h2) fun v5 h6 =>
  some (.inl (), h6)) fun j3 =>
  if a1 ≤ (9 : Int32) then (j3 () h)
  else gDv a1 (10 : Int32) fun v8 =>
  bV h a0 18 (fun q11 => sX2_writesNumber_d0 G N (some q11) v8 h) fun v9 h10 =>
  j3 () h10
abbrev mX2_writesNumber_d1 : MI := (RX2, cX2_writesNumber, 2, none, [], 2, 42, "writesNumber")
theorem tX2_writesNumber_d1 {G : GG} {l : Launch} (hs : l.stackTraces = false) {N : Nat} {a0 : Option Nat} {a1 : Int32} {h : Hp} {r : Unit ⊕ Nat} {hf : Hp} (ho : sX2_writesNumber_d1 G N a0 a1 h = some (r, hf)) : gMet G l yX2_writesNumber (ws_ yX2_writesNumber cX2_writesNumber 2 none) 2 42 [gr a0, gi a1] h cvU r hf := by
  refine gMet.of ho hs (plainFor_of_name pn_X2) rfl rfl (gbl rfl) fun X => ?_
  show gT G l X mX2_writesNumber_d1 cvU r hf 0 [(0, gr a0), (1, gi a1)] [] h (sX2_writesNumber_d1 G N a0 a1 h)
  delta sX2_writesNumber_d1
  refine g_iload_n (pc := 0) (x := a1) 1 rfl rfl dX2_writesNumber_0 ?_
  refine g_bipush (pc := 1) (v := (9 : Int32)) bc_9 dX2_writesNumber_1 ?_
  refine g_join 14 (fun (x1 : Unit) => [(0, gr a0), (1, gi a1)]) (fun (x1 : Unit) => []) (fun x1 h2 => ?_) (fun j3 Hj3 => ?_)
  · refine g_aload_n (pc := 14) (x := a0) 0 rfl rfl dX2_writesNumber_14 ?_
    refine g_bipush (pc := 15) (v := (48 : Int32)) bc_48 dX2_writesNumber_15 ?_
    refine g_iload_n (pc := 17) (x := a1) 1 rfl rfl dX2_writesNumber_17 ?_
    refine g_bipush (pc := 18) (v := (10 : Int32)) bc_10 dX2_writesNumber_18 ?_
    refine g_irem (pc := 20) dX2_writesNumber_20 fun v4 => ?_
    refine g_iadd (pc := 21) dX2_writesNumber_21 ?_
    refine g_bVu (pc := 22) (y := yX2_writesByte) (ws := ws_ yX2_writesByte cX2_writesByte 2 none) (fr := 0) (lo := 0) (as := [gi ((48 : Int32) + v4)]) (st := []) (g_no) rfl (fun _ _ _ e => tX2_writesByte hs e) (fun K _ _ _ hq hM R e1 e2 => g_runV (M := mX2_writesNumber_d1) (pc := 22) (y := yX2_writesByte) (bytes := cX2_writesByte) (maxL := 2) (ret := none) (fr := 0) (lo := 0) (as := [gi ((48 : Int32) + v4)]) (st := []) hq (C := "FlareSlopesModel") rfl gy_X2_writesByte (gbl rfl) (gbl rfl) (gbl rfl) q4531 q4533 qs123 dX2_writesNumber_22 K hM R e1 e2) fun v5 h6 => ?_
    exact g_return (pc := 25) rfl dX2_writesNumber_25
  refine g_icmp_le (pc := 3) (tgt := 14) rfl dX2_writesNumber_3 ?_ ?_
  · exact Hj3 () h
  refine g_aload_n (pc := 6) (x := a0) 0 rfl rfl dX2_writesNumber_6 ?_
  refine g_iload_n (pc := 7) (x := a1) 1 rfl rfl dX2_writesNumber_7 ?_
  refine g_bipush (pc := 8) (v := (10 : Int32)) bc_10 dX2_writesNumber_8 ?_
  refine g_idiv (pc := 10) dX2_writesNumber_10 fun v8 => ?_
  refine g_bVu (pc := 11) (y := yX2_writesNumber) (ws := ws_ yX2_writesNumber cX2_writesNumber 2 none) (fr := 1) (lo := 21) (as := [gi v8]) (st := []) (g_no) rfl (fun _ _ _ e => tX2_writesNumber_d0 hs e) (fun K _ _ _ hq hM R e1 e2 => g_runV (M := mX2_writesNumber_d1) (pc := 11) (y := yX2_writesNumber) (bytes := cX2_writesNumber) (maxL := 2) (ret := none) (fr := 1) (lo := 21) (as := [gi v8]) (st := []) hq (C := "FlareSlopesModel") rfl gy_X2_writesNumber (gbl rfl) (gbl rfl) (gbl rfl) q4539 q4541 qs124 dX2_writesNumber_11 K hM R e1 e2) fun v9 h10 => ?_
  exact Hj3 () h10
/-! FlareSlopesModel.writesNumber(I)V -/
noncomputable def sX2_writesNumber_d2 (G : GG) (N : Nat) (a0 : Option Nat) (a1 : Int32) (h : Hp) : Out (Unit) :=
  gJ (fun (x1 : Unit) (h2 : Hp) =>
  gRm a1 (10 : Int32) fun v4 =>
  bV h2 a0 18 (fun q7 => sX2_writesByte G N (some q7) ((48 : Int32) + v4) h2) fun v5 h6 =>
  some (.inl (), h6)) fun j3 =>
  if a1 ≤ (9 : Int32) then (j3 () h)
  else gDv a1 (10 : Int32) fun v8 =>
  bV h a0 18 (fun q11 => sX2_writesNumber_d1 G N (some q11) v8 h) fun v9 h10 =>
  j3 () h10
abbrev mX2_writesNumber_d2 : MI := (RX2, cX2_writesNumber, 2, none, [], 3, 63, "writesNumber")
theorem tX2_writesNumber_d2 {G : GG} {l : Launch} (hs : l.stackTraces = false) {N : Nat} {a0 : Option Nat} {a1 : Int32} {h : Hp} {r : Unit ⊕ Nat} {hf : Hp} (ho : sX2_writesNumber_d2 G N a0 a1 h = some (r, hf)) : gMet G l yX2_writesNumber (ws_ yX2_writesNumber cX2_writesNumber 2 none) 3 63 [gr a0, gi a1] h cvU r hf := by
  refine gMet.of ho hs (plainFor_of_name pn_X2) rfl rfl (gbl rfl) fun X => ?_
  show gT G l X mX2_writesNumber_d2 cvU r hf 0 [(0, gr a0), (1, gi a1)] [] h (sX2_writesNumber_d2 G N a0 a1 h)
  delta sX2_writesNumber_d2
  refine g_iload_n (pc := 0) (x := a1) 1 rfl rfl dX2_writesNumber_0 ?_
  refine g_bipush (pc := 1) (v := (9 : Int32)) bc_9 dX2_writesNumber_1 ?_
  refine g_join 14 (fun (x1 : Unit) => [(0, gr a0), (1, gi a1)]) (fun (x1 : Unit) => []) (fun x1 h2 => ?_) (fun j3 Hj3 => ?_)
  · refine g_aload_n (pc := 14) (x := a0) 0 rfl rfl dX2_writesNumber_14 ?_
    refine g_bipush (pc := 15) (v := (48 : Int32)) bc_48 dX2_writesNumber_15 ?_
    refine g_iload_n (pc := 17) (x := a1) 1 rfl rfl dX2_writesNumber_17 ?_
    refine g_bipush (pc := 18) (v := (10 : Int32)) bc_10 dX2_writesNumber_18 ?_
    refine g_irem (pc := 20) dX2_writesNumber_20 fun v4 => ?_
    refine g_iadd (pc := 21) dX2_writesNumber_21 ?_
    refine g_bVu (pc := 22) (y := yX2_writesByte) (ws := ws_ yX2_writesByte cX2_writesByte 2 none) (fr := 0) (lo := 0) (as := [gi ((48 : Int32) + v4)]) (st := []) (g_no) rfl (fun _ _ _ e => tX2_writesByte hs e) (fun K _ _ _ hq hM R e1 e2 => g_runV (M := mX2_writesNumber_d2) (pc := 22) (y := yX2_writesByte) (bytes := cX2_writesByte) (maxL := 2) (ret := none) (fr := 0) (lo := 0) (as := [gi ((48 : Int32) + v4)]) (st := []) hq (C := "FlareSlopesModel") rfl gy_X2_writesByte (gbl rfl) (gbl rfl) (gbl rfl) q4531 q4533 qs123 dX2_writesNumber_22 K hM R e1 e2) fun v5 h6 => ?_
    exact g_return (pc := 25) rfl dX2_writesNumber_25
  refine g_icmp_le (pc := 3) (tgt := 14) rfl dX2_writesNumber_3 ?_ ?_
  · exact Hj3 () h
  refine g_aload_n (pc := 6) (x := a0) 0 rfl rfl dX2_writesNumber_6 ?_
  refine g_iload_n (pc := 7) (x := a1) 1 rfl rfl dX2_writesNumber_7 ?_
  refine g_bipush (pc := 8) (v := (10 : Int32)) bc_10 dX2_writesNumber_8 ?_
  refine g_idiv (pc := 10) dX2_writesNumber_10 fun v8 => ?_
  refine g_bVu (pc := 11) (y := yX2_writesNumber) (ws := ws_ yX2_writesNumber cX2_writesNumber 2 none) (fr := 2) (lo := 42) (as := [gi v8]) (st := []) (g_no) rfl (fun _ _ _ e => tX2_writesNumber_d1 hs e) (fun K _ _ _ hq hM R e1 e2 => g_runV (M := mX2_writesNumber_d2) (pc := 11) (y := yX2_writesNumber) (bytes := cX2_writesNumber) (maxL := 2) (ret := none) (fr := 2) (lo := 42) (as := [gi v8]) (st := []) hq (C := "FlareSlopesModel") rfl gy_X2_writesNumber (gbl rfl) (gbl rfl) (gbl rfl) q4539 q4541 qs124 dX2_writesNumber_11 K hM R e1 e2) fun v9 h10 => ?_
  exact Hj3 () h10
