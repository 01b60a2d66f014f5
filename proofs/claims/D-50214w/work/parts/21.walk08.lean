set_option maxRecDepth 100000
set_option maxHeartbeats 4000000
/-! FlareSlopesModel.trust(II)I -/
noncomputable def sX2_trust (G : GG) (N : Nat) (a0 : Option Nat) (a1 : Int32) (a2 : Int32) (h : Hp) : Out (Int32) :=
  gFi h a0 18 8 fun v1 =>
  bV h a0 18 (fun q22 => sX2_isCabin G N (some q22) a1 h) fun v2 h3 =>
  bnd (sX2_in G N a2 (-100 : Int32) (100 : Int32) h3) fun v4 h5 =>
  bV h5 a0 18 (fun q21 => sX2_may G N (some q21) v1 v2 v4 h5) fun v6 h7 =>
  if v6 = 0 then (some (.inl (0 : Int32), h7))
  else bV h7 a0 18 (fun q20 => sX2_remembers G N (some q20) h7) fun v8 h9 =>
  gFr h9 a0 18 1 fun v10 =>
  gFr h9 a0 18 1 fun v11 =>
  gAi h9 v11 0 ((158 : Int32) + a1) fun v12 =>
  bnd (sJ14_min G N (100 : Int32) (v12 + a2) h9) fun v13 h14 =>
  bnd (sJ14_max G N (0 : Int32) v13 h14) fun v15 h16 =>
  gSi G h16 v10 0 ((158 : Int32) + a1) v15 fun h17 =>
  gFr h17 a0 18 1 fun v18 =>
  gAi h17 v18 0 ((158 : Int32) + a1) fun v19 =>
  some (.inl v19, h17)
abbrev mX2_trust : MI := (RX2, cX2_trust, 3, (some .int), [], 2, 45, "trust")
theorem tX2_trust {G : GG} {l : Launch} (hs : l.stackTraces = false) {N : Nat} {a0 : Option Nat} {a1 : Int32} {a2 : Int32} {h : Hp} {r : Int32 ⊕ Nat} {hf : Hp} (ho : sX2_trust G N a0 a1 a2 h = some (r, hf)) : gMet G l yX2_trust (ws_ yX2_trust cX2_trust 3 (some .int)) 2 45 [gr a0, gi a1, gi a2] h cvI r hf := by
  refine gMet.of ho hs (plainFor_of_name pn_X2) rfl rfl (gbl rfl) fun X => ?_
  show gT G l X mX2_trust cvI r hf 0 [(0, gr a0), (1, gi a1), (2, gi a2)] [] h (sX2_trust G N a0 a1 a2 h)
  delta sX2_trust
  refine g_aload_n (pc := 0) (x := a0) 0 rfl rfl dX2_trust_0 ?_
  refine g_aload_n (pc := 1) (x := a0) 0 rfl rfl dX2_trust_1 ?_
  refine g_getfi (pc := 2) k_18 (gblt rfl) lk_X2_184_18 dX2_trust_2 fun v1 => ?_
  refine g_aload_n (pc := 5) (x := a0) 0 rfl rfl dX2_trust_5 ?_
  refine g_iload_n (pc := 6) (x := a1) 1 rfl rfl dX2_trust_6 ?_
  refine g_bVi (pc := 7) (y := yX2_isCabin) (ws := ws_ yX2_isCabin cX2_isCabin 2 (some .boolean)) (fr := 1) (lo := 22) (as := [gi a1]) (st := [gi v1, gr a0]) (g_no) rfl (fun _ _ _ e => tX2_isCabin hs e) (fun K _ _ _ hq hM R e1 e2 => g_runV (M := mX2_trust) (pc := 7) (y := yX2_isCabin) (bytes := cX2_isCabin) (maxL := 2) (ret := (some .boolean)) (fr := 1) (lo := 22) (as := [gi a1]) (st := [gi v1, gr a0]) hq (C := "FlareSlopesModel") rfl gy_X2_isCabin (gbl rfl) (gbl rfl) (gbl rfl) q4214 q4216 qs87 dX2_trust_7 K hM R e1 e2) fun v2 h3 => ?_
  refine g_iload_n (pc := 10) (x := a2) 2 rfl rfl dX2_trust_10 ?_
  refine g_bipush (pc := 11) (v := (-100 : Int32)) bc_m100 dX2_trust_11 ?_
  refine g_bipush (pc := 13) (v := (100 : Int32)) bc_100 dX2_trust_13 ?_
  refine g_bi (pc := 15) (y := yX2_in) (ws := ws_ yX2_in cX2_in 3 (some .boolean)) (fr := 0) (lo := 0) (as := [gi a2, gi (-100 : Int32), gi (100 : Int32)]) (st := [gi v2, gi v1, gr a0]) (g_no) rfl (fun _ _ e => tX2_in hs e) (fun K _ _ hM R e1 e2 => g_runS (M := mX2_trust) (pc := 15) (y := yX2_in) (bytes := cX2_in) (maxL := 3) (ret := (some .boolean)) (fr := 0) (lo := 0) (as := [gi a2, gi (-100 : Int32), gi (100 : Int32)]) (st := [gi v2, gi v1, gr a0]) gy_X2_in (gbl rfl) (gbl rfl) (gbl rfl) q4037 q4038 dX2_trust_15 K hM R e1 e2) fun v4 h5 => ?_
  refine g_bVi (pc := 18) (y := yX2_may) (ws := ws_ yX2_may cX2_may 4 (some .boolean)) (fr := 0) (lo := 0) (as := [gi v1, gi v2, gi v4]) (st := []) (g_no) rfl (fun _ _ _ e => tX2_may hs e) (fun K _ _ _ hq hM R e1 e2 => g_runV (M := mX2_trust) (pc := 18) (y := yX2_may) (bytes := cX2_may) (maxL := 4) (ret := (some .boolean)) (fr := 0) (lo := 0) (as := [gi v1, gi v2, gi v4]) (st := []) hq (C := "FlareSlopesModel") rfl gy_X2_may (gbl rfl) (gbl rfl) (gbl rfl) q4040 q4042 qs54 dX2_trust_18 K hM R e1 e2) fun v6 h7 => ?_
  refine g_if_ne (pc := 21) (tgt := 26) rfl dX2_trust_21 ?_ ?_
  · refine g_iconst (pc := 24) (v := (0 : Int32)) ic_0 dX2_trust_24 ?_
    exact g_ireturn (pc := 25) rfl dX2_trust_25
  refine g_aload_n (pc := 26) (x := a0) 0 rfl rfl dX2_trust_26 ?_
  refine g_bVu (pc := 27) (y := yX2_remembers) (ws := ws_ yX2_remembers cX2_remembers 2 none) (fr := 1) (lo := 24) (as := []) (st := []) (g_no) rfl (fun _ _ _ e => tX2_remembers hs e) (fun K _ _ _ hq hM R e1 e2 => g_runV (M := mX2_trust) (pc := 27) (y := yX2_remembers) (bytes := cX2_remembers) (maxL := 2) (ret := none) (fr := 1) (lo := 24) (as := []) (st := []) hq (C := "FlareSlopesModel") rfl gy_X2_remembers (gbl rfl) (gbl rfl) (gbl rfl) q4555 q4557 qs125 dX2_trust_27 K hM R e1 e2) fun v8 h9 => ?_
  refine g_aload_n (pc := 30) (x := a0) 0 rfl rfl dX2_trust_30 ?_
  refine g_getfr (pc := 31) k_18 (gblt rfl) lk_X2_9_18 dX2_trust_31 fun v10 => ?_
  refine g_sipush (pc := 34) (v := (158 : Int32)) sc_158 dX2_trust_34 ?_
  refine g_iload_n (pc := 37) (x := a1) 1 rfl rfl dX2_trust_37 ?_
  refine g_iadd (pc := 38) dX2_trust_38 ?_
  refine g_iconst (pc := 39) (v := (0 : Int32)) ic_0 dX2_trust_39 ?_
  refine g_bipush (pc := 40) (v := (100 : Int32)) bc_100 dX2_trust_40 ?_
  refine g_aload_n (pc := 42) (x := a0) 0 rfl rfl dX2_trust_42 ?_
  refine g_getfr (pc := 43) k_18 (gblt rfl) lk_X2_9_18 dX2_trust_43 fun v11 => ?_
  refine g_sipush (pc := 46) (v := (158 : Int32)) sc_158 dX2_trust_46 ?_
  refine g_iload_n (pc := 49) (x := a1) 1 rfl rfl dX2_trust_49 ?_
  refine g_iadd (pc := 50) dX2_trust_50 ?_
  refine g_iaload (pc := 51) rfl dX2_trust_51 fun v12 => ?_
  refine g_iload_n (pc := 52) (x := a2) 2 rfl rfl dX2_trust_52 ?_
  refine g_iadd (pc := 53) dX2_trust_53 ?_
  refine g_bi (pc := 54) (y := yJ14_min) (ws := ws_ yJ14_min cJ14_min 2 (some .int)) (fr := 0) (lo := 0) (as := [gi (100 : Int32), gi (v12 + a2)]) (st := [gi (0 : Int32), gi ((158 : Int32) + a1), gr v10]) (g_no) rfl (fun _ _ e => tJ14_min hs e) (fun K _ _ hM R e1 e2 => g_runS (M := mX2_trust) (pc := 54) (y := yJ14_min) (bytes := cJ14_min) (maxL := 2) (ret := (some .int)) (fr := 0) (lo := 0) (as := [gi (100 : Int32), gi (v12 + a2)]) (st := [gi (0 : Int32), gi ((158 : Int32) + a1), gr v10]) gy_J14_min (gbl rfl) (gbl rfl) (gbl rfl) q4447 q656 dX2_trust_54 K hM R e1 e2) fun v13 h14 => ?_
  refine g_bi (pc := 57) (y := yJ14_max) (ws := ws_ yJ14_max cJ14_max 2 (some .int)) (fr := 0) (lo := 0) (as := [gi (0 : Int32), gi v13]) (st := [gi ((158 : Int32) + a1), gr v10]) (g_no) rfl (fun _ _ e => tJ14_max hs e) (fun K _ _ hM R e1 e2 => g_runS (M := mX2_trust) (pc := 57) (y := yJ14_max) (bytes := cJ14_max) (maxL := 2) (ret := (some .int)) (fr := 0) (lo := 0) (as := [gi (0 : Int32), gi v13]) (st := [gi ((158 : Int32) + a1), gr v10]) gy_J14_max (gbl rfl) (gbl rfl) (gbl rfl) q4190 q638 dX2_trust_57 K hM R e1 e2) fun v15 h16 => ?_
  refine g_iastore (pc := 60) rfl dX2_trust_60 fun h17 => ?_
  refine g_aload_n (pc := 61) (x := a0) 0 rfl rfl dX2_trust_61 ?_
  refine g_getfr (pc := 62) k_18 (gblt rfl) lk_X2_9_18 dX2_trust_62 fun v18 => ?_
  refine g_sipush (pc := 65) (v := (158 : Int32)) sc_158 dX2_trust_65 ?_
  refine g_iload_n (pc := 68) (x := a1) 1 rfl rfl dX2_trust_68 ?_
  refine g_iadd (pc := 69) dX2_trust_69 ?_
  refine g_iaload (pc := 70) rfl dX2_trust_70 fun v19 => ?_
  exact g_ireturn (pc := 71) rfl dX2_trust_71
/-! java/util/HashMap.clear()V -/
noncomputable def bJ23_clear_c26_33 (G : GG) (N : Nat) (v3 : Option Nat) (w8 : (Int32) → Hp → Out (Unit)) (x6 : Int32) (h7 : Hp) : Out (Unit) :=
  gLen h7 v3 fun v9 =>
  if v9 ≤ x6 then (some (.inl (), h7))
  else gSr G h7 v3 8 asl_java_util_HashMap_Node x6 none fun h10 =>
  w8 (x6 + (1 : Int32)) h10
noncomputable def sJ23_clear_c26 (G : GG) (N : Nat) (a0 : Option Nat) (h : Hp) : Out (Unit) :=
  gFi h a0 26 3 fun v1 =>
  gP G h a0 26 3 (.int (v1 + (1 : Int32))) fun h2 =>
  gFr h2 a0 26 0 fun v3 =>
  if v3 = none then (some (.inl (), h2))
  else gFi h2 a0 26 2 fun v4 =>
  if v4 ≤ 0 then (some (.inl (), h2))
  else gP G h2 a0 26 2 (.int (0 : Int32)) fun h5 =>
  gLp (bJ23_clear_c26_33 G N v3) N (0 : Int32) h5
abbrev mJ23_clear_c26 : MI := (RJ23, cJ23_clear, 3, none, [], 0, 0, "clear")
theorem tJ23_clear_c26 {G : GG} {l : Launch} (hs : l.stackTraces = false) {N : Nat} {a0 : Option Nat} {h : Hp} {r : Unit ⊕ Nat} {hf : Hp} (ho : sJ23_clear_c26 G N a0 h = some (r, hf)) : gMet G l yJ23_clear (ws_ yJ23_clear cJ23_clear 3 none) 0 0 [gr a0] h cvU r hf := by
  refine gMet.of ho hs (plainFor_of_name pn_J23) rfl rfl (gbl rfl) fun X => ?_
  show gT G l X mJ23_clear_c26 cvU r hf 0 [(0, gr a0)] [] h (sJ23_clear_c26 G N a0 h)
  delta sJ23_clear_c26
  refine g_aload_n (pc := 0) (x := a0) 0 rfl rfl dJ23_clear_0 ?_
  refine g_dup (pc := 1) rfl dJ23_clear_1 ?_
  refine g_getfi (pc := 2) k_26 (gblt rfl) lk_J23_202_26 dJ23_clear_2 fun v1 => ?_
  refine g_iconst (pc := 5) (v := (1 : Int32)) ic_1 dJ23_clear_5 ?_
  refine g_iadd (pc := 6) dJ23_clear_6 ?_
  refine g_put (pc := 7) k_26 (gblt rfl) lk_J23_202_26 rfl rfl (gNi _) dJ23_clear_7 fun h2 => ?_
  refine g_aload_n (pc := 10) (x := a0) 0 rfl rfl dJ23_clear_10 ?_
  refine g_getfr (pc := 11) k_26 (gblt rfl) lk_J23_105_26 dJ23_clear_11 fun v3 => ?_
  refine g_dup (pc := 14) rfl dJ23_clear_14 ?_
  refine g_astore_n (pc := 15) (lv' := [(1, gr v3), (0, gr a0)]) [0, 1] rfl rfl (gblt rfl) dJ23_clear_15 ?_
  refine g_ifnull (pc := 16) (tgt := 49) rfl dJ23_clear_16 ?_ ?_
  · exact g_return (pc := 49) rfl dJ23_clear_49
  refine g_aload_n (pc := 19) (x := a0) 1 rfl rfl dJ23_clear_19 ?_
  refine g_getfi (pc := 20) k_26 (gblt rfl) lk_J23_156_26 dJ23_clear_20 fun v4 => ?_
  refine g_if_le (pc := 23) (tgt := 49) rfl dJ23_clear_23 ?_ ?_
  · exact g_return (pc := 49) rfl dJ23_clear_49
  refine g_aload_n (pc := 26) (x := a0) 1 rfl rfl dJ23_clear_26 ?_
  refine g_iconst (pc := 27) (v := (0 : Int32)) ic_0 dJ23_clear_27 ?_
  refine g_put (pc := 28) k_26 (gblt rfl) lk_J23_156_26 rfl rfl (gNi _) dJ23_clear_28 fun h5 => ?_
  refine g_iconst (pc := 31) (v := (0 : Int32)) ic_0 dJ23_clear_31 ?_
  refine g_istore_n (pc := 32) (lv' := [(2, gi (0 : Int32)), (1, gr v3)]) [0, 1] rfl rfl (gblt rfl) dJ23_clear_32 ?_
  refine g_sub (lv' := [(1, gr v3), (2, gi (0 : Int32))]) [1, 0] rfl ?_
  refine g_loop (pc := 33) (fun (x6 : Int32) => [(1, gr v3), (2, gi x6)]) (fun (_ : Int32) => []) (fun w8 Hw8 x6 h7 => ?_) N (0 : Int32) h5
  delta bJ23_clear_c26_33
  refine g_iload_n (pc := 33) (x := x6) 1 rfl rfl dJ23_clear_33 ?_
  refine g_aload_n (pc := 34) (x := v3) 0 rfl rfl dJ23_clear_34 ?_
  refine g_alen (pc := 35) dJ23_clear_35 fun v9 => ?_
  refine g_icmp_ge (pc := 36) (tgt := 49) rfl dJ23_clear_36 ?_ ?_
  · exact g_return (pc := 49) rfl dJ23_clear_49
  refine g_aload_n (pc := 39) (x := v3) 0 rfl rfl dJ23_clear_39 ?_
  refine g_iload_n (pc := 40) (x := x6) 1 rfl rfl dJ23_clear_40 ?_
  refine g_aconst_null (pc := 41) dJ23_clear_41 ?_
  refine g_aastore (pc := 42) rfl asl_java_util_HashMap_Node_ok dJ23_clear_42 fun h10 => ?_
  refine g_iinc (pc := 43) (v := x6 + (1 : Int32)) 1 rfl (ii_1 _) (lv' := [(2, gi (x6 + (1 : Int32))), (1, gr v3)]) [0, 1] rfl (gblt rfl) dJ23_clear_43 ?_
  refine g_goto (pc := 46) (tgt := 33) rfl dJ23_clear_46 ?_
  exact g_sub [1, 0] rfl (Hw8 (x6 + (1 : Int32)) h10)
/-! java/util/LinkedHashMap.clear()V -/
noncomputable def sJ24_clear (G : GG) (N : Nat) (a0 : Option Nat) (h : Hp) : Out (Unit) :=
  bV h a0 26 (fun q5 => sJ23_clear_c26 G N (some q5) h) fun v1 h2 =>
  gP G h2 a0 26 9 (va_rf none) fun h3 =>
  gP G h3 a0 26 8 (va_rf none) fun h4 =>
  some (.inl (), h4)
abbrev mJ24_clear : MI := (RJ24, cJ24_clear, 1, none, [], 1, 22, "clear")
theorem tJ24_clear {G : GG} {l : Launch} (hs : l.stackTraces = false) {N : Nat} {a0 : Option Nat} {h : Hp} {r : Unit ⊕ Nat} {hf : Hp} (ho : sJ24_clear G N a0 h = some (r, hf)) : gMet G l yJ24_clear (ws_ yJ24_clear cJ24_clear 1 none) 1 22 [gr a0] h cvU r hf := by
  refine gMet.of ho hs (plainFor_of_name pn_J24) rfl rfl (gbl rfl) fun X => ?_
  show gT G l X mJ24_clear cvU r hf 0 [(0, gr a0)] [] h (sJ24_clear G N a0 h)
  delta sJ24_clear
  refine g_aload_n (pc := 0) (x := a0) 0 rfl rfl dJ24_clear_0 ?_
  refine g_bVu (pc := 1) (y := yJ23_clear) (ws := ws_ yJ23_clear cJ23_clear 3 none) (fr := 0) (lo := 0) (as := []) (st := []) (g_no) rfl (fun _ _ _ e => tJ23_clear_c26 hs e) (fun K _ _ _ hq hM R e1 e2 => g_runSU (M := mJ24_clear) (pc := 1) (y := yJ23_clear) (bytes := cJ23_clear) (maxL := 3) (ret := none) (fr := 0) (lo := 0) (as := []) (st := []) hq (C := "java/util/LinkedHashMap") rfl gy_J23_clear (gbl rfl) (gbl rfl) (gbl rfl) q3896 q4645 q1304 q3897 (by decide +kernel) dJ24_clear_1 K hM R e1 e2) fun v1 h2 => ?_
  refine g_aload_n (pc := 4) (x := a0) 0 rfl rfl dJ24_clear_4 ?_
  refine g_aload_n (pc := 5) (x := a0) 0 rfl rfl dJ24_clear_5 ?_
  refine g_aconst_null (pc := 6) dJ24_clear_6 ?_
  refine g_dup_x1 (pc := 7) rfl rfl dJ24_clear_7 ?_
  refine g_put (pc := 8) k_26 (gblt rfl) lk_J24_11_26 rfl rfl (gNr _ _) dJ24_clear_8 fun h3 => ?_
  refine g_put (pc := 11) k_26 (gblt rfl) lk_J24_7_26 rfl rfl (gNr _ _) dJ24_clear_11 fun h4 => ?_
  exact g_return (pc := 14) rfl dJ24_clear_14
/-! FlareSlopes.forget(I)I -/
noncomputable def sX1_forget (G : GG) (N : Nat) (a0 : Option Nat) (a1 : Int32) (h : Hp) : Out (Int32) :=
  bV h a0 3 (fun q17 => sX1_withCabin G N (some q17) a1 h) fun v1 h2 =>
  bV h2 a0 3 (fun q16 => sX1_change G N (some q16) h2) fun v3 h4 =>
  bV h4 v3 16 (fun q15 => sX3_cabin G N (some q15) a1 h4) fun v5 h6 =>
  gFr h6 v5 7 8 fun v7 =>
  bV h6 v7 26 (fun q14 => sJ24_clear G N (some q14) h6) fun v8 h9 =>
  gFr h9 v1 7 8 fun v10 =>
  bV h9 v10 26 (fun q13 => sJ23_size_c26 G N (some q13) h9) fun v11 h12 =>
  some (.inl v11, h12)
abbrev mX1_forget : MI := (RX1, cX1_forget, 4, (some .int), [], 9, 205, "forget")
theorem tX1_forget {G : GG} {l : Launch} (hs : l.stackTraces = false) {N : Nat} {a0 : Option Nat} {a1 : Int32} {h : Hp} {r : Int32 ⊕ Nat} {hf : Hp} (ho : sX1_forget G N a0 a1 h = some (r, hf)) : gMet G l yX1_forget (ws_ yX1_forget cX1_forget 4 (some .int)) 9 205 [gr a0, gi a1] h cvI r hf := by
  refine gMet.of ho hs (plainFor_of_name pn_X1) rfl rfl (gbl rfl) fun X => ?_
  show gT G l X mX1_forget cvI r hf 0 [(0, gr a0), (1, gi a1)] [] h (sX1_forget G N a0 a1 h)
  delta sX1_forget
  refine g_aload_n (pc := 0) (x := a0) 0 rfl rfl dX1_forget_0 ?_
  refine g_iload_n (pc := 1) (x := a1) 1 rfl rfl dX1_forget_1 ?_
  refine g_bVr (pc := 2) (y := yX1_withCabin) (ws := ws_ yX1_withCabin cX1_withCabin 2 (some (.object "FlareSlopes$Cabin"))) (fr := 8) (lo := 121) (as := [gi a1]) (st := []) (g_no) rfl (fun _ _ _ e => tX1_withCabin hs e) (fun K _ _ _ hq hM R e1 e2 => g_runV (M := mX1_forget) (pc := 2) (y := yX1_withCabin) (bytes := cX1_withCabin) (maxL := 2) (ret := (some (.object "FlareSlopes$Cabin"))) (fr := 8) (lo := 121) (as := [gi a1]) (st := []) hq (C := "FlareSlopes") rfl gy_X1_withCabin (gbl rfl) (gbl rfl) (gbl rfl) q1968 q1970 qs22 dX1_forget_2 K hM R e1 e2) fun v1 h2 => ?_
  refine g_astore_n (pc := 5) (lv' := [(2, gr v1), (0, gr a0), (1, gi a1)]) [0, 1, 2] rfl rfl (gblt rfl) dX1_forget_5 ?_
  refine g_aload_n (pc := 6) (x := a0) 1 rfl rfl dX1_forget_6 ?_
  refine g_bVr (pc := 7) (y := yX1_change) (ws := ws_ yX1_change cX1_change 1 (some (.object "FlareSlopes$State"))) (fr := 8) (lo := 185) (as := []) (st := []) (g_no) rfl (fun _ _ _ e => tX1_change hs e) (fun K _ _ _ hq hM R e1 e2 => g_runV (M := mX1_forget) (pc := 7) (y := yX1_change) (bytes := cX1_change) (maxL := 1) (ret := (some (.object "FlareSlopes$State"))) (fr := 8) (lo := 185) (as := []) (st := []) hq (C := "FlareSlopes") rfl gy_X1_change (gbl rfl) (gbl rfl) (gbl rfl) q3752 q3754 qs52 dX1_forget_7 K hM R e1 e2) fun v3 h4 => ?_
  refine g_iload_n (pc := 10) (x := a1) 2 rfl rfl dX1_forget_10 ?_
  refine g_bVr (pc := 11) (y := yX3_cabin) (ws := ws_ yX3_cabin cX3_cabin 2 (some (.object "FlareSlopes$Cabin"))) (fr := 3) (lo := 64) (as := [gi a1]) (st := []) (g_no) rfl (fun _ _ _ e => tX3_cabin hs e) (fun K _ _ _ hq hM R e1 e2 => g_runV (M := mX1_forget) (pc := 11) (y := yX3_cabin) (bytes := cX3_cabin) (maxL := 2) (ret := (some (.object "FlareSlopes$Cabin"))) (fr := 3) (lo := 64) (as := [gi a1]) (st := []) hq (C := "FlareSlopes$State") rfl gy_X3_cabin (gbl rfl) (gbl rfl) (gbl rfl) q1738 q1639 q1640 dX1_forget_11 K hM R e1 e2) fun v5 h6 => ?_
  refine g_astore_n (pc := 14) (lv' := [(3, gr v5), (2, gr v1)]) [0, 1] rfl rfl (gblt rfl) dX1_forget_14 ?_
  refine g_aload_n (pc := 15) (x := v5) 0 rfl rfl dX1_forget_15 ?_
  refine g_getfr (pc := 16) k_7 (gblt rfl) lk_X1_205_7 dX1_forget_16 fun v7 => ?_
  refine g_bVu (pc := 19) (y := yJ24_clear) (ws := ws_ yJ24_clear cJ24_clear 1 none) (fr := 1) (lo := 22) (as := []) (st := []) (g_no) rfl (fun _ _ _ e => tJ24_clear hs e) (fun K _ _ _ hq hM R e1 e2 => g_runF (x := ⟨"java/util/Map", "clear", "()V"⟩) (M := mX1_forget) (pc := 19) (y := yJ24_clear) (bytes := cJ24_clear) (maxL := 1) (ret := none) (fr := 1) (lo := 22) (as := []) (st := []) hq (C := "java/util/LinkedHashMap") rfl gy_J24_clear rfl (gbl rfl) (gbl rfl) (gbl rfl) q3888 q3890 q3889 q3894 q3892 q1613 mhx_java_util_Map q3891 q3893 dX1_forget_19 K hM R e1 e2) fun v8 h9 => ?_
  refine g_aload_n (pc := 24) (x := v1) 1 rfl rfl dX1_forget_24 ?_
  refine g_getfr (pc := 25) k_7 (gblt rfl) lk_X1_205_7 dX1_forget_25 fun v10 => ?_
  refine g_bVi (pc := 28) (y := yJ23_size) (ws := ws_ yJ23_size cJ23_size 1 (some .int)) (fr := 0) (lo := 0) (as := []) (st := []) (g_no) rfl (fun _ _ _ e => tJ23_size_c26 hs e) (fun K _ _ _ hq hM R e1 e2 => g_runF (x := ⟨"java/util/Map", "size", "()I"⟩) (M := mX1_forget) (pc := 28) (y := yJ23_size) (bytes := cJ23_size) (maxL := 1) (ret := (some .int)) (fr := 0) (lo := 0) (as := []) (st := []) hq (C := "java/util/LinkedHashMap") rfl gy_J23_size rfl (gbl rfl) (gbl rfl) (gbl rfl) q2344 q1612 q1611 q1617 q1615 q1613 mhx_java_util_Map q1614 q1616 dX1_forget_28 K hM R e1 e2) fun v11 h12 => ?_
  exact g_ireturn (pc := 33) rfl dX1_forget_33
/-! FlareSlopesLaw.forget(LFlareSlopes;I[J)I -/
noncomputable def sX0_forget (G : GG) (N : Nat) (a0 : Option Nat) (a1 : Int32) (a2 : Option Nat) (h : Hp) : Out (Int32) :=
  bVX h a0 3 (fun q4 => sX1_forget G N (some q4) a1 h) (fun v1 h2 =>
  gSl G h2 a2 3 (0 : Int32) (v1.toInt64) fun h3 =>
  some (.inl (0 : Int32), h3)) fun q5 h6 =>
  gSw h6 (some q5) 0 (some (.inl (1 : Int32), h6)) (gSw h6 (some q5) 2 (some (.inl (2 : Int32), h6)) (none))
abbrev mX0_forget : MI := (RX0, cX0_forget, 4, (some .int), [(0, 9, 12, 21), (0, 9, 15, 13)], 10, 228, "forget")
theorem tX0_forget {G : GG} {l : Launch} (hs : l.stackTraces = false) {N : Nat} {a0 : Option Nat} {a1 : Int32} {a2 : Option Nat} {h : Hp} {r : Int32 ⊕ Nat} {hf : Hp} (ho : sX0_forget G N a0 a1 a2 h = some (r, hf)) : gMet G l yX0_forget (wsW_ yX0_forget cX0_forget 4 (some .int) [(0, 9, 12, 21), (0, 9, 15, 13)]) 10 228 [gr a0, gi a1, gr a2] h cvI r hf := by
  refine gMet.ofW ho hs (plainFor_of_name pn_X0) rfl rfl (gbl rfl) fun X => ?_
  show gT G l X mX0_forget cvI r hf 0 [(0, gr a0), (1, gi a1), (2, gr a2)] [] h (sX0_forget G N a0 a1 a2 h)
  delta sX0_forget
  refine g_aload_n (pc := 0) (x := a2) 2 rfl rfl dX0_forget_0 ?_
  refine g_iconst (pc := 1) (v := (0 : Int32)) ic_0 dX0_forget_1 ?_
  refine g_aload_n (pc := 2) (x := a0) 0 rfl rfl dX0_forget_2 ?_
  refine g_iload_n (pc := 3) (x := a1) 1 rfl rfl dX0_forget_3 ?_
  refine g_bVXi (pc := 4) (y := yX1_forget) (ws := ws_ yX1_forget cX1_forget 4 (some .int)) (fr := 9) (lo := 205) (as := [gi a1]) (st := [gi (0 : Int32), gr a2]) rfl (fun _ _ _ e => tX1_forget hs e) (fun K _ _ _ hq hM R e1 e2 => g_runV (M := mX0_forget) (pc := 4) (y := yX1_forget) (bytes := cX1_forget) (maxL := 4) (ret := (some .int)) (fr := 9) (lo := 205) (as := [gi a1]) (st := [gi (0 : Int32), gr a2]) hq (C := "FlareSlopes") rfl gy_X1_forget (gbl rfl) (gbl rfl) (gbl rfl) q3883 q3884 q3885 dX0_forget_4 K hM R e1 e2) (fun v1 h2 => ?_) (fun q5 h6 => ?_)
  · refine g_i2l (pc := 7) dX0_forget_7 ?_
    refine g_lastore (pc := 8) rfl dX0_forget_8 fun h3 => ?_
    refine g_goto (pc := 9) (tgt := 18) rfl dX0_forget_9 ?_
    refine g_iconst (pc := 18) (v := (0 : Int32)) ic_0 dX0_forget_18 ?_
    exact g_ireturn (pc := 19) rfl dX0_forget_19
  refine g_catch (E := "java/lang/IllegalStateException") [] ⟨0, 9, 12, 21⟩ [⟨0, 9, 15, 13⟩] rfl rfl (List.forall_mem_nil _) (by decide +kernel) (by decide +kernel) q1425 q1439 ?_ ?_
  · refine g_astore_n (pc := 12) (lv' := []) [] rfl rfl (gblt rfl) dX0_forget_12 ?_
    refine g_iconst (pc := 13) (v := (1 : Int32)) ic_1 dX0_forget_13 ?_
    exact g_ireturn (pc := 14) rfl dX0_forget_14
  refine g_catch (E := "java/lang/IndexOutOfBoundsException") [⟨0, 9, 12, 21⟩] ⟨0, 9, 15, 13⟩ [] rfl rfl (List.forall_mem_cons.mpr ⟨Or.inr ⟨by decide +kernel, _, q1425, ncl_java_lang_IndexOutOfBoundsException_java_lang_IllegalStateException⟩, List.forall_mem_nil _⟩) (by decide +kernel) (by decide +kernel) q325 q418 ?_ ?_
  · refine g_astore_n (pc := 15) (lv' := []) [] rfl rfl (gblt rfl) dX0_forget_15 ?_
    refine g_iconst (pc := 16) (v := (2 : Int32)) ic_2 dX0_forget_16 ?_
    exact g_ireturn (pc := 17) rfl dX0_forget_17
  exact g_noneX
/-! FlareSlopesModel.forget(I)I -/
noncomputable def bX2_forget_27 (G : GG) (N : Nat) (a0 : Option Nat) (a1 : Int32) (v5 : Int32) (w11 : (Int32) → Hp → Out (Int32)) (x9 : Int32) (h10 : Hp) : Out (Int32) :=
  bnd (sX2_voteAt G N (a1 + (1 : Int32)) (0 : Int32) (0 : Int32) h10) fun v12 h13 =>
  if v12 ≤ x9 then (some (.inl v5, h13))
  else gFr h13 a0 18 1 fun v14 =>
  gSi G h13 v14 0 x9 (0 : Int32) fun h15 =>
  w11 (x9 + (1 : Int32)) h15
noncomputable def sX2_forget (G : GG) (N : Nat) (a0 : Option Nat) (a1 : Int32) (h : Hp) : Out (Int32) :=
  bV h a0 18 (fun q18 => sX2_mayCabin G N (some q18) a1 h) fun v1 h2 =>
  if v1 = 0 then (some (.inl (0 : Int32), h2))
  else bV h2 a0 18 (fun q17 => sX2_remembers G N (some q17) h2) fun v3 h4 =>
  bV h4 a0 18 (fun q16 => sX2_votesBy G N (some q16) a1 h4) fun v5 h6 =>
  bnd (sX2_voteAt G N a1 (0 : Int32) (0 : Int32) h6) fun v7 h8 =>
  gLp (bX2_forget_27 G N a0 a1 v5) N v7 h8
abbrev mX2_forget : MI := (RX2, cX2_forget, 4, (some .int), [], 3, 66, "forget")
theorem tX2_forget {G : GG} {l : Launch} (hs : l.stackTraces = false) {N : Nat} {a0 : Option Nat} {a1 : Int32} {h : Hp} {r : Int32 ⊕ Nat} {hf : Hp} (ho : sX2_forget G N a0 a1 h = some (r, hf)) : gMet G l yX2_forget (ws_ yX2_forget cX2_forget 4 (some .int)) 3 66 [gr a0, gi a1] h cvI r hf := by
  refine gMet.of ho hs (plainFor_of_name pn_X2) rfl rfl (gbl rfl) fun X => ?_
  show gT G l X mX2_forget cvI r hf 0 [(0, gr a0), (1, gi a1)] [] h (sX2_forget G N a0 a1 h)
  delta sX2_forget
  refine g_aload_n (pc := 0) (x := a0) 0 rfl rfl dX2_forget_0 ?_
  refine g_iload_n (pc := 1) (x := a1) 1 rfl rfl dX2_forget_1 ?_
  refine g_bVi (pc := 2) (y := yX2_mayCabin) (ws := ws_ yX2_mayCabin cX2_mayCabin 2 (some .boolean)) (fr := 2) (lo := 45) (as := [gi a1]) (st := []) (g_no) rfl (fun _ _ _ e => tX2_mayCabin hs e) (fun K _ _ _ hq hM R e1 e2 => g_runV (M := mX2_forget) (pc := 2) (y := yX2_mayCabin) (bytes := cX2_mayCabin) (maxL := 2) (ret := (some .boolean)) (fr := 2) (lo := 45) (as := [gi a1]) (st := []) hq (C := "FlareSlopesModel") rfl gy_X2_mayCabin (gbl rfl) (gbl rfl) (gbl rfl) q4324 q4326 qs105 dX2_forget_2 K hM R e1 e2) fun v1 h2 => ?_
  refine g_if_ne (pc := 5) (tgt := 10) rfl dX2_forget_5 ?_ ?_
  · refine g_iconst (pc := 8) (v := (0 : Int32)) ic_0 dX2_forget_8 ?_
    exact g_ireturn (pc := 9) rfl dX2_forget_9
  refine g_aload_n (pc := 10) (x := a0) 0 rfl rfl dX2_forget_10 ?_
  refine g_bVu (pc := 11) (y := yX2_remembers) (ws := ws_ yX2_remembers cX2_remembers 2 none) (fr := 1) (lo := 24) (as := []) (st := []) (g_no) rfl (fun _ _ _ e => tX2_remembers hs e) (fun K _ _ _ hq hM R e1 e2 => g_runV (M := mX2_forget) (pc := 11) (y := yX2_remembers) (bytes := cX2_remembers) (maxL := 2) (ret := none) (fr := 1) (lo := 24) (as := []) (st := []) hq (C := "FlareSlopesModel") rfl gy_X2_remembers (gbl rfl) (gbl rfl) (gbl rfl) q4555 q4557 qs125 dX2_forget_11 K hM R e1 e2) fun v3 h4 => ?_
  refine g_aload_n (pc := 14) (x := a0) 0 rfl rfl dX2_forget_14 ?_
  refine g_iload_n (pc := 15) (x := a1) 1 rfl rfl dX2_forget_15 ?_
  refine g_bVi (pc := 16) (y := yX2_votesBy) (ws := ws_ yX2_votesBy cX2_votesBy 4 (some .int)) (fr := 1) (lo := 22) (as := [gi a1]) (st := []) (g_no) rfl (fun _ _ _ e => tX2_votesBy hs e) (fun K _ _ _ hq hM R e1 e2 => g_runV (M := mX2_forget) (pc := 16) (y := yX2_votesBy) (bytes := cX2_votesBy) (maxL := 4) (ret := (some .int)) (fr := 1) (lo := 22) (as := [gi a1]) (st := []) hq (C := "FlareSlopesModel") rfl gy_X2_votesBy (gbl rfl) (gbl rfl) (gbl rfl) q4161 q4163 qs79 dX2_forget_16 K hM R e1 e2) fun v5 h6 => ?_
  refine g_istore_n (pc := 19) (lv' := [(2, gi v5), (0, gr a0), (1, gi a1)]) [0, 1, 2] rfl rfl (gblt rfl) dX2_forget_19 ?_
  refine g_iload_n (pc := 20) (x := a1) 2 rfl rfl dX2_forget_20 ?_
  refine g_iconst (pc := 21) (v := (0 : Int32)) ic_0 dX2_forget_21 ?_
  refine g_iconst (pc := 22) (v := (0 : Int32)) ic_0 dX2_forget_22 ?_
  refine g_bi (pc := 23) (y := yX2_voteAt) (ws := ws_ yX2_voteAt cX2_voteAt 3 (some .int)) (fr := 0) (lo := 0) (as := [gi a1, gi (0 : Int32), gi (0 : Int32)]) (st := []) (g_no) rfl (fun _ _ e => tX2_voteAt hs e) (fun K _ _ hM R e1 e2 => g_runS (M := mX2_forget) (pc := 23) (y := yX2_voteAt) (bytes := cX2_voteAt) (maxL := 3) (ret := (some .int)) (fr := 0) (lo := 0) (as := [gi a1, gi (0 : Int32), gi (0 : Int32)]) (st := []) gy_X2_voteAt (gbl rfl) (gbl rfl) (gbl rfl) q4165 q4166 dX2_forget_23 K hM R e1 e2) fun v7 h8 => ?_
  refine g_istore_n (pc := 26) (lv' := [(3, gi v7), (2, gi v5), (0, gr a0), (1, gi a1)]) [0, 1, 2, 3] rfl rfl (gblt rfl) dX2_forget_26 ?_
  refine g_sub (lv' := [(0, gr a0), (1, gi a1), (2, gi v5), (3, gi v7)]) [2, 3, 1, 0] rfl ?_
  refine g_loop (pc := 27) (fun (x9 : Int32) => [(0, gr a0), (1, gi a1), (2, gi v5), (3, gi x9)]) (fun (_ : Int32) => []) (fun w11 Hw11 x9 h10 => ?_) N v7 h8
  delta bX2_forget_27
  refine g_iload_n (pc := 27) (x := x9) 3 rfl rfl dX2_forget_27 ?_
  refine g_iload_n (pc := 28) (x := a1) 1 rfl rfl dX2_forget_28 ?_
  refine g_iconst (pc := 29) (v := (1 : Int32)) ic_1 dX2_forget_29 ?_
  refine g_iadd (pc := 30) dX2_forget_30 ?_
  refine g_iconst (pc := 31) (v := (0 : Int32)) ic_0 dX2_forget_31 ?_
  refine g_iconst (pc := 32) (v := (0 : Int32)) ic_0 dX2_forget_32 ?_
  refine g_bi (pc := 33) (y := yX2_voteAt) (ws := ws_ yX2_voteAt cX2_voteAt 3 (some .int)) (fr := 0) (lo := 0) (as := [gi (a1 + (1 : Int32)), gi (0 : Int32), gi (0 : Int32)]) (st := [gi x9]) (g_no) rfl (fun _ _ e => tX2_voteAt hs e) (fun K _ _ hM R e1 e2 => g_runS (M := mX2_forget) (pc := 33) (y := yX2_voteAt) (bytes := cX2_voteAt) (maxL := 3) (ret := (some .int)) (fr := 0) (lo := 0) (as := [gi (a1 + (1 : Int32)), gi (0 : Int32), gi (0 : Int32)]) (st := [gi x9]) gy_X2_voteAt (gbl rfl) (gbl rfl) (gbl rfl) q4165 q4166 dX2_forget_33 K hM R e1 e2) fun v12 h13 => ?_
  refine g_icmp_ge (pc := 36) (tgt := 52) rfl dX2_forget_36 ?_ ?_
  · refine g_iload_n (pc := 52) (x := v5) 2 rfl rfl dX2_forget_52 ?_
    exact g_ireturn (pc := 53) rfl dX2_forget_53
  refine g_aload_n (pc := 39) (x := a0) 0 rfl rfl dX2_forget_39 ?_
  refine g_getfr (pc := 40) k_18 (gblt rfl) lk_X2_9_18 dX2_forget_40 fun v14 => ?_
  refine g_iload_n (pc := 43) (x := x9) 3 rfl rfl dX2_forget_43 ?_
  refine g_iconst (pc := 44) (v := (0 : Int32)) ic_0 dX2_forget_44 ?_
  refine g_iastore (pc := 45) rfl dX2_forget_45 fun h15 => ?_
  refine g_iinc (pc := 46) (v := x9 + (1 : Int32)) 3 rfl (ii_1 _) (lv' := [(3, gi (x9 + (1 : Int32))), (0, gr a0), (1, gi a1), (2, gi v5)]) [0, 1, 2, 3] rfl (gblt rfl) dX2_forget_46 ?_
  refine g_goto (pc := 49) (tgt := 27) rfl dX2_forget_49 ?_
  exact g_sub [1, 2, 3, 0] rfl (Hw11 (x9 + (1 : Int32)) h15)
/-! FlareSlopes.set(II)I -/
noncomputable def sX1_set (G : GG) (N : Nat) (a0 : Option Nat) (a1 : Int32) (a2 : Int32) (h : Hp) : Out (Int32) :=
  bV h a0 3 (fun q24 => sX1_loaded G N (some q24) h) fun v1 h2 =>
  bnd (sX1_in G N a1 (0 : Int32) (5 : Int32) h2) fun v3 h4 =>
  bnd (sX1_checkArgument G N v3 h4) fun v5 h6 =>
  gFr h6 v1 16 2 fun v7 =>
  bnd (sX1_leastOf G N a1 v7 h6) fun v8 h9 =>
  gFr h9 v1 16 2 fun v10 =>
  bnd (sX1_mostOf G N a1 v10 h9) fun v11 h12 =>
  bnd (sX1_in G N a2 v8 v11 h12) fun v13 h14 =>
  bnd (sX1_checkArgument G N v13 h14) fun v15 h16 =>
  bV h16 a0 3 (fun q23 => sX1_change G N (some q23) h16) fun v17 h18 =>
  gFr h18 v17 16 2 fun v19 =>
  gSi G h18 v19 0 a1 a2 fun h20 =>
  gFr h20 v1 16 2 fun v21 =>
  gAi h20 v21 0 a1 fun v22 =>
  some (.inl v22, h20)
abbrev mX1_set : MI := (RX1, cX1_set, 5, (some .int), [], 9, 205, "set")
theorem tX1_set {G : GG} {l : Launch} (hs : l.stackTraces = false) {N : Nat} {a0 : Option Nat} {a1 : Int32} {a2 : Int32} {h : Hp} {r : Int32 ⊕ Nat} {hf : Hp} (ho : sX1_set G N a0 a1 a2 h = some (r, hf)) : gMet G l yX1_set (ws_ yX1_set cX1_set 5 (some .int)) 9 205 [gr a0, gi a1, gi a2] h cvI r hf := by
  refine gMet.of ho hs (plainFor_of_name pn_X1) rfl rfl (gbl rfl) fun X => ?_
  show gT G l X mX1_set cvI r hf 0 [(0, gr a0), (1, gi a1), (2, gi a2)] [] h (sX1_set G N a0 a1 a2 h)
  delta sX1_set
  refine g_aload_n (pc := 0) (x := a0) 0 rfl rfl dX1_set_0 ?_
  refine g_bVr (pc := 1) (y := yX1_loaded) (ws := ws_ yX1_loaded cX1_loaded 1 (some (.object "FlareSlopes$State"))) (fr := 7) (lo := 101) (as := []) (st := []) (g_no) rfl (fun _ _ _ e => tX1_loaded hs e) (fun K _ _ _ hq hM R e1 e2 => g_runV (M := mX1_set) (pc := 1) (y := yX1_loaded) (bytes := cX1_loaded) (maxL := 1) (ret := (some (.object "FlareSlopes$State"))) (fr := 7) (lo := 101) (as := []) (st := []) hq (C := "FlareSlopes") rfl gy_X1_loaded (gbl rfl) (gbl rfl) (gbl rfl) q1430 q1432 qs17 dX1_set_1 K hM R e1 e2) fun v1 h2 => ?_
  refine g_astore_n (pc := 4) (lv' := [(3, gr v1), (0, gr a0), (1, gi a1), (2, gi a2)]) [0, 1, 2, 3] rfl rfl (gblt rfl) dX1_set_4 ?_
  refine g_iload_n (pc := 5) (x := a1) 2 rfl rfl dX1_set_5 ?_
  refine g_iconst (pc := 6) (v := (0 : Int32)) ic_0 dX1_set_6 ?_
  refine g_iconst (pc := 7) (v := (5 : Int32)) ic_5 dX1_set_7 ?_
  refine g_bi (pc := 8) (y := yX1_in) (ws := ws_ yX1_in cX1_in 3 (some .boolean)) (fr := 0) (lo := 0) (as := [gi a1, gi (0 : Int32), gi (5 : Int32)]) (st := []) (g_no) rfl (fun _ _ e => tX1_in hs e) (fun K _ _ hM R e1 e2 => g_runS (M := mX1_set) (pc := 8) (y := yX1_in) (bytes := cX1_in) (maxL := 3) (ret := (some .boolean)) (fr := 0) (lo := 0) (as := [gi a1, gi (0 : Int32), gi (5 : Int32)]) (st := []) gy_X1_in (gbl rfl) (gbl rfl) (gbl rfl) q413 q414 dX1_set_8 K hM R e1 e2) fun v3 h4 => ?_
  refine g_bu (pc := 11) (y := yX1_checkArgument) (ws := ws_ yX1_checkArgument cX1_checkArgument 1 none) (fr := 6) (lo := 81) (as := [gi v3]) (st := []) (g_no) rfl (fun _ _ e => tX1_checkArgument hs e) (fun K _ _ hM R e1 e2 => g_runS (M := mX1_set) (pc := 11) (y := yX1_checkArgument) (bytes := cX1_checkArgument) (maxL := 1) (ret := none) (fr := 6) (lo := 81) (as := [gi v3]) (st := []) gy_X1_checkArgument (gbl rfl) (gbl rfl) (gbl rfl) q1958 q1959 dX1_set_11 K hM R e1 e2) fun v5 h6 => ?_
  refine g_iload_n (pc := 14) (x := a2) 3 rfl rfl dX1_set_14 ?_
  refine g_iload_n (pc := 15) (x := a1) 2 rfl rfl dX1_set_15 ?_
  refine g_aload_n (pc := 16) (x := v1) 0 rfl rfl dX1_set_16 ?_
  refine g_getfr (pc := 17) k_16 (gblt rfl) lk_X1_240_16 dX1_set_17 fun v7 => ?_
  refine g_bi (pc := 20) (y := yX1_leastOf) (ws := ws_ yX1_leastOf cX1_leastOf 2 (some .int)) (fr := 0) (lo := 0) (as := [gi a1, gr v7]) (st := [gi a2]) (g_no) rfl (fun _ _ e => tX1_leastOf hs e) (fun K _ _ hM R e1 e2 => g_runS (M := mX1_set) (pc := 20) (y := yX1_leastOf) (bytes := cX1_leastOf) (maxL := 2) (ret := (some .int)) (fr := 0) (lo := 0) (as := [gi a1, gr v7]) (st := [gi a2]) gy_X1_leastOf (gbl rfl) (gbl rfl) (gbl rfl) q3906 q875 dX1_set_20 K hM R e1 e2) fun v8 h9 => ?_
  refine g_iload_n (pc := 23) (x := a1) 2 rfl rfl dX1_set_23 ?_
  refine g_aload_n (pc := 24) (x := v1) 0 rfl rfl dX1_set_24 ?_
  refine g_getfr (pc := 25) k_16 (gblt rfl) lk_X1_240_16 dX1_set_25 fun v10 => ?_
  refine g_bi (pc := 28) (y := yX1_mostOf) (ws := ws_ yX1_mostOf cX1_mostOf 2 (some .int)) (fr := 1) (lo := 21) (as := [gi a1, gr v10]) (st := [gi v8, gi a2]) (g_no) rfl (fun _ _ e => tX1_mostOf hs e) (fun K _ _ hM R e1 e2 => g_runS (M := mX1_set) (pc := 28) (y := yX1_mostOf) (bytes := cX1_mostOf) (maxL := 2) (ret := (some .int)) (fr := 1) (lo := 21) (as := [gi a1, gr v10]) (st := [gi v8, gi a2]) gy_X1_mostOf (gbl rfl) (gbl rfl) (gbl rfl) q3907 q878 dX1_set_28 K hM R e1 e2) fun v11 h12 => ?_
  refine g_bi (pc := 31) (y := yX1_in) (ws := ws_ yX1_in cX1_in 3 (some .boolean)) (fr := 0) (lo := 0) (as := [gi a2, gi v8, gi v11]) (st := []) (g_no) rfl (fun _ _ e => tX1_in hs e) (fun K _ _ hM R e1 e2 => g_runS (M := mX1_set) (pc := 31) (y := yX1_in) (bytes := cX1_in) (maxL := 3) (ret := (some .boolean)) (fr := 0) (lo := 0) (as := [gi a2, gi v8, gi v11]) (st := []) gy_X1_in (gbl rfl) (gbl rfl) (gbl rfl) q413 q414 dX1_set_31 K hM R e1 e2) fun v13 h14 => ?_
  refine g_bu (pc := 34) (y := yX1_checkArgument) (ws := ws_ yX1_checkArgument cX1_checkArgument 1 none) (fr := 6) (lo := 81) (as := [gi v13]) (st := []) (g_no) rfl (fun _ _ e => tX1_checkArgument hs e) (fun K _ _ hM R e1 e2 => g_runS (M := mX1_set) (pc := 34) (y := yX1_checkArgument) (bytes := cX1_checkArgument) (maxL := 1) (ret := none) (fr := 6) (lo := 81) (as := [gi v13]) (st := []) gy_X1_checkArgument (gbl rfl) (gbl rfl) (gbl rfl) q1958 q1959 dX1_set_34 K hM R e1 e2) fun v15 h16 => ?_
  refine g_aload_n (pc := 37) (x := a0) 1 rfl rfl dX1_set_37 ?_
  refine g_bVr (pc := 38) (y := yX1_change) (ws := ws_ yX1_change cX1_change 1 (some (.object "FlareSlopes$State"))) (fr := 8) (lo := 185) (as := []) (st := []) (g_no) rfl (fun _ _ _ e => tX1_change hs e) (fun K _ _ _ hq hM R e1 e2 => g_runV (M := mX1_set) (pc := 38) (y := yX1_change) (bytes := cX1_change) (maxL := 1) (ret := (some (.object "FlareSlopes$State"))) (fr := 8) (lo := 185) (as := []) (st := []) hq (C := "FlareSlopes") rfl gy_X1_change (gbl rfl) (gbl rfl) (gbl rfl) q3752 q3754 qs52 dX1_set_38 K hM R e1 e2) fun v17 h18 => ?_
  refine g_astore (pc := 41) (lv' := [(4, gr v17), (3, gr v1), (1, gi a1), (2, gi a2)]) [0, 1, 3, 4] rfl (gblt rfl) dX1_set_41 ?_
  refine g_aload (pc := 43) (x := v17) 0 rfl dX1_set_43 ?_
  refine g_getfr (pc := 45) k_16 (gblt rfl) lk_X1_240_16 dX1_set_45 fun v19 => ?_
  refine g_iload_n (pc := 48) (x := a1) 2 rfl rfl dX1_set_48 ?_
  refine g_iload_n (pc := 49) (x := a2) 3 rfl rfl dX1_set_49 ?_
  refine g_iastore (pc := 50) rfl dX1_set_50 fun h20 => ?_
  refine g_aload_n (pc := 51) (x := v1) 1 rfl rfl dX1_set_51 ?_
  refine g_getfr (pc := 52) k_16 (gblt rfl) lk_X1_240_16 dX1_set_52 fun v21 => ?_
  refine g_iload_n (pc := 55) (x := a1) 2 rfl rfl dX1_set_55 ?_
  refine g_iaload (pc := 56) rfl dX1_set_56 fun v22 => ?_
  exact g_ireturn (pc := 57) rfl dX1_set_57
/-! FlareSlopesLaw.set(LFlareSlopes;II[J)I -/
noncomputable def sX0_set (G : GG) (N : Nat) (a0 : Option Nat) (a1 : Int32) (a2 : Int32) (a3 : Option Nat) (h : Hp) : Out (Int32) :=
  bVX h a0 3 (fun q4 => sX1_set G N (some q4) a1 a2 h) (fun v1 h2 =>
  gSl G h2 a3 3 (0 : Int32) (v1.toInt64) fun h3 =>
  some (.inl (0 : Int32), h3)) fun q5 h6 =>
  gSw h6 (some q5) 0 (some (.inl (1 : Int32), h6)) (gSw h6 (some q5) 1 (some (.inl (2 : Int32), h6)) (none))
abbrev mX0_set : MI := (RX0, cX0_set, 5, (some .int), [(0, 10, 13, 21), (0, 10, 17, 15)], 10, 229, "set")
theorem tX0_set {G : GG} {l : Launch} (hs : l.stackTraces = false) {N : Nat} {a0 : Option Nat} {a1 : Int32} {a2 : Int32} {a3 : Option Nat} {h : Hp} {r : Int32 ⊕ Nat} {hf : Hp} (ho : sX0_set G N a0 a1 a2 a3 h = some (r, hf)) : gMet G l yX0_set (wsW_ yX0_set cX0_set 5 (some .int) [(0, 10, 13, 21), (0, 10, 17, 15)]) 10 229 [gr a0, gi a1, gi a2, gr a3] h cvI r hf := by
  refine gMet.ofW ho hs (plainFor_of_name pn_X0) rfl rfl (gbl rfl) fun X => ?_
  show gT G l X mX0_set cvI r hf 0 [(0, gr a0), (1, gi a1), (2, gi a2), (3, gr a3)] [] h (sX0_set G N a0 a1 a2 a3 h)
  delta sX0_set
  refine g_aload_n (pc := 0) (x := a3) 3 rfl rfl dX0_set_0 ?_
  refine g_iconst (pc := 1) (v := (0 : Int32)) ic_0 dX0_set_1 ?_
  refine g_aload_n (pc := 2) (x := a0) 0 rfl rfl dX0_set_2 ?_
  refine g_iload_n (pc := 3) (x := a1) 1 rfl rfl dX0_set_3 ?_
  refine g_iload_n (pc := 4) (x := a2) 2 rfl rfl dX0_set_4 ?_
  refine g_bVXi (pc := 5) (y := yX1_set) (ws := ws_ yX1_set cX1_set 5 (some .int)) (fr := 9) (lo := 205) (as := [gi a1, gi a2]) (st := [gi (0 : Int32), gr a3]) rfl (fun _ _ _ e => tX1_set hs e) (fun K _ _ _ hq hM R e1 e2 => g_runV (M := mX0_set) (pc := 5) (y := yX1_set) (bytes := cX1_set) (maxL := 5) (ret := (some .int)) (fr := 9) (lo := 205) (as := [gi a1, gi a2]) (st := [gi (0 : Int32), gr a3]) hq (C := "FlareSlopes") rfl gy_X1_set (gbl rfl) (gbl rfl) (gbl rfl) q3902 q3903 q3904 dX0_set_5 K hM R e1 e2) (fun v1 h2 => ?_) (fun q5 h6 => ?_)
  · refine g_i2l (pc := 8) dX0_set_8 ?_
    refine g_lastore (pc := 9) rfl dX0_set_9 fun h3 => ?_
    refine g_goto (pc := 10) (tgt := 21) rfl dX0_set_10 ?_
    refine g_iconst (pc := 21) (v := (0 : Int32)) ic_0 dX0_set_21 ?_
    exact g_ireturn (pc := 22) rfl dX0_set_22
  refine g_catch (E := "java/lang/IllegalStateException") [] ⟨0, 10, 13, 21⟩ [⟨0, 10, 17, 15⟩] rfl rfl (List.forall_mem_nil _) (by decide +kernel) (by decide +kernel) q1425 q1439 ?_ ?_
  · refine g_astore (pc := 13) (lv' := []) [] rfl (gblt rfl) dX0_set_13 ?_
    refine g_iconst (pc := 15) (v := (1 : Int32)) ic_1 dX0_set_15 ?_
    exact g_ireturn (pc := 16) rfl dX0_set_16
  refine g_catch (E := "java/lang/IllegalArgumentException") [⟨0, 10, 13, 21⟩] ⟨0, 10, 17, 15⟩ [] rfl rfl (List.forall_mem_cons.mpr ⟨Or.inr ⟨by decide +kernel, _, q1425, ncl_java_lang_IllegalArgumentException_java_lang_IllegalStateException⟩, List.forall_mem_nil _⟩) (by decide +kernel) (by decide +kernel) q404 q751 ?_ ?_
  · refine g_astore (pc := 17) (lv' := []) [] rfl (gblt rfl) dX0_set_17 ?_
    refine g_iconst (pc := 19) (v := (2 : Int32)) ic_2 dX0_set_19 ?_
    exact g_ireturn (pc := 20) rfl dX0_set_20
  exact g_noneX
/-! FlareSlopesModel.highNow(I)I -/
noncomputable def sX2_highNow (G : GG) (N : Nat) (a0 : Option Nat) (a1 : Int32) (h : Hp) : Out (Int32) :=
  if a1 = (3 : Int32) then (gFr h a0 18 1 fun v4 =>
  gAi h v4 0 (4 : Int32) fun v5 =>
  bnd (sJ14_min G N (9 : Int32) v5 h) fun v6 h7 =>
  some (.inl v6, h7))
  else bV h a0 18 (fun q3 => sX2_highOf G N (some q3) a1 h) fun v1 h2 =>
  some (.inl v1, h2)
abbrev mX2_highNow : MI := (RX2, cX2_highNow, 2, (some .int), [], 1, 21, "highNow")
theorem tX2_highNow {G : GG} {l : Launch} (hs : l.stackTraces = false) {N : Nat} {a0 : Option Nat} {a1 : Int32} {h : Hp} {r : Int32 ⊕ Nat} {hf : Hp} (ho : sX2_highNow G N a0 a1 h = some (r, hf)) : gMet G l yX2_highNow (ws_ yX2_highNow cX2_highNow 2 (some .int)) 1 21 [gr a0, gi a1] h cvI r hf := by
  refine gMet.of ho hs (plainFor_of_name pn_X2) rfl rfl (gbl rfl) fun X => ?_
  show gT G l X mX2_highNow cvI r hf 0 [(0, gr a0), (1, gi a1)] [] h (sX2_highNow G N a0 a1 h)
  delta sX2_highNow
  refine g_iload_n (pc := 0) (x := a1) 1 rfl rfl dX2_highNow_0 ?_
  refine g_iconst (pc := 1) (v := (3 : Int32)) ic_3 dX2_highNow_1 ?_
  refine g_icmp_ne (pc := 2) (tgt := 19) rfl dX2_highNow_2 ?_ ?_
  rotate_left
  · refine g_aload_n (pc := 19) (x := a0) 0 rfl rfl dX2_highNow_19 ?_
    refine g_iload_n (pc := 20) (x := a1) 1 rfl rfl dX2_highNow_20 ?_
    refine g_bVi (pc := 21) (y := yX2_highOf) (ws := ws_ yX2_highOf cX2_highOf 2 (some .int)) (fr := 0) (lo := 0) (as := [gi a1]) (st := []) (g_no) rfl (fun _ _ _ e => tX2_highOf hs e) (fun K _ _ _ hq hM R e1 e2 => g_runV (M := mX2_highNow) (pc := 21) (y := yX2_highOf) (bytes := cX2_highOf) (maxL := 2) (ret := (some .int)) (fr := 0) (lo := 0) (as := [gi a1]) (st := []) hq (C := "FlareSlopesModel") rfl gy_X2_highOf (gbl rfl) (gbl rfl) (gbl rfl) q4096 q4098 qs66 dX2_highNow_21 K hM R e1 e2) fun v1 h2 => ?_
    exact g_ireturn (pc := 24) rfl dX2_highNow_24
  refine g_bipush (pc := 5) (v := (9 : Int32)) bc_9 dX2_highNow_5 ?_
  refine g_aload_n (pc := 7) (x := a0) 0 rfl rfl dX2_highNow_7 ?_
  refine g_getfr (pc := 8) k_18 (gblt rfl) lk_X2_9_18 dX2_highNow_8 fun v4 => ?_
  refine g_iconst (pc := 11) (v := (4 : Int32)) ic_4 dX2_highNow_11 ?_
  refine g_iaload (pc := 12) rfl dX2_highNow_12 fun v5 => ?_
  refine g_bi (pc := 13) (y := yJ14_min) (ws := ws_ yJ14_min cJ14_min 2 (some .int)) (fr := 0) (lo := 0) (as := [gi (9 : Int32), gi v5]) (st := []) (g_no) rfl (fun _ _ e => tJ14_min hs e) (fun K _ _ hM R e1 e2 => g_runS (M := mX2_highNow) (pc := 13) (y := yJ14_min) (bytes := cJ14_min) (maxL := 2) (ret := (some .int)) (fr := 0) (lo := 0) (as := [gi (9 : Int32), gi v5]) (st := []) gy_J14_min (gbl rfl) (gbl rfl) (gbl rfl) q4447 q656 dX2_highNow_13 K hM R e1 e2) fun v6 h7 => ?_
  refine g_goto (pc := 16) (tgt := 24) rfl dX2_highNow_16 ?_
  exact g_ireturn (pc := 24) rfl dX2_highNow_24
/-! FlareSlopesModel.set(II)I -/
noncomputable def sX2_set (G : GG) (N : Nat) (a0 : Option Nat) (a1 : Int32) (a2 : Int32) (h : Hp) : Out (Int32) :=
  gFi h a0 18 8 fun v1 =>
  bnd (sX2_in G N a1 (0 : Int32) (5 : Int32) h) fun v2 h3 =>
  gJ (fun (x4 : Int32) (h5 : Hp) =>
  bV h5 a0 18 (fun q16 => sX2_mayTwo G N (some q16) v1 x4 h5) fun v7 h8 =>
  if v7 = 0 then (some (.inl (0 : Int32), h8))
  else bV h8 a0 18 (fun q15 => sX2_remembers G N (some q15) h8) fun v9 h10 =>
  gFr h10 a0 18 1 fun v11 =>
  gAi h10 v11 0 a1 fun v12 =>
  gFr h10 a0 18 1 fun v13 =>
  gSi G h10 v13 0 a1 a2 fun h14 =>
  some (.inl v12, h14)) fun j6 =>
  gJ (fun (x17 : Unit) (h18 : Hp) =>
  j6 (0 : Int32) h18) fun j19 =>
  if v2 = 0 then (j19 () h3)
  else bV h3 a0 18 (fun q27 => sX2_lowOf G N (some q27) a1 h3) fun v20 h21 =>
  bV h21 a0 18 (fun q26 => sX2_highNow G N (some q26) a1 h21) fun v22 h23 =>
  bnd (sX2_in G N a2 v20 v22 h23) fun v24 h25 =>
  if v24 = 0 then (j19 () h25)
  else j6 (1 : Int32) h25
abbrev mX2_set : MI := (RX2, cX2_set, 4, (some .int), [], 2, 45, "set")
theorem tX2_set {G : GG} {l : Launch} (hs : l.stackTraces = false) {N : Nat} {a0 : Option Nat} {a1 : Int32} {a2 : Int32} {h : Hp} {r : Int32 ⊕ Nat} {hf : Hp} (ho : sX2_set G N a0 a1 a2 h = some (r, hf)) : gMet G l yX2_set (ws_ yX2_set cX2_set 4 (some .int)) 2 45 [gr a0, gi a1, gi a2] h cvI r hf := by
  refine gMet.of ho hs (plainFor_of_name pn_X2) rfl rfl (gbl rfl) fun X => ?_
  show gT G l X mX2_set cvI r hf 0 [(0, gr a0), (1, gi a1), (2, gi a2)] [] h (sX2_set G N a0 a1 a2 h)
  delta sX2_set
  refine g_aload_n (pc := 0) (x := a0) 0 rfl rfl dX2_set_0 ?_
  refine g_aload_n (pc := 1) (x := a0) 0 rfl rfl dX2_set_1 ?_
  refine g_getfi (pc := 2) k_18 (gblt rfl) lk_X2_184_18 dX2_set_2 fun v1 => ?_
  refine g_iload_n (pc := 5) (x := a1) 1 rfl rfl dX2_set_5 ?_
  refine g_iconst (pc := 6) (v := (0 : Int32)) ic_0 dX2_set_6 ?_
  refine g_iconst (pc := 7) (v := (5 : Int32)) ic_5 dX2_set_7 ?_
  refine g_bi (pc := 8) (y := yX2_in) (ws := ws_ yX2_in cX2_in 3 (some .boolean)) (fr := 0) (lo := 0) (as := [gi a1, gi (0 : Int32), gi (5 : Int32)]) (st := [gi v1, gr a0]) (g_no) rfl (fun _ _ e => tX2_in hs e) (fun K _ _ hM R e1 e2 => g_runS (M := mX2_set) (pc := 8) (y := yX2_in) (bytes := cX2_in) (maxL := 3) (ret := (some .boolean)) (fr := 0) (lo := 0) (as := [gi a1, gi (0 : Int32), gi (5 : Int32)]) (st := [gi v1, gr a0]) gy_X2_in (gbl rfl) (gbl rfl) (gbl rfl) q4037 q4038 dX2_set_8 K hM R e1 e2) fun v2 h3 => ?_
  refine g_join 36 (fun (x4 : Int32) => [(0, gr a0), (1, gi a1), (2, gi a2)]) (fun (x4 : Int32) => [gi x4, gi v1, gr a0]) (fun x4 h5 => ?_) (fun j6 Hj6 => ?_)
  · refine g_bVi (pc := 36) (y := yX2_mayTwo) (ws := ws_ yX2_mayTwo cX2_mayTwo 3 (some .boolean)) (fr := 1) (lo := 23) (as := [gi v1, gi x4]) (st := []) (g_no) rfl (fun _ _ _ e => tX2_mayTwo hs e) (fun K _ _ _ hq hM R e1 e2 => g_runV (M := mX2_set) (pc := 36) (y := yX2_mayTwo) (bytes := cX2_mayTwo) (maxL := 3) (ret := (some .boolean)) (fr := 1) (lo := 23) (as := [gi v1, gi x4]) (st := []) hq (C := "FlareSlopesModel") rfl gy_X2_mayTwo (gbl rfl) (gbl rfl) (gbl rfl) q4145 q4147 qs76 dX2_set_36 K hM R e1 e2) fun v7 h8 => ?_
    refine g_if_ne (pc := 39) (tgt := 44) rfl dX2_set_39 ?_ ?_
    · refine g_iconst (pc := 42) (v := (0 : Int32)) ic_0 dX2_set_42 ?_
      exact g_ireturn (pc := 43) rfl dX2_set_43
    refine g_aload_n (pc := 44) (x := a0) 0 rfl rfl dX2_set_44 ?_
    refine g_bVu (pc := 45) (y := yX2_remembers) (ws := ws_ yX2_remembers cX2_remembers 2 none) (fr := 1) (lo := 24) (as := []) (st := []) (g_no) rfl (fun _ _ _ e => tX2_remembers hs e) (fun K _ _ _ hq hM R e1 e2 => g_runV (M := mX2_set) (pc := 45) (y := yX2_remembers) (bytes := cX2_remembers) (maxL := 2) (ret := none) (fr := 1) (lo := 24) (as := []) (st := []) hq (C := "FlareSlopesModel") rfl gy_X2_remembers (gbl rfl) (gbl rfl) (gbl rfl) q4555 q4557 qs125 dX2_set_45 K hM R e1 e2) fun v9 h10 => ?_
    refine g_aload_n (pc := 48) (x := a0) 0 rfl rfl dX2_set_48 ?_
    refine g_getfr (pc := 49) k_18 (gblt rfl) lk_X2_9_18 dX2_set_49 fun v11 => ?_
    refine g_iload_n (pc := 52) (x := a1) 1 rfl rfl dX2_set_52 ?_
    refine g_iaload (pc := 53) rfl dX2_set_53 fun v12 => ?_
    refine g_istore_n (pc := 54) (lv' := [(3, gi v12), (0, gr a0), (1, gi a1), (2, gi a2)]) [0, 1, 2, 3] rfl rfl (gblt rfl) dX2_set_54 ?_
    refine g_aload_n (pc := 55) (x := a0) 1 rfl rfl dX2_set_55 ?_
    refine g_getfr (pc := 56) k_18 (gblt rfl) lk_X2_9_18 dX2_set_56 fun v13 => ?_
    refine g_iload_n (pc := 59) (x := a1) 2 rfl rfl dX2_set_59 ?_
    refine g_iload_n (pc := 60) (x := a2) 3 rfl rfl dX2_set_60 ?_
    refine g_iastore (pc := 61) rfl dX2_set_61 fun h14 => ?_
    refine g_iload_n (pc := 62) (x := v12) 0 rfl rfl dX2_set_62 ?_
    exact g_ireturn (pc := 63) rfl dX2_set_63
  refine g_join 35 (fun (x17 : Unit) => [(0, gr a0), (1, gi a1), (2, gi a2)]) (fun (x17 : Unit) => [gi v1, gr a0]) (fun x17 h18 => ?_) (fun j19 Hj19 => ?_)
  · refine g_iconst (pc := 35) (v := (0 : Int32)) ic_0 dX2_set_35 ?_
    exact Hj6 (0 : Int32) h18
  refine g_if_eq (pc := 11) (tgt := 35) rfl dX2_set_11 ?_ ?_
  · exact Hj19 () h3
  refine g_iload_n (pc := 14) (x := a2) 2 rfl rfl dX2_set_14 ?_
  refine g_aload_n (pc := 15) (x := a0) 0 rfl rfl dX2_set_15 ?_
  refine g_iload_n (pc := 16) (x := a1) 1 rfl rfl dX2_set_16 ?_
  refine g_bVi (pc := 17) (y := yX2_lowOf) (ws := ws_ yX2_lowOf cX2_lowOf 2 (some .int)) (fr := 0) (lo := 0) (as := [gi a1]) (st := [gi a2, gi v1, gr a0]) (g_no) rfl (fun _ _ _ e => tX2_lowOf hs e) (fun K _ _ _ hq hM R e1 e2 => g_runV (M := mX2_set) (pc := 17) (y := yX2_lowOf) (bytes := cX2_lowOf) (maxL := 2) (ret := (some .int)) (fr := 0) (lo := 0) (as := [gi a1]) (st := [gi a2, gi v1, gr a0]) hq (C := "FlareSlopesModel") rfl gy_X2_lowOf (gbl rfl) (gbl rfl) (gbl rfl) q4092 q4094 qs65 dX2_set_17 K hM R e1 e2) fun v20 h21 => ?_
  refine g_aload_n (pc := 20) (x := a0) 0 rfl rfl dX2_set_20 ?_
  refine g_iload_n (pc := 21) (x := a1) 1 rfl rfl dX2_set_21 ?_
  refine g_bVi (pc := 22) (y := yX2_highNow) (ws := ws_ yX2_highNow cX2_highNow 2 (some .int)) (fr := 1) (lo := 21) (as := [gi a1]) (st := [gi v20, gi a2, gi v1, gr a0]) (g_no) rfl (fun _ _ _ e => tX2_highNow hs e) (fun K _ _ _ hq hM R e1 e2 => g_runV (M := mX2_set) (pc := 22) (y := yX2_highNow) (bytes := cX2_highNow) (maxL := 2) (ret := (some .int)) (fr := 1) (lo := 21) (as := [gi a1]) (st := [gi v20, gi a2, gi v1, gr a0]) hq (C := "FlareSlopesModel") rfl gy_X2_highNow (gbl rfl) (gbl rfl) (gbl rfl) q4595 q4597 qs126 dX2_set_22 K hM R e1 e2) fun v22 h23 => ?_
  refine g_bi (pc := 25) (y := yX2_in) (ws := ws_ yX2_in cX2_in 3 (some .boolean)) (fr := 0) (lo := 0) (as := [gi a2, gi v20, gi v22]) (st := [gi v1, gr a0]) (g_no) rfl (fun _ _ e => tX2_in hs e) (fun K _ _ hM R e1 e2 => g_runS (M := mX2_set) (pc := 25) (y := yX2_in) (bytes := cX2_in) (maxL := 3) (ret := (some .boolean)) (fr := 0) (lo := 0) (as := [gi a2, gi v20, gi v22]) (st := [gi v1, gr a0]) gy_X2_in (gbl rfl) (gbl rfl) (gbl rfl) q4037 q4038 dX2_set_25 K hM R e1 e2) fun v24 h25 => ?_
  refine g_if_eq (pc := 28) (tgt := 35) rfl dX2_set_28 ?_ ?_
  · exact Hj19 () h25
  refine g_iconst (pc := 31) (v := (1 : Int32)) ic_1 dX2_set_31 ?_
  refine g_goto (pc := 32) (tgt := 36) rfl dX2_set_32 ?_
  exact Hj6 (1 : Int32) h25
/-! java/util/ArrayDeque.isEmpty()Z -/
noncomputable def sJ1_isEmpty (G : GG) (N : Nat) (a0 : Option Nat) (h : Hp) : Out (Int32) :=
  gFi h a0 22 1 fun v1 =>
  gFi h a0 22 2 fun v2 =>
  if v1 = v2 then (gRtZ (1 : Int32) h)
  else gRtZ (0 : Int32) h
abbrev mJ1_isEmpty : MI := (RJ1, cJ1_isEmpty, 1, (some .boolean), [], 0, 0, "isEmpty")
theorem tJ1_isEmpty {G : GG} {l : Launch} (hs : l.stackTraces = false) {N : Nat} {a0 : Option Nat} {h : Hp} {r : Int32 ⊕ Nat} {hf : Hp} (ho : sJ1_isEmpty G N a0 h = some (r, hf)) : gMet G l yJ1_isEmpty (ws_ yJ1_isEmpty cJ1_isEmpty 1 (some .boolean)) 0 0 [gr a0] h cvI r hf := by
  refine gMet.of ho hs (plainFor_of_name pn_J1) rfl rfl (gbl rfl) fun X => ?_
  show gT G l X mJ1_isEmpty cvI r hf 0 [(0, gr a0)] [] h (sJ1_isEmpty G N a0 h)
  delta sJ1_isEmpty
  refine g_aload_n (pc := 0) (x := a0) 0 rfl rfl dJ1_isEmpty_0 ?_
  refine g_getfi (pc := 1) k_22 (gblt rfl) lk_J1_24_22 dJ1_isEmpty_1 fun v1 => ?_
  refine g_aload_n (pc := 4) (x := a0) 0 rfl rfl dJ1_isEmpty_4 ?_
  refine g_getfi (pc := 5) k_22 (gblt rfl) lk_J1_20_22 dJ1_isEmpty_5 fun v2 => ?_
  refine g_icmp_ne (pc := 8) (tgt := 15) rfl dJ1_isEmpty_8 ?_ ?_
  rotate_left
  · refine g_iconst (pc := 15) (v := (0 : Int32)) ic_0 dJ1_isEmpty_15 ?_
    exact g_zreturn (pc := 16) rfl dJ1_isEmpty_16
  refine g_iconst (pc := 11) (v := (1 : Int32)) ic_1 dJ1_isEmpty_11 ?_
  refine g_goto (pc := 12) (tgt := 16) rfl dJ1_isEmpty_12 ?_
  exact g_zreturn (pc := 16) rfl dJ1_isEmpty_16
/-! FlareSlopes.undo()I -/
noncomputable def sX1_undo (G : GG) (N : Nat) (a0 : Option Nat) (h : Hp) : Out (Int32) :=
  gFr h a0 3 5 fun v1 =>
  bV h v1 22 (fun q18 => sJ1_isEmpty G N (some q18) h) fun v2 h3 =>
  gJ (fun (x4 : Int32) (h5 : Hp) =>
  bnd (sX1_checkState G N x4 h5) fun v7 h8 =>
  gFr h8 a0 3 5 fun v9 =>
  bV h8 v9 22 (fun q17 => sJ1_removeLast G N (some q17) h8) fun v10 h11 =>
  gCk h11 v10 [16] (gP G h11 a0 3 4 (va_rf v10) fun h12 =>
  gFr h12 a0 3 5 fun v13 =>
  bV h12 v13 22 (fun q16 => sJ1_size G N (some q16) h12) fun v14 h15 =>
  some (.inl v14, h15))) fun j6 =>
  if v2 = 0 then (j6 (1 : Int32) h3)
  else j6 (0 : Int32) h3
abbrev mX1_undo : MI := (RX1, cX1_undo, 1, (some .int), [], 7, 101, "undo")
theorem tX1_undo {G : GG} {l : Launch} (hs : l.stackTraces = false) {N : Nat} {a0 : Option Nat} {h : Hp} {r : Int32 ⊕ Nat} {hf : Hp} (ho : sX1_undo G N a0 h = some (r, hf)) : gMet G l yX1_undo (ws_ yX1_undo cX1_undo 1 (some .int)) 7 101 [gr a0] h cvI r hf := by
  refine gMet.of ho hs (plainFor_of_name pn_X1) rfl rfl (gbl rfl) fun X => ?_
  show gT G l X mX1_undo cvI r hf 0 [(0, gr a0)] [] h (sX1_undo G N a0 h)
  delta sX1_undo
  refine g_aload_n (pc := 0) (x := a0) 0 rfl rfl dX1_undo_0 ?_
  refine g_getfr (pc := 1) k_3 (gblt rfl) lk_X1_26_3 dX1_undo_1 fun v1 => ?_
  refine g_bVi (pc := 4) (y := yJ1_isEmpty) (ws := ws_ yJ1_isEmpty cJ1_isEmpty 1 (some .boolean)) (fr := 0) (lo := 0) (as := []) (st := []) (g_no) rfl (fun _ _ _ e => tJ1_isEmpty hs e) (fun K _ _ _ hq hM R e1 e2 => g_runV (M := mX1_undo) (pc := 4) (y := yJ1_isEmpty) (bytes := cJ1_isEmpty) (maxL := 1) (ret := (some .boolean)) (fr := 0) (lo := 0) (as := []) (st := []) hq (C := "java/util/ArrayDeque") rfl gy_J1_isEmpty (gbl rfl) (gbl rfl) (gbl rfl) q3915 q3916 q3917 dX1_undo_4 K hM R e1 e2) fun v2 h3 => ?_
  refine g_join 15 (fun (x4 : Int32) => [(0, gr a0)]) (fun (x4 : Int32) => [gi x4]) (fun x4 h5 => ?_) (fun j6 Hj6 => ?_)
  · refine g_bu (pc := 15) (y := yX1_checkState) (ws := ws_ yX1_checkState cX1_checkState 1 none) (fr := 6) (lo := 81) (as := [gi x4]) (st := []) (g_no) rfl (fun _ _ e => tX1_checkState hs e) (fun K _ _ hM R e1 e2 => g_runS (M := mX1_undo) (pc := 15) (y := yX1_checkState) (bytes := cX1_checkState) (maxL := 1) (ret := none) (fr := 6) (lo := 81) (as := [gi x4]) (st := []) gy_X1_checkState (gbl rfl) (gbl rfl) (gbl rfl) q1434 q1435 dX1_undo_15 K hM R e1 e2) fun v7 h8 => ?_
    refine g_aload_n (pc := 18) (x := a0) 0 rfl rfl dX1_undo_18 ?_
    refine g_aload_n (pc := 19) (x := a0) 0 rfl rfl dX1_undo_19 ?_
    refine g_getfr (pc := 20) k_3 (gblt rfl) lk_X1_26_3 dX1_undo_20 fun v9 => ?_
    refine g_bVr (pc := 23) (y := yJ1_removeLast) (ws := ws_ yJ1_removeLast cJ1_removeLast 2 (some (.object "java/lang/Object"))) (fr := 2) (lo := 44) (as := []) (st := [gr a0]) (g_no) rfl (fun _ _ _ e => tJ1_removeLast hs e) (fun K _ _ _ hq hM R e1 e2 => g_runV (M := mX1_undo) (pc := 23) (y := yJ1_removeLast) (bytes := cJ1_removeLast) (maxL := 2) (ret := (some (.object "java/lang/Object"))) (fr := 2) (lo := 44) (as := []) (st := [gr a0]) hq (C := "java/util/ArrayDeque") rfl gy_J1_removeLast (gbl rfl) (gbl rfl) (gbl rfl) q3919 q3846 q3847 dX1_undo_23 K hM R e1 e2) fun v10 h11 => ?_
    refine g_checkcast (pc := 26) q233 as_16_FlareSlopes_State dX1_undo_26 ?_
    refine g_put (pc := 29) k_3 (gblt rfl) lk_X1_56_3 rfl rfl (gNr _ _) dX1_undo_29 fun h12 => ?_
    refine g_aload_n (pc := 32) (x := a0) 0 rfl rfl dX1_undo_32 ?_
    refine g_getfr (pc := 33) k_3 (gblt rfl) lk_X1_26_3 dX1_undo_33 fun v13 => ?_
    refine g_bVi (pc := 36) (y := yJ1_size) (ws := ws_ yJ1_size cJ1_size 1 (some .int)) (fr := 1) (lo := 22) (as := []) (st := []) (g_no) rfl (fun _ _ _ e => tJ1_size hs e) (fun K _ _ _ hq hM R e1 e2 => g_runV (M := mX1_undo) (pc := 36) (y := yJ1_size) (bytes := cJ1_size) (maxL := 1) (ret := (some .int)) (fr := 1) (lo := 22) (as := []) (st := []) hq (C := "java/util/ArrayDeque") rfl gy_J1_size (gbl rfl) (gbl rfl) (gbl rfl) q315 q316 q317 dX1_undo_36 K hM R e1 e2) fun v14 h15 => ?_
    exact g_ireturn (pc := 39) rfl dX1_undo_39
  refine g_if_ne (pc := 7) (tgt := 14) rfl dX1_undo_7 ?_ ?_
  rotate_left
  · refine g_iconst (pc := 14) (v := (0 : Int32)) ic_0 dX1_undo_14 ?_
    exact Hj6 (0 : Int32) h3
  refine g_iconst (pc := 10) (v := (1 : Int32)) ic_1 dX1_undo_10 ?_
  refine g_goto (pc := 11) (tgt := 15) rfl dX1_undo_11 ?_
  exact Hj6 (1 : Int32) h3
/-! FlareSlopesLaw.undo(LFlareSlopes;[J)I -/
noncomputable def sX0_undo (G : GG) (N : Nat) (a0 : Option Nat) (a1 : Option Nat) (h : Hp) : Out (Int32) :=
  bVX h a0 3 (fun q4 => sX1_undo G N (some q4) h) (fun v1 h2 =>
  gSl G h2 a1 3 (0 : Int32) (v1.toInt64) fun h3 =>
  some (.inl (0 : Int32), h3)) fun q5 h6 =>
  gSw h6 (some q5) 0 (some (.inl (1 : Int32), h6)) (none)
abbrev mX0_undo : MI := (RX0, cX0_undo, 3, (some .int), [(0, 8, 11, 21)], 8, 121, "undo")
theorem tX0_undo {G : GG} {l : Launch} (hs : l.stackTraces = false) {N : Nat} {a0 : Option Nat} {a1 : Option Nat} {h : Hp} {r : Int32 ⊕ Nat} {hf : Hp} (ho : sX0_undo G N a0 a1 h = some (r, hf)) : gMet G l yX0_undo (wsW_ yX0_undo cX0_undo 3 (some .int) [(0, 8, 11, 21)]) 8 121 [gr a0, gr a1] h cvI r hf := by
  refine gMet.ofW ho hs (plainFor_of_name pn_X0) rfl rfl (gbl rfl) fun X => ?_
  show gT G l X mX0_undo cvI r hf 0 [(0, gr a0), (1, gr a1)] [] h (sX0_undo G N a0 a1 h)
  delta sX0_undo
  refine g_aload_n (pc := 0) (x := a1) 1 rfl rfl dX0_undo_0 ?_
  refine g_iconst (pc := 1) (v := (0 : Int32)) ic_0 dX0_undo_1 ?_
  refine g_aload_n (pc := 2) (x := a0) 0 rfl rfl dX0_undo_2 ?_
  refine g_bVXi (pc := 3) (y := yX1_undo) (ws := ws_ yX1_undo cX1_undo 1 (some .int)) (fr := 7) (lo := 101) (as := []) (st := [gi (0 : Int32), gr a1]) rfl (fun _ _ _ e => tX1_undo hs e) (fun K _ _ _ hq hM R e1 e2 => g_runV (M := mX0_undo) (pc := 3) (y := yX1_undo) (bytes := cX1_undo) (maxL := 1) (ret := (some .int)) (fr := 7) (lo := 101) (as := []) (st := [gi (0 : Int32), gr a1]) hq (C := "FlareSlopes") rfl gy_X1_undo (gbl rfl) (gbl rfl) (gbl rfl) q3911 q3912 q3913 dX0_undo_3 K hM R e1 e2) (fun v1 h2 => ?_) (fun q5 h6 => ?_)
  · refine g_i2l (pc := 6) dX0_undo_6 ?_
    refine g_lastore (pc := 7) rfl dX0_undo_7 fun h3 => ?_
    refine g_goto (pc := 8) (tgt := 14) rfl dX0_undo_8 ?_
    refine g_iconst (pc := 14) (v := (0 : Int32)) ic_0 dX0_undo_14 ?_
    exact g_ireturn (pc := 15) rfl dX0_undo_15
  refine g_catch (E := "java/lang/IllegalStateException") [] ⟨0, 8, 11, 21⟩ [] rfl rfl (List.forall_mem_nil _) (by decide +kernel) (by decide +kernel) q1425 q1439 ?_ ?_
  · refine g_astore_n (pc := 11) (lv' := []) [] rfl rfl (gblt rfl) dX0_undo_11 ?_
    refine g_iconst (pc := 12) (v := (1 : Int32)) ic_1 dX0_undo_12 ?_
    exact g_ireturn (pc := 13) rfl dX0_undo_13
  exact g_noneX
/-! FlareSlopesModel.undo()I -/
noncomputable def sX2_undo (G : GG) (N : Nat) (a0 : Option Nat) (h : Hp) : Out (Int32) :=
  gFi h a0 18 9 fun v1 =>
  gJ (fun (x2 : Int32) (h3 : Hp) =>
  bV h3 a0 18 (fun q15 => sX2_may G N (some q15) x2 (1 : Int32) (1 : Int32) h3) fun v5 h6 =>
  if v5 = 0 then (some (.inl (0 : Int32), h6))
  else gFi h6 a0 18 9 fun v7 =>
  gP G h6 a0 18 9 (.int (v7 - (1 : Int32))) fun h8 =>
  gFr h8 a0 18 3 fun v9 =>
  gFi h8 a0 18 9 fun v10 =>
  gFr h8 a0 18 1 fun v11 =>
  bnd (sX2_copies G N v9 (v10 * (1058 : Int32)) v11 (0 : Int32) h8) fun v12 h13 =>
  gFi h13 a0 18 9 fun v14 =>
  some (.inl v14, h13)) fun j4 =>
  if v1 ≤ 0 then (j4 (0 : Int32) h)
  else j4 (1 : Int32) h
abbrev mX2_undo : MI := (RX2, cX2_undo, 1, (some .int), [], 1, 24, "undo")
theorem tX2_undo {G : GG} {l : Launch} (hs : l.stackTraces = false) {N : Nat} {a0 : Option Nat} {h : Hp} {r : Int32 ⊕ Nat} {hf : Hp} (ho : sX2_undo G N a0 h = some (r, hf)) : gMet G l yX2_undo (ws_ yX2_undo cX2_undo 1 (some .int)) 1 24 [gr a0] h cvI r hf := by
  refine gMet.of ho hs (plainFor_of_name pn_X2) rfl rfl (gbl rfl) fun X => ?_
  show gT G l X mX2_undo cvI r hf 0 [(0, gr a0)] [] h (sX2_undo G N a0 h)
  delta sX2_undo
  refine g_aload_n (pc := 0) (x := a0) 0 rfl rfl dX2_undo_0 ?_
  refine g_aload_n (pc := 1) (x := a0) 0 rfl rfl dX2_undo_1 ?_
  refine g_getfi (pc := 2) k_18 (gblt rfl) lk_X2_188_18 dX2_undo_2 fun v1 => ?_
  refine g_join 13 (fun (x2 : Int32) => [(0, gr a0)]) (fun (x2 : Int32) => [gi x2, gr a0]) (fun x2 h3 => ?_) (fun j4 Hj4 => ?_)
  · refine g_iconst (pc := 13) (v := (1 : Int32)) ic_1 dX2_undo_13 ?_
    refine g_iconst (pc := 14) (v := (1 : Int32)) ic_1 dX2_undo_14 ?_
    refine g_bVi (pc := 15) (y := yX2_may) (ws := ws_ yX2_may cX2_may 4 (some .boolean)) (fr := 0) (lo := 0) (as := [gi x2, gi (1 : Int32), gi (1 : Int32)]) (st := []) (g_no) rfl (fun _ _ _ e => tX2_may hs e) (fun K _ _ _ hq hM R e1 e2 => g_runV (M := mX2_undo) (pc := 15) (y := yX2_may) (bytes := cX2_may) (maxL := 4) (ret := (some .boolean)) (fr := 0) (lo := 0) (as := [gi x2, gi (1 : Int32), gi (1 : Int32)]) (st := []) hq (C := "FlareSlopesModel") rfl gy_X2_may (gbl rfl) (gbl rfl) (gbl rfl) q4040 q4042 qs54 dX2_undo_15 K hM R e1 e2) fun v5 h6 => ?_
    refine g_if_ne (pc := 18) (tgt := 23) rfl dX2_undo_18 ?_ ?_
    · refine g_iconst (pc := 21) (v := (0 : Int32)) ic_0 dX2_undo_21 ?_
      exact g_ireturn (pc := 22) rfl dX2_undo_22
    refine g_aload_n (pc := 23) (x := a0) 0 rfl rfl dX2_undo_23 ?_
    refine g_dup (pc := 24) rfl dX2_undo_24 ?_
    refine g_getfi (pc := 25) k_18 (gblt rfl) lk_X2_188_18 dX2_undo_25 fun v7 => ?_
    refine g_iconst (pc := 28) (v := (1 : Int32)) ic_1 dX2_undo_28 ?_
    refine g_isub (pc := 29) dX2_undo_29 ?_
    refine g_put (pc := 30) k_18 (gblt rfl) lk_X2_188_18 rfl rfl (gNi _) dX2_undo_30 fun h8 => ?_
    refine g_aload_n (pc := 33) (x := a0) 0 rfl rfl dX2_undo_33 ?_
    refine g_getfr (pc := 34) k_18 (gblt rfl) lk_X2_16_18 dX2_undo_34 fun v9 => ?_
    refine g_aload_n (pc := 37) (x := a0) 0 rfl rfl dX2_undo_37 ?_
    refine g_getfi (pc := 38) k_18 (gblt rfl) lk_X2_188_18 dX2_undo_38 fun v10 => ?_
    refine g_sipush (pc := 41) (v := (1058 : Int32)) sc_1058 dX2_undo_41 ?_
    refine g_imul (pc := 44) dX2_undo_44 ?_
    refine g_aload_n (pc := 45) (x := a0) 0 rfl rfl dX2_undo_45 ?_
    refine g_getfr (pc := 46) k_18 (gblt rfl) lk_X2_9_18 dX2_undo_46 fun v11 => ?_
    refine g_iconst (pc := 49) (v := (0 : Int32)) ic_0 dX2_undo_49 ?_
    refine g_bu (pc := 50) (y := yX2_copies) (ws := ws_ yX2_copies cX2_copies 5 none) (fr := 0) (lo := 0) (as := [gr v9, gi (v10 * (1058 : Int32)), gr v11, gi (0 : Int32)]) (st := []) (g_no) rfl (fun _ _ e => tX2_copies hs e) (fun K _ _ hM R e1 e2 => g_runS (M := mX2_undo) (pc := 50) (y := yX2_copies) (bytes := cX2_copies) (maxL := 5) (ret := none) (fr := 0) (lo := 0) (as := [gr v9, gi (v10 * (1058 : Int32)), gr v11, gi (0 : Int32)]) (st := []) gy_X2_copies (gbl rfl) (gbl rfl) (gbl rfl) q4044 q4045 dX2_undo_50 K hM R e1 e2) fun v12 h13 => ?_
    refine g_aload_n (pc := 53) (x := a0) 0 rfl rfl dX2_undo_53 ?_
    refine g_getfi (pc := 54) k_18 (gblt rfl) lk_X2_188_18 dX2_undo_54 fun v14 => ?_
    exact g_ireturn (pc := 57) rfl dX2_undo_57
  refine g_if_le (pc := 5) (tgt := 12) rfl dX2_undo_5 ?_ ?_
  · refine g_iconst (pc := 12) (v := (0 : Int32)) ic_0 dX2_undo_12 ?_
    exact Hj4 (0 : Int32) h
  refine g_iconst (pc := 8) (v := (1 : Int32)) ic_1 dX2_undo_8 ?_
  refine g_goto (pc := 9) (tgt := 13) rfl dX2_undo_9 ?_
  exact Hj4 (1 : Int32) h
/-! FlareSlopes.undoable()I -/
noncomputable def sX1_undoable (G : GG) (N : Nat) (a0 : Option Nat) (h : Hp) : Out (Int32) :=
  gFr h a0 3 5 fun v1 =>
  bV h v1 22 (fun q4 => sJ1_size G N (some q4) h) fun v2 h3 =>
  some (.inl v2, h3)
abbrev mX1_undoable : MI := (RX1, cX1_undoable, 1, (some .int), [], 2, 42, "undoable")
theorem tX1_undoable {G : GG} {l : Launch} (hs : l.stackTraces = false) {N : Nat} {a0 : Option Nat} {h : Hp} {r : Int32 ⊕ Nat} {hf : Hp} (ho : sX1_undoable G N a0 h = some (r, hf)) : gMet G l yX1_undoable (ws_ yX1_undoable cX1_undoable 1 (some .int)) 2 42 [gr a0] h cvI r hf := by
  refine gMet.of ho hs (plainFor_of_name pn_X1) rfl rfl (gbl rfl) fun X => ?_
  show gT G l X mX1_undoable cvI r hf 0 [(0, gr a0)] [] h (sX1_undoable G N a0 h)
  delta sX1_undoable
  refine g_aload_n (pc := 0) (x := a0) 0 rfl rfl dX1_undoable_0 ?_
  refine g_getfr (pc := 1) k_3 (gblt rfl) lk_X1_26_3 dX1_undoable_1 fun v1 => ?_
  refine g_bVi (pc := 4) (y := yJ1_size) (ws := ws_ yJ1_size cJ1_size 1 (some .int)) (fr := 1) (lo := 22) (as := []) (st := []) (g_no) rfl (fun _ _ _ e => tJ1_size hs e) (fun K _ _ _ hq hM R e1 e2 => g_runV (M := mX1_undoable) (pc := 4) (y := yJ1_size) (bytes := cJ1_size) (maxL := 1) (ret := (some .int)) (fr := 1) (lo := 22) (as := []) (st := []) hq (C := "java/util/ArrayDeque") rfl gy_J1_size (gbl rfl) (gbl rfl) (gbl rfl) q315 q316 q317 dX1_undoable_4 K hM R e1 e2) fun v2 h3 => ?_
  exact g_ireturn (pc := 7) rfl dX1_undoable_7
/-! FlareSlopesModel.undoable()I -/
noncomputable def sX2_undoable (G : GG) (N : Nat) (a0 : Option Nat) (h : Hp) : Out (Int32) :=
  gP G h a0 18 0 (.int (0 : Int32)) fun h1 =>
  gFi h1 a0 18 9 fun v2 =>
  some (.inl v2, h1)
abbrev mX2_undoable : MI := (RX2, cX2_undoable, 1, (some .int), [], 0, 0, "undoable")
theorem tX2_undoable {G : GG} {l : Launch} (hs : l.stackTraces = false) {N : Nat} {a0 : Option Nat} {h : Hp} {r : Int32 ⊕ Nat} {hf : Hp} (ho : sX2_undoable G N a0 h = some (r, hf)) : gMet G l yX2_undoable (ws_ yX2_undoable cX2_undoable 1 (some .int)) 0 0 [gr a0] h cvI r hf := by
  refine gMet.of ho hs (plainFor_of_name pn_X2) rfl rfl (gbl rfl) fun X => ?_
  show gT G l X mX2_undoable cvI r hf 0 [(0, gr a0)] [] h (sX2_undoable G N a0 h)
  delta sX2_undoable
  refine g_aload_n (pc := 0) (x := a0) 0 rfl rfl dX2_undoable_0 ?_
  refine g_iconst (pc := 1) (v := (0 : Int32)) ic_0 dX2_undoable_1 ?_
  refine g_put (pc := 2) k_18 (gblt rfl) lk_X2_44_18 rfl rfl (gNi _) dX2_undoable_2 fun h1 => ?_
  refine g_aload_n (pc := 5) (x := a0) 0 rfl rfl dX2_undoable_5 ?_
  refine g_getfi (pc := 6) k_18 (gblt rfl) lk_X2_188_18 dX2_undoable_6 fun v2 => ?_
  exact g_ireturn (pc := 9) rfl dX2_undoable_9
/-! FlareSlopes.save(I)I -/
noncomputable def sX1_save (G : GG) (N : Nat) (a0 : Option Nat) (a1 : Int32) (h : Hp) : Out (Int32) :=
  bV h a0 3 (fun q13 => sX1_loaded G N (some q13) h) fun v1 h2 =>
  bnd (sX1_checkIndex G N a1 (2 : Int32) h2) fun v3 h4 =>
  gFr h4 a0 3 6 fun v5 =>
  gNew h4 16 [.null, .null, .null, .null, .int 0, .int 0, .int 0, .int 0, .int 0, .int 0, .int 0, .int 0, .null, .null] 14 fun v6 h7 =>
  bI v6 (fun q12 => sX3_init_2 G N (some q12) v1 h7) fun v8 h9 =>
  gSr G h9 v5 7 asl_FlareSlopes_State a1 v6 fun h10 =>
  gFi h10 v1 16 4 fun v11 =>
  some (.inl v11, h10)
abbrev mX1_save : MI := (RX1, cX1_save, 3, (some .int), [], 8, 185, "save")
theorem tX1_save {G : GG} {l : Launch} (hs : l.stackTraces = false) {N : Nat} {a0 : Option Nat} {a1 : Int32} {h : Hp} {r : Int32 ⊕ Nat} {hf : Hp} (ho : sX1_save G N a0 a1 h = some (r, hf)) : gMet G l yX1_save (ws_ yX1_save cX1_save 3 (some .int)) 8 185 [gr a0, gi a1] h cvI r hf := by
  refine gMet.of ho hs (plainFor_of_name pn_X1) rfl rfl (gbl rfl) fun X => ?_
  show gT G l X mX1_save cvI r hf 0 [(0, gr a0), (1, gi a1)] [] h (sX1_save G N a0 a1 h)
  delta sX1_save
  refine g_aload_n (pc := 0) (x := a0) 0 rfl rfl dX1_save_0 ?_
  refine g_bVr (pc := 1) (y := yX1_loaded) (ws := ws_ yX1_loaded cX1_loaded 1 (some (.object "FlareSlopes$State"))) (fr := 7) (lo := 101) (as := []) (st := []) (g_no) rfl (fun _ _ _ e => tX1_loaded hs e) (fun K _ _ _ hq hM R e1 e2 => g_runV (M := mX1_save) (pc := 1) (y := yX1_loaded) (bytes := cX1_loaded) (maxL := 1) (ret := (some (.object "FlareSlopes$State"))) (fr := 7) (lo := 101) (as := []) (st := []) hq (C := "FlareSlopes") rfl gy_X1_loaded (gbl rfl) (gbl rfl) (gbl rfl) q1430 q1432 qs17 dX1_save_1 K hM R e1 e2) fun v1 h2 => ?_
  refine g_astore_n (pc := 4) (lv' := [(2, gr v1), (0, gr a0), (1, gi a1)]) [0, 1, 2] rfl rfl (gblt rfl) dX1_save_4 ?_
  refine g_iload_n (pc := 5) (x := a1) 2 rfl rfl dX1_save_5 ?_
  refine g_iconst (pc := 6) (v := (2 : Int32)) ic_2 dX1_save_6 ?_
  refine g_bu (pc := 7) (y := yX1_checkIndex) (ws := ws_ yX1_checkIndex cX1_checkIndex 2 none) (fr := 6) (lo := 81) (as := [gi a1, gi (2 : Int32)]) (st := []) (g_no) rfl (fun _ _ e => tX1_checkIndex hs e) (fun K _ _ hM R e1 e2 => g_runS (M := mX1_save) (pc := 7) (y := yX1_checkIndex) (bytes := cX1_checkIndex) (maxL := 2) (ret := none) (fr := 6) (lo := 81) (as := [gi a1, gi (2 : Int32)]) (st := []) gy_X1_checkIndex (gbl rfl) (gbl rfl) (gbl rfl) q410 q411 dX1_save_7 K hM R e1 e2) fun v3 h4 => ?_
  refine g_aload_n (pc := 10) (x := a0) 1 rfl rfl dX1_save_10 ?_
  refine g_getfr (pc := 11) k_3 (gblt rfl) lk_X1_32_3 dX1_save_11 fun v5 => ?_
  refine g_iload_n (pc := 14) (x := a1) 2 rfl rfl dX1_save_14 ?_
  refine g_new (pc := 15) k_16 df_16 q233 q437 q141 dX1_save_15 fun v6 h7 => ?_
  refine g_dup (pc := 18) rfl dX1_save_18 ?_
  refine g_aload_n (pc := 19) (x := v1) 0 rfl rfl dX1_save_19 ?_
  refine g_bIu (pc := 20) (y := yX3_init_2) (ws := ws_ yX3_init_2 cX3_init_2 4 none) (fr := 7) (lo := 162) (as := [gr v1]) (st := [gr v6, gi a1, gr v5]) (g_no) rfl (fun _ _ _ e => tX3_init_2 hs e) (fun K _ _ _ hM R e1 e2 => g_runI (M := mX1_save) (pc := 20) (y := yX3_init_2) (bytes := cX3_init_2) (maxL := 4) (ret := none) (fr := 7) (lo := 162) (as := [gr v1]) (st := [gr v6, gi a1, gr v5]) gy_X3_init_2 (gbl rfl) (gbl rfl) (gbl rfl) rfl q3466 q3467 rfl dX1_save_20 K hM R e1 e2) fun v8 h9 => ?_
  refine g_aastore (pc := 23) rfl asl_FlareSlopes_State_ok dX1_save_23 fun h10 => ?_
  refine g_aload_n (pc := 24) (x := v1) 0 rfl rfl dX1_save_24 ?_
  refine g_getfi (pc := 25) k_16 (gblt rfl) lk_X1_155_16 dX1_save_25 fun v11 => ?_
  exact g_ireturn (pc := 28) rfl dX1_save_28
/-! FlareSlopesLaw.save(LFlareSlopes;I[J)I -/
noncomputable def sX0_save (G : GG) (N : Nat) (a0 : Option Nat) (a1 : Int32) (a2 : Option Nat) (h : Hp) : Out (Int32) :=
  bVX h a0 3 (fun q4 => sX1_save G N (some q4) a1 h) (fun v1 h2 =>
  gSl G h2 a2 3 (0 : Int32) (v1.toInt64) fun h3 =>
  some (.inl (0 : Int32), h3)) fun q5 h6 =>
  gSw h6 (some q5) 0 (some (.inl (1 : Int32), h6)) (gSw h6 (some q5) 2 (some (.inl (2 : Int32), h6)) (none))
abbrev mX0_save : MI := (RX0, cX0_save, 4, (some .int), [(0, 9, 12, 21), (0, 9, 15, 13)], 9, 207, "save")
theorem tX0_save {G : GG} {l : Launch} (hs : l.stackTraces = false) {N : Nat} {a0 : Option Nat} {a1 : Int32} {a2 : Option Nat} {h : Hp} {r : Int32 ⊕ Nat} {hf : Hp} (ho : sX0_save G N a0 a1 a2 h = some (r, hf)) : gMet G l yX0_save (wsW_ yX0_save cX0_save 4 (some .int) [(0, 9, 12, 21), (0, 9, 15, 13)]) 9 207 [gr a0, gi a1, gr a2] h cvI r hf := by
  refine gMet.ofW ho hs (plainFor_of_name pn_X0) rfl rfl (gbl rfl) fun X => ?_
  show gT G l X mX0_save cvI r hf 0 [(0, gr a0), (1, gi a1), (2, gr a2)] [] h (sX0_save G N a0 a1 a2 h)
  delta sX0_save
  refine g_aload_n (pc := 0) (x := a2) 2 rfl rfl dX0_save_0 ?_
  refine g_iconst (pc := 1) (v := (0 : Int32)) ic_0 dX0_save_1 ?_
  refine g_aload_n (pc := 2) (x := a0) 0 rfl rfl dX0_save_2 ?_
  refine g_iload_n (pc := 3) (x := a1) 1 rfl rfl dX0_save_3 ?_
  refine g_bVXi (pc := 4) (y := yX1_save) (ws := ws_ yX1_save cX1_save 3 (some .int)) (fr := 8) (lo := 185) (as := [gi a1]) (st := [gi (0 : Int32), gr a2]) rfl (fun _ _ _ e => tX1_save hs e) (fun K _ _ _ hq hM R e1 e2 => g_runV (M := mX0_save) (pc := 4) (y := yX1_save) (bytes := cX1_save) (maxL := 3) (ret := (some .int)) (fr := 8) (lo := 185) (as := [gi a1]) (st := [gi (0 : Int32), gr a2]) hq (C := "FlareSlopes") rfl gy_X1_save (gbl rfl) (gbl rfl) (gbl rfl) q3923 q3924 q3925 dX0_save_4 K hM R e1 e2) (fun v1 h2 => ?_) (fun q5 h6 => ?_)
  · refine g_i2l (pc := 7) dX0_save_7 ?_
    refine g_lastore (pc := 8) rfl dX0_save_8 fun h3 => ?_
    refine g_goto (pc := 9) (tgt := 18) rfl dX0_save_9 ?_
    refine g_iconst (pc := 18) (v := (0 : Int32)) ic_0 dX0_save_18 ?_
    exact g_ireturn (pc := 19) rfl dX0_save_19
  refine g_catch (E := "java/lang/IllegalStateException") [] ⟨0, 9, 12, 21⟩ [⟨0, 9, 15, 13⟩] rfl rfl (List.forall_mem_nil _) (by decide +kernel) (by decide +kernel) q1425 q1439 ?_ ?_
  · refine g_astore_n (pc := 12) (lv' := []) [] rfl rfl (gblt rfl) dX0_save_12 ?_
    refine g_iconst (pc := 13) (v := (1 : Int32)) ic_1 dX0_save_13 ?_
    exact g_ireturn (pc := 14) rfl dX0_save_14
  refine g_catch (E := "java/lang/IndexOutOfBoundsException") [⟨0, 9, 12, 21⟩] ⟨0, 9, 15, 13⟩ [] rfl rfl (List.forall_mem_cons.mpr ⟨Or.inr ⟨by decide +kernel, _, q1425, ncl_java_lang_IndexOutOfBoundsException_java_lang_IllegalStateException⟩, List.forall_mem_nil _⟩) (by decide +kernel) (by decide +kernel) q325 q418 ?_ ?_
  · refine g_astore_n (pc := 15) (lv' := []) [] rfl rfl (gblt rfl) dX0_save_15 ?_
    refine g_iconst (pc := 16) (v := (2 : Int32)) ic_2 dX0_save_16 ?_
    exact g_ireturn (pc := 17) rfl dX0_save_17
  exact g_noneX
/-! FlareSlopesModel.save(I)I -/
noncomputable def sX2_save (G : GG) (N : Nat) (a0 : Option Nat) (a1 : Int32) (h : Hp) : Out (Int32) :=
  gFi h a0 18 8 fun v1 =>
  bnd (sX2_in G N a1 (0 : Int32) (1 : Int32) h) fun v2 h3 =>
  bV h3 a0 18 (fun q14 => sX2_mayTwo G N (some q14) v1 v2 h3) fun v4 h5 =>
  if v4 = 0 then (some (.inl (0 : Int32), h5))
  else gFr h5 a0 18 1 fun v6 =>
  gFr h5 a0 18 4 fun v7 =>
  bnd (sX2_copies G N v6 (0 : Int32) v7 (a1 * (1058 : Int32)) h5) fun v8 h9 =>
  gFr h9 a0 18 5 fun v10 =>
  gSz G h9 v10 2 a1 (1 : Int32) fun h11 =>
  gFr h11 a0 18 1 fun v12 =>
  gAi h11 v12 0 (90 : Int32) fun v13 =>
  some (.inl v13, h11)
abbrev mX2_save : MI := (RX2, cX2_save, 2, (some .int), [], 2, 45, "save")
theorem tX2_save {G : GG} {l : Launch} (hs : l.stackTraces = false) {N : Nat} {a0 : Option Nat} {a1 : Int32} {h : Hp} {r : Int32 ⊕ Nat} {hf : Hp} (ho : sX2_save G N a0 a1 h = some (r, hf)) : gMet G l yX2_save (ws_ yX2_save cX2_save 2 (some .int)) 2 45 [gr a0, gi a1] h cvI r hf := by
  refine gMet.of ho hs (plainFor_of_name pn_X2) rfl rfl (gbl rfl) fun X => ?_
  show gT G l X mX2_save cvI r hf 0 [(0, gr a0), (1, gi a1)] [] h (sX2_save G N a0 a1 h)
  delta sX2_save
  refine g_aload_n (pc := 0) (x := a0) 0 rfl rfl dX2_save_0 ?_
  refine g_aload_n (pc := 1) (x := a0) 0 rfl rfl dX2_save_1 ?_
  refine g_getfi (pc := 2) k_18 (gblt rfl) lk_X2_184_18 dX2_save_2 fun v1 => ?_
  refine g_iload_n (pc := 5) (x := a1) 1 rfl rfl dX2_save_5 ?_
  refine g_iconst (pc := 6) (v := (0 : Int32)) ic_0 dX2_save_6 ?_
  refine g_iconst (pc := 7) (v := (1 : Int32)) ic_1 dX2_save_7 ?_
  refine g_bi (pc := 8) (y := yX2_in) (ws := ws_ yX2_in cX2_in 3 (some .boolean)) (fr := 0) (lo := 0) (as := [gi a1, gi (0 : Int32), gi (1 : Int32)]) (st := [gi v1, gr a0]) (g_no) rfl (fun _ _ e => tX2_in hs e) (fun K _ _ hM R e1 e2 => g_runS (M := mX2_save) (pc := 8) (y := yX2_in) (bytes := cX2_in) (maxL := 3) (ret := (some .boolean)) (fr := 0) (lo := 0) (as := [gi a1, gi (0 : Int32), gi (1 : Int32)]) (st := [gi v1, gr a0]) gy_X2_in (gbl rfl) (gbl rfl) (gbl rfl) q4037 q4038 dX2_save_8 K hM R e1 e2) fun v2 h3 => ?_
  refine g_bVi (pc := 11) (y := yX2_mayTwo) (ws := ws_ yX2_mayTwo cX2_mayTwo 3 (some .boolean)) (fr := 1) (lo := 23) (as := [gi v1, gi v2]) (st := []) (g_no) rfl (fun _ _ _ e => tX2_mayTwo hs e) (fun K _ _ _ hq hM R e1 e2 => g_runV (M := mX2_save) (pc := 11) (y := yX2_mayTwo) (bytes := cX2_mayTwo) (maxL := 3) (ret := (some .boolean)) (fr := 1) (lo := 23) (as := [gi v1, gi v2]) (st := []) hq (C := "FlareSlopesModel") rfl gy_X2_mayTwo (gbl rfl) (gbl rfl) (gbl rfl) q4145 q4147 qs76 dX2_save_11 K hM R e1 e2) fun v4 h5 => ?_
  refine g_if_ne (pc := 14) (tgt := 19) rfl dX2_save_14 ?_ ?_
  · refine g_iconst (pc := 17) (v := (0 : Int32)) ic_0 dX2_save_17 ?_
    exact g_ireturn (pc := 18) rfl dX2_save_18
  refine g_aload_n (pc := 19) (x := a0) 0 rfl rfl dX2_save_19 ?_
  refine g_getfr (pc := 20) k_18 (gblt rfl) lk_X2_9_18 dX2_save_20 fun v6 => ?_
  refine g_iconst (pc := 23) (v := (0 : Int32)) ic_0 dX2_save_23 ?_
  refine g_aload_n (pc := 24) (x := a0) 0 rfl rfl dX2_save_24 ?_
  refine g_getfr (pc := 25) k_18 (gblt rfl) lk_X2_19_18 dX2_save_25 fun v7 => ?_
  refine g_iload_n (pc := 28) (x := a1) 1 rfl rfl dX2_save_28 ?_
  refine g_sipush (pc := 29) (v := (1058 : Int32)) sc_1058 dX2_save_29 ?_
  refine g_imul (pc := 32) dX2_save_32 ?_
  refine g_bu (pc := 33) (y := yX2_copies) (ws := ws_ yX2_copies cX2_copies 5 none) (fr := 0) (lo := 0) (as := [gr v6, gi (0 : Int32), gr v7, gi (a1 * (1058 : Int32))]) (st := []) (g_no) rfl (fun _ _ e => tX2_copies hs e) (fun K _ _ hM R e1 e2 => g_runS (M := mX2_save) (pc := 33) (y := yX2_copies) (bytes := cX2_copies) (maxL := 5) (ret := none) (fr := 0) (lo := 0) (as := [gr v6, gi (0 : Int32), gr v7, gi (a1 * (1058 : Int32))]) (st := []) gy_X2_copies (gbl rfl) (gbl rfl) (gbl rfl) q4044 q4045 dX2_save_33 K hM R e1 e2) fun v8 h9 => ?_
  refine g_aload_n (pc := 36) (x := a0) 0 rfl rfl dX2_save_36 ?_
  refine g_getfr (pc := 37) k_18 (gblt rfl) lk_X2_22_18 dX2_save_37 fun v10 => ?_
  refine g_iload_n (pc := 40) (x := a1) 1 rfl rfl dX2_save_40 ?_
  refine g_iconst (pc := 41) (v := (1 : Int32)) ic_1 dX2_save_41 ?_
  refine g_zastore (pc := 42) rfl dX2_save_42 fun h11 => ?_
  refine g_aload_n (pc := 43) (x := a0) 0 rfl rfl dX2_save_43 ?_
  refine g_getfr (pc := 44) k_18 (gblt rfl) lk_X2_9_18 dX2_save_44 fun v12 => ?_
  refine g_bipush (pc := 47) (v := (90 : Int32)) bc_90 dX2_save_47 ?_
  refine g_iaload (pc := 49) rfl dX2_save_49 fun v13 => ?_
  exact g_ireturn (pc := 50) rfl dX2_save_50
/-! FlareSlopes.restore(I)I -/
noncomputable def sX1_restore (G : GG) (N : Nat) (a0 : Option Nat) (a1 : Int32) (h : Hp) : Out (Int32) :=
  bnd (sX1_checkIndex G N a1 (2 : Int32) h) fun v1 h2 =>
  gFr h2 a0 3 6 fun v3 =>
  gAr h2 v3 7 a1 fun v4 =>
  gJ (fun (x5 : Int32) (h6 : Hp) =>
  bnd (sX1_checkState G N x5 h6) fun v8 h9 =>
  gNew h9 16 [.null, .null, .null, .null, .int 0, .int 0, .int 0, .int 0, .int 0, .int 0, .int 0, .int 0, .null, .null] 14 fun v10 h11 =>
  gFr h11 a0 3 6 fun v12 =>
  gAr h11 v12 7 a1 fun v13 =>
  bI v10 (fun q23 => sX3_init_2 G N (some q23) v13 h11) fun v14 h15 =>
  gP G h15 a0 3 4 (va_rf v10) fun h16 =>
  gFr h16 a0 3 5 fun v17 =>
  bV h16 v17 22 (fun q22 => sJ1_clear G N (some q22) h16) fun v18 h19 =>
  gFr h19 a0 3 4 fun v20 =>
  gFi h19 v20 16 4 fun v21 =>
  some (.inl v21, h19)) fun j7 =>
  if v4 = none then (j7 (0 : Int32) h2)
  else j7 (1 : Int32) h2
abbrev mX1_restore : MI := (RX1, cX1_restore, 2, (some .int), [], 8, 185, "restore")
theorem tX1_restore {G : GG} {l : Launch} (hs : l.stackTraces = false) {N : Nat} {a0 : Option Nat} {a1 : Int32} {h : Hp} {r : Int32 ⊕ Nat} {hf : Hp} (ho : sX1_restore G N a0 a1 h = some (r, hf)) : gMet G l yX1_restore (ws_ yX1_restore cX1_restore 2 (some .int)) 8 185 [gr a0, gi a1] h cvI r hf := by
  refine gMet.of ho hs (plainFor_of_name pn_X1) rfl rfl (gbl rfl) fun X => ?_
  show gT G l X mX1_restore cvI r hf 0 [(0, gr a0), (1, gi a1)] [] h (sX1_restore G N a0 a1 h)
  delta sX1_restore
  refine g_iload_n (pc := 0) (x := a1) 1 rfl rfl dX1_restore_0 ?_
  refine g_iconst (pc := 1) (v := (2 : Int32)) ic_2 dX1_restore_1 ?_
  refine g_bu (pc := 2) (y := yX1_checkIndex) (ws := ws_ yX1_checkIndex cX1_checkIndex 2 none) (fr := 6) (lo := 81) (as := [gi a1, gi (2 : Int32)]) (st := []) (g_no) rfl (fun _ _ e => tX1_checkIndex hs e) (fun K _ _ hM R e1 e2 => g_runS (M := mX1_restore) (pc := 2) (y := yX1_checkIndex) (bytes := cX1_checkIndex) (maxL := 2) (ret := none) (fr := 6) (lo := 81) (as := [gi a1, gi (2 : Int32)]) (st := []) gy_X1_checkIndex (gbl rfl) (gbl rfl) (gbl rfl) q410 q411 dX1_restore_2 K hM R e1 e2) fun v1 h2 => ?_
  refine g_aload_n (pc := 5) (x := a0) 0 rfl rfl dX1_restore_5 ?_
  refine g_getfr (pc := 6) k_3 (gblt rfl) lk_X1_32_3 dX1_restore_6 fun v3 => ?_
  refine g_iload_n (pc := 9) (x := a1) 1 rfl rfl dX1_restore_9 ?_
  refine g_aaload (pc := 10) rfl dX1_restore_10 fun v4 => ?_
  refine g_join 19 (fun (x5 : Int32) => [(0, gr a0), (1, gi a1)]) (fun (x5 : Int32) => [gi x5]) (fun x5 h6 => ?_) (fun j7 Hj7 => ?_)
  · refine g_bu (pc := 19) (y := yX1_checkState) (ws := ws_ yX1_checkState cX1_checkState 1 none) (fr := 6) (lo := 81) (as := [gi x5]) (st := []) (g_no) rfl (fun _ _ e => tX1_checkState hs e) (fun K _ _ hM R e1 e2 => g_runS (M := mX1_restore) (pc := 19) (y := yX1_checkState) (bytes := cX1_checkState) (maxL := 1) (ret := none) (fr := 6) (lo := 81) (as := [gi x5]) (st := []) gy_X1_checkState (gbl rfl) (gbl rfl) (gbl rfl) q1434 q1435 dX1_restore_19 K hM R e1 e2) fun v8 h9 => ?_
    refine g_aload_n (pc := 22) (x := a0) 0 rfl rfl dX1_restore_22 ?_
    refine g_new (pc := 23) k_16 df_16 q233 q437 q141 dX1_restore_23 fun v10 h11 => ?_
    refine g_dup (pc := 26) rfl dX1_restore_26 ?_
    refine g_aload_n (pc := 27) (x := a0) 0 rfl rfl dX1_restore_27 ?_
    refine g_getfr (pc := 28) k_3 (gblt rfl) lk_X1_32_3 dX1_restore_28 fun v12 => ?_
    refine g_iload_n (pc := 31) (x := a1) 1 rfl rfl dX1_restore_31 ?_
    refine g_aaload (pc := 32) rfl dX1_restore_32 fun v13 => ?_
    refine g_bIu (pc := 33) (y := yX3_init_2) (ws := ws_ yX3_init_2 cX3_init_2 4 none) (fr := 7) (lo := 162) (as := [gr v13]) (st := [gr v10, gr a0]) (g_no) rfl (fun _ _ _ e => tX3_init_2 hs e) (fun K _ _ _ hM R e1 e2 => g_runI (M := mX1_restore) (pc := 33) (y := yX3_init_2) (bytes := cX3_init_2) (maxL := 4) (ret := none) (fr := 7) (lo := 162) (as := [gr v13]) (st := [gr v10, gr a0]) gy_X3_init_2 (gbl rfl) (gbl rfl) (gbl rfl) rfl q3466 q3467 rfl dX1_restore_33 K hM R e1 e2) fun v14 h15 => ?_
    refine g_put (pc := 36) k_3 (gblt rfl) lk_X1_56_3 rfl rfl (gNr _ _) dX1_restore_36 fun h16 => ?_
    refine g_aload_n (pc := 39) (x := a0) 0 rfl rfl dX1_restore_39 ?_
    refine g_getfr (pc := 40) k_3 (gblt rfl) lk_X1_26_3 dX1_restore_40 fun v17 => ?_
    refine g_bVu (pc := 43) (y := yJ1_clear) (ws := ws_ yJ1_clear cJ1_clear 1 none) (fr := 1) (lo := 23) (as := []) (st := []) (g_no) rfl (fun _ _ _ e => tJ1_clear hs e) (fun K _ _ _ hq hM R e1 e2 => g_runV (M := mX1_restore) (pc := 43) (y := yJ1_clear) (bytes := cJ1_clear) (maxL := 1) (ret := none) (fr := 1) (lo := 23) (as := []) (st := []) hq (C := "java/util/ArrayDeque") rfl gy_J1_clear (gbl rfl) (gbl rfl) (gbl rfl) q1404 q1405 q1406 dX1_restore_43 K hM R e1 e2) fun v18 h19 => ?_
    refine g_aload_n (pc := 46) (x := a0) 0 rfl rfl dX1_restore_46 ?_
    refine g_getfr (pc := 47) k_3 (gblt rfl) lk_X1_56_3 dX1_restore_47 fun v20 => ?_
    refine g_getfi (pc := 50) k_16 (gblt rfl) lk_X1_155_16 dX1_restore_50 fun v21 => ?_
    exact g_ireturn (pc := 53) rfl dX1_restore_53
  refine g_ifnull (pc := 11) (tgt := 18) rfl dX1_restore_11 ?_ ?_
  · refine g_iconst (pc := 18) (v := (0 : Int32)) ic_0 dX1_restore_18 ?_
    exact Hj7 (0 : Int32) h2
  refine g_iconst (pc := 14) (v := (1 : Int32)) ic_1 dX1_restore_14 ?_
  refine g_goto (pc := 15) (tgt := 19) rfl dX1_restore_15 ?_
  exact Hj7 (1 : Int32) h2
/-! FlareSlopesLaw.restore(LFlareSlopes;I[J)I -/
noncomputable def sX0_restore (G : GG) (N : Nat) (a0 : Option Nat) (a1 : Int32) (a2 : Option Nat) (h : Hp) : Out (Int32) :=
  bVX h a0 3 (fun q4 => sX1_restore G N (some q4) a1 h) (fun v1 h2 =>
  gSl G h2 a2 3 (0 : Int32) (v1.toInt64) fun h3 =>
  some (.inl (0 : Int32), h3)) fun q5 h6 =>
  gSw h6 (some q5) 0 (some (.inl (2 : Int32), h6)) (gSw h6 (some q5) 2 (some (.inl (1 : Int32), h6)) (none))
abbrev mX0_restore : MI := (RX0, cX0_restore, 4, (some .int), [(0, 9, 12, 13), (0, 9, 15, 21)], 9, 206, "restore")
theorem tX0_restore {G : GG} {l : Launch} (hs : l.stackTraces = false) {N : Nat} {a0 : Option Nat} {a1 : Int32} {a2 : Option Nat} {h : Hp} {r : Int32 ⊕ Nat} {hf : Hp} (ho : sX0_restore G N a0 a1 a2 h = some (r, hf)) : gMet G l yX0_restore (wsW_ yX0_restore cX0_restore 4 (some .int) [(0, 9, 12, 13), (0, 9, 15, 21)]) 9 206 [gr a0, gi a1, gr a2] h cvI r hf := by
  refine gMet.ofW ho hs (plainFor_of_name pn_X0) rfl rfl (gbl rfl) fun X => ?_
  show gT G l X mX0_restore cvI r hf 0 [(0, gr a0), (1, gi a1), (2, gr a2)] [] h (sX0_restore G N a0 a1 a2 h)
  delta sX0_restore
  refine g_aload_n (pc := 0) (x := a2) 2 rfl rfl dX0_restore_0 ?_
  refine g_iconst (pc := 1) (v := (0 : Int32)) ic_0 dX0_restore_1 ?_
  refine g_aload_n (pc := 2) (x := a0) 0 rfl rfl dX0_restore_2 ?_
  refine g_iload_n (pc := 3) (x := a1) 1 rfl rfl dX0_restore_3 ?_
  refine g_bVXi (pc := 4) (y := yX1_restore) (ws := ws_ yX1_restore cX1_restore 2 (some .int)) (fr := 8) (lo := 185) (as := [gi a1]) (st := [gi (0 : Int32), gr a2]) rfl (fun _ _ _ e => tX1_restore hs e) (fun K _ _ _ hq hM R e1 e2 => g_runV (M := mX0_restore) (pc := 4) (y := yX1_restore) (bytes := cX1_restore) (maxL := 2) (ret := (some .int)) (fr := 8) (lo := 185) (as := [gi a1]) (st := [gi (0 : Int32), gr a2]) hq (C := "FlareSlopes") rfl gy_X1_restore (gbl rfl) (gbl rfl) (gbl rfl) q3930 q3931 q3932 dX0_restore_4 K hM R e1 e2) (fun v1 h2 => ?_) (fun q5 h6 => ?_)
  · refine g_i2l (pc := 7) dX0_restore_7 ?_
    refine g_lastore (pc := 8) rfl dX0_restore_8 fun h3 => ?_
    refine g_goto (pc := 9) (tgt := 18) rfl dX0_restore_9 ?_
    refine g_iconst (pc := 18) (v := (0 : Int32)) ic_0 dX0_restore_18 ?_
    exact g_ireturn (pc := 19) rfl dX0_restore_19
  refine g_catch (E := "java/lang/IllegalStateException") [⟨0, 9, 12, 13⟩] ⟨0, 9, 15, 21⟩ [] rfl rfl (List.forall_mem_cons.mpr ⟨Or.inr ⟨by decide +kernel, _, q325, ncl_java_lang_IllegalStateException_java_lang_IndexOutOfBoundsException⟩, List.forall_mem_nil _⟩) (by decide +kernel) (by decide +kernel) q1425 q1439 ?_ ?_
  · refine g_astore_n (pc := 15) (lv' := []) [] rfl rfl (gblt rfl) dX0_restore_15 ?_
    refine g_iconst (pc := 16) (v := (2 : Int32)) ic_2 dX0_restore_16 ?_
    exact g_ireturn (pc := 17) rfl dX0_restore_17
  refine g_catch (E := "java/lang/IndexOutOfBoundsException") [] ⟨0, 9, 12, 13⟩ [⟨0, 9, 15, 21⟩] rfl rfl (List.forall_mem_nil _) (by decide +kernel) (by decide +kernel) q325 q418 ?_ ?_
  · refine g_astore_n (pc := 12) (lv' := []) [] rfl rfl (gblt rfl) dX0_restore_12 ?_
    refine g_iconst (pc := 13) (v := (1 : Int32)) ic_1 dX0_restore_13 ?_
    exact g_ireturn (pc := 14) rfl dX0_restore_14
  exact g_noneX
/-! FlareSlopesModel.restore(I)I -/
noncomputable def sX2_restore (G : GG) (N : Nat) (a0 : Option Nat) (a1 : Int32) (h : Hp) : Out (Int32) :=
  bnd (sX2_in G N a1 (0 : Int32) (1 : Int32) h) fun v1 h2 =>
  gJ (fun (x3 : Int32) (h4 : Hp) =>
  bV h4 a0 18 (fun q15 => sX2_mayTwo G N (some q15) v1 x3 h4) fun v6 h7 =>
  if v6 = 0 then (some (.inl (0 : Int32), h7))
  else gFr h7 a0 18 4 fun v8 =>
  gFr h7 a0 18 1 fun v9 =>
  bnd (sX2_copies G N v8 (a1 * (1058 : Int32)) v9 (0 : Int32) h7) fun v10 h11 =>
  gP G h11 a0 18 9 (.int (0 : Int32)) fun h12 =>
  gFr h12 a0 18 1 fun v13 =>
  gAi h12 v13 0 (90 : Int32) fun v14 =>
  some (.inl v14, h12)) fun j5 =>
  gJ (fun (x16 : Unit) (h17 : Hp) =>
  j5 (0 : Int32) h17) fun j18 =>
  if v1 = 0 then (j18 () h2)
  else gFr h2 a0 18 5 fun v19 =>
  gAi h2 v19 2 a1 fun v20 =>
  if v20 = 0 then (j18 () h2)
  else j5 (1 : Int32) h2
abbrev mX2_restore : MI := (RX2, cX2_restore, 3, (some .int), [], 2, 45, "restore")
theorem tX2_restore {G : GG} {l : Launch} (hs : l.stackTraces = false) {N : Nat} {a0 : Option Nat} {a1 : Int32} {h : Hp} {r : Int32 ⊕ Nat} {hf : Hp} (ho : sX2_restore G N a0 a1 h = some (r, hf)) : gMet G l yX2_restore (ws_ yX2_restore cX2_restore 3 (some .int)) 2 45 [gr a0, gi a1] h cvI r hf := by
  refine gMet.of ho hs (plainFor_of_name pn_X2) rfl rfl (gbl rfl) fun X => ?_
  show gT G l X mX2_restore cvI r hf 0 [(0, gr a0), (1, gi a1)] [] h (sX2_restore G N a0 a1 h)
  delta sX2_restore
  refine g_iload_n (pc := 0) (x := a1) 1 rfl rfl dX2_restore_0 ?_
  refine g_iconst (pc := 1) (v := (0 : Int32)) ic_0 dX2_restore_1 ?_
  refine g_iconst (pc := 2) (v := (1 : Int32)) ic_1 dX2_restore_2 ?_
  refine g_bi (pc := 3) (y := yX2_in) (ws := ws_ yX2_in cX2_in 3 (some .boolean)) (fr := 0) (lo := 0) (as := [gi a1, gi (0 : Int32), gi (1 : Int32)]) (st := []) (g_no) rfl (fun _ _ e => tX2_in hs e) (fun K _ _ hM R e1 e2 => g_runS (M := mX2_restore) (pc := 3) (y := yX2_in) (bytes := cX2_in) (maxL := 3) (ret := (some .boolean)) (fr := 0) (lo := 0) (as := [gi a1, gi (0 : Int32), gi (1 : Int32)]) (st := []) gy_X2_in (gbl rfl) (gbl rfl) (gbl rfl) q4037 q4038 dX2_restore_3 K hM R e1 e2) fun v1 h2 => ?_
  refine g_istore_n (pc := 6) (lv' := [(2, gi v1), (0, gr a0), (1, gi a1)]) [0, 1, 2] rfl rfl (gblt rfl) dX2_restore_6 ?_
  refine g_aload_n (pc := 7) (x := a0) 1 rfl rfl dX2_restore_7 ?_
  refine g_iload_n (pc := 8) (x := v1) 0 rfl rfl dX2_restore_8 ?_
  refine g_iload_n (pc := 9) (x := v1) 0 rfl rfl dX2_restore_9 ?_
  refine g_join 27 (fun (x3 : Int32) => [(0, gr a0), (1, gi a1)]) (fun (x3 : Int32) => [gi x3, gi v1, gr a0]) (fun x3 h4 => ?_) (fun j5 Hj5 => ?_)
  · refine g_bVi (pc := 27) (y := yX2_mayTwo) (ws := ws_ yX2_mayTwo cX2_mayTwo 3 (some .boolean)) (fr := 1) (lo := 23) (as := [gi v1, gi x3]) (st := []) (g_no) rfl (fun _ _ _ e => tX2_mayTwo hs e) (fun K _ _ _ hq hM R e1 e2 => g_runV (M := mX2_restore) (pc := 27) (y := yX2_mayTwo) (bytes := cX2_mayTwo) (maxL := 3) (ret := (some .boolean)) (fr := 1) (lo := 23) (as := [gi v1, gi x3]) (st := []) hq (C := "FlareSlopesModel") rfl gy_X2_mayTwo (gbl rfl) (gbl rfl) (gbl rfl) q4145 q4147 qs76 dX2_restore_27 K hM R e1 e2) fun v6 h7 => ?_
    refine g_if_ne (pc := 30) (tgt := 35) rfl dX2_restore_30 ?_ ?_
    · refine g_iconst (pc := 33) (v := (0 : Int32)) ic_0 dX2_restore_33 ?_
      exact g_ireturn (pc := 34) rfl dX2_restore_34
    refine g_aload_n (pc := 35) (x := a0) 0 rfl rfl dX2_restore_35 ?_
    refine g_getfr (pc := 36) k_18 (gblt rfl) lk_X2_19_18 dX2_restore_36 fun v8 => ?_
    refine g_iload_n (pc := 39) (x := a1) 1 rfl rfl dX2_restore_39 ?_
    refine g_sipush (pc := 40) (v := (1058 : Int32)) sc_1058 dX2_restore_40 ?_
    refine g_imul (pc := 43) dX2_restore_43 ?_
    refine g_aload_n (pc := 44) (x := a0) 0 rfl rfl dX2_restore_44 ?_
    refine g_getfr (pc := 45) k_18 (gblt rfl) lk_X2_9_18 dX2_restore_45 fun v9 => ?_
    refine g_iconst (pc := 48) (v := (0 : Int32)) ic_0 dX2_restore_48 ?_
    refine g_bu (pc := 49) (y := yX2_copies) (ws := ws_ yX2_copies cX2_copies 5 none) (fr := 0) (lo := 0) (as := [gr v8, gi (a1 * (1058 : Int32)), gr v9, gi (0 : Int32)]) (st := []) (g_no) rfl (fun _ _ e => tX2_copies hs e) (fun K _ _ hM R e1 e2 => g_runS (M := mX2_restore) (pc := 49) (y := yX2_copies) (bytes := cX2_copies) (maxL := 5) (ret := none) (fr := 0) (lo := 0) (as := [gr v8, gi (a1 * (1058 : Int32)), gr v9, gi (0 : Int32)]) (st := []) gy_X2_copies (gbl rfl) (gbl rfl) (gbl rfl) q4044 q4045 dX2_restore_49 K hM R e1 e2) fun v10 h11 => ?_
    refine g_aload_n (pc := 52) (x := a0) 0 rfl rfl dX2_restore_52 ?_
    refine g_iconst (pc := 53) (v := (0 : Int32)) ic_0 dX2_restore_53 ?_
    refine g_put (pc := 54) k_18 (gblt rfl) lk_X2_188_18 rfl rfl (gNi _) dX2_restore_54 fun h12 => ?_
    refine g_aload_n (pc := 57) (x := a0) 0 rfl rfl dX2_restore_57 ?_
    refine g_getfr (pc := 58) k_18 (gblt rfl) lk_X2_9_18 dX2_restore_58 fun v13 => ?_
    refine g_bipush (pc := 61) (v := (90 : Int32)) bc_90 dX2_restore_61 ?_
    refine g_iaload (pc := 63) rfl dX2_restore_63 fun v14 => ?_
    exact g_ireturn (pc := 64) rfl dX2_restore_64
  refine g_join 26 (fun (x16 : Unit) => [(0, gr a0), (1, gi a1)]) (fun (x16 : Unit) => [gi v1, gr a0]) (fun x16 h17 => ?_) (fun j18 Hj18 => ?_)
  · refine g_iconst (pc := 26) (v := (0 : Int32)) ic_0 dX2_restore_26 ?_
    exact Hj5 (0 : Int32) h17
  refine g_if_eq (pc := 10) (tgt := 26) rfl dX2_restore_10 ?_ ?_
  · exact g_sub [1, 2] rfl (Hj18 () h2)
  refine g_aload_n (pc := 13) (x := a0) 1 rfl rfl dX2_restore_13 ?_
  refine g_getfr (pc := 14) k_18 (gblt rfl) lk_X2_22_18 dX2_restore_14 fun v19 => ?_
  refine g_iload_n (pc := 17) (x := a1) 2 rfl rfl dX2_restore_17 ?_
  refine g_zaload (pc := 18) rfl dX2_restore_18 fun v20 => ?_
  refine g_if_eq (pc := 19) (tgt := 26) rfl dX2_restore_19 ?_ ?_
  · exact g_sub [1, 2] rfl (Hj18 () h2)
  refine g_iconst (pc := 22) (v := (1 : Int32)) ic_1 dX2_restore_22 ?_
  refine g_goto (pc := 23) (tgt := 27) rfl dX2_restore_23 ?_
  exact g_sub [1, 2] rfl (Hj5 (1 : Int32) h2)
/-! FlareSlopesLaw.law([I)Z -/
noncomputable def bL_law_28 (G : GG) (N : Nat) (a0 : Option Nat) (v1 : Option Nat) (v5 : Option Nat) (v9 : Option Nat) (v11 : Option Nat) (w15 : (Int32) → Hp → Out (Int32)) (x13 : Int32) (h14 : Hp) : Out (Int32) :=
  gLen h14 a0 fun v16 =>
  if (v16 - (6 : Int32)) < x13 then (gRtZ (1 : Int32) h14)
  else gAi h14 a0 0 x13 fun v17 =>
  gJ (fun (x18 : Unit) (h19 : Hp) =>
  w15 (x13 + (6 : Int32)) h19) fun j20 =>
  gSel (v17 &&& (63 : Int32)) [((0 : Int32), gAi h14 a0 0 (x13 + (1 : Int32)) fun v21 =>
  gAi h14 a0 0 (x13 + (2 : Int32)) fun v22 =>
  gAi h14 a0 0 (x13 + (3 : Int32)) fun v23 =>
  gAi h14 a0 0 (x13 + (4 : Int32)) fun v24 =>
  gAi h14 a0 0 (x13 + (5 : Int32)) fun v25 =>
  bV h14 v1 3 (fun q36 => sX1_append G N (some q36) v21 v22 v23 v24 v25 h14) fun v26 h27 =>
  gAi h27 a0 0 (x13 + (1 : Int32)) fun v28 =>
  gAi h27 a0 0 (x13 + (2 : Int32)) fun v29 =>
  gAi h27 a0 0 (x13 + (3 : Int32)) fun v30 =>
  gAi h27 a0 0 (x13 + (4 : Int32)) fun v31 =>
  gAi h27 a0 0 (x13 + (5 : Int32)) fun v32 =>
  bV h27 v5 18 (fun q35 => sX2_append G N (some q35) v28 v29 v30 v31 v32 h27) fun v33 h34 =>
  if v26 = v33 then (j20 () h34)
  else gRtZ (0 : Int32) h34),
  ((1 : Int32), gAi h14 a0 0 (x13 + (1 : Int32)) fun v37 =>
  bnd (sX0_load G N v1 v37 v9 h14) fun v38 h39 =>
  gAi h39 a0 0 (x13 + (1 : Int32)) fun v40 =>
  bV h39 v5 18 (fun q50 => sX2_load G N (some q50) v40 h39) fun v41 h42 =>
  bV h42 v5 18 (fun q49 => sX2_thrown G N (some q49) h42) fun v43 h44 =>
  if v43 = v38 then (gJ (fun (x45 : Unit) (h46 : Hp) =>
  j20 () h46) fun j47 =>
  if v38 = 0 then (gAl h44 v9 3 (0 : Int32) fun v48 =>
  if (lg_cmp v48 (v41.toInt64)) = 0 then (j47 () h44)
  else gRtZ (0 : Int32) h44)
  else j47 () h44)
  else gRtZ (0 : Int32) h44),
  ((2 : Int32), bV h14 v1 3 (fun q56 => sX1_parseError G N (some q56) h14) fun v51 h52 =>
  bV h52 v5 18 (fun q55 => sX2_parseError G N (some q55) h52) fun v53 h54 =>
  if v51 = v53 then (j20 () h54)
  else gRtZ (0 : Int32) h54),
  ((3 : Int32), bV h14 v1 3 (fun q62 => sX1_errorPosition G N (some q62) h14) fun v57 h58 =>
  bV h58 v5 18 (fun q61 => sX2_errorPosition G N (some q61) h58) fun v59 h60 =>
  if v57 = v59 then (j20 () h60)
  else gRtZ (0 : Int32) h60),
  ((4 : Int32), bV h14 v1 3 (fun q68 => sX1_buffered G N (some q68) h14) fun v63 h64 =>
  bV h64 v5 18 (fun q67 => sX2_buffered G N (some q67) h64) fun v65 h66 =>
  if v63 = v65 then (j20 () h66)
  else gRtZ (0 : Int32) h66),
  ((5 : Int32), gAi h14 a0 0 (x13 + (1 : Int32)) fun v69 =>
  gAi h14 a0 0 (x13 + (2 : Int32)) fun v70 =>
  gJ (fun (x71 : Int32) (h72 : Hp) =>
  bnd (sX0_find G N v1 v69 x71 v9 h72) fun v74 h75 =>
  gAi h75 a0 0 (x13 + (1 : Int32)) fun v76 =>
  gAi h75 a0 0 (x13 + (2 : Int32)) fun v77 =>
  gJ (fun (x78 : Int32) (h79 : Hp) =>
  bV h79 v5 18 (fun q90 => sX2_find G N (some q90) v76 x78 h79) fun v81 h82 =>
  bV h82 v5 18 (fun q89 => sX2_thrown G N (some q89) h82) fun v83 h84 =>
  if v83 = v74 then (gJ (fun (x85 : Unit) (h86 : Hp) =>
  j20 () h86) fun j87 =>
  if v74 = 0 then (gAl h84 v9 3 (0 : Int32) fun v88 =>
  if (lg_cmp v88 (v81.toInt64)) = 0 then (j87 () h84)
  else gRtZ (0 : Int32) h84)
  else j87 () h84)
  else gRtZ (0 : Int32) h84) fun j80 =>
  if v77 = 0 then (j80 (0 : Int32) h75)
  else j80 (1 : Int32) h75) fun j73 =>
  if v70 = 0 then (j73 (0 : Int32) h14)
  else j73 (1 : Int32) h14),
  ((6 : Int32), gAi h14 a0 0 (x13 + (1 : Int32)) fun v91 =>
  bnd (sX0_count G N v1 v91 v9 h14) fun v92 h93 =>
  gAi h93 a0 0 (x13 + (1 : Int32)) fun v94 =>
  bV h93 v5 18 (fun q104 => sX2_count G N (some q104) v94 h93) fun v95 h96 =>
  bV h96 v5 18 (fun q103 => sX2_thrown G N (some q103) h96) fun v97 h98 =>
  if v97 = v92 then (gJ (fun (x99 : Unit) (h100 : Hp) =>
  j20 () h100) fun j101 =>
  if v92 = 0 then (gAl h98 v9 3 (0 : Int32) fun v102 =>
  if (lg_cmp v102 (v95.toInt64)) = 0 then (j101 () h98)
  else gRtZ (0 : Int32) h98)
  else j101 () h98)
  else gRtZ (0 : Int32) h98),
  ((7 : Int32), gAi h14 a0 0 (x13 + (1 : Int32)) fun v105 =>
  bnd (sX0_setting G N v1 v105 v9 h14) fun v106 h107 =>
  gAi h107 a0 0 (x13 + (1 : Int32)) fun v108 =>
  bV h107 v5 18 (fun q118 => sX2_setting G N (some q118) v108 h107) fun v109 h110 =>
  bV h110 v5 18 (fun q117 => sX2_thrown G N (some q117) h110) fun v111 h112 =>
  if v111 = v106 then (gJ (fun (x113 : Unit) (h114 : Hp) =>
  j20 () h114) fun j115 =>
  if v106 = 0 then (gAl h112 v9 3 (0 : Int32) fun v116 =>
  if (lg_cmp v116 (v109.toInt64)) = 0 then (j115 () h112)
  else gRtZ (0 : Int32) h112)
  else j115 () h112)
  else gRtZ (0 : Int32) h112),
  ((8 : Int32), gAi h14 a0 0 (x13 + (1 : Int32)) fun v119 =>
  gAi h14 a0 0 (x13 + (2 : Int32)) fun v120 =>
  bnd (sX0_cabin G N v1 v119 v120 v9 h14) fun v121 h122 =>
  gAi h122 a0 0 (x13 + (1 : Int32)) fun v123 =>
  gAi h122 a0 0 (x13 + (2 : Int32)) fun v124 =>
  bV h122 v5 18 (fun q134 => sX2_cabin G N (some q134) v123 v124 h122) fun v125 h126 =>
  bV h126 v5 18 (fun q133 => sX2_thrown G N (some q133) h126) fun v127 h128 =>
  if v127 = v121 then (gJ (fun (x129 : Unit) (h130 : Hp) =>
  j20 () h130) fun j131 =>
  if v121 = 0 then (gAl h128 v9 3 (0 : Int32) fun v132 =>
  if (lg_cmp v132 (v125.toInt64)) = 0 then (j131 () h128)
  else gRtZ (0 : Int32) h128)
  else j131 () h128)
  else gRtZ (0 : Int32) h128),
  ((9 : Int32), gAi h14 a0 0 (x13 + (1 : Int32)) fun v135 =>
  gAi h14 a0 0 (x13 + (2 : Int32)) fun v136 =>
  bnd (sX0_slope G N v1 v135 v136 v9 h14) fun v137 h138 =>
  gAi h138 a0 0 (x13 + (1 : Int32)) fun v139 =>
  gAi h138 a0 0 (x13 + (2 : Int32)) fun v140 =>
  bV h138 v5 18 (fun q150 => sX2_slope G N (some q150) v139 v140 h138) fun v141 h142 =>
  bV h142 v5 18 (fun q149 => sX2_thrown G N (some q149) h142) fun v143 h144 =>
  if v143 = v137 then (gJ (fun (x145 : Unit) (h146 : Hp) =>
  j20 () h146) fun j147 =>
  if v137 = 0 then (gAl h144 v9 3 (0 : Int32) fun v148 =>
  if (lg_cmp v148 (v141.toInt64)) = 0 then (j147 () h144)
  else gRtZ (0 : Int32) h144)
  else j147 () h144)
  else gRtZ (0 : Int32) h144),
  ((10 : Int32), gAi h14 a0 0 (x13 + (1 : Int32)) fun v151 =>
  gAi h14 a0 0 (x13 + (2 : Int32)) fun v152 =>
  bnd (sX0_ridge G N v1 v151 v152 v9 h14) fun v153 h154 =>
  gAi h154 a0 0 (x13 + (1 : Int32)) fun v155 =>
  gAi h154 a0 0 (x13 + (2 : Int32)) fun v156 =>
  bV h154 v5 18 (fun q166 => sX2_ridge G N (some q166) v155 v156 h154) fun v157 h158 =>
  bV h158 v5 18 (fun q165 => sX2_thrown G N (some q165) h158) fun v159 h160 =>
  if v159 = v153 then (gJ (fun (x161 : Unit) (h162 : Hp) =>
  j20 () h162) fun j163 =>
  if v153 = 0 then (gAl h160 v9 3 (0 : Int32) fun v164 =>
  if (lg_cmp v164 (v157.toInt64)) = 0 then (j163 () h160)
  else gRtZ (0 : Int32) h160)
  else j163 () h160)
  else gRtZ (0 : Int32) h160),
  ((11 : Int32), gAi h14 a0 0 (x13 + (1 : Int32)) fun v167 =>
  gAi h14 a0 0 (x13 + (2 : Int32)) fun v168 =>
  bnd (sX0_fog G N v1 v167 v168 v9 h14) fun v169 h170 =>
  gAi h170 a0 0 (x13 + (1 : Int32)) fun v171 =>
  gAi h170 a0 0 (x13 + (2 : Int32)) fun v172 =>
  bV h170 v5 18 (fun q182 => sX2_fog G N (some q182) v171 v172 h170) fun v173 h174 =>
  bV h174 v5 18 (fun q181 => sX2_thrown G N (some q181) h174) fun v175 h176 =>
  if v175 = v169 then (gJ (fun (x177 : Unit) (h178 : Hp) =>
  j20 () h178) fun j179 =>
  if v169 = 0 then (gAl h176 v9 3 (0 : Int32) fun v180 =>
  if (lg_cmp v180 (v173.toInt64)) = 0 then (j179 () h176)
  else gRtZ (0 : Int32) h176)
  else j179 () h176)
  else gRtZ (0 : Int32) h176),
  ((12 : Int32), bnd (sX0_sight G N v1 v9 h14) fun v183 h184 =>
  bV h184 v5 18 (fun q194 => sX2_sight G N (some q194) h184) fun v185 h186 =>
  bV h186 v5 18 (fun q193 => sX2_thrown G N (some q193) h186) fun v187 h188 =>
  if v187 = v183 then (gJ (fun (x189 : Unit) (h190 : Hp) =>
  j20 () h190) fun j191 =>
  if v183 = 0 then (gAl h188 v9 3 (0 : Int32) fun v192 =>
  if (lg_cmp v192 (v185.toInt64)) = 0 then (j191 () h188)
  else gRtZ (0 : Int32) h188)
  else j191 () h188)
  else gRtZ (0 : Int32) h188),
  ((13 : Int32), gAi h14 a0 0 (x13 + (1 : Int32)) fun v195 =>
  gAi h14 a0 0 (x13 + (2 : Int32)) fun v196 =>
  bnd (sX0_sees G N v1 v195 v196 v9 h14) fun v197 h198 =>
  gAi h198 a0 0 (x13 + (1 : Int32)) fun v199 =>
  gAi h198 a0 0 (x13 + (2 : Int32)) fun v200 =>
  bV h198 v5 18 (fun q213 => sX2_sees G N (some q213) v199 v200 h198) fun v201 h202 =>
  bV h202 v5 18 (fun q212 => sX2_thrown G N (some q212) h202) fun v203 h204 =>
  if v203 = v197 then (gJ (fun (x205 : Unit) (h206 : Hp) =>
  j20 () h206) fun j207 =>
  if v197 = 0 then (gAl h204 v9 3 (0 : Int32) fun v208 =>
  gJ (fun (x209 : Int64) (h210 : Hp) =>
  if (lg_cmp v208 x209) = 0 then (j207 () h210)
  else gRtZ (0 : Int32) h210) fun j211 =>
  if v201 = 0 then (j211 (0 : Int64) h204)
  else j211 (1 : Int64) h204)
  else j207 () h204)
  else gRtZ (0 : Int32) h204),
  ((14 : Int32), gAi h14 a0 0 (x13 + (1 : Int32)) fun v214 =>
  gAi h14 a0 0 (x13 + (2 : Int32)) fun v215 =>
  bnd (sX0_seesSlope G N v1 v214 v215 v9 h14) fun v216 h217 =>
  gAi h217 a0 0 (x13 + (1 : Int32)) fun v218 =>
  gAi h217 a0 0 (x13 + (2 : Int32)) fun v219 =>
  bV h217 v5 18 (fun q232 => sX2_seesSlope G N (some q232) v218 v219 h217) fun v220 h221 =>
  bV h221 v5 18 (fun q231 => sX2_thrown G N (some q231) h221) fun v222 h223 =>
  if v222 = v216 then (gJ (fun (x224 : Unit) (h225 : Hp) =>
  j20 () h225) fun j226 =>
  if v216 = 0 then (gAl h223 v9 3 (0 : Int32) fun v227 =>
  gJ (fun (x228 : Int64) (h229 : Hp) =>
  if (lg_cmp v227 x228) = 0 then (j226 () h229)
  else gRtZ (0 : Int32) h229) fun j230 =>
  if v220 = 0 then (j230 (0 : Int64) h223)
  else j230 (1 : Int64) h223)
  else j226 () h223)
  else gRtZ (0 : Int32) h223),
  ((15 : Int32), gAi h14 a0 0 (x13 + (1 : Int32)) fun v233 =>
  bnd (sX0_seers G N v1 v233 v9 h14) fun v234 h235 =>
  gAi h235 a0 0 (x13 + (1 : Int32)) fun v236 =>
  bV h235 v5 18 (fun q246 => sX2_seers G N (some q246) v236 h235) fun v237 h238 =>
  bV h238 v5 18 (fun q245 => sX2_thrown G N (some q245) h238) fun v239 h240 =>
  if v239 = v234 then (gJ (fun (x241 : Unit) (h242 : Hp) =>
  j20 () h242) fun j243 =>
  if v234 = 0 then (gAl h240 v9 3 (0 : Int32) fun v244 =>
  if (lg_cmp v244 (v237.toInt64)) = 0 then (j243 () h240)
  else gRtZ (0 : Int32) h240)
  else j243 () h240)
  else gRtZ (0 : Int32) h240),
  ((16 : Int32), gAi h14 a0 0 (x13 + (1 : Int32)) fun v247 =>
  gAi h14 a0 0 (x13 + (2 : Int32)) fun v248 =>
  bnd (sX0_distance G N v1 v247 v248 v9 h14) fun v249 h250 =>
  gAi h250 a0 0 (x13 + (1 : Int32)) fun v251 =>
  gAi h250 a0 0 (x13 + (2 : Int32)) fun v252 =>
  bV h250 v5 18 (fun q262 => sX2_distance G N (some q262) v251 v252 h250) fun v253 h254 =>
  bV h254 v5 18 (fun q261 => sX2_thrown G N (some q261) h254) fun v255 h256 =>
  if v255 = v249 then (gJ (fun (x257 : Unit) (h258 : Hp) =>
  j20 () h258) fun j259 =>
  if v249 = 0 then (gAl h256 v9 3 (0 : Int32) fun v260 =>
  if (lg_cmp v260 (v253.toInt64)) = 0 then (j259 () h256)
  else gRtZ (0 : Int32) h256)
  else j259 () h256)
  else gRtZ (0 : Int32) h256),
  ((17 : Int32), gAi h14 a0 0 (x13 + (1 : Int32)) fun v263 =>
  bnd (sX0_reached G N v1 v263 v9 h14) fun v264 h265 =>
  gAi h265 a0 0 (x13 + (1 : Int32)) fun v266 =>
  bV h265 v5 18 (fun q276 => sX2_reached G N (some q276) v266 h265) fun v267 h268 =>
  bV h268 v5 18 (fun q275 => sX2_thrown G N (some q275) h268) fun v269 h270 =>
  if v269 = v264 then (gJ (fun (x271 : Unit) (h272 : Hp) =>
  j20 () h272) fun j273 =>
  if v264 = 0 then (gAl h270 v9 3 (0 : Int32) fun v274 =>
  if (lg_cmp v274 (v267.toInt64)) = 0 then (j273 () h270)
  else gRtZ (0 : Int32) h270)
  else j273 () h270)
  else gRtZ (0 : Int32) h270),
  ((18 : Int32), gAi h14 a0 0 (x13 + (1 : Int32)) fun v277 =>
  gAi h14 a0 0 (x13 + (2 : Int32)) fun v278 =>
  bnd (sX0_steps G N v1 v277 v278 v9 h14) fun v279 h280 =>
  gAi h280 a0 0 (x13 + (1 : Int32)) fun v281 =>
  gAi h280 a0 0 (x13 + (2 : Int32)) fun v282 =>
  bV h280 v5 18 (fun q292 => sX2_steps G N (some q292) v281 v282 h280) fun v283 h284 =>
  bV h284 v5 18 (fun q291 => sX2_thrown G N (some q291) h284) fun v285 h286 =>
  if v285 = v279 then (gJ (fun (x287 : Unit) (h288 : Hp) =>
  j20 () h288) fun j289 =>
  if v279 = 0 then (gAl h286 v9 3 (0 : Int32) fun v290 =>
  if (lg_cmp v290 (v283.toInt64)) = 0 then (j289 () h286)
  else gRtZ (0 : Int32) h286)
  else j289 () h286)
  else gRtZ (0 : Int32) h286),
  ((19 : Int32), gAi h14 a0 0 (x13 + (1 : Int32)) fun v293 =>
  gAi h14 a0 0 (x13 + (2 : Int32)) fun v294 =>
  bnd (sX0_ridgesBetween G N v1 v293 v294 v9 h14) fun v295 h296 =>
  gAi h296 a0 0 (x13 + (1 : Int32)) fun v297 =>
  gAi h296 a0 0 (x13 + (2 : Int32)) fun v298 =>
  bV h296 v5 18 (fun q308 => sX2_ridgesBetween G N (some q308) v297 v298 h296) fun v299 h300 =>
  bV h300 v5 18 (fun q307 => sX2_thrown G N (some q307) h300) fun v301 h302 =>
  if v301 = v295 then (gJ (fun (x303 : Unit) (h304 : Hp) =>
  j20 () h304) fun j305 =>
  if v295 = 0 then (gAl h302 v9 3 (0 : Int32) fun v306 =>
  if (lg_cmp v306 (v299.toInt64)) = 0 then (j305 () h302)
  else gRtZ (0 : Int32) h302)
  else j305 () h302)
  else gRtZ (0 : Int32) h302),
  ((20 : Int32), gAi h14 a0 0 (x13 + (1 : Int32)) fun v309 =>
  gAi h14 a0 0 (x13 + (2 : Int32)) fun v310 =>
  gAi h14 a0 0 (x13 + (3 : Int32)) fun v311 =>
  gAi h14 a0 0 (x13 + (4 : Int32)) fun v312 =>
  bnd (sX0_vote G N v1 v309 v310 v311 v312 v9 h14) fun v313 h314 =>
  gAi h314 a0 0 (x13 + (1 : Int32)) fun v315 =>
  gAi h314 a0 0 (x13 + (2 : Int32)) fun v316 =>
  gAi h314 a0 0 (x13 + (3 : Int32)) fun v317 =>
  gAi h314 a0 0 (x13 + (4 : Int32)) fun v318 =>
  bV h314 v5 18 (fun q328 => sX2_vote G N (some q328) v315 v316 v317 v318 h314) fun v319 h320 =>
  bV h320 v5 18 (fun q327 => sX2_thrown G N (some q327) h320) fun v321 h322 =>
  if v321 = v313 then (gJ (fun (x323 : Unit) (h324 : Hp) =>
  j20 () h324) fun j325 =>
  if v313 = 0 then (gAl h322 v9 3 (0 : Int32) fun v326 =>
  if (lg_cmp v326 (v319.toInt64)) = 0 then (j325 () h322)
  else gRtZ (0 : Int32) h322)
  else j325 () h322)
  else gRtZ (0 : Int32) h322),
  ((21 : Int32), gAi h14 a0 0 (x13 + (1 : Int32)) fun v329 =>
  gAi h14 a0 0 (x13 + (2 : Int32)) fun v330 =>
  gAi h14 a0 0 (x13 + (3 : Int32)) fun v331 =>
  gJ (fun (x332 : Int32) (h333 : Hp) =>
  bnd (sX0_weights G N v1 v329 v330 x332 v9 h333) fun v335 h336 =>
  gAi h336 a0 0 (x13 + (1 : Int32)) fun v337 =>
  gAi h336 a0 0 (x13 + (2 : Int32)) fun v338 =>
  gAi h336 a0 0 (x13 + (3 : Int32)) fun v339 =>
  gJ (fun (x340 : Int32) (h341 : Hp) =>
  bV h341 v5 18 (fun q352 => sX2_weights G N (some q352) v337 v338 x340 h341) fun v343 h344 =>
  bV h344 v5 18 (fun q351 => sX2_thrown G N (some q351) h344) fun v345 h346 =>
  if v345 = v335 then (gJ (fun (x347 : Unit) (h348 : Hp) =>
  j20 () h348) fun j349 =>
  if v335 = 0 then (gAl h346 v9 3 (0 : Int32) fun v350 =>
  if (lg_cmp v350 (v343.toInt64)) = 0 then (j349 () h346)
  else gRtZ (0 : Int32) h346)
  else j349 () h346)
  else gRtZ (0 : Int32) h346) fun j342 =>
  if v339 = 0 then (j342 (0 : Int32) h336)
  else j342 (1 : Int32) h336) fun j334 =>
  if v331 = 0 then (j334 (0 : Int32) h14)
  else j334 (1 : Int32) h14),
  ((22 : Int32), gAi h14 a0 0 (x13 + (1 : Int32)) fun v353 =>
  gAi h14 a0 0 (x13 + (2 : Int32)) fun v354 =>
  bnd (sX0_rules G N v1 v353 v354 v9 h14) fun v355 h356 =>
  gAi h356 a0 0 (x13 + (1 : Int32)) fun v357 =>
  gAi h356 a0 0 (x13 + (2 : Int32)) fun v358 =>
  bV h356 v5 18 (fun q368 => sX2_rules G N (some q368) v357 v358 h356) fun v359 h360 =>
  bV h360 v5 18 (fun q367 => sX2_thrown G N (some q367) h360) fun v361 h362 =>
  if v361 = v355 then (gJ (fun (x363 : Unit) (h364 : Hp) =>
  j20 () h364) fun j365 =>
  if v355 = 0 then (gAl h362 v9 3 (0 : Int32) fun v366 =>
  if (lg_cmp v366 (v359.toInt64)) = 0 then (j365 () h362)
  else gRtZ (0 : Int32) h362)
  else j365 () h362)
  else gRtZ (0 : Int32) h362),
  ((23 : Int32), gAi h14 a0 0 (x13 + (1 : Int32)) fun v369 =>
  gAi h14 a0 0 (x13 + (2 : Int32)) fun v370 =>
  bnd (sX0_run G N v1 v369 v370 v9 h14) fun v371 h372 =>
  gAi h372 a0 0 (x13 + (1 : Int32)) fun v373 =>
  gAi h372 a0 0 (x13 + (2 : Int32)) fun v374 =>
  bV h372 v5 18 (fun q384 => sX2_run G N (some q384) v373 v374 h372) fun v375 h376 =>
  bV h376 v5 18 (fun q383 => sX2_thrown G N (some q383) h376) fun v377 h378 =>
  if v377 = v371 then (gJ (fun (x379 : Unit) (h380 : Hp) =>
  j20 () h380) fun j381 =>
  if v371 = 0 then (gAl h378 v9 3 (0 : Int32) fun v382 =>
  if (lg_cmp v382 (v375.toInt64)) = 0 then (j381 () h378)
  else gRtZ (0 : Int32) h378)
  else j381 () h378)
  else gRtZ (0 : Int32) h378),
  ((24 : Int32), gAi h14 a0 0 (x13 + (1 : Int32)) fun v385 =>
  gAi h14 a0 0 (x13 + (2 : Int32)) fun v386 =>
  bnd (sX0_isClosed G N v1 v385 v386 v9 h14) fun v387 h388 =>
  gAi h388 a0 0 (x13 + (1 : Int32)) fun v389 =>
  gAi h388 a0 0 (x13 + (2 : Int32)) fun v390 =>
  bV h388 v5 18 (fun q403 => sX2_isClosed G N (some q403) v389 v390 h388) fun v391 h392 =>
  bV h392 v5 18 (fun q402 => sX2_thrown G N (some q402) h392) fun v393 h394 =>
  if v393 = v387 then (gJ (fun (x395 : Unit) (h396 : Hp) =>
  j20 () h396) fun j397 =>
  if v387 = 0 then (gAl h394 v9 3 (0 : Int32) fun v398 =>
  gJ (fun (x399 : Int64) (h400 : Hp) =>
  if (lg_cmp v398 x399) = 0 then (j397 () h400)
  else gRtZ (0 : Int32) h400) fun j401 =>
  if v391 = 0 then (j401 (0 : Int64) h394)
  else j401 (1 : Int64) h394)
  else j397 () h394)
  else gRtZ (0 : Int32) h394),
  ((25 : Int32), gAi h14 a0 0 (x13 + (1 : Int32)) fun v404 =>
  gAi h14 a0 0 (x13 + (2 : Int32)) fun v405 =>
  bnd (sX0_toldClosed G N v1 v404 v405 v9 h14) fun v406 h407 =>
  gAi h407 a0 0 (x13 + (1 : Int32)) fun v408 =>
  gAi h407 a0 0 (x13 + (2 : Int32)) fun v409 =>
  bV h407 v5 18 (fun q422 => sX2_toldClosed G N (some q422) v408 v409 h407) fun v410 h411 =>
  bV h411 v5 18 (fun q421 => sX2_thrown G N (some q421) h411) fun v412 h413 =>
  if v412 = v406 then (gJ (fun (x414 : Unit) (h415 : Hp) =>
  j20 () h415) fun j416 =>
  if v406 = 0 then (gAl h413 v9 3 (0 : Int32) fun v417 =>
  gJ (fun (x418 : Int64) (h419 : Hp) =>
  if (lg_cmp v417 x418) = 0 then (j416 () h419)
  else gRtZ (0 : Int32) h419) fun j420 =>
  if v410 = 0 then (j420 (0 : Int64) h413)
  else j420 (1 : Int64) h413)
  else j416 () h413)
  else gRtZ (0 : Int32) h413),
  ((26 : Int32), gAi h14 a0 0 (x13 + (1 : Int32)) fun v423 =>
  bnd (sX0_closers G N v1 v423 v9 h14) fun v424 h425 =>
  gAi h425 a0 0 (x13 + (1 : Int32)) fun v426 =>
  bV h425 v5 18 (fun q436 => sX2_closers G N (some q436) v426 h425) fun v427 h428 =>
  bV h428 v5 18 (fun q435 => sX2_thrown G N (some q435) h428) fun v429 h430 =>
  if v429 = v424 then (gJ (fun (x431 : Unit) (h432 : Hp) =>
  j20 () h432) fun j433 =>
  if v424 = 0 then (gAl h430 v9 3 (0 : Int32) fun v434 =>
  if (lg_cmp v434 (v427.toInt64)) = 0 then (j433 () h430)
  else gRtZ (0 : Int32) h430)
  else j433 () h430)
  else gRtZ (0 : Int32) h430),
  ((27 : Int32), gAi h14 a0 0 (x13 + (1 : Int32)) fun v437 =>
  bnd (sX0_quarrels G N v1 v437 v9 h14) fun v438 h439 =>
  gAi h439 a0 0 (x13 + (1 : Int32)) fun v440 =>
  bV h439 v5 18 (fun q450 => sX2_quarrels G N (some q450) v440 h439) fun v441 h442 =>
  bV h442 v5 18 (fun q449 => sX2_thrown G N (some q449) h442) fun v443 h444 =>
  if v443 = v438 then (gJ (fun (x445 : Unit) (h446 : Hp) =>
  j20 () h446) fun j447 =>
  if v438 = 0 then (gAl h444 v9 3 (0 : Int32) fun v448 =>
  if (lg_cmp v448 (v441.toInt64)) = 0 then (j447 () h444)
  else gRtZ (0 : Int32) h444)
  else j447 () h444)
  else gRtZ (0 : Int32) h444),
  ((28 : Int32), gAi h14 a0 0 (x13 + (1 : Int32)) fun v451 =>
  bnd (sX0_disputes G N v1 v451 v9 h14) fun v452 h453 =>
  gAi h453 a0 0 (x13 + (1 : Int32)) fun v454 =>
  bV h453 v5 18 (fun q464 => sX2_disputes G N (some q464) v454 h453) fun v455 h456 =>
  bV h456 v5 18 (fun q463 => sX2_thrown G N (some q463) h456) fun v457 h458 =>
  if v457 = v452 then (gJ (fun (x459 : Unit) (h460 : Hp) =>
  j20 () h460) fun j461 =>
  if v452 = 0 then (gAl h458 v9 3 (0 : Int32) fun v462 =>
  if (lg_cmp v462 (v455.toInt64)) = 0 then (j461 () h458)
  else gRtZ (0 : Int32) h458)
  else j461 () h458)
  else gRtZ (0 : Int32) h458),
  ((29 : Int32), gAi h14 a0 0 (x13 + (1 : Int32)) fun v465 =>
  bnd (sX0_falseVotes G N v1 v465 v9 h14) fun v466 h467 =>
  gAi h467 a0 0 (x13 + (1 : Int32)) fun v468 =>
  bV h467 v5 18 (fun q478 => sX2_falseVotes G N (some q478) v468 h467) fun v469 h470 =>
  bV h470 v5 18 (fun q477 => sX2_thrown G N (some q477) h470) fun v471 h472 =>
  if v471 = v466 then (gJ (fun (x473 : Unit) (h474 : Hp) =>
  j20 () h474) fun j475 =>
  if v466 = 0 then (gAl h472 v9 3 (0 : Int32) fun v476 =>
  if (lg_cmp v476 (v469.toInt64)) = 0 then (j475 () h472)
  else gRtZ (0 : Int32) h472)
  else j475 () h472)
  else gRtZ (0 : Int32) h472),
  ((30 : Int32), gAi h14 a0 0 (x13 + (1 : Int32)) fun v479 =>
  bnd (sX0_oldestVote G N v1 v479 v9 h14) fun v480 h481 =>
  gAi h481 a0 0 (x13 + (1 : Int32)) fun v482 =>
  bV h481 v5 18 (fun q492 => sX2_oldestVote G N (some q492) v482 h481) fun v483 h484 =>
  bV h484 v5 18 (fun q491 => sX2_thrown G N (some q491) h484) fun v485 h486 =>
  if v485 = v480 then (gJ (fun (x487 : Unit) (h488 : Hp) =>
  j20 () h488) fun j489 =>
  if v480 = 0 then (gAl h486 v9 3 (0 : Int32) fun v490 =>
  if (lg_cmp v490 (v483.toInt64)) = 0 then (j489 () h486)
  else gRtZ (0 : Int32) h486)
  else j489 () h486)
  else gRtZ (0 : Int32) h486),
  ((31 : Int32), bnd (sX0_risky G N v1 v9 h14) fun v493 h494 =>
  bV h494 v5 18 (fun q504 => sX2_risky G N (some q504) h494) fun v495 h496 =>
  bV h496 v5 18 (fun q503 => sX2_thrown G N (some q503) h496) fun v497 h498 =>
  if v497 = v493 then (gJ (fun (x499 : Unit) (h500 : Hp) =>
  j20 () h500) fun j501 =>
  if v493 = 0 then (gAl h498 v9 3 (0 : Int32) fun v502 =>
  if (lg_cmp v502 (v495.toInt64)) = 0 then (j501 () h498)
  else gRtZ (0 : Int32) h498)
  else j501 () h498)
  else gRtZ (0 : Int32) h498),
  ((32 : Int32), gAi h14 a0 0 (x13 + (1 : Int32)) fun v505 =>
  bnd (sX0_weightiest G N v1 v505 v9 h14) fun v506 h507 =>
  gAi h507 a0 0 (x13 + (1 : Int32)) fun v508 =>
  bV h507 v5 18 (fun q518 => sX2_weightiest G N (some q518) v508 h507) fun v509 h510 =>
  bV h510 v5 18 (fun q517 => sX2_thrown G N (some q517) h510) fun v511 h512 =>
  if v511 = v506 then (gJ (fun (x513 : Unit) (h514 : Hp) =>
  j20 () h514) fun j515 =>
  if v506 = 0 then (gAl h512 v9 3 (0 : Int32) fun v516 =>
  if (lg_cmp v516 (v509.toInt64)) = 0 then (j515 () h512)
  else gRtZ (0 : Int32) h512)
  else j515 () h512)
  else gRtZ (0 : Int32) h512),
  ((33 : Int32), bnd (sX0_leastTrusted G N v1 v9 h14) fun v519 h520 =>
  bV h520 v5 18 (fun q530 => sX2_leastTrusted G N (some q530) h520) fun v521 h522 =>
  bV h522 v5 18 (fun q529 => sX2_thrown G N (some q529) h522) fun v523 h524 =>
  if v523 = v519 then (gJ (fun (x525 : Unit) (h526 : Hp) =>
  j20 () h526) fun j527 =>
  if v519 = 0 then (gAl h524 v9 3 (0 : Int32) fun v528 =>
  if (lg_cmp v528 (v521.toInt64)) = 0 then (j527 () h524)
  else gRtZ (0 : Int32) h524)
  else j527 () h524)
  else gRtZ (0 : Int32) h524),
  ((34 : Int32), bnd (sX0_loneliest G N v1 v9 h14) fun v531 h532 =>
  bV h532 v5 18 (fun q542 => sX2_loneliest G N (some q542) h532) fun v533 h534 =>
  bV h534 v5 18 (fun q541 => sX2_thrown G N (some q541) h534) fun v535 h536 =>
  if v535 = v531 then (gJ (fun (x537 : Unit) (h538 : Hp) =>
  j20 () h538) fun j539 =>
  if v531 = 0 then (gAl h536 v9 3 (0 : Int32) fun v540 =>
  if (lg_cmp v540 (v533.toInt64)) = 0 then (j539 () h536)
  else gRtZ (0 : Int32) h536)
  else j539 () h536)
  else gRtZ (0 : Int32) h536),
  ((35 : Int32), bnd (sX0_meanTrust G N v1 v11 h14) fun v543 h544 =>
  bV h544 v5 18 (fun q556 => sX2_meanTrust G N (some q556) h544) fun v545 h546 =>
  bV h546 v5 18 (fun q555 => sX2_thrown G N (some q555) h546) fun v547 h548 =>
  if v547 = v543 then (gJ (fun (x549 : Unit) (h550 : Hp) =>
  j20 () h550) fun j551 =>
  if v543 = 0 then (gAd h548 v11 4 (0 : Int32) fun v552 =>
  if (Op.cmpValue (FP.dcmp v552 v545) .l) = 0 then (j551 () h548)
  else gAd h548 v11 4 (0 : Int32) fun v553 =>
  gAd h548 v11 4 (0 : Int32) fun v554 =>
  if (Op.cmpValue (FP.dcmp v553 v554) .l) = 0 then (gRtZ (0 : Int32) h548)
  else if (Op.cmpValue (FP.dcmp v545 v545) .l) = 0 then (gRtZ (0 : Int32) h548)
  else j551 () h548)
  else j551 () h548)
  else gRtZ (0 : Int32) h548),
  ((36 : Int32), gAi h14 a0 0 (x13 + (1 : Int32)) fun v557 =>
  bnd (sX0_closedShare G N v1 v557 v11 h14) fun v558 h559 =>
  gAi h559 a0 0 (x13 + (1 : Int32)) fun v560 =>
  bV h559 v5 18 (fun q573 => sX2_closedShare G N (some q573) v560 h559) fun v561 h562 =>
  bV h562 v5 18 (fun q572 => sX2_thrown G N (some q572) h562) fun v563 h564 =>
  if v563 = v558 then (gJ (fun (x565 : Unit) (h566 : Hp) =>
  j20 () h566) fun j567 =>
  if v558 = 0 then (gAd h564 v11 4 (0 : Int32) fun v568 =>
  gOk64 (FP.f2d v561) fun v569 =>
  if (Op.cmpValue (FP.dcmp v568 v569) .l) = 0 then (j567 () h564)
  else gAd h564 v11 4 (0 : Int32) fun v570 =>
  gAd h564 v11 4 (0 : Int32) fun v571 =>
  if (Op.cmpValue (FP.dcmp v570 v571) .l) = 0 then (gRtZ (0 : Int32) h564)
  else if (Op.cmpValue (FP.fcmp v561 v561) .l) = 0 then (gRtZ (0 : Int32) h564)
  else j567 () h564)
  else j567 () h564)
  else gRtZ (0 : Int32) h564),
  ((37 : Int32), gAi h14 a0 0 (x13 + (1 : Int32)) fun v574 =>
  gAi h14 a0 0 (x13 + (2 : Int32)) fun v575 =>
  bnd (sX0_bulletin G N v1 v574 v575 v9 h14) fun v576 h577 =>
  gAi h577 a0 0 (x13 + (1 : Int32)) fun v578 =>
  gAi h577 a0 0 (x13 + (2 : Int32)) fun v579 =>
  bV h577 v5 18 (fun q589 => sX2_bulletin G N (some q589) v578 v579 h577) fun v580 h581 =>
  bV h581 v5 18 (fun q588 => sX2_thrown G N (some q588) h581) fun v582 h583 =>
  if v582 = v576 then (gJ (fun (x584 : Unit) (h585 : Hp) =>
  j20 () h585) fun j586 =>
  if v576 = 0 then (gAl h583 v9 3 (0 : Int32) fun v587 =>
  if (lg_cmp v587 (v580.toInt64)) = 0 then (j586 () h583)
  else gRtZ (0 : Int32) h583)
  else j586 () h583)
  else gRtZ (0 : Int32) h583),
  ((38 : Int32), gAi h14 a0 0 (x13 + (1 : Int32)) fun v590 =>
  gAi h14 a0 0 (x13 + (2 : Int32)) fun v591 =>
  bnd (sX0_closesIn G N v1 v590 v591 v9 h14) fun v592 h593 =>
  gAi h593 a0 0 (x13 + (1 : Int32)) fun v594 =>
  gAi h593 a0 0 (x13 + (2 : Int32)) fun v595 =>
  bV h593 v5 18 (fun q605 => sX2_closesIn G N (some q605) v594 v595 h593) fun v596 h597 =>
  bV h597 v5 18 (fun q604 => sX2_thrown G N (some q604) h597) fun v598 h599 =>
  if v598 = v592 then (gJ (fun (x600 : Unit) (h601 : Hp) =>
  j20 () h601) fun j602 =>
  if v592 = 0 then (gAl h599 v9 3 (0 : Int32) fun v603 =>
  if (lg_cmp v603 (v596.toInt64)) = 0 then (j602 () h599)
  else gRtZ (0 : Int32) h599)
  else j602 () h599)
  else gRtZ (0 : Int32) h599),
  ((39 : Int32), gAi h14 a0 0 (x13 + (1 : Int32)) fun v606 =>
  gAi h14 a0 0 (x13 + (2 : Int32)) fun v607 =>
  bnd (sX0_opensIn G N v1 v606 v607 v9 h14) fun v608 h609 =>
  gAi h609 a0 0 (x13 + (1 : Int32)) fun v610 =>
  gAi h609 a0 0 (x13 + (2 : Int32)) fun v611 =>
  bV h609 v5 18 (fun q621 => sX2_opensIn G N (some q621) v610 v611 h609) fun v612 h613 =>
  bV h613 v5 18 (fun q620 => sX2_thrown G N (some q620) h613) fun v614 h615 =>
  if v614 = v608 then (gJ (fun (x616 : Unit) (h617 : Hp) =>
  j20 () h617) fun j618 =>
  if v608 = 0 then (gAl h615 v9 3 (0 : Int32) fun v619 =>
  if (lg_cmp v619 (v612.toInt64)) = 0 then (j618 () h615)
  else gRtZ (0 : Int32) h615)
  else j618 () h615)
  else gRtZ (0 : Int32) h615),
  ((40 : Int32), gAi h14 a0 0 (x13 + (1 : Int32)) fun v622 =>
  gAi h14 a0 0 (x13 + (2 : Int32)) fun v623 =>
  bnd (sX0_closersIn G N v1 v622 v623 v9 h14) fun v624 h625 =>
  gAi h625 a0 0 (x13 + (1 : Int32)) fun v626 =>
  gAi h625 a0 0 (x13 + (2 : Int32)) fun v627 =>
  bV h625 v5 18 (fun q637 => sX2_closersIn G N (some q637) v626 v627 h625) fun v628 h629 =>
  bV h629 v5 18 (fun q636 => sX2_thrown G N (some q636) h629) fun v630 h631 =>
  if v630 = v624 then (gJ (fun (x632 : Unit) (h633 : Hp) =>
  j20 () h633) fun j634 =>
  if v624 = 0 then (gAl h631 v9 3 (0 : Int32) fun v635 =>
  if (lg_cmp v635 (v628.toInt64)) = 0 then (j634 () h631)
  else gRtZ (0 : Int32) h631)
  else j634 () h631)
  else gRtZ (0 : Int32) h631),
  ((41 : Int32), gAi h14 a0 0 (x13 + (1 : Int32)) fun v638 =>
  bnd (sX0_votesIn G N v1 v638 v9 h14) fun v639 h640 =>
  gAi h640 a0 0 (x13 + (1 : Int32)) fun v641 =>
  bV h640 v5 18 (fun q651 => sX2_votesIn G N (some q651) v641 h640) fun v642 h643 =>
  bV h643 v5 18 (fun q650 => sX2_thrown G N (some q650) h643) fun v644 h645 =>
  if v644 = v639 then (gJ (fun (x646 : Unit) (h647 : Hp) =>
  j20 () h647) fun j648 =>
  if v639 = 0 then (gAl h645 v9 3 (0 : Int32) fun v649 =>
  if (lg_cmp v649 (v642.toInt64)) = 0 then (j648 () h645)
  else gRtZ (0 : Int32) h645)
  else j648 () h645)
  else gRtZ (0 : Int32) h645),
  ((42 : Int32), gAi h14 a0 0 (x13 + (1 : Int32)) fun v652 =>
  gAi h14 a0 0 (x13 + (2 : Int32)) fun v653 =>
  bnd (sX0_seeIn G N v1 v652 v653 v9 h14) fun v654 h655 =>
  gAi h655 a0 0 (x13 + (1 : Int32)) fun v656 =>
  gAi h655 a0 0 (x13 + (2 : Int32)) fun v657 =>
  bV h655 v5 18 (fun q667 => sX2_seeIn G N (some q667) v656 v657 h655) fun v658 h659 =>
  bV h659 v5 18 (fun q666 => sX2_thrown G N (some q666) h659) fun v660 h661 =>
  if v660 = v654 then (gJ (fun (x662 : Unit) (h663 : Hp) =>
  j20 () h663) fun j664 =>
  if v654 = 0 then (gAl h661 v9 3 (0 : Int32) fun v665 =>
  if (lg_cmp v665 (v658.toInt64)) = 0 then (j664 () h661)
  else gRtZ (0 : Int32) h661)
  else j664 () h661)
  else gRtZ (0 : Int32) h661),
  ((43 : Int32), gAi h14 a0 0 (x13 + (1 : Int32)) fun v668 =>
  gAi h14 a0 0 (x13 + (2 : Int32)) fun v669 =>
  gAi h14 a0 0 (x13 + (3 : Int32)) fun v670 =>
  bnd (sX0_closersIf G N v1 v668 v669 v670 v9 h14) fun v671 h672 =>
  gAi h672 a0 0 (x13 + (1 : Int32)) fun v673 =>
  gAi h672 a0 0 (x13 + (2 : Int32)) fun v674 =>
  gAi h672 a0 0 (x13 + (3 : Int32)) fun v675 =>
  bV h672 v5 18 (fun q685 => sX2_closersIf G N (some q685) v673 v674 v675 h672) fun v676 h677 =>
  bV h677 v5 18 (fun q684 => sX2_thrown G N (some q684) h677) fun v678 h679 =>
  if v678 = v671 then (gJ (fun (x680 : Unit) (h681 : Hp) =>
  j20 () h681) fun j682 =>
  if v671 = 0 then (gAl h679 v9 3 (0 : Int32) fun v683 =>
  if (lg_cmp v683 (v676.toInt64)) = 0 then (j682 () h679)
  else gRtZ (0 : Int32) h679)
  else j682 () h679)
  else gRtZ (0 : Int32) h679),
  ((44 : Int32), gAi h14 a0 0 (x13 + (1 : Int32)) fun v686 =>
  gAi h14 a0 0 (x13 + (2 : Int32)) fun v687 =>
  bnd (sX0_bestCaller G N v1 v686 v687 v9 h14) fun v688 h689 =>
  gAi h689 a0 0 (x13 + (1 : Int32)) fun v690 =>
  gAi h689 a0 0 (x13 + (2 : Int32)) fun v691 =>
  bV h689 v5 18 (fun q701 => sX2_bestCaller G N (some q701) v690 v691 h689) fun v692 h693 =>
  bV h693 v5 18 (fun q700 => sX2_thrown G N (some q700) h693) fun v694 h695 =>
  if v694 = v688 then (gJ (fun (x696 : Unit) (h697 : Hp) =>
  j20 () h697) fun j698 =>
  if v688 = 0 then (gAl h695 v9 3 (0 : Int32) fun v699 =>
  if (lg_cmp v699 (v692.toInt64)) = 0 then (j698 () h695)
  else gRtZ (0 : Int32) h695)
  else j698 () h695)
  else gRtZ (0 : Int32) h695),
  ((45 : Int32), gAi h14 a0 0 (x13 + (1 : Int32)) fun v702 =>
  gAi h14 a0 0 (x13 + (2 : Int32)) fun v703 =>
  bnd (sX0_leastShare G N v1 v702 v703 v9 h14) fun v704 h705 =>
  gAi h705 a0 0 (x13 + (1 : Int32)) fun v706 =>
  gAi h705 a0 0 (x13 + (2 : Int32)) fun v707 =>
  bV h705 v5 18 (fun q717 => sX2_leastShare G N (some q717) v706 v707 h705) fun v708 h709 =>
  bV h709 v5 18 (fun q716 => sX2_thrown G N (some q716) h709) fun v710 h711 =>
  if v710 = v704 then (gJ (fun (x712 : Unit) (h713 : Hp) =>
  j20 () h713) fun j714 =>
  if v704 = 0 then (gAl h711 v9 3 (0 : Int32) fun v715 =>
  if (lg_cmp v715 (v708.toInt64)) = 0 then (j714 () h711)
  else gRtZ (0 : Int32) h711)
  else j714 () h711)
  else gRtZ (0 : Int32) h711),
  ((46 : Int32), gAi h14 a0 0 (x13 + (1 : Int32)) fun v718 =>
  bnd (sX0_writeBulletin G N v1 v718 v9 h14) fun v719 h720 =>
  gAi h720 a0 0 (x13 + (1 : Int32)) fun v721 =>
  bV h720 v5 18 (fun q731 => sX2_writeBulletin G N (some q731) v721 h720) fun v722 h723 =>
  bV h723 v5 18 (fun q730 => sX2_thrown G N (some q730) h723) fun v724 h725 =>
  if v724 = v719 then (gJ (fun (x726 : Unit) (h727 : Hp) =>
  j20 () h727) fun j728 =>
  if v719 = 0 then (gAl h725 v9 3 (0 : Int32) fun v729 =>
  if (lg_cmp v729 (v722.toInt64)) = 0 then (j728 () h725)
  else gRtZ (0 : Int32) h725)
  else j728 () h725)
  else gRtZ (0 : Int32) h725),
  ((47 : Int32), gAi h14 a0 0 (x13 + (1 : Int32)) fun v732 =>
  gAi h14 a0 0 (x13 + (2 : Int32)) fun v733 =>
  bnd (sX0_writeVotes G N v1 v732 v733 v9 h14) fun v734 h735 =>
  gAi h735 a0 0 (x13 + (1 : Int32)) fun v736 =>
  gAi h735 a0 0 (x13 + (2 : Int32)) fun v737 =>
  bV h735 v5 18 (fun q747 => sX2_writeVotes G N (some q747) v736 v737 h735) fun v738 h739 =>
  bV h739 v5 18 (fun q746 => sX2_thrown G N (some q746) h739) fun v740 h741 =>
  if v740 = v734 then (gJ (fun (x742 : Unit) (h743 : Hp) =>
  j20 () h743) fun j744 =>
  if v734 = 0 then (gAl h741 v9 3 (0 : Int32) fun v745 =>
  if (lg_cmp v745 (v738.toInt64)) = 0 then (j744 () h741)
  else gRtZ (0 : Int32) h741)
  else j744 () h741)
  else gRtZ (0 : Int32) h741),
  ((48 : Int32), bnd (sX0_writeView G N v1 v9 h14) fun v748 h749 =>
  bV h749 v5 18 (fun q759 => sX2_writeView G N (some q759) h749) fun v750 h751 =>
  bV h751 v5 18 (fun q758 => sX2_thrown G N (some q758) h751) fun v752 h753 =>
  if v752 = v748 then (gJ (fun (x754 : Unit) (h755 : Hp) =>
  j20 () h755) fun j756 =>
  if v748 = 0 then (gAl h753 v9 3 (0 : Int32) fun v757 =>
  if (lg_cmp v757 (v750.toInt64)) = 0 then (j756 () h753)
  else gRtZ (0 : Int32) h753)
  else j756 () h753)
  else gRtZ (0 : Int32) h753),
  ((49 : Int32), gAi h14 a0 0 (x13 + (1 : Int32)) fun v760 =>
  bnd (sX0_textByte G N v1 v760 v9 h14) fun v761 h762 =>
  gAi h762 a0 0 (x13 + (1 : Int32)) fun v763 =>
  bV h762 v5 18 (fun q773 => sX2_textByte G N (some q773) v763 h762) fun v764 h765 =>
  bV h765 v5 18 (fun q772 => sX2_thrown G N (some q772) h765) fun v766 h767 =>
  if v766 = v761 then (gJ (fun (x768 : Unit) (h769 : Hp) =>
  j20 () h769) fun j770 =>
  if v761 = 0 then (gAl h767 v9 3 (0 : Int32) fun v771 =>
  if (lg_cmp v771 (v764.toInt64)) = 0 then (j770 () h767)
  else gRtZ (0 : Int32) h767)
  else j770 () h767)
  else gRtZ (0 : Int32) h767),
  ((50 : Int32), gAi h14 a0 0 (x13 + (1 : Int32)) fun v774 =>
  bnd (sX0_tick G N v1 v774 v9 h14) fun v775 h776 =>
  gAi h776 a0 0 (x13 + (1 : Int32)) fun v777 =>
  bV h776 v5 18 (fun q787 => sX2_tick G N (some q787) v777 h776) fun v778 h779 =>
  bV h779 v5 18 (fun q786 => sX2_thrown G N (some q786) h779) fun v780 h781 =>
  if v780 = v775 then (gJ (fun (x782 : Unit) (h783 : Hp) =>
  j20 () h783) fun j784 =>
  if v775 = 0 then (gAl h781 v9 3 (0 : Int32) fun v785 =>
  if (lg_cmp v785 (v778.toInt64)) = 0 then (j784 () h781)
  else gRtZ (0 : Int32) h781)
  else j784 () h781)
  else gRtZ (0 : Int32) h781),
  ((51 : Int32), gAi h14 a0 0 (x13 + (1 : Int32)) fun v788 =>
  gAi h14 a0 0 (x13 + (2 : Int32)) fun v789 =>
  gAi h14 a0 0 (x13 + (3 : Int32)) fun v790 =>
  gJ (fun (x791 : Int32) (h792 : Hp) =>
  bnd (sX0_flare G N v1 v788 v789 x791 v9 h792) fun v794 h795 =>
  gAi h795 a0 0 (x13 + (1 : Int32)) fun v796 =>
  gAi h795 a0 0 (x13 + (2 : Int32)) fun v797 =>
  gAi h795 a0 0 (x13 + (3 : Int32)) fun v798 =>
  gJ (fun (x799 : Int32) (h800 : Hp) =>
  bV h800 v5 18 (fun q811 => sX2_flare G N (some q811) v796 v797 x799 h800) fun v802 h803 =>
  bV h803 v5 18 (fun q810 => sX2_thrown G N (some q810) h803) fun v804 h805 =>
  if v804 = v794 then (gJ (fun (x806 : Unit) (h807 : Hp) =>
  j20 () h807) fun j808 =>
  if v794 = 0 then (gAl h805 v9 3 (0 : Int32) fun v809 =>
  if (lg_cmp v809 (v802.toInt64)) = 0 then (j808 () h805)
  else gRtZ (0 : Int32) h805)
  else j808 () h805)
  else gRtZ (0 : Int32) h805) fun j801 =>
  if v798 = 0 then (j801 (0 : Int32) h795)
  else j801 (1 : Int32) h795) fun j793 =>
  if v790 = 0 then (j793 (0 : Int32) h14)
  else j793 (1 : Int32) h14),
  ((52 : Int32), gAi h14 a0 0 (x13 + (1 : Int32)) fun v812 =>
  gAi h14 a0 0 (x13 + (2 : Int32)) fun v813 =>
  bnd (sX0_inspect G N v1 v812 v813 v9 h14) fun v814 h815 =>
  gAi h815 a0 0 (x13 + (1 : Int32)) fun v816 =>
  gAi h815 a0 0 (x13 + (2 : Int32)) fun v817 =>
  bV h815 v5 18 (fun q827 => sX2_inspect G N (some q827) v816 v817 h815) fun v818 h819 =>
  bV h819 v5 18 (fun q826 => sX2_thrown G N (some q826) h819) fun v820 h821 =>
  if v820 = v814 then (gJ (fun (x822 : Unit) (h823 : Hp) =>
  j20 () h823) fun j824 =>
  if v814 = 0 then (gAl h821 v9 3 (0 : Int32) fun v825 =>
  if (lg_cmp v825 (v818.toInt64)) = 0 then (j824 () h821)
  else gRtZ (0 : Int32) h821)
  else j824 () h821)
  else gRtZ (0 : Int32) h821),
  ((53 : Int32), gAi h14 a0 0 (x13 + (1 : Int32)) fun v828 =>
  gAi h14 a0 0 (x13 + (2 : Int32)) fun v829 =>
  gJ (fun (x830 : Int32) (h831 : Hp) =>
  bnd (sX0_danger G N v1 v828 x830 v9 h831) fun v833 h834 =>
  gAi h834 a0 0 (x13 + (1 : Int32)) fun v835 =>
  gAi h834 a0 0 (x13 + (2 : Int32)) fun v836 =>
  gJ (fun (x837 : Int32) (h838 : Hp) =>
  bV h838 v5 18 (fun q852 => sX2_danger G N (some q852) v835 x837 h838) fun v840 h841 =>
  bV h841 v5 18 (fun q851 => sX2_thrown G N (some q851) h841) fun v842 h843 =>
  if v842 = v833 then (gJ (fun (x844 : Unit) (h845 : Hp) =>
  j20 () h845) fun j846 =>
  if v833 = 0 then (gAl h843 v9 3 (0 : Int32) fun v847 =>
  gJ (fun (x848 : Int64) (h849 : Hp) =>
  if (lg_cmp v847 x848) = 0 then (j846 () h849)
  else gRtZ (0 : Int32) h849) fun j850 =>
  if v840 = 0 then (j850 (0 : Int64) h843)
  else j850 (1 : Int64) h843)
  else j846 () h843)
  else gRtZ (0 : Int32) h843) fun j839 =>
  if v836 = 0 then (j839 (0 : Int32) h834)
  else j839 (1 : Int32) h834) fun j832 =>
  if v829 = 0 then (j832 (0 : Int32) h14)
  else j832 (1 : Int32) h14),
  ((54 : Int32), gAi h14 a0 0 (x13 + (1 : Int32)) fun v853 =>
  bnd (sX0_issue G N v1 v853 v9 h14) fun v854 h855 =>
  gAi h855 a0 0 (x13 + (1 : Int32)) fun v856 =>
  bV h855 v5 18 (fun q866 => sX2_issue G N (some q866) v856 h855) fun v857 h858 =>
  bV h858 v5 18 (fun q865 => sX2_thrown G N (some q865) h858) fun v859 h860 =>
  if v859 = v854 then (gJ (fun (x861 : Unit) (h862 : Hp) =>
  j20 () h862) fun j863 =>
  if v854 = 0 then (gAl h860 v9 3 (0 : Int32) fun v864 =>
  if (lg_cmp v864 (v857.toInt64)) = 0 then (j863 () h860)
  else gRtZ (0 : Int32) h860)
  else j863 () h860)
  else gRtZ (0 : Int32) h860),
  ((55 : Int32), gAi h14 a0 0 (x13 + (1 : Int32)) fun v867 =>
  gAi h14 a0 0 (x13 + (2 : Int32)) fun v868 =>
  bnd (sX0_give G N v1 v867 v868 v9 h14) fun v869 h870 =>
  gAi h870 a0 0 (x13 + (1 : Int32)) fun v871 =>
  gAi h870 a0 0 (x13 + (2 : Int32)) fun v872 =>
  bV h870 v5 18 (fun q882 => sX2_give G N (some q882) v871 v872 h870) fun v873 h874 =>
  bV h874 v5 18 (fun q881 => sX2_thrown G N (some q881) h874) fun v875 h876 =>
  if v875 = v869 then (gJ (fun (x877 : Unit) (h878 : Hp) =>
  j20 () h878) fun j879 =>
  if v869 = 0 then (gAl h876 v9 3 (0 : Int32) fun v880 =>
  if (lg_cmp v880 (v873.toInt64)) = 0 then (j879 () h876)
  else gRtZ (0 : Int32) h876)
  else j879 () h876)
  else gRtZ (0 : Int32) h876),
  ((56 : Int32), gAi h14 a0 0 (x13 + (1 : Int32)) fun v883 =>
  gAi h14 a0 0 (x13 + (2 : Int32)) fun v884 =>
  gAi h14 a0 0 (x13 + (3 : Int32)) fun v885 =>
  bnd (sX0_move G N v1 v883 v884 v885 v9 h14) fun v886 h887 =>
  gAi h887 a0 0 (x13 + (1 : Int32)) fun v888 =>
  gAi h887 a0 0 (x13 + (2 : Int32)) fun v889 =>
  gAi h887 a0 0 (x13 + (3 : Int32)) fun v890 =>
  bV h887 v5 18 (fun q900 => sX2_move G N (some q900) v888 v889 v890 h887) fun v891 h892 =>
  bV h892 v5 18 (fun q899 => sX2_thrown G N (some q899) h892) fun v893 h894 =>
  if v893 = v886 then (gJ (fun (x895 : Unit) (h896 : Hp) =>
  j20 () h896) fun j897 =>
  if v886 = 0 then (gAl h894 v9 3 (0 : Int32) fun v898 =>
  if (lg_cmp v898 (v891.toInt64)) = 0 then (j897 () h894)
  else gRtZ (0 : Int32) h894)
  else j897 () h894)
  else gRtZ (0 : Int32) h894),
  ((57 : Int32), gAi h14 a0 0 (x13 + (1 : Int32)) fun v901 =>
  gAi h14 a0 0 (x13 + (2 : Int32)) fun v902 =>
  bnd (sX0_trust G N v1 v901 v902 v9 h14) fun v903 h904 =>
  gAi h904 a0 0 (x13 + (1 : Int32)) fun v905 =>
  gAi h904 a0 0 (x13 + (2 : Int32)) fun v906 =>
  bV h904 v5 18 (fun q916 => sX2_trust G N (some q916) v905 v906 h904) fun v907 h908 =>
  bV h908 v5 18 (fun q915 => sX2_thrown G N (some q915) h908) fun v909 h910 =>
  if v909 = v903 then (gJ (fun (x911 : Unit) (h912 : Hp) =>
  j20 () h912) fun j913 =>
  if v903 = 0 then (gAl h910 v9 3 (0 : Int32) fun v914 =>
  if (lg_cmp v914 (v907.toInt64)) = 0 then (j913 () h910)
  else gRtZ (0 : Int32) h910)
  else j913 () h910)
  else gRtZ (0 : Int32) h910),
  ((58 : Int32), gAi h14 a0 0 (x13 + (1 : Int32)) fun v917 =>
  bnd (sX0_forget G N v1 v917 v9 h14) fun v918 h919 =>
  gAi h919 a0 0 (x13 + (1 : Int32)) fun v920 =>
  bV h919 v5 18 (fun q930 => sX2_forget G N (some q930) v920 h919) fun v921 h922 =>
  bV h922 v5 18 (fun q929 => sX2_thrown G N (some q929) h922) fun v923 h924 =>
  if v923 = v918 then (gJ (fun (x925 : Unit) (h926 : Hp) =>
  j20 () h926) fun j927 =>
  if v918 = 0 then (gAl h924 v9 3 (0 : Int32) fun v928 =>
  if (lg_cmp v928 (v921.toInt64)) = 0 then (j927 () h924)
  else gRtZ (0 : Int32) h924)
  else j927 () h924)
  else gRtZ (0 : Int32) h924),
  ((59 : Int32), gAi h14 a0 0 (x13 + (1 : Int32)) fun v931 =>
  gAi h14 a0 0 (x13 + (2 : Int32)) fun v932 =>
  bnd (sX0_set G N v1 v931 v932 v9 h14) fun v933 h934 =>
  gAi h934 a0 0 (x13 + (1 : Int32)) fun v935 =>
  gAi h934 a0 0 (x13 + (2 : Int32)) fun v936 =>
  bV h934 v5 18 (fun q946 => sX2_set G N (some q946) v935 v936 h934) fun v937 h938 =>
  bV h938 v5 18 (fun q945 => sX2_thrown G N (some q945) h938) fun v939 h940 =>
  if v939 = v933 then (gJ (fun (x941 : Unit) (h942 : Hp) =>
  j20 () h942) fun j943 =>
  if v933 = 0 then (gAl h940 v9 3 (0 : Int32) fun v944 =>
  if (lg_cmp v944 (v937.toInt64)) = 0 then (j943 () h940)
  else gRtZ (0 : Int32) h940)
  else j943 () h940)
  else gRtZ (0 : Int32) h940),
  ((60 : Int32), bnd (sX0_undo G N v1 v9 h14) fun v947 h948 =>
  bV h948 v5 18 (fun q958 => sX2_undo G N (some q958) h948) fun v949 h950 =>
  bV h950 v5 18 (fun q957 => sX2_thrown G N (some q957) h950) fun v951 h952 =>
  if v951 = v947 then (gJ (fun (x953 : Unit) (h954 : Hp) =>
  j20 () h954) fun j955 =>
  if v947 = 0 then (gAl h952 v9 3 (0 : Int32) fun v956 =>
  if (lg_cmp v956 (v949.toInt64)) = 0 then (j955 () h952)
  else gRtZ (0 : Int32) h952)
  else j955 () h952)
  else gRtZ (0 : Int32) h952),
  ((61 : Int32), bV h14 v1 3 (fun q964 => sX1_undoable G N (some q964) h14) fun v959 h960 =>
  bV h960 v5 18 (fun q963 => sX2_undoable G N (some q963) h960) fun v961 h962 =>
  if v959 = v961 then (j20 () h962)
  else gRtZ (0 : Int32) h962),
  ((62 : Int32), gAi h14 a0 0 (x13 + (1 : Int32)) fun v965 =>
  bnd (sX0_save G N v1 v965 v9 h14) fun v966 h967 =>
  gAi h967 a0 0 (x13 + (1 : Int32)) fun v968 =>
  bV h967 v5 18 (fun q978 => sX2_save G N (some q978) v968 h967) fun v969 h970 =>
  bV h970 v5 18 (fun q977 => sX2_thrown G N (some q977) h970) fun v971 h972 =>
  if v971 = v966 then (gJ (fun (x973 : Unit) (h974 : Hp) =>
  j20 () h974) fun j975 =>
  if v966 = 0 then (gAl h972 v9 3 (0 : Int32) fun v976 =>
  if (lg_cmp v976 (v969.toInt64)) = 0 then (j975 () h972)
  else gRtZ (0 : Int32) h972)
  else j975 () h972)
  else gRtZ (0 : Int32) h972),
  ((63 : Int32), gAi h14 a0 0 (x13 + (1 : Int32)) fun v979 =>
  bnd (sX0_restore G N v1 v979 v9 h14) fun v980 h981 =>
  gAi h981 a0 0 (x13 + (1 : Int32)) fun v982 =>
  bV h981 v5 18 (fun q992 => sX2_restore G N (some q992) v982 h981) fun v983 h984 =>
  bV h984 v5 18 (fun q991 => sX2_thrown G N (some q991) h984) fun v985 h986 =>
  if v985 = v980 then (gJ (fun (x987 : Unit) (h988 : Hp) =>
  j20 () h988) fun j989 =>
  if v980 = 0 then (gAl h986 v9 3 (0 : Int32) fun v990 =>
  if (lg_cmp v990 (v983.toInt64)) = 0 then (j989 () h986)
  else gRtZ (0 : Int32) h986)
  else j989 () h986)
  else gRtZ (0 : Int32) h986)] (j20 () h14)
noncomputable def sL_law (G : GG) (N : Nat) (a0 : Option Nat) (h : Hp) : Out (Int32) :=
  gNew h 3 [.null, .int 0, .int 0, .int 0, .null, .null, .null, .null] 8 fun v1 h2 =>
  bI v1 (fun q994 => sX1_init G N (some q994) h2) fun v3 h4 =>
  gNew h4 18 [.int 0, .null, .null, .null, .null, .null, .null, .null, .int 0, .int 0, .null, .int 0, .int 0, .int 0, .int 0, .int 0, .int 0, .int 0, .int 0, .long 0, .null, .int 0] 22 fun v5 h6 =>
  bI v5 (fun q993 => sX2_init G N (some q993) h6) fun v7 h8 =>
  gNA h8 3 z_J (1 : Int32) fun v9 h10 =>
  gNA h10 4 z_D (1 : Int32) fun v11 h12 =>
  gLp (bL_law_28 G N a0 v1 v5 v9 v11) N (0 : Int32) h12
abbrev mL_law : MI := (RX0, cL_law, 9, (some .boolean), [], 13, 291, "law")
theorem tL_law {G : GG} {l : Launch} (hs : l.stackTraces = false) {N : Nat} {a0 : Option Nat} {h : Hp} {r : Int32 ⊕ Nat} {hf : Hp} (X : CTX) : gT G l X mL_law cvI r hf 0 [(0, gr a0)] [] h (sL_law G N a0 h) := by
  delta sL_law
  refine g_new (pc := 0) k_3 df_3 q201 q202 q128 dL_law_0 fun v1 h2 => ?_
  refine g_dup (pc := 3) rfl dL_law_3 ?_
  refine g_bIu (pc := 4) (y := yX1_init) (ws := ws_ yX1_init cX1_init 1 none) (fr := 3) (lo := 53) (as := []) (st := [gr v1]) (g_no) rfl (fun _ _ _ e => tX1_init hs e) (fun K _ _ _ hM R e1 e2 => g_runI (M := mL_law) (pc := 4) (y := yX1_init) (bytes := cX1_init) (maxL := 1) (ret := none) (fr := 3) (lo := 53) (as := []) (st := [gr v1]) gy_X1_init (gbl rfl) (gbl rfl) (gbl rfl) rfl q203 q204 rfl dL_law_4 K hM R e1 e2) fun v3 h4 => ?_
  refine g_astore_n (pc := 7) (lv' := [(1, gr v1), (0, gr a0)]) [0, 1] rfl rfl (gblt rfl) dL_law_7 ?_
  refine g_new (pc := 8) k_18 df_18 q3934 q3935 q135 dL_law_8 fun v5 h6 => ?_
  refine g_dup (pc := 11) rfl dL_law_11 ?_
  refine g_bIu (pc := 12) (y := yX2_init) (ws := ws_ yX2_init cX2_init 1 none) (fr := 1) (lo := 12) (as := []) (st := [gr v5]) (g_no) rfl (fun _ _ _ e => tX2_init hs e) (fun K _ _ _ hM R e1 e2 => g_runI (M := mL_law) (pc := 12) (y := yX2_init) (bytes := cX2_init) (maxL := 1) (ret := none) (fr := 1) (lo := 12) (as := []) (st := [gr v5]) gy_X2_init (gbl rfl) (gbl rfl) (gbl rfl) rfl q3936 q3937 rfl dL_law_12 K hM R e1 e2) fun v7 h8 => ?_
  refine g_astore_n (pc := 15) (lv' := [(2, gr v5), (1, gr v1), (0, gr a0)]) [0, 1, 2] rfl rfl (gblt rfl) dL_law_15 ?_
  refine g_iconst (pc := 16) (v := (1 : Int32)) ic_1 dL_law_16 ?_
  refine g_naJ (pc := 17) q4008 dL_law_17 fun v9 h10 => ?_
  refine g_astore_n (pc := 19) (lv' := [(3, gr v9), (2, gr v5), (1, gr v1), (0, gr a0)]) [0, 1, 2, 3] rfl rfl (gblt rfl) dL_law_19 ?_
  refine g_iconst (pc := 20) (v := (1 : Int32)) ic_1 dL_law_20 ?_
  refine g_naD (pc := 21) q4615 dL_law_21 fun v11 h12 => ?_
  refine g_astore (pc := 23) (lv' := [(4, gr v11), (3, gr v9), (2, gr v5), (1, gr v1), (0, gr a0)]) [0, 1, 2, 3, 4] rfl (gblt rfl) dL_law_23 ?_
  refine g_iconst (pc := 25) (v := (0 : Int32)) ic_0 dL_law_25 ?_
  refine g_istore (pc := 26) (lv' := [(5, gi (0 : Int32)), (4, gr v11), (3, gr v9), (2, gr v5), (1, gr v1), (0, gr a0)]) [0, 1, 2, 3, 4, 5] rfl (gblt rfl) dL_law_26 ?_
  refine g_sub (lv' := [(0, gr a0), (1, gr v1), (2, gr v5), (3, gr v9), (4, gr v11), (5, gi (0 : Int32))]) [5, 4, 3, 2, 1, 0] rfl ?_
  refine g_loop (pc := 28) (fun (x13 : Int32) => [(0, gr a0), (1, gr v1), (2, gr v5), (3, gr v9), (4, gr v11), (5, gi x13)]) (fun (_ : Int32) => []) (fun w15 Hw15 x13 h14 => ?_) N (0 : Int32) h12
  delta bL_law_28
  refine g_iload (pc := 28) (x := x13) 5 rfl dL_law_28 ?_
  refine g_aload_n (pc := 30) (x := a0) 0 rfl rfl dL_law_30 ?_
  refine g_alen (pc := 31) dL_law_31 fun v16 => ?_
  refine g_bipush (pc := 32) (v := (6 : Int32)) bc_6 dL_law_32 ?_
  refine g_isub (pc := 34) dL_law_34 ?_
  refine g_icmp_gt (pc := 35) (tgt := 4265) rfl dL_law_35 ?_ ?_
  · refine g_iconst (pc := 4265) (v := (1 : Int32)) ic_1 dL_law_4265 ?_
    exact g_zreturn (pc := 4266) rfl dL_law_4266
  refine g_aload_n (pc := 38) (x := a0) 0 rfl rfl dL_law_38 ?_
  refine g_iload (pc := 39) (x := x13) 5 rfl dL_law_39 ?_
  refine g_iaload (pc := 41) rfl dL_law_41 fun v17 => ?_
  refine g_bipush (pc := 42) (v := (63 : Int32)) bc_63 dL_law_42 ?_
  refine g_iand (pc := 44) dL_law_44 ?_
  refine g_join 4259 (fun (x18 : Unit) => [(0, gr a0), (1, gr v1), (2, gr v5), (3, gr v9), (4, gr v11), (5, gi x13)]) (fun (x18 : Unit) => []) (fun x18 h19 => ?_) (fun j20 Hj20 => ?_)
  · refine g_iinc (pc := 4259) (v := x13 + (6 : Int32)) 5 rfl (ii_6 _) (lv' := [(5, gi (x13 + (6 : Int32))), (0, gr a0), (1, gr v1), (2, gr v5), (3, gr v9), (4, gr v11)]) [0, 1, 2, 3, 4, 5] rfl (gblt rfl) dL_law_4259 ?_
    refine g_goto (pc := 4262) (tgt := 28) rfl dL_law_4262 ?_
    exact g_sub [1, 2, 3, 4, 5, 0] rfl (Hw15 (x13 + (6 : Int32)) h19)
  refine g_tableswitch (pc := 45) (td := 4259) [((0 : Int32), 316), ((1 : Int32), 389), ((2 : Int32), 445), ((3 : Int32), 458), ((4 : Int32), 471), ((5 : Int32), 484), ((6 : Int32), 568), ((7 : Int32), 624), ((8 : Int32), 680), ((9 : Int32), 748), ((10 : Int32), 816), ((11 : Int32), 884), ((12 : Int32), 952), ((13 : Int32), 996), ((14 : Int32), 1071), ((15 : Int32), 1146), ((16 : Int32), 1202), ((17 : Int32), 1270), ((18 : Int32), 1326), ((19 : Int32), 1394), ((20 : Int32), 1462), ((21 : Int32), 1554), ((22 : Int32), 1650), ((23 : Int32), 1718), ((24 : Int32), 1786), ((25 : Int32), 1861), ((26 : Int32), 1936), ((27 : Int32), 1992), ((28 : Int32), 2048), ((29 : Int32), 2104), ((30 : Int32), 2160), ((31 : Int32), 2216), ((32 : Int32), 2260), ((33 : Int32), 2316), ((34 : Int32), 2360), ((35 : Int32), 2404), ((36 : Int32), 2469), ((37 : Int32), 2547), ((38 : Int32), 2615), ((39 : Int32), 2683), ((40 : Int32), 2751), ((41 : Int32), 2819), ((42 : Int32), 2875), ((43 : Int32), 2943), ((44 : Int32), 3023), ((45 : Int32), 3091), ((46 : Int32), 3159), ((47 : Int32), 3215), ((48 : Int32), 3283), ((49 : Int32), 3327), ((50 : Int32), 3383), ((51 : Int32), 3439), ((52 : Int32), 3535), ((53 : Int32), 3603), ((54 : Int32), 3694), ((55 : Int32), 3750), ((56 : Int32), 3818), ((57 : Int32), 3898), ((58 : Int32), 3966), ((59 : Int32), 4022), ((60 : Int32), 4090), ((61 : Int32), 4134), ((62 : Int32), 4147), ((63 : Int32), 4203)] (by decide +kernel) dL_law_45 ?_ (g_all_cons ?_ (g_all_cons ?_ (g_all_cons ?_ (g_all_cons ?_ (g_all_cons ?_ (g_all_cons ?_ (g_all_cons ?_ (g_all_cons ?_ (g_all_cons ?_ (g_all_cons ?_ (g_all_cons ?_ (g_all_cons ?_ (g_all_cons ?_ (g_all_cons ?_ (g_all_cons ?_ (g_all_cons ?_ (g_all_cons ?_ (g_all_cons ?_ (g_all_cons ?_ (g_all_cons ?_ (g_all_cons ?_ (g_all_cons ?_ (g_all_cons ?_ (g_all_cons ?_ (g_all_cons ?_ (g_all_cons ?_ (g_all_cons ?_ (g_all_cons ?_ (g_all_cons ?_ (g_all_cons ?_ (g_all_cons ?_ (g_all_cons ?_ (g_all_cons ?_ (g_all_cons ?_ (g_all_cons ?_ (g_all_cons ?_ (g_all_cons ?_ (g_all_cons ?_ (g_all_cons ?_ (g_all_cons ?_ (g_all_cons ?_ (g_all_cons ?_ (g_all_cons ?_ (g_all_cons ?_ (g_all_cons ?_ (g_all_cons ?_ (g_all_cons ?_ (g_all_cons ?_ (g_all_cons ?_ (g_all_cons ?_ (g_all_cons ?_ (g_all_cons ?_ (g_all_cons ?_ (g_all_cons ?_ (g_all_cons ?_ (g_all_cons ?_ (g_all_cons ?_ (g_all_cons ?_ (g_all_cons ?_ (g_all_cons ?_ (g_all_cons ?_ (g_all_cons ?_ (g_all_cons ?_ (g_all_cons ?_ g_all_nil))))))))))))))))))))))))))))))))))))))))))))))))))))))))))))))))
  · exact Hj20 () h14
  · refine g_aload_n (pc := 316) (x := v1) 1 rfl rfl dL_law_316 ?_
    refine g_aload_n (pc := 317) (x := a0) 0 rfl rfl dL_law_317 ?_
    refine g_iload (pc := 318) (x := x13) 5 rfl dL_law_318 ?_
    refine g_iconst (pc := 320) (v := (1 : Int32)) ic_1 dL_law_320 ?_
    refine g_iadd (pc := 321) dL_law_321 ?_
    refine g_iaload (pc := 322) rfl dL_law_322 fun v21 => ?_
    refine g_aload_n (pc := 323) (x := a0) 0 rfl rfl dL_law_323 ?_
    refine g_iload (pc := 324) (x := x13) 5 rfl dL_law_324 ?_
    refine g_iconst (pc := 326) (v := (2 : Int32)) ic_2 dL_law_326 ?_
    refine g_iadd (pc := 327) dL_law_327 ?_
    refine g_iaload (pc := 328) rfl dL_law_328 fun v22 => ?_
    refine g_aload_n (pc := 329) (x := a0) 0 rfl rfl dL_law_329 ?_
    refine g_iload (pc := 330) (x := x13) 5 rfl dL_law_330 ?_
    refine g_iconst (pc := 332) (v := (3 : Int32)) ic_3 dL_law_332 ?_
    refine g_iadd (pc := 333) dL_law_333 ?_
    refine g_iaload (pc := 334) rfl dL_law_334 fun v23 => ?_
    refine g_aload_n (pc := 335) (x := a0) 0 rfl rfl dL_law_335 ?_
    refine g_iload (pc := 336) (x := x13) 5 rfl dL_law_336 ?_
    refine g_iconst (pc := 338) (v := (4 : Int32)) ic_4 dL_law_338 ?_
    refine g_iadd (pc := 339) dL_law_339 ?_
    refine g_iaload (pc := 340) rfl dL_law_340 fun v24 => ?_
    refine g_aload_n (pc := 341) (x := a0) 0 rfl rfl dL_law_341 ?_
    refine g_iload (pc := 342) (x := x13) 5 rfl dL_law_342 ?_
    refine g_iconst (pc := 344) (v := (5 : Int32)) ic_5 dL_law_344 ?_
    refine g_iadd (pc := 345) dL_law_345 ?_
    refine g_iaload (pc := 346) rfl dL_law_346 fun v25 => ?_
    refine g_bVi (pc := 347) (y := yX1_append) (ws := ws_ yX1_append cX1_append 11 (some .int)) (fr := 0) (lo := 0) (as := [gi v21, gi v22, gi v23, gi v24, gi v25]) (st := []) (g_no) rfl (fun _ _ _ e => tX1_append hs e) (fun K _ _ _ hq hM R e1 e2 => g_runV (M := mL_law) (pc := 347) (y := yX1_append) (bytes := cX1_append) (maxL := 11) (ret := (some .int)) (fr := 0) (lo := 0) (as := [gi v21, gi v22, gi v23, gi v24, gi v25]) (st := []) hq (C := "FlareSlopes") rfl gy_X1_append (gbl rfl) (gbl rfl) (gbl rfl) q294 q295 q296 dL_law_347 K hM R e1 e2) fun v26 h27 => ?_
    refine g_aload_n (pc := 350) (x := v5) 2 rfl rfl dL_law_350 ?_
    refine g_aload_n (pc := 351) (x := a0) 0 rfl rfl dL_law_351 ?_
    refine g_iload (pc := 352) (x := x13) 5 rfl dL_law_352 ?_
    refine g_iconst (pc := 354) (v := (1 : Int32)) ic_1 dL_law_354 ?_
    refine g_iadd (pc := 355) dL_law_355 ?_
    refine g_iaload (pc := 356) rfl dL_law_356 fun v28 => ?_
    refine g_aload_n (pc := 357) (x := a0) 0 rfl rfl dL_law_357 ?_
    refine g_iload (pc := 358) (x := x13) 5 rfl dL_law_358 ?_
    refine g_iconst (pc := 360) (v := (2 : Int32)) ic_2 dL_law_360 ?_
    refine g_iadd (pc := 361) dL_law_361 ?_
    refine g_iaload (pc := 362) rfl dL_law_362 fun v29 => ?_
    refine g_aload_n (pc := 363) (x := a0) 0 rfl rfl dL_law_363 ?_
    refine g_iload (pc := 364) (x := x13) 5 rfl dL_law_364 ?_
    refine g_iconst (pc := 366) (v := (3 : Int32)) ic_3 dL_law_366 ?_
    refine g_iadd (pc := 367) dL_law_367 ?_
    refine g_iaload (pc := 368) rfl dL_law_368 fun v30 => ?_
    refine g_aload_n (pc := 369) (x := a0) 0 rfl rfl dL_law_369 ?_
    refine g_iload (pc := 370) (x := x13) 5 rfl dL_law_370 ?_
    refine g_iconst (pc := 372) (v := (4 : Int32)) ic_4 dL_law_372 ?_
    refine g_iadd (pc := 373) dL_law_373 ?_
    refine g_iaload (pc := 374) rfl dL_law_374 fun v31 => ?_
    refine g_aload_n (pc := 375) (x := a0) 0 rfl rfl dL_law_375 ?_
    refine g_iload (pc := 376) (x := x13) 5 rfl dL_law_376 ?_
    refine g_iconst (pc := 378) (v := (5 : Int32)) ic_5 dL_law_378 ?_
    refine g_iadd (pc := 379) dL_law_379 ?_
    refine g_iaload (pc := 380) rfl dL_law_380 fun v32 => ?_
    refine g_bVi (pc := 381) (y := yX2_append) (ws := ws_ yX2_append cX2_append 6 (some .int)) (fr := 1) (lo := 22) (as := [gi v28, gi v29, gi v30, gi v31, gi v32]) (st := [gi v26]) (g_no) rfl (fun _ _ _ e => tX2_append hs e) (fun K _ _ _ hq hM R e1 e2 => g_runV (M := mL_law) (pc := 381) (y := yX2_append) (bytes := cX2_append) (maxL := 6) (ret := (some .int)) (fr := 1) (lo := 22) (as := [gi v28, gi v29, gi v30, gi v31, gi v32]) (st := [gi v26]) hq (C := "FlareSlopesModel") rfl gy_X2_append (gbl rfl) (gbl rfl) (gbl rfl) q4013 q4014 q4015 dL_law_381 K hM R e1 e2) fun v33 h34 => ?_
    refine g_icmp_eq (pc := 384) (tgt := 4259) rfl dL_law_384 ?_ ?_
    · exact Hj20 () h34
    refine g_iconst (pc := 387) (v := (0 : Int32)) ic_0 dL_law_387 ?_
    exact g_zreturn (pc := 388) rfl dL_law_388
  · refine g_aload_n (pc := 389) (x := v1) 1 rfl rfl dL_law_389 ?_
    refine g_aload_n (pc := 390) (x := a0) 0 rfl rfl dL_law_390 ?_
    refine g_iload (pc := 391) (x := x13) 5 rfl dL_law_391 ?_
    refine g_iconst (pc := 393) (v := (1 : Int32)) ic_1 dL_law_393 ?_
    refine g_iadd (pc := 394) dL_law_394 ?_
    refine g_iaload (pc := 395) rfl dL_law_395 fun v37 => ?_
    refine g_aload_n (pc := 396) (x := v9) 3 rfl rfl dL_law_396 ?_
    refine g_bi (pc := 397) (y := yX0_load) (ws := wsW_ yX0_load cX0_load 4 (some .int) [(0, 9, 12, 13), (0, 9, 15, 15)]) (fr := 12) (lo := 268) (as := [gr v1, gi v37, gr v9]) (st := []) (g_no) rfl (fun _ _ e => tX0_load hs e) (fun K _ _ hM R e1 e2 => g_runSX (M := mL_law) (pc := 397) (y := yX0_load) (bytes := cX0_load) (maxL := 4) (ret := (some .int)) (hh := [(0, 9, 12, 13), (0, 9, 15, 15)]) (fr := 12) (lo := 268) (as := [gr v1, gi v37, gr v9]) (st := []) gy_X0_load (gbl rfl) (gbl rfl) (gbl rfl) q322 q323 dL_law_397 K hM R e1 e2) fun v38 h39 => ?_
    refine g_istore (pc := 400) (lv' := [(6, gi v38), (0, gr a0), (1, gr v1), (2, gr v5), (3, gr v9), (4, gr v11), (5, gi x13)]) [0, 1, 2, 3, 4, 5, 6] rfl (gblt rfl) dL_law_400 ?_
    refine g_aload_n (pc := 402) (x := v5) 3 rfl rfl dL_law_402 ?_
    refine g_aload_n (pc := 403) (x := a0) 1 rfl rfl dL_law_403 ?_
    refine g_iload (pc := 404) (x := x13) 6 rfl dL_law_404 ?_
    refine g_iconst (pc := 406) (v := (1 : Int32)) ic_1 dL_law_406 ?_
    refine g_iadd (pc := 407) dL_law_407 ?_
    refine g_iaload (pc := 408) rfl dL_law_408 fun v40 => ?_
    refine g_bVi (pc := 409) (y := yX2_load) (ws := ws_ yX2_load cX2_load 3 (some .int)) (fr := 7) (lo := 148) (as := [gi v40]) (st := []) (g_no) rfl (fun _ _ _ e => tX2_load hs e) (fun K _ _ _ hq hM R e1 e2 => g_runV (M := mL_law) (pc := 409) (y := yX2_load) (bytes := cX2_load) (maxL := 3) (ret := (some .int)) (fr := 7) (lo := 148) (as := [gi v40]) (st := []) hq (C := "FlareSlopesModel") rfl gy_X2_load (gbl rfl) (gbl rfl) (gbl rfl) q4033 q4034 q4035 dL_law_409 K hM R e1 e2) fun v41 h42 => ?_
    refine g_istore (pc := 412) (lv' := [(7, gi v41), (6, gi v38), (0, gr a0), (1, gr v1), (2, gr v5), (3, gr v9), (4, gr v11), (5, gi x13)]) [0, 1, 2, 3, 4, 5, 6, 7] rfl (gblt rfl) dL_law_412 ?_
    refine g_aload_n (pc := 414) (x := v5) 4 rfl rfl dL_law_414 ?_
    refine g_bVi (pc := 415) (y := yX2_thrown) (ws := ws_ yX2_thrown cX2_thrown 1 (some .int)) (fr := 0) (lo := 0) (as := []) (st := []) (g_no) rfl (fun _ _ _ e => tX2_thrown hs e) (fun K _ _ _ hq hM R e1 e2 => g_runV (M := mL_law) (pc := 415) (y := yX2_thrown) (bytes := cX2_thrown) (maxL := 1) (ret := (some .int)) (fr := 0) (lo := 0) (as := []) (st := []) hq (C := "FlareSlopesModel") rfl gy_X2_thrown (gbl rfl) (gbl rfl) (gbl rfl) q4009 q4010 q4011 dL_law_415 K hM R e1 e2) fun v43 h44 => ?_
    refine g_iload (pc := 418) (x := v38) 1 rfl dL_law_418 ?_
    refine g_icmp_eq (pc := 420) (tgt := 425) rfl dL_law_420 ?_ ?_
    rotate_left
    · refine g_iconst (pc := 423) (v := (0 : Int32)) ic_0 dL_law_423 ?_
      exact g_zreturn (pc := 424) rfl dL_law_424
    refine g_iload (pc := 425) (x := v38) 1 rfl dL_law_425 ?_
    refine g_join 442 (fun (x45 : Unit) => [(0, gr a0), (1, gr v1), (2, gr v5), (3, gr v9), (4, gr v11), (5, gi x13)]) (fun (x45 : Unit) => []) (fun x45 h46 => ?_) (fun j47 Hj47 => ?_)
    · refine g_goto (pc := 442) (tgt := 4259) rfl dL_law_442 ?_
      exact Hj20 () h46
    refine g_if_ne (pc := 427) (tgt := 442) rfl dL_law_427 ?_ ?_
    rotate_left
    · exact g_sub [2, 3, 4, 5, 6, 7] rfl (Hj47 () h44)
    refine g_aload_n (pc := 430) (x := v9) 5 rfl rfl dL_law_430 ?_
    refine g_iconst (pc := 431) (v := (0 : Int32)) ic_0 dL_law_431 ?_
    refine g_laload (pc := 432) rfl dL_law_432 fun v48 => ?_
    refine g_iload (pc := 433) (x := v41) 0 rfl dL_law_433 ?_
    refine g_i2l (pc := 435) dL_law_435 ?_
    refine g_lcmp (pc := 436) dL_law_436 ?_
    refine g_if_eq (pc := 437) (tgt := 442) rfl dL_law_437 ?_ ?_
    · exact g_sub [2, 3, 4, 5, 6, 7] rfl (Hj47 () h44)
    refine g_iconst (pc := 440) (v := (0 : Int32)) ic_0 dL_law_440 ?_
    exact g_zreturn (pc := 441) rfl dL_law_441
  · refine g_aload_n (pc := 445) (x := v1) 1 rfl rfl dL_law_445 ?_
    refine g_bVi (pc := 446) (y := yX1_parseError) (ws := ws_ yX1_parseError cX1_parseError 1 (some .int)) (fr := 0) (lo := 0) (as := []) (st := []) (g_no) rfl (fun _ _ _ e => tX1_parseError hs e) (fun K _ _ _ hq hM R e1 e2 => g_runV (M := mL_law) (pc := 446) (y := yX1_parseError) (bytes := cX1_parseError) (maxL := 1) (ret := (some .int)) (fr := 0) (lo := 0) (as := []) (st := []) hq (C := "FlareSlopes") rfl gy_X1_parseError (gbl rfl) (gbl rfl) (gbl rfl) q299 q300 q301 dL_law_446 K hM R e1 e2) fun v51 h52 => ?_
    refine g_aload_n (pc := 449) (x := v5) 2 rfl rfl dL_law_449 ?_
    refine g_bVi (pc := 450) (y := yX2_parseError) (ws := ws_ yX2_parseError cX2_parseError 1 (some .int)) (fr := 0) (lo := 0) (as := []) (st := [gi v51]) (g_no) rfl (fun _ _ _ e => tX2_parseError hs e) (fun K _ _ _ hq hM R e1 e2 => g_runV (M := mL_law) (pc := 450) (y := yX2_parseError) (bytes := cX2_parseError) (maxL := 1) (ret := (some .int)) (fr := 0) (lo := 0) (as := []) (st := [gi v51]) hq (C := "FlareSlopesModel") rfl gy_X2_parseError (gbl rfl) (gbl rfl) (gbl rfl) q4021 q4022 q4023 dL_law_450 K hM R e1 e2) fun v53 h54 => ?_
    refine g_icmp_eq (pc := 453) (tgt := 4259) rfl dL_law_453 ?_ ?_
    · exact Hj20 () h54
    refine g_iconst (pc := 456) (v := (0 : Int32)) ic_0 dL_law_456 ?_
    exact g_zreturn (pc := 457) rfl dL_law_457
  · refine g_aload_n (pc := 458) (x := v1) 1 rfl rfl dL_law_458 ?_
    refine g_bVi (pc := 459) (y := yX1_errorPosition) (ws := ws_ yX1_errorPosition cX1_errorPosition 1 (some .int)) (fr := 0) (lo := 0) (as := []) (st := []) (g_no) rfl (fun _ _ _ e => tX1_errorPosition hs e) (fun K _ _ _ hq hM R e1 e2 => g_runV (M := mL_law) (pc := 459) (y := yX1_errorPosition) (bytes := cX1_errorPosition) (maxL := 1) (ret := (some .int)) (fr := 0) (lo := 0) (as := []) (st := []) hq (C := "FlareSlopes") rfl gy_X1_errorPosition (gbl rfl) (gbl rfl) (gbl rfl) q303 q304 q305 dL_law_459 K hM R e1 e2) fun v57 h58 => ?_
    refine g_aload_n (pc := 462) (x := v5) 2 rfl rfl dL_law_462 ?_
    refine g_bVi (pc := 463) (y := yX2_errorPosition) (ws := ws_ yX2_errorPosition cX2_errorPosition 1 (some .int)) (fr := 0) (lo := 0) (as := []) (st := [gi v57]) (g_no) rfl (fun _ _ _ e => tX2_errorPosition hs e) (fun K _ _ _ hq hM R e1 e2 => g_runV (M := mL_law) (pc := 463) (y := yX2_errorPosition) (bytes := cX2_errorPosition) (maxL := 1) (ret := (some .int)) (fr := 0) (lo := 0) (as := []) (st := [gi v57]) hq (C := "FlareSlopesModel") rfl gy_X2_errorPosition (gbl rfl) (gbl rfl) (gbl rfl) q4025 q4026 q4027 dL_law_463 K hM R e1 e2) fun v59 h60 => ?_
    refine g_icmp_eq (pc := 466) (tgt := 4259) rfl dL_law_466 ?_ ?_
    · exact Hj20 () h60
    refine g_iconst (pc := 469) (v := (0 : Int32)) ic_0 dL_law_469 ?_
    exact g_zreturn (pc := 470) rfl dL_law_470
  · refine g_aload_n (pc := 471) (x := v1) 1 rfl rfl dL_law_471 ?_
    refine g_bVi (pc := 472) (y := yX1_buffered) (ws := ws_ yX1_buffered cX1_buffered 1 (some .int)) (fr := 0) (lo := 0) (as := []) (st := []) (g_no) rfl (fun _ _ _ e => tX1_buffered hs e) (fun K _ _ _ hq hM R e1 e2 => g_runV (M := mL_law) (pc := 472) (y := yX1_buffered) (bytes := cX1_buffered) (maxL := 1) (ret := (some .int)) (fr := 0) (lo := 0) (as := []) (st := []) hq (C := "FlareSlopes") rfl gy_X1_buffered (gbl rfl) (gbl rfl) (gbl rfl) q307 q308 q309 dL_law_472 K hM R e1 e2) fun v63 h64 => ?_
    refine g_aload_n (pc := 475) (x := v5) 2 rfl rfl dL_law_475 ?_
    refine g_bVi (pc := 476) (y := yX2_buffered) (ws := ws_ yX2_buffered cX2_buffered 1 (some .int)) (fr := 0) (lo := 0) (as := []) (st := [gi v63]) (g_no) rfl (fun _ _ _ e => tX2_buffered hs e) (fun K _ _ _ hq hM R e1 e2 => g_runV (M := mL_law) (pc := 476) (y := yX2_buffered) (bytes := cX2_buffered) (maxL := 1) (ret := (some .int)) (fr := 0) (lo := 0) (as := []) (st := [gi v63]) hq (C := "FlareSlopesModel") rfl gy_X2_buffered (gbl rfl) (gbl rfl) (gbl rfl) q4029 q4030 q4031 dL_law_476 K hM R e1 e2) fun v65 h66 => ?_
    refine g_icmp_eq (pc := 479) (tgt := 4259) rfl dL_law_479 ?_ ?_
    · exact Hj20 () h66
    refine g_iconst (pc := 482) (v := (0 : Int32)) ic_0 dL_law_482 ?_
    exact g_zreturn (pc := 483) rfl dL_law_483
  · refine g_aload_n (pc := 484) (x := v1) 1 rfl rfl dL_law_484 ?_
    refine g_aload_n (pc := 485) (x := a0) 0 rfl rfl dL_law_485 ?_
    refine g_iload (pc := 486) (x := x13) 5 rfl dL_law_486 ?_
    refine g_iconst (pc := 488) (v := (1 : Int32)) ic_1 dL_law_488 ?_
    refine g_iadd (pc := 489) dL_law_489 ?_
    refine g_iaload (pc := 490) rfl dL_law_490 fun v69 => ?_
    refine g_aload_n (pc := 491) (x := a0) 0 rfl rfl dL_law_491 ?_
    refine g_iload (pc := 492) (x := x13) 5 rfl dL_law_492 ?_
    refine g_iconst (pc := 494) (v := (2 : Int32)) ic_2 dL_law_494 ?_
    refine g_iadd (pc := 495) dL_law_495 ?_
    refine g_iaload (pc := 496) rfl dL_law_496 fun v70 => ?_
    refine g_join 505 (fun (x71 : Int32) => [(0, gr a0), (1, gr v1), (2, gr v5), (3, gr v9), (4, gr v11), (5, gi x13)]) (fun (x71 : Int32) => [gi x71, gi v69, gr v1]) (fun x71 h72 => ?_) (fun j73 Hj73 => ?_)
    · refine g_aload_n (pc := 505) (x := v9) 3 rfl rfl dL_law_505 ?_
      refine g_bi (pc := 506) (y := yX0_find) (ws := wsW_ yX0_find cX0_find 5 (some .int) [(0, 10, 13, 21), (0, 10, 17, 13)]) (fr := 9) (lo := 179) (as := [gr v1, gi v69, gi x71, gr v9]) (st := []) (g_no) rfl (fun _ _ e => tX0_find hs e) (fun K _ _ hM R e1 e2 => g_runSX (M := mL_law) (pc := 506) (y := yX0_find) (bytes := cX0_find) (maxL := 5) (ret := (some .int)) (hh := [(0, 10, 13, 21), (0, 10, 17, 13)]) (fr := 9) (lo := 179) (as := [gr v1, gi v69, gi x71, gr v9]) (st := []) gy_X0_find (gbl rfl) (gbl rfl) (gbl rfl) q1422 q1423 dL_law_506 K hM R e1 e2) fun v74 h75 => ?_
      refine g_istore (pc := 509) (lv' := [(6, gi v74), (0, gr a0), (1, gr v1), (2, gr v5), (3, gr v9), (4, gr v11), (5, gi x13)]) [0, 1, 2, 3, 4, 5, 6] rfl (gblt rfl) dL_law_509 ?_
      refine g_aload_n (pc := 511) (x := v5) 3 rfl rfl dL_law_511 ?_
      refine g_aload_n (pc := 512) (x := a0) 1 rfl rfl dL_law_512 ?_
      refine g_iload (pc := 513) (x := x13) 6 rfl dL_law_513 ?_
      refine g_iconst (pc := 515) (v := (1 : Int32)) ic_1 dL_law_515 ?_
      refine g_iadd (pc := 516) dL_law_516 ?_
      refine g_iaload (pc := 517) rfl dL_law_517 fun v76 => ?_
      refine g_aload_n (pc := 518) (x := a0) 1 rfl rfl dL_law_518 ?_
      refine g_iload (pc := 519) (x := x13) 6 rfl dL_law_519 ?_
      refine g_iconst (pc := 521) (v := (2 : Int32)) ic_2 dL_law_521 ?_
      refine g_iadd (pc := 522) dL_law_522 ?_
      refine g_iaload (pc := 523) rfl dL_law_523 fun v77 => ?_
      refine g_join 532 (fun (x78 : Int32) => [(0, gr a0), (1, gr v1), (2, gr v5), (3, gr v9), (4, gr v11), (5, gi x13), (6, gi v74)]) (fun (x78 : Int32) => [gi x78, gi v76, gr v5]) (fun x78 h79 => ?_) (fun j80 Hj80 => ?_)
      · refine g_bVi (pc := 532) (y := yX2_find) (ws := ws_ yX2_find cX2_find 3 (some .int)) (fr := 2) (lo := 49) (as := [gi v76, gi x78]) (st := []) (g_no) rfl (fun _ _ _ e => tX2_find hs e) (fun K _ _ _ hq hM R e1 e2 => g_runV (M := mL_law) (pc := 532) (y := yX2_find) (bytes := cX2_find) (maxL := 3) (ret := (some .int)) (fr := 2) (lo := 49) (as := [gi v76, gi x78]) (st := []) hq (C := "FlareSlopesModel") rfl gy_X2_find (gbl rfl) (gbl rfl) (gbl rfl) q4141 q4142 q4143 dL_law_532 K hM R e1 e2) fun v81 h82 => ?_
        refine g_istore (pc := 535) (lv' := [(7, gi v81), (0, gr a0), (1, gr v1), (2, gr v5), (3, gr v9), (4, gr v11), (5, gi x13), (6, gi v74)]) [0, 1, 2, 3, 4, 5, 6, 7] rfl (gblt rfl) dL_law_535 ?_
        refine g_aload_n (pc := 537) (x := v5) 3 rfl rfl dL_law_537 ?_
        refine g_bVi (pc := 538) (y := yX2_thrown) (ws := ws_ yX2_thrown cX2_thrown 1 (some .int)) (fr := 0) (lo := 0) (as := []) (st := []) (g_no) rfl (fun _ _ _ e => tX2_thrown hs e) (fun K _ _ _ hq hM R e1 e2 => g_runV (M := mL_law) (pc := 538) (y := yX2_thrown) (bytes := cX2_thrown) (maxL := 1) (ret := (some .int)) (fr := 0) (lo := 0) (as := []) (st := []) hq (C := "FlareSlopesModel") rfl gy_X2_thrown (gbl rfl) (gbl rfl) (gbl rfl) q4009 q4010 q4011 dL_law_538 K hM R e1 e2) fun v83 h84 => ?_
        refine g_iload (pc := 541) (x := v74) 7 rfl dL_law_541 ?_
        refine g_icmp_eq (pc := 543) (tgt := 548) rfl dL_law_543 ?_ ?_
        rotate_left
        · refine g_iconst (pc := 546) (v := (0 : Int32)) ic_0 dL_law_546 ?_
          exact g_zreturn (pc := 547) rfl dL_law_547
        refine g_iload (pc := 548) (x := v74) 7 rfl dL_law_548 ?_
        refine g_join 565 (fun (x85 : Unit) => [(0, gr a0), (1, gr v1), (2, gr v5), (3, gr v9), (4, gr v11), (5, gi x13)]) (fun (x85 : Unit) => []) (fun x85 h86 => ?_) (fun j87 Hj87 => ?_)
        · refine g_goto (pc := 565) (tgt := 4259) rfl dL_law_565 ?_
          exact Hj20 () h86
        refine g_if_ne (pc := 550) (tgt := 565) rfl dL_law_550 ?_ ?_
        rotate_left
        · exact g_sub [1, 2, 3, 4, 5, 6] rfl (Hj87 () h84)
        refine g_aload_n (pc := 553) (x := v9) 4 rfl rfl dL_law_553 ?_
        refine g_iconst (pc := 554) (v := (0 : Int32)) ic_0 dL_law_554 ?_
        refine g_laload (pc := 555) rfl dL_law_555 fun v88 => ?_
        refine g_iload (pc := 556) (x := v81) 0 rfl dL_law_556 ?_
        refine g_i2l (pc := 558) dL_law_558 ?_
        refine g_lcmp (pc := 559) dL_law_559 ?_
        refine g_if_eq (pc := 560) (tgt := 565) rfl dL_law_560 ?_ ?_
        · exact g_sub [1, 2, 3, 4, 5, 6] rfl (Hj87 () h84)
        refine g_iconst (pc := 563) (v := (0 : Int32)) ic_0 dL_law_563 ?_
        exact g_zreturn (pc := 564) rfl dL_law_564
      refine g_if_eq (pc := 524) (tgt := 531) rfl dL_law_524 ?_ ?_
      · refine g_iconst (pc := 531) (v := (0 : Int32)) ic_0 dL_law_531 ?_
        exact g_sub [1, 2, 3, 4, 5, 6, 0] rfl (Hj80 (0 : Int32) h75)
      refine g_iconst (pc := 527) (v := (1 : Int32)) ic_1 dL_law_527 ?_
      refine g_goto (pc := 528) (tgt := 532) rfl dL_law_528 ?_
      exact g_sub [1, 2, 3, 4, 5, 6, 0] rfl (Hj80 (1 : Int32) h75)
    refine g_if_eq (pc := 497) (tgt := 504) rfl dL_law_497 ?_ ?_
    · refine g_iconst (pc := 504) (v := (0 : Int32)) ic_0 dL_law_504 ?_
      exact Hj73 (0 : Int32) h14
    refine g_iconst (pc := 500) (v := (1 : Int32)) ic_1 dL_law_500 ?_
    refine g_goto (pc := 501) (tgt := 505) rfl dL_law_501 ?_
    exact Hj73 (1 : Int32) h14
  · refine g_aload_n (pc := 568) (x := v1) 1 rfl rfl dL_law_568 ?_
    refine g_aload_n (pc := 569) (x := a0) 0 rfl rfl dL_law_569 ?_
    refine g_iload (pc := 570) (x := x13) 5 rfl dL_law_570 ?_
    refine g_iconst (pc := 572) (v := (1 : Int32)) ic_1 dL_law_572 ?_
    refine g_iadd (pc := 573) dL_law_573 ?_
    refine g_iaload (pc := 574) rfl dL_law_574 fun v91 => ?_
    refine g_aload_n (pc := 575) (x := v9) 3 rfl rfl dL_law_575 ?_
    refine g_bi (pc := 576) (y := yX0_count) (ws := wsW_ yX0_count cX0_count 4 (some .int) [(0, 9, 12, 21), (0, 9, 15, 15)]) (fr := 10) (lo := 218) (as := [gr v1, gi v91, gr v9]) (st := []) (g_no) rfl (fun _ _ e => tX0_count hs e) (fun K _ _ hM R e1 e2 => g_runSX (M := mL_law) (pc := 576) (y := yX0_count) (bytes := cX0_count) (maxL := 4) (ret := (some .int)) (hh := [(0, 9, 12, 21), (0, 9, 15, 15)]) (fr := 10) (lo := 218) (as := [gr v1, gi v91, gr v9]) (st := []) gy_X0_count (gbl rfl) (gbl rfl) (gbl rfl) q1457 q1458 dL_law_576 K hM R e1 e2) fun v92 h93 => ?_
    refine g_istore (pc := 579) (lv' := [(6, gi v92), (0, gr a0), (1, gr v1), (2, gr v5), (3, gr v9), (4, gr v11), (5, gi x13)]) [0, 1, 2, 3, 4, 5, 6] rfl (gblt rfl) dL_law_579 ?_
    refine g_aload_n (pc := 581) (x := v5) 3 rfl rfl dL_law_581 ?_
    refine g_aload_n (pc := 582) (x := a0) 1 rfl rfl dL_law_582 ?_
    refine g_iload (pc := 583) (x := x13) 6 rfl dL_law_583 ?_
    refine g_iconst (pc := 585) (v := (1 : Int32)) ic_1 dL_law_585 ?_
    refine g_iadd (pc := 586) dL_law_586 ?_
    refine g_iaload (pc := 587) rfl dL_law_587 fun v94 => ?_
    refine g_bVi (pc := 588) (y := yX2_count) (ws := ws_ yX2_count cX2_count 2 (some .int)) (fr := 5) (lo := 116) (as := [gi v94]) (st := []) (g_no) rfl (fun _ _ _ e => tX2_count hs e) (fun K _ _ _ hq hM R e1 e2 => g_runV (M := mL_law) (pc := 588) (y := yX2_count) (bytes := cX2_count) (maxL := 2) (ret := (some .int)) (fr := 5) (lo := 116) (as := [gi v94]) (st := []) hq (C := "FlareSlopesModel") rfl gy_X2_count (gbl rfl) (gbl rfl) (gbl rfl) q4153 q4154 q4155 dL_law_588 K hM R e1 e2) fun v95 h96 => ?_
    refine g_istore (pc := 591) (lv' := [(7, gi v95), (6, gi v92), (0, gr a0), (1, gr v1), (2, gr v5), (3, gr v9), (4, gr v11), (5, gi x13)]) [0, 1, 2, 3, 4, 5, 6, 7] rfl (gblt rfl) dL_law_591 ?_
    refine g_aload_n (pc := 593) (x := v5) 4 rfl rfl dL_law_593 ?_
    refine g_bVi (pc := 594) (y := yX2_thrown) (ws := ws_ yX2_thrown cX2_thrown 1 (some .int)) (fr := 0) (lo := 0) (as := []) (st := []) (g_no) rfl (fun _ _ _ e => tX2_thrown hs e) (fun K _ _ _ hq hM R e1 e2 => g_runV (M := mL_law) (pc := 594) (y := yX2_thrown) (bytes := cX2_thrown) (maxL := 1) (ret := (some .int)) (fr := 0) (lo := 0) (as := []) (st := []) hq (C := "FlareSlopesModel") rfl gy_X2_thrown (gbl rfl) (gbl rfl) (gbl rfl) q4009 q4010 q4011 dL_law_594 K hM R e1 e2) fun v97 h98 => ?_
    refine g_iload (pc := 597) (x := v92) 1 rfl dL_law_597 ?_
    refine g_icmp_eq (pc := 599) (tgt := 604) rfl dL_law_599 ?_ ?_
    rotate_left
    · refine g_iconst (pc := 602) (v := (0 : Int32)) ic_0 dL_law_602 ?_
      exact g_zreturn (pc := 603) rfl dL_law_603
    refine g_iload (pc := 604) (x := v92) 1 rfl dL_law_604 ?_
    refine g_join 621 (fun (x99 : Unit) => [(0, gr a0), (1, gr v1), (2, gr v5), (3, gr v9), (4, gr v11), (5, gi x13)]) (fun (x99 : Unit) => []) (fun x99 h100 => ?_) (fun j101 Hj101 => ?_)
    · refine g_goto (pc := 621) (tgt := 4259) rfl dL_law_621 ?_
      exact Hj20 () h100
    refine g_if_ne (pc := 606) (tgt := 621) rfl dL_law_606 ?_ ?_
    rotate_left
    · exact g_sub [2, 3, 4, 5, 6, 7] rfl (Hj101 () h98)
    refine g_aload_n (pc := 609) (x := v9) 5 rfl rfl dL_law_609 ?_
    refine g_iconst (pc := 610) (v := (0 : Int32)) ic_0 dL_law_610 ?_
    refine g_laload (pc := 611) rfl dL_law_611 fun v102 => ?_
    refine g_iload (pc := 612) (x := v95) 0 rfl dL_law_612 ?_
    refine g_i2l (pc := 614) dL_law_614 ?_
    refine g_lcmp (pc := 615) dL_law_615 ?_
    refine g_if_eq (pc := 616) (tgt := 621) rfl dL_law_616 ?_ ?_
    · exact g_sub [2, 3, 4, 5, 6, 7] rfl (Hj101 () h98)
    refine g_iconst (pc := 619) (v := (0 : Int32)) ic_0 dL_law_619 ?_
    exact g_zreturn (pc := 620) rfl dL_law_620
  · refine g_aload_n (pc := 624) (x := v1) 1 rfl rfl dL_law_624 ?_
    refine g_aload_n (pc := 625) (x := a0) 0 rfl rfl dL_law_625 ?_
    refine g_iload (pc := 626) (x := x13) 5 rfl dL_law_626 ?_
    refine g_iconst (pc := 628) (v := (1 : Int32)) ic_1 dL_law_628 ?_
    refine g_iadd (pc := 629) dL_law_629 ?_
    refine g_iaload (pc := 630) rfl dL_law_630 fun v105 => ?_
    refine g_aload_n (pc := 631) (x := v9) 3 rfl rfl dL_law_631 ?_
    refine g_bi (pc := 632) (y := yX0_setting) (ws := wsW_ yX0_setting cX0_setting 4 (some .int) [(0, 9, 12, 21), (0, 9, 15, 15)]) (fr := 9) (lo := 143) (as := [gr v1, gi v105, gr v9]) (st := []) (g_no) rfl (fun _ _ e => tX0_setting hs e) (fun K _ _ hM R e1 e2 => g_runSX (M := mL_law) (pc := 632) (y := yX0_setting) (bytes := cX0_setting) (maxL := 4) (ret := (some .int)) (hh := [(0, 9, 12, 21), (0, 9, 15, 15)]) (fr := 9) (lo := 143) (as := [gr v1, gi v105, gr v9]) (st := []) gy_X0_setting (gbl rfl) (gbl rfl) (gbl rfl) q1951 q1952 dL_law_632 K hM R e1 e2) fun v106 h107 => ?_
    refine g_istore (pc := 635) (lv' := [(6, gi v106), (0, gr a0), (1, gr v1), (2, gr v5), (3, gr v9), (4, gr v11), (5, gi x13)]) [0, 1, 2, 3, 4, 5, 6] rfl (gblt rfl) dL_law_635 ?_
    refine g_aload_n (pc := 637) (x := v5) 3 rfl rfl dL_law_637 ?_
    refine g_aload_n (pc := 638) (x := a0) 1 rfl rfl dL_law_638 ?_
    refine g_iload (pc := 639) (x := x13) 6 rfl dL_law_639 ?_
    refine g_iconst (pc := 641) (v := (1 : Int32)) ic_1 dL_law_641 ?_
    refine g_iadd (pc := 642) dL_law_642 ?_
    refine g_iaload (pc := 643) rfl dL_law_643 fun v108 => ?_
    refine g_bVi (pc := 644) (y := yX2_setting) (ws := ws_ yX2_setting cX2_setting 2 (some .int)) (fr := 2) (lo := 45) (as := [gi v108]) (st := []) (g_no) rfl (fun _ _ _ e => tX2_setting hs e) (fun K _ _ _ hq hM R e1 e2 => g_runV (M := mL_law) (pc := 644) (y := yX2_setting) (bytes := cX2_setting) (maxL := 2) (ret := (some .int)) (fr := 2) (lo := 45) (as := [gi v108]) (st := []) hq (C := "FlareSlopesModel") rfl gy_X2_setting (gbl rfl) (gbl rfl) (gbl rfl) q4206 q4207 q4208 dL_law_644 K hM R e1 e2) fun v109 h110 => ?_
    refine g_istore (pc := 647) (lv' := [(7, gi v109), (6, gi v106), (0, gr a0), (1, gr v1), (2, gr v5), (3, gr v9), (4, gr v11), (5, gi x13)]) [0, 1, 2, 3, 4, 5, 6, 7] rfl (gblt rfl) dL_law_647 ?_
    refine g_aload_n (pc := 649) (x := v5) 4 rfl rfl dL_law_649 ?_
    refine g_bVi (pc := 650) (y := yX2_thrown) (ws := ws_ yX2_thrown cX2_thrown 1 (some .int)) (fr := 0) (lo := 0) (as := []) (st := []) (g_no) rfl (fun _ _ _ e => tX2_thrown hs e) (fun K _ _ _ hq hM R e1 e2 => g_runV (M := mL_law) (pc := 650) (y := yX2_thrown) (bytes := cX2_thrown) (maxL := 1) (ret := (some .int)) (fr := 0) (lo := 0) (as := []) (st := []) hq (C := "FlareSlopesModel") rfl gy_X2_thrown (gbl rfl) (gbl rfl) (gbl rfl) q4009 q4010 q4011 dL_law_650 K hM R e1 e2) fun v111 h112 => ?_
    refine g_iload (pc := 653) (x := v106) 1 rfl dL_law_653 ?_
    refine g_icmp_eq (pc := 655) (tgt := 660) rfl dL_law_655 ?_ ?_
    rotate_left
    · refine g_iconst (pc := 658) (v := (0 : Int32)) ic_0 dL_law_658 ?_
      exact g_zreturn (pc := 659) rfl dL_law_659
    refine g_iload (pc := 660) (x := v106) 1 rfl dL_law_660 ?_
    refine g_join 677 (fun (x113 : Unit) => [(0, gr a0), (1, gr v1), (2, gr v5), (3, gr v9), (4, gr v11), (5, gi x13)]) (fun (x113 : Unit) => []) (fun x113 h114 => ?_) (fun j115 Hj115 => ?_)
    · refine g_goto (pc := 677) (tgt := 4259) rfl dL_law_677 ?_
      exact Hj20 () h114
    refine g_if_ne (pc := 662) (tgt := 677) rfl dL_law_662 ?_ ?_
    rotate_left
    · exact g_sub [2, 3, 4, 5, 6, 7] rfl (Hj115 () h112)
    refine g_aload_n (pc := 665) (x := v9) 5 rfl rfl dL_law_665 ?_
    refine g_iconst (pc := 666) (v := (0 : Int32)) ic_0 dL_law_666 ?_
    refine g_laload (pc := 667) rfl dL_law_667 fun v116 => ?_
    refine g_iload (pc := 668) (x := v109) 0 rfl dL_law_668 ?_
    refine g_i2l (pc := 670) dL_law_670 ?_
    refine g_lcmp (pc := 671) dL_law_671 ?_
    refine g_if_eq (pc := 672) (tgt := 677) rfl dL_law_672 ?_ ?_
    · exact g_sub [2, 3, 4, 5, 6, 7] rfl (Hj115 () h112)
    refine g_iconst (pc := 675) (v := (0 : Int32)) ic_0 dL_law_675 ?_
    exact g_zreturn (pc := 676) rfl dL_law_676
  · refine g_aload_n (pc := 680) (x := v1) 1 rfl rfl dL_law_680 ?_
    refine g_aload_n (pc := 681) (x := a0) 0 rfl rfl dL_law_681 ?_
    refine g_iload (pc := 682) (x := x13) 5 rfl dL_law_682 ?_
    refine g_iconst (pc := 684) (v := (1 : Int32)) ic_1 dL_law_684 ?_
    refine g_iadd (pc := 685) dL_law_685 ?_
    refine g_iaload (pc := 686) rfl dL_law_686 fun v119 => ?_
    refine g_aload_n (pc := 687) (x := a0) 0 rfl rfl dL_law_687 ?_
    refine g_iload (pc := 688) (x := x13) 5 rfl dL_law_688 ?_
    refine g_iconst (pc := 690) (v := (2 : Int32)) ic_2 dL_law_690 ?_
    refine g_iadd (pc := 691) dL_law_691 ?_
    refine g_iaload (pc := 692) rfl dL_law_692 fun v120 => ?_
    refine g_aload_n (pc := 693) (x := v9) 3 rfl rfl dL_law_693 ?_
    refine g_bi (pc := 694) (y := yX0_cabin) (ws := wsW_ yX0_cabin cX0_cabin 5 (some .int) [(0, 10, 13, 21), (0, 10, 17, 13), (0, 10, 21, 15)]) (fr := 10) (lo := 207) (as := [gr v1, gi v119, gi v120, gr v9]) (st := []) (g_no) rfl (fun _ _ e => tX0_cabin hs e) (fun K _ _ hM R e1 e2 => g_runSX (M := mL_law) (pc := 694) (y := yX0_cabin) (bytes := cX0_cabin) (maxL := 5) (ret := (some .int)) (hh := [(0, 10, 13, 21), (0, 10, 17, 13), (0, 10, 21, 15)]) (fr := 10) (lo := 207) (as := [gr v1, gi v119, gi v120, gr v9]) (st := []) gy_X0_cabin (gbl rfl) (gbl rfl) (gbl rfl) q1961 q1962 dL_law_694 K hM R e1 e2) fun v121 h122 => ?_
    refine g_istore (pc := 697) (lv' := [(6, gi v121), (0, gr a0), (1, gr v1), (2, gr v5), (3, gr v9), (4, gr v11), (5, gi x13)]) [0, 1, 2, 3, 4, 5, 6] rfl (gblt rfl) dL_law_697 ?_
    refine g_aload_n (pc := 699) (x := v5) 3 rfl rfl dL_law_699 ?_
    refine g_aload_n (pc := 700) (x := a0) 1 rfl rfl dL_law_700 ?_
    refine g_iload (pc := 701) (x := x13) 6 rfl dL_law_701 ?_
    refine g_iconst (pc := 703) (v := (1 : Int32)) ic_1 dL_law_703 ?_
    refine g_iadd (pc := 704) dL_law_704 ?_
    refine g_iaload (pc := 705) rfl dL_law_705 fun v123 => ?_
    refine g_aload_n (pc := 706) (x := a0) 1 rfl rfl dL_law_706 ?_
    refine g_iload (pc := 707) (x := x13) 6 rfl dL_law_707 ?_
    refine g_iconst (pc := 709) (v := (2 : Int32)) ic_2 dL_law_709 ?_
    refine g_iadd (pc := 710) dL_law_710 ?_
    refine g_iaload (pc := 711) rfl dL_law_711 fun v124 => ?_
    refine g_bVi (pc := 712) (y := yX2_cabin) (ws := ws_ yX2_cabin cX2_cabin 3 (some .int)) (fr := 4) (lo := 94) (as := [gi v123, gi v124]) (st := []) (g_no) rfl (fun _ _ _ e => tX2_cabin hs e) (fun K _ _ _ hq hM R e1 e2 => g_runV (M := mL_law) (pc := 712) (y := yX2_cabin) (bytes := cX2_cabin) (maxL := 3) (ret := (some .int)) (fr := 4) (lo := 94) (as := [gi v123, gi v124]) (st := []) hq (C := "FlareSlopesModel") rfl gy_X2_cabin (gbl rfl) (gbl rfl) (gbl rfl) q4210 q4211 q4212 dL_law_712 K hM R e1 e2) fun v125 h126 => ?_
    refine g_istore (pc := 715) (lv' := [(7, gi v125), (6, gi v121), (0, gr a0), (1, gr v1), (2, gr v5), (3, gr v9), (4, gr v11), (5, gi x13)]) [0, 1, 2, 3, 4, 5, 6, 7] rfl (gblt rfl) dL_law_715 ?_
    refine g_aload_n (pc := 717) (x := v5) 4 rfl rfl dL_law_717 ?_
    refine g_bVi (pc := 718) (y := yX2_thrown) (ws := ws_ yX2_thrown cX2_thrown 1 (some .int)) (fr := 0) (lo := 0) (as := []) (st := []) (g_no) rfl (fun _ _ _ e => tX2_thrown hs e) (fun K _ _ _ hq hM R e1 e2 => g_runV (M := mL_law) (pc := 718) (y := yX2_thrown) (bytes := cX2_thrown) (maxL := 1) (ret := (some .int)) (fr := 0) (lo := 0) (as := []) (st := []) hq (C := "FlareSlopesModel") rfl gy_X2_thrown (gbl rfl) (gbl rfl) (gbl rfl) q4009 q4010 q4011 dL_law_718 K hM R e1 e2) fun v127 h128 => ?_
    refine g_iload (pc := 721) (x := v121) 1 rfl dL_law_721 ?_
    refine g_icmp_eq (pc := 723) (tgt := 728) rfl dL_law_723 ?_ ?_
    rotate_left
    · refine g_iconst (pc := 726) (v := (0 : Int32)) ic_0 dL_law_726 ?_
      exact g_zreturn (pc := 727) rfl dL_law_727
    refine g_iload (pc := 728) (x := v121) 1 rfl dL_law_728 ?_
    refine g_join 745 (fun (x129 : Unit) => [(0, gr a0), (1, gr v1), (2, gr v5), (3, gr v9), (4, gr v11), (5, gi x13)]) (fun (x129 : Unit) => []) (fun x129 h130 => ?_) (fun j131 Hj131 => ?_)
    · refine g_goto (pc := 745) (tgt := 4259) rfl dL_law_745 ?_
      exact Hj20 () h130
    refine g_if_ne (pc := 730) (tgt := 745) rfl dL_law_730 ?_ ?_
    rotate_left
    · exact g_sub [2, 3, 4, 5, 6, 7] rfl (Hj131 () h128)
    refine g_aload_n (pc := 733) (x := v9) 5 rfl rfl dL_law_733 ?_
    refine g_iconst (pc := 734) (v := (0 : Int32)) ic_0 dL_law_734 ?_
    refine g_laload (pc := 735) rfl dL_law_735 fun v132 => ?_
    refine g_iload (pc := 736) (x := v125) 0 rfl dL_law_736 ?_
    refine g_i2l (pc := 738) dL_law_738 ?_
    refine g_lcmp (pc := 739) dL_law_739 ?_
    refine g_if_eq (pc := 740) (tgt := 745) rfl dL_law_740 ?_ ?_
    · exact g_sub [2, 3, 4, 5, 6, 7] rfl (Hj131 () h128)
    refine g_iconst (pc := 743) (v := (0 : Int32)) ic_0 dL_law_743 ?_
    exact g_zreturn (pc := 744) rfl dL_law_744
  · refine g_aload_n (pc := 748) (x := v1) 1 rfl rfl dL_law_748 ?_
    refine g_aload_n (pc := 749) (x := a0) 0 rfl rfl dL_law_749 ?_
    refine g_iload (pc := 750) (x := x13) 5 rfl dL_law_750 ?_
    refine g_iconst (pc := 752) (v := (1 : Int32)) ic_1 dL_law_752 ?_
    refine g_iadd (pc := 753) dL_law_753 ?_
    refine g_iaload (pc := 754) rfl dL_law_754 fun v135 => ?_
    refine g_aload_n (pc := 755) (x := a0) 0 rfl rfl dL_law_755 ?_
    refine g_iload (pc := 756) (x := x13) 5 rfl dL_law_756 ?_
    refine g_iconst (pc := 758) (v := (2 : Int32)) ic_2 dL_law_758 ?_
    refine g_iadd (pc := 759) dL_law_759 ?_
    refine g_iaload (pc := 760) rfl dL_law_760 fun v136 => ?_
    refine g_aload_n (pc := 761) (x := v9) 3 rfl rfl dL_law_761 ?_
    refine g_bi (pc := 762) (y := yX0_slope) (ws := wsW_ yX0_slope cX0_slope 5 (some .int) [(0, 10, 13, 21), (0, 10, 17, 13), (0, 10, 21, 15)]) (fr := 10) (lo := 200) (as := [gr v1, gi v135, gi v136, gr v9]) (st := []) (g_no) rfl (fun _ _ e => tX0_slope hs e) (fun K _ _ hM R e1 e2 => g_runSX (M := mL_law) (pc := 762) (y := yX0_slope) (bytes := cX0_slope) (maxL := 5) (ret := (some .int)) (hh := [(0, 10, 13, 21), (0, 10, 17, 13), (0, 10, 21, 15)]) (fr := 10) (lo := 200) (as := [gr v1, gi v135, gi v136, gr v9]) (st := []) gy_X0_slope (gbl rfl) (gbl rfl) (gbl rfl) q3037 q3038 dL_law_762 K hM R e1 e2) fun v137 h138 => ?_
    refine g_istore (pc := 765) (lv' := [(6, gi v137), (0, gr a0), (1, gr v1), (2, gr v5), (3, gr v9), (4, gr v11), (5, gi x13)]) [0, 1, 2, 3, 4, 5, 6] rfl (gblt rfl) dL_law_765 ?_
    refine g_aload_n (pc := 767) (x := v5) 3 rfl rfl dL_law_767 ?_
    refine g_aload_n (pc := 768) (x := a0) 1 rfl rfl dL_law_768 ?_
    refine g_iload (pc := 769) (x := x13) 6 rfl dL_law_769 ?_
    refine g_iconst (pc := 771) (v := (1 : Int32)) ic_1 dL_law_771 ?_
    refine g_iadd (pc := 772) dL_law_772 ?_
    refine g_iaload (pc := 773) rfl dL_law_773 fun v139 => ?_
    refine g_aload_n (pc := 774) (x := a0) 1 rfl rfl dL_law_774 ?_
    refine g_iload (pc := 775) (x := x13) 6 rfl dL_law_775 ?_
    refine g_iconst (pc := 777) (v := (2 : Int32)) ic_2 dL_law_777 ?_
    refine g_iadd (pc := 778) dL_law_778 ?_
    refine g_iaload (pc := 779) rfl dL_law_779 fun v140 => ?_
    refine g_bVi (pc := 780) (y := yX2_slope) (ws := ws_ yX2_slope cX2_slope 3 (some .int)) (fr := 5) (lo := 113) (as := [gi v139, gi v140]) (st := []) (g_no) rfl (fun _ _ _ e => tX2_slope hs e) (fun K _ _ _ hq hM R e1 e2 => g_runV (M := mL_law) (pc := 780) (y := yX2_slope) (bytes := cX2_slope) (maxL := 3) (ret := (some .int)) (fr := 5) (lo := 113) (as := [gi v139, gi v140]) (st := []) hq (C := "FlareSlopesModel") rfl gy_X2_slope (gbl rfl) (gbl rfl) (gbl rfl) q4241 q4242 q4243 dL_law_780 K hM R e1 e2) fun v141 h142 => ?_
    refine g_istore (pc := 783) (lv' := [(7, gi v141), (6, gi v137), (0, gr a0), (1, gr v1), (2, gr v5), (3, gr v9), (4, gr v11), (5, gi x13)]) [0, 1, 2, 3, 4, 5, 6, 7] rfl (gblt rfl) dL_law_783 ?_
    refine g_aload_n (pc := 785) (x := v5) 4 rfl rfl dL_law_785 ?_
    refine g_bVi (pc := 786) (y := yX2_thrown) (ws := ws_ yX2_thrown cX2_thrown 1 (some .int)) (fr := 0) (lo := 0) (as := []) (st := []) (g_no) rfl (fun _ _ _ e => tX2_thrown hs e) (fun K _ _ _ hq hM R e1 e2 => g_runV (M := mL_law) (pc := 786) (y := yX2_thrown) (bytes := cX2_thrown) (maxL := 1) (ret := (some .int)) (fr := 0) (lo := 0) (as := []) (st := []) hq (C := "FlareSlopesModel") rfl gy_X2_thrown (gbl rfl) (gbl rfl) (gbl rfl) q4009 q4010 q4011 dL_law_786 K hM R e1 e2) fun v143 h144 => ?_
    refine g_iload (pc := 789) (x := v137) 1 rfl dL_law_789 ?_
    refine g_icmp_eq (pc := 791) (tgt := 796) rfl dL_law_791 ?_ ?_
    rotate_left
    · refine g_iconst (pc := 794) (v := (0 : Int32)) ic_0 dL_law_794 ?_
      exact g_zreturn (pc := 795) rfl dL_law_795
    refine g_iload (pc := 796) (x := v137) 1 rfl dL_law_796 ?_
    refine g_join 813 (fun (x145 : Unit) => [(0, gr a0), (1, gr v1), (2, gr v5), (3, gr v9), (4, gr v11), (5, gi x13)]) (fun (x145 : Unit) => []) (fun x145 h146 => ?_) (fun j147 Hj147 => ?_)
    · refine g_goto (pc := 813) (tgt := 4259) rfl dL_law_813 ?_
      exact Hj20 () h146
    refine g_if_ne (pc := 798) (tgt := 813) rfl dL_law_798 ?_ ?_
    rotate_left
    · exact g_sub [2, 3, 4, 5, 6, 7] rfl (Hj147 () h144)
    refine g_aload_n (pc := 801) (x := v9) 5 rfl rfl dL_law_801 ?_
    refine g_iconst (pc := 802) (v := (0 : Int32)) ic_0 dL_law_802 ?_
    refine g_laload (pc := 803) rfl dL_law_803 fun v148 => ?_
    refine g_iload (pc := 804) (x := v141) 0 rfl dL_law_804 ?_
    refine g_i2l (pc := 806) dL_law_806 ?_
    refine g_lcmp (pc := 807) dL_law_807 ?_
    refine g_if_eq (pc := 808) (tgt := 813) rfl dL_law_808 ?_ ?_
    · exact g_sub [2, 3, 4, 5, 6, 7] rfl (Hj147 () h144)
    refine g_iconst (pc := 811) (v := (0 : Int32)) ic_0 dL_law_811 ?_
    exact g_zreturn (pc := 812) rfl dL_law_812
  · refine g_aload_n (pc := 816) (x := v1) 1 rfl rfl dL_law_816 ?_
    refine g_aload_n (pc := 817) (x := a0) 0 rfl rfl dL_law_817 ?_
    refine g_iload (pc := 818) (x := x13) 5 rfl dL_law_818 ?_
    refine g_iconst (pc := 820) (v := (1 : Int32)) ic_1 dL_law_820 ?_
    refine g_iadd (pc := 821) dL_law_821 ?_
    refine g_iaload (pc := 822) rfl dL_law_822 fun v151 => ?_
    refine g_aload_n (pc := 823) (x := a0) 0 rfl rfl dL_law_823 ?_
    refine g_iload (pc := 824) (x := x13) 5 rfl dL_law_824 ?_
    refine g_iconst (pc := 826) (v := (2 : Int32)) ic_2 dL_law_826 ?_
    refine g_iadd (pc := 827) dL_law_827 ?_
    refine g_iaload (pc := 828) rfl dL_law_828 fun v152 => ?_
    refine g_aload_n (pc := 829) (x := v9) 3 rfl rfl dL_law_829 ?_
    refine g_bi (pc := 830) (y := yX0_ridge) (ws := wsW_ yX0_ridge cX0_ridge 5 (some .int) [(0, 10, 13, 21), (0, 10, 17, 13), (0, 10, 21, 15)]) (fr := 9) (lo := 144) (as := [gr v1, gi v151, gi v152, gr v9]) (st := []) (g_no) rfl (fun _ _ e => tX0_ridge hs e) (fun K _ _ hM R e1 e2 => g_runSX (M := mL_law) (pc := 830) (y := yX0_ridge) (bytes := cX0_ridge) (maxL := 5) (ret := (some .int)) (hh := [(0, 10, 13, 21), (0, 10, 17, 13), (0, 10, 21, 15)]) (fr := 9) (lo := 144) (as := [gr v1, gi v151, gi v152, gr v9]) (st := []) gy_X0_ridge (gbl rfl) (gbl rfl) (gbl rfl) q3096 q3097 dL_law_830 K hM R e1 e2) fun v153 h154 => ?_
    refine g_istore (pc := 833) (lv' := [(6, gi v153), (0, gr a0), (1, gr v1), (2, gr v5), (3, gr v9), (4, gr v11), (5, gi x13)]) [0, 1, 2, 3, 4, 5, 6] rfl (gblt rfl) dL_law_833 ?_
    refine g_aload_n (pc := 835) (x := v5) 3 rfl rfl dL_law_835 ?_
    refine g_aload_n (pc := 836) (x := a0) 1 rfl rfl dL_law_836 ?_
    refine g_iload (pc := 837) (x := x13) 6 rfl dL_law_837 ?_
    refine g_iconst (pc := 839) (v := (1 : Int32)) ic_1 dL_law_839 ?_
    refine g_iadd (pc := 840) dL_law_840 ?_
    refine g_iaload (pc := 841) rfl dL_law_841 fun v155 => ?_
    refine g_aload_n (pc := 842) (x := a0) 1 rfl rfl dL_law_842 ?_
    refine g_iload (pc := 843) (x := x13) 6 rfl dL_law_843 ?_
    refine g_iconst (pc := 845) (v := (2 : Int32)) ic_2 dL_law_845 ?_
    refine g_iadd (pc := 846) dL_law_846 ?_
    refine g_iaload (pc := 847) rfl dL_law_847 fun v156 => ?_
    refine g_bVi (pc := 848) (y := yX2_ridge) (ws := ws_ yX2_ridge cX2_ridge 3 (some .int)) (fr := 1) (lo := 23) (as := [gi v155, gi v156]) (st := []) (g_no) rfl (fun _ _ _ e => tX2_ridge hs e) (fun K _ _ _ hq hM R e1 e2 => g_runV (M := mL_law) (pc := 848) (y := yX2_ridge) (bytes := cX2_ridge) (maxL := 3) (ret := (some .int)) (fr := 1) (lo := 23) (as := [gi v155, gi v156]) (st := []) hq (C := "FlareSlopesModel") rfl gy_X2_ridge (gbl rfl) (gbl rfl) (gbl rfl) q4288 q4289 q4290 dL_law_848 K hM R e1 e2) fun v157 h158 => ?_
    refine g_istore (pc := 851) (lv' := [(7, gi v157), (6, gi v153), (0, gr a0), (1, gr v1), (2, gr v5), (3, gr v9), (4, gr v11), (5, gi x13)]) [0, 1, 2, 3, 4, 5, 6, 7] rfl (gblt rfl) dL_law_851 ?_
    refine g_aload_n (pc := 853) (x := v5) 4 rfl rfl dL_law_853 ?_
    refine g_bVi (pc := 854) (y := yX2_thrown) (ws := ws_ yX2_thrown cX2_thrown 1 (some .int)) (fr := 0) (lo := 0) (as := []) (st := []) (g_no) rfl (fun _ _ _ e => tX2_thrown hs e) (fun K _ _ _ hq hM R e1 e2 => g_runV (M := mL_law) (pc := 854) (y := yX2_thrown) (bytes := cX2_thrown) (maxL := 1) (ret := (some .int)) (fr := 0) (lo := 0) (as := []) (st := []) hq (C := "FlareSlopesModel") rfl gy_X2_thrown (gbl rfl) (gbl rfl) (gbl rfl) q4009 q4010 q4011 dL_law_854 K hM R e1 e2) fun v159 h160 => ?_
    refine g_iload (pc := 857) (x := v153) 1 rfl dL_law_857 ?_
    refine g_icmp_eq (pc := 859) (tgt := 864) rfl dL_law_859 ?_ ?_
    rotate_left
    · refine g_iconst (pc := 862) (v := (0 : Int32)) ic_0 dL_law_862 ?_
      exact g_zreturn (pc := 863) rfl dL_law_863
    refine g_iload (pc := 864) (x := v153) 1 rfl dL_law_864 ?_
    refine g_join 881 (fun (x161 : Unit) => [(0, gr a0), (1, gr v1), (2, gr v5), (3, gr v9), (4, gr v11), (5, gi x13)]) (fun (x161 : Unit) => []) (fun x161 h162 => ?_) (fun j163 Hj163 => ?_)
    · refine g_goto (pc := 881) (tgt := 4259) rfl dL_law_881 ?_
      exact Hj20 () h162
    refine g_if_ne (pc := 866) (tgt := 881) rfl dL_law_866 ?_ ?_
    rotate_left
    · exact g_sub [2, 3, 4, 5, 6, 7] rfl (Hj163 () h160)
    refine g_aload_n (pc := 869) (x := v9) 5 rfl rfl dL_law_869 ?_
    refine g_iconst (pc := 870) (v := (0 : Int32)) ic_0 dL_law_870 ?_
    refine g_laload (pc := 871) rfl dL_law_871 fun v164 => ?_
    refine g_iload (pc := 872) (x := v157) 0 rfl dL_law_872 ?_
    refine g_i2l (pc := 874) dL_law_874 ?_
    refine g_lcmp (pc := 875) dL_law_875 ?_
    refine g_if_eq (pc := 876) (tgt := 881) rfl dL_law_876 ?_ ?_
    · exact g_sub [2, 3, 4, 5, 6, 7] rfl (Hj163 () h160)
    refine g_iconst (pc := 879) (v := (0 : Int32)) ic_0 dL_law_879 ?_
    exact g_zreturn (pc := 880) rfl dL_law_880
  · refine g_aload_n (pc := 884) (x := v1) 1 rfl rfl dL_law_884 ?_
    refine g_aload_n (pc := 885) (x := a0) 0 rfl rfl dL_law_885 ?_
    refine g_iload (pc := 886) (x := x13) 5 rfl dL_law_886 ?_
    refine g_iconst (pc := 888) (v := (1 : Int32)) ic_1 dL_law_888 ?_
    refine g_iadd (pc := 889) dL_law_889 ?_
    refine g_iaload (pc := 890) rfl dL_law_890 fun v167 => ?_
    refine g_aload_n (pc := 891) (x := a0) 0 rfl rfl dL_law_891 ?_
    refine g_iload (pc := 892) (x := x13) 5 rfl dL_law_892 ?_
    refine g_iconst (pc := 894) (v := (2 : Int32)) ic_2 dL_law_894 ?_
    refine g_iadd (pc := 895) dL_law_895 ?_
    refine g_iaload (pc := 896) rfl dL_law_896 fun v168 => ?_
    refine g_aload_n (pc := 897) (x := v9) 3 rfl rfl dL_law_897 ?_
    refine g_bi (pc := 898) (y := yX0_fog) (ws := wsW_ yX0_fog cX0_fog 5 (some .int) [(0, 10, 13, 21), (0, 10, 17, 13), (0, 10, 21, 15)]) (fr := 9) (lo := 144) (as := [gr v1, gi v167, gi v168, gr v9]) (st := []) (g_no) rfl (fun _ _ e => tX0_fog hs e) (fun K _ _ hM R e1 e2 => g_runSX (M := mL_law) (pc := 898) (y := yX0_fog) (bytes := cX0_fog) (maxL := 5) (ret := (some .int)) (hh := [(0, 10, 13, 21), (0, 10, 17, 13), (0, 10, 21, 15)]) (fr := 9) (lo := 144) (as := [gr v1, gi v167, gi v168, gr v9]) (st := []) gy_X0_fog (gbl rfl) (gbl rfl) (gbl rfl) q3106 q3107 dL_law_898 K hM R e1 e2) fun v169 h170 => ?_
    refine g_istore (pc := 901) (lv' := [(6, gi v169), (0, gr a0), (1, gr v1), (2, gr v5), (3, gr v9), (4, gr v11), (5, gi x13)]) [0, 1, 2, 3, 4, 5, 6] rfl (gblt rfl) dL_law_901 ?_
    refine g_aload_n (pc := 903) (x := v5) 3 rfl rfl dL_law_903 ?_
    refine g_aload_n (pc := 904) (x := a0) 1 rfl rfl dL_law_904 ?_
    refine g_iload (pc := 905) (x := x13) 6 rfl dL_law_905 ?_
    refine g_iconst (pc := 907) (v := (1 : Int32)) ic_1 dL_law_907 ?_
    refine g_iadd (pc := 908) dL_law_908 ?_
    refine g_iaload (pc := 909) rfl dL_law_909 fun v171 => ?_
    refine g_aload_n (pc := 910) (x := a0) 1 rfl rfl dL_law_910 ?_
    refine g_iload (pc := 911) (x := x13) 6 rfl dL_law_911 ?_
    refine g_iconst (pc := 913) (v := (2 : Int32)) ic_2 dL_law_913 ?_
    refine g_iadd (pc := 914) dL_law_914 ?_
    refine g_iaload (pc := 915) rfl dL_law_915 fun v172 => ?_
    refine g_bVi (pc := 916) (y := yX2_fog) (ws := ws_ yX2_fog cX2_fog 3 (some .int)) (fr := 1) (lo := 23) (as := [gi v171, gi v172]) (st := []) (g_no) rfl (fun _ _ _ e => tX2_fog hs e) (fun K _ _ _ hq hM R e1 e2 => g_runV (M := mL_law) (pc := 916) (y := yX2_fog) (bytes := cX2_fog) (maxL := 3) (ret := (some .int)) (fr := 1) (lo := 23) (as := [gi v171, gi v172]) (st := []) hq (C := "FlareSlopesModel") rfl gy_X2_fog (gbl rfl) (gbl rfl) (gbl rfl) q4292 q4293 q4294 dL_law_916 K hM R e1 e2) fun v173 h174 => ?_
    refine g_istore (pc := 919) (lv' := [(7, gi v173), (6, gi v169), (0, gr a0), (1, gr v1), (2, gr v5), (3, gr v9), (4, gr v11), (5, gi x13)]) [0, 1, 2, 3, 4, 5, 6, 7] rfl (gblt rfl) dL_law_919 ?_
    refine g_aload_n (pc := 921) (x := v5) 4 rfl rfl dL_law_921 ?_
    refine g_bVi (pc := 922) (y := yX2_thrown) (ws := ws_ yX2_thrown cX2_thrown 1 (some .int)) (fr := 0) (lo := 0) (as := []) (st := []) (g_no) rfl (fun _ _ _ e => tX2_thrown hs e) (fun K _ _ _ hq hM R e1 e2 => g_runV (M := mL_law) (pc := 922) (y := yX2_thrown) (bytes := cX2_thrown) (maxL := 1) (ret := (some .int)) (fr := 0) (lo := 0) (as := []) (st := []) hq (C := "FlareSlopesModel") rfl gy_X2_thrown (gbl rfl) (gbl rfl) (gbl rfl) q4009 q4010 q4011 dL_law_922 K hM R e1 e2) fun v175 h176 => ?_
    refine g_iload (pc := 925) (x := v169) 1 rfl dL_law_925 ?_
    refine g_icmp_eq (pc := 927) (tgt := 932) rfl dL_law_927 ?_ ?_
    rotate_left
    · refine g_iconst (pc := 930) (v := (0 : Int32)) ic_0 dL_law_930 ?_
      exact g_zreturn (pc := 931) rfl dL_law_931
    refine g_iload (pc := 932) (x := v169) 1 rfl dL_law_932 ?_
    refine g_join 949 (fun (x177 : Unit) => [(0, gr a0), (1, gr v1), (2, gr v5), (3, gr v9), (4, gr v11), (5, gi x13)]) (fun (x177 : Unit) => []) (fun x177 h178 => ?_) (fun j179 Hj179 => ?_)
    · refine g_goto (pc := 949) (tgt := 4259) rfl dL_law_949 ?_
      exact Hj20 () h178
    refine g_if_ne (pc := 934) (tgt := 949) rfl dL_law_934 ?_ ?_
    rotate_left
    · exact g_sub [2, 3, 4, 5, 6, 7] rfl (Hj179 () h176)
    refine g_aload_n (pc := 937) (x := v9) 5 rfl rfl dL_law_937 ?_
    refine g_iconst (pc := 938) (v := (0 : Int32)) ic_0 dL_law_938 ?_
    refine g_laload (pc := 939) rfl dL_law_939 fun v180 => ?_
    refine g_iload (pc := 940) (x := v173) 0 rfl dL_law_940 ?_
    refine g_i2l (pc := 942) dL_law_942 ?_
    refine g_lcmp (pc := 943) dL_law_943 ?_
    refine g_if_eq (pc := 944) (tgt := 949) rfl dL_law_944 ?_ ?_
    · exact g_sub [2, 3, 4, 5, 6, 7] rfl (Hj179 () h176)
    refine g_iconst (pc := 947) (v := (0 : Int32)) ic_0 dL_law_947 ?_
    exact g_zreturn (pc := 948) rfl dL_law_948
  · refine g_aload_n (pc := 952) (x := v1) 1 rfl rfl dL_law_952 ?_
    refine g_aload_n (pc := 953) (x := v9) 3 rfl rfl dL_law_953 ?_
    refine g_bi (pc := 954) (y := yX0_sight) (ws := wsW_ yX0_sight cX0_sight 3 (some .int) [(0, 8, 11, 21)]) (fr := 9) (lo := 141) (as := [gr v1, gr v9]) (st := []) (g_no) rfl (fun _ _ e => tX0_sight hs e) (fun K _ _ hM R e1 e2 => g_runSX (M := mL_law) (pc := 954) (y := yX0_sight) (bytes := cX0_sight) (maxL := 3) (ret := (some .int)) (hh := [(0, 8, 11, 21)]) (fr := 9) (lo := 141) (as := [gr v1, gr v9]) (st := []) gy_X0_sight (gbl rfl) (gbl rfl) (gbl rfl) q3114 q3115 dL_law_954 K hM R e1 e2) fun v183 h184 => ?_
    refine g_istore (pc := 957) (lv' := [(6, gi v183), (0, gr a0), (1, gr v1), (2, gr v5), (3, gr v9), (4, gr v11), (5, gi x13)]) [0, 1, 2, 3, 4, 5, 6] rfl (gblt rfl) dL_law_957 ?_
    refine g_aload_n (pc := 959) (x := v5) 3 rfl rfl dL_law_959 ?_
    refine g_bVi (pc := 960) (y := yX2_sight) (ws := ws_ yX2_sight cX2_sight 1 (some .int)) (fr := 2) (lo := 44) (as := []) (st := []) (g_no) rfl (fun _ _ _ e => tX2_sight hs e) (fun K _ _ _ hq hM R e1 e2 => g_runV (M := mL_law) (pc := 960) (y := yX2_sight) (bytes := cX2_sight) (maxL := 1) (ret := (some .int)) (fr := 2) (lo := 44) (as := []) (st := []) hq (C := "FlareSlopesModel") rfl gy_X2_sight (gbl rfl) (gbl rfl) (gbl rfl) q4296 q4297 q4298 dL_law_960 K hM R e1 e2) fun v185 h186 => ?_
    refine g_istore (pc := 963) (lv' := [(7, gi v185), (6, gi v183), (0, gr a0), (1, gr v1), (2, gr v5), (3, gr v9), (4, gr v11), (5, gi x13)]) [0, 1, 2, 3, 4, 5, 6, 7] rfl (gblt rfl) dL_law_963 ?_
    refine g_aload_n (pc := 965) (x := v5) 4 rfl rfl dL_law_965 ?_
    refine g_bVi (pc := 966) (y := yX2_thrown) (ws := ws_ yX2_thrown cX2_thrown 1 (some .int)) (fr := 0) (lo := 0) (as := []) (st := []) (g_no) rfl (fun _ _ _ e => tX2_thrown hs e) (fun K _ _ _ hq hM R e1 e2 => g_runV (M := mL_law) (pc := 966) (y := yX2_thrown) (bytes := cX2_thrown) (maxL := 1) (ret := (some .int)) (fr := 0) (lo := 0) (as := []) (st := []) hq (C := "FlareSlopesModel") rfl gy_X2_thrown (gbl rfl) (gbl rfl) (gbl rfl) q4009 q4010 q4011 dL_law_966 K hM R e1 e2) fun v187 h188 => ?_
    refine g_iload (pc := 969) (x := v183) 1 rfl dL_law_969 ?_
    refine g_icmp_eq (pc := 971) (tgt := 976) rfl dL_law_971 ?_ ?_
    rotate_left
    · refine g_iconst (pc := 974) (v := (0 : Int32)) ic_0 dL_law_974 ?_
      exact g_zreturn (pc := 975) rfl dL_law_975
    refine g_iload (pc := 976) (x := v183) 1 rfl dL_law_976 ?_
    refine g_join 993 (fun (x189 : Unit) => [(0, gr a0), (1, gr v1), (2, gr v5), (3, gr v9), (4, gr v11), (5, gi x13)]) (fun (x189 : Unit) => []) (fun x189 h190 => ?_) (fun j191 Hj191 => ?_)
    · refine g_goto (pc := 993) (tgt := 4259) rfl dL_law_993 ?_
      exact Hj20 () h190
    refine g_if_ne (pc := 978) (tgt := 993) rfl dL_law_978 ?_ ?_
    rotate_left
    · exact g_sub [2, 3, 4, 5, 6, 7] rfl (Hj191 () h188)
    refine g_aload_n (pc := 981) (x := v9) 5 rfl rfl dL_law_981 ?_
    refine g_iconst (pc := 982) (v := (0 : Int32)) ic_0 dL_law_982 ?_
    refine g_laload (pc := 983) rfl dL_law_983 fun v192 => ?_
    refine g_iload (pc := 984) (x := v185) 0 rfl dL_law_984 ?_
    refine g_i2l (pc := 986) dL_law_986 ?_
    refine g_lcmp (pc := 987) dL_law_987 ?_
    refine g_if_eq (pc := 988) (tgt := 993) rfl dL_law_988 ?_ ?_
    · exact g_sub [2, 3, 4, 5, 6, 7] rfl (Hj191 () h188)
    refine g_iconst (pc := 991) (v := (0 : Int32)) ic_0 dL_law_991 ?_
    exact g_zreturn (pc := 992) rfl dL_law_992
  · refine g_aload_n (pc := 996) (x := v1) 1 rfl rfl dL_law_996 ?_
    refine g_aload_n (pc := 997) (x := a0) 0 rfl rfl dL_law_997 ?_
    refine g_iload (pc := 998) (x := x13) 5 rfl dL_law_998 ?_
    refine g_iconst (pc := 1000) (v := (1 : Int32)) ic_1 dL_law_1000 ?_
    refine g_iadd (pc := 1001) dL_law_1001 ?_
    refine g_iaload (pc := 1002) rfl dL_law_1002 fun v195 => ?_
    refine g_aload_n (pc := 1003) (x := a0) 0 rfl rfl dL_law_1003 ?_
    refine g_iload (pc := 1004) (x := x13) 5 rfl dL_law_1004 ?_
    refine g_iconst (pc := 1006) (v := (2 : Int32)) ic_2 dL_law_1006 ?_
    refine g_iadd (pc := 1007) dL_law_1007 ?_
    refine g_iaload (pc := 1008) rfl dL_law_1008 fun v196 => ?_
    refine g_aload_n (pc := 1009) (x := v9) 3 rfl rfl dL_law_1009 ?_
    refine g_bi (pc := 1010) (y := yX0_sees) (ws := wsW_ yX0_sees cX0_sees 5 (some .int) [(0, 17, 20, 21), (0, 17, 24, 13)]) (fr := 11) (lo := 188) (as := [gr v1, gi v195, gi v196, gr v9]) (st := []) (g_no) rfl (fun _ _ e => tX0_sees hs e) (fun K _ _ hM R e1 e2 => g_runSX (M := mL_law) (pc := 1010) (y := yX0_sees) (bytes := cX0_sees) (maxL := 5) (ret := (some .int)) (hh := [(0, 17, 20, 21), (0, 17, 24, 13)]) (fr := 11) (lo := 188) (as := [gr v1, gi v195, gi v196, gr v9]) (st := []) gy_X0_sees (gbl rfl) (gbl rfl) (gbl rfl) q3122 q3123 dL_law_1010 K hM R e1 e2) fun v197 h198 => ?_
    refine g_istore (pc := 1013) (lv' := [(6, gi v197), (0, gr a0), (1, gr v1), (2, gr v5), (3, gr v9), (4, gr v11), (5, gi x13)]) [0, 1, 2, 3, 4, 5, 6] rfl (gblt rfl) dL_law_1013 ?_
    refine g_aload_n (pc := 1015) (x := v5) 3 rfl rfl dL_law_1015 ?_
    refine g_aload_n (pc := 1016) (x := a0) 1 rfl rfl dL_law_1016 ?_
    refine g_iload (pc := 1017) (x := x13) 6 rfl dL_law_1017 ?_
    refine g_iconst (pc := 1019) (v := (1 : Int32)) ic_1 dL_law_1019 ?_
    refine g_iadd (pc := 1020) dL_law_1020 ?_
    refine g_iaload (pc := 1021) rfl dL_law_1021 fun v199 => ?_
    refine g_aload_n (pc := 1022) (x := a0) 1 rfl rfl dL_law_1022 ?_
    refine g_iload (pc := 1023) (x := x13) 6 rfl dL_law_1023 ?_
    refine g_iconst (pc := 1025) (v := (2 : Int32)) ic_2 dL_law_1025 ?_
    refine g_iadd (pc := 1026) dL_law_1026 ?_
    refine g_iaload (pc := 1027) rfl dL_law_1027 fun v200 => ?_
    refine g_bVi (pc := 1028) (y := yX2_sees) (ws := ws_ yX2_sees cX2_sees 3 (some .boolean)) (fr := 4) (lo := 93) (as := [gi v199, gi v200]) (st := []) (g_no) rfl (fun _ _ _ e => tX2_sees hs e) (fun K _ _ _ hq hM R e1 e2 => g_runV (M := mL_law) (pc := 1028) (y := yX2_sees) (bytes := cX2_sees) (maxL := 3) (ret := (some .boolean)) (fr := 4) (lo := 93) (as := [gi v199, gi v200]) (st := []) hq (C := "FlareSlopesModel") rfl gy_X2_sees (gbl rfl) (gbl rfl) (gbl rfl) q4304 q4305 q4306 dL_law_1028 K hM R e1 e2) fun v201 h202 => ?_
    refine g_istore (pc := 1031) (lv' := [(7, gi v201), (6, gi v197), (0, gr a0), (1, gr v1), (2, gr v5), (3, gr v9), (4, gr v11), (5, gi x13)]) [0, 1, 2, 3, 4, 5, 6, 7] rfl (gblt rfl) dL_law_1031 ?_
    refine g_aload_n (pc := 1033) (x := v5) 4 rfl rfl dL_law_1033 ?_
    refine g_bVi (pc := 1034) (y := yX2_thrown) (ws := ws_ yX2_thrown cX2_thrown 1 (some .int)) (fr := 0) (lo := 0) (as := []) (st := []) (g_no) rfl (fun _ _ _ e => tX2_thrown hs e) (fun K _ _ _ hq hM R e1 e2 => g_runV (M := mL_law) (pc := 1034) (y := yX2_thrown) (bytes := cX2_thrown) (maxL := 1) (ret := (some .int)) (fr := 0) (lo := 0) (as := []) (st := []) hq (C := "FlareSlopesModel") rfl gy_X2_thrown (gbl rfl) (gbl rfl) (gbl rfl) q4009 q4010 q4011 dL_law_1034 K hM R e1 e2) fun v203 h204 => ?_
    refine g_iload (pc := 1037) (x := v197) 1 rfl dL_law_1037 ?_
    refine g_icmp_eq (pc := 1039) (tgt := 1044) rfl dL_law_1039 ?_ ?_
    rotate_left
    · refine g_iconst (pc := 1042) (v := (0 : Int32)) ic_0 dL_law_1042 ?_
      exact g_zreturn (pc := 1043) rfl dL_law_1043
    refine g_iload (pc := 1044) (x := v197) 1 rfl dL_law_1044 ?_
    refine g_join 1068 (fun (x205 : Unit) => [(0, gr a0), (1, gr v1), (2, gr v5), (3, gr v9), (4, gr v11), (5, gi x13)]) (fun (x205 : Unit) => []) (fun x205 h206 => ?_) (fun j207 Hj207 => ?_)
    · refine g_goto (pc := 1068) (tgt := 4259) rfl dL_law_1068 ?_
      exact Hj20 () h206
    refine g_if_ne (pc := 1046) (tgt := 1068) rfl dL_law_1046 ?_ ?_
    rotate_left
    · exact g_sub [2, 3, 4, 5, 6, 7] rfl (Hj207 () h204)
    refine g_aload_n (pc := 1049) (x := v9) 5 rfl rfl dL_law_1049 ?_
    refine g_iconst (pc := 1050) (v := (0 : Int32)) ic_0 dL_law_1050 ?_
    refine g_laload (pc := 1051) rfl dL_law_1051 fun v208 => ?_
    refine g_iload (pc := 1052) (x := v201) 0 rfl dL_law_1052 ?_
    refine g_join 1062 (fun (x209 : Int64) => [(0, gr a0), (1, gr v1), (2, gr v5), (3, gr v9), (4, gr v11), (5, gi x13)]) (fun (x209 : Int64) => [gl x209, gl v208]) (fun x209 h210 => ?_) (fun j211 Hj211 => ?_)
    · refine g_lcmp (pc := 1062) dL_law_1062 ?_
      refine g_if_eq (pc := 1063) (tgt := 1068) rfl dL_law_1063 ?_ ?_
      · exact Hj207 () h210
      refine g_iconst (pc := 1066) (v := (0 : Int32)) ic_0 dL_law_1066 ?_
      exact g_zreturn (pc := 1067) rfl dL_law_1067
    refine g_if_eq (pc := 1054) (tgt := 1061) rfl dL_law_1054 ?_ ?_
    · refine g_lconst (pc := 1061) (v := (0 : Int64)) rfl dL_law_1061 ?_
      exact g_sub [2, 3, 4, 5, 6, 7] rfl (Hj211 (0 : Int64) h204)
    refine g_lconst (pc := 1057) (v := (1 : Int64)) rfl dL_law_1057 ?_
    refine g_goto (pc := 1058) (tgt := 1062) rfl dL_law_1058 ?_
    exact g_sub [2, 3, 4, 5, 6, 7] rfl (Hj211 (1 : Int64) h204)
  · refine g_aload_n (pc := 1071) (x := v1) 1 rfl rfl dL_law_1071 ?_
    refine g_aload_n (pc := 1072) (x := a0) 0 rfl rfl dL_law_1072 ?_
    refine g_iload (pc := 1073) (x := x13) 5 rfl dL_law_1073 ?_
    refine g_iconst (pc := 1075) (v := (1 : Int32)) ic_1 dL_law_1075 ?_
    refine g_iadd (pc := 1076) dL_law_1076 ?_
    refine g_iaload (pc := 1077) rfl dL_law_1077 fun v214 => ?_
    refine g_aload_n (pc := 1078) (x := a0) 0 rfl rfl dL_law_1078 ?_
    refine g_iload (pc := 1079) (x := x13) 5 rfl dL_law_1079 ?_
    refine g_iconst (pc := 1081) (v := (2 : Int32)) ic_2 dL_law_1081 ?_
    refine g_iadd (pc := 1082) dL_law_1082 ?_
    refine g_iaload (pc := 1083) rfl dL_law_1083 fun v215 => ?_
    refine g_aload_n (pc := 1084) (x := v9) 3 rfl rfl dL_law_1084 ?_
    refine g_bi (pc := 1085) (y := yX0_seesSlope) (ws := wsW_ yX0_seesSlope cX0_seesSlope 5 (some .int) [(0, 17, 20, 21), (0, 17, 24, 13)]) (fr := 11) (lo := 188) (as := [gr v1, gi v214, gi v215, gr v9]) (st := []) (g_no) rfl (fun _ _ e => tX0_seesSlope hs e) (fun K _ _ hM R e1 e2 => g_runSX (M := mL_law) (pc := 1085) (y := yX0_seesSlope) (bytes := cX0_seesSlope) (maxL := 5) (ret := (some .int)) (hh := [(0, 17, 20, 21), (0, 17, 24, 13)]) (fr := 11) (lo := 188) (as := [gr v1, gi v214, gi v215, gr v9]) (st := []) gy_X0_seesSlope (gbl rfl) (gbl rfl) (gbl rfl) q3134 q3135 dL_law_1085 K hM R e1 e2) fun v216 h217 => ?_
    refine g_istore (pc := 1088) (lv' := [(6, gi v216), (0, gr a0), (1, gr v1), (2, gr v5), (3, gr v9), (4, gr v11), (5, gi x13)]) [0, 1, 2, 3, 4, 5, 6] rfl (gblt rfl) dL_law_1088 ?_
    refine g_aload_n (pc := 1090) (x := v5) 3 rfl rfl dL_law_1090 ?_
    refine g_aload_n (pc := 1091) (x := a0) 1 rfl rfl dL_law_1091 ?_
    refine g_iload (pc := 1092) (x := x13) 6 rfl dL_law_1092 ?_
    refine g_iconst (pc := 1094) (v := (1 : Int32)) ic_1 dL_law_1094 ?_
    refine g_iadd (pc := 1095) dL_law_1095 ?_
    refine g_iaload (pc := 1096) rfl dL_law_1096 fun v218 => ?_
    refine g_aload_n (pc := 1097) (x := a0) 1 rfl rfl dL_law_1097 ?_
    refine g_iload (pc := 1098) (x := x13) 6 rfl dL_law_1098 ?_
    refine g_iconst (pc := 1100) (v := (2 : Int32)) ic_2 dL_law_1100 ?_
    refine g_iadd (pc := 1101) dL_law_1101 ?_
    refine g_iaload (pc := 1102) rfl dL_law_1102 fun v219 => ?_
    refine g_bVi (pc := 1103) (y := yX2_seesSlope) (ws := ws_ yX2_seesSlope cX2_seesSlope 3 (some .boolean)) (fr := 3) (lo := 71) (as := [gi v218, gi v219]) (st := []) (g_no) rfl (fun _ _ _ e => tX2_seesSlope hs e) (fun K _ _ _ hq hM R e1 e2 => g_runV (M := mL_law) (pc := 1103) (y := yX2_seesSlope) (bytes := cX2_seesSlope) (maxL := 3) (ret := (some .boolean)) (fr := 3) (lo := 71) (as := [gi v218, gi v219]) (st := []) hq (C := "FlareSlopesModel") rfl gy_X2_seesSlope (gbl rfl) (gbl rfl) (gbl rfl) q4312 q4313 q4314 dL_law_1103 K hM R e1 e2) fun v220 h221 => ?_
    refine g_istore (pc := 1106) (lv' := [(7, gi v220), (6, gi v216), (0, gr a0), (1, gr v1), (2, gr v5), (3, gr v9), (4, gr v11), (5, gi x13)]) [0, 1, 2, 3, 4, 5, 6, 7] rfl (gblt rfl) dL_law_1106 ?_
    refine g_aload_n (pc := 1108) (x := v5) 4 rfl rfl dL_law_1108 ?_
    refine g_bVi (pc := 1109) (y := yX2_thrown) (ws := ws_ yX2_thrown cX2_thrown 1 (some .int)) (fr := 0) (lo := 0) (as := []) (st := []) (g_no) rfl (fun _ _ _ e => tX2_thrown hs e) (fun K _ _ _ hq hM R e1 e2 => g_runV (M := mL_law) (pc := 1109) (y := yX2_thrown) (bytes := cX2_thrown) (maxL := 1) (ret := (some .int)) (fr := 0) (lo := 0) (as := []) (st := []) hq (C := "FlareSlopesModel") rfl gy_X2_thrown (gbl rfl) (gbl rfl) (gbl rfl) q4009 q4010 q4011 dL_law_1109 K hM R e1 e2) fun v222 h223 => ?_
    refine g_iload (pc := 1112) (x := v216) 1 rfl dL_law_1112 ?_
    refine g_icmp_eq (pc := 1114) (tgt := 1119) rfl dL_law_1114 ?_ ?_
    rotate_left
    · refine g_iconst (pc := 1117) (v := (0 : Int32)) ic_0 dL_law_1117 ?_
      exact g_zreturn (pc := 1118) rfl dL_law_1118
    refine g_iload (pc := 1119) (x := v216) 1 rfl dL_law_1119 ?_
    refine g_join 1143 (fun (x224 : Unit) => [(0, gr a0), (1, gr v1), (2, gr v5), (3, gr v9), (4, gr v11), (5, gi x13)]) (fun (x224 : Unit) => []) (fun x224 h225 => ?_) (fun j226 Hj226 => ?_)
    · refine g_goto (pc := 1143) (tgt := 4259) rfl dL_law_1143 ?_
      exact Hj20 () h225
    refine g_if_ne (pc := 1121) (tgt := 1143) rfl dL_law_1121 ?_ ?_
    rotate_left
    · exact g_sub [2, 3, 4, 5, 6, 7] rfl (Hj226 () h223)
    refine g_aload_n (pc := 1124) (x := v9) 5 rfl rfl dL_law_1124 ?_
    refine g_iconst (pc := 1125) (v := (0 : Int32)) ic_0 dL_law_1125 ?_
    refine g_laload (pc := 1126) rfl dL_law_1126 fun v227 => ?_
    refine g_iload (pc := 1127) (x := v220) 0 rfl dL_law_1127 ?_
    refine g_join 1137 (fun (x228 : Int64) => [(0, gr a0), (1, gr v1), (2, gr v5), (3, gr v9), (4, gr v11), (5, gi x13)]) (fun (x228 : Int64) => [gl x228, gl v227]) (fun x228 h229 => ?_) (fun j230 Hj230 => ?_)
    · refine g_lcmp (pc := 1137) dL_law_1137 ?_
      refine g_if_eq (pc := 1138) (tgt := 1143) rfl dL_law_1138 ?_ ?_
      · exact Hj226 () h229
      refine g_iconst (pc := 1141) (v := (0 : Int32)) ic_0 dL_law_1141 ?_
      exact g_zreturn (pc := 1142) rfl dL_law_1142
    refine g_if_eq (pc := 1129) (tgt := 1136) rfl dL_law_1129 ?_ ?_
    · refine g_lconst (pc := 1136) (v := (0 : Int64)) rfl dL_law_1136 ?_
      exact g_sub [2, 3, 4, 5, 6, 7] rfl (Hj230 (0 : Int64) h223)
    refine g_lconst (pc := 1132) (v := (1 : Int64)) rfl dL_law_1132 ?_
    refine g_goto (pc := 1133) (tgt := 1137) rfl dL_law_1133 ?_
    exact g_sub [2, 3, 4, 5, 6, 7] rfl (Hj230 (1 : Int64) h223)
  · refine g_aload_n (pc := 1146) (x := v1) 1 rfl rfl dL_law_1146 ?_
    refine g_aload_n (pc := 1147) (x := a0) 0 rfl rfl dL_law_1147 ?_
    refine g_iload (pc := 1148) (x := x13) 5 rfl dL_law_1148 ?_
    refine g_iconst (pc := 1150) (v := (1 : Int32)) ic_1 dL_law_1150 ?_
    refine g_iadd (pc := 1151) dL_law_1151 ?_
    refine g_iaload (pc := 1152) rfl dL_law_1152 fun v233 => ?_
    refine g_aload_n (pc := 1153) (x := v9) 3 rfl rfl dL_law_1153 ?_
    refine g_bi (pc := 1154) (y := yX0_seers) (ws := wsW_ yX0_seers cX0_seers 4 (some .int) [(0, 9, 12, 21), (0, 9, 15, 13)]) (fr := 10) (lo := 196) (as := [gr v1, gi v233, gr v9]) (st := []) (g_no) rfl (fun _ _ e => tX0_seers hs e) (fun K _ _ hM R e1 e2 => g_runSX (M := mL_law) (pc := 1154) (y := yX0_seers) (bytes := cX0_seers) (maxL := 4) (ret := (some .int)) (hh := [(0, 9, 12, 21), (0, 9, 15, 13)]) (fr := 10) (lo := 196) (as := [gr v1, gi v233, gr v9]) (st := []) gy_X0_seers (gbl rfl) (gbl rfl) (gbl rfl) q3145 q3146 dL_law_1154 K hM R e1 e2) fun v234 h235 => ?_
    refine g_istore (pc := 1157) (lv' := [(6, gi v234), (0, gr a0), (1, gr v1), (2, gr v5), (3, gr v9), (4, gr v11), (5, gi x13)]) [0, 1, 2, 3, 4, 5, 6] rfl (gblt rfl) dL_law_1157 ?_
    refine g_aload_n (pc := 1159) (x := v5) 3 rfl rfl dL_law_1159 ?_
    refine g_aload_n (pc := 1160) (x := a0) 1 rfl rfl dL_law_1160 ?_
    refine g_iload (pc := 1161) (x := x13) 6 rfl dL_law_1161 ?_
    refine g_iconst (pc := 1163) (v := (1 : Int32)) ic_1 dL_law_1163 ?_
    refine g_iadd (pc := 1164) dL_law_1164 ?_
    refine g_iaload (pc := 1165) rfl dL_law_1165 fun v236 => ?_
    refine g_bVi (pc := 1166) (y := yX2_seers) (ws := ws_ yX2_seers cX2_seers 2 (some .int)) (fr := 5) (lo := 116) (as := [gi v236]) (st := []) (g_no) rfl (fun _ _ _ e => tX2_seers hs e) (fun K _ _ _ hq hM R e1 e2 => g_runV (M := mL_law) (pc := 1166) (y := yX2_seers) (bytes := cX2_seers) (maxL := 2) (ret := (some .int)) (fr := 5) (lo := 116) (as := [gi v236]) (st := []) hq (C := "FlareSlopesModel") rfl gy_X2_seers (gbl rfl) (gbl rfl) (gbl rfl) q4320 q4321 q4322 dL_law_1166 K hM R e1 e2) fun v237 h238 => ?_
    refine g_istore (pc := 1169) (lv' := [(7, gi v237), (6, gi v234), (0, gr a0), (1, gr v1), (2, gr v5), (3, gr v9), (4, gr v11), (5, gi x13)]) [0, 1, 2, 3, 4, 5, 6, 7] rfl (gblt rfl) dL_law_1169 ?_
    refine g_aload_n (pc := 1171) (x := v5) 4 rfl rfl dL_law_1171 ?_
    refine g_bVi (pc := 1172) (y := yX2_thrown) (ws := ws_ yX2_thrown cX2_thrown 1 (some .int)) (fr := 0) (lo := 0) (as := []) (st := []) (g_no) rfl (fun _ _ _ e => tX2_thrown hs e) (fun K _ _ _ hq hM R e1 e2 => g_runV (M := mL_law) (pc := 1172) (y := yX2_thrown) (bytes := cX2_thrown) (maxL := 1) (ret := (some .int)) (fr := 0) (lo := 0) (as := []) (st := []) hq (C := "FlareSlopesModel") rfl gy_X2_thrown (gbl rfl) (gbl rfl) (gbl rfl) q4009 q4010 q4011 dL_law_1172 K hM R e1 e2) fun v239 h240 => ?_
    refine g_iload (pc := 1175) (x := v234) 1 rfl dL_law_1175 ?_
    refine g_icmp_eq (pc := 1177) (tgt := 1182) rfl dL_law_1177 ?_ ?_
    rotate_left
    · refine g_iconst (pc := 1180) (v := (0 : Int32)) ic_0 dL_law_1180 ?_
      exact g_zreturn (pc := 1181) rfl dL_law_1181
    refine g_iload (pc := 1182) (x := v234) 1 rfl dL_law_1182 ?_
    refine g_join 1199 (fun (x241 : Unit) => [(0, gr a0), (1, gr v1), (2, gr v5), (3, gr v9), (4, gr v11), (5, gi x13)]) (fun (x241 : Unit) => []) (fun x241 h242 => ?_) (fun j243 Hj243 => ?_)
    · refine g_goto (pc := 1199) (tgt := 4259) rfl dL_law_1199 ?_
      exact Hj20 () h242
    refine g_if_ne (pc := 1184) (tgt := 1199) rfl dL_law_1184 ?_ ?_
    rotate_left
    · exact g_sub [2, 3, 4, 5, 6, 7] rfl (Hj243 () h240)
    refine g_aload_n (pc := 1187) (x := v9) 5 rfl rfl dL_law_1187 ?_
    refine g_iconst (pc := 1188) (v := (0 : Int32)) ic_0 dL_law_1188 ?_
    refine g_laload (pc := 1189) rfl dL_law_1189 fun v244 => ?_
    refine g_iload (pc := 1190) (x := v237) 0 rfl dL_law_1190 ?_
    refine g_i2l (pc := 1192) dL_law_1192 ?_
    refine g_lcmp (pc := 1193) dL_law_1193 ?_
    refine g_if_eq (pc := 1194) (tgt := 1199) rfl dL_law_1194 ?_ ?_
    · exact g_sub [2, 3, 4, 5, 6, 7] rfl (Hj243 () h240)
    refine g_iconst (pc := 1197) (v := (0 : Int32)) ic_0 dL_law_1197 ?_
    exact g_zreturn (pc := 1198) rfl dL_law_1198
  · refine g_aload_n (pc := 1202) (x := v1) 1 rfl rfl dL_law_1202 ?_
    refine g_aload_n (pc := 1203) (x := a0) 0 rfl rfl dL_law_1203 ?_
    refine g_iload (pc := 1204) (x := x13) 5 rfl dL_law_1204 ?_
    refine g_iconst (pc := 1206) (v := (1 : Int32)) ic_1 dL_law_1206 ?_
    refine g_iadd (pc := 1207) dL_law_1207 ?_
    refine g_iaload (pc := 1208) rfl dL_law_1208 fun v247 => ?_
    refine g_aload_n (pc := 1209) (x := a0) 0 rfl rfl dL_law_1209 ?_
    refine g_iload (pc := 1210) (x := x13) 5 rfl dL_law_1210 ?_
    refine g_iconst (pc := 1212) (v := (2 : Int32)) ic_2 dL_law_1212 ?_
    refine g_iadd (pc := 1213) dL_law_1213 ?_
    refine g_iaload (pc := 1214) rfl dL_law_1214 fun v248 => ?_
    refine g_aload_n (pc := 1215) (x := v9) 3 rfl rfl dL_law_1215 ?_
    refine g_bi (pc := 1216) (y := yX0_distance) (ws := wsW_ yX0_distance cX0_distance 5 (some .int) [(0, 10, 13, 21), (0, 10, 17, 13)]) (fr := 11) (lo := 187) (as := [gr v1, gi v247, gi v248, gr v9]) (st := []) (g_no) rfl (fun _ _ e => tX0_distance hs e) (fun K _ _ hM R e1 e2 => g_runSX (M := mL_law) (pc := 1216) (y := yX0_distance) (bytes := cX0_distance) (maxL := 5) (ret := (some .int)) (hh := [(0, 10, 13, 21), (0, 10, 17, 13)]) (fr := 11) (lo := 187) (as := [gr v1, gi v247, gi v248, gr v9]) (st := []) gy_X0_distance (gbl rfl) (gbl rfl) (gbl rfl) q3152 q3153 dL_law_1216 K hM R e1 e2) fun v249 h250 => ?_
    refine g_istore (pc := 1219) (lv' := [(6, gi v249), (0, gr a0), (1, gr v1), (2, gr v5), (3, gr v9), (4, gr v11), (5, gi x13)]) [0, 1, 2, 3, 4, 5, 6] rfl (gblt rfl) dL_law_1219 ?_
    refine g_aload_n (pc := 1221) (x := v5) 3 rfl rfl dL_law_1221 ?_
    refine g_aload_n (pc := 1222) (x := a0) 1 rfl rfl dL_law_1222 ?_
    refine g_iload (pc := 1223) (x := x13) 6 rfl dL_law_1223 ?_
    refine g_iconst (pc := 1225) (v := (1 : Int32)) ic_1 dL_law_1225 ?_
    refine g_iadd (pc := 1226) dL_law_1226 ?_
    refine g_iaload (pc := 1227) rfl dL_law_1227 fun v251 => ?_
    refine g_aload_n (pc := 1228) (x := a0) 1 rfl rfl dL_law_1228 ?_
    refine g_iload (pc := 1229) (x := x13) 6 rfl dL_law_1229 ?_
    refine g_iconst (pc := 1231) (v := (2 : Int32)) ic_2 dL_law_1231 ?_
    refine g_iadd (pc := 1232) dL_law_1232 ?_
    refine g_iaload (pc := 1233) rfl dL_law_1233 fun v252 => ?_
    refine g_bVi (pc := 1234) (y := yX2_distance) (ws := ws_ yX2_distance cX2_distance 3 (some .int)) (fr := 3) (lo := 67) (as := [gi v251, gi v252]) (st := []) (g_no) rfl (fun _ _ _ e => tX2_distance hs e) (fun K _ _ _ hq hM R e1 e2 => g_runV (M := mL_law) (pc := 1234) (y := yX2_distance) (bytes := cX2_distance) (maxL := 3) (ret := (some .int)) (fr := 3) (lo := 67) (as := [gi v251, gi v252]) (st := []) hq (C := "FlareSlopesModel") rfl gy_X2_distance (gbl rfl) (gbl rfl) (gbl rfl) q4348 q4349 q4350 dL_law_1234 K hM R e1 e2) fun v253 h254 => ?_
    refine g_istore (pc := 1237) (lv' := [(7, gi v253), (6, gi v249), (0, gr a0), (1, gr v1), (2, gr v5), (3, gr v9), (4, gr v11), (5, gi x13)]) [0, 1, 2, 3, 4, 5, 6, 7] rfl (gblt rfl) dL_law_1237 ?_
    refine g_aload_n (pc := 1239) (x := v5) 4 rfl rfl dL_law_1239 ?_
    refine g_bVi (pc := 1240) (y := yX2_thrown) (ws := ws_ yX2_thrown cX2_thrown 1 (some .int)) (fr := 0) (lo := 0) (as := []) (st := []) (g_no) rfl (fun _ _ _ e => tX2_thrown hs e) (fun K _ _ _ hq hM R e1 e2 => g_runV (M := mL_law) (pc := 1240) (y := yX2_thrown) (bytes := cX2_thrown) (maxL := 1) (ret := (some .int)) (fr := 0) (lo := 0) (as := []) (st := []) hq (C := "FlareSlopesModel") rfl gy_X2_thrown (gbl rfl) (gbl rfl) (gbl rfl) q4009 q4010 q4011 dL_law_1240 K hM R e1 e2) fun v255 h256 => ?_
    refine g_iload (pc := 1243) (x := v249) 1 rfl dL_law_1243 ?_
    refine g_icmp_eq (pc := 1245) (tgt := 1250) rfl dL_law_1245 ?_ ?_
    rotate_left
    · refine g_iconst (pc := 1248) (v := (0 : Int32)) ic_0 dL_law_1248 ?_
      exact g_zreturn (pc := 1249) rfl dL_law_1249
    refine g_iload (pc := 1250) (x := v249) 1 rfl dL_law_1250 ?_
    refine g_join 1267 (fun (x257 : Unit) => [(0, gr a0), (1, gr v1), (2, gr v5), (3, gr v9), (4, gr v11), (5, gi x13)]) (fun (x257 : Unit) => []) (fun x257 h258 => ?_) (fun j259 Hj259 => ?_)
    · refine g_goto (pc := 1267) (tgt := 4259) rfl dL_law_1267 ?_
      exact Hj20 () h258
    refine g_if_ne (pc := 1252) (tgt := 1267) rfl dL_law_1252 ?_ ?_
    rotate_left
    · exact g_sub [2, 3, 4, 5, 6, 7] rfl (Hj259 () h256)
    refine g_aload_n (pc := 1255) (x := v9) 5 rfl rfl dL_law_1255 ?_
    refine g_iconst (pc := 1256) (v := (0 : Int32)) ic_0 dL_law_1256 ?_
    refine g_laload (pc := 1257) rfl dL_law_1257 fun v260 => ?_
    refine g_iload (pc := 1258) (x := v253) 0 rfl dL_law_1258 ?_
    refine g_i2l (pc := 1260) dL_law_1260 ?_
    refine g_lcmp (pc := 1261) dL_law_1261 ?_
    refine g_if_eq (pc := 1262) (tgt := 1267) rfl dL_law_1262 ?_ ?_
    · exact g_sub [2, 3, 4, 5, 6, 7] rfl (Hj259 () h256)
    refine g_iconst (pc := 1265) (v := (0 : Int32)) ic_0 dL_law_1265 ?_
    exact g_zreturn (pc := 1266) rfl dL_law_1266
  · refine g_aload_n (pc := 1270) (x := v1) 1 rfl rfl dL_law_1270 ?_
    refine g_aload_n (pc := 1271) (x := a0) 0 rfl rfl dL_law_1271 ?_
    refine g_iload (pc := 1272) (x := x13) 5 rfl dL_law_1272 ?_
    refine g_iconst (pc := 1274) (v := (1 : Int32)) ic_1 dL_law_1274 ?_
    refine g_iadd (pc := 1275) dL_law_1275 ?_
    refine g_iaload (pc := 1276) rfl dL_law_1276 fun v263 => ?_
    refine g_aload_n (pc := 1277) (x := v9) 3 rfl rfl dL_law_1277 ?_
    refine g_bi (pc := 1278) (y := yX0_reached) (ws := wsW_ yX0_reached cX0_reached 4 (some .int) [(0, 9, 12, 21), (0, 9, 15, 13)]) (fr := 10) (lo := 222) (as := [gr v1, gi v263, gr v9]) (st := []) (g_no) rfl (fun _ _ e => tX0_reached hs e) (fun K _ _ hM R e1 e2 => g_runSX (M := mL_law) (pc := 1278) (y := yX0_reached) (bytes := cX0_reached) (maxL := 4) (ret := (some .int)) (hh := [(0, 9, 12, 21), (0, 9, 15, 13)]) (fr := 10) (lo := 222) (as := [gr v1, gi v263, gr v9]) (st := []) gy_X0_reached (gbl rfl) (gbl rfl) (gbl rfl) q3159 q3160 dL_law_1278 K hM R e1 e2) fun v264 h265 => ?_
    refine g_istore (pc := 1281) (lv' := [(6, gi v264), (0, gr a0), (1, gr v1), (2, gr v5), (3, gr v9), (4, gr v11), (5, gi x13)]) [0, 1, 2, 3, 4, 5, 6] rfl (gblt rfl) dL_law_1281 ?_
    refine g_aload_n (pc := 1283) (x := v5) 3 rfl rfl dL_law_1283 ?_
    refine g_aload_n (pc := 1284) (x := a0) 1 rfl rfl dL_law_1284 ?_
    refine g_iload (pc := 1285) (x := x13) 6 rfl dL_law_1285 ?_
    refine g_iconst (pc := 1287) (v := (1 : Int32)) ic_1 dL_law_1287 ?_
    refine g_iadd (pc := 1288) dL_law_1288 ?_
    refine g_iaload (pc := 1289) rfl dL_law_1289 fun v266 => ?_
    refine g_bVi (pc := 1290) (y := yX2_reached) (ws := ws_ yX2_reached cX2_reached 4 (some .int)) (fr := 6) (lo := 139) (as := [gi v266]) (st := []) (g_no) rfl (fun _ _ _ e => tX2_reached hs e) (fun K _ _ _ hq hM R e1 e2 => g_runV (M := mL_law) (pc := 1290) (y := yX2_reached) (bytes := cX2_reached) (maxL := 4) (ret := (some .int)) (fr := 6) (lo := 139) (as := [gi v266]) (st := []) hq (C := "FlareSlopesModel") rfl gy_X2_reached (gbl rfl) (gbl rfl) (gbl rfl) q4332 q4333 q4334 dL_law_1290 K hM R e1 e2) fun v267 h268 => ?_
    refine g_istore (pc := 1293) (lv' := [(7, gi v267), (6, gi v264), (0, gr a0), (1, gr v1), (2, gr v5), (3, gr v9), (4, gr v11), (5, gi x13)]) [0, 1, 2, 3, 4, 5, 6, 7] rfl (gblt rfl) dL_law_1293 ?_
    refine g_aload_n (pc := 1295) (x := v5) 4 rfl rfl dL_law_1295 ?_
    refine g_bVi (pc := 1296) (y := yX2_thrown) (ws := ws_ yX2_thrown cX2_thrown 1 (some .int)) (fr := 0) (lo := 0) (as := []) (st := []) (g_no) rfl (fun _ _ _ e => tX2_thrown hs e) (fun K _ _ _ hq hM R e1 e2 => g_runV (M := mL_law) (pc := 1296) (y := yX2_thrown) (bytes := cX2_thrown) (maxL := 1) (ret := (some .int)) (fr := 0) (lo := 0) (as := []) (st := []) hq (C := "FlareSlopesModel") rfl gy_X2_thrown (gbl rfl) (gbl rfl) (gbl rfl) q4009 q4010 q4011 dL_law_1296 K hM R e1 e2) fun v269 h270 => ?_
    refine g_iload (pc := 1299) (x := v264) 1 rfl dL_law_1299 ?_
    refine g_icmp_eq (pc := 1301) (tgt := 1306) rfl dL_law_1301 ?_ ?_
    rotate_left
    · refine g_iconst (pc := 1304) (v := (0 : Int32)) ic_0 dL_law_1304 ?_
      exact g_zreturn (pc := 1305) rfl dL_law_1305
    refine g_iload (pc := 1306) (x := v264) 1 rfl dL_law_1306 ?_
    refine g_join 1323 (fun (x271 : Unit) => [(0, gr a0), (1, gr v1), (2, gr v5), (3, gr v9), (4, gr v11), (5, gi x13)]) (fun (x271 : Unit) => []) (fun x271 h272 => ?_) (fun j273 Hj273 => ?_)
    · refine g_goto (pc := 1323) (tgt := 4259) rfl dL_law_1323 ?_
      exact Hj20 () h272
    refine g_if_ne (pc := 1308) (tgt := 1323) rfl dL_law_1308 ?_ ?_
    rotate_left
    · exact g_sub [2, 3, 4, 5, 6, 7] rfl (Hj273 () h270)
    refine g_aload_n (pc := 1311) (x := v9) 5 rfl rfl dL_law_1311 ?_
    refine g_iconst (pc := 1312) (v := (0 : Int32)) ic_0 dL_law_1312 ?_
    refine g_laload (pc := 1313) rfl dL_law_1313 fun v274 => ?_
    refine g_iload (pc := 1314) (x := v267) 0 rfl dL_law_1314 ?_
    refine g_i2l (pc := 1316) dL_law_1316 ?_
    refine g_lcmp (pc := 1317) dL_law_1317 ?_
    refine g_if_eq (pc := 1318) (tgt := 1323) rfl dL_law_1318 ?_ ?_
    · exact g_sub [2, 3, 4, 5, 6, 7] rfl (Hj273 () h270)
    refine g_iconst (pc := 1321) (v := (0 : Int32)) ic_0 dL_law_1321 ?_
    exact g_zreturn (pc := 1322) rfl dL_law_1322
  · refine g_aload_n (pc := 1326) (x := v1) 1 rfl rfl dL_law_1326 ?_
    refine g_aload_n (pc := 1327) (x := a0) 0 rfl rfl dL_law_1327 ?_
    refine g_iload (pc := 1328) (x := x13) 5 rfl dL_law_1328 ?_
    refine g_iconst (pc := 1330) (v := (1 : Int32)) ic_1 dL_law_1330 ?_
    refine g_iadd (pc := 1331) dL_law_1331 ?_
    refine g_iaload (pc := 1332) rfl dL_law_1332 fun v277 => ?_
    refine g_aload_n (pc := 1333) (x := a0) 0 rfl rfl dL_law_1333 ?_
    refine g_iload (pc := 1334) (x := x13) 5 rfl dL_law_1334 ?_
    refine g_iconst (pc := 1336) (v := (2 : Int32)) ic_2 dL_law_1336 ?_
    refine g_iadd (pc := 1337) dL_law_1337 ?_
    refine g_iaload (pc := 1338) rfl dL_law_1338 fun v278 => ?_
    refine g_aload_n (pc := 1339) (x := v9) 3 rfl rfl dL_law_1339 ?_
    refine g_bi (pc := 1340) (y := yX0_steps) (ws := wsW_ yX0_steps cX0_steps 5 (some .int) [(0, 10, 13, 21), (0, 10, 17, 13)]) (fr := 11) (lo := 246) (as := [gr v1, gi v277, gi v278, gr v9]) (st := []) (g_no) rfl (fun _ _ e => tX0_steps hs e) (fun K _ _ hM R e1 e2 => g_runSX (M := mL_law) (pc := 1340) (y := yX0_steps) (bytes := cX0_steps) (maxL := 5) (ret := (some .int)) (hh := [(0, 10, 13, 21), (0, 10, 17, 13)]) (fr := 11) (lo := 246) (as := [gr v1, gi v277, gi v278, gr v9]) (st := []) gy_X0_steps (gbl rfl) (gbl rfl) (gbl rfl) q3171 q3172 dL_law_1340 K hM R e1 e2) fun v279 h280 => ?_
    refine g_istore (pc := 1343) (lv' := [(6, gi v279), (0, gr a0), (1, gr v1), (2, gr v5), (3, gr v9), (4, gr v11), (5, gi x13)]) [0, 1, 2, 3, 4, 5, 6] rfl (gblt rfl) dL_law_1343 ?_
    refine g_aload_n (pc := 1345) (x := v5) 3 rfl rfl dL_law_1345 ?_
    refine g_aload_n (pc := 1346) (x := a0) 1 rfl rfl dL_law_1346 ?_
    refine g_iload (pc := 1347) (x := x13) 6 rfl dL_law_1347 ?_
    refine g_iconst (pc := 1349) (v := (1 : Int32)) ic_1 dL_law_1349 ?_
    refine g_iadd (pc := 1350) dL_law_1350 ?_
    refine g_iaload (pc := 1351) rfl dL_law_1351 fun v281 => ?_
    refine g_aload_n (pc := 1352) (x := a0) 1 rfl rfl dL_law_1352 ?_
    refine g_iload (pc := 1353) (x := x13) 6 rfl dL_law_1353 ?_
    refine g_iconst (pc := 1355) (v := (2 : Int32)) ic_2 dL_law_1355 ?_
    refine g_iadd (pc := 1356) dL_law_1356 ?_
    refine g_iaload (pc := 1357) rfl dL_law_1357 fun v282 => ?_
    refine g_bVi (pc := 1358) (y := yX2_steps) (ws := ws_ yX2_steps cX2_steps 5 (some .int)) (fr := 6) (lo := 139) (as := [gi v281, gi v282]) (st := []) (g_no) rfl (fun _ _ _ e => tX2_steps hs e) (fun K _ _ _ hq hM R e1 e2 => g_runV (M := mL_law) (pc := 1358) (y := yX2_steps) (bytes := cX2_steps) (maxL := 5) (ret := (some .int)) (fr := 6) (lo := 139) (as := [gi v281, gi v282]) (st := []) hq (C := "FlareSlopesModel") rfl gy_X2_steps (gbl rfl) (gbl rfl) (gbl rfl) q4340 q4341 q4342 dL_law_1358 K hM R e1 e2) fun v283 h284 => ?_
    refine g_istore (pc := 1361) (lv' := [(7, gi v283), (6, gi v279), (0, gr a0), (1, gr v1), (2, gr v5), (3, gr v9), (4, gr v11), (5, gi x13)]) [0, 1, 2, 3, 4, 5, 6, 7] rfl (gblt rfl) dL_law_1361 ?_
    refine g_aload_n (pc := 1363) (x := v5) 4 rfl rfl dL_law_1363 ?_
    refine g_bVi (pc := 1364) (y := yX2_thrown) (ws := ws_ yX2_thrown cX2_thrown 1 (some .int)) (fr := 0) (lo := 0) (as := []) (st := []) (g_no) rfl (fun _ _ _ e => tX2_thrown hs e) (fun K _ _ _ hq hM R e1 e2 => g_runV (M := mL_law) (pc := 1364) (y := yX2_thrown) (bytes := cX2_thrown) (maxL := 1) (ret := (some .int)) (fr := 0) (lo := 0) (as := []) (st := []) hq (C := "FlareSlopesModel") rfl gy_X2_thrown (gbl rfl) (gbl rfl) (gbl rfl) q4009 q4010 q4011 dL_law_1364 K hM R e1 e2) fun v285 h286 => ?_
    refine g_iload (pc := 1367) (x := v279) 1 rfl dL_law_1367 ?_
    refine g_icmp_eq (pc := 1369) (tgt := 1374) rfl dL_law_1369 ?_ ?_
    rotate_left
    · refine g_iconst (pc := 1372) (v := (0 : Int32)) ic_0 dL_law_1372 ?_
      exact g_zreturn (pc := 1373) rfl dL_law_1373
    refine g_iload (pc := 1374) (x := v279) 1 rfl dL_law_1374 ?_
    refine g_join 1391 (fun (x287 : Unit) => [(0, gr a0), (1, gr v1), (2, gr v5), (3, gr v9), (4, gr v11), (5, gi x13)]) (fun (x287 : Unit) => []) (fun x287 h288 => ?_) (fun j289 Hj289 => ?_)
    · refine g_goto (pc := 1391) (tgt := 4259) rfl dL_law_1391 ?_
      exact Hj20 () h288
    refine g_if_ne (pc := 1376) (tgt := 1391) rfl dL_law_1376 ?_ ?_
    rotate_left
    · exact g_sub [2, 3, 4, 5, 6, 7] rfl (Hj289 () h286)
    refine g_aload_n (pc := 1379) (x := v9) 5 rfl rfl dL_law_1379 ?_
    refine g_iconst (pc := 1380) (v := (0 : Int32)) ic_0 dL_law_1380 ?_
    refine g_laload (pc := 1381) rfl dL_law_1381 fun v290 => ?_
    refine g_iload (pc := 1382) (x := v283) 0 rfl dL_law_1382 ?_
    refine g_i2l (pc := 1384) dL_law_1384 ?_
    refine g_lcmp (pc := 1385) dL_law_1385 ?_
    refine g_if_eq (pc := 1386) (tgt := 1391) rfl dL_law_1386 ?_ ?_
    · exact g_sub [2, 3, 4, 5, 6, 7] rfl (Hj289 () h286)
    refine g_iconst (pc := 1389) (v := (0 : Int32)) ic_0 dL_law_1389 ?_
    exact g_zreturn (pc := 1390) rfl dL_law_1390
  · refine g_aload_n (pc := 1394) (x := v1) 1 rfl rfl dL_law_1394 ?_
    refine g_aload_n (pc := 1395) (x := a0) 0 rfl rfl dL_law_1395 ?_
    refine g_iload (pc := 1396) (x := x13) 5 rfl dL_law_1396 ?_
    refine g_iconst (pc := 1398) (v := (1 : Int32)) ic_1 dL_law_1398 ?_
    refine g_iadd (pc := 1399) dL_law_1399 ?_
    refine g_iaload (pc := 1400) rfl dL_law_1400 fun v293 => ?_
    refine g_aload_n (pc := 1401) (x := a0) 0 rfl rfl dL_law_1401 ?_
    refine g_iload (pc := 1402) (x := x13) 5 rfl dL_law_1402 ?_
    refine g_iconst (pc := 1404) (v := (2 : Int32)) ic_2 dL_law_1404 ?_
    refine g_iadd (pc := 1405) dL_law_1405 ?_
    refine g_iaload (pc := 1406) rfl dL_law_1406 fun v294 => ?_
    refine g_aload_n (pc := 1407) (x := v9) 3 rfl rfl dL_law_1407 ?_
    refine g_bi (pc := 1408) (y := yX0_ridgesBetween) (ws := wsW_ yX0_ridgesBetween cX0_ridgesBetween 5 (some .int) [(0, 10, 13, 21), (0, 10, 17, 13)]) (fr := 11) (lo := 188) (as := [gr v1, gi v293, gi v294, gr v9]) (st := []) (g_no) rfl (fun _ _ e => tX0_ridgesBetween hs e) (fun K _ _ hM R e1 e2 => g_runSX (M := mL_law) (pc := 1408) (y := yX0_ridgesBetween) (bytes := cX0_ridgesBetween) (maxL := 5) (ret := (some .int)) (hh := [(0, 10, 13, 21), (0, 10, 17, 13)]) (fr := 11) (lo := 188) (as := [gr v1, gi v293, gi v294, gr v9]) (st := []) gy_X0_ridgesBetween (gbl rfl) (gbl rfl) (gbl rfl) q3183 q3184 dL_law_1408 K hM R e1 e2) fun v295 h296 => ?_
    refine g_istore (pc := 1411) (lv' := [(6, gi v295), (0, gr a0), (1, gr v1), (2, gr v5), (3, gr v9), (4, gr v11), (5, gi x13)]) [0, 1, 2, 3, 4, 5, 6] rfl (gblt rfl) dL_law_1411 ?_
    refine g_aload_n (pc := 1413) (x := v5) 3 rfl rfl dL_law_1413 ?_
    refine g_aload_n (pc := 1414) (x := a0) 1 rfl rfl dL_law_1414 ?_
    refine g_iload (pc := 1415) (x := x13) 6 rfl dL_law_1415 ?_
    refine g_iconst (pc := 1417) (v := (1 : Int32)) ic_1 dL_law_1417 ?_
    refine g_iadd (pc := 1418) dL_law_1418 ?_
    refine g_iaload (pc := 1419) rfl dL_law_1419 fun v297 => ?_
    refine g_aload_n (pc := 1420) (x := a0) 1 rfl rfl dL_law_1420 ?_
    refine g_iload (pc := 1421) (x := x13) 6 rfl dL_law_1421 ?_
    refine g_iconst (pc := 1423) (v := (2 : Int32)) ic_2 dL_law_1423 ?_
    refine g_iadd (pc := 1424) dL_law_1424 ?_
    refine g_iaload (pc := 1425) rfl dL_law_1425 fun v298 => ?_
    refine g_bVi (pc := 1426) (y := yX2_ridgesBetween) (ws := ws_ yX2_ridgesBetween cX2_ridgesBetween 3 (some .int)) (fr := 3) (lo := 67) (as := [gi v297, gi v298]) (st := []) (g_no) rfl (fun _ _ _ e => tX2_ridgesBetween hs e) (fun K _ _ _ hq hM R e1 e2 => g_runV (M := mL_law) (pc := 1426) (y := yX2_ridgesBetween) (bytes := cX2_ridgesBetween) (maxL := 3) (ret := (some .int)) (fr := 3) (lo := 67) (as := [gi v297, gi v298]) (st := []) hq (C := "FlareSlopesModel") rfl gy_X2_ridgesBetween (gbl rfl) (gbl rfl) (gbl rfl) q4344 q4345 q4346 dL_law_1426 K hM R e1 e2) fun v299 h300 => ?_
    refine g_istore (pc := 1429) (lv' := [(7, gi v299), (6, gi v295), (0, gr a0), (1, gr v1), (2, gr v5), (3, gr v9), (4, gr v11), (5, gi x13)]) [0, 1, 2, 3, 4, 5, 6, 7] rfl (gblt rfl) dL_law_1429 ?_
    refine g_aload_n (pc := 1431) (x := v5) 4 rfl rfl dL_law_1431 ?_
    refine g_bVi (pc := 1432) (y := yX2_thrown) (ws := ws_ yX2_thrown cX2_thrown 1 (some .int)) (fr := 0) (lo := 0) (as := []) (st := []) (g_no) rfl (fun _ _ _ e => tX2_thrown hs e) (fun K _ _ _ hq hM R e1 e2 => g_runV (M := mL_law) (pc := 1432) (y := yX2_thrown) (bytes := cX2_thrown) (maxL := 1) (ret := (some .int)) (fr := 0) (lo := 0) (as := []) (st := []) hq (C := "FlareSlopesModel") rfl gy_X2_thrown (gbl rfl) (gbl rfl) (gbl rfl) q4009 q4010 q4011 dL_law_1432 K hM R e1 e2) fun v301 h302 => ?_
    refine g_iload (pc := 1435) (x := v295) 1 rfl dL_law_1435 ?_
    refine g_icmp_eq (pc := 1437) (tgt := 1442) rfl dL_law_1437 ?_ ?_
    rotate_left
    · refine g_iconst (pc := 1440) (v := (0 : Int32)) ic_0 dL_law_1440 ?_
      exact g_zreturn (pc := 1441) rfl dL_law_1441
    refine g_iload (pc := 1442) (x := v295) 1 rfl dL_law_1442 ?_
    refine g_join 1459 (fun (x303 : Unit) => [(0, gr a0), (1, gr v1), (2, gr v5), (3, gr v9), (4, gr v11), (5, gi x13)]) (fun (x303 : Unit) => []) (fun x303 h304 => ?_) (fun j305 Hj305 => ?_)
    · refine g_goto (pc := 1459) (tgt := 4259) rfl dL_law_1459 ?_
      exact Hj20 () h304
    refine g_if_ne (pc := 1444) (tgt := 1459) rfl dL_law_1444 ?_ ?_
    rotate_left
    · exact g_sub [2, 3, 4, 5, 6, 7] rfl (Hj305 () h302)
    refine g_aload_n (pc := 1447) (x := v9) 5 rfl rfl dL_law_1447 ?_
    refine g_iconst (pc := 1448) (v := (0 : Int32)) ic_0 dL_law_1448 ?_
    refine g_laload (pc := 1449) rfl dL_law_1449 fun v306 => ?_
    refine g_iload (pc := 1450) (x := v299) 0 rfl dL_law_1450 ?_
    refine g_i2l (pc := 1452) dL_law_1452 ?_
    refine g_lcmp (pc := 1453) dL_law_1453 ?_
    refine g_if_eq (pc := 1454) (tgt := 1459) rfl dL_law_1454 ?_ ?_
    · exact g_sub [2, 3, 4, 5, 6, 7] rfl (Hj305 () h302)
    refine g_iconst (pc := 1457) (v := (0 : Int32)) ic_0 dL_law_1457 ?_
    exact g_zreturn (pc := 1458) rfl dL_law_1458
  · refine g_aload_n (pc := 1462) (x := v1) 1 rfl rfl dL_law_1462 ?_
    refine g_aload_n (pc := 1463) (x := a0) 0 rfl rfl dL_law_1463 ?_
    refine g_iload (pc := 1464) (x := x13) 5 rfl dL_law_1464 ?_
    refine g_iconst (pc := 1466) (v := (1 : Int32)) ic_1 dL_law_1466 ?_
    refine g_iadd (pc := 1467) dL_law_1467 ?_
    refine g_iaload (pc := 1468) rfl dL_law_1468 fun v309 => ?_
    refine g_aload_n (pc := 1469) (x := a0) 0 rfl rfl dL_law_1469 ?_
    refine g_iload (pc := 1470) (x := x13) 5 rfl dL_law_1470 ?_
    refine g_iconst (pc := 1472) (v := (2 : Int32)) ic_2 dL_law_1472 ?_
    refine g_iadd (pc := 1473) dL_law_1473 ?_
    refine g_iaload (pc := 1474) rfl dL_law_1474 fun v310 => ?_
    refine g_aload_n (pc := 1475) (x := a0) 0 rfl rfl dL_law_1475 ?_
    refine g_iload (pc := 1476) (x := x13) 5 rfl dL_law_1476 ?_
    refine g_iconst (pc := 1478) (v := (3 : Int32)) ic_3 dL_law_1478 ?_
    refine g_iadd (pc := 1479) dL_law_1479 ?_
    refine g_iaload (pc := 1480) rfl dL_law_1480 fun v311 => ?_
    refine g_aload_n (pc := 1481) (x := a0) 0 rfl rfl dL_law_1481 ?_
    refine g_iload (pc := 1482) (x := x13) 5 rfl dL_law_1482 ?_
    refine g_iconst (pc := 1484) (v := (4 : Int32)) ic_4 dL_law_1484 ?_
    refine g_iadd (pc := 1485) dL_law_1485 ?_
    refine g_iaload (pc := 1486) rfl dL_law_1486 fun v312 => ?_
    refine g_aload_n (pc := 1487) (x := v9) 3 rfl rfl dL_law_1487 ?_
    refine g_bi (pc := 1488) (y := yX0_vote) (ws := wsW_ yX0_vote cX0_vote 7 (some .int) [(0, 14, 17, 21), (0, 14, 21, 13), (0, 14, 25, 15)]) (fr := 11) (lo := 191) (as := [gr v1, gi v309, gi v310, gi v311, gi v312, gr v9]) (st := []) (g_no) rfl (fun _ _ e => tX0_vote hs e) (fun K _ _ hM R e1 e2 => g_runSX (M := mL_law) (pc := 1488) (y := yX0_vote) (bytes := cX0_vote) (maxL := 7) (ret := (some .int)) (hh := [(0, 14, 17, 21), (0, 14, 21, 13), (0, 14, 25, 15)]) (fr := 11) (lo := 191) (as := [gr v1, gi v309, gi v310, gi v311, gi v312, gr v9]) (st := []) gy_X0_vote (gbl rfl) (gbl rfl) (gbl rfl) q3191 q3192 dL_law_1488 K hM R e1 e2) fun v313 h314 => ?_
    refine g_istore (pc := 1491) (lv' := [(6, gi v313), (0, gr a0), (1, gr v1), (2, gr v5), (3, gr v9), (4, gr v11), (5, gi x13)]) [0, 1, 2, 3, 4, 5, 6] rfl (gblt rfl) dL_law_1491 ?_
    refine g_aload_n (pc := 1493) (x := v5) 3 rfl rfl dL_law_1493 ?_
    refine g_aload_n (pc := 1494) (x := a0) 1 rfl rfl dL_law_1494 ?_
    refine g_iload (pc := 1495) (x := x13) 6 rfl dL_law_1495 ?_
    refine g_iconst (pc := 1497) (v := (1 : Int32)) ic_1 dL_law_1497 ?_
    refine g_iadd (pc := 1498) dL_law_1498 ?_
    refine g_iaload (pc := 1499) rfl dL_law_1499 fun v315 => ?_
    refine g_aload_n (pc := 1500) (x := a0) 1 rfl rfl dL_law_1500 ?_
    refine g_iload (pc := 1501) (x := x13) 6 rfl dL_law_1501 ?_
    refine g_iconst (pc := 1503) (v := (2 : Int32)) ic_2 dL_law_1503 ?_
    refine g_iadd (pc := 1504) dL_law_1504 ?_
    refine g_iaload (pc := 1505) rfl dL_law_1505 fun v316 => ?_
    refine g_aload_n (pc := 1506) (x := a0) 1 rfl rfl dL_law_1506 ?_
    refine g_iload (pc := 1507) (x := x13) 6 rfl dL_law_1507 ?_
    refine g_iconst (pc := 1509) (v := (3 : Int32)) ic_3 dL_law_1509 ?_
    refine g_iadd (pc := 1510) dL_law_1510 ?_
    refine g_iaload (pc := 1511) rfl dL_law_1511 fun v317 => ?_
    refine g_aload_n (pc := 1512) (x := a0) 1 rfl rfl dL_law_1512 ?_
    refine g_iload (pc := 1513) (x := x13) 6 rfl dL_law_1513 ?_
    refine g_iconst (pc := 1515) (v := (4 : Int32)) ic_4 dL_law_1515 ?_
    refine g_iadd (pc := 1516) dL_law_1516 ?_
    refine g_iaload (pc := 1517) rfl dL_law_1517 fun v318 => ?_
    refine g_bVi (pc := 1518) (y := yX2_vote) (ws := ws_ yX2_vote cX2_vote 6 (some .int)) (fr := 3) (lo := 64) (as := [gi v315, gi v316, gi v317, gi v318]) (st := []) (g_no) rfl (fun _ _ _ e => tX2_vote hs e) (fun K _ _ _ hq hM R e1 e2 => g_runV (M := mL_law) (pc := 1518) (y := yX2_vote) (bytes := cX2_vote) (maxL := 6) (ret := (some .int)) (fr := 3) (lo := 64) (as := [gi v315, gi v316, gi v317, gi v318]) (st := []) hq (C := "FlareSlopesModel") rfl gy_X2_vote (gbl rfl) (gbl rfl) (gbl rfl) q4352 q4353 q4354 dL_law_1518 K hM R e1 e2) fun v319 h320 => ?_
    refine g_istore (pc := 1521) (lv' := [(7, gi v319), (6, gi v313), (0, gr a0), (1, gr v1), (2, gr v5), (3, gr v9), (4, gr v11), (5, gi x13)]) [0, 1, 2, 3, 4, 5, 6, 7] rfl (gblt rfl) dL_law_1521 ?_
    refine g_aload_n (pc := 1523) (x := v5) 4 rfl rfl dL_law_1523 ?_
    refine g_bVi (pc := 1524) (y := yX2_thrown) (ws := ws_ yX2_thrown cX2_thrown 1 (some .int)) (fr := 0) (lo := 0) (as := []) (st := []) (g_no) rfl (fun _ _ _ e => tX2_thrown hs e) (fun K _ _ _ hq hM R e1 e2 => g_runV (M := mL_law) (pc := 1524) (y := yX2_thrown) (bytes := cX2_thrown) (maxL := 1) (ret := (some .int)) (fr := 0) (lo := 0) (as := []) (st := []) hq (C := "FlareSlopesModel") rfl gy_X2_thrown (gbl rfl) (gbl rfl) (gbl rfl) q4009 q4010 q4011 dL_law_1524 K hM R e1 e2) fun v321 h322 => ?_
    refine g_iload (pc := 1527) (x := v313) 1 rfl dL_law_1527 ?_
    refine g_icmp_eq (pc := 1529) (tgt := 1534) rfl dL_law_1529 ?_ ?_
    rotate_left
    · refine g_iconst (pc := 1532) (v := (0 : Int32)) ic_0 dL_law_1532 ?_
      exact g_zreturn (pc := 1533) rfl dL_law_1533
    refine g_iload (pc := 1534) (x := v313) 1 rfl dL_law_1534 ?_
    refine g_join 1551 (fun (x323 : Unit) => [(0, gr a0), (1, gr v1), (2, gr v5), (3, gr v9), (4, gr v11), (5, gi x13)]) (fun (x323 : Unit) => []) (fun x323 h324 => ?_) (fun j325 Hj325 => ?_)
    · refine g_goto (pc := 1551) (tgt := 4259) rfl dL_law_1551 ?_
      exact Hj20 () h324
    refine g_if_ne (pc := 1536) (tgt := 1551) rfl dL_law_1536 ?_ ?_
    rotate_left
    · exact g_sub [2, 3, 4, 5, 6, 7] rfl (Hj325 () h322)
    refine g_aload_n (pc := 1539) (x := v9) 5 rfl rfl dL_law_1539 ?_
    refine g_iconst (pc := 1540) (v := (0 : Int32)) ic_0 dL_law_1540 ?_
    refine g_laload (pc := 1541) rfl dL_law_1541 fun v326 => ?_
    refine g_iload (pc := 1542) (x := v319) 0 rfl dL_law_1542 ?_
    refine g_i2l (pc := 1544) dL_law_1544 ?_
    refine g_lcmp (pc := 1545) dL_law_1545 ?_
    refine g_if_eq (pc := 1546) (tgt := 1551) rfl dL_law_1546 ?_ ?_
    · exact g_sub [2, 3, 4, 5, 6, 7] rfl (Hj325 () h322)
    refine g_iconst (pc := 1549) (v := (0 : Int32)) ic_0 dL_law_1549 ?_
    exact g_zreturn (pc := 1550) rfl dL_law_1550
  · refine g_aload_n (pc := 1554) (x := v1) 1 rfl rfl dL_law_1554 ?_
    refine g_aload_n (pc := 1555) (x := a0) 0 rfl rfl dL_law_1555 ?_
    refine g_iload (pc := 1556) (x := x13) 5 rfl dL_law_1556 ?_
    refine g_iconst (pc := 1558) (v := (1 : Int32)) ic_1 dL_law_1558 ?_
    refine g_iadd (pc := 1559) dL_law_1559 ?_
    refine g_iaload (pc := 1560) rfl dL_law_1560 fun v329 => ?_
    refine g_aload_n (pc := 1561) (x := a0) 0 rfl rfl dL_law_1561 ?_
    refine g_iload (pc := 1562) (x := x13) 5 rfl dL_law_1562 ?_
    refine g_iconst (pc := 1564) (v := (2 : Int32)) ic_2 dL_law_1564 ?_
    refine g_iadd (pc := 1565) dL_law_1565 ?_
    refine g_iaload (pc := 1566) rfl dL_law_1566 fun v330 => ?_
    refine g_aload_n (pc := 1567) (x := a0) 0 rfl rfl dL_law_1567 ?_
    refine g_iload (pc := 1568) (x := x13) 5 rfl dL_law_1568 ?_
    refine g_iconst (pc := 1570) (v := (3 : Int32)) ic_3 dL_law_1570 ?_
    refine g_iadd (pc := 1571) dL_law_1571 ?_
    refine g_iaload (pc := 1572) rfl dL_law_1572 fun v331 => ?_
    refine g_join 1581 (fun (x332 : Int32) => [(0, gr a0), (1, gr v1), (2, gr v5), (3, gr v9), (4, gr v11), (5, gi x13)]) (fun (x332 : Int32) => [gi x332, gi v330, gi v329, gr v1]) (fun x332 h333 => ?_) (fun j334 Hj334 => ?_)
    · refine g_aload_n (pc := 1581) (x := v9) 3 rfl rfl dL_law_1581 ?_
      refine g_bi (pc := 1582) (y := yX0_weights) (ws := wsW_ yX0_weights cX0_weights 6 (some .int) [(0, 12, 15, 21), (0, 12, 19, 13)]) (fr := 11) (lo := 189) (as := [gr v1, gi v329, gi v330, gi x332, gr v9]) (st := []) (g_no) rfl (fun _ _ e => tX0_weights hs e) (fun K _ _ hM R e1 e2 => g_runSX (M := mL_law) (pc := 1582) (y := yX0_weights) (bytes := cX0_weights) (maxL := 6) (ret := (some .int)) (hh := [(0, 12, 15, 21), (0, 12, 19, 13)]) (fr := 11) (lo := 189) (as := [gr v1, gi v329, gi v330, gi x332, gr v9]) (st := []) gy_X0_weights (gbl rfl) (gbl rfl) (gbl rfl) q3202 q3203 dL_law_1582 K hM R e1 e2) fun v335 h336 => ?_
      refine g_istore (pc := 1585) (lv' := [(6, gi v335), (0, gr a0), (1, gr v1), (2, gr v5), (3, gr v9), (4, gr v11), (5, gi x13)]) [0, 1, 2, 3, 4, 5, 6] rfl (gblt rfl) dL_law_1585 ?_
      refine g_aload_n (pc := 1587) (x := v5) 3 rfl rfl dL_law_1587 ?_
      refine g_aload_n (pc := 1588) (x := a0) 1 rfl rfl dL_law_1588 ?_
      refine g_iload (pc := 1589) (x := x13) 6 rfl dL_law_1589 ?_
      refine g_iconst (pc := 1591) (v := (1 : Int32)) ic_1 dL_law_1591 ?_
      refine g_iadd (pc := 1592) dL_law_1592 ?_
      refine g_iaload (pc := 1593) rfl dL_law_1593 fun v337 => ?_
      refine g_aload_n (pc := 1594) (x := a0) 1 rfl rfl dL_law_1594 ?_
      refine g_iload (pc := 1595) (x := x13) 6 rfl dL_law_1595 ?_
      refine g_iconst (pc := 1597) (v := (2 : Int32)) ic_2 dL_law_1597 ?_
      refine g_iadd (pc := 1598) dL_law_1598 ?_
      refine g_iaload (pc := 1599) rfl dL_law_1599 fun v338 => ?_
      refine g_aload_n (pc := 1600) (x := a0) 1 rfl rfl dL_law_1600 ?_
      refine g_iload (pc := 1601) (x := x13) 6 rfl dL_law_1601 ?_
      refine g_iconst (pc := 1603) (v := (3 : Int32)) ic_3 dL_law_1603 ?_
      refine g_iadd (pc := 1604) dL_law_1604 ?_
      refine g_iaload (pc := 1605) rfl dL_law_1605 fun v339 => ?_
      refine g_join 1614 (fun (x340 : Int32) => [(0, gr a0), (1, gr v1), (2, gr v5), (3, gr v9), (4, gr v11), (5, gi x13), (6, gi v335)]) (fun (x340 : Int32) => [gi x340, gi v338, gi v337, gr v5]) (fun x340 h341 => ?_) (fun j342 Hj342 => ?_)
      · refine g_bVi (pc := 1614) (y := yX2_weights) (ws := ws_ yX2_weights cX2_weights 4 (some .int)) (fr := 4) (lo := 89) (as := [gi v337, gi v338, gi x340]) (st := []) (g_no) rfl (fun _ _ _ e => tX2_weights hs e) (fun K _ _ _ hq hM R e1 e2 => g_runV (M := mL_law) (pc := 1614) (y := yX2_weights) (bytes := cX2_weights) (maxL := 4) (ret := (some .int)) (fr := 4) (lo := 89) (as := [gi v337, gi v338, gi x340]) (st := []) hq (C := "FlareSlopesModel") rfl gy_X2_weights (gbl rfl) (gbl rfl) (gbl rfl) q4359 q4360 q4361 dL_law_1614 K hM R e1 e2) fun v343 h344 => ?_
        refine g_istore (pc := 1617) (lv' := [(7, gi v343), (0, gr a0), (1, gr v1), (2, gr v5), (3, gr v9), (4, gr v11), (5, gi x13), (6, gi v335)]) [0, 1, 2, 3, 4, 5, 6, 7] rfl (gblt rfl) dL_law_1617 ?_
        refine g_aload_n (pc := 1619) (x := v5) 3 rfl rfl dL_law_1619 ?_
        refine g_bVi (pc := 1620) (y := yX2_thrown) (ws := ws_ yX2_thrown cX2_thrown 1 (some .int)) (fr := 0) (lo := 0) (as := []) (st := []) (g_no) rfl (fun _ _ _ e => tX2_thrown hs e) (fun K _ _ _ hq hM R e1 e2 => g_runV (M := mL_law) (pc := 1620) (y := yX2_thrown) (bytes := cX2_thrown) (maxL := 1) (ret := (some .int)) (fr := 0) (lo := 0) (as := []) (st := []) hq (C := "FlareSlopesModel") rfl gy_X2_thrown (gbl rfl) (gbl rfl) (gbl rfl) q4009 q4010 q4011 dL_law_1620 K hM R e1 e2) fun v345 h346 => ?_
        refine g_iload (pc := 1623) (x := v335) 7 rfl dL_law_1623 ?_
        refine g_icmp_eq (pc := 1625) (tgt := 1630) rfl dL_law_1625 ?_ ?_
        rotate_left
        · refine g_iconst (pc := 1628) (v := (0 : Int32)) ic_0 dL_law_1628 ?_
          exact g_zreturn (pc := 1629) rfl dL_law_1629
        refine g_iload (pc := 1630) (x := v335) 7 rfl dL_law_1630 ?_
        refine g_join 1647 (fun (x347 : Unit) => [(0, gr a0), (1, gr v1), (2, gr v5), (3, gr v9), (4, gr v11), (5, gi x13)]) (fun (x347 : Unit) => []) (fun x347 h348 => ?_) (fun j349 Hj349 => ?_)
        · refine g_goto (pc := 1647) (tgt := 4259) rfl dL_law_1647 ?_
          exact Hj20 () h348
        refine g_if_ne (pc := 1632) (tgt := 1647) rfl dL_law_1632 ?_ ?_
        rotate_left
        · exact g_sub [1, 2, 3, 4, 5, 6] rfl (Hj349 () h346)
        refine g_aload_n (pc := 1635) (x := v9) 4 rfl rfl dL_law_1635 ?_
        refine g_iconst (pc := 1636) (v := (0 : Int32)) ic_0 dL_law_1636 ?_
        refine g_laload (pc := 1637) rfl dL_law_1637 fun v350 => ?_
        refine g_iload (pc := 1638) (x := v343) 0 rfl dL_law_1638 ?_
        refine g_i2l (pc := 1640) dL_law_1640 ?_
        refine g_lcmp (pc := 1641) dL_law_1641 ?_
        refine g_if_eq (pc := 1642) (tgt := 1647) rfl dL_law_1642 ?_ ?_
        · exact g_sub [1, 2, 3, 4, 5, 6] rfl (Hj349 () h346)
        refine g_iconst (pc := 1645) (v := (0 : Int32)) ic_0 dL_law_1645 ?_
        exact g_zreturn (pc := 1646) rfl dL_law_1646
      refine g_if_eq (pc := 1606) (tgt := 1613) rfl dL_law_1606 ?_ ?_
      · refine g_iconst (pc := 1613) (v := (0 : Int32)) ic_0 dL_law_1613 ?_
        exact g_sub [1, 2, 3, 4, 5, 6, 0] rfl (Hj342 (0 : Int32) h336)
      refine g_iconst (pc := 1609) (v := (1 : Int32)) ic_1 dL_law_1609 ?_
      refine g_goto (pc := 1610) (tgt := 1614) rfl dL_law_1610 ?_
      exact g_sub [1, 2, 3, 4, 5, 6, 0] rfl (Hj342 (1 : Int32) h336)
    refine g_if_eq (pc := 1573) (tgt := 1580) rfl dL_law_1573 ?_ ?_
    · refine g_iconst (pc := 1580) (v := (0 : Int32)) ic_0 dL_law_1580 ?_
      exact Hj334 (0 : Int32) h14
    refine g_iconst (pc := 1576) (v := (1 : Int32)) ic_1 dL_law_1576 ?_
    refine g_goto (pc := 1577) (tgt := 1581) rfl dL_law_1577 ?_
    exact Hj334 (1 : Int32) h14
  · refine g_aload_n (pc := 1650) (x := v1) 1 rfl rfl dL_law_1650 ?_
    refine g_aload_n (pc := 1651) (x := a0) 0 rfl rfl dL_law_1651 ?_
    refine g_iload (pc := 1652) (x := x13) 5 rfl dL_law_1652 ?_
    refine g_iconst (pc := 1654) (v := (1 : Int32)) ic_1 dL_law_1654 ?_
    refine g_iadd (pc := 1655) dL_law_1655 ?_
    refine g_iaload (pc := 1656) rfl dL_law_1656 fun v353 => ?_
    refine g_aload_n (pc := 1657) (x := a0) 0 rfl rfl dL_law_1657 ?_
    refine g_iload (pc := 1658) (x := x13) 5 rfl dL_law_1658 ?_
    refine g_iconst (pc := 1660) (v := (2 : Int32)) ic_2 dL_law_1660 ?_
    refine g_iadd (pc := 1661) dL_law_1661 ?_
    refine g_iaload (pc := 1662) rfl dL_law_1662 fun v354 => ?_
    refine g_aload_n (pc := 1663) (x := v9) 3 rfl rfl dL_law_1663 ?_
    refine g_bi (pc := 1664) (y := yX0_rules) (ws := wsW_ yX0_rules cX0_rules 5 (some .int) [(0, 10, 13, 21), (0, 10, 17, 13)]) (fr := 11) (lo := 188) (as := [gr v1, gi v353, gi v354, gr v9]) (st := []) (g_no) rfl (fun _ _ e => tX0_rules hs e) (fun K _ _ hM R e1 e2 => g_runSX (M := mL_law) (pc := 1664) (y := yX0_rules) (bytes := cX0_rules) (maxL := 5) (ret := (some .int)) (hh := [(0, 10, 13, 21), (0, 10, 17, 13)]) (fr := 11) (lo := 188) (as := [gr v1, gi v353, gi v354, gr v9]) (st := []) gy_X0_rules (gbl rfl) (gbl rfl) (gbl rfl) q3209 q3210 dL_law_1664 K hM R e1 e2) fun v355 h356 => ?_
    refine g_istore (pc := 1667) (lv' := [(6, gi v355), (0, gr a0), (1, gr v1), (2, gr v5), (3, gr v9), (4, gr v11), (5, gi x13)]) [0, 1, 2, 3, 4, 5, 6] rfl (gblt rfl) dL_law_1667 ?_
    refine g_aload_n (pc := 1669) (x := v5) 3 rfl rfl dL_law_1669 ?_
    refine g_aload_n (pc := 1670) (x := a0) 1 rfl rfl dL_law_1670 ?_
    refine g_iload (pc := 1671) (x := x13) 6 rfl dL_law_1671 ?_
    refine g_iconst (pc := 1673) (v := (1 : Int32)) ic_1 dL_law_1673 ?_
    refine g_iadd (pc := 1674) dL_law_1674 ?_
    refine g_iaload (pc := 1675) rfl dL_law_1675 fun v357 => ?_
    refine g_aload_n (pc := 1676) (x := a0) 1 rfl rfl dL_law_1676 ?_
    refine g_iload (pc := 1677) (x := x13) 6 rfl dL_law_1677 ?_
    refine g_iconst (pc := 1679) (v := (2 : Int32)) ic_2 dL_law_1679 ?_
    refine g_iadd (pc := 1680) dL_law_1680 ?_
    refine g_iaload (pc := 1681) rfl dL_law_1681 fun v358 => ?_
    refine g_bVi (pc := 1682) (y := yX2_rules) (ws := ws_ yX2_rules cX2_rules 3 (some .int)) (fr := 5) (lo := 113) (as := [gi v357, gi v358]) (st := []) (g_no) rfl (fun _ _ _ e => tX2_rules hs e) (fun K _ _ _ hq hM R e1 e2 => g_runV (M := mL_law) (pc := 1682) (y := yX2_rules) (bytes := cX2_rules) (maxL := 3) (ret := (some .int)) (fr := 5) (lo := 113) (as := [gi v357, gi v358]) (st := []) hq (C := "FlareSlopesModel") rfl gy_X2_rules (gbl rfl) (gbl rfl) (gbl rfl) q4363 q4364 q4365 dL_law_1682 K hM R e1 e2) fun v359 h360 => ?_
    refine g_istore (pc := 1685) (lv' := [(7, gi v359), (6, gi v355), (0, gr a0), (1, gr v1), (2, gr v5), (3, gr v9), (4, gr v11), (5, gi x13)]) [0, 1, 2, 3, 4, 5, 6, 7] rfl (gblt rfl) dL_law_1685 ?_
    refine g_aload_n (pc := 1687) (x := v5) 4 rfl rfl dL_law_1687 ?_
    refine g_bVi (pc := 1688) (y := yX2_thrown) (ws := ws_ yX2_thrown cX2_thrown 1 (some .int)) (fr := 0) (lo := 0) (as := []) (st := []) (g_no) rfl (fun _ _ _ e => tX2_thrown hs e) (fun K _ _ _ hq hM R e1 e2 => g_runV (M := mL_law) (pc := 1688) (y := yX2_thrown) (bytes := cX2_thrown) (maxL := 1) (ret := (some .int)) (fr := 0) (lo := 0) (as := []) (st := []) hq (C := "FlareSlopesModel") rfl gy_X2_thrown (gbl rfl) (gbl rfl) (gbl rfl) q4009 q4010 q4011 dL_law_1688 K hM R e1 e2) fun v361 h362 => ?_
    refine g_iload (pc := 1691) (x := v355) 1 rfl dL_law_1691 ?_
    refine g_icmp_eq (pc := 1693) (tgt := 1698) rfl dL_law_1693 ?_ ?_
    rotate_left
    · refine g_iconst (pc := 1696) (v := (0 : Int32)) ic_0 dL_law_1696 ?_
      exact g_zreturn (pc := 1697) rfl dL_law_1697
    refine g_iload (pc := 1698) (x := v355) 1 rfl dL_law_1698 ?_
    refine g_join 1715 (fun (x363 : Unit) => [(0, gr a0), (1, gr v1), (2, gr v5), (3, gr v9), (4, gr v11), (5, gi x13)]) (fun (x363 : Unit) => []) (fun x363 h364 => ?_) (fun j365 Hj365 => ?_)
    · refine g_goto (pc := 1715) (tgt := 4259) rfl dL_law_1715 ?_
      exact Hj20 () h364
    refine g_if_ne (pc := 1700) (tgt := 1715) rfl dL_law_1700 ?_ ?_
    rotate_left
    · exact g_sub [2, 3, 4, 5, 6, 7] rfl (Hj365 () h362)
    refine g_aload_n (pc := 1703) (x := v9) 5 rfl rfl dL_law_1703 ?_
    refine g_iconst (pc := 1704) (v := (0 : Int32)) ic_0 dL_law_1704 ?_
    refine g_laload (pc := 1705) rfl dL_law_1705 fun v366 => ?_
    refine g_iload (pc := 1706) (x := v359) 0 rfl dL_law_1706 ?_
    refine g_i2l (pc := 1708) dL_law_1708 ?_
    refine g_lcmp (pc := 1709) dL_law_1709 ?_
    refine g_if_eq (pc := 1710) (tgt := 1715) rfl dL_law_1710 ?_ ?_
    · exact g_sub [2, 3, 4, 5, 6, 7] rfl (Hj365 () h362)
    refine g_iconst (pc := 1713) (v := (0 : Int32)) ic_0 dL_law_1713 ?_
    exact g_zreturn (pc := 1714) rfl dL_law_1714
  · refine g_aload_n (pc := 1718) (x := v1) 1 rfl rfl dL_law_1718 ?_
    refine g_aload_n (pc := 1719) (x := a0) 0 rfl rfl dL_law_1719 ?_
    refine g_iload (pc := 1720) (x := x13) 5 rfl dL_law_1720 ?_
    refine g_iconst (pc := 1722) (v := (1 : Int32)) ic_1 dL_law_1722 ?_
    refine g_iadd (pc := 1723) dL_law_1723 ?_
    refine g_iaload (pc := 1724) rfl dL_law_1724 fun v369 => ?_
    refine g_aload_n (pc := 1725) (x := a0) 0 rfl rfl dL_law_1725 ?_
    refine g_iload (pc := 1726) (x := x13) 5 rfl dL_law_1726 ?_
    refine g_iconst (pc := 1728) (v := (2 : Int32)) ic_2 dL_law_1728 ?_
    refine g_iadd (pc := 1729) dL_law_1729 ?_
    refine g_iaload (pc := 1730) rfl dL_law_1730 fun v370 => ?_
    refine g_aload_n (pc := 1731) (x := v9) 3 rfl rfl dL_law_1731 ?_
    refine g_bi (pc := 1732) (y := yX0_run) (ws := wsW_ yX0_run cX0_run 5 (some .int) [(0, 10, 13, 21), (0, 10, 17, 13)]) (fr := 11) (lo := 187) (as := [gr v1, gi v369, gi v370, gr v9]) (st := []) (g_no) rfl (fun _ _ e => tX0_run hs e) (fun K _ _ hM R e1 e2 => g_runSX (M := mL_law) (pc := 1732) (y := yX0_run) (bytes := cX0_run) (maxL := 5) (ret := (some .int)) (hh := [(0, 10, 13, 21), (0, 10, 17, 13)]) (fr := 11) (lo := 187) (as := [gr v1, gi v369, gi v370, gr v9]) (st := []) gy_X0_run (gbl rfl) (gbl rfl) (gbl rfl) q3220 q3221 dL_law_1732 K hM R e1 e2) fun v371 h372 => ?_
    refine g_istore (pc := 1735) (lv' := [(6, gi v371), (0, gr a0), (1, gr v1), (2, gr v5), (3, gr v9), (4, gr v11), (5, gi x13)]) [0, 1, 2, 3, 4, 5, 6] rfl (gblt rfl) dL_law_1735 ?_
    refine g_aload_n (pc := 1737) (x := v5) 3 rfl rfl dL_law_1737 ?_
    refine g_aload_n (pc := 1738) (x := a0) 1 rfl rfl dL_law_1738 ?_
    refine g_iload (pc := 1739) (x := x13) 6 rfl dL_law_1739 ?_
    refine g_iconst (pc := 1741) (v := (1 : Int32)) ic_1 dL_law_1741 ?_
    refine g_iadd (pc := 1742) dL_law_1742 ?_
    refine g_iaload (pc := 1743) rfl dL_law_1743 fun v373 => ?_
    refine g_aload_n (pc := 1744) (x := a0) 1 rfl rfl dL_law_1744 ?_
    refine g_iload (pc := 1745) (x := x13) 6 rfl dL_law_1745 ?_
    refine g_iconst (pc := 1747) (v := (2 : Int32)) ic_2 dL_law_1747 ?_
    refine g_iadd (pc := 1748) dL_law_1748 ?_
    refine g_iaload (pc := 1749) rfl dL_law_1749 fun v374 => ?_
    refine g_bVi (pc := 1750) (y := yX2_run) (ws := ws_ yX2_run cX2_run 3 (some .int)) (fr := 3) (lo := 67) (as := [gi v373, gi v374]) (st := []) (g_no) rfl (fun _ _ _ e => tX2_run hs e) (fun K _ _ _ hq hM R e1 e2 => g_runV (M := mL_law) (pc := 1750) (y := yX2_run) (bytes := cX2_run) (maxL := 3) (ret := (some .int)) (fr := 3) (lo := 67) (as := [gi v373, gi v374]) (st := []) hq (C := "FlareSlopesModel") rfl gy_X2_run (gbl rfl) (gbl rfl) (gbl rfl) q4371 q4372 q4373 dL_law_1750 K hM R e1 e2) fun v375 h376 => ?_
    refine g_istore (pc := 1753) (lv' := [(7, gi v375), (6, gi v371), (0, gr a0), (1, gr v1), (2, gr v5), (3, gr v9), (4, gr v11), (5, gi x13)]) [0, 1, 2, 3, 4, 5, 6, 7] rfl (gblt rfl) dL_law_1753 ?_
    refine g_aload_n (pc := 1755) (x := v5) 4 rfl rfl dL_law_1755 ?_
    refine g_bVi (pc := 1756) (y := yX2_thrown) (ws := ws_ yX2_thrown cX2_thrown 1 (some .int)) (fr := 0) (lo := 0) (as := []) (st := []) (g_no) rfl (fun _ _ _ e => tX2_thrown hs e) (fun K _ _ _ hq hM R e1 e2 => g_runV (M := mL_law) (pc := 1756) (y := yX2_thrown) (bytes := cX2_thrown) (maxL := 1) (ret := (some .int)) (fr := 0) (lo := 0) (as := []) (st := []) hq (C := "FlareSlopesModel") rfl gy_X2_thrown (gbl rfl) (gbl rfl) (gbl rfl) q4009 q4010 q4011 dL_law_1756 K hM R e1 e2) fun v377 h378 => ?_
    refine g_iload (pc := 1759) (x := v371) 1 rfl dL_law_1759 ?_
    refine g_icmp_eq (pc := 1761) (tgt := 1766) rfl dL_law_1761 ?_ ?_
    rotate_left
    · refine g_iconst (pc := 1764) (v := (0 : Int32)) ic_0 dL_law_1764 ?_
      exact g_zreturn (pc := 1765) rfl dL_law_1765
    refine g_iload (pc := 1766) (x := v371) 1 rfl dL_law_1766 ?_
    refine g_join 1783 (fun (x379 : Unit) => [(0, gr a0), (1, gr v1), (2, gr v5), (3, gr v9), (4, gr v11), (5, gi x13)]) (fun (x379 : Unit) => []) (fun x379 h380 => ?_) (fun j381 Hj381 => ?_)
    · refine g_goto (pc := 1783) (tgt := 4259) rfl dL_law_1783 ?_
      exact Hj20 () h380
    refine g_if_ne (pc := 1768) (tgt := 1783) rfl dL_law_1768 ?_ ?_
    rotate_left
    · exact g_sub [2, 3, 4, 5, 6, 7] rfl (Hj381 () h378)
    refine g_aload_n (pc := 1771) (x := v9) 5 rfl rfl dL_law_1771 ?_
    refine g_iconst (pc := 1772) (v := (0 : Int32)) ic_0 dL_law_1772 ?_
    refine g_laload (pc := 1773) rfl dL_law_1773 fun v382 => ?_
    refine g_iload (pc := 1774) (x := v375) 0 rfl dL_law_1774 ?_
    refine g_i2l (pc := 1776) dL_law_1776 ?_
    refine g_lcmp (pc := 1777) dL_law_1777 ?_
    refine g_if_eq (pc := 1778) (tgt := 1783) rfl dL_law_1778 ?_ ?_
    · exact g_sub [2, 3, 4, 5, 6, 7] rfl (Hj381 () h378)
    refine g_iconst (pc := 1781) (v := (0 : Int32)) ic_0 dL_law_1781 ?_
    exact g_zreturn (pc := 1782) rfl dL_law_1782
  · refine g_aload_n (pc := 1786) (x := v1) 1 rfl rfl dL_law_1786 ?_
    refine g_aload_n (pc := 1787) (x := a0) 0 rfl rfl dL_law_1787 ?_
    refine g_iload (pc := 1788) (x := x13) 5 rfl dL_law_1788 ?_
    refine g_iconst (pc := 1790) (v := (1 : Int32)) ic_1 dL_law_1790 ?_
    refine g_iadd (pc := 1791) dL_law_1791 ?_
    refine g_iaload (pc := 1792) rfl dL_law_1792 fun v385 => ?_
    refine g_aload_n (pc := 1793) (x := a0) 0 rfl rfl dL_law_1793 ?_
    refine g_iload (pc := 1794) (x := x13) 5 rfl dL_law_1794 ?_
    refine g_iconst (pc := 1796) (v := (2 : Int32)) ic_2 dL_law_1796 ?_
    refine g_iadd (pc := 1797) dL_law_1797 ?_
    refine g_iaload (pc := 1798) rfl dL_law_1798 fun v386 => ?_
    refine g_aload_n (pc := 1799) (x := v9) 3 rfl rfl dL_law_1799 ?_
    refine g_bi (pc := 1800) (y := yX0_isClosed) (ws := wsW_ yX0_isClosed cX0_isClosed 5 (some .int) [(0, 17, 20, 21), (0, 17, 24, 13)]) (fr := 11) (lo := 187) (as := [gr v1, gi v385, gi v386, gr v9]) (st := []) (g_no) rfl (fun _ _ e => tX0_isClosed hs e) (fun K _ _ hM R e1 e2 => g_runSX (M := mL_law) (pc := 1800) (y := yX0_isClosed) (bytes := cX0_isClosed) (maxL := 5) (ret := (some .int)) (hh := [(0, 17, 20, 21), (0, 17, 24, 13)]) (fr := 11) (lo := 187) (as := [gr v1, gi v385, gi v386, gr v9]) (st := []) gy_X0_isClosed (gbl rfl) (gbl rfl) (gbl rfl) q3227 q3228 dL_law_1800 K hM R e1 e2) fun v387 h388 => ?_
    refine g_istore (pc := 1803) (lv' := [(6, gi v387), (0, gr a0), (1, gr v1), (2, gr v5), (3, gr v9), (4, gr v11), (5, gi x13)]) [0, 1, 2, 3, 4, 5, 6] rfl (gblt rfl) dL_law_1803 ?_
    refine g_aload_n (pc := 1805) (x := v5) 3 rfl rfl dL_law_1805 ?_
    refine g_aload_n (pc := 1806) (x := a0) 1 rfl rfl dL_law_1806 ?_
    refine g_iload (pc := 1807) (x := x13) 6 rfl dL_law_1807 ?_
    refine g_iconst (pc := 1809) (v := (1 : Int32)) ic_1 dL_law_1809 ?_
    refine g_iadd (pc := 1810) dL_law_1810 ?_
    refine g_iaload (pc := 1811) rfl dL_law_1811 fun v389 => ?_
    refine g_aload_n (pc := 1812) (x := a0) 1 rfl rfl dL_law_1812 ?_
    refine g_iload (pc := 1813) (x := x13) 6 rfl dL_law_1813 ?_
    refine g_iconst (pc := 1815) (v := (2 : Int32)) ic_2 dL_law_1815 ?_
    refine g_iadd (pc := 1816) dL_law_1816 ?_
    refine g_iaload (pc := 1817) rfl dL_law_1817 fun v390 => ?_
    refine g_bVi (pc := 1818) (y := yX2_isClosed) (ws := ws_ yX2_isClosed cX2_isClosed 3 (some .boolean)) (fr := 3) (lo := 67) (as := [gi v389, gi v390]) (st := []) (g_no) rfl (fun _ _ _ e => tX2_isClosed hs e) (fun K _ _ _ hq hM R e1 e2 => g_runV (M := mL_law) (pc := 1818) (y := yX2_isClosed) (bytes := cX2_isClosed) (maxL := 3) (ret := (some .boolean)) (fr := 3) (lo := 67) (as := [gi v389, gi v390]) (st := []) hq (C := "FlareSlopesModel") rfl gy_X2_isClosed (gbl rfl) (gbl rfl) (gbl rfl) q4379 q4380 q4381 dL_law_1818 K hM R e1 e2) fun v391 h392 => ?_
    refine g_istore (pc := 1821) (lv' := [(7, gi v391), (6, gi v387), (0, gr a0), (1, gr v1), (2, gr v5), (3, gr v9), (4, gr v11), (5, gi x13)]) [0, 1, 2, 3, 4, 5, 6, 7] rfl (gblt rfl) dL_law_1821 ?_
    refine g_aload_n (pc := 1823) (x := v5) 4 rfl rfl dL_law_1823 ?_
    refine g_bVi (pc := 1824) (y := yX2_thrown) (ws := ws_ yX2_thrown cX2_thrown 1 (some .int)) (fr := 0) (lo := 0) (as := []) (st := []) (g_no) rfl (fun _ _ _ e => tX2_thrown hs e) (fun K _ _ _ hq hM R e1 e2 => g_runV (M := mL_law) (pc := 1824) (y := yX2_thrown) (bytes := cX2_thrown) (maxL := 1) (ret := (some .int)) (fr := 0) (lo := 0) (as := []) (st := []) hq (C := "FlareSlopesModel") rfl gy_X2_thrown (gbl rfl) (gbl rfl) (gbl rfl) q4009 q4010 q4011 dL_law_1824 K hM R e1 e2) fun v393 h394 => ?_
    refine g_iload (pc := 1827) (x := v387) 1 rfl dL_law_1827 ?_
    refine g_icmp_eq (pc := 1829) (tgt := 1834) rfl dL_law_1829 ?_ ?_
    rotate_left
    · refine g_iconst (pc := 1832) (v := (0 : Int32)) ic_0 dL_law_1832 ?_
      exact g_zreturn (pc := 1833) rfl dL_law_1833
    refine g_iload (pc := 1834) (x := v387) 1 rfl dL_law_1834 ?_
    refine g_join 1858 (fun (x395 : Unit) => [(0, gr a0), (1, gr v1), (2, gr v5), (3, gr v9), (4, gr v11), (5, gi x13)]) (fun (x395 : Unit) => []) (fun x395 h396 => ?_) (fun j397 Hj397 => ?_)
    · refine g_goto (pc := 1858) (tgt := 4259) rfl dL_law_1858 ?_
      exact Hj20 () h396
    refine g_if_ne (pc := 1836) (tgt := 1858) rfl dL_law_1836 ?_ ?_
    rotate_left
    · exact g_sub [2, 3, 4, 5, 6, 7] rfl (Hj397 () h394)
    refine g_aload_n (pc := 1839) (x := v9) 5 rfl rfl dL_law_1839 ?_
    refine g_iconst (pc := 1840) (v := (0 : Int32)) ic_0 dL_law_1840 ?_
    refine g_laload (pc := 1841) rfl dL_law_1841 fun v398 => ?_
    refine g_iload (pc := 1842) (x := v391) 0 rfl dL_law_1842 ?_
    refine g_join 1852 (fun (x399 : Int64) => [(0, gr a0), (1, gr v1), (2, gr v5), (3, gr v9), (4, gr v11), (5, gi x13)]) (fun (x399 : Int64) => [gl x399, gl v398]) (fun x399 h400 => ?_) (fun j401 Hj401 => ?_)
    · refine g_lcmp (pc := 1852) dL_law_1852 ?_
      refine g_if_eq (pc := 1853) (tgt := 1858) rfl dL_law_1853 ?_ ?_
      · exact Hj397 () h400
      refine g_iconst (pc := 1856) (v := (0 : Int32)) ic_0 dL_law_1856 ?_
      exact g_zreturn (pc := 1857) rfl dL_law_1857
    refine g_if_eq (pc := 1844) (tgt := 1851) rfl dL_law_1844 ?_ ?_
    · refine g_lconst (pc := 1851) (v := (0 : Int64)) rfl dL_law_1851 ?_
      exact g_sub [2, 3, 4, 5, 6, 7] rfl (Hj401 (0 : Int64) h394)
    refine g_lconst (pc := 1847) (v := (1 : Int64)) rfl dL_law_1847 ?_
    refine g_goto (pc := 1848) (tgt := 1852) rfl dL_law_1848 ?_
    exact g_sub [2, 3, 4, 5, 6, 7] rfl (Hj401 (1 : Int64) h394)
  · refine g_aload_n (pc := 1861) (x := v1) 1 rfl rfl dL_law_1861 ?_
    refine g_aload_n (pc := 1862) (x := a0) 0 rfl rfl dL_law_1862 ?_
    refine g_iload (pc := 1863) (x := x13) 5 rfl dL_law_1863 ?_
    refine g_iconst (pc := 1865) (v := (1 : Int32)) ic_1 dL_law_1865 ?_
    refine g_iadd (pc := 1866) dL_law_1866 ?_
    refine g_iaload (pc := 1867) rfl dL_law_1867 fun v404 => ?_
    refine g_aload_n (pc := 1868) (x := a0) 0 rfl rfl dL_law_1868 ?_
    refine g_iload (pc := 1869) (x := x13) 5 rfl dL_law_1869 ?_
    refine g_iconst (pc := 1871) (v := (2 : Int32)) ic_2 dL_law_1871 ?_
    refine g_iadd (pc := 1872) dL_law_1872 ?_
    refine g_iaload (pc := 1873) rfl dL_law_1873 fun v405 => ?_
    refine g_aload_n (pc := 1874) (x := v9) 3 rfl rfl dL_law_1874 ?_
    refine g_bi (pc := 1875) (y := yX0_toldClosed) (ws := wsW_ yX0_toldClosed cX0_toldClosed 5 (some .int) [(0, 17, 20, 21), (0, 17, 24, 13)]) (fr := 11) (lo := 220) (as := [gr v1, gi v404, gi v405, gr v9]) (st := []) (g_no) rfl (fun _ _ e => tX0_toldClosed hs e) (fun K _ _ hM R e1 e2 => g_runSX (M := mL_law) (pc := 1875) (y := yX0_toldClosed) (bytes := cX0_toldClosed) (maxL := 5) (ret := (some .int)) (hh := [(0, 17, 20, 21), (0, 17, 24, 13)]) (fr := 11) (lo := 220) (as := [gr v1, gi v404, gi v405, gr v9]) (st := []) gy_X0_toldClosed (gbl rfl) (gbl rfl) (gbl rfl) q3235 q3236 dL_law_1875 K hM R e1 e2) fun v406 h407 => ?_
    refine g_istore (pc := 1878) (lv' := [(6, gi v406), (0, gr a0), (1, gr v1), (2, gr v5), (3, gr v9), (4, gr v11), (5, gi x13)]) [0, 1, 2, 3, 4, 5, 6] rfl (gblt rfl) dL_law_1878 ?_
    refine g_aload_n (pc := 1880) (x := v5) 3 rfl rfl dL_law_1880 ?_
    refine g_aload_n (pc := 1881) (x := a0) 1 rfl rfl dL_law_1881 ?_
    refine g_iload (pc := 1882) (x := x13) 6 rfl dL_law_1882 ?_
    refine g_iconst (pc := 1884) (v := (1 : Int32)) ic_1 dL_law_1884 ?_
    refine g_iadd (pc := 1885) dL_law_1885 ?_
    refine g_iaload (pc := 1886) rfl dL_law_1886 fun v408 => ?_
    refine g_aload_n (pc := 1887) (x := a0) 1 rfl rfl dL_law_1887 ?_
    refine g_iload (pc := 1888) (x := x13) 6 rfl dL_law_1888 ?_
    refine g_iconst (pc := 1890) (v := (2 : Int32)) ic_2 dL_law_1890 ?_
    refine g_iadd (pc := 1891) dL_law_1891 ?_
    refine g_iaload (pc := 1892) rfl dL_law_1892 fun v409 => ?_
    refine g_bVi (pc := 1893) (y := yX2_toldClosed) (ws := ws_ yX2_toldClosed cX2_toldClosed 3 (some .boolean)) (fr := 6) (lo := 139) (as := [gi v408, gi v409]) (st := []) (g_no) rfl (fun _ _ _ e => tX2_toldClosed hs e) (fun K _ _ _ hq hM R e1 e2 => g_runV (M := mL_law) (pc := 1893) (y := yX2_toldClosed) (bytes := cX2_toldClosed) (maxL := 3) (ret := (some .boolean)) (fr := 6) (lo := 139) (as := [gi v408, gi v409]) (st := []) hq (C := "FlareSlopesModel") rfl gy_X2_toldClosed (gbl rfl) (gbl rfl) (gbl rfl) q4383 q4384 q4385 dL_law_1893 K hM R e1 e2) fun v410 h411 => ?_
    refine g_istore (pc := 1896) (lv' := [(7, gi v410), (6, gi v406), (0, gr a0), (1, gr v1), (2, gr v5), (3, gr v9), (4, gr v11), (5, gi x13)]) [0, 1, 2, 3, 4, 5, 6, 7] rfl (gblt rfl) dL_law_1896 ?_
    refine g_aload_n (pc := 1898) (x := v5) 4 rfl rfl dL_law_1898 ?_
    refine g_bVi (pc := 1899) (y := yX2_thrown) (ws := ws_ yX2_thrown cX2_thrown 1 (some .int)) (fr := 0) (lo := 0) (as := []) (st := []) (g_no) rfl (fun _ _ _ e => tX2_thrown hs e) (fun K _ _ _ hq hM R e1 e2 => g_runV (M := mL_law) (pc := 1899) (y := yX2_thrown) (bytes := cX2_thrown) (maxL := 1) (ret := (some .int)) (fr := 0) (lo := 0) (as := []) (st := []) hq (C := "FlareSlopesModel") rfl gy_X2_thrown (gbl rfl) (gbl rfl) (gbl rfl) q4009 q4010 q4011 dL_law_1899 K hM R e1 e2) fun v412 h413 => ?_
    refine g_iload (pc := 1902) (x := v406) 1 rfl dL_law_1902 ?_
    refine g_icmp_eq (pc := 1904) (tgt := 1909) rfl dL_law_1904 ?_ ?_
    rotate_left
    · refine g_iconst (pc := 1907) (v := (0 : Int32)) ic_0 dL_law_1907 ?_
      exact g_zreturn (pc := 1908) rfl dL_law_1908
    refine g_iload (pc := 1909) (x := v406) 1 rfl dL_law_1909 ?_
    refine g_join 1933 (fun (x414 : Unit) => [(0, gr a0), (1, gr v1), (2, gr v5), (3, gr v9), (4, gr v11), (5, gi x13)]) (fun (x414 : Unit) => []) (fun x414 h415 => ?_) (fun j416 Hj416 => ?_)
    · refine g_goto (pc := 1933) (tgt := 4259) rfl dL_law_1933 ?_
      exact Hj20 () h415
    refine g_if_ne (pc := 1911) (tgt := 1933) rfl dL_law_1911 ?_ ?_
    rotate_left
    · exact g_sub [2, 3, 4, 5, 6, 7] rfl (Hj416 () h413)
    refine g_aload_n (pc := 1914) (x := v9) 5 rfl rfl dL_law_1914 ?_
    refine g_iconst (pc := 1915) (v := (0 : Int32)) ic_0 dL_law_1915 ?_
    refine g_laload (pc := 1916) rfl dL_law_1916 fun v417 => ?_
    refine g_iload (pc := 1917) (x := v410) 0 rfl dL_law_1917 ?_
    refine g_join 1927 (fun (x418 : Int64) => [(0, gr a0), (1, gr v1), (2, gr v5), (3, gr v9), (4, gr v11), (5, gi x13)]) (fun (x418 : Int64) => [gl x418, gl v417]) (fun x418 h419 => ?_) (fun j420 Hj420 => ?_)
    · refine g_lcmp (pc := 1927) dL_law_1927 ?_
      refine g_if_eq (pc := 1928) (tgt := 1933) rfl dL_law_1928 ?_ ?_
      · exact Hj416 () h419
      refine g_iconst (pc := 1931) (v := (0 : Int32)) ic_0 dL_law_1931 ?_
      exact g_zreturn (pc := 1932) rfl dL_law_1932
    refine g_if_eq (pc := 1919) (tgt := 1926) rfl dL_law_1919 ?_ ?_
    · refine g_lconst (pc := 1926) (v := (0 : Int64)) rfl dL_law_1926 ?_
      exact g_sub [2, 3, 4, 5, 6, 7] rfl (Hj420 (0 : Int64) h413)
    refine g_lconst (pc := 1922) (v := (1 : Int64)) rfl dL_law_1922 ?_
    refine g_goto (pc := 1923) (tgt := 1927) rfl dL_law_1923 ?_
    exact g_sub [2, 3, 4, 5, 6, 7] rfl (Hj420 (1 : Int64) h413)
  · refine g_aload_n (pc := 1936) (x := v1) 1 rfl rfl dL_law_1936 ?_
    refine g_aload_n (pc := 1937) (x := a0) 0 rfl rfl dL_law_1937 ?_
    refine g_iload (pc := 1938) (x := x13) 5 rfl dL_law_1938 ?_
    refine g_iconst (pc := 1940) (v := (1 : Int32)) ic_1 dL_law_1940 ?_
    refine g_iadd (pc := 1941) dL_law_1941 ?_
    refine g_iaload (pc := 1942) rfl dL_law_1942 fun v423 => ?_
    refine g_aload_n (pc := 1943) (x := v9) 3 rfl rfl dL_law_1943 ?_
    refine g_bi (pc := 1944) (y := yX0_closers) (ws := wsW_ yX0_closers cX0_closers 4 (some .int) [(0, 9, 12, 21), (0, 9, 15, 13)]) (fr := 10) (lo := 164) (as := [gr v1, gi v423, gr v9]) (st := []) (g_no) rfl (fun _ _ e => tX0_closers hs e) (fun K _ _ hM R e1 e2 => g_runSX (M := mL_law) (pc := 1944) (y := yX0_closers) (bytes := cX0_closers) (maxL := 4) (ret := (some .int)) (hh := [(0, 9, 12, 21), (0, 9, 15, 13)]) (fr := 10) (lo := 164) (as := [gr v1, gi v423, gr v9]) (st := []) gy_X0_closers (gbl rfl) (gbl rfl) (gbl rfl) q3248 q3249 dL_law_1944 K hM R e1 e2) fun v424 h425 => ?_
    refine g_istore (pc := 1947) (lv' := [(6, gi v424), (0, gr a0), (1, gr v1), (2, gr v5), (3, gr v9), (4, gr v11), (5, gi x13)]) [0, 1, 2, 3, 4, 5, 6] rfl (gblt rfl) dL_law_1947 ?_
    refine g_aload_n (pc := 1949) (x := v5) 3 rfl rfl dL_law_1949 ?_
    refine g_aload_n (pc := 1950) (x := a0) 1 rfl rfl dL_law_1950 ?_
    refine g_iload (pc := 1951) (x := x13) 6 rfl dL_law_1951 ?_
    refine g_iconst (pc := 1953) (v := (1 : Int32)) ic_1 dL_law_1953 ?_
    refine g_iadd (pc := 1954) dL_law_1954 ?_
    refine g_iaload (pc := 1955) rfl dL_law_1955 fun v426 => ?_
    refine g_bVi (pc := 1956) (y := yX2_closers) (ws := ws_ yX2_closers cX2_closers 2 (some .int)) (fr := 3) (lo := 66) (as := [gi v426]) (st := []) (g_no) rfl (fun _ _ _ e => tX2_closers hs e) (fun K _ _ _ hq hM R e1 e2 => g_runV (M := mL_law) (pc := 1956) (y := yX2_closers) (bytes := cX2_closers) (maxL := 2) (ret := (some .int)) (fr := 3) (lo := 66) (as := [gi v426]) (st := []) hq (C := "FlareSlopesModel") rfl gy_X2_closers (gbl rfl) (gbl rfl) (gbl rfl) q4415 q4416 q4417 dL_law_1956 K hM R e1 e2) fun v427 h428 => ?_
    refine g_istore (pc := 1959) (lv' := [(7, gi v427), (6, gi v424), (0, gr a0), (1, gr v1), (2, gr v5), (3, gr v9), (4, gr v11), (5, gi x13)]) [0, 1, 2, 3, 4, 5, 6, 7] rfl (gblt rfl) dL_law_1959 ?_
    refine g_aload_n (pc := 1961) (x := v5) 4 rfl rfl dL_law_1961 ?_
    refine g_bVi (pc := 1962) (y := yX2_thrown) (ws := ws_ yX2_thrown cX2_thrown 1 (some .int)) (fr := 0) (lo := 0) (as := []) (st := []) (g_no) rfl (fun _ _ _ e => tX2_thrown hs e) (fun K _ _ _ hq hM R e1 e2 => g_runV (M := mL_law) (pc := 1962) (y := yX2_thrown) (bytes := cX2_thrown) (maxL := 1) (ret := (some .int)) (fr := 0) (lo := 0) (as := []) (st := []) hq (C := "FlareSlopesModel") rfl gy_X2_thrown (gbl rfl) (gbl rfl) (gbl rfl) q4009 q4010 q4011 dL_law_1962 K hM R e1 e2) fun v429 h430 => ?_
    refine g_iload (pc := 1965) (x := v424) 1 rfl dL_law_1965 ?_
    refine g_icmp_eq (pc := 1967) (tgt := 1972) rfl dL_law_1967 ?_ ?_
    rotate_left
    · refine g_iconst (pc := 1970) (v := (0 : Int32)) ic_0 dL_law_1970 ?_
      exact g_zreturn (pc := 1971) rfl dL_law_1971
    refine g_iload (pc := 1972) (x := v424) 1 rfl dL_law_1972 ?_
    refine g_join 1989 (fun (x431 : Unit) => [(0, gr a0), (1, gr v1), (2, gr v5), (3, gr v9), (4, gr v11), (5, gi x13)]) (fun (x431 : Unit) => []) (fun x431 h432 => ?_) (fun j433 Hj433 => ?_)
    · refine g_goto (pc := 1989) (tgt := 4259) rfl dL_law_1989 ?_
      exact Hj20 () h432
    refine g_if_ne (pc := 1974) (tgt := 1989) rfl dL_law_1974 ?_ ?_
    rotate_left
    · exact g_sub [2, 3, 4, 5, 6, 7] rfl (Hj433 () h430)
    refine g_aload_n (pc := 1977) (x := v9) 5 rfl rfl dL_law_1977 ?_
    refine g_iconst (pc := 1978) (v := (0 : Int32)) ic_0 dL_law_1978 ?_
    refine g_laload (pc := 1979) rfl dL_law_1979 fun v434 => ?_
    refine g_iload (pc := 1980) (x := v427) 0 rfl dL_law_1980 ?_
    refine g_i2l (pc := 1982) dL_law_1982 ?_
    refine g_lcmp (pc := 1983) dL_law_1983 ?_
    refine g_if_eq (pc := 1984) (tgt := 1989) rfl dL_law_1984 ?_ ?_
    · exact g_sub [2, 3, 4, 5, 6, 7] rfl (Hj433 () h430)
    refine g_iconst (pc := 1987) (v := (0 : Int32)) ic_0 dL_law_1987 ?_
    exact g_zreturn (pc := 1988) rfl dL_law_1988
  · refine g_aload_n (pc := 1992) (x := v1) 1 rfl rfl dL_law_1992 ?_
    refine g_aload_n (pc := 1993) (x := a0) 0 rfl rfl dL_law_1993 ?_
    refine g_iload (pc := 1994) (x := x13) 5 rfl dL_law_1994 ?_
    refine g_iconst (pc := 1996) (v := (1 : Int32)) ic_1 dL_law_1996 ?_
    refine g_iadd (pc := 1997) dL_law_1997 ?_
    refine g_iaload (pc := 1998) rfl dL_law_1998 fun v437 => ?_
    refine g_aload_n (pc := 1999) (x := v9) 3 rfl rfl dL_law_1999 ?_
    refine g_bi (pc := 2000) (y := yX0_quarrels) (ws := wsW_ yX0_quarrels cX0_quarrels 4 (some .int) [(0, 9, 12, 21), (0, 9, 15, 13)]) (fr := 10) (lo := 176) (as := [gr v1, gi v437, gr v9]) (st := []) (g_no) rfl (fun _ _ e => tX0_quarrels hs e) (fun K _ _ hM R e1 e2 => g_runSX (M := mL_law) (pc := 2000) (y := yX0_quarrels) (bytes := cX0_quarrels) (maxL := 4) (ret := (some .int)) (hh := [(0, 9, 12, 21), (0, 9, 15, 13)]) (fr := 10) (lo := 176) (as := [gr v1, gi v437, gr v9]) (st := []) gy_X0_quarrels (gbl rfl) (gbl rfl) (gbl rfl) q3255 q3256 dL_law_2000 K hM R e1 e2) fun v438 h439 => ?_
    refine g_istore (pc := 2003) (lv' := [(6, gi v438), (0, gr a0), (1, gr v1), (2, gr v5), (3, gr v9), (4, gr v11), (5, gi x13)]) [0, 1, 2, 3, 4, 5, 6] rfl (gblt rfl) dL_law_2003 ?_
    refine g_aload_n (pc := 2005) (x := v5) 3 rfl rfl dL_law_2005 ?_
    refine g_aload_n (pc := 2006) (x := a0) 1 rfl rfl dL_law_2006 ?_
    refine g_iload (pc := 2007) (x := x13) 6 rfl dL_law_2007 ?_
    refine g_iconst (pc := 2009) (v := (1 : Int32)) ic_1 dL_law_2009 ?_
    refine g_iadd (pc := 2010) dL_law_2010 ?_
    refine g_iaload (pc := 2011) rfl dL_law_2011 fun v440 => ?_
    refine g_bVi (pc := 2012) (y := yX2_quarrels) (ws := ws_ yX2_quarrels cX2_quarrels 5 (some .int)) (fr := 4) (lo := 93) (as := [gi v440]) (st := []) (g_no) rfl (fun _ _ _ e => tX2_quarrels hs e) (fun K _ _ _ hq hM R e1 e2 => g_runV (M := mL_law) (pc := 2012) (y := yX2_quarrels) (bytes := cX2_quarrels) (maxL := 5) (ret := (some .int)) (fr := 4) (lo := 93) (as := [gi v440]) (st := []) hq (C := "FlareSlopesModel") rfl gy_X2_quarrels (gbl rfl) (gbl rfl) (gbl rfl) q4419 q4420 q4421 dL_law_2012 K hM R e1 e2) fun v441 h442 => ?_
    refine g_istore (pc := 2015) (lv' := [(7, gi v441), (6, gi v438), (0, gr a0), (1, gr v1), (2, gr v5), (3, gr v9), (4, gr v11), (5, gi x13)]) [0, 1, 2, 3, 4, 5, 6, 7] rfl (gblt rfl) dL_law_2015 ?_
    refine g_aload_n (pc := 2017) (x := v5) 4 rfl rfl dL_law_2017 ?_
    refine g_bVi (pc := 2018) (y := yX2_thrown) (ws := ws_ yX2_thrown cX2_thrown 1 (some .int)) (fr := 0) (lo := 0) (as := []) (st := []) (g_no) rfl (fun _ _ _ e => tX2_thrown hs e) (fun K _ _ _ hq hM R e1 e2 => g_runV (M := mL_law) (pc := 2018) (y := yX2_thrown) (bytes := cX2_thrown) (maxL := 1) (ret := (some .int)) (fr := 0) (lo := 0) (as := []) (st := []) hq (C := "FlareSlopesModel") rfl gy_X2_thrown (gbl rfl) (gbl rfl) (gbl rfl) q4009 q4010 q4011 dL_law_2018 K hM R e1 e2) fun v443 h444 => ?_
    refine g_iload (pc := 2021) (x := v438) 1 rfl dL_law_2021 ?_
    refine g_icmp_eq (pc := 2023) (tgt := 2028) rfl dL_law_2023 ?_ ?_
    rotate_left
    · refine g_iconst (pc := 2026) (v := (0 : Int32)) ic_0 dL_law_2026 ?_
      exact g_zreturn (pc := 2027) rfl dL_law_2027
    refine g_iload (pc := 2028) (x := v438) 1 rfl dL_law_2028 ?_
    refine g_join 2045 (fun (x445 : Unit) => [(0, gr a0), (1, gr v1), (2, gr v5), (3, gr v9), (4, gr v11), (5, gi x13)]) (fun (x445 : Unit) => []) (fun x445 h446 => ?_) (fun j447 Hj447 => ?_)
    · refine g_goto (pc := 2045) (tgt := 4259) rfl dL_law_2045 ?_
      exact Hj20 () h446
    refine g_if_ne (pc := 2030) (tgt := 2045) rfl dL_law_2030 ?_ ?_
    rotate_left
    · exact g_sub [2, 3, 4, 5, 6, 7] rfl (Hj447 () h444)
    refine g_aload_n (pc := 2033) (x := v9) 5 rfl rfl dL_law_2033 ?_
    refine g_iconst (pc := 2034) (v := (0 : Int32)) ic_0 dL_law_2034 ?_
    refine g_laload (pc := 2035) rfl dL_law_2035 fun v448 => ?_
    refine g_iload (pc := 2036) (x := v441) 0 rfl dL_law_2036 ?_
    refine g_i2l (pc := 2038) dL_law_2038 ?_
    refine g_lcmp (pc := 2039) dL_law_2039 ?_
    refine g_if_eq (pc := 2040) (tgt := 2045) rfl dL_law_2040 ?_ ?_
    · exact g_sub [2, 3, 4, 5, 6, 7] rfl (Hj447 () h444)
    refine g_iconst (pc := 2043) (v := (0 : Int32)) ic_0 dL_law_2043 ?_
    exact g_zreturn (pc := 2044) rfl dL_law_2044
  · refine g_aload_n (pc := 2048) (x := v1) 1 rfl rfl dL_law_2048 ?_
    refine g_aload_n (pc := 2049) (x := a0) 0 rfl rfl dL_law_2049 ?_
    refine g_iload (pc := 2050) (x := x13) 5 rfl dL_law_2050 ?_
    refine g_iconst (pc := 2052) (v := (1 : Int32)) ic_1 dL_law_2052 ?_
    refine g_iadd (pc := 2053) dL_law_2053 ?_
    refine g_iaload (pc := 2054) rfl dL_law_2054 fun v451 => ?_
    refine g_aload_n (pc := 2055) (x := v9) 3 rfl rfl dL_law_2055 ?_
    refine g_bi (pc := 2056) (y := yX0_disputes) (ws := wsW_ yX0_disputes cX0_disputes 4 (some .int) [(0, 9, 12, 21), (0, 9, 15, 13)]) (fr := 10) (lo := 186) (as := [gr v1, gi v451, gr v9]) (st := []) (g_no) rfl (fun _ _ e => tX0_disputes hs e) (fun K _ _ hM R e1 e2 => g_runSX (M := mL_law) (pc := 2056) (y := yX0_disputes) (bytes := cX0_disputes) (maxL := 4) (ret := (some .int)) (hh := [(0, 9, 12, 21), (0, 9, 15, 13)]) (fr := 10) (lo := 186) (as := [gr v1, gi v451, gr v9]) (st := []) gy_X0_disputes (gbl rfl) (gbl rfl) (gbl rfl) q3262 q3263 dL_law_2056 K hM R e1 e2) fun v452 h453 => ?_
    refine g_istore (pc := 2059) (lv' := [(6, gi v452), (0, gr a0), (1, gr v1), (2, gr v5), (3, gr v9), (4, gr v11), (5, gi x13)]) [0, 1, 2, 3, 4, 5, 6] rfl (gblt rfl) dL_law_2059 ?_
    refine g_aload_n (pc := 2061) (x := v5) 3 rfl rfl dL_law_2061 ?_
    refine g_aload_n (pc := 2062) (x := a0) 1 rfl rfl dL_law_2062 ?_
    refine g_iload (pc := 2063) (x := x13) 6 rfl dL_law_2063 ?_
    refine g_iconst (pc := 2065) (v := (1 : Int32)) ic_1 dL_law_2065 ?_
    refine g_iadd (pc := 2066) dL_law_2066 ?_
    refine g_iaload (pc := 2067) rfl dL_law_2067 fun v454 => ?_
    refine g_bVi (pc := 2068) (y := yX2_disputes) (ws := ws_ yX2_disputes cX2_disputes 4 (some .int)) (fr := 3) (lo := 70) (as := [gi v454]) (st := []) (g_no) rfl (fun _ _ _ e => tX2_disputes hs e) (fun K _ _ _ hq hM R e1 e2 => g_runV (M := mL_law) (pc := 2068) (y := yX2_disputes) (bytes := cX2_disputes) (maxL := 4) (ret := (some .int)) (fr := 3) (lo := 70) (as := [gi v454]) (st := []) hq (C := "FlareSlopesModel") rfl gy_X2_disputes (gbl rfl) (gbl rfl) (gbl rfl) q4391 q4392 q4393 dL_law_2068 K hM R e1 e2) fun v455 h456 => ?_
    refine g_istore (pc := 2071) (lv' := [(7, gi v455), (6, gi v452), (0, gr a0), (1, gr v1), (2, gr v5), (3, gr v9), (4, gr v11), (5, gi x13)]) [0, 1, 2, 3, 4, 5, 6, 7] rfl (gblt rfl) dL_law_2071 ?_
    refine g_aload_n (pc := 2073) (x := v5) 4 rfl rfl dL_law_2073 ?_
    refine g_bVi (pc := 2074) (y := yX2_thrown) (ws := ws_ yX2_thrown cX2_thrown 1 (some .int)) (fr := 0) (lo := 0) (as := []) (st := []) (g_no) rfl (fun _ _ _ e => tX2_thrown hs e) (fun K _ _ _ hq hM R e1 e2 => g_runV (M := mL_law) (pc := 2074) (y := yX2_thrown) (bytes := cX2_thrown) (maxL := 1) (ret := (some .int)) (fr := 0) (lo := 0) (as := []) (st := []) hq (C := "FlareSlopesModel") rfl gy_X2_thrown (gbl rfl) (gbl rfl) (gbl rfl) q4009 q4010 q4011 dL_law_2074 K hM R e1 e2) fun v457 h458 => ?_
    refine g_iload (pc := 2077) (x := v452) 1 rfl dL_law_2077 ?_
    refine g_icmp_eq (pc := 2079) (tgt := 2084) rfl dL_law_2079 ?_ ?_
    rotate_left
    · refine g_iconst (pc := 2082) (v := (0 : Int32)) ic_0 dL_law_2082 ?_
      exact g_zreturn (pc := 2083) rfl dL_law_2083
    refine g_iload (pc := 2084) (x := v452) 1 rfl dL_law_2084 ?_
    refine g_join 2101 (fun (x459 : Unit) => [(0, gr a0), (1, gr v1), (2, gr v5), (3, gr v9), (4, gr v11), (5, gi x13)]) (fun (x459 : Unit) => []) (fun x459 h460 => ?_) (fun j461 Hj461 => ?_)
    · refine g_goto (pc := 2101) (tgt := 4259) rfl dL_law_2101 ?_
      exact Hj20 () h460
    refine g_if_ne (pc := 2086) (tgt := 2101) rfl dL_law_2086 ?_ ?_
    rotate_left
    · exact g_sub [2, 3, 4, 5, 6, 7] rfl (Hj461 () h458)
    refine g_aload_n (pc := 2089) (x := v9) 5 rfl rfl dL_law_2089 ?_
    refine g_iconst (pc := 2090) (v := (0 : Int32)) ic_0 dL_law_2090 ?_
    refine g_laload (pc := 2091) rfl dL_law_2091 fun v462 => ?_
    refine g_iload (pc := 2092) (x := v455) 0 rfl dL_law_2092 ?_
    refine g_i2l (pc := 2094) dL_law_2094 ?_
    refine g_lcmp (pc := 2095) dL_law_2095 ?_
    refine g_if_eq (pc := 2096) (tgt := 2101) rfl dL_law_2096 ?_ ?_
    · exact g_sub [2, 3, 4, 5, 6, 7] rfl (Hj461 () h458)
    refine g_iconst (pc := 2099) (v := (0 : Int32)) ic_0 dL_law_2099 ?_
    exact g_zreturn (pc := 2100) rfl dL_law_2100
  · refine g_aload_n (pc := 2104) (x := v1) 1 rfl rfl dL_law_2104 ?_
    refine g_aload_n (pc := 2105) (x := a0) 0 rfl rfl dL_law_2105 ?_
    refine g_iload (pc := 2106) (x := x13) 5 rfl dL_law_2106 ?_
    refine g_iconst (pc := 2108) (v := (1 : Int32)) ic_1 dL_law_2108 ?_
    refine g_iadd (pc := 2109) dL_law_2109 ?_
    refine g_iaload (pc := 2110) rfl dL_law_2110 fun v465 => ?_
    refine g_aload_n (pc := 2111) (x := v9) 3 rfl rfl dL_law_2111 ?_
    refine g_bi (pc := 2112) (y := yX0_falseVotes) (ws := wsW_ yX0_falseVotes cX0_falseVotes 4 (some .int) [(0, 9, 12, 21), (0, 9, 15, 13)]) (fr := 10) (lo := 164) (as := [gr v1, gi v465, gr v9]) (st := []) (g_no) rfl (fun _ _ e => tX0_falseVotes hs e) (fun K _ _ hM R e1 e2 => g_runSX (M := mL_law) (pc := 2112) (y := yX0_falseVotes) (bytes := cX0_falseVotes) (maxL := 4) (ret := (some .int)) (hh := [(0, 9, 12, 21), (0, 9, 15, 13)]) (fr := 10) (lo := 164) (as := [gr v1, gi v465, gr v9]) (st := []) gy_X0_falseVotes (gbl rfl) (gbl rfl) (gbl rfl) q3380 q3381 dL_law_2112 K hM R e1 e2) fun v466 h467 => ?_
    refine g_istore (pc := 2115) (lv' := [(6, gi v466), (0, gr a0), (1, gr v1), (2, gr v5), (3, gr v9), (4, gr v11), (5, gi x13)]) [0, 1, 2, 3, 4, 5, 6] rfl (gblt rfl) dL_law_2115 ?_
    refine g_aload_n (pc := 2117) (x := v5) 3 rfl rfl dL_law_2117 ?_
    refine g_aload_n (pc := 2118) (x := a0) 1 rfl rfl dL_law_2118 ?_
    refine g_iload (pc := 2119) (x := x13) 6 rfl dL_law_2119 ?_
    refine g_iconst (pc := 2121) (v := (1 : Int32)) ic_1 dL_law_2121 ?_
    refine g_iadd (pc := 2122) dL_law_2122 ?_
    refine g_iaload (pc := 2123) rfl dL_law_2123 fun v468 => ?_
    refine g_bVi (pc := 2124) (y := yX2_falseVotes) (ws := ws_ yX2_falseVotes cX2_falseVotes 5 (some .int)) (fr := 3) (lo := 66) (as := [gi v468]) (st := []) (g_no) rfl (fun _ _ _ e => tX2_falseVotes hs e) (fun K _ _ _ hq hM R e1 e2 => g_runV (M := mL_law) (pc := 2124) (y := yX2_falseVotes) (bytes := cX2_falseVotes) (maxL := 5) (ret := (some .int)) (fr := 3) (lo := 66) (as := [gi v468]) (st := []) hq (C := "FlareSlopesModel") rfl gy_X2_falseVotes (gbl rfl) (gbl rfl) (gbl rfl) q4395 q4396 q4397 dL_law_2124 K hM R e1 e2) fun v469 h470 => ?_
    refine g_istore (pc := 2127) (lv' := [(7, gi v469), (6, gi v466), (0, gr a0), (1, gr v1), (2, gr v5), (3, gr v9), (4, gr v11), (5, gi x13)]) [0, 1, 2, 3, 4, 5, 6, 7] rfl (gblt rfl) dL_law_2127 ?_
    refine g_aload_n (pc := 2129) (x := v5) 4 rfl rfl dL_law_2129 ?_
    refine g_bVi (pc := 2130) (y := yX2_thrown) (ws := ws_ yX2_thrown cX2_thrown 1 (some .int)) (fr := 0) (lo := 0) (as := []) (st := []) (g_no) rfl (fun _ _ _ e => tX2_thrown hs e) (fun K _ _ _ hq hM R e1 e2 => g_runV (M := mL_law) (pc := 2130) (y := yX2_thrown) (bytes := cX2_thrown) (maxL := 1) (ret := (some .int)) (fr := 0) (lo := 0) (as := []) (st := []) hq (C := "FlareSlopesModel") rfl gy_X2_thrown (gbl rfl) (gbl rfl) (gbl rfl) q4009 q4010 q4011 dL_law_2130 K hM R e1 e2) fun v471 h472 => ?_
    refine g_iload (pc := 2133) (x := v466) 1 rfl dL_law_2133 ?_
    refine g_icmp_eq (pc := 2135) (tgt := 2140) rfl dL_law_2135 ?_ ?_
    rotate_left
    · refine g_iconst (pc := 2138) (v := (0 : Int32)) ic_0 dL_law_2138 ?_
      exact g_zreturn (pc := 2139) rfl dL_law_2139
    refine g_iload (pc := 2140) (x := v466) 1 rfl dL_law_2140 ?_
    refine g_join 2157 (fun (x473 : Unit) => [(0, gr a0), (1, gr v1), (2, gr v5), (3, gr v9), (4, gr v11), (5, gi x13)]) (fun (x473 : Unit) => []) (fun x473 h474 => ?_) (fun j475 Hj475 => ?_)
    · refine g_goto (pc := 2157) (tgt := 4259) rfl dL_law_2157 ?_
      exact Hj20 () h474
    refine g_if_ne (pc := 2142) (tgt := 2157) rfl dL_law_2142 ?_ ?_
    rotate_left
    · exact g_sub [2, 3, 4, 5, 6, 7] rfl (Hj475 () h472)
    refine g_aload_n (pc := 2145) (x := v9) 5 rfl rfl dL_law_2145 ?_
    refine g_iconst (pc := 2146) (v := (0 : Int32)) ic_0 dL_law_2146 ?_
    refine g_laload (pc := 2147) rfl dL_law_2147 fun v476 => ?_
    refine g_iload (pc := 2148) (x := v469) 0 rfl dL_law_2148 ?_
    refine g_i2l (pc := 2150) dL_law_2150 ?_
    refine g_lcmp (pc := 2151) dL_law_2151 ?_
    refine g_if_eq (pc := 2152) (tgt := 2157) rfl dL_law_2152 ?_ ?_
    · exact g_sub [2, 3, 4, 5, 6, 7] rfl (Hj475 () h472)
    refine g_iconst (pc := 2155) (v := (0 : Int32)) ic_0 dL_law_2155 ?_
    exact g_zreturn (pc := 2156) rfl dL_law_2156
  · refine g_aload_n (pc := 2160) (x := v1) 1 rfl rfl dL_law_2160 ?_
    refine g_aload_n (pc := 2161) (x := a0) 0 rfl rfl dL_law_2161 ?_
    refine g_iload (pc := 2162) (x := x13) 5 rfl dL_law_2162 ?_
    refine g_iconst (pc := 2164) (v := (1 : Int32)) ic_1 dL_law_2164 ?_
    refine g_iadd (pc := 2165) dL_law_2165 ?_
    refine g_iaload (pc := 2166) rfl dL_law_2166 fun v479 => ?_
    refine g_aload_n (pc := 2167) (x := v9) 3 rfl rfl dL_law_2167 ?_
    refine g_bi (pc := 2168) (y := yX0_oldestVote) (ws := wsW_ yX0_oldestVote cX0_oldestVote 4 (some .int) [(0, 9, 12, 21), (0, 9, 15, 13)]) (fr := 10) (lo := 166) (as := [gr v1, gi v479, gr v9]) (st := []) (g_no) rfl (fun _ _ e => tX0_oldestVote hs e) (fun K _ _ hM R e1 e2 => g_runSX (M := mL_law) (pc := 2168) (y := yX0_oldestVote) (bytes := cX0_oldestVote) (maxL := 4) (ret := (some .int)) (hh := [(0, 9, 12, 21), (0, 9, 15, 13)]) (fr := 10) (lo := 166) (as := [gr v1, gi v479, gr v9]) (st := []) gy_X0_oldestVote (gbl rfl) (gbl rfl) (gbl rfl) q3397 q3398 dL_law_2168 K hM R e1 e2) fun v480 h481 => ?_
    refine g_istore (pc := 2171) (lv' := [(6, gi v480), (0, gr a0), (1, gr v1), (2, gr v5), (3, gr v9), (4, gr v11), (5, gi x13)]) [0, 1, 2, 3, 4, 5, 6] rfl (gblt rfl) dL_law_2171 ?_
    refine g_aload_n (pc := 2173) (x := v5) 3 rfl rfl dL_law_2173 ?_
    refine g_aload_n (pc := 2174) (x := a0) 1 rfl rfl dL_law_2174 ?_
    refine g_iload (pc := 2175) (x := x13) 6 rfl dL_law_2175 ?_
    refine g_iconst (pc := 2177) (v := (1 : Int32)) ic_1 dL_law_2177 ?_
    refine g_iadd (pc := 2178) dL_law_2178 ?_
    refine g_iaload (pc := 2179) rfl dL_law_2179 fun v482 => ?_
    refine g_bVi (pc := 2180) (y := yX2_oldestVote) (ws := ws_ yX2_oldestVote cX2_oldestVote 4 (some .int)) (fr := 3) (lo := 66) (as := [gi v482]) (st := []) (g_no) rfl (fun _ _ _ e => tX2_oldestVote hs e) (fun K _ _ _ hq hM R e1 e2 => g_runV (M := mL_law) (pc := 2180) (y := yX2_oldestVote) (bytes := cX2_oldestVote) (maxL := 4) (ret := (some .int)) (fr := 3) (lo := 66) (as := [gi v482]) (st := []) hq (C := "FlareSlopesModel") rfl gy_X2_oldestVote (gbl rfl) (gbl rfl) (gbl rfl) q4399 q4400 q4401 dL_law_2180 K hM R e1 e2) fun v483 h484 => ?_
    refine g_istore (pc := 2183) (lv' := [(7, gi v483), (6, gi v480), (0, gr a0), (1, gr v1), (2, gr v5), (3, gr v9), (4, gr v11), (5, gi x13)]) [0, 1, 2, 3, 4, 5, 6, 7] rfl (gblt rfl) dL_law_2183 ?_
    refine g_aload_n (pc := 2185) (x := v5) 4 rfl rfl dL_law_2185 ?_
    refine g_bVi (pc := 2186) (y := yX2_thrown) (ws := ws_ yX2_thrown cX2_thrown 1 (some .int)) (fr := 0) (lo := 0) (as := []) (st := []) (g_no) rfl (fun _ _ _ e => tX2_thrown hs e) (fun K _ _ _ hq hM R e1 e2 => g_runV (M := mL_law) (pc := 2186) (y := yX2_thrown) (bytes := cX2_thrown) (maxL := 1) (ret := (some .int)) (fr := 0) (lo := 0) (as := []) (st := []) hq (C := "FlareSlopesModel") rfl gy_X2_thrown (gbl rfl) (gbl rfl) (gbl rfl) q4009 q4010 q4011 dL_law_2186 K hM R e1 e2) fun v485 h486 => ?_
    refine g_iload (pc := 2189) (x := v480) 1 rfl dL_law_2189 ?_
    refine g_icmp_eq (pc := 2191) (tgt := 2196) rfl dL_law_2191 ?_ ?_
    rotate_left
    · refine g_iconst (pc := 2194) (v := (0 : Int32)) ic_0 dL_law_2194 ?_
      exact g_zreturn (pc := 2195) rfl dL_law_2195
    refine g_iload (pc := 2196) (x := v480) 1 rfl dL_law_2196 ?_
    refine g_join 2213 (fun (x487 : Unit) => [(0, gr a0), (1, gr v1), (2, gr v5), (3, gr v9), (4, gr v11), (5, gi x13)]) (fun (x487 : Unit) => []) (fun x487 h488 => ?_) (fun j489 Hj489 => ?_)
    · refine g_goto (pc := 2213) (tgt := 4259) rfl dL_law_2213 ?_
      exact Hj20 () h488
    refine g_if_ne (pc := 2198) (tgt := 2213) rfl dL_law_2198 ?_ ?_
    rotate_left
    · exact g_sub [2, 3, 4, 5, 6, 7] rfl (Hj489 () h486)
    refine g_aload_n (pc := 2201) (x := v9) 5 rfl rfl dL_law_2201 ?_
    refine g_iconst (pc := 2202) (v := (0 : Int32)) ic_0 dL_law_2202 ?_
    refine g_laload (pc := 2203) rfl dL_law_2203 fun v490 => ?_
    refine g_iload (pc := 2204) (x := v483) 0 rfl dL_law_2204 ?_
    refine g_i2l (pc := 2206) dL_law_2206 ?_
    refine g_lcmp (pc := 2207) dL_law_2207 ?_
    refine g_if_eq (pc := 2208) (tgt := 2213) rfl dL_law_2208 ?_ ?_
    · exact g_sub [2, 3, 4, 5, 6, 7] rfl (Hj489 () h486)
    refine g_iconst (pc := 2211) (v := (0 : Int32)) ic_0 dL_law_2211 ?_
    exact g_zreturn (pc := 2212) rfl dL_law_2212
  · refine g_aload_n (pc := 2216) (x := v1) 1 rfl rfl dL_law_2216 ?_
    refine g_aload_n (pc := 2217) (x := v9) 3 rfl rfl dL_law_2217 ?_
    refine g_bi (pc := 2218) (y := yX0_risky) (ws := wsW_ yX0_risky cX0_risky 3 (some .int) [(0, 8, 11, 21)]) (fr := 9) (lo := 144) (as := [gr v1, gr v9]) (st := []) (g_no) rfl (fun _ _ e => tX0_risky hs e) (fun K _ _ hM R e1 e2 => g_runSX (M := mL_law) (pc := 2218) (y := yX0_risky) (bytes := cX0_risky) (maxL := 3) (ret := (some .int)) (hh := [(0, 8, 11, 21)]) (fr := 9) (lo := 144) (as := [gr v1, gr v9]) (st := []) gy_X0_risky (gbl rfl) (gbl rfl) (gbl rfl) q3404 q3405 dL_law_2218 K hM R e1 e2) fun v493 h494 => ?_
    refine g_istore (pc := 2221) (lv' := [(6, gi v493), (0, gr a0), (1, gr v1), (2, gr v5), (3, gr v9), (4, gr v11), (5, gi x13)]) [0, 1, 2, 3, 4, 5, 6] rfl (gblt rfl) dL_law_2221 ?_
    refine g_aload_n (pc := 2223) (x := v5) 3 rfl rfl dL_law_2223 ?_
    refine g_bVi (pc := 2224) (y := yX2_risky) (ws := ws_ yX2_risky cX2_risky 3 (some .int)) (fr := 3) (lo := 66) (as := []) (st := []) (g_no) rfl (fun _ _ _ e => tX2_risky hs e) (fun K _ _ _ hq hM R e1 e2 => g_runV (M := mL_law) (pc := 2224) (y := yX2_risky) (bytes := cX2_risky) (maxL := 3) (ret := (some .int)) (fr := 3) (lo := 66) (as := []) (st := []) hq (C := "FlareSlopesModel") rfl gy_X2_risky (gbl rfl) (gbl rfl) (gbl rfl) q4403 q4404 q4405 dL_law_2224 K hM R e1 e2) fun v495 h496 => ?_
    refine g_istore (pc := 2227) (lv' := [(7, gi v495), (6, gi v493), (0, gr a0), (1, gr v1), (2, gr v5), (3, gr v9), (4, gr v11), (5, gi x13)]) [0, 1, 2, 3, 4, 5, 6, 7] rfl (gblt rfl) dL_law_2227 ?_
    refine g_aload_n (pc := 2229) (x := v5) 4 rfl rfl dL_law_2229 ?_
    refine g_bVi (pc := 2230) (y := yX2_thrown) (ws := ws_ yX2_thrown cX2_thrown 1 (some .int)) (fr := 0) (lo := 0) (as := []) (st := []) (g_no) rfl (fun _ _ _ e => tX2_thrown hs e) (fun K _ _ _ hq hM R e1 e2 => g_runV (M := mL_law) (pc := 2230) (y := yX2_thrown) (bytes := cX2_thrown) (maxL := 1) (ret := (some .int)) (fr := 0) (lo := 0) (as := []) (st := []) hq (C := "FlareSlopesModel") rfl gy_X2_thrown (gbl rfl) (gbl rfl) (gbl rfl) q4009 q4010 q4011 dL_law_2230 K hM R e1 e2) fun v497 h498 => ?_
    refine g_iload (pc := 2233) (x := v493) 1 rfl dL_law_2233 ?_
    refine g_icmp_eq (pc := 2235) (tgt := 2240) rfl dL_law_2235 ?_ ?_
    rotate_left
    · refine g_iconst (pc := 2238) (v := (0 : Int32)) ic_0 dL_law_2238 ?_
      exact g_zreturn (pc := 2239) rfl dL_law_2239
    refine g_iload (pc := 2240) (x := v493) 1 rfl dL_law_2240 ?_
    refine g_join 2257 (fun (x499 : Unit) => [(0, gr a0), (1, gr v1), (2, gr v5), (3, gr v9), (4, gr v11), (5, gi x13)]) (fun (x499 : Unit) => []) (fun x499 h500 => ?_) (fun j501 Hj501 => ?_)
    · refine g_goto (pc := 2257) (tgt := 4259) rfl dL_law_2257 ?_
      exact Hj20 () h500
    refine g_if_ne (pc := 2242) (tgt := 2257) rfl dL_law_2242 ?_ ?_
    rotate_left
    · exact g_sub [2, 3, 4, 5, 6, 7] rfl (Hj501 () h498)
    refine g_aload_n (pc := 2245) (x := v9) 5 rfl rfl dL_law_2245 ?_
    refine g_iconst (pc := 2246) (v := (0 : Int32)) ic_0 dL_law_2246 ?_
    refine g_laload (pc := 2247) rfl dL_law_2247 fun v502 => ?_
    refine g_iload (pc := 2248) (x := v495) 0 rfl dL_law_2248 ?_
    refine g_i2l (pc := 2250) dL_law_2250 ?_
    refine g_lcmp (pc := 2251) dL_law_2251 ?_
    refine g_if_eq (pc := 2252) (tgt := 2257) rfl dL_law_2252 ?_ ?_
    · exact g_sub [2, 3, 4, 5, 6, 7] rfl (Hj501 () h498)
    refine g_iconst (pc := 2255) (v := (0 : Int32)) ic_0 dL_law_2255 ?_
    exact g_zreturn (pc := 2256) rfl dL_law_2256
  · refine g_aload_n (pc := 2260) (x := v1) 1 rfl rfl dL_law_2260 ?_
    refine g_aload_n (pc := 2261) (x := a0) 0 rfl rfl dL_law_2261 ?_
    refine g_iload (pc := 2262) (x := x13) 5 rfl dL_law_2262 ?_
    refine g_iconst (pc := 2264) (v := (1 : Int32)) ic_1 dL_law_2264 ?_
    refine g_iadd (pc := 2265) dL_law_2265 ?_
    refine g_iaload (pc := 2266) rfl dL_law_2266 fun v505 => ?_
    refine g_aload_n (pc := 2267) (x := v9) 3 rfl rfl dL_law_2267 ?_
    refine g_bi (pc := 2268) (y := yX0_weightiest) (ws := wsW_ yX0_weightiest cX0_weightiest 4 (some .int) [(0, 9, 12, 21), (0, 9, 15, 13)]) (fr := 10) (lo := 166) (as := [gr v1, gi v505, gr v9]) (st := []) (g_no) rfl (fun _ _ e => tX0_weightiest hs e) (fun K _ _ hM R e1 e2 => g_runSX (M := mL_law) (pc := 2268) (y := yX0_weightiest) (bytes := cX0_weightiest) (maxL := 4) (ret := (some .int)) (hh := [(0, 9, 12, 21), (0, 9, 15, 13)]) (fr := 10) (lo := 166) (as := [gr v1, gi v505, gr v9]) (st := []) gy_X0_weightiest (gbl rfl) (gbl rfl) (gbl rfl) q3411 q3412 dL_law_2268 K hM R e1 e2) fun v506 h507 => ?_
    refine g_istore (pc := 2271) (lv' := [(6, gi v506), (0, gr a0), (1, gr v1), (2, gr v5), (3, gr v9), (4, gr v11), (5, gi x13)]) [0, 1, 2, 3, 4, 5, 6] rfl (gblt rfl) dL_law_2271 ?_
    refine g_aload_n (pc := 2273) (x := v5) 3 rfl rfl dL_law_2273 ?_
    refine g_aload_n (pc := 2274) (x := a0) 1 rfl rfl dL_law_2274 ?_
    refine g_iload (pc := 2275) (x := x13) 6 rfl dL_law_2275 ?_
    refine g_iconst (pc := 2277) (v := (1 : Int32)) ic_1 dL_law_2277 ?_
    refine g_iadd (pc := 2278) dL_law_2278 ?_
    refine g_iaload (pc := 2279) rfl dL_law_2279 fun v508 => ?_
    refine g_bVi (pc := 2280) (y := yX2_weightiest) (ws := ws_ yX2_weightiest cX2_weightiest 4 (some .int)) (fr := 3) (lo := 66) (as := [gi v508]) (st := []) (g_no) rfl (fun _ _ _ e => tX2_weightiest hs e) (fun K _ _ _ hq hM R e1 e2 => g_runV (M := mL_law) (pc := 2280) (y := yX2_weightiest) (bytes := cX2_weightiest) (maxL := 4) (ret := (some .int)) (fr := 3) (lo := 66) (as := [gi v508]) (st := []) hq (C := "FlareSlopesModel") rfl gy_X2_weightiest (gbl rfl) (gbl rfl) (gbl rfl) q4407 q4408 q4409 dL_law_2280 K hM R e1 e2) fun v509 h510 => ?_
    refine g_istore (pc := 2283) (lv' := [(7, gi v509), (6, gi v506), (0, gr a0), (1, gr v1), (2, gr v5), (3, gr v9), (4, gr v11), (5, gi x13)]) [0, 1, 2, 3, 4, 5, 6, 7] rfl (gblt rfl) dL_law_2283 ?_
    refine g_aload_n (pc := 2285) (x := v5) 4 rfl rfl dL_law_2285 ?_
    refine g_bVi (pc := 2286) (y := yX2_thrown) (ws := ws_ yX2_thrown cX2_thrown 1 (some .int)) (fr := 0) (lo := 0) (as := []) (st := []) (g_no) rfl (fun _ _ _ e => tX2_thrown hs e) (fun K _ _ _ hq hM R e1 e2 => g_runV (M := mL_law) (pc := 2286) (y := yX2_thrown) (bytes := cX2_thrown) (maxL := 1) (ret := (some .int)) (fr := 0) (lo := 0) (as := []) (st := []) hq (C := "FlareSlopesModel") rfl gy_X2_thrown (gbl rfl) (gbl rfl) (gbl rfl) q4009 q4010 q4011 dL_law_2286 K hM R e1 e2) fun v511 h512 => ?_
    refine g_iload (pc := 2289) (x := v506) 1 rfl dL_law_2289 ?_
    refine g_icmp_eq (pc := 2291) (tgt := 2296) rfl dL_law_2291 ?_ ?_
    rotate_left
    · refine g_iconst (pc := 2294) (v := (0 : Int32)) ic_0 dL_law_2294 ?_
      exact g_zreturn (pc := 2295) rfl dL_law_2295
    refine g_iload (pc := 2296) (x := v506) 1 rfl dL_law_2296 ?_
    refine g_join 2313 (fun (x513 : Unit) => [(0, gr a0), (1, gr v1), (2, gr v5), (3, gr v9), (4, gr v11), (5, gi x13)]) (fun (x513 : Unit) => []) (fun x513 h514 => ?_) (fun j515 Hj515 => ?_)
    · refine g_goto (pc := 2313) (tgt := 4259) rfl dL_law_2313 ?_
      exact Hj20 () h514
    refine g_if_ne (pc := 2298) (tgt := 2313) rfl dL_law_2298 ?_ ?_
    rotate_left
    · exact g_sub [2, 3, 4, 5, 6, 7] rfl (Hj515 () h512)
    refine g_aload_n (pc := 2301) (x := v9) 5 rfl rfl dL_law_2301 ?_
    refine g_iconst (pc := 2302) (v := (0 : Int32)) ic_0 dL_law_2302 ?_
    refine g_laload (pc := 2303) rfl dL_law_2303 fun v516 => ?_
    refine g_iload (pc := 2304) (x := v509) 0 rfl dL_law_2304 ?_
    refine g_i2l (pc := 2306) dL_law_2306 ?_
    refine g_lcmp (pc := 2307) dL_law_2307 ?_
    refine g_if_eq (pc := 2308) (tgt := 2313) rfl dL_law_2308 ?_ ?_
    · exact g_sub [2, 3, 4, 5, 6, 7] rfl (Hj515 () h512)
    refine g_iconst (pc := 2311) (v := (0 : Int32)) ic_0 dL_law_2311 ?_
    exact g_zreturn (pc := 2312) rfl dL_law_2312
  · refine g_aload_n (pc := 2316) (x := v1) 1 rfl rfl dL_law_2316 ?_
    refine g_aload_n (pc := 2317) (x := v9) 3 rfl rfl dL_law_2317 ?_
    refine g_bi (pc := 2318) (y := yX0_leastTrusted) (ws := wsW_ yX0_leastTrusted cX0_leastTrusted 3 (some .int) [(0, 8, 11, 21)]) (fr := 9) (lo := 144) (as := [gr v1, gr v9]) (st := []) (g_no) rfl (fun _ _ e => tX0_leastTrusted hs e) (fun K _ _ hM R e1 e2 => g_runSX (M := mL_law) (pc := 2318) (y := yX0_leastTrusted) (bytes := cX0_leastTrusted) (maxL := 3) (ret := (some .int)) (hh := [(0, 8, 11, 21)]) (fr := 9) (lo := 144) (as := [gr v1, gr v9]) (st := []) gy_X0_leastTrusted (gbl rfl) (gbl rfl) (gbl rfl) q3418 q3419 dL_law_2318 K hM R e1 e2) fun v519 h520 => ?_
    refine g_istore (pc := 2321) (lv' := [(6, gi v519), (0, gr a0), (1, gr v1), (2, gr v5), (3, gr v9), (4, gr v11), (5, gi x13)]) [0, 1, 2, 3, 4, 5, 6] rfl (gblt rfl) dL_law_2321 ?_
    refine g_aload_n (pc := 2323) (x := v5) 3 rfl rfl dL_law_2323 ?_
    refine g_bVi (pc := 2324) (y := yX2_leastTrusted) (ws := ws_ yX2_leastTrusted cX2_leastTrusted 3 (some .int)) (fr := 2) (lo := 43) (as := []) (st := []) (g_no) rfl (fun _ _ _ e => tX2_leastTrusted hs e) (fun K _ _ _ hq hM R e1 e2 => g_runV (M := mL_law) (pc := 2324) (y := yX2_leastTrusted) (bytes := cX2_leastTrusted) (maxL := 3) (ret := (some .int)) (fr := 2) (lo := 43) (as := []) (st := []) hq (C := "FlareSlopesModel") rfl gy_X2_leastTrusted (gbl rfl) (gbl rfl) (gbl rfl) q4423 q4424 q4425 dL_law_2324 K hM R e1 e2) fun v521 h522 => ?_
    refine g_istore (pc := 2327) (lv' := [(7, gi v521), (6, gi v519), (0, gr a0), (1, gr v1), (2, gr v5), (3, gr v9), (4, gr v11), (5, gi x13)]) [0, 1, 2, 3, 4, 5, 6, 7] rfl (gblt rfl) dL_law_2327 ?_
    refine g_aload_n (pc := 2329) (x := v5) 4 rfl rfl dL_law_2329 ?_
    refine g_bVi (pc := 2330) (y := yX2_thrown) (ws := ws_ yX2_thrown cX2_thrown 1 (some .int)) (fr := 0) (lo := 0) (as := []) (st := []) (g_no) rfl (fun _ _ _ e => tX2_thrown hs e) (fun K _ _ _ hq hM R e1 e2 => g_runV (M := mL_law) (pc := 2330) (y := yX2_thrown) (bytes := cX2_thrown) (maxL := 1) (ret := (some .int)) (fr := 0) (lo := 0) (as := []) (st := []) hq (C := "FlareSlopesModel") rfl gy_X2_thrown (gbl rfl) (gbl rfl) (gbl rfl) q4009 q4010 q4011 dL_law_2330 K hM R e1 e2) fun v523 h524 => ?_
    refine g_iload (pc := 2333) (x := v519) 1 rfl dL_law_2333 ?_
    refine g_icmp_eq (pc := 2335) (tgt := 2340) rfl dL_law_2335 ?_ ?_
    rotate_left
    · refine g_iconst (pc := 2338) (v := (0 : Int32)) ic_0 dL_law_2338 ?_
      exact g_zreturn (pc := 2339) rfl dL_law_2339
    refine g_iload (pc := 2340) (x := v519) 1 rfl dL_law_2340 ?_
    refine g_join 2357 (fun (x525 : Unit) => [(0, gr a0), (1, gr v1), (2, gr v5), (3, gr v9), (4, gr v11), (5, gi x13)]) (fun (x525 : Unit) => []) (fun x525 h526 => ?_) (fun j527 Hj527 => ?_)
    · refine g_goto (pc := 2357) (tgt := 4259) rfl dL_law_2357 ?_
      exact Hj20 () h526
    refine g_if_ne (pc := 2342) (tgt := 2357) rfl dL_law_2342 ?_ ?_
    rotate_left
    · exact g_sub [2, 3, 4, 5, 6, 7] rfl (Hj527 () h524)
    refine g_aload_n (pc := 2345) (x := v9) 5 rfl rfl dL_law_2345 ?_
    refine g_iconst (pc := 2346) (v := (0 : Int32)) ic_0 dL_law_2346 ?_
    refine g_laload (pc := 2347) rfl dL_law_2347 fun v528 => ?_
    refine g_iload (pc := 2348) (x := v521) 0 rfl dL_law_2348 ?_
    refine g_i2l (pc := 2350) dL_law_2350 ?_
    refine g_lcmp (pc := 2351) dL_law_2351 ?_
    refine g_if_eq (pc := 2352) (tgt := 2357) rfl dL_law_2352 ?_ ?_
    · exact g_sub [2, 3, 4, 5, 6, 7] rfl (Hj527 () h524)
    refine g_iconst (pc := 2355) (v := (0 : Int32)) ic_0 dL_law_2355 ?_
    exact g_zreturn (pc := 2356) rfl dL_law_2356
  · refine g_aload_n (pc := 2360) (x := v1) 1 rfl rfl dL_law_2360 ?_
    refine g_aload_n (pc := 2361) (x := v9) 3 rfl rfl dL_law_2361 ?_
    refine g_bi (pc := 2362) (y := yX0_loneliest) (ws := wsW_ yX0_loneliest cX0_loneliest 3 (some .int) [(0, 8, 11, 21)]) (fr := 9) (lo := 199) (as := [gr v1, gr v9]) (st := []) (g_no) rfl (fun _ _ e => tX0_loneliest hs e) (fun K _ _ hM R e1 e2 => g_runSX (M := mL_law) (pc := 2362) (y := yX0_loneliest) (bytes := cX0_loneliest) (maxL := 3) (ret := (some .int)) (hh := [(0, 8, 11, 21)]) (fr := 9) (lo := 199) (as := [gr v1, gr v9]) (st := []) gy_X0_loneliest (gbl rfl) (gbl rfl) (gbl rfl) q3425 q3426 dL_law_2362 K hM R e1 e2) fun v531 h532 => ?_
    refine g_istore (pc := 2365) (lv' := [(6, gi v531), (0, gr a0), (1, gr v1), (2, gr v5), (3, gr v9), (4, gr v11), (5, gi x13)]) [0, 1, 2, 3, 4, 5, 6] rfl (gblt rfl) dL_law_2365 ?_
    refine g_aload_n (pc := 2367) (x := v5) 3 rfl rfl dL_law_2367 ?_
    refine g_bVi (pc := 2368) (y := yX2_loneliest) (ws := ws_ yX2_loneliest cX2_loneliest 3 (some .int)) (fr := 5) (lo := 116) (as := []) (st := []) (g_no) rfl (fun _ _ _ e => tX2_loneliest hs e) (fun K _ _ _ hq hM R e1 e2 => g_runV (M := mL_law) (pc := 2368) (y := yX2_loneliest) (bytes := cX2_loneliest) (maxL := 3) (ret := (some .int)) (fr := 5) (lo := 116) (as := []) (st := []) hq (C := "FlareSlopesModel") rfl gy_X2_loneliest (gbl rfl) (gbl rfl) (gbl rfl) q4427 q4428 q4429 dL_law_2368 K hM R e1 e2) fun v533 h534 => ?_
    refine g_istore (pc := 2371) (lv' := [(7, gi v533), (6, gi v531), (0, gr a0), (1, gr v1), (2, gr v5), (3, gr v9), (4, gr v11), (5, gi x13)]) [0, 1, 2, 3, 4, 5, 6, 7] rfl (gblt rfl) dL_law_2371 ?_
    refine g_aload_n (pc := 2373) (x := v5) 4 rfl rfl dL_law_2373 ?_
    refine g_bVi (pc := 2374) (y := yX2_thrown) (ws := ws_ yX2_thrown cX2_thrown 1 (some .int)) (fr := 0) (lo := 0) (as := []) (st := []) (g_no) rfl (fun _ _ _ e => tX2_thrown hs e) (fun K _ _ _ hq hM R e1 e2 => g_runV (M := mL_law) (pc := 2374) (y := yX2_thrown) (bytes := cX2_thrown) (maxL := 1) (ret := (some .int)) (fr := 0) (lo := 0) (as := []) (st := []) hq (C := "FlareSlopesModel") rfl gy_X2_thrown (gbl rfl) (gbl rfl) (gbl rfl) q4009 q4010 q4011 dL_law_2374 K hM R e1 e2) fun v535 h536 => ?_
    refine g_iload (pc := 2377) (x := v531) 1 rfl dL_law_2377 ?_
    refine g_icmp_eq (pc := 2379) (tgt := 2384) rfl dL_law_2379 ?_ ?_
    rotate_left
    · refine g_iconst (pc := 2382) (v := (0 : Int32)) ic_0 dL_law_2382 ?_
      exact g_zreturn (pc := 2383) rfl dL_law_2383
    refine g_iload (pc := 2384) (x := v531) 1 rfl dL_law_2384 ?_
    refine g_join 2401 (fun (x537 : Unit) => [(0, gr a0), (1, gr v1), (2, gr v5), (3, gr v9), (4, gr v11), (5, gi x13)]) (fun (x537 : Unit) => []) (fun x537 h538 => ?_) (fun j539 Hj539 => ?_)
    · refine g_goto (pc := 2401) (tgt := 4259) rfl dL_law_2401 ?_
      exact Hj20 () h538
    refine g_if_ne (pc := 2386) (tgt := 2401) rfl dL_law_2386 ?_ ?_
    rotate_left
    · exact g_sub [2, 3, 4, 5, 6, 7] rfl (Hj539 () h536)
    refine g_aload_n (pc := 2389) (x := v9) 5 rfl rfl dL_law_2389 ?_
    refine g_iconst (pc := 2390) (v := (0 : Int32)) ic_0 dL_law_2390 ?_
    refine g_laload (pc := 2391) rfl dL_law_2391 fun v540 => ?_
    refine g_iload (pc := 2392) (x := v533) 0 rfl dL_law_2392 ?_
    refine g_i2l (pc := 2394) dL_law_2394 ?_
    refine g_lcmp (pc := 2395) dL_law_2395 ?_
    refine g_if_eq (pc := 2396) (tgt := 2401) rfl dL_law_2396 ?_ ?_
    · exact g_sub [2, 3, 4, 5, 6, 7] rfl (Hj539 () h536)
    refine g_iconst (pc := 2399) (v := (0 : Int32)) ic_0 dL_law_2399 ?_
    exact g_zreturn (pc := 2400) rfl dL_law_2400
  · refine g_aload_n (pc := 2404) (x := v1) 1 rfl rfl dL_law_2404 ?_
    refine g_aload (pc := 2405) (x := v11) 4 rfl dL_law_2405 ?_
    refine g_bi (pc := 2407) (y := yX0_meanTrust) (ws := wsW_ yX0_meanTrust cX0_meanTrust 3 (some .int) [(0, 7, 10, 21)]) (fr := 9) (lo := 144) (as := [gr v1, gr v11]) (st := []) (g_no) rfl (fun _ _ e => tX0_meanTrust hs e) (fun K _ _ hM R e1 e2 => g_runSX (M := mL_law) (pc := 2407) (y := yX0_meanTrust) (bytes := cX0_meanTrust) (maxL := 3) (ret := (some .int)) (hh := [(0, 7, 10, 21)]) (fr := 9) (lo := 144) (as := [gr v1, gr v11]) (st := []) gy_X0_meanTrust (gbl rfl) (gbl rfl) (gbl rfl) q3432 q3433 dL_law_2407 K hM R e1 e2) fun v543 h544 => ?_
    refine g_istore (pc := 2410) (lv' := [(6, gi v543), (0, gr a0), (1, gr v1), (2, gr v5), (3, gr v9), (4, gr v11), (5, gi x13)]) [0, 1, 2, 3, 4, 5, 6] rfl (gblt rfl) dL_law_2410 ?_
    refine g_aload_n (pc := 2412) (x := v5) 3 rfl rfl dL_law_2412 ?_
    refine g_bVd (pc := 2413) (y := yX2_meanTrust) (ws := ws_ yX2_meanTrust cX2_meanTrust 3 (some .double)) (fr := 2) (lo := 43) (as := []) (st := []) (g_no) rfl (fun _ _ _ e => tX2_meanTrust hs e) (fun K _ _ _ hq hM R e1 e2 => g_runV (M := mL_law) (pc := 2413) (y := yX2_meanTrust) (bytes := cX2_meanTrust) (maxL := 3) (ret := (some .double)) (fr := 2) (lo := 43) (as := []) (st := []) hq (C := "FlareSlopesModel") rfl gy_X2_meanTrust (gbl rfl) (gbl rfl) (gbl rfl) q4431 q4432 q4433 dL_law_2413 K hM R e1 e2) fun v545 h546 => ?_
    refine g_dstore (pc := 2416) (lv' := [(7, gd v545), (6, gi v543), (0, gr a0), (1, gr v1), (2, gr v5), (3, gr v9), (4, gr v11), (5, gi x13)]) [0, 1, 2, 3, 4, 5, 6, 7] rfl (gblt rfl) dL_law_2416 ?_
    refine g_aload_n (pc := 2418) (x := v5) 4 rfl rfl dL_law_2418 ?_
    refine g_bVi (pc := 2419) (y := yX2_thrown) (ws := ws_ yX2_thrown cX2_thrown 1 (some .int)) (fr := 0) (lo := 0) (as := []) (st := []) (g_no) rfl (fun _ _ _ e => tX2_thrown hs e) (fun K _ _ _ hq hM R e1 e2 => g_runV (M := mL_law) (pc := 2419) (y := yX2_thrown) (bytes := cX2_thrown) (maxL := 1) (ret := (some .int)) (fr := 0) (lo := 0) (as := []) (st := []) hq (C := "FlareSlopesModel") rfl gy_X2_thrown (gbl rfl) (gbl rfl) (gbl rfl) q4009 q4010 q4011 dL_law_2419 K hM R e1 e2) fun v547 h548 => ?_
    refine g_iload (pc := 2422) (x := v543) 1 rfl dL_law_2422 ?_
    refine g_icmp_eq (pc := 2424) (tgt := 2429) rfl dL_law_2424 ?_ ?_
    rotate_left
    · refine g_iconst (pc := 2427) (v := (0 : Int32)) ic_0 dL_law_2427 ?_
      exact g_zreturn (pc := 2428) rfl dL_law_2428
    refine g_iload (pc := 2429) (x := v543) 1 rfl dL_law_2429 ?_
    refine g_join 2466 (fun (x549 : Unit) => [(0, gr a0), (1, gr v1), (2, gr v5), (3, gr v9), (4, gr v11), (5, gi x13)]) (fun (x549 : Unit) => []) (fun x549 h550 => ?_) (fun j551 Hj551 => ?_)
    · refine g_goto (pc := 2466) (tgt := 4259) rfl dL_law_2466 ?_
      exact Hj20 () h550
    refine g_if_ne (pc := 2431) (tgt := 2466) rfl dL_law_2431 ?_ ?_
    rotate_left
    · exact g_sub [2, 3, 4, 5, 6, 7] rfl (Hj551 () h548)
    refine g_aload (pc := 2434) (x := v11) 6 rfl dL_law_2434 ?_
    refine g_iconst (pc := 2436) (v := (0 : Int32)) ic_0 dL_law_2436 ?_
    refine g_daload (pc := 2437) rfl dL_law_2437 fun v552 => ?_
    refine g_dload (pc := 2438) (x := v545) 0 rfl dL_law_2438 ?_
    refine g_dcmp (pc := 2440) dL_law_2440 ?_
    refine g_if_eq (pc := 2441) (tgt := 2466) rfl dL_law_2441 ?_ ?_
    · exact g_sub [2, 3, 4, 5, 6, 7] rfl (Hj551 () h548)
    refine g_aload (pc := 2444) (x := v11) 6 rfl dL_law_2444 ?_
    refine g_iconst (pc := 2446) (v := (0 : Int32)) ic_0 dL_law_2446 ?_
    refine g_daload (pc := 2447) rfl dL_law_2447 fun v553 => ?_
    refine g_aload (pc := 2448) (x := v11) 6 rfl dL_law_2448 ?_
    refine g_iconst (pc := 2450) (v := (0 : Int32)) ic_0 dL_law_2450 ?_
    refine g_daload (pc := 2451) rfl dL_law_2451 fun v554 => ?_
    refine g_dcmp (pc := 2452) dL_law_2452 ?_
    refine g_if_eq (pc := 2453) (tgt := 2464) rfl dL_law_2453 ?_ ?_
    · refine g_iconst (pc := 2464) (v := (0 : Int32)) ic_0 dL_law_2464 ?_
      exact g_zreturn (pc := 2465) rfl dL_law_2465
    refine g_dload (pc := 2456) (x := v545) 0 rfl dL_law_2456 ?_
    refine g_dload (pc := 2458) (x := v545) 0 rfl dL_law_2458 ?_
    refine g_dcmp (pc := 2460) dL_law_2460 ?_
    refine g_if_ne (pc := 2461) (tgt := 2466) rfl dL_law_2461 ?_ ?_
    rotate_left
    · exact g_sub [2, 3, 4, 5, 6, 7] rfl (Hj551 () h548)
    refine g_iconst (pc := 2464) (v := (0 : Int32)) ic_0 dL_law_2464 ?_
    exact g_zreturn (pc := 2465) rfl dL_law_2465
  · refine g_aload_n (pc := 2469) (x := v1) 1 rfl rfl dL_law_2469 ?_
    refine g_aload_n (pc := 2470) (x := a0) 0 rfl rfl dL_law_2470 ?_
    refine g_iload (pc := 2471) (x := x13) 5 rfl dL_law_2471 ?_
    refine g_iconst (pc := 2473) (v := (1 : Int32)) ic_1 dL_law_2473 ?_
    refine g_iadd (pc := 2474) dL_law_2474 ?_
    refine g_iaload (pc := 2475) rfl dL_law_2475 fun v557 => ?_
    refine g_aload (pc := 2476) (x := v11) 4 rfl dL_law_2476 ?_
    refine g_bi (pc := 2478) (y := yX0_closedShare) (ws := wsW_ yX0_closedShare cX0_closedShare 4 (some .int) [(0, 9, 12, 21), (0, 9, 15, 13)]) (fr := 10) (lo := 164) (as := [gr v1, gi v557, gr v11]) (st := []) (g_no) rfl (fun _ _ e => tX0_closedShare hs e) (fun K _ _ hM R e1 e2 => g_runSX (M := mL_law) (pc := 2478) (y := yX0_closedShare) (bytes := cX0_closedShare) (maxL := 4) (ret := (some .int)) (hh := [(0, 9, 12, 21), (0, 9, 15, 13)]) (fr := 10) (lo := 164) (as := [gr v1, gi v557, gr v11]) (st := []) gy_X0_closedShare (gbl rfl) (gbl rfl) (gbl rfl) q3439 q3440 dL_law_2478 K hM R e1 e2) fun v558 h559 => ?_
    refine g_istore (pc := 2481) (lv' := [(6, gi v558), (0, gr a0), (1, gr v1), (2, gr v5), (3, gr v9), (4, gr v11), (5, gi x13)]) [0, 1, 2, 3, 4, 5, 6] rfl (gblt rfl) dL_law_2481 ?_
    refine g_aload_n (pc := 2483) (x := v5) 3 rfl rfl dL_law_2483 ?_
    refine g_aload_n (pc := 2484) (x := a0) 1 rfl rfl dL_law_2484 ?_
    refine g_iload (pc := 2485) (x := x13) 6 rfl dL_law_2485 ?_
    refine g_iconst (pc := 2487) (v := (1 : Int32)) ic_1 dL_law_2487 ?_
    refine g_iadd (pc := 2488) dL_law_2488 ?_
    refine g_iaload (pc := 2489) rfl dL_law_2489 fun v560 => ?_
    refine g_bVf (pc := 2490) (y := yX2_closedShare) (ws := ws_ yX2_closedShare cX2_closedShare 2 (some .float)) (fr := 3) (lo := 66) (as := [gi v560]) (st := []) (g_no) rfl (fun _ _ _ e => tX2_closedShare hs e) (fun K _ _ _ hq hM R e1 e2 => g_runV (M := mL_law) (pc := 2490) (y := yX2_closedShare) (bytes := cX2_closedShare) (maxL := 2) (ret := (some .float)) (fr := 3) (lo := 66) (as := [gi v560]) (st := []) hq (C := "FlareSlopesModel") rfl gy_X2_closedShare (gbl rfl) (gbl rfl) (gbl rfl) q4435 q4436 q4437 dL_law_2490 K hM R e1 e2) fun v561 h562 => ?_
    refine g_fstore (pc := 2493) (lv' := [(7, gf v561), (6, gi v558), (0, gr a0), (1, gr v1), (2, gr v5), (3, gr v9), (4, gr v11), (5, gi x13)]) [0, 1, 2, 3, 4, 5, 6, 7] rfl (gblt rfl) dL_law_2493 ?_
    refine g_aload_n (pc := 2495) (x := v5) 4 rfl rfl dL_law_2495 ?_
    refine g_bVi (pc := 2496) (y := yX2_thrown) (ws := ws_ yX2_thrown cX2_thrown 1 (some .int)) (fr := 0) (lo := 0) (as := []) (st := []) (g_no) rfl (fun _ _ _ e => tX2_thrown hs e) (fun K _ _ _ hq hM R e1 e2 => g_runV (M := mL_law) (pc := 2496) (y := yX2_thrown) (bytes := cX2_thrown) (maxL := 1) (ret := (some .int)) (fr := 0) (lo := 0) (as := []) (st := []) hq (C := "FlareSlopesModel") rfl gy_X2_thrown (gbl rfl) (gbl rfl) (gbl rfl) q4009 q4010 q4011 dL_law_2496 K hM R e1 e2) fun v563 h564 => ?_
    refine g_iload (pc := 2499) (x := v558) 1 rfl dL_law_2499 ?_
    refine g_icmp_eq (pc := 2501) (tgt := 2506) rfl dL_law_2501 ?_ ?_
    rotate_left
    · refine g_iconst (pc := 2504) (v := (0 : Int32)) ic_0 dL_law_2504 ?_
      exact g_zreturn (pc := 2505) rfl dL_law_2505
    refine g_iload (pc := 2506) (x := v558) 1 rfl dL_law_2506 ?_
    refine g_join 2544 (fun (x565 : Unit) => [(0, gr a0), (1, gr v1), (2, gr v5), (3, gr v9), (4, gr v11), (5, gi x13)]) (fun (x565 : Unit) => []) (fun x565 h566 => ?_) (fun j567 Hj567 => ?_)
    · refine g_goto (pc := 2544) (tgt := 4259) rfl dL_law_2544 ?_
      exact Hj20 () h566
    refine g_if_ne (pc := 2508) (tgt := 2544) rfl dL_law_2508 ?_ ?_
    rotate_left
    · exact g_sub [2, 3, 4, 5, 6, 7] rfl (Hj567 () h564)
    refine g_aload (pc := 2511) (x := v11) 6 rfl dL_law_2511 ?_
    refine g_iconst (pc := 2513) (v := (0 : Int32)) ic_0 dL_law_2513 ?_
    refine g_daload (pc := 2514) rfl dL_law_2514 fun v568 => ?_
    refine g_fload (pc := 2515) (x := v561) 0 rfl dL_law_2515 ?_
    refine g_f2d (pc := 2517) dL_law_2517 fun v569 => ?_
    refine g_dcmp (pc := 2518) dL_law_2518 ?_
    refine g_if_eq (pc := 2519) (tgt := 2544) rfl dL_law_2519 ?_ ?_
    · exact g_sub [2, 3, 4, 5, 6, 7] rfl (Hj567 () h564)
    refine g_aload (pc := 2522) (x := v11) 6 rfl dL_law_2522 ?_
    refine g_iconst (pc := 2524) (v := (0 : Int32)) ic_0 dL_law_2524 ?_
    refine g_daload (pc := 2525) rfl dL_law_2525 fun v570 => ?_
    refine g_aload (pc := 2526) (x := v11) 6 rfl dL_law_2526 ?_
    refine g_iconst (pc := 2528) (v := (0 : Int32)) ic_0 dL_law_2528 ?_
    refine g_daload (pc := 2529) rfl dL_law_2529 fun v571 => ?_
    refine g_dcmp (pc := 2530) dL_law_2530 ?_
    refine g_if_eq (pc := 2531) (tgt := 2542) rfl dL_law_2531 ?_ ?_
    · refine g_iconst (pc := 2542) (v := (0 : Int32)) ic_0 dL_law_2542 ?_
      exact g_zreturn (pc := 2543) rfl dL_law_2543
    refine g_fload (pc := 2534) (x := v561) 0 rfl dL_law_2534 ?_
    refine g_fload (pc := 2536) (x := v561) 0 rfl dL_law_2536 ?_
    refine g_fcmp (pc := 2538) dL_law_2538 ?_
    refine g_if_ne (pc := 2539) (tgt := 2544) rfl dL_law_2539 ?_ ?_
    rotate_left
    · exact g_sub [2, 3, 4, 5, 6, 7] rfl (Hj567 () h564)
    refine g_iconst (pc := 2542) (v := (0 : Int32)) ic_0 dL_law_2542 ?_
    exact g_zreturn (pc := 2543) rfl dL_law_2543
  · refine g_aload_n (pc := 2547) (x := v1) 1 rfl rfl dL_law_2547 ?_
    refine g_aload_n (pc := 2548) (x := a0) 0 rfl rfl dL_law_2548 ?_
    refine g_iload (pc := 2549) (x := x13) 5 rfl dL_law_2549 ?_
    refine g_iconst (pc := 2551) (v := (1 : Int32)) ic_1 dL_law_2551 ?_
    refine g_iadd (pc := 2552) dL_law_2552 ?_
    refine g_iaload (pc := 2553) rfl dL_law_2553 fun v574 => ?_
    refine g_aload_n (pc := 2554) (x := a0) 0 rfl rfl dL_law_2554 ?_
    refine g_iload (pc := 2555) (x := x13) 5 rfl dL_law_2555 ?_
    refine g_iconst (pc := 2557) (v := (2 : Int32)) ic_2 dL_law_2557 ?_
    refine g_iadd (pc := 2558) dL_law_2558 ?_
    refine g_iaload (pc := 2559) rfl dL_law_2559 fun v575 => ?_
    refine g_aload_n (pc := 2560) (x := v9) 3 rfl rfl dL_law_2560 ?_
    refine g_bi (pc := 2561) (y := yX0_bulletin) (ws := wsW_ yX0_bulletin cX0_bulletin 5 (some .int) [(0, 10, 13, 21), (0, 10, 17, 13), (0, 10, 21, 15)]) (fr := 9) (lo := 146) (as := [gr v1, gi v574, gi v575, gr v9]) (st := []) (g_no) rfl (fun _ _ e => tX0_bulletin hs e) (fun K _ _ hM R e1 e2 => g_runSX (M := mL_law) (pc := 2561) (y := yX0_bulletin) (bytes := cX0_bulletin) (maxL := 5) (ret := (some .int)) (hh := [(0, 10, 13, 21), (0, 10, 17, 13), (0, 10, 21, 15)]) (fr := 9) (lo := 146) (as := [gr v1, gi v574, gi v575, gr v9]) (st := []) gy_X0_bulletin (gbl rfl) (gbl rfl) (gbl rfl) q3446 q3447 dL_law_2561 K hM R e1 e2) fun v576 h577 => ?_
    refine g_istore (pc := 2564) (lv' := [(6, gi v576), (0, gr a0), (1, gr v1), (2, gr v5), (3, gr v9), (4, gr v11), (5, gi x13)]) [0, 1, 2, 3, 4, 5, 6] rfl (gblt rfl) dL_law_2564 ?_
    refine g_aload_n (pc := 2566) (x := v5) 3 rfl rfl dL_law_2566 ?_
    refine g_aload_n (pc := 2567) (x := a0) 1 rfl rfl dL_law_2567 ?_
    refine g_iload (pc := 2568) (x := x13) 6 rfl dL_law_2568 ?_
    refine g_iconst (pc := 2570) (v := (1 : Int32)) ic_1 dL_law_2570 ?_
    refine g_iadd (pc := 2571) dL_law_2571 ?_
    refine g_iaload (pc := 2572) rfl dL_law_2572 fun v578 => ?_
    refine g_aload_n (pc := 2573) (x := a0) 1 rfl rfl dL_law_2573 ?_
    refine g_iload (pc := 2574) (x := x13) 6 rfl dL_law_2574 ?_
    refine g_iconst (pc := 2576) (v := (2 : Int32)) ic_2 dL_law_2576 ?_
    refine g_iadd (pc := 2577) dL_law_2577 ?_
    refine g_iaload (pc := 2578) rfl dL_law_2578 fun v579 => ?_
    refine g_bVi (pc := 2579) (y := yX2_bulletin) (ws := ws_ yX2_bulletin cX2_bulletin 3 (some .int)) (fr := 2) (lo := 41) (as := [gi v578, gi v579]) (st := []) (g_no) rfl (fun _ _ _ e => tX2_bulletin hs e) (fun K _ _ _ hq hM R e1 e2 => g_runV (M := mL_law) (pc := 2579) (y := yX2_bulletin) (bytes := cX2_bulletin) (maxL := 3) (ret := (some .int)) (fr := 2) (lo := 41) (as := [gi v578, gi v579]) (st := []) hq (C := "FlareSlopesModel") rfl gy_X2_bulletin (gbl rfl) (gbl rfl) (gbl rfl) q4439 q4440 q4441 dL_law_2579 K hM R e1 e2) fun v580 h581 => ?_
    refine g_istore (pc := 2582) (lv' := [(7, gi v580), (6, gi v576), (0, gr a0), (1, gr v1), (2, gr v5), (3, gr v9), (4, gr v11), (5, gi x13)]) [0, 1, 2, 3, 4, 5, 6, 7] rfl (gblt rfl) dL_law_2582 ?_
    refine g_aload_n (pc := 2584) (x := v5) 4 rfl rfl dL_law_2584 ?_
    refine g_bVi (pc := 2585) (y := yX2_thrown) (ws := ws_ yX2_thrown cX2_thrown 1 (some .int)) (fr := 0) (lo := 0) (as := []) (st := []) (g_no) rfl (fun _ _ _ e => tX2_thrown hs e) (fun K _ _ _ hq hM R e1 e2 => g_runV (M := mL_law) (pc := 2585) (y := yX2_thrown) (bytes := cX2_thrown) (maxL := 1) (ret := (some .int)) (fr := 0) (lo := 0) (as := []) (st := []) hq (C := "FlareSlopesModel") rfl gy_X2_thrown (gbl rfl) (gbl rfl) (gbl rfl) q4009 q4010 q4011 dL_law_2585 K hM R e1 e2) fun v582 h583 => ?_
    refine g_iload (pc := 2588) (x := v576) 1 rfl dL_law_2588 ?_
    refine g_icmp_eq (pc := 2590) (tgt := 2595) rfl dL_law_2590 ?_ ?_
    rotate_left
    · refine g_iconst (pc := 2593) (v := (0 : Int32)) ic_0 dL_law_2593 ?_
      exact g_zreturn (pc := 2594) rfl dL_law_2594
    refine g_iload (pc := 2595) (x := v576) 1 rfl dL_law_2595 ?_
    refine g_join 2612 (fun (x584 : Unit) => [(0, gr a0), (1, gr v1), (2, gr v5), (3, gr v9), (4, gr v11), (5, gi x13)]) (fun (x584 : Unit) => []) (fun x584 h585 => ?_) (fun j586 Hj586 => ?_)
    · refine g_goto (pc := 2612) (tgt := 4259) rfl dL_law_2612 ?_
      exact Hj20 () h585
    refine g_if_ne (pc := 2597) (tgt := 2612) rfl dL_law_2597 ?_ ?_
    rotate_left
    · exact g_sub [2, 3, 4, 5, 6, 7] rfl (Hj586 () h583)
    refine g_aload_n (pc := 2600) (x := v9) 5 rfl rfl dL_law_2600 ?_
    refine g_iconst (pc := 2601) (v := (0 : Int32)) ic_0 dL_law_2601 ?_
    refine g_laload (pc := 2602) rfl dL_law_2602 fun v587 => ?_
    refine g_iload (pc := 2603) (x := v580) 0 rfl dL_law_2603 ?_
    refine g_i2l (pc := 2605) dL_law_2605 ?_
    refine g_lcmp (pc := 2606) dL_law_2606 ?_
    refine g_if_eq (pc := 2607) (tgt := 2612) rfl dL_law_2607 ?_ ?_
    · exact g_sub [2, 3, 4, 5, 6, 7] rfl (Hj586 () h583)
    refine g_iconst (pc := 2610) (v := (0 : Int32)) ic_0 dL_law_2610 ?_
    exact g_zreturn (pc := 2611) rfl dL_law_2611
  · refine g_aload_n (pc := 2615) (x := v1) 1 rfl rfl dL_law_2615 ?_
    refine g_aload_n (pc := 2616) (x := a0) 0 rfl rfl dL_law_2616 ?_
    refine g_iload (pc := 2617) (x := x13) 5 rfl dL_law_2617 ?_
    refine g_iconst (pc := 2619) (v := (1 : Int32)) ic_1 dL_law_2619 ?_
    refine g_iadd (pc := 2620) dL_law_2620 ?_
    refine g_iaload (pc := 2621) rfl dL_law_2621 fun v590 => ?_
    refine g_aload_n (pc := 2622) (x := a0) 0 rfl rfl dL_law_2622 ?_
    refine g_iload (pc := 2623) (x := x13) 5 rfl dL_law_2623 ?_
    refine g_iconst (pc := 2625) (v := (2 : Int32)) ic_2 dL_law_2625 ?_
    refine g_iadd (pc := 2626) dL_law_2626 ?_
    refine g_iaload (pc := 2627) rfl dL_law_2627 fun v591 => ?_
    refine g_aload_n (pc := 2628) (x := v9) 3 rfl rfl dL_law_2628 ?_
    refine g_bi (pc := 2629) (y := yX0_closesIn) (ws := wsW_ yX0_closesIn cX0_closesIn 5 (some .int) [(0, 10, 13, 21), (0, 10, 17, 13)]) (fr := 12) (lo := 233) (as := [gr v1, gi v590, gi v591, gr v9]) (st := []) (g_no) rfl (fun _ _ e => tX0_closesIn hs e) (fun K _ _ hM R e1 e2 => g_runSX (M := mL_law) (pc := 2629) (y := yX0_closesIn) (bytes := cX0_closesIn) (maxL := 5) (ret := (some .int)) (hh := [(0, 10, 13, 21), (0, 10, 17, 13)]) (fr := 12) (lo := 233) (as := [gr v1, gi v590, gi v591, gr v9]) (st := []) gy_X0_closesIn (gbl rfl) (gbl rfl) (gbl rfl) q3455 q3456 dL_law_2629 K hM R e1 e2) fun v592 h593 => ?_
    refine g_istore (pc := 2632) (lv' := [(6, gi v592), (0, gr a0), (1, gr v1), (2, gr v5), (3, gr v9), (4, gr v11), (5, gi x13)]) [0, 1, 2, 3, 4, 5, 6] rfl (gblt rfl) dL_law_2632 ?_
    refine g_aload_n (pc := 2634) (x := v5) 3 rfl rfl dL_law_2634 ?_
    refine g_aload_n (pc := 2635) (x := a0) 1 rfl rfl dL_law_2635 ?_
    refine g_iload (pc := 2636) (x := x13) 6 rfl dL_law_2636 ?_
    refine g_iconst (pc := 2638) (v := (1 : Int32)) ic_1 dL_law_2638 ?_
    refine g_iadd (pc := 2639) dL_law_2639 ?_
    refine g_iaload (pc := 2640) rfl dL_law_2640 fun v594 => ?_
    refine g_aload_n (pc := 2641) (x := a0) 1 rfl rfl dL_law_2641 ?_
    refine g_iload (pc := 2642) (x := x13) 6 rfl dL_law_2642 ?_
    refine g_iconst (pc := 2644) (v := (2 : Int32)) ic_2 dL_law_2644 ?_
    refine g_iadd (pc := 2645) dL_law_2645 ?_
    refine g_iaload (pc := 2646) rfl dL_law_2646 fun v595 => ?_
    refine g_bVi (pc := 2647) (y := yX2_closesIn) (ws := ws_ yX2_closesIn cX2_closesIn 3 (some .int)) (fr := 8) (lo := 184) (as := [gi v594, gi v595]) (st := []) (g_no) rfl (fun _ _ _ e => tX2_closesIn hs e) (fun K _ _ _ hq hM R e1 e2 => g_runV (M := mL_law) (pc := 2647) (y := yX2_closesIn) (bytes := cX2_closesIn) (maxL := 3) (ret := (some .int)) (fr := 8) (lo := 184) (as := [gi v594, gi v595]) (st := []) hq (C := "FlareSlopesModel") rfl gy_X2_closesIn (gbl rfl) (gbl rfl) (gbl rfl) q4448 q4449 q4450 dL_law_2647 K hM R e1 e2) fun v596 h597 => ?_
    refine g_istore (pc := 2650) (lv' := [(7, gi v596), (6, gi v592), (0, gr a0), (1, gr v1), (2, gr v5), (3, gr v9), (4, gr v11), (5, gi x13)]) [0, 1, 2, 3, 4, 5, 6, 7] rfl (gblt rfl) dL_law_2650 ?_
    refine g_aload_n (pc := 2652) (x := v5) 4 rfl rfl dL_law_2652 ?_
    refine g_bVi (pc := 2653) (y := yX2_thrown) (ws := ws_ yX2_thrown cX2_thrown 1 (some .int)) (fr := 0) (lo := 0) (as := []) (st := []) (g_no) rfl (fun _ _ _ e => tX2_thrown hs e) (fun K _ _ _ hq hM R e1 e2 => g_runV (M := mL_law) (pc := 2653) (y := yX2_thrown) (bytes := cX2_thrown) (maxL := 1) (ret := (some .int)) (fr := 0) (lo := 0) (as := []) (st := []) hq (C := "FlareSlopesModel") rfl gy_X2_thrown (gbl rfl) (gbl rfl) (gbl rfl) q4009 q4010 q4011 dL_law_2653 K hM R e1 e2) fun v598 h599 => ?_
    refine g_iload (pc := 2656) (x := v592) 1 rfl dL_law_2656 ?_
    refine g_icmp_eq (pc := 2658) (tgt := 2663) rfl dL_law_2658 ?_ ?_
    rotate_left
    · refine g_iconst (pc := 2661) (v := (0 : Int32)) ic_0 dL_law_2661 ?_
      exact g_zreturn (pc := 2662) rfl dL_law_2662
    refine g_iload (pc := 2663) (x := v592) 1 rfl dL_law_2663 ?_
    refine g_join 2680 (fun (x600 : Unit) => [(0, gr a0), (1, gr v1), (2, gr v5), (3, gr v9), (4, gr v11), (5, gi x13)]) (fun (x600 : Unit) => []) (fun x600 h601 => ?_) (fun j602 Hj602 => ?_)
    · refine g_goto (pc := 2680) (tgt := 4259) rfl dL_law_2680 ?_
      exact Hj20 () h601
    refine g_if_ne (pc := 2665) (tgt := 2680) rfl dL_law_2665 ?_ ?_
    rotate_left
    · exact g_sub [2, 3, 4, 5, 6, 7] rfl (Hj602 () h599)
    refine g_aload_n (pc := 2668) (x := v9) 5 rfl rfl dL_law_2668 ?_
    refine g_iconst (pc := 2669) (v := (0 : Int32)) ic_0 dL_law_2669 ?_
    refine g_laload (pc := 2670) rfl dL_law_2670 fun v603 => ?_
    refine g_iload (pc := 2671) (x := v596) 0 rfl dL_law_2671 ?_
    refine g_i2l (pc := 2673) dL_law_2673 ?_
    refine g_lcmp (pc := 2674) dL_law_2674 ?_
    refine g_if_eq (pc := 2675) (tgt := 2680) rfl dL_law_2675 ?_ ?_
    · exact g_sub [2, 3, 4, 5, 6, 7] rfl (Hj602 () h599)
    refine g_iconst (pc := 2678) (v := (0 : Int32)) ic_0 dL_law_2678 ?_
    exact g_zreturn (pc := 2679) rfl dL_law_2679
  · refine g_aload_n (pc := 2683) (x := v1) 1 rfl rfl dL_law_2683 ?_
    refine g_aload_n (pc := 2684) (x := a0) 0 rfl rfl dL_law_2684 ?_
    refine g_iload (pc := 2685) (x := x13) 5 rfl dL_law_2685 ?_
    refine g_iconst (pc := 2687) (v := (1 : Int32)) ic_1 dL_law_2687 ?_
    refine g_iadd (pc := 2688) dL_law_2688 ?_
    refine g_iaload (pc := 2689) rfl dL_law_2689 fun v606 => ?_
    refine g_aload_n (pc := 2690) (x := a0) 0 rfl rfl dL_law_2690 ?_
    refine g_iload (pc := 2691) (x := x13) 5 rfl dL_law_2691 ?_
    refine g_iconst (pc := 2693) (v := (2 : Int32)) ic_2 dL_law_2693 ?_
    refine g_iadd (pc := 2694) dL_law_2694 ?_
    refine g_iaload (pc := 2695) rfl dL_law_2695 fun v607 => ?_
    refine g_aload_n (pc := 2696) (x := v9) 3 rfl rfl dL_law_2696 ?_
    refine g_bi (pc := 2697) (y := yX0_opensIn) (ws := wsW_ yX0_opensIn cX0_opensIn 5 (some .int) [(0, 10, 13, 21), (0, 10, 17, 13)]) (fr := 12) (lo := 233) (as := [gr v1, gi v606, gi v607, gr v9]) (st := []) (g_no) rfl (fun _ _ e => tX0_opensIn hs e) (fun K _ _ hM R e1 e2 => g_runSX (M := mL_law) (pc := 2697) (y := yX0_opensIn) (bytes := cX0_opensIn) (maxL := 5) (ret := (some .int)) (hh := [(0, 10, 13, 21), (0, 10, 17, 13)]) (fr := 12) (lo := 233) (as := [gr v1, gi v606, gi v607, gr v9]) (st := []) gy_X0_opensIn (gbl rfl) (gbl rfl) (gbl rfl) q3568 q3569 dL_law_2697 K hM R e1 e2) fun v608 h609 => ?_
    refine g_istore (pc := 2700) (lv' := [(6, gi v608), (0, gr a0), (1, gr v1), (2, gr v5), (3, gr v9), (4, gr v11), (5, gi x13)]) [0, 1, 2, 3, 4, 5, 6] rfl (gblt rfl) dL_law_2700 ?_
    refine g_aload_n (pc := 2702) (x := v5) 3 rfl rfl dL_law_2702 ?_
    refine g_aload_n (pc := 2703) (x := a0) 1 rfl rfl dL_law_2703 ?_
    refine g_iload (pc := 2704) (x := x13) 6 rfl dL_law_2704 ?_
    refine g_iconst (pc := 2706) (v := (1 : Int32)) ic_1 dL_law_2706 ?_
    refine g_iadd (pc := 2707) dL_law_2707 ?_
    refine g_iaload (pc := 2708) rfl dL_law_2708 fun v610 => ?_
    refine g_aload_n (pc := 2709) (x := a0) 1 rfl rfl dL_law_2709 ?_
    refine g_iload (pc := 2710) (x := x13) 6 rfl dL_law_2710 ?_
    refine g_iconst (pc := 2712) (v := (2 : Int32)) ic_2 dL_law_2712 ?_
    refine g_iadd (pc := 2713) dL_law_2713 ?_
    refine g_iaload (pc := 2714) rfl dL_law_2714 fun v611 => ?_
    refine g_bVi (pc := 2715) (y := yX2_opensIn) (ws := ws_ yX2_opensIn cX2_opensIn 3 (some .int)) (fr := 8) (lo := 184) (as := [gi v610, gi v611]) (st := []) (g_no) rfl (fun _ _ _ e => tX2_opensIn hs e) (fun K _ _ _ hq hM R e1 e2 => g_runV (M := mL_law) (pc := 2715) (y := yX2_opensIn) (bytes := cX2_opensIn) (maxL := 3) (ret := (some .int)) (fr := 8) (lo := 184) (as := [gi v610, gi v611]) (st := []) hq (C := "FlareSlopesModel") rfl gy_X2_opensIn (gbl rfl) (gbl rfl) (gbl rfl) q4476 q4477 q4478 dL_law_2715 K hM R e1 e2) fun v612 h613 => ?_
    refine g_istore (pc := 2718) (lv' := [(7, gi v612), (6, gi v608), (0, gr a0), (1, gr v1), (2, gr v5), (3, gr v9), (4, gr v11), (5, gi x13)]) [0, 1, 2, 3, 4, 5, 6, 7] rfl (gblt rfl) dL_law_2718 ?_
    refine g_aload_n (pc := 2720) (x := v5) 4 rfl rfl dL_law_2720 ?_
    refine g_bVi (pc := 2721) (y := yX2_thrown) (ws := ws_ yX2_thrown cX2_thrown 1 (some .int)) (fr := 0) (lo := 0) (as := []) (st := []) (g_no) rfl (fun _ _ _ e => tX2_thrown hs e) (fun K _ _ _ hq hM R e1 e2 => g_runV (M := mL_law) (pc := 2721) (y := yX2_thrown) (bytes := cX2_thrown) (maxL := 1) (ret := (some .int)) (fr := 0) (lo := 0) (as := []) (st := []) hq (C := "FlareSlopesModel") rfl gy_X2_thrown (gbl rfl) (gbl rfl) (gbl rfl) q4009 q4010 q4011 dL_law_2721 K hM R e1 e2) fun v614 h615 => ?_
    refine g_iload (pc := 2724) (x := v608) 1 rfl dL_law_2724 ?_
    refine g_icmp_eq (pc := 2726) (tgt := 2731) rfl dL_law_2726 ?_ ?_
    rotate_left
    · refine g_iconst (pc := 2729) (v := (0 : Int32)) ic_0 dL_law_2729 ?_
      exact g_zreturn (pc := 2730) rfl dL_law_2730
    refine g_iload (pc := 2731) (x := v608) 1 rfl dL_law_2731 ?_
    refine g_join 2748 (fun (x616 : Unit) => [(0, gr a0), (1, gr v1), (2, gr v5), (3, gr v9), (4, gr v11), (5, gi x13)]) (fun (x616 : Unit) => []) (fun x616 h617 => ?_) (fun j618 Hj618 => ?_)
    · refine g_goto (pc := 2748) (tgt := 4259) rfl dL_law_2748 ?_
      exact Hj20 () h617
    refine g_if_ne (pc := 2733) (tgt := 2748) rfl dL_law_2733 ?_ ?_
    rotate_left
    · exact g_sub [2, 3, 4, 5, 6, 7] rfl (Hj618 () h615)
    refine g_aload_n (pc := 2736) (x := v9) 5 rfl rfl dL_law_2736 ?_
    refine g_iconst (pc := 2737) (v := (0 : Int32)) ic_0 dL_law_2737 ?_
    refine g_laload (pc := 2738) rfl dL_law_2738 fun v619 => ?_
    refine g_iload (pc := 2739) (x := v612) 0 rfl dL_law_2739 ?_
    refine g_i2l (pc := 2741) dL_law_2741 ?_
    refine g_lcmp (pc := 2742) dL_law_2742 ?_
    refine g_if_eq (pc := 2743) (tgt := 2748) rfl dL_law_2743 ?_ ?_
    · exact g_sub [2, 3, 4, 5, 6, 7] rfl (Hj618 () h615)
    refine g_iconst (pc := 2746) (v := (0 : Int32)) ic_0 dL_law_2746 ?_
    exact g_zreturn (pc := 2747) rfl dL_law_2747
  · refine g_aload_n (pc := 2751) (x := v1) 1 rfl rfl dL_law_2751 ?_
    refine g_aload_n (pc := 2752) (x := a0) 0 rfl rfl dL_law_2752 ?_
    refine g_iload (pc := 2753) (x := x13) 5 rfl dL_law_2753 ?_
    refine g_iconst (pc := 2755) (v := (1 : Int32)) ic_1 dL_law_2755 ?_
    refine g_iadd (pc := 2756) dL_law_2756 ?_
    refine g_iaload (pc := 2757) rfl dL_law_2757 fun v622 => ?_
    refine g_aload_n (pc := 2758) (x := a0) 0 rfl rfl dL_law_2758 ?_
    refine g_iload (pc := 2759) (x := x13) 5 rfl dL_law_2759 ?_
    refine g_iconst (pc := 2761) (v := (2 : Int32)) ic_2 dL_law_2761 ?_
    refine g_iadd (pc := 2762) dL_law_2762 ?_
    refine g_iaload (pc := 2763) rfl dL_law_2763 fun v623 => ?_
    refine g_aload_n (pc := 2764) (x := v9) 3 rfl rfl dL_law_2764 ?_
    refine g_bi (pc := 2765) (y := yX0_closersIn) (ws := wsW_ yX0_closersIn cX0_closersIn 5 (some .int) [(0, 10, 13, 21), (0, 10, 17, 13), (0, 10, 21, 15)]) (fr := 10) (lo := 225) (as := [gr v1, gi v622, gi v623, gr v9]) (st := []) (g_no) rfl (fun _ _ e => tX0_closersIn hs e) (fun K _ _ hM R e1 e2 => g_runSX (M := mL_law) (pc := 2765) (y := yX0_closersIn) (bytes := cX0_closersIn) (maxL := 5) (ret := (some .int)) (hh := [(0, 10, 13, 21), (0, 10, 17, 13), (0, 10, 21, 15)]) (fr := 10) (lo := 225) (as := [gr v1, gi v622, gi v623, gr v9]) (st := []) gy_X0_closersIn (gbl rfl) (gbl rfl) (gbl rfl) q3575 q3576 dL_law_2765 K hM R e1 e2) fun v624 h625 => ?_
    refine g_istore (pc := 2768) (lv' := [(6, gi v624), (0, gr a0), (1, gr v1), (2, gr v5), (3, gr v9), (4, gr v11), (5, gi x13)]) [0, 1, 2, 3, 4, 5, 6] rfl (gblt rfl) dL_law_2768 ?_
    refine g_aload_n (pc := 2770) (x := v5) 3 rfl rfl dL_law_2770 ?_
    refine g_aload_n (pc := 2771) (x := a0) 1 rfl rfl dL_law_2771 ?_
    refine g_iload (pc := 2772) (x := x13) 6 rfl dL_law_2772 ?_
    refine g_iconst (pc := 2774) (v := (1 : Int32)) ic_1 dL_law_2774 ?_
    refine g_iadd (pc := 2775) dL_law_2775 ?_
    refine g_iaload (pc := 2776) rfl dL_law_2776 fun v626 => ?_
    refine g_aload_n (pc := 2777) (x := a0) 1 rfl rfl dL_law_2777 ?_
    refine g_iload (pc := 2778) (x := x13) 6 rfl dL_law_2778 ?_
    refine g_iconst (pc := 2780) (v := (2 : Int32)) ic_2 dL_law_2780 ?_
    refine g_iadd (pc := 2781) dL_law_2781 ?_
    refine g_iaload (pc := 2782) rfl dL_law_2782 fun v627 => ?_
    refine g_bVi (pc := 2783) (y := yX2_closersIn) (ws := ws_ yX2_closersIn cX2_closersIn 3 (some .int)) (fr := 8) (lo := 182) (as := [gi v626, gi v627]) (st := []) (g_no) rfl (fun _ _ _ e => tX2_closersIn hs e) (fun K _ _ _ hq hM R e1 e2 => g_runV (M := mL_law) (pc := 2783) (y := yX2_closersIn) (bytes := cX2_closersIn) (maxL := 3) (ret := (some .int)) (fr := 8) (lo := 182) (as := [gi v626, gi v627]) (st := []) hq (C := "FlareSlopesModel") rfl gy_X2_closersIn (gbl rfl) (gbl rfl) (gbl rfl) q4480 q4481 q4482 dL_law_2783 K hM R e1 e2) fun v628 h629 => ?_
    refine g_istore (pc := 2786) (lv' := [(7, gi v628), (6, gi v624), (0, gr a0), (1, gr v1), (2, gr v5), (3, gr v9), (4, gr v11), (5, gi x13)]) [0, 1, 2, 3, 4, 5, 6, 7] rfl (gblt rfl) dL_law_2786 ?_
    refine g_aload_n (pc := 2788) (x := v5) 4 rfl rfl dL_law_2788 ?_
    refine g_bVi (pc := 2789) (y := yX2_thrown) (ws := ws_ yX2_thrown cX2_thrown 1 (some .int)) (fr := 0) (lo := 0) (as := []) (st := []) (g_no) rfl (fun _ _ _ e => tX2_thrown hs e) (fun K _ _ _ hq hM R e1 e2 => g_runV (M := mL_law) (pc := 2789) (y := yX2_thrown) (bytes := cX2_thrown) (maxL := 1) (ret := (some .int)) (fr := 0) (lo := 0) (as := []) (st := []) hq (C := "FlareSlopesModel") rfl gy_X2_thrown (gbl rfl) (gbl rfl) (gbl rfl) q4009 q4010 q4011 dL_law_2789 K hM R e1 e2) fun v630 h631 => ?_
    refine g_iload (pc := 2792) (x := v624) 1 rfl dL_law_2792 ?_
    refine g_icmp_eq (pc := 2794) (tgt := 2799) rfl dL_law_2794 ?_ ?_
    rotate_left
    · refine g_iconst (pc := 2797) (v := (0 : Int32)) ic_0 dL_law_2797 ?_
      exact g_zreturn (pc := 2798) rfl dL_law_2798
    refine g_iload (pc := 2799) (x := v624) 1 rfl dL_law_2799 ?_
    refine g_join 2816 (fun (x632 : Unit) => [(0, gr a0), (1, gr v1), (2, gr v5), (3, gr v9), (4, gr v11), (5, gi x13)]) (fun (x632 : Unit) => []) (fun x632 h633 => ?_) (fun j634 Hj634 => ?_)
    · refine g_goto (pc := 2816) (tgt := 4259) rfl dL_law_2816 ?_
      exact Hj20 () h633
    refine g_if_ne (pc := 2801) (tgt := 2816) rfl dL_law_2801 ?_ ?_
    rotate_left
    · exact g_sub [2, 3, 4, 5, 6, 7] rfl (Hj634 () h631)
    refine g_aload_n (pc := 2804) (x := v9) 5 rfl rfl dL_law_2804 ?_
    refine g_iconst (pc := 2805) (v := (0 : Int32)) ic_0 dL_law_2805 ?_
    refine g_laload (pc := 2806) rfl dL_law_2806 fun v635 => ?_
    refine g_iload (pc := 2807) (x := v628) 0 rfl dL_law_2807 ?_
    refine g_i2l (pc := 2809) dL_law_2809 ?_
    refine g_lcmp (pc := 2810) dL_law_2810 ?_
    refine g_if_eq (pc := 2811) (tgt := 2816) rfl dL_law_2811 ?_ ?_
    · exact g_sub [2, 3, 4, 5, 6, 7] rfl (Hj634 () h631)
    refine g_iconst (pc := 2814) (v := (0 : Int32)) ic_0 dL_law_2814 ?_
    exact g_zreturn (pc := 2815) rfl dL_law_2815
  · refine g_aload_n (pc := 2819) (x := v1) 1 rfl rfl dL_law_2819 ?_
    refine g_aload_n (pc := 2820) (x := a0) 0 rfl rfl dL_law_2820 ?_
    refine g_iload (pc := 2821) (x := x13) 5 rfl dL_law_2821 ?_
    refine g_iconst (pc := 2823) (v := (1 : Int32)) ic_1 dL_law_2823 ?_
    refine g_iadd (pc := 2824) dL_law_2824 ?_
    refine g_iaload (pc := 2825) rfl dL_law_2825 fun v638 => ?_
    refine g_aload_n (pc := 2826) (x := v9) 3 rfl rfl dL_law_2826 ?_
    refine g_bi (pc := 2827) (y := yX0_votesIn) (ws := wsW_ yX0_votesIn cX0_votesIn 4 (some .int) [(0, 9, 12, 21), (0, 9, 15, 15)]) (fr := 10) (lo := 224) (as := [gr v1, gi v638, gr v9]) (st := []) (g_no) rfl (fun _ _ e => tX0_votesIn hs e) (fun K _ _ hM R e1 e2 => g_runSX (M := mL_law) (pc := 2827) (y := yX0_votesIn) (bytes := cX0_votesIn) (maxL := 4) (ret := (some .int)) (hh := [(0, 9, 12, 21), (0, 9, 15, 15)]) (fr := 10) (lo := 224) (as := [gr v1, gi v638, gr v9]) (st := []) gy_X0_votesIn (gbl rfl) (gbl rfl) (gbl rfl) q3590 q3591 dL_law_2827 K hM R e1 e2) fun v639 h640 => ?_
    refine g_istore (pc := 2830) (lv' := [(6, gi v639), (0, gr a0), (1, gr v1), (2, gr v5), (3, gr v9), (4, gr v11), (5, gi x13)]) [0, 1, 2, 3, 4, 5, 6] rfl (gblt rfl) dL_law_2830 ?_
    refine g_aload_n (pc := 2832) (x := v5) 3 rfl rfl dL_law_2832 ?_
    refine g_aload_n (pc := 2833) (x := a0) 1 rfl rfl dL_law_2833 ?_
    refine g_iload (pc := 2834) (x := x13) 6 rfl dL_law_2834 ?_
    refine g_iconst (pc := 2836) (v := (1 : Int32)) ic_1 dL_law_2836 ?_
    refine g_iadd (pc := 2837) dL_law_2837 ?_
    refine g_iaload (pc := 2838) rfl dL_law_2838 fun v641 => ?_
    refine g_bVi (pc := 2839) (y := yX2_votesIn) (ws := ws_ yX2_votesIn cX2_votesIn 2 (some .int)) (fr := 8) (lo := 182) (as := [gi v641]) (st := []) (g_no) rfl (fun _ _ _ e => tX2_votesIn hs e) (fun K _ _ _ hq hM R e1 e2 => g_runV (M := mL_law) (pc := 2839) (y := yX2_votesIn) (bytes := cX2_votesIn) (maxL := 2) (ret := (some .int)) (fr := 8) (lo := 182) (as := [gi v641]) (st := []) hq (C := "FlareSlopesModel") rfl gy_X2_votesIn (gbl rfl) (gbl rfl) (gbl rfl) q4491 q4492 q4493 dL_law_2839 K hM R e1 e2) fun v642 h643 => ?_
    refine g_istore (pc := 2842) (lv' := [(7, gi v642), (6, gi v639), (0, gr a0), (1, gr v1), (2, gr v5), (3, gr v9), (4, gr v11), (5, gi x13)]) [0, 1, 2, 3, 4, 5, 6, 7] rfl (gblt rfl) dL_law_2842 ?_
    refine g_aload_n (pc := 2844) (x := v5) 4 rfl rfl dL_law_2844 ?_
    refine g_bVi (pc := 2845) (y := yX2_thrown) (ws := ws_ yX2_thrown cX2_thrown 1 (some .int)) (fr := 0) (lo := 0) (as := []) (st := []) (g_no) rfl (fun _ _ _ e => tX2_thrown hs e) (fun K _ _ _ hq hM R e1 e2 => g_runV (M := mL_law) (pc := 2845) (y := yX2_thrown) (bytes := cX2_thrown) (maxL := 1) (ret := (some .int)) (fr := 0) (lo := 0) (as := []) (st := []) hq (C := "FlareSlopesModel") rfl gy_X2_thrown (gbl rfl) (gbl rfl) (gbl rfl) q4009 q4010 q4011 dL_law_2845 K hM R e1 e2) fun v644 h645 => ?_
    refine g_iload (pc := 2848) (x := v639) 1 rfl dL_law_2848 ?_
    refine g_icmp_eq (pc := 2850) (tgt := 2855) rfl dL_law_2850 ?_ ?_
    rotate_left
    · refine g_iconst (pc := 2853) (v := (0 : Int32)) ic_0 dL_law_2853 ?_
      exact g_zreturn (pc := 2854) rfl dL_law_2854
    refine g_iload (pc := 2855) (x := v639) 1 rfl dL_law_2855 ?_
    refine g_join 2872 (fun (x646 : Unit) => [(0, gr a0), (1, gr v1), (2, gr v5), (3, gr v9), (4, gr v11), (5, gi x13)]) (fun (x646 : Unit) => []) (fun x646 h647 => ?_) (fun j648 Hj648 => ?_)
    · refine g_goto (pc := 2872) (tgt := 4259) rfl dL_law_2872 ?_
      exact Hj20 () h647
    refine g_if_ne (pc := 2857) (tgt := 2872) rfl dL_law_2857 ?_ ?_
    rotate_left
    · exact g_sub [2, 3, 4, 5, 6, 7] rfl (Hj648 () h645)
    refine g_aload_n (pc := 2860) (x := v9) 5 rfl rfl dL_law_2860 ?_
    refine g_iconst (pc := 2861) (v := (0 : Int32)) ic_0 dL_law_2861 ?_
    refine g_laload (pc := 2862) rfl dL_law_2862 fun v649 => ?_
    refine g_iload (pc := 2863) (x := v642) 0 rfl dL_law_2863 ?_
    refine g_i2l (pc := 2865) dL_law_2865 ?_
    refine g_lcmp (pc := 2866) dL_law_2866 ?_
    refine g_if_eq (pc := 2867) (tgt := 2872) rfl dL_law_2867 ?_ ?_
    · exact g_sub [2, 3, 4, 5, 6, 7] rfl (Hj648 () h645)
    refine g_iconst (pc := 2870) (v := (0 : Int32)) ic_0 dL_law_2870 ?_
    exact g_zreturn (pc := 2871) rfl dL_law_2871
  · refine g_aload_n (pc := 2875) (x := v1) 1 rfl rfl dL_law_2875 ?_
    refine g_aload_n (pc := 2876) (x := a0) 0 rfl rfl dL_law_2876 ?_
    refine g_iload (pc := 2877) (x := x13) 5 rfl dL_law_2877 ?_
    refine g_iconst (pc := 2879) (v := (1 : Int32)) ic_1 dL_law_2879 ?_
    refine g_iadd (pc := 2880) dL_law_2880 ?_
    refine g_iaload (pc := 2881) rfl dL_law_2881 fun v652 => ?_
    refine g_aload_n (pc := 2882) (x := a0) 0 rfl rfl dL_law_2882 ?_
    refine g_iload (pc := 2883) (x := x13) 5 rfl dL_law_2883 ?_
    refine g_iconst (pc := 2885) (v := (2 : Int32)) ic_2 dL_law_2885 ?_
    refine g_iadd (pc := 2886) dL_law_2886 ?_
    refine g_iaload (pc := 2887) rfl dL_law_2887 fun v653 => ?_
    refine g_aload_n (pc := 2888) (x := v9) 3 rfl rfl dL_law_2888 ?_
    refine g_bi (pc := 2889) (y := yX0_seeIn) (ws := wsW_ yX0_seeIn cX0_seeIn 5 (some .int) [(0, 10, 13, 21), (0, 10, 17, 13)]) (fr := 11) (lo := 210) (as := [gr v1, gi v652, gi v653, gr v9]) (st := []) (g_no) rfl (fun _ _ e => tX0_seeIn hs e) (fun K _ _ hM R e1 e2 => g_runSX (M := mL_law) (pc := 2889) (y := yX0_seeIn) (bytes := cX0_seeIn) (maxL := 5) (ret := (some .int)) (hh := [(0, 10, 13, 21), (0, 10, 17, 13)]) (fr := 11) (lo := 210) (as := [gr v1, gi v652, gi v653, gr v9]) (st := []) gy_X0_seeIn (gbl rfl) (gbl rfl) (gbl rfl) q3597 q3598 dL_law_2889 K hM R e1 e2) fun v654 h655 => ?_
    refine g_istore (pc := 2892) (lv' := [(6, gi v654), (0, gr a0), (1, gr v1), (2, gr v5), (3, gr v9), (4, gr v11), (5, gi x13)]) [0, 1, 2, 3, 4, 5, 6] rfl (gblt rfl) dL_law_2892 ?_
    refine g_aload_n (pc := 2894) (x := v5) 3 rfl rfl dL_law_2894 ?_
    refine g_aload_n (pc := 2895) (x := a0) 1 rfl rfl dL_law_2895 ?_
    refine g_iload (pc := 2896) (x := x13) 6 rfl dL_law_2896 ?_
    refine g_iconst (pc := 2898) (v := (1 : Int32)) ic_1 dL_law_2898 ?_
    refine g_iadd (pc := 2899) dL_law_2899 ?_
    refine g_iaload (pc := 2900) rfl dL_law_2900 fun v656 => ?_
    refine g_aload_n (pc := 2901) (x := a0) 1 rfl rfl dL_law_2901 ?_
    refine g_iload (pc := 2902) (x := x13) 6 rfl dL_law_2902 ?_
    refine g_iconst (pc := 2904) (v := (2 : Int32)) ic_2 dL_law_2904 ?_
    refine g_iadd (pc := 2905) dL_law_2905 ?_
    refine g_iaload (pc := 2906) rfl dL_law_2906 fun v657 => ?_
    refine g_bVi (pc := 2907) (y := yX2_seeIn) (ws := ws_ yX2_seeIn cX2_seeIn 4 (some .int)) (fr := 4) (lo := 93) (as := [gi v656, gi v657]) (st := []) (g_no) rfl (fun _ _ _ e => tX2_seeIn hs e) (fun K _ _ _ hq hM R e1 e2 => g_runV (M := mL_law) (pc := 2907) (y := yX2_seeIn) (bytes := cX2_seeIn) (maxL := 4) (ret := (some .int)) (fr := 4) (lo := 93) (as := [gi v656, gi v657]) (st := []) hq (C := "FlareSlopesModel") rfl gy_X2_seeIn (gbl rfl) (gbl rfl) (gbl rfl) q4495 q4496 q4497 dL_law_2907 K hM R e1 e2) fun v658 h659 => ?_
    refine g_istore (pc := 2910) (lv' := [(7, gi v658), (6, gi v654), (0, gr a0), (1, gr v1), (2, gr v5), (3, gr v9), (4, gr v11), (5, gi x13)]) [0, 1, 2, 3, 4, 5, 6, 7] rfl (gblt rfl) dL_law_2910 ?_
    refine g_aload_n (pc := 2912) (x := v5) 4 rfl rfl dL_law_2912 ?_
    refine g_bVi (pc := 2913) (y := yX2_thrown) (ws := ws_ yX2_thrown cX2_thrown 1 (some .int)) (fr := 0) (lo := 0) (as := []) (st := []) (g_no) rfl (fun _ _ _ e => tX2_thrown hs e) (fun K _ _ _ hq hM R e1 e2 => g_runV (M := mL_law) (pc := 2913) (y := yX2_thrown) (bytes := cX2_thrown) (maxL := 1) (ret := (some .int)) (fr := 0) (lo := 0) (as := []) (st := []) hq (C := "FlareSlopesModel") rfl gy_X2_thrown (gbl rfl) (gbl rfl) (gbl rfl) q4009 q4010 q4011 dL_law_2913 K hM R e1 e2) fun v660 h661 => ?_
    refine g_iload (pc := 2916) (x := v654) 1 rfl dL_law_2916 ?_
    refine g_icmp_eq (pc := 2918) (tgt := 2923) rfl dL_law_2918 ?_ ?_
    rotate_left
    · refine g_iconst (pc := 2921) (v := (0 : Int32)) ic_0 dL_law_2921 ?_
      exact g_zreturn (pc := 2922) rfl dL_law_2922
    refine g_iload (pc := 2923) (x := v654) 1 rfl dL_law_2923 ?_
    refine g_join 2940 (fun (x662 : Unit) => [(0, gr a0), (1, gr v1), (2, gr v5), (3, gr v9), (4, gr v11), (5, gi x13)]) (fun (x662 : Unit) => []) (fun x662 h663 => ?_) (fun j664 Hj664 => ?_)
    · refine g_goto (pc := 2940) (tgt := 4259) rfl dL_law_2940 ?_
      exact Hj20 () h663
    refine g_if_ne (pc := 2925) (tgt := 2940) rfl dL_law_2925 ?_ ?_
    rotate_left
    · exact g_sub [2, 3, 4, 5, 6, 7] rfl (Hj664 () h661)
    refine g_aload_n (pc := 2928) (x := v9) 5 rfl rfl dL_law_2928 ?_
    refine g_iconst (pc := 2929) (v := (0 : Int32)) ic_0 dL_law_2929 ?_
    refine g_laload (pc := 2930) rfl dL_law_2930 fun v665 => ?_
    refine g_iload (pc := 2931) (x := v658) 0 rfl dL_law_2931 ?_
    refine g_i2l (pc := 2933) dL_law_2933 ?_
    refine g_lcmp (pc := 2934) dL_law_2934 ?_
    refine g_if_eq (pc := 2935) (tgt := 2940) rfl dL_law_2935 ?_ ?_
    · exact g_sub [2, 3, 4, 5, 6, 7] rfl (Hj664 () h661)
    refine g_iconst (pc := 2938) (v := (0 : Int32)) ic_0 dL_law_2938 ?_
    exact g_zreturn (pc := 2939) rfl dL_law_2939
  · refine g_aload_n (pc := 2943) (x := v1) 1 rfl rfl dL_law_2943 ?_
    refine g_aload_n (pc := 2944) (x := a0) 0 rfl rfl dL_law_2944 ?_
    refine g_iload (pc := 2945) (x := x13) 5 rfl dL_law_2945 ?_
    refine g_iconst (pc := 2947) (v := (1 : Int32)) ic_1 dL_law_2947 ?_
    refine g_iadd (pc := 2948) dL_law_2948 ?_
    refine g_iaload (pc := 2949) rfl dL_law_2949 fun v668 => ?_
    refine g_aload_n (pc := 2950) (x := a0) 0 rfl rfl dL_law_2950 ?_
    refine g_iload (pc := 2951) (x := x13) 5 rfl dL_law_2951 ?_
    refine g_iconst (pc := 2953) (v := (2 : Int32)) ic_2 dL_law_2953 ?_
    refine g_iadd (pc := 2954) dL_law_2954 ?_
    refine g_iaload (pc := 2955) rfl dL_law_2955 fun v669 => ?_
    refine g_aload_n (pc := 2956) (x := a0) 0 rfl rfl dL_law_2956 ?_
    refine g_iload (pc := 2957) (x := x13) 5 rfl dL_law_2957 ?_
    refine g_iconst (pc := 2959) (v := (3 : Int32)) ic_3 dL_law_2959 ?_
    refine g_iadd (pc := 2960) dL_law_2960 ?_
    refine g_iaload (pc := 2961) rfl dL_law_2961 fun v670 => ?_
    refine g_aload_n (pc := 2962) (x := v9) 3 rfl rfl dL_law_2962 ?_
    refine g_bi (pc := 2963) (y := yX0_closersIf) (ws := wsW_ yX0_closersIf cX0_closersIf 6 (some .int) [(0, 12, 15, 21), (0, 12, 19, 13), (0, 12, 23, 15)]) (fr := 11) (lo := 251) (as := [gr v1, gi v668, gi v669, gi v670, gr v9]) (st := []) (g_no) rfl (fun _ _ e => tX0_closersIf hs e) (fun K _ _ hM R e1 e2 => g_runSX (M := mL_law) (pc := 2963) (y := yX0_closersIf) (bytes := cX0_closersIf) (maxL := 6) (ret := (some .int)) (hh := [(0, 12, 15, 21), (0, 12, 19, 13), (0, 12, 23, 15)]) (fr := 11) (lo := 251) (as := [gr v1, gi v668, gi v669, gi v670, gr v9]) (st := []) gy_X0_closersIf (gbl rfl) (gbl rfl) (gbl rfl) q3604 q3605 dL_law_2963 K hM R e1 e2) fun v671 h672 => ?_
    refine g_istore (pc := 2966) (lv' := [(6, gi v671), (0, gr a0), (1, gr v1), (2, gr v5), (3, gr v9), (4, gr v11), (5, gi x13)]) [0, 1, 2, 3, 4, 5, 6] rfl (gblt rfl) dL_law_2966 ?_
    refine g_aload_n (pc := 2968) (x := v5) 3 rfl rfl dL_law_2968 ?_
    refine g_aload_n (pc := 2969) (x := a0) 1 rfl rfl dL_law_2969 ?_
    refine g_iload (pc := 2970) (x := x13) 6 rfl dL_law_2970 ?_
    refine g_iconst (pc := 2972) (v := (1 : Int32)) ic_1 dL_law_2972 ?_
    refine g_iadd (pc := 2973) dL_law_2973 ?_
    refine g_iaload (pc := 2974) rfl dL_law_2974 fun v673 => ?_
    refine g_aload_n (pc := 2975) (x := a0) 1 rfl rfl dL_law_2975 ?_
    refine g_iload (pc := 2976) (x := x13) 6 rfl dL_law_2976 ?_
    refine g_iconst (pc := 2978) (v := (2 : Int32)) ic_2 dL_law_2978 ?_
    refine g_iadd (pc := 2979) dL_law_2979 ?_
    refine g_iaload (pc := 2980) rfl dL_law_2980 fun v674 => ?_
    refine g_aload_n (pc := 2981) (x := a0) 1 rfl rfl dL_law_2981 ?_
    refine g_iload (pc := 2982) (x := x13) 6 rfl dL_law_2982 ?_
    refine g_iconst (pc := 2984) (v := (3 : Int32)) ic_3 dL_law_2984 ?_
    refine g_iadd (pc := 2985) dL_law_2985 ?_
    refine g_iaload (pc := 2986) rfl dL_law_2986 fun v675 => ?_
    refine g_bVi (pc := 2987) (y := yX2_closersIf) (ws := ws_ yX2_closersIf cX2_closersIf 4 (some .int)) (fr := 9) (lo := 206) (as := [gi v673, gi v674, gi v675]) (st := []) (g_no) rfl (fun _ _ _ e => tX2_closersIf hs e) (fun K _ _ _ hq hM R e1 e2 => g_runV (M := mL_law) (pc := 2987) (y := yX2_closersIf) (bytes := cX2_closersIf) (maxL := 4) (ret := (some .int)) (fr := 9) (lo := 206) (as := [gi v673, gi v674, gi v675]) (st := []) hq (C := "FlareSlopesModel") rfl gy_X2_closersIf (gbl rfl) (gbl rfl) (gbl rfl) q4499 q4500 q4501 dL_law_2987 K hM R e1 e2) fun v676 h677 => ?_
    refine g_istore (pc := 2990) (lv' := [(7, gi v676), (6, gi v671), (0, gr a0), (1, gr v1), (2, gr v5), (3, gr v9), (4, gr v11), (5, gi x13)]) [0, 1, 2, 3, 4, 5, 6, 7] rfl (gblt rfl) dL_law_2990 ?_
    refine g_aload_n (pc := 2992) (x := v5) 4 rfl rfl dL_law_2992 ?_
    refine g_bVi (pc := 2993) (y := yX2_thrown) (ws := ws_ yX2_thrown cX2_thrown 1 (some .int)) (fr := 0) (lo := 0) (as := []) (st := []) (g_no) rfl (fun _ _ _ e => tX2_thrown hs e) (fun K _ _ _ hq hM R e1 e2 => g_runV (M := mL_law) (pc := 2993) (y := yX2_thrown) (bytes := cX2_thrown) (maxL := 1) (ret := (some .int)) (fr := 0) (lo := 0) (as := []) (st := []) hq (C := "FlareSlopesModel") rfl gy_X2_thrown (gbl rfl) (gbl rfl) (gbl rfl) q4009 q4010 q4011 dL_law_2993 K hM R e1 e2) fun v678 h679 => ?_
    refine g_iload (pc := 2996) (x := v671) 1 rfl dL_law_2996 ?_
    refine g_icmp_eq (pc := 2998) (tgt := 3003) rfl dL_law_2998 ?_ ?_
    rotate_left
    · refine g_iconst (pc := 3001) (v := (0 : Int32)) ic_0 dL_law_3001 ?_
      exact g_zreturn (pc := 3002) rfl dL_law_3002
    refine g_iload (pc := 3003) (x := v671) 1 rfl dL_law_3003 ?_
    refine g_join 3020 (fun (x680 : Unit) => [(0, gr a0), (1, gr v1), (2, gr v5), (3, gr v9), (4, gr v11), (5, gi x13)]) (fun (x680 : Unit) => []) (fun x680 h681 => ?_) (fun j682 Hj682 => ?_)
    · refine g_goto (pc := 3020) (tgt := 4259) rfl dL_law_3020 ?_
      exact Hj20 () h681
    refine g_if_ne (pc := 3005) (tgt := 3020) rfl dL_law_3005 ?_ ?_
    rotate_left
    · exact g_sub [2, 3, 4, 5, 6, 7] rfl (Hj682 () h679)
    refine g_aload_n (pc := 3008) (x := v9) 5 rfl rfl dL_law_3008 ?_
    refine g_iconst (pc := 3009) (v := (0 : Int32)) ic_0 dL_law_3009 ?_
    refine g_laload (pc := 3010) rfl dL_law_3010 fun v683 => ?_
    refine g_iload (pc := 3011) (x := v676) 0 rfl dL_law_3011 ?_
    refine g_i2l (pc := 3013) dL_law_3013 ?_
    refine g_lcmp (pc := 3014) dL_law_3014 ?_
    refine g_if_eq (pc := 3015) (tgt := 3020) rfl dL_law_3015 ?_ ?_
    · exact g_sub [2, 3, 4, 5, 6, 7] rfl (Hj682 () h679)
    refine g_iconst (pc := 3018) (v := (0 : Int32)) ic_0 dL_law_3018 ?_
    exact g_zreturn (pc := 3019) rfl dL_law_3019
  · refine g_aload_n (pc := 3023) (x := v1) 1 rfl rfl dL_law_3023 ?_
    refine g_aload_n (pc := 3024) (x := a0) 0 rfl rfl dL_law_3024 ?_
    refine g_iload (pc := 3025) (x := x13) 5 rfl dL_law_3025 ?_
    refine g_iconst (pc := 3027) (v := (1 : Int32)) ic_1 dL_law_3027 ?_
    refine g_iadd (pc := 3028) dL_law_3028 ?_
    refine g_iaload (pc := 3029) rfl dL_law_3029 fun v686 => ?_
    refine g_aload_n (pc := 3030) (x := a0) 0 rfl rfl dL_law_3030 ?_
    refine g_iload (pc := 3031) (x := x13) 5 rfl dL_law_3031 ?_
    refine g_iconst (pc := 3033) (v := (2 : Int32)) ic_2 dL_law_3033 ?_
    refine g_iadd (pc := 3034) dL_law_3034 ?_
    refine g_iaload (pc := 3035) rfl dL_law_3035 fun v687 => ?_
    refine g_aload_n (pc := 3036) (x := v9) 3 rfl rfl dL_law_3036 ?_
    refine g_bi (pc := 3037) (y := yX0_bestCaller) (ws := wsW_ yX0_bestCaller cX0_bestCaller 5 (some .int) [(0, 10, 13, 21), (0, 10, 17, 13), (0, 10, 21, 15)]) (fr := 11) (lo := 254) (as := [gr v1, gi v686, gi v687, gr v9]) (st := []) (g_no) rfl (fun _ _ e => tX0_bestCaller hs e) (fun K _ _ hM R e1 e2 => g_runSX (M := mL_law) (pc := 3037) (y := yX0_bestCaller) (bytes := cX0_bestCaller) (maxL := 5) (ret := (some .int)) (hh := [(0, 10, 13, 21), (0, 10, 17, 13), (0, 10, 21, 15)]) (fr := 11) (lo := 254) (as := [gr v1, gi v686, gi v687, gr v9]) (st := []) gy_X0_bestCaller (gbl rfl) (gbl rfl) (gbl rfl) q3639 q3640 dL_law_3037 K hM R e1 e2) fun v688 h689 => ?_
    refine g_istore (pc := 3040) (lv' := [(6, gi v688), (0, gr a0), (1, gr v1), (2, gr v5), (3, gr v9), (4, gr v11), (5, gi x13)]) [0, 1, 2, 3, 4, 5, 6] rfl (gblt rfl) dL_law_3040 ?_
    refine g_aload_n (pc := 3042) (x := v5) 3 rfl rfl dL_law_3042 ?_
    refine g_aload_n (pc := 3043) (x := a0) 1 rfl rfl dL_law_3043 ?_
    refine g_iload (pc := 3044) (x := x13) 6 rfl dL_law_3044 ?_
    refine g_iconst (pc := 3046) (v := (1 : Int32)) ic_1 dL_law_3046 ?_
    refine g_iadd (pc := 3047) dL_law_3047 ?_
    refine g_iaload (pc := 3048) rfl dL_law_3048 fun v690 => ?_
    refine g_aload_n (pc := 3049) (x := a0) 1 rfl rfl dL_law_3049 ?_
    refine g_iload (pc := 3050) (x := x13) 6 rfl dL_law_3050 ?_
    refine g_iconst (pc := 3052) (v := (2 : Int32)) ic_2 dL_law_3052 ?_
    refine g_iadd (pc := 3053) dL_law_3053 ?_
    refine g_iaload (pc := 3054) rfl dL_law_3054 fun v691 => ?_
    refine g_bVi (pc := 3055) (y := yX2_bestCaller) (ws := ws_ yX2_bestCaller cX2_bestCaller 7 (some .int)) (fr := 9) (lo := 206) (as := [gi v690, gi v691]) (st := []) (g_no) rfl (fun _ _ _ e => tX2_bestCaller hs e) (fun K _ _ _ hq hM R e1 e2 => g_runV (M := mL_law) (pc := 3055) (y := yX2_bestCaller) (bytes := cX2_bestCaller) (maxL := 7) (ret := (some .int)) (fr := 9) (lo := 206) (as := [gi v690, gi v691]) (st := []) hq (C := "FlareSlopesModel") rfl gy_X2_bestCaller (gbl rfl) (gbl rfl) (gbl rfl) q4514 q4515 q4516 dL_law_3055 K hM R e1 e2) fun v692 h693 => ?_
    refine g_istore (pc := 3058) (lv' := [(7, gi v692), (6, gi v688), (0, gr a0), (1, gr v1), (2, gr v5), (3, gr v9), (4, gr v11), (5, gi x13)]) [0, 1, 2, 3, 4, 5, 6, 7] rfl (gblt rfl) dL_law_3058 ?_
    refine g_aload_n (pc := 3060) (x := v5) 4 rfl rfl dL_law_3060 ?_
    refine g_bVi (pc := 3061) (y := yX2_thrown) (ws := ws_ yX2_thrown cX2_thrown 1 (some .int)) (fr := 0) (lo := 0) (as := []) (st := []) (g_no) rfl (fun _ _ _ e => tX2_thrown hs e) (fun K _ _ _ hq hM R e1 e2 => g_runV (M := mL_law) (pc := 3061) (y := yX2_thrown) (bytes := cX2_thrown) (maxL := 1) (ret := (some .int)) (fr := 0) (lo := 0) (as := []) (st := []) hq (C := "FlareSlopesModel") rfl gy_X2_thrown (gbl rfl) (gbl rfl) (gbl rfl) q4009 q4010 q4011 dL_law_3061 K hM R e1 e2) fun v694 h695 => ?_
    refine g_iload (pc := 3064) (x := v688) 1 rfl dL_law_3064 ?_
    refine g_icmp_eq (pc := 3066) (tgt := 3071) rfl dL_law_3066 ?_ ?_
    rotate_left
    · refine g_iconst (pc := 3069) (v := (0 : Int32)) ic_0 dL_law_3069 ?_
      exact g_zreturn (pc := 3070) rfl dL_law_3070
    refine g_iload (pc := 3071) (x := v688) 1 rfl dL_law_3071 ?_
    refine g_join 3088 (fun (x696 : Unit) => [(0, gr a0), (1, gr v1), (2, gr v5), (3, gr v9), (4, gr v11), (5, gi x13)]) (fun (x696 : Unit) => []) (fun x696 h697 => ?_) (fun j698 Hj698 => ?_)
    · refine g_goto (pc := 3088) (tgt := 4259) rfl dL_law_3088 ?_
      exact Hj20 () h697
    refine g_if_ne (pc := 3073) (tgt := 3088) rfl dL_law_3073 ?_ ?_
    rotate_left
    · exact g_sub [2, 3, 4, 5, 6, 7] rfl (Hj698 () h695)
    refine g_aload_n (pc := 3076) (x := v9) 5 rfl rfl dL_law_3076 ?_
    refine g_iconst (pc := 3077) (v := (0 : Int32)) ic_0 dL_law_3077 ?_
    refine g_laload (pc := 3078) rfl dL_law_3078 fun v699 => ?_
    refine g_iload (pc := 3079) (x := v692) 0 rfl dL_law_3079 ?_
    refine g_i2l (pc := 3081) dL_law_3081 ?_
    refine g_lcmp (pc := 3082) dL_law_3082 ?_
    refine g_if_eq (pc := 3083) (tgt := 3088) rfl dL_law_3083 ?_ ?_
    · exact g_sub [2, 3, 4, 5, 6, 7] rfl (Hj698 () h695)
    refine g_iconst (pc := 3086) (v := (0 : Int32)) ic_0 dL_law_3086 ?_
    exact g_zreturn (pc := 3087) rfl dL_law_3087
  · refine g_aload_n (pc := 3091) (x := v1) 1 rfl rfl dL_law_3091 ?_
    refine g_aload_n (pc := 3092) (x := a0) 0 rfl rfl dL_law_3092 ?_
    refine g_iload (pc := 3093) (x := x13) 5 rfl dL_law_3093 ?_
    refine g_iconst (pc := 3095) (v := (1 : Int32)) ic_1 dL_law_3095 ?_
    refine g_iadd (pc := 3096) dL_law_3096 ?_
    refine g_iaload (pc := 3097) rfl dL_law_3097 fun v702 => ?_
    refine g_aload_n (pc := 3098) (x := a0) 0 rfl rfl dL_law_3098 ?_
    refine g_iload (pc := 3099) (x := x13) 5 rfl dL_law_3099 ?_
    refine g_iconst (pc := 3101) (v := (2 : Int32)) ic_2 dL_law_3101 ?_
    refine g_iadd (pc := 3102) dL_law_3102 ?_
    refine g_iaload (pc := 3103) rfl dL_law_3103 fun v703 => ?_
    refine g_aload_n (pc := 3104) (x := v9) 3 rfl rfl dL_law_3104 ?_
    refine g_bi (pc := 3105) (y := yX0_leastShare) (ws := wsW_ yX0_leastShare cX0_leastShare 5 (some .int) [(0, 10, 13, 21), (0, 10, 17, 13)]) (fr := 11) (lo := 189) (as := [gr v1, gi v702, gi v703, gr v9]) (st := []) (g_no) rfl (fun _ _ e => tX0_leastShare hs e) (fun K _ _ hM R e1 e2 => g_runSX (M := mL_law) (pc := 3105) (y := yX0_leastShare) (bytes := cX0_leastShare) (maxL := 5) (ret := (some .int)) (hh := [(0, 10, 13, 21), (0, 10, 17, 13)]) (fr := 11) (lo := 189) (as := [gr v1, gi v702, gi v703, gr v9]) (st := []) gy_X0_leastShare (gbl rfl) (gbl rfl) (gbl rfl) q3646 q3647 dL_law_3105 K hM R e1 e2) fun v704 h705 => ?_
    refine g_istore (pc := 3108) (lv' := [(6, gi v704), (0, gr a0), (1, gr v1), (2, gr v5), (3, gr v9), (4, gr v11), (5, gi x13)]) [0, 1, 2, 3, 4, 5, 6] rfl (gblt rfl) dL_law_3108 ?_
    refine g_aload_n (pc := 3110) (x := v5) 3 rfl rfl dL_law_3110 ?_
    refine g_aload_n (pc := 3111) (x := a0) 1 rfl rfl dL_law_3111 ?_
    refine g_iload (pc := 3112) (x := x13) 6 rfl dL_law_3112 ?_
    refine g_iconst (pc := 3114) (v := (1 : Int32)) ic_1 dL_law_3114 ?_
    refine g_iadd (pc := 3115) dL_law_3115 ?_
    refine g_iaload (pc := 3116) rfl dL_law_3116 fun v706 => ?_
    refine g_aload_n (pc := 3117) (x := a0) 1 rfl rfl dL_law_3117 ?_
    refine g_iload (pc := 3118) (x := x13) 6 rfl dL_law_3118 ?_
    refine g_iconst (pc := 3120) (v := (2 : Int32)) ic_2 dL_law_3120 ?_
    refine g_iadd (pc := 3121) dL_law_3121 ?_
    refine g_iaload (pc := 3122) rfl dL_law_3122 fun v707 => ?_
    refine g_bVi (pc := 3123) (y := yX2_leastShare) (ws := ws_ yX2_leastShare cX2_leastShare 6 (some .int)) (fr := 4) (lo := 89) (as := [gi v706, gi v707]) (st := []) (g_no) rfl (fun _ _ _ e => tX2_leastShare hs e) (fun K _ _ _ hq hM R e1 e2 => g_runV (M := mL_law) (pc := 3123) (y := yX2_leastShare) (bytes := cX2_leastShare) (maxL := 6) (ret := (some .int)) (fr := 4) (lo := 89) (as := [gi v706, gi v707]) (st := []) hq (C := "FlareSlopesModel") rfl gy_X2_leastShare (gbl rfl) (gbl rfl) (gbl rfl) q4518 q4519 q4520 dL_law_3123 K hM R e1 e2) fun v708 h709 => ?_
    refine g_istore (pc := 3126) (lv' := [(7, gi v708), (6, gi v704), (0, gr a0), (1, gr v1), (2, gr v5), (3, gr v9), (4, gr v11), (5, gi x13)]) [0, 1, 2, 3, 4, 5, 6, 7] rfl (gblt rfl) dL_law_3126 ?_
    refine g_aload_n (pc := 3128) (x := v5) 4 rfl rfl dL_law_3128 ?_
    refine g_bVi (pc := 3129) (y := yX2_thrown) (ws := ws_ yX2_thrown cX2_thrown 1 (some .int)) (fr := 0) (lo := 0) (as := []) (st := []) (g_no) rfl (fun _ _ _ e => tX2_thrown hs e) (fun K _ _ _ hq hM R e1 e2 => g_runV (M := mL_law) (pc := 3129) (y := yX2_thrown) (bytes := cX2_thrown) (maxL := 1) (ret := (some .int)) (fr := 0) (lo := 0) (as := []) (st := []) hq (C := "FlareSlopesModel") rfl gy_X2_thrown (gbl rfl) (gbl rfl) (gbl rfl) q4009 q4010 q4011 dL_law_3129 K hM R e1 e2) fun v710 h711 => ?_
    refine g_iload (pc := 3132) (x := v704) 1 rfl dL_law_3132 ?_
    refine g_icmp_eq (pc := 3134) (tgt := 3139) rfl dL_law_3134 ?_ ?_
    rotate_left
    · refine g_iconst (pc := 3137) (v := (0 : Int32)) ic_0 dL_law_3137 ?_
      exact g_zreturn (pc := 3138) rfl dL_law_3138
    refine g_iload (pc := 3139) (x := v704) 1 rfl dL_law_3139 ?_
    refine g_join 3156 (fun (x712 : Unit) => [(0, gr a0), (1, gr v1), (2, gr v5), (3, gr v9), (4, gr v11), (5, gi x13)]) (fun (x712 : Unit) => []) (fun x712 h713 => ?_) (fun j714 Hj714 => ?_)
    · refine g_goto (pc := 3156) (tgt := 4259) rfl dL_law_3156 ?_
      exact Hj20 () h713
    refine g_if_ne (pc := 3141) (tgt := 3156) rfl dL_law_3141 ?_ ?_
    rotate_left
    · exact g_sub [2, 3, 4, 5, 6, 7] rfl (Hj714 () h711)
    refine g_aload_n (pc := 3144) (x := v9) 5 rfl rfl dL_law_3144 ?_
    refine g_iconst (pc := 3145) (v := (0 : Int32)) ic_0 dL_law_3145 ?_
    refine g_laload (pc := 3146) rfl dL_law_3146 fun v715 => ?_
    refine g_iload (pc := 3147) (x := v708) 0 rfl dL_law_3147 ?_
    refine g_i2l (pc := 3149) dL_law_3149 ?_
    refine g_lcmp (pc := 3150) dL_law_3150 ?_
    refine g_if_eq (pc := 3151) (tgt := 3156) rfl dL_law_3151 ?_ ?_
    · exact g_sub [2, 3, 4, 5, 6, 7] rfl (Hj714 () h711)
    refine g_iconst (pc := 3154) (v := (0 : Int32)) ic_0 dL_law_3154 ?_
    exact g_zreturn (pc := 3155) rfl dL_law_3155
  · refine g_aload_n (pc := 3159) (x := v1) 1 rfl rfl dL_law_3159 ?_
    refine g_aload_n (pc := 3160) (x := a0) 0 rfl rfl dL_law_3160 ?_
    refine g_iload (pc := 3161) (x := x13) 5 rfl dL_law_3161 ?_
    refine g_iconst (pc := 3163) (v := (1 : Int32)) ic_1 dL_law_3163 ?_
    refine g_iadd (pc := 3164) dL_law_3164 ?_
    refine g_iaload (pc := 3165) rfl dL_law_3165 fun v718 => ?_
    refine g_aload_n (pc := 3166) (x := v9) 3 rfl rfl dL_law_3166 ?_
    refine g_bi (pc := 3167) (y := yX0_writeBulletin) (ws := wsW_ yX0_writeBulletin cX0_writeBulletin 4 (some .int) [(0, 9, 12, 21), (0, 9, 15, 13)]) (fr := 11) (lo := 244) (as := [gr v1, gi v718, gr v9]) (st := []) (g_no) rfl (fun _ _ e => tX0_writeBulletin hs e) (fun K _ _ hM R e1 e2 => g_runSX (M := mL_law) (pc := 3167) (y := yX0_writeBulletin) (bytes := cX0_writeBulletin) (maxL := 4) (ret := (some .int)) (hh := [(0, 9, 12, 21), (0, 9, 15, 13)]) (fr := 11) (lo := 244) (as := [gr v1, gi v718, gr v9]) (st := []) gy_X0_writeBulletin (gbl rfl) (gbl rfl) (gbl rfl) q3653 q3654 dL_law_3167 K hM R e1 e2) fun v719 h720 => ?_
    refine g_istore (pc := 3170) (lv' := [(6, gi v719), (0, gr a0), (1, gr v1), (2, gr v5), (3, gr v9), (4, gr v11), (5, gi x13)]) [0, 1, 2, 3, 4, 5, 6] rfl (gblt rfl) dL_law_3170 ?_
    refine g_aload_n (pc := 3172) (x := v5) 3 rfl rfl dL_law_3172 ?_
    refine g_aload_n (pc := 3173) (x := a0) 1 rfl rfl dL_law_3173 ?_
    refine g_iload (pc := 3174) (x := x13) 6 rfl dL_law_3174 ?_
    refine g_iconst (pc := 3176) (v := (1 : Int32)) ic_1 dL_law_3176 ?_
    refine g_iadd (pc := 3177) dL_law_3177 ?_
    refine g_iaload (pc := 3178) rfl dL_law_3178 fun v721 => ?_
    refine g_bVi (pc := 3179) (y := yX2_writeBulletin) (ws := ws_ yX2_writeBulletin cX2_writeBulletin 3 (some .int)) (fr := 6) (lo := 139) (as := [gi v721]) (st := []) (g_no) rfl (fun _ _ _ e => tX2_writeBulletin hs e) (fun K _ _ _ hq hM R e1 e2 => g_runV (M := mL_law) (pc := 3179) (y := yX2_writeBulletin) (bytes := cX2_writeBulletin) (maxL := 3) (ret := (some .int)) (fr := 6) (lo := 139) (as := [gi v721]) (st := []) hq (C := "FlareSlopesModel") rfl gy_X2_writeBulletin (gbl rfl) (gbl rfl) (gbl rfl) q4522 q4523 q4524 dL_law_3179 K hM R e1 e2) fun v722 h723 => ?_
    refine g_istore (pc := 3182) (lv' := [(7, gi v722), (6, gi v719), (0, gr a0), (1, gr v1), (2, gr v5), (3, gr v9), (4, gr v11), (5, gi x13)]) [0, 1, 2, 3, 4, 5, 6, 7] rfl (gblt rfl) dL_law_3182 ?_
    refine g_aload_n (pc := 3184) (x := v5) 4 rfl rfl dL_law_3184 ?_
    refine g_bVi (pc := 3185) (y := yX2_thrown) (ws := ws_ yX2_thrown cX2_thrown 1 (some .int)) (fr := 0) (lo := 0) (as := []) (st := []) (g_no) rfl (fun _ _ _ e => tX2_thrown hs e) (fun K _ _ _ hq hM R e1 e2 => g_runV (M := mL_law) (pc := 3185) (y := yX2_thrown) (bytes := cX2_thrown) (maxL := 1) (ret := (some .int)) (fr := 0) (lo := 0) (as := []) (st := []) hq (C := "FlareSlopesModel") rfl gy_X2_thrown (gbl rfl) (gbl rfl) (gbl rfl) q4009 q4010 q4011 dL_law_3185 K hM R e1 e2) fun v724 h725 => ?_
    refine g_iload (pc := 3188) (x := v719) 1 rfl dL_law_3188 ?_
    refine g_icmp_eq (pc := 3190) (tgt := 3195) rfl dL_law_3190 ?_ ?_
    rotate_left
    · refine g_iconst (pc := 3193) (v := (0 : Int32)) ic_0 dL_law_3193 ?_
      exact g_zreturn (pc := 3194) rfl dL_law_3194
    refine g_iload (pc := 3195) (x := v719) 1 rfl dL_law_3195 ?_
    refine g_join 3212 (fun (x726 : Unit) => [(0, gr a0), (1, gr v1), (2, gr v5), (3, gr v9), (4, gr v11), (5, gi x13)]) (fun (x726 : Unit) => []) (fun x726 h727 => ?_) (fun j728 Hj728 => ?_)
    · refine g_goto (pc := 3212) (tgt := 4259) rfl dL_law_3212 ?_
      exact Hj20 () h727
    refine g_if_ne (pc := 3197) (tgt := 3212) rfl dL_law_3197 ?_ ?_
    rotate_left
    · exact g_sub [2, 3, 4, 5, 6, 7] rfl (Hj728 () h725)
    refine g_aload_n (pc := 3200) (x := v9) 5 rfl rfl dL_law_3200 ?_
    refine g_iconst (pc := 3201) (v := (0 : Int32)) ic_0 dL_law_3201 ?_
    refine g_laload (pc := 3202) rfl dL_law_3202 fun v729 => ?_
    refine g_iload (pc := 3203) (x := v722) 0 rfl dL_law_3203 ?_
    refine g_i2l (pc := 3205) dL_law_3205 ?_
    refine g_lcmp (pc := 3206) dL_law_3206 ?_
    refine g_if_eq (pc := 3207) (tgt := 3212) rfl dL_law_3207 ?_ ?_
    · exact g_sub [2, 3, 4, 5, 6, 7] rfl (Hj728 () h725)
    refine g_iconst (pc := 3210) (v := (0 : Int32)) ic_0 dL_law_3210 ?_
    exact g_zreturn (pc := 3211) rfl dL_law_3211
  · refine g_aload_n (pc := 3215) (x := v1) 1 rfl rfl dL_law_3215 ?_
    refine g_aload_n (pc := 3216) (x := a0) 0 rfl rfl dL_law_3216 ?_
    refine g_iload (pc := 3217) (x := x13) 5 rfl dL_law_3217 ?_
    refine g_iconst (pc := 3219) (v := (1 : Int32)) ic_1 dL_law_3219 ?_
    refine g_iadd (pc := 3220) dL_law_3220 ?_
    refine g_iaload (pc := 3221) rfl dL_law_3221 fun v732 => ?_
    refine g_aload_n (pc := 3222) (x := a0) 0 rfl rfl dL_law_3222 ?_
    refine g_iload (pc := 3223) (x := x13) 5 rfl dL_law_3223 ?_
    refine g_iconst (pc := 3225) (v := (2 : Int32)) ic_2 dL_law_3225 ?_
    refine g_iadd (pc := 3226) dL_law_3226 ?_
    refine g_iaload (pc := 3227) rfl dL_law_3227 fun v733 => ?_
    refine g_aload_n (pc := 3228) (x := v9) 3 rfl rfl dL_law_3228 ?_
    refine g_bi (pc := 3229) (y := yX0_writeVotes) (ws := wsW_ yX0_writeVotes cX0_writeVotes 5 (some .int) [(0, 10, 13, 21), (0, 10, 17, 13)]) (fr := 11) (lo := 190) (as := [gr v1, gi v732, gi v733, gr v9]) (st := []) (g_no) rfl (fun _ _ e => tX0_writeVotes hs e) (fun K _ _ hM R e1 e2 => g_runSX (M := mL_law) (pc := 3229) (y := yX0_writeVotes) (bytes := cX0_writeVotes) (maxL := 5) (ret := (some .int)) (hh := [(0, 10, 13, 21), (0, 10, 17, 13)]) (fr := 11) (lo := 190) (as := [gr v1, gi v732, gi v733, gr v9]) (st := []) gy_X0_writeVotes (gbl rfl) (gbl rfl) (gbl rfl) q3722 q3723 dL_law_3229 K hM R e1 e2) fun v734 h735 => ?_
    refine g_istore (pc := 3232) (lv' := [(6, gi v734), (0, gr a0), (1, gr v1), (2, gr v5), (3, gr v9), (4, gr v11), (5, gi x13)]) [0, 1, 2, 3, 4, 5, 6] rfl (gblt rfl) dL_law_3232 ?_
    refine g_aload_n (pc := 3234) (x := v5) 3 rfl rfl dL_law_3234 ?_
    refine g_aload_n (pc := 3235) (x := a0) 1 rfl rfl dL_law_3235 ?_
    refine g_iload (pc := 3236) (x := x13) 6 rfl dL_law_3236 ?_
    refine g_iconst (pc := 3238) (v := (1 : Int32)) ic_1 dL_law_3238 ?_
    refine g_iadd (pc := 3239) dL_law_3239 ?_
    refine g_iaload (pc := 3240) rfl dL_law_3240 fun v736 => ?_
    refine g_aload_n (pc := 3241) (x := a0) 1 rfl rfl dL_law_3241 ?_
    refine g_iload (pc := 3242) (x := x13) 6 rfl dL_law_3242 ?_
    refine g_iconst (pc := 3244) (v := (2 : Int32)) ic_2 dL_law_3244 ?_
    refine g_iadd (pc := 3245) dL_law_3245 ?_
    refine g_iaload (pc := 3246) rfl dL_law_3246 fun v737 => ?_
    refine g_bVi (pc := 3247) (y := yX2_writeVotes) (ws := ws_ yX2_writeVotes cX2_writeVotes 5 (some .int)) (fr := 8) (lo := 168) (as := [gi v736, gi v737]) (st := []) (g_no) rfl (fun _ _ _ e => tX2_writeVotes hs e) (fun K _ _ _ hq hM R e1 e2 => g_runV (M := mL_law) (pc := 3247) (y := yX2_writeVotes) (bytes := cX2_writeVotes) (maxL := 5) (ret := (some .int)) (fr := 8) (lo := 168) (as := [gi v736, gi v737]) (st := []) hq (C := "FlareSlopesModel") rfl gy_X2_writeVotes (gbl rfl) (gbl rfl) (gbl rfl) q4535 q4536 q4537 dL_law_3247 K hM R e1 e2) fun v738 h739 => ?_
    refine g_istore (pc := 3250) (lv' := [(7, gi v738), (6, gi v734), (0, gr a0), (1, gr v1), (2, gr v5), (3, gr v9), (4, gr v11), (5, gi x13)]) [0, 1, 2, 3, 4, 5, 6, 7] rfl (gblt rfl) dL_law_3250 ?_
    refine g_aload_n (pc := 3252) (x := v5) 4 rfl rfl dL_law_3252 ?_
    refine g_bVi (pc := 3253) (y := yX2_thrown) (ws := ws_ yX2_thrown cX2_thrown 1 (some .int)) (fr := 0) (lo := 0) (as := []) (st := []) (g_no) rfl (fun _ _ _ e => tX2_thrown hs e) (fun K _ _ _ hq hM R e1 e2 => g_runV (M := mL_law) (pc := 3253) (y := yX2_thrown) (bytes := cX2_thrown) (maxL := 1) (ret := (some .int)) (fr := 0) (lo := 0) (as := []) (st := []) hq (C := "FlareSlopesModel") rfl gy_X2_thrown (gbl rfl) (gbl rfl) (gbl rfl) q4009 q4010 q4011 dL_law_3253 K hM R e1 e2) fun v740 h741 => ?_
    refine g_iload (pc := 3256) (x := v734) 1 rfl dL_law_3256 ?_
    refine g_icmp_eq (pc := 3258) (tgt := 3263) rfl dL_law_3258 ?_ ?_
    rotate_left
    · refine g_iconst (pc := 3261) (v := (0 : Int32)) ic_0 dL_law_3261 ?_
      exact g_zreturn (pc := 3262) rfl dL_law_3262
    refine g_iload (pc := 3263) (x := v734) 1 rfl dL_law_3263 ?_
    refine g_join 3280 (fun (x742 : Unit) => [(0, gr a0), (1, gr v1), (2, gr v5), (3, gr v9), (4, gr v11), (5, gi x13)]) (fun (x742 : Unit) => []) (fun x742 h743 => ?_) (fun j744 Hj744 => ?_)
    · refine g_goto (pc := 3280) (tgt := 4259) rfl dL_law_3280 ?_
      exact Hj20 () h743
    refine g_if_ne (pc := 3265) (tgt := 3280) rfl dL_law_3265 ?_ ?_
    rotate_left
    · exact g_sub [2, 3, 4, 5, 6, 7] rfl (Hj744 () h741)
    refine g_aload_n (pc := 3268) (x := v9) 5 rfl rfl dL_law_3268 ?_
    refine g_iconst (pc := 3269) (v := (0 : Int32)) ic_0 dL_law_3269 ?_
    refine g_laload (pc := 3270) rfl dL_law_3270 fun v745 => ?_
    refine g_iload (pc := 3271) (x := v738) 0 rfl dL_law_3271 ?_
    refine g_i2l (pc := 3273) dL_law_3273 ?_
    refine g_lcmp (pc := 3274) dL_law_3274 ?_
    refine g_if_eq (pc := 3275) (tgt := 3280) rfl dL_law_3275 ?_ ?_
    · exact g_sub [2, 3, 4, 5, 6, 7] rfl (Hj744 () h741)
    refine g_iconst (pc := 3278) (v := (0 : Int32)) ic_0 dL_law_3278 ?_
    exact g_zreturn (pc := 3279) rfl dL_law_3279
  · refine g_aload_n (pc := 3283) (x := v1) 1 rfl rfl dL_law_3283 ?_
    refine g_aload_n (pc := 3284) (x := v9) 3 rfl rfl dL_law_3284 ?_
    refine g_bi (pc := 3285) (y := yX0_writeView) (ws := wsW_ yX0_writeView cX0_writeView 3 (some .int) [(0, 8, 11, 21)]) (fr := 9) (lo := 196) (as := [gr v1, gr v9]) (st := []) (g_no) rfl (fun _ _ e => tX0_writeView hs e) (fun K _ _ hM R e1 e2 => g_runSX (M := mL_law) (pc := 3285) (y := yX0_writeView) (bytes := cX0_writeView) (maxL := 3) (ret := (some .int)) (hh := [(0, 8, 11, 21)]) (fr := 9) (lo := 196) (as := [gr v1, gr v9]) (st := []) gy_X0_writeView (gbl rfl) (gbl rfl) (gbl rfl) q3730 q3731 dL_law_3285 K hM R e1 e2) fun v748 h749 => ?_
    refine g_istore (pc := 3288) (lv' := [(6, gi v748), (0, gr a0), (1, gr v1), (2, gr v5), (3, gr v9), (4, gr v11), (5, gi x13)]) [0, 1, 2, 3, 4, 5, 6] rfl (gblt rfl) dL_law_3288 ?_
    refine g_aload_n (pc := 3290) (x := v5) 3 rfl rfl dL_law_3290 ?_
    refine g_bVi (pc := 3291) (y := yX2_writeView) (ws := ws_ yX2_writeView cX2_writeView 2 (some .int)) (fr := 8) (lo := 168) (as := []) (st := []) (g_no) rfl (fun _ _ _ e => tX2_writeView hs e) (fun K _ _ _ hq hM R e1 e2 => g_runV (M := mL_law) (pc := 3291) (y := yX2_writeView) (bytes := cX2_writeView) (maxL := 2) (ret := (some .int)) (fr := 8) (lo := 168) (as := []) (st := []) hq (C := "FlareSlopesModel") rfl gy_X2_writeView (gbl rfl) (gbl rfl) (gbl rfl) q4543 q4544 q4545 dL_law_3291 K hM R e1 e2) fun v750 h751 => ?_
    refine g_istore (pc := 3294) (lv' := [(7, gi v750), (6, gi v748), (0, gr a0), (1, gr v1), (2, gr v5), (3, gr v9), (4, gr v11), (5, gi x13)]) [0, 1, 2, 3, 4, 5, 6, 7] rfl (gblt rfl) dL_law_3294 ?_
    refine g_aload_n (pc := 3296) (x := v5) 4 rfl rfl dL_law_3296 ?_
    refine g_bVi (pc := 3297) (y := yX2_thrown) (ws := ws_ yX2_thrown cX2_thrown 1 (some .int)) (fr := 0) (lo := 0) (as := []) (st := []) (g_no) rfl (fun _ _ _ e => tX2_thrown hs e) (fun K _ _ _ hq hM R e1 e2 => g_runV (M := mL_law) (pc := 3297) (y := yX2_thrown) (bytes := cX2_thrown) (maxL := 1) (ret := (some .int)) (fr := 0) (lo := 0) (as := []) (st := []) hq (C := "FlareSlopesModel") rfl gy_X2_thrown (gbl rfl) (gbl rfl) (gbl rfl) q4009 q4010 q4011 dL_law_3297 K hM R e1 e2) fun v752 h753 => ?_
    refine g_iload (pc := 3300) (x := v748) 1 rfl dL_law_3300 ?_
    refine g_icmp_eq (pc := 3302) (tgt := 3307) rfl dL_law_3302 ?_ ?_
    rotate_left
    · refine g_iconst (pc := 3305) (v := (0 : Int32)) ic_0 dL_law_3305 ?_
      exact g_zreturn (pc := 3306) rfl dL_law_3306
    refine g_iload (pc := 3307) (x := v748) 1 rfl dL_law_3307 ?_
    refine g_join 3324 (fun (x754 : Unit) => [(0, gr a0), (1, gr v1), (2, gr v5), (3, gr v9), (4, gr v11), (5, gi x13)]) (fun (x754 : Unit) => []) (fun x754 h755 => ?_) (fun j756 Hj756 => ?_)
    · refine g_goto (pc := 3324) (tgt := 4259) rfl dL_law_3324 ?_
      exact Hj20 () h755
    refine g_if_ne (pc := 3309) (tgt := 3324) rfl dL_law_3309 ?_ ?_
    rotate_left
    · exact g_sub [2, 3, 4, 5, 6, 7] rfl (Hj756 () h753)
    refine g_aload_n (pc := 3312) (x := v9) 5 rfl rfl dL_law_3312 ?_
    refine g_iconst (pc := 3313) (v := (0 : Int32)) ic_0 dL_law_3313 ?_
    refine g_laload (pc := 3314) rfl dL_law_3314 fun v757 => ?_
    refine g_iload (pc := 3315) (x := v750) 0 rfl dL_law_3315 ?_
    refine g_i2l (pc := 3317) dL_law_3317 ?_
    refine g_lcmp (pc := 3318) dL_law_3318 ?_
    refine g_if_eq (pc := 3319) (tgt := 3324) rfl dL_law_3319 ?_ ?_
    · exact g_sub [2, 3, 4, 5, 6, 7] rfl (Hj756 () h753)
    refine g_iconst (pc := 3322) (v := (0 : Int32)) ic_0 dL_law_3322 ?_
    exact g_zreturn (pc := 3323) rfl dL_law_3323
  · refine g_aload_n (pc := 3327) (x := v1) 1 rfl rfl dL_law_3327 ?_
    refine g_aload_n (pc := 3328) (x := a0) 0 rfl rfl dL_law_3328 ?_
    refine g_iload (pc := 3329) (x := x13) 5 rfl dL_law_3329 ?_
    refine g_iconst (pc := 3331) (v := (1 : Int32)) ic_1 dL_law_3331 ?_
    refine g_iadd (pc := 3332) dL_law_3332 ?_
    refine g_iaload (pc := 3333) rfl dL_law_3333 fun v760 => ?_
    refine g_aload_n (pc := 3334) (x := v9) 3 rfl rfl dL_law_3334 ?_
    refine g_bi (pc := 3335) (y := yX0_textByte) (ws := wsW_ yX0_textByte cX0_textByte 4 (some .int) [(0, 9, 12, 13)]) (fr := 8) (lo := 123) (as := [gr v1, gi v760, gr v9]) (st := []) (g_no) rfl (fun _ _ e => tX0_textByte hs e) (fun K _ _ hM R e1 e2 => g_runSX (M := mL_law) (pc := 3335) (y := yX0_textByte) (bytes := cX0_textByte) (maxL := 4) (ret := (some .int)) (hh := [(0, 9, 12, 13)]) (fr := 8) (lo := 123) (as := [gr v1, gi v760, gr v9]) (st := []) gy_X0_textByte (gbl rfl) (gbl rfl) (gbl rfl) q3737 q3738 dL_law_3335 K hM R e1 e2) fun v761 h762 => ?_
    refine g_istore (pc := 3338) (lv' := [(6, gi v761), (0, gr a0), (1, gr v1), (2, gr v5), (3, gr v9), (4, gr v11), (5, gi x13)]) [0, 1, 2, 3, 4, 5, 6] rfl (gblt rfl) dL_law_3338 ?_
    refine g_aload_n (pc := 3340) (x := v5) 3 rfl rfl dL_law_3340 ?_
    refine g_aload_n (pc := 3341) (x := a0) 1 rfl rfl dL_law_3341 ?_
    refine g_iload (pc := 3342) (x := x13) 6 rfl dL_law_3342 ?_
    refine g_iconst (pc := 3344) (v := (1 : Int32)) ic_1 dL_law_3344 ?_
    refine g_iadd (pc := 3345) dL_law_3345 ?_
    refine g_iaload (pc := 3346) rfl dL_law_3346 fun v763 => ?_
    refine g_bVi (pc := 3347) (y := yX2_textByte) (ws := ws_ yX2_textByte cX2_textByte 2 (some .int)) (fr := 1) (lo := 23) (as := [gi v763]) (st := []) (g_no) rfl (fun _ _ _ e => tX2_textByte hs e) (fun K _ _ _ hq hM R e1 e2 => g_runV (M := mL_law) (pc := 3347) (y := yX2_textByte) (bytes := cX2_textByte) (maxL := 2) (ret := (some .int)) (fr := 1) (lo := 23) (as := [gi v763]) (st := []) hq (C := "FlareSlopesModel") rfl gy_X2_textByte (gbl rfl) (gbl rfl) (gbl rfl) q4547 q4548 q4549 dL_law_3347 K hM R e1 e2) fun v764 h765 => ?_
    refine g_istore (pc := 3350) (lv' := [(7, gi v764), (6, gi v761), (0, gr a0), (1, gr v1), (2, gr v5), (3, gr v9), (4, gr v11), (5, gi x13)]) [0, 1, 2, 3, 4, 5, 6, 7] rfl (gblt rfl) dL_law_3350 ?_
    refine g_aload_n (pc := 3352) (x := v5) 4 rfl rfl dL_law_3352 ?_
    refine g_bVi (pc := 3353) (y := yX2_thrown) (ws := ws_ yX2_thrown cX2_thrown 1 (some .int)) (fr := 0) (lo := 0) (as := []) (st := []) (g_no) rfl (fun _ _ _ e => tX2_thrown hs e) (fun K _ _ _ hq hM R e1 e2 => g_runV (M := mL_law) (pc := 3353) (y := yX2_thrown) (bytes := cX2_thrown) (maxL := 1) (ret := (some .int)) (fr := 0) (lo := 0) (as := []) (st := []) hq (C := "FlareSlopesModel") rfl gy_X2_thrown (gbl rfl) (gbl rfl) (gbl rfl) q4009 q4010 q4011 dL_law_3353 K hM R e1 e2) fun v766 h767 => ?_
    refine g_iload (pc := 3356) (x := v761) 1 rfl dL_law_3356 ?_
    refine g_icmp_eq (pc := 3358) (tgt := 3363) rfl dL_law_3358 ?_ ?_
    rotate_left
    · refine g_iconst (pc := 3361) (v := (0 : Int32)) ic_0 dL_law_3361 ?_
      exact g_zreturn (pc := 3362) rfl dL_law_3362
    refine g_iload (pc := 3363) (x := v761) 1 rfl dL_law_3363 ?_
    refine g_join 3380 (fun (x768 : Unit) => [(0, gr a0), (1, gr v1), (2, gr v5), (3, gr v9), (4, gr v11), (5, gi x13)]) (fun (x768 : Unit) => []) (fun x768 h769 => ?_) (fun j770 Hj770 => ?_)
    · refine g_goto (pc := 3380) (tgt := 4259) rfl dL_law_3380 ?_
      exact Hj20 () h769
    refine g_if_ne (pc := 3365) (tgt := 3380) rfl dL_law_3365 ?_ ?_
    rotate_left
    · exact g_sub [2, 3, 4, 5, 6, 7] rfl (Hj770 () h767)
    refine g_aload_n (pc := 3368) (x := v9) 5 rfl rfl dL_law_3368 ?_
    refine g_iconst (pc := 3369) (v := (0 : Int32)) ic_0 dL_law_3369 ?_
    refine g_laload (pc := 3370) rfl dL_law_3370 fun v771 => ?_
    refine g_iload (pc := 3371) (x := v764) 0 rfl dL_law_3371 ?_
    refine g_i2l (pc := 3373) dL_law_3373 ?_
    refine g_lcmp (pc := 3374) dL_law_3374 ?_
    refine g_if_eq (pc := 3375) (tgt := 3380) rfl dL_law_3375 ?_ ?_
    · exact g_sub [2, 3, 4, 5, 6, 7] rfl (Hj770 () h767)
    refine g_iconst (pc := 3378) (v := (0 : Int32)) ic_0 dL_law_3378 ?_
    exact g_zreturn (pc := 3379) rfl dL_law_3379
  · refine g_aload_n (pc := 3383) (x := v1) 1 rfl rfl dL_law_3383 ?_
    refine g_aload_n (pc := 3384) (x := a0) 0 rfl rfl dL_law_3384 ?_
    refine g_iload (pc := 3385) (x := x13) 5 rfl dL_law_3385 ?_
    refine g_iconst (pc := 3387) (v := (1 : Int32)) ic_1 dL_law_3387 ?_
    refine g_iadd (pc := 3388) dL_law_3388 ?_
    refine g_iaload (pc := 3389) rfl dL_law_3389 fun v774 => ?_
    refine g_aload_n (pc := 3390) (x := v9) 3 rfl rfl dL_law_3390 ?_
    refine g_bi (pc := 3391) (y := yX0_tick) (ws := wsW_ yX0_tick cX0_tick 4 (some .int) [(0, 9, 12, 21), (0, 9, 15, 15)]) (fr := 10) (lo := 229) (as := [gr v1, gi v774, gr v9]) (st := []) (g_no) rfl (fun _ _ e => tX0_tick hs e) (fun K _ _ hM R e1 e2 => g_runSX (M := mL_law) (pc := 3391) (y := yX0_tick) (bytes := cX0_tick) (maxL := 4) (ret := (some .int)) (hh := [(0, 9, 12, 21), (0, 9, 15, 15)]) (fr := 10) (lo := 229) (as := [gr v1, gi v774, gr v9]) (st := []) gy_X0_tick (gbl rfl) (gbl rfl) (gbl rfl) q3745 q3746 dL_law_3391 K hM R e1 e2) fun v775 h776 => ?_
    refine g_istore (pc := 3394) (lv' := [(6, gi v775), (0, gr a0), (1, gr v1), (2, gr v5), (3, gr v9), (4, gr v11), (5, gi x13)]) [0, 1, 2, 3, 4, 5, 6] rfl (gblt rfl) dL_law_3394 ?_
    refine g_aload_n (pc := 3396) (x := v5) 3 rfl rfl dL_law_3396 ?_
    refine g_aload_n (pc := 3397) (x := a0) 1 rfl rfl dL_law_3397 ?_
    refine g_iload (pc := 3398) (x := x13) 6 rfl dL_law_3398 ?_
    refine g_iconst (pc := 3400) (v := (1 : Int32)) ic_1 dL_law_3400 ?_
    refine g_iadd (pc := 3401) dL_law_3401 ?_
    refine g_iaload (pc := 3402) rfl dL_law_3402 fun v777 => ?_
    refine g_bVi (pc := 3403) (y := yX2_tick) (ws := ws_ yX2_tick cX2_tick 3 (some .int)) (fr := 8) (lo := 182) (as := [gi v777]) (st := []) (g_no) rfl (fun _ _ _ e => tX2_tick hs e) (fun K _ _ _ hq hM R e1 e2 => g_runV (M := mL_law) (pc := 3403) (y := yX2_tick) (bytes := cX2_tick) (maxL := 3) (ret := (some .int)) (fr := 8) (lo := 182) (as := [gi v777]) (st := []) hq (C := "FlareSlopesModel") rfl gy_X2_tick (gbl rfl) (gbl rfl) (gbl rfl) q4551 q4552 q4553 dL_law_3403 K hM R e1 e2) fun v778 h779 => ?_
    refine g_istore (pc := 3406) (lv' := [(7, gi v778), (6, gi v775), (0, gr a0), (1, gr v1), (2, gr v5), (3, gr v9), (4, gr v11), (5, gi x13)]) [0, 1, 2, 3, 4, 5, 6, 7] rfl (gblt rfl) dL_law_3406 ?_
    refine g_aload_n (pc := 3408) (x := v5) 4 rfl rfl dL_law_3408 ?_
    refine g_bVi (pc := 3409) (y := yX2_thrown) (ws := ws_ yX2_thrown cX2_thrown 1 (some .int)) (fr := 0) (lo := 0) (as := []) (st := []) (g_no) rfl (fun _ _ _ e => tX2_thrown hs e) (fun K _ _ _ hq hM R e1 e2 => g_runV (M := mL_law) (pc := 3409) (y := yX2_thrown) (bytes := cX2_thrown) (maxL := 1) (ret := (some .int)) (fr := 0) (lo := 0) (as := []) (st := []) hq (C := "FlareSlopesModel") rfl gy_X2_thrown (gbl rfl) (gbl rfl) (gbl rfl) q4009 q4010 q4011 dL_law_3409 K hM R e1 e2) fun v780 h781 => ?_
    refine g_iload (pc := 3412) (x := v775) 1 rfl dL_law_3412 ?_
    refine g_icmp_eq (pc := 3414) (tgt := 3419) rfl dL_law_3414 ?_ ?_
    rotate_left
    · refine g_iconst (pc := 3417) (v := (0 : Int32)) ic_0 dL_law_3417 ?_
      exact g_zreturn (pc := 3418) rfl dL_law_3418
    refine g_iload (pc := 3419) (x := v775) 1 rfl dL_law_3419 ?_
    refine g_join 3436 (fun (x782 : Unit) => [(0, gr a0), (1, gr v1), (2, gr v5), (3, gr v9), (4, gr v11), (5, gi x13)]) (fun (x782 : Unit) => []) (fun x782 h783 => ?_) (fun j784 Hj784 => ?_)
    · refine g_goto (pc := 3436) (tgt := 4259) rfl dL_law_3436 ?_
      exact Hj20 () h783
    refine g_if_ne (pc := 3421) (tgt := 3436) rfl dL_law_3421 ?_ ?_
    rotate_left
    · exact g_sub [2, 3, 4, 5, 6, 7] rfl (Hj784 () h781)
    refine g_aload_n (pc := 3424) (x := v9) 5 rfl rfl dL_law_3424 ?_
    refine g_iconst (pc := 3425) (v := (0 : Int32)) ic_0 dL_law_3425 ?_
    refine g_laload (pc := 3426) rfl dL_law_3426 fun v785 => ?_
    refine g_iload (pc := 3427) (x := v778) 0 rfl dL_law_3427 ?_
    refine g_i2l (pc := 3429) dL_law_3429 ?_
    refine g_lcmp (pc := 3430) dL_law_3430 ?_
    refine g_if_eq (pc := 3431) (tgt := 3436) rfl dL_law_3431 ?_ ?_
    · exact g_sub [2, 3, 4, 5, 6, 7] rfl (Hj784 () h781)
    refine g_iconst (pc := 3434) (v := (0 : Int32)) ic_0 dL_law_3434 ?_
    exact g_zreturn (pc := 3435) rfl dL_law_3435
  · refine g_aload_n (pc := 3439) (x := v1) 1 rfl rfl dL_law_3439 ?_
    refine g_aload_n (pc := 3440) (x := a0) 0 rfl rfl dL_law_3440 ?_
    refine g_iload (pc := 3441) (x := x13) 5 rfl dL_law_3441 ?_
    refine g_iconst (pc := 3443) (v := (1 : Int32)) ic_1 dL_law_3443 ?_
    refine g_iadd (pc := 3444) dL_law_3444 ?_
    refine g_iaload (pc := 3445) rfl dL_law_3445 fun v788 => ?_
    refine g_aload_n (pc := 3446) (x := a0) 0 rfl rfl dL_law_3446 ?_
    refine g_iload (pc := 3447) (x := x13) 5 rfl dL_law_3447 ?_
    refine g_iconst (pc := 3449) (v := (2 : Int32)) ic_2 dL_law_3449 ?_
    refine g_iadd (pc := 3450) dL_law_3450 ?_
    refine g_iaload (pc := 3451) rfl dL_law_3451 fun v789 => ?_
    refine g_aload_n (pc := 3452) (x := a0) 0 rfl rfl dL_law_3452 ?_
    refine g_iload (pc := 3453) (x := x13) 5 rfl dL_law_3453 ?_
    refine g_iconst (pc := 3455) (v := (3 : Int32)) ic_3 dL_law_3455 ?_
    refine g_iadd (pc := 3456) dL_law_3456 ?_
    refine g_iaload (pc := 3457) rfl dL_law_3457 fun v790 => ?_
    refine g_join 3466 (fun (x791 : Int32) => [(0, gr a0), (1, gr v1), (2, gr v5), (3, gr v9), (4, gr v11), (5, gi x13)]) (fun (x791 : Int32) => [gi x791, gi v789, gi v788, gr v1]) (fun x791 h792 => ?_) (fun j793 Hj793 => ?_)
    · refine g_aload_n (pc := 3466) (x := v9) 3 rfl rfl dL_law_3466 ?_
      refine g_bi (pc := 3467) (y := yX0_flare) (ws := wsW_ yX0_flare cX0_flare 6 (some .int) [(0, 12, 15, 21), (0, 12, 19, 13), (0, 12, 23, 15)]) (fr := 11) (lo := 230) (as := [gr v1, gi v788, gi v789, gi x791, gr v9]) (st := []) (g_no) rfl (fun _ _ e => tX0_flare hs e) (fun K _ _ hM R e1 e2 => g_runSX (M := mL_law) (pc := 3467) (y := yX0_flare) (bytes := cX0_flare) (maxL := 6) (ret := (some .int)) (hh := [(0, 12, 15, 21), (0, 12, 19, 13), (0, 12, 23, 15)]) (fr := 11) (lo := 230) (as := [gr v1, gi v788, gi v789, gi x791, gr v9]) (st := []) gy_X0_flare (gbl rfl) (gbl rfl) (gbl rfl) q3768 q3769 dL_law_3467 K hM R e1 e2) fun v794 h795 => ?_
      refine g_istore (pc := 3470) (lv' := [(6, gi v794), (0, gr a0), (1, gr v1), (2, gr v5), (3, gr v9), (4, gr v11), (5, gi x13)]) [0, 1, 2, 3, 4, 5, 6] rfl (gblt rfl) dL_law_3470 ?_
      refine g_aload_n (pc := 3472) (x := v5) 3 rfl rfl dL_law_3472 ?_
      refine g_aload_n (pc := 3473) (x := a0) 1 rfl rfl dL_law_3473 ?_
      refine g_iload (pc := 3474) (x := x13) 6 rfl dL_law_3474 ?_
      refine g_iconst (pc := 3476) (v := (1 : Int32)) ic_1 dL_law_3476 ?_
      refine g_iadd (pc := 3477) dL_law_3477 ?_
      refine g_iaload (pc := 3478) rfl dL_law_3478 fun v796 => ?_
      refine g_aload_n (pc := 3479) (x := a0) 1 rfl rfl dL_law_3479 ?_
      refine g_iload (pc := 3480) (x := x13) 6 rfl dL_law_3480 ?_
      refine g_iconst (pc := 3482) (v := (2 : Int32)) ic_2 dL_law_3482 ?_
      refine g_iadd (pc := 3483) dL_law_3483 ?_
      refine g_iaload (pc := 3484) rfl dL_law_3484 fun v797 => ?_
      refine g_aload_n (pc := 3485) (x := a0) 1 rfl rfl dL_law_3485 ?_
      refine g_iload (pc := 3486) (x := x13) 6 rfl dL_law_3486 ?_
      refine g_iconst (pc := 3488) (v := (3 : Int32)) ic_3 dL_law_3488 ?_
      refine g_iadd (pc := 3489) dL_law_3489 ?_
      refine g_iaload (pc := 3490) rfl dL_law_3490 fun v798 => ?_
      refine g_join 3499 (fun (x799 : Int32) => [(0, gr a0), (1, gr v1), (2, gr v5), (3, gr v9), (4, gr v11), (5, gi x13), (6, gi v794)]) (fun (x799 : Int32) => [gi x799, gi v797, gi v796, gr v5]) (fun x799 h800 => ?_) (fun j801 Hj801 => ?_)
      · refine g_bVi (pc := 3499) (y := yX2_flare) (ws := ws_ yX2_flare cX2_flare 5 (some .int)) (fr := 6) (lo := 141) (as := [gi v796, gi v797, gi x799]) (st := []) (g_no) rfl (fun _ _ _ e => tX2_flare hs e) (fun K _ _ _ hq hM R e1 e2 => g_runV (M := mL_law) (pc := 3499) (y := yX2_flare) (bytes := cX2_flare) (maxL := 5) (ret := (some .int)) (fr := 6) (lo := 141) (as := [gi v796, gi v797, gi x799]) (st := []) hq (C := "FlareSlopesModel") rfl gy_X2_flare (gbl rfl) (gbl rfl) (gbl rfl) q4559 q4560 q4561 dL_law_3499 K hM R e1 e2) fun v802 h803 => ?_
        refine g_istore (pc := 3502) (lv' := [(7, gi v802), (0, gr a0), (1, gr v1), (2, gr v5), (3, gr v9), (4, gr v11), (5, gi x13), (6, gi v794)]) [0, 1, 2, 3, 4, 5, 6, 7] rfl (gblt rfl) dL_law_3502 ?_
        refine g_aload_n (pc := 3504) (x := v5) 3 rfl rfl dL_law_3504 ?_
        refine g_bVi (pc := 3505) (y := yX2_thrown) (ws := ws_ yX2_thrown cX2_thrown 1 (some .int)) (fr := 0) (lo := 0) (as := []) (st := []) (g_no) rfl (fun _ _ _ e => tX2_thrown hs e) (fun K _ _ _ hq hM R e1 e2 => g_runV (M := mL_law) (pc := 3505) (y := yX2_thrown) (bytes := cX2_thrown) (maxL := 1) (ret := (some .int)) (fr := 0) (lo := 0) (as := []) (st := []) hq (C := "FlareSlopesModel") rfl gy_X2_thrown (gbl rfl) (gbl rfl) (gbl rfl) q4009 q4010 q4011 dL_law_3505 K hM R e1 e2) fun v804 h805 => ?_
        refine g_iload (pc := 3508) (x := v794) 7 rfl dL_law_3508 ?_
        refine g_icmp_eq (pc := 3510) (tgt := 3515) rfl dL_law_3510 ?_ ?_
        rotate_left
        · refine g_iconst (pc := 3513) (v := (0 : Int32)) ic_0 dL_law_3513 ?_
          exact g_zreturn (pc := 3514) rfl dL_law_3514
        refine g_iload (pc := 3515) (x := v794) 7 rfl dL_law_3515 ?_
        refine g_join 3532 (fun (x806 : Unit) => [(0, gr a0), (1, gr v1), (2, gr v5), (3, gr v9), (4, gr v11), (5, gi x13)]) (fun (x806 : Unit) => []) (fun x806 h807 => ?_) (fun j808 Hj808 => ?_)
        · refine g_goto (pc := 3532) (tgt := 4259) rfl dL_law_3532 ?_
          exact Hj20 () h807
        refine g_if_ne (pc := 3517) (tgt := 3532) rfl dL_law_3517 ?_ ?_
        rotate_left
        · exact g_sub [1, 2, 3, 4, 5, 6] rfl (Hj808 () h805)
        refine g_aload_n (pc := 3520) (x := v9) 4 rfl rfl dL_law_3520 ?_
        refine g_iconst (pc := 3521) (v := (0 : Int32)) ic_0 dL_law_3521 ?_
        refine g_laload (pc := 3522) rfl dL_law_3522 fun v809 => ?_
        refine g_iload (pc := 3523) (x := v802) 0 rfl dL_law_3523 ?_
        refine g_i2l (pc := 3525) dL_law_3525 ?_
        refine g_lcmp (pc := 3526) dL_law_3526 ?_
        refine g_if_eq (pc := 3527) (tgt := 3532) rfl dL_law_3527 ?_ ?_
        · exact g_sub [1, 2, 3, 4, 5, 6] rfl (Hj808 () h805)
        refine g_iconst (pc := 3530) (v := (0 : Int32)) ic_0 dL_law_3530 ?_
        exact g_zreturn (pc := 3531) rfl dL_law_3531
      refine g_if_eq (pc := 3491) (tgt := 3498) rfl dL_law_3491 ?_ ?_
      · refine g_iconst (pc := 3498) (v := (0 : Int32)) ic_0 dL_law_3498 ?_
        exact g_sub [1, 2, 3, 4, 5, 6, 0] rfl (Hj801 (0 : Int32) h795)
      refine g_iconst (pc := 3494) (v := (1 : Int32)) ic_1 dL_law_3494 ?_
      refine g_goto (pc := 3495) (tgt := 3499) rfl dL_law_3495 ?_
      exact g_sub [1, 2, 3, 4, 5, 6, 0] rfl (Hj801 (1 : Int32) h795)
    refine g_if_eq (pc := 3458) (tgt := 3465) rfl dL_law_3458 ?_ ?_
    · refine g_iconst (pc := 3465) (v := (0 : Int32)) ic_0 dL_law_3465 ?_
      exact Hj793 (0 : Int32) h14
    refine g_iconst (pc := 3461) (v := (1 : Int32)) ic_1 dL_law_3461 ?_
    refine g_goto (pc := 3462) (tgt := 3466) rfl dL_law_3462 ?_
    exact Hj793 (1 : Int32) h14
  · refine g_aload_n (pc := 3535) (x := v1) 1 rfl rfl dL_law_3535 ?_
    refine g_aload_n (pc := 3536) (x := a0) 0 rfl rfl dL_law_3536 ?_
    refine g_iload (pc := 3537) (x := x13) 5 rfl dL_law_3537 ?_
    refine g_iconst (pc := 3539) (v := (1 : Int32)) ic_1 dL_law_3539 ?_
    refine g_iadd (pc := 3540) dL_law_3540 ?_
    refine g_iaload (pc := 3541) rfl dL_law_3541 fun v812 => ?_
    refine g_aload_n (pc := 3542) (x := a0) 0 rfl rfl dL_law_3542 ?_
    refine g_iload (pc := 3543) (x := x13) 5 rfl dL_law_3543 ?_
    refine g_iconst (pc := 3545) (v := (2 : Int32)) ic_2 dL_law_3545 ?_
    refine g_iadd (pc := 3546) dL_law_3546 ?_
    refine g_iaload (pc := 3547) rfl dL_law_3547 fun v813 => ?_
    refine g_aload_n (pc := 3548) (x := v9) 3 rfl rfl dL_law_3548 ?_
    refine g_bi (pc := 3549) (y := yX0_inspect) (ws := wsW_ yX0_inspect cX0_inspect 5 (some .int) [(0, 10, 13, 21), (0, 10, 17, 13), (0, 10, 21, 15)]) (fr := 11) (lo := 228) (as := [gr v1, gi v812, gi v813, gr v9]) (st := []) (g_no) rfl (fun _ _ e => tX0_inspect hs e) (fun K _ _ hM R e1 e2 => g_runSX (M := mL_law) (pc := 3549) (y := yX0_inspect) (bytes := cX0_inspect) (maxL := 5) (ret := (some .int)) (hh := [(0, 10, 13, 21), (0, 10, 17, 13), (0, 10, 21, 15)]) (fr := 11) (lo := 228) (as := [gr v1, gi v812, gi v813, gr v9]) (st := []) gy_X0_inspect (gbl rfl) (gbl rfl) (gbl rfl) q3775 q3776 dL_law_3549 K hM R e1 e2) fun v814 h815 => ?_
    refine g_istore (pc := 3552) (lv' := [(6, gi v814), (0, gr a0), (1, gr v1), (2, gr v5), (3, gr v9), (4, gr v11), (5, gi x13)]) [0, 1, 2, 3, 4, 5, 6] rfl (gblt rfl) dL_law_3552 ?_
    refine g_aload_n (pc := 3554) (x := v5) 3 rfl rfl dL_law_3554 ?_
    refine g_aload_n (pc := 3555) (x := a0) 1 rfl rfl dL_law_3555 ?_
    refine g_iload (pc := 3556) (x := x13) 6 rfl dL_law_3556 ?_
    refine g_iconst (pc := 3558) (v := (1 : Int32)) ic_1 dL_law_3558 ?_
    refine g_iadd (pc := 3559) dL_law_3559 ?_
    refine g_iaload (pc := 3560) rfl dL_law_3560 fun v816 => ?_
    refine g_aload_n (pc := 3561) (x := a0) 1 rfl rfl dL_law_3561 ?_
    refine g_iload (pc := 3562) (x := x13) 6 rfl dL_law_3562 ?_
    refine g_iconst (pc := 3564) (v := (2 : Int32)) ic_2 dL_law_3564 ?_
    refine g_iadd (pc := 3565) dL_law_3565 ?_
    refine g_iaload (pc := 3566) rfl dL_law_3566 fun v817 => ?_
    refine g_bVi (pc := 3567) (y := yX2_inspect) (ws := ws_ yX2_inspect cX2_inspect 9 (some .int)) (fr := 3) (lo := 71) (as := [gi v816, gi v817]) (st := []) (g_no) rfl (fun _ _ _ e => tX2_inspect hs e) (fun K _ _ _ hq hM R e1 e2 => g_runV (M := mL_law) (pc := 3567) (y := yX2_inspect) (bytes := cX2_inspect) (maxL := 9) (ret := (some .int)) (fr := 3) (lo := 71) (as := [gi v816, gi v817]) (st := []) hq (C := "FlareSlopesModel") rfl gy_X2_inspect (gbl rfl) (gbl rfl) (gbl rfl) q4563 q4564 q4565 dL_law_3567 K hM R e1 e2) fun v818 h819 => ?_
    refine g_istore (pc := 3570) (lv' := [(7, gi v818), (6, gi v814), (0, gr a0), (1, gr v1), (2, gr v5), (3, gr v9), (4, gr v11), (5, gi x13)]) [0, 1, 2, 3, 4, 5, 6, 7] rfl (gblt rfl) dL_law_3570 ?_
    refine g_aload_n (pc := 3572) (x := v5) 4 rfl rfl dL_law_3572 ?_
    refine g_bVi (pc := 3573) (y := yX2_thrown) (ws := ws_ yX2_thrown cX2_thrown 1 (some .int)) (fr := 0) (lo := 0) (as := []) (st := []) (g_no) rfl (fun _ _ _ e => tX2_thrown hs e) (fun K _ _ _ hq hM R e1 e2 => g_runV (M := mL_law) (pc := 3573) (y := yX2_thrown) (bytes := cX2_thrown) (maxL := 1) (ret := (some .int)) (fr := 0) (lo := 0) (as := []) (st := []) hq (C := "FlareSlopesModel") rfl gy_X2_thrown (gbl rfl) (gbl rfl) (gbl rfl) q4009 q4010 q4011 dL_law_3573 K hM R e1 e2) fun v820 h821 => ?_
    refine g_iload (pc := 3576) (x := v814) 1 rfl dL_law_3576 ?_
    refine g_icmp_eq (pc := 3578) (tgt := 3583) rfl dL_law_3578 ?_ ?_
    rotate_left
    · refine g_iconst (pc := 3581) (v := (0 : Int32)) ic_0 dL_law_3581 ?_
      exact g_zreturn (pc := 3582) rfl dL_law_3582
    refine g_iload (pc := 3583) (x := v814) 1 rfl dL_law_3583 ?_
    refine g_join 3600 (fun (x822 : Unit) => [(0, gr a0), (1, gr v1), (2, gr v5), (3, gr v9), (4, gr v11), (5, gi x13)]) (fun (x822 : Unit) => []) (fun x822 h823 => ?_) (fun j824 Hj824 => ?_)
    · refine g_goto (pc := 3600) (tgt := 4259) rfl dL_law_3600 ?_
      exact Hj20 () h823
    refine g_if_ne (pc := 3585) (tgt := 3600) rfl dL_law_3585 ?_ ?_
    rotate_left
    · exact g_sub [2, 3, 4, 5, 6, 7] rfl (Hj824 () h821)
    refine g_aload_n (pc := 3588) (x := v9) 5 rfl rfl dL_law_3588 ?_
    refine g_iconst (pc := 3589) (v := (0 : Int32)) ic_0 dL_law_3589 ?_
    refine g_laload (pc := 3590) rfl dL_law_3590 fun v825 => ?_
    refine g_iload (pc := 3591) (x := v818) 0 rfl dL_law_3591 ?_
    refine g_i2l (pc := 3593) dL_law_3593 ?_
    refine g_lcmp (pc := 3594) dL_law_3594 ?_
    refine g_if_eq (pc := 3595) (tgt := 3600) rfl dL_law_3595 ?_ ?_
    · exact g_sub [2, 3, 4, 5, 6, 7] rfl (Hj824 () h821)
    refine g_iconst (pc := 3598) (v := (0 : Int32)) ic_0 dL_law_3598 ?_
    exact g_zreturn (pc := 3599) rfl dL_law_3599
  · refine g_aload_n (pc := 3603) (x := v1) 1 rfl rfl dL_law_3603 ?_
    refine g_aload_n (pc := 3604) (x := a0) 0 rfl rfl dL_law_3604 ?_
    refine g_iload (pc := 3605) (x := x13) 5 rfl dL_law_3605 ?_
    refine g_iconst (pc := 3607) (v := (1 : Int32)) ic_1 dL_law_3607 ?_
    refine g_iadd (pc := 3608) dL_law_3608 ?_
    refine g_iaload (pc := 3609) rfl dL_law_3609 fun v828 => ?_
    refine g_aload_n (pc := 3610) (x := a0) 0 rfl rfl dL_law_3610 ?_
    refine g_iload (pc := 3611) (x := x13) 5 rfl dL_law_3611 ?_
    refine g_iconst (pc := 3613) (v := (2 : Int32)) ic_2 dL_law_3613 ?_
    refine g_iadd (pc := 3614) dL_law_3614 ?_
    refine g_iaload (pc := 3615) rfl dL_law_3615 fun v829 => ?_
    refine g_join 3624 (fun (x830 : Int32) => [(0, gr a0), (1, gr v1), (2, gr v5), (3, gr v9), (4, gr v11), (5, gi x13)]) (fun (x830 : Int32) => [gi x830, gi v828, gr v1]) (fun x830 h831 => ?_) (fun j832 Hj832 => ?_)
    · refine g_aload_n (pc := 3624) (x := v9) 3 rfl rfl dL_law_3624 ?_
      refine g_bi (pc := 3625) (y := yX0_danger) (ws := wsW_ yX0_danger cX0_danger 5 (some .int) [(0, 17, 20, 21), (0, 17, 24, 13)]) (fr := 10) (lo := 230) (as := [gr v1, gi v828, gi x830, gr v9]) (st := []) (g_no) rfl (fun _ _ e => tX0_danger hs e) (fun K _ _ hM R e1 e2 => g_runSX (M := mL_law) (pc := 3625) (y := yX0_danger) (bytes := cX0_danger) (maxL := 5) (ret := (some .int)) (hh := [(0, 17, 20, 21), (0, 17, 24, 13)]) (fr := 10) (lo := 230) (as := [gr v1, gi v828, gi x830, gr v9]) (st := []) gy_X0_danger (gbl rfl) (gbl rfl) (gbl rfl) q3796 q3797 dL_law_3625 K hM R e1 e2) fun v833 h834 => ?_
      refine g_istore (pc := 3628) (lv' := [(6, gi v833), (0, gr a0), (1, gr v1), (2, gr v5), (3, gr v9), (4, gr v11), (5, gi x13)]) [0, 1, 2, 3, 4, 5, 6] rfl (gblt rfl) dL_law_3628 ?_
      refine g_aload_n (pc := 3630) (x := v5) 3 rfl rfl dL_law_3630 ?_
      refine g_aload_n (pc := 3631) (x := a0) 1 rfl rfl dL_law_3631 ?_
      refine g_iload (pc := 3632) (x := x13) 6 rfl dL_law_3632 ?_
      refine g_iconst (pc := 3634) (v := (1 : Int32)) ic_1 dL_law_3634 ?_
      refine g_iadd (pc := 3635) dL_law_3635 ?_
      refine g_iaload (pc := 3636) rfl dL_law_3636 fun v835 => ?_
      refine g_aload_n (pc := 3637) (x := a0) 1 rfl rfl dL_law_3637 ?_
      refine g_iload (pc := 3638) (x := x13) 6 rfl dL_law_3638 ?_
      refine g_iconst (pc := 3640) (v := (2 : Int32)) ic_2 dL_law_3640 ?_
      refine g_iadd (pc := 3641) dL_law_3641 ?_
      refine g_iaload (pc := 3642) rfl dL_law_3642 fun v836 => ?_
      refine g_join 3651 (fun (x837 : Int32) => [(0, gr a0), (1, gr v1), (2, gr v5), (3, gr v9), (4, gr v11), (5, gi x13), (6, gi v833)]) (fun (x837 : Int32) => [gi x837, gi v835, gr v5]) (fun x837 h838 => ?_) (fun j839 Hj839 => ?_)
      · refine g_bVi (pc := 3651) (y := yX2_danger) (ws := ws_ yX2_danger cX2_danger 4 (some .boolean)) (fr := 3) (lo := 66) (as := [gi v835, gi x837]) (st := []) (g_no) rfl (fun _ _ _ e => tX2_danger hs e) (fun K _ _ _ hq hM R e1 e2 => g_runV (M := mL_law) (pc := 3651) (y := yX2_danger) (bytes := cX2_danger) (maxL := 4) (ret := (some .boolean)) (fr := 3) (lo := 66) (as := [gi v835, gi x837]) (st := []) hq (C := "FlareSlopesModel") rfl gy_X2_danger (gbl rfl) (gbl rfl) (gbl rfl) q4567 q4568 q4569 dL_law_3651 K hM R e1 e2) fun v840 h841 => ?_
        refine g_istore (pc := 3654) (lv' := [(7, gi v840), (0, gr a0), (1, gr v1), (2, gr v5), (3, gr v9), (4, gr v11), (5, gi x13), (6, gi v833)]) [0, 1, 2, 3, 4, 5, 6, 7] rfl (gblt rfl) dL_law_3654 ?_
        refine g_aload_n (pc := 3656) (x := v5) 3 rfl rfl dL_law_3656 ?_
        refine g_bVi (pc := 3657) (y := yX2_thrown) (ws := ws_ yX2_thrown cX2_thrown 1 (some .int)) (fr := 0) (lo := 0) (as := []) (st := []) (g_no) rfl (fun _ _ _ e => tX2_thrown hs e) (fun K _ _ _ hq hM R e1 e2 => g_runV (M := mL_law) (pc := 3657) (y := yX2_thrown) (bytes := cX2_thrown) (maxL := 1) (ret := (some .int)) (fr := 0) (lo := 0) (as := []) (st := []) hq (C := "FlareSlopesModel") rfl gy_X2_thrown (gbl rfl) (gbl rfl) (gbl rfl) q4009 q4010 q4011 dL_law_3657 K hM R e1 e2) fun v842 h843 => ?_
        refine g_iload (pc := 3660) (x := v833) 7 rfl dL_law_3660 ?_
        refine g_icmp_eq (pc := 3662) (tgt := 3667) rfl dL_law_3662 ?_ ?_
        rotate_left
        · refine g_iconst (pc := 3665) (v := (0 : Int32)) ic_0 dL_law_3665 ?_
          exact g_zreturn (pc := 3666) rfl dL_law_3666
        refine g_iload (pc := 3667) (x := v833) 7 rfl dL_law_3667 ?_
        refine g_join 3691 (fun (x844 : Unit) => [(0, gr a0), (1, gr v1), (2, gr v5), (3, gr v9), (4, gr v11), (5, gi x13)]) (fun (x844 : Unit) => []) (fun x844 h845 => ?_) (fun j846 Hj846 => ?_)
        · refine g_goto (pc := 3691) (tgt := 4259) rfl dL_law_3691 ?_
          exact Hj20 () h845
        refine g_if_ne (pc := 3669) (tgt := 3691) rfl dL_law_3669 ?_ ?_
        rotate_left
        · exact g_sub [1, 2, 3, 4, 5, 6] rfl (Hj846 () h843)
        refine g_aload_n (pc := 3672) (x := v9) 4 rfl rfl dL_law_3672 ?_
        refine g_iconst (pc := 3673) (v := (0 : Int32)) ic_0 dL_law_3673 ?_
        refine g_laload (pc := 3674) rfl dL_law_3674 fun v847 => ?_
        refine g_iload (pc := 3675) (x := v840) 0 rfl dL_law_3675 ?_
        refine g_join 3685 (fun (x848 : Int64) => [(0, gr a0), (1, gr v1), (2, gr v5), (3, gr v9), (4, gr v11), (5, gi x13)]) (fun (x848 : Int64) => [gl x848, gl v847]) (fun x848 h849 => ?_) (fun j850 Hj850 => ?_)
        · refine g_lcmp (pc := 3685) dL_law_3685 ?_
          refine g_if_eq (pc := 3686) (tgt := 3691) rfl dL_law_3686 ?_ ?_
          · exact Hj846 () h849
          refine g_iconst (pc := 3689) (v := (0 : Int32)) ic_0 dL_law_3689 ?_
          exact g_zreturn (pc := 3690) rfl dL_law_3690
        refine g_if_eq (pc := 3677) (tgt := 3684) rfl dL_law_3677 ?_ ?_
        · refine g_lconst (pc := 3684) (v := (0 : Int64)) rfl dL_law_3684 ?_
          exact g_sub [1, 2, 3, 4, 5, 6] rfl (Hj850 (0 : Int64) h843)
        refine g_lconst (pc := 3680) (v := (1 : Int64)) rfl dL_law_3680 ?_
        refine g_goto (pc := 3681) (tgt := 3685) rfl dL_law_3681 ?_
        exact g_sub [1, 2, 3, 4, 5, 6] rfl (Hj850 (1 : Int64) h843)
      refine g_if_eq (pc := 3643) (tgt := 3650) rfl dL_law_3643 ?_ ?_
      · refine g_iconst (pc := 3650) (v := (0 : Int32)) ic_0 dL_law_3650 ?_
        exact g_sub [1, 2, 3, 4, 5, 6, 0] rfl (Hj839 (0 : Int32) h834)
      refine g_iconst (pc := 3646) (v := (1 : Int32)) ic_1 dL_law_3646 ?_
      refine g_goto (pc := 3647) (tgt := 3651) rfl dL_law_3647 ?_
      exact g_sub [1, 2, 3, 4, 5, 6, 0] rfl (Hj839 (1 : Int32) h834)
    refine g_if_eq (pc := 3616) (tgt := 3623) rfl dL_law_3616 ?_ ?_
    · refine g_iconst (pc := 3623) (v := (0 : Int32)) ic_0 dL_law_3623 ?_
      exact Hj832 (0 : Int32) h14
    refine g_iconst (pc := 3619) (v := (1 : Int32)) ic_1 dL_law_3619 ?_
    refine g_goto (pc := 3620) (tgt := 3624) rfl dL_law_3620 ?_
    exact Hj832 (1 : Int32) h14
  · refine g_aload_n (pc := 3694) (x := v1) 1 rfl rfl dL_law_3694 ?_
    refine g_aload_n (pc := 3695) (x := a0) 0 rfl rfl dL_law_3695 ?_
    refine g_iload (pc := 3696) (x := x13) 5 rfl dL_law_3696 ?_
    refine g_iconst (pc := 3698) (v := (1 : Int32)) ic_1 dL_law_3698 ?_
    refine g_iadd (pc := 3699) dL_law_3699 ?_
    refine g_iaload (pc := 3700) rfl dL_law_3700 fun v853 => ?_
    refine g_aload_n (pc := 3701) (x := v9) 3 rfl rfl dL_law_3701 ?_
    refine g_bi (pc := 3702) (y := yX0_issue) (ws := wsW_ yX0_issue cX0_issue 4 (some .int) [(0, 9, 12, 21), (0, 9, 15, 13)]) (fr := 12) (lo := 266) (as := [gr v1, gi v853, gr v9]) (st := []) (g_no) rfl (fun _ _ e => tX0_issue hs e) (fun K _ _ hM R e1 e2 => g_runSX (M := mL_law) (pc := 3702) (y := yX0_issue) (bytes := cX0_issue) (maxL := 4) (ret := (some .int)) (hh := [(0, 9, 12, 21), (0, 9, 15, 13)]) (fr := 12) (lo := 266) (as := [gr v1, gi v853, gr v9]) (st := []) gy_X0_issue (gbl rfl) (gbl rfl) (gbl rfl) q3803 q3804 dL_law_3702 K hM R e1 e2) fun v854 h855 => ?_
    refine g_istore (pc := 3705) (lv' := [(6, gi v854), (0, gr a0), (1, gr v1), (2, gr v5), (3, gr v9), (4, gr v11), (5, gi x13)]) [0, 1, 2, 3, 4, 5, 6] rfl (gblt rfl) dL_law_3705 ?_
    refine g_aload_n (pc := 3707) (x := v5) 3 rfl rfl dL_law_3707 ?_
    refine g_aload_n (pc := 3708) (x := a0) 1 rfl rfl dL_law_3708 ?_
    refine g_iload (pc := 3709) (x := x13) 6 rfl dL_law_3709 ?_
    refine g_iconst (pc := 3711) (v := (1 : Int32)) ic_1 dL_law_3711 ?_
    refine g_iadd (pc := 3712) dL_law_3712 ?_
    refine g_iaload (pc := 3713) rfl dL_law_3713 fun v856 => ?_
    refine g_bVi (pc := 3714) (y := yX2_issue) (ws := ws_ yX2_issue cX2_issue 4 (some .int)) (fr := 6) (lo := 139) (as := [gi v856]) (st := []) (g_no) rfl (fun _ _ _ e => tX2_issue hs e) (fun K _ _ _ hq hM R e1 e2 => g_runV (M := mL_law) (pc := 3714) (y := yX2_issue) (bytes := cX2_issue) (maxL := 4) (ret := (some .int)) (fr := 6) (lo := 139) (as := [gi v856]) (st := []) hq (C := "FlareSlopesModel") rfl gy_X2_issue (gbl rfl) (gbl rfl) (gbl rfl) q4571 q4572 q4573 dL_law_3714 K hM R e1 e2) fun v857 h858 => ?_
    refine g_istore (pc := 3717) (lv' := [(7, gi v857), (6, gi v854), (0, gr a0), (1, gr v1), (2, gr v5), (3, gr v9), (4, gr v11), (5, gi x13)]) [0, 1, 2, 3, 4, 5, 6, 7] rfl (gblt rfl) dL_law_3717 ?_
    refine g_aload_n (pc := 3719) (x := v5) 4 rfl rfl dL_law_3719 ?_
    refine g_bVi (pc := 3720) (y := yX2_thrown) (ws := ws_ yX2_thrown cX2_thrown 1 (some .int)) (fr := 0) (lo := 0) (as := []) (st := []) (g_no) rfl (fun _ _ _ e => tX2_thrown hs e) (fun K _ _ _ hq hM R e1 e2 => g_runV (M := mL_law) (pc := 3720) (y := yX2_thrown) (bytes := cX2_thrown) (maxL := 1) (ret := (some .int)) (fr := 0) (lo := 0) (as := []) (st := []) hq (C := "FlareSlopesModel") rfl gy_X2_thrown (gbl rfl) (gbl rfl) (gbl rfl) q4009 q4010 q4011 dL_law_3720 K hM R e1 e2) fun v859 h860 => ?_
    refine g_iload (pc := 3723) (x := v854) 1 rfl dL_law_3723 ?_
    refine g_icmp_eq (pc := 3725) (tgt := 3730) rfl dL_law_3725 ?_ ?_
    rotate_left
    · refine g_iconst (pc := 3728) (v := (0 : Int32)) ic_0 dL_law_3728 ?_
      exact g_zreturn (pc := 3729) rfl dL_law_3729
    refine g_iload (pc := 3730) (x := v854) 1 rfl dL_law_3730 ?_
    refine g_join 3747 (fun (x861 : Unit) => [(0, gr a0), (1, gr v1), (2, gr v5), (3, gr v9), (4, gr v11), (5, gi x13)]) (fun (x861 : Unit) => []) (fun x861 h862 => ?_) (fun j863 Hj863 => ?_)
    · refine g_goto (pc := 3747) (tgt := 4259) rfl dL_law_3747 ?_
      exact Hj20 () h862
    refine g_if_ne (pc := 3732) (tgt := 3747) rfl dL_law_3732 ?_ ?_
    rotate_left
    · exact g_sub [2, 3, 4, 5, 6, 7] rfl (Hj863 () h860)
    refine g_aload_n (pc := 3735) (x := v9) 5 rfl rfl dL_law_3735 ?_
    refine g_iconst (pc := 3736) (v := (0 : Int32)) ic_0 dL_law_3736 ?_
    refine g_laload (pc := 3737) rfl dL_law_3737 fun v864 => ?_
    refine g_iload (pc := 3738) (x := v857) 0 rfl dL_law_3738 ?_
    refine g_i2l (pc := 3740) dL_law_3740 ?_
    refine g_lcmp (pc := 3741) dL_law_3741 ?_
    refine g_if_eq (pc := 3742) (tgt := 3747) rfl dL_law_3742 ?_ ?_
    · exact g_sub [2, 3, 4, 5, 6, 7] rfl (Hj863 () h860)
    refine g_iconst (pc := 3745) (v := (0 : Int32)) ic_0 dL_law_3745 ?_
    exact g_zreturn (pc := 3746) rfl dL_law_3746
  · refine g_aload_n (pc := 3750) (x := v1) 1 rfl rfl dL_law_3750 ?_
    refine g_aload_n (pc := 3751) (x := a0) 0 rfl rfl dL_law_3751 ?_
    refine g_iload (pc := 3752) (x := x13) 5 rfl dL_law_3752 ?_
    refine g_iconst (pc := 3754) (v := (1 : Int32)) ic_1 dL_law_3754 ?_
    refine g_iadd (pc := 3755) dL_law_3755 ?_
    refine g_iaload (pc := 3756) rfl dL_law_3756 fun v867 => ?_
    refine g_aload_n (pc := 3757) (x := a0) 0 rfl rfl dL_law_3757 ?_
    refine g_iload (pc := 3758) (x := x13) 5 rfl dL_law_3758 ?_
    refine g_iconst (pc := 3760) (v := (2 : Int32)) ic_2 dL_law_3760 ?_
    refine g_iadd (pc := 3761) dL_law_3761 ?_
    refine g_iaload (pc := 3762) rfl dL_law_3762 fun v868 => ?_
    refine g_aload_n (pc := 3763) (x := v9) 3 rfl rfl dL_law_3763 ?_
    refine g_bi (pc := 3764) (y := yX0_give) (ws := wsW_ yX0_give cX0_give 5 (some .int) [(0, 10, 13, 21), (0, 10, 17, 13), (0, 10, 21, 15)]) (fr := 10) (lo := 229) (as := [gr v1, gi v867, gi v868, gr v9]) (st := []) (g_no) rfl (fun _ _ e => tX0_give hs e) (fun K _ _ hM R e1 e2 => g_runSX (M := mL_law) (pc := 3764) (y := yX0_give) (bytes := cX0_give) (maxL := 5) (ret := (some .int)) (hh := [(0, 10, 13, 21), (0, 10, 17, 13), (0, 10, 21, 15)]) (fr := 10) (lo := 229) (as := [gr v1, gi v867, gi v868, gr v9]) (st := []) gy_X0_give (gbl rfl) (gbl rfl) (gbl rfl) q3858 q3859 dL_law_3764 K hM R e1 e2) fun v869 h870 => ?_
    refine g_istore (pc := 3767) (lv' := [(6, gi v869), (0, gr a0), (1, gr v1), (2, gr v5), (3, gr v9), (4, gr v11), (5, gi x13)]) [0, 1, 2, 3, 4, 5, 6] rfl (gblt rfl) dL_law_3767 ?_
    refine g_aload_n (pc := 3769) (x := v5) 3 rfl rfl dL_law_3769 ?_
    refine g_aload_n (pc := 3770) (x := a0) 1 rfl rfl dL_law_3770 ?_
    refine g_iload (pc := 3771) (x := x13) 6 rfl dL_law_3771 ?_
    refine g_iconst (pc := 3773) (v := (1 : Int32)) ic_1 dL_law_3773 ?_
    refine g_iadd (pc := 3774) dL_law_3774 ?_
    refine g_iaload (pc := 3775) rfl dL_law_3775 fun v871 => ?_
    refine g_aload_n (pc := 3776) (x := a0) 1 rfl rfl dL_law_3776 ?_
    refine g_iload (pc := 3777) (x := x13) 6 rfl dL_law_3777 ?_
    refine g_iconst (pc := 3779) (v := (2 : Int32)) ic_2 dL_law_3779 ?_
    refine g_iadd (pc := 3780) dL_law_3780 ?_
    refine g_iaload (pc := 3781) rfl dL_law_3781 fun v872 => ?_
    refine g_bVi (pc := 3782) (y := yX2_give) (ws := ws_ yX2_give cX2_give 4 (some .int)) (fr := 2) (lo := 45) (as := [gi v871, gi v872]) (st := []) (g_no) rfl (fun _ _ _ e => tX2_give hs e) (fun K _ _ _ hq hM R e1 e2 => g_runV (M := mL_law) (pc := 3782) (y := yX2_give) (bytes := cX2_give) (maxL := 4) (ret := (some .int)) (fr := 2) (lo := 45) (as := [gi v871, gi v872]) (st := []) hq (C := "FlareSlopesModel") rfl gy_X2_give (gbl rfl) (gbl rfl) (gbl rfl) q4575 q4576 q4577 dL_law_3782 K hM R e1 e2) fun v873 h874 => ?_
    refine g_istore (pc := 3785) (lv' := [(7, gi v873), (6, gi v869), (0, gr a0), (1, gr v1), (2, gr v5), (3, gr v9), (4, gr v11), (5, gi x13)]) [0, 1, 2, 3, 4, 5, 6, 7] rfl (gblt rfl) dL_law_3785 ?_
    refine g_aload_n (pc := 3787) (x := v5) 4 rfl rfl dL_law_3787 ?_
    refine g_bVi (pc := 3788) (y := yX2_thrown) (ws := ws_ yX2_thrown cX2_thrown 1 (some .int)) (fr := 0) (lo := 0) (as := []) (st := []) (g_no) rfl (fun _ _ _ e => tX2_thrown hs e) (fun K _ _ _ hq hM R e1 e2 => g_runV (M := mL_law) (pc := 3788) (y := yX2_thrown) (bytes := cX2_thrown) (maxL := 1) (ret := (some .int)) (fr := 0) (lo := 0) (as := []) (st := []) hq (C := "FlareSlopesModel") rfl gy_X2_thrown (gbl rfl) (gbl rfl) (gbl rfl) q4009 q4010 q4011 dL_law_3788 K hM R e1 e2) fun v875 h876 => ?_
    refine g_iload (pc := 3791) (x := v869) 1 rfl dL_law_3791 ?_
    refine g_icmp_eq (pc := 3793) (tgt := 3798) rfl dL_law_3793 ?_ ?_
    rotate_left
    · refine g_iconst (pc := 3796) (v := (0 : Int32)) ic_0 dL_law_3796 ?_
      exact g_zreturn (pc := 3797) rfl dL_law_3797
    refine g_iload (pc := 3798) (x := v869) 1 rfl dL_law_3798 ?_
    refine g_join 3815 (fun (x877 : Unit) => [(0, gr a0), (1, gr v1), (2, gr v5), (3, gr v9), (4, gr v11), (5, gi x13)]) (fun (x877 : Unit) => []) (fun x877 h878 => ?_) (fun j879 Hj879 => ?_)
    · refine g_goto (pc := 3815) (tgt := 4259) rfl dL_law_3815 ?_
      exact Hj20 () h878
    refine g_if_ne (pc := 3800) (tgt := 3815) rfl dL_law_3800 ?_ ?_
    rotate_left
    · exact g_sub [2, 3, 4, 5, 6, 7] rfl (Hj879 () h876)
    refine g_aload_n (pc := 3803) (x := v9) 5 rfl rfl dL_law_3803 ?_
    refine g_iconst (pc := 3804) (v := (0 : Int32)) ic_0 dL_law_3804 ?_
    refine g_laload (pc := 3805) rfl dL_law_3805 fun v880 => ?_
    refine g_iload (pc := 3806) (x := v873) 0 rfl dL_law_3806 ?_
    refine g_i2l (pc := 3808) dL_law_3808 ?_
    refine g_lcmp (pc := 3809) dL_law_3809 ?_
    refine g_if_eq (pc := 3810) (tgt := 3815) rfl dL_law_3810 ?_ ?_
    · exact g_sub [2, 3, 4, 5, 6, 7] rfl (Hj879 () h876)
    refine g_iconst (pc := 3813) (v := (0 : Int32)) ic_0 dL_law_3813 ?_
    exact g_zreturn (pc := 3814) rfl dL_law_3814
  · refine g_aload_n (pc := 3818) (x := v1) 1 rfl rfl dL_law_3818 ?_
    refine g_aload_n (pc := 3819) (x := a0) 0 rfl rfl dL_law_3819 ?_
    refine g_iload (pc := 3820) (x := x13) 5 rfl dL_law_3820 ?_
    refine g_iconst (pc := 3822) (v := (1 : Int32)) ic_1 dL_law_3822 ?_
    refine g_iadd (pc := 3823) dL_law_3823 ?_
    refine g_iaload (pc := 3824) rfl dL_law_3824 fun v883 => ?_
    refine g_aload_n (pc := 3825) (x := a0) 0 rfl rfl dL_law_3825 ?_
    refine g_iload (pc := 3826) (x := x13) 5 rfl dL_law_3826 ?_
    refine g_iconst (pc := 3828) (v := (2 : Int32)) ic_2 dL_law_3828 ?_
    refine g_iadd (pc := 3829) dL_law_3829 ?_
    refine g_iaload (pc := 3830) rfl dL_law_3830 fun v884 => ?_
    refine g_aload_n (pc := 3831) (x := a0) 0 rfl rfl dL_law_3831 ?_
    refine g_iload (pc := 3832) (x := x13) 5 rfl dL_law_3832 ?_
    refine g_iconst (pc := 3834) (v := (3 : Int32)) ic_3 dL_law_3834 ?_
    refine g_iadd (pc := 3835) dL_law_3835 ?_
    refine g_iaload (pc := 3836) rfl dL_law_3836 fun v885 => ?_
    refine g_aload_n (pc := 3837) (x := v9) 3 rfl rfl dL_law_3837 ?_
    refine g_bi (pc := 3838) (y := yX0_move) (ws := wsW_ yX0_move cX0_move 6 (some .int) [(0, 12, 15, 21), (0, 12, 19, 13), (0, 12, 23, 15)]) (fr := 10) (lo := 230) (as := [gr v1, gi v883, gi v884, gi v885, gr v9]) (st := []) (g_no) rfl (fun _ _ e => tX0_move hs e) (fun K _ _ hM R e1 e2 => g_runSX (M := mL_law) (pc := 3838) (y := yX0_move) (bytes := cX0_move) (maxL := 6) (ret := (some .int)) (hh := [(0, 12, 15, 21), (0, 12, 19, 13), (0, 12, 23, 15)]) (fr := 10) (lo := 230) (as := [gr v1, gi v883, gi v884, gi v885, gr v9]) (st := []) gy_X0_move (gbl rfl) (gbl rfl) (gbl rfl) q3865 q3866 dL_law_3838 K hM R e1 e2) fun v886 h887 => ?_
    refine g_istore (pc := 3841) (lv' := [(6, gi v886), (0, gr a0), (1, gr v1), (2, gr v5), (3, gr v9), (4, gr v11), (5, gi x13)]) [0, 1, 2, 3, 4, 5, 6] rfl (gblt rfl) dL_law_3841 ?_
    refine g_aload_n (pc := 3843) (x := v5) 3 rfl rfl dL_law_3843 ?_
    refine g_aload_n (pc := 3844) (x := a0) 1 rfl rfl dL_law_3844 ?_
    refine g_iload (pc := 3845) (x := x13) 6 rfl dL_law_3845 ?_
    refine g_iconst (pc := 3847) (v := (1 : Int32)) ic_1 dL_law_3847 ?_
    refine g_iadd (pc := 3848) dL_law_3848 ?_
    refine g_iaload (pc := 3849) rfl dL_law_3849 fun v888 => ?_
    refine g_aload_n (pc := 3850) (x := a0) 1 rfl rfl dL_law_3850 ?_
    refine g_iload (pc := 3851) (x := x13) 6 rfl dL_law_3851 ?_
    refine g_iconst (pc := 3853) (v := (2 : Int32)) ic_2 dL_law_3853 ?_
    refine g_iadd (pc := 3854) dL_law_3854 ?_
    refine g_iaload (pc := 3855) rfl dL_law_3855 fun v889 => ?_
    refine g_aload_n (pc := 3856) (x := a0) 1 rfl rfl dL_law_3856 ?_
    refine g_iload (pc := 3857) (x := x13) 6 rfl dL_law_3857 ?_
    refine g_iconst (pc := 3859) (v := (3 : Int32)) ic_3 dL_law_3859 ?_
    refine g_iadd (pc := 3860) dL_law_3860 ?_
    refine g_iaload (pc := 3861) rfl dL_law_3861 fun v890 => ?_
    refine g_bVi (pc := 3862) (y := yX2_move) (ws := ws_ yX2_move cX2_move 6 (some .int)) (fr := 2) (lo := 45) (as := [gi v888, gi v889, gi v890]) (st := []) (g_no) rfl (fun _ _ _ e => tX2_move hs e) (fun K _ _ _ hq hM R e1 e2 => g_runV (M := mL_law) (pc := 3862) (y := yX2_move) (bytes := cX2_move) (maxL := 6) (ret := (some .int)) (fr := 2) (lo := 45) (as := [gi v888, gi v889, gi v890]) (st := []) hq (C := "FlareSlopesModel") rfl gy_X2_move (gbl rfl) (gbl rfl) (gbl rfl) q4579 q4580 q4581 dL_law_3862 K hM R e1 e2) fun v891 h892 => ?_
    refine g_istore (pc := 3865) (lv' := [(7, gi v891), (6, gi v886), (0, gr a0), (1, gr v1), (2, gr v5), (3, gr v9), (4, gr v11), (5, gi x13)]) [0, 1, 2, 3, 4, 5, 6, 7] rfl (gblt rfl) dL_law_3865 ?_
    refine g_aload_n (pc := 3867) (x := v5) 4 rfl rfl dL_law_3867 ?_
    refine g_bVi (pc := 3868) (y := yX2_thrown) (ws := ws_ yX2_thrown cX2_thrown 1 (some .int)) (fr := 0) (lo := 0) (as := []) (st := []) (g_no) rfl (fun _ _ _ e => tX2_thrown hs e) (fun K _ _ _ hq hM R e1 e2 => g_runV (M := mL_law) (pc := 3868) (y := yX2_thrown) (bytes := cX2_thrown) (maxL := 1) (ret := (some .int)) (fr := 0) (lo := 0) (as := []) (st := []) hq (C := "FlareSlopesModel") rfl gy_X2_thrown (gbl rfl) (gbl rfl) (gbl rfl) q4009 q4010 q4011 dL_law_3868 K hM R e1 e2) fun v893 h894 => ?_
    refine g_iload (pc := 3871) (x := v886) 1 rfl dL_law_3871 ?_
    refine g_icmp_eq (pc := 3873) (tgt := 3878) rfl dL_law_3873 ?_ ?_
    rotate_left
    · refine g_iconst (pc := 3876) (v := (0 : Int32)) ic_0 dL_law_3876 ?_
      exact g_zreturn (pc := 3877) rfl dL_law_3877
    refine g_iload (pc := 3878) (x := v886) 1 rfl dL_law_3878 ?_
    refine g_join 3895 (fun (x895 : Unit) => [(0, gr a0), (1, gr v1), (2, gr v5), (3, gr v9), (4, gr v11), (5, gi x13)]) (fun (x895 : Unit) => []) (fun x895 h896 => ?_) (fun j897 Hj897 => ?_)
    · refine g_goto (pc := 3895) (tgt := 4259) rfl dL_law_3895 ?_
      exact Hj20 () h896
    refine g_if_ne (pc := 3880) (tgt := 3895) rfl dL_law_3880 ?_ ?_
    rotate_left
    · exact g_sub [2, 3, 4, 5, 6, 7] rfl (Hj897 () h894)
    refine g_aload_n (pc := 3883) (x := v9) 5 rfl rfl dL_law_3883 ?_
    refine g_iconst (pc := 3884) (v := (0 : Int32)) ic_0 dL_law_3884 ?_
    refine g_laload (pc := 3885) rfl dL_law_3885 fun v898 => ?_
    refine g_iload (pc := 3886) (x := v891) 0 rfl dL_law_3886 ?_
    refine g_i2l (pc := 3888) dL_law_3888 ?_
    refine g_lcmp (pc := 3889) dL_law_3889 ?_
    refine g_if_eq (pc := 3890) (tgt := 3895) rfl dL_law_3890 ?_ ?_
    · exact g_sub [2, 3, 4, 5, 6, 7] rfl (Hj897 () h894)
    refine g_iconst (pc := 3893) (v := (0 : Int32)) ic_0 dL_law_3893 ?_
    exact g_zreturn (pc := 3894) rfl dL_law_3894
  · refine g_aload_n (pc := 3898) (x := v1) 1 rfl rfl dL_law_3898 ?_
    refine g_aload_n (pc := 3899) (x := a0) 0 rfl rfl dL_law_3899 ?_
    refine g_iload (pc := 3900) (x := x13) 5 rfl dL_law_3900 ?_
    refine g_iconst (pc := 3902) (v := (1 : Int32)) ic_1 dL_law_3902 ?_
    refine g_iadd (pc := 3903) dL_law_3903 ?_
    refine g_iaload (pc := 3904) rfl dL_law_3904 fun v901 => ?_
    refine g_aload_n (pc := 3905) (x := a0) 0 rfl rfl dL_law_3905 ?_
    refine g_iload (pc := 3906) (x := x13) 5 rfl dL_law_3906 ?_
    refine g_iconst (pc := 3908) (v := (2 : Int32)) ic_2 dL_law_3908 ?_
    refine g_iadd (pc := 3909) dL_law_3909 ?_
    refine g_iaload (pc := 3910) rfl dL_law_3910 fun v902 => ?_
    refine g_aload_n (pc := 3911) (x := v9) 3 rfl rfl dL_law_3911 ?_
    refine g_bi (pc := 3912) (y := yX0_trust) (ws := wsW_ yX0_trust cX0_trust 5 (some .int) [(0, 10, 13, 21), (0, 10, 17, 13), (0, 10, 21, 15)]) (fr := 10) (lo := 229) (as := [gr v1, gi v901, gi v902, gr v9]) (st := []) (g_no) rfl (fun _ _ e => tX0_trust hs e) (fun K _ _ hM R e1 e2 => g_runSX (M := mL_law) (pc := 3912) (y := yX0_trust) (bytes := cX0_trust) (maxL := 5) (ret := (some .int)) (hh := [(0, 10, 13, 21), (0, 10, 17, 13), (0, 10, 21, 15)]) (fr := 10) (lo := 229) (as := [gr v1, gi v901, gi v902, gr v9]) (st := []) gy_X0_trust (gbl rfl) (gbl rfl) (gbl rfl) q3872 q3873 dL_law_3912 K hM R e1 e2) fun v903 h904 => ?_
    refine g_istore (pc := 3915) (lv' := [(6, gi v903), (0, gr a0), (1, gr v1), (2, gr v5), (3, gr v9), (4, gr v11), (5, gi x13)]) [0, 1, 2, 3, 4, 5, 6] rfl (gblt rfl) dL_law_3915 ?_
    refine g_aload_n (pc := 3917) (x := v5) 3 rfl rfl dL_law_3917 ?_
    refine g_aload_n (pc := 3918) (x := a0) 1 rfl rfl dL_law_3918 ?_
    refine g_iload (pc := 3919) (x := x13) 6 rfl dL_law_3919 ?_
    refine g_iconst (pc := 3921) (v := (1 : Int32)) ic_1 dL_law_3921 ?_
    refine g_iadd (pc := 3922) dL_law_3922 ?_
    refine g_iaload (pc := 3923) rfl dL_law_3923 fun v905 => ?_
    refine g_aload_n (pc := 3924) (x := a0) 1 rfl rfl dL_law_3924 ?_
    refine g_iload (pc := 3925) (x := x13) 6 rfl dL_law_3925 ?_
    refine g_iconst (pc := 3927) (v := (2 : Int32)) ic_2 dL_law_3927 ?_
    refine g_iadd (pc := 3928) dL_law_3928 ?_
    refine g_iaload (pc := 3929) rfl dL_law_3929 fun v906 => ?_
    refine g_bVi (pc := 3930) (y := yX2_trust) (ws := ws_ yX2_trust cX2_trust 3 (some .int)) (fr := 2) (lo := 45) (as := [gi v905, gi v906]) (st := []) (g_no) rfl (fun _ _ _ e => tX2_trust hs e) (fun K _ _ _ hq hM R e1 e2 => g_runV (M := mL_law) (pc := 3930) (y := yX2_trust) (bytes := cX2_trust) (maxL := 3) (ret := (some .int)) (fr := 2) (lo := 45) (as := [gi v905, gi v906]) (st := []) hq (C := "FlareSlopesModel") rfl gy_X2_trust (gbl rfl) (gbl rfl) (gbl rfl) q4583 q4584 q4585 dL_law_3930 K hM R e1 e2) fun v907 h908 => ?_
    refine g_istore (pc := 3933) (lv' := [(7, gi v907), (6, gi v903), (0, gr a0), (1, gr v1), (2, gr v5), (3, gr v9), (4, gr v11), (5, gi x13)]) [0, 1, 2, 3, 4, 5, 6, 7] rfl (gblt rfl) dL_law_3933 ?_
    refine g_aload_n (pc := 3935) (x := v5) 4 rfl rfl dL_law_3935 ?_
    refine g_bVi (pc := 3936) (y := yX2_thrown) (ws := ws_ yX2_thrown cX2_thrown 1 (some .int)) (fr := 0) (lo := 0) (as := []) (st := []) (g_no) rfl (fun _ _ _ e => tX2_thrown hs e) (fun K _ _ _ hq hM R e1 e2 => g_runV (M := mL_law) (pc := 3936) (y := yX2_thrown) (bytes := cX2_thrown) (maxL := 1) (ret := (some .int)) (fr := 0) (lo := 0) (as := []) (st := []) hq (C := "FlareSlopesModel") rfl gy_X2_thrown (gbl rfl) (gbl rfl) (gbl rfl) q4009 q4010 q4011 dL_law_3936 K hM R e1 e2) fun v909 h910 => ?_
    refine g_iload (pc := 3939) (x := v903) 1 rfl dL_law_3939 ?_
    refine g_icmp_eq (pc := 3941) (tgt := 3946) rfl dL_law_3941 ?_ ?_
    rotate_left
    · refine g_iconst (pc := 3944) (v := (0 : Int32)) ic_0 dL_law_3944 ?_
      exact g_zreturn (pc := 3945) rfl dL_law_3945
    refine g_iload (pc := 3946) (x := v903) 1 rfl dL_law_3946 ?_
    refine g_join 3963 (fun (x911 : Unit) => [(0, gr a0), (1, gr v1), (2, gr v5), (3, gr v9), (4, gr v11), (5, gi x13)]) (fun (x911 : Unit) => []) (fun x911 h912 => ?_) (fun j913 Hj913 => ?_)
    · refine g_goto (pc := 3963) (tgt := 4259) rfl dL_law_3963 ?_
      exact Hj20 () h912
    refine g_if_ne (pc := 3948) (tgt := 3963) rfl dL_law_3948 ?_ ?_
    rotate_left
    · exact g_sub [2, 3, 4, 5, 6, 7] rfl (Hj913 () h910)
    refine g_aload_n (pc := 3951) (x := v9) 5 rfl rfl dL_law_3951 ?_
    refine g_iconst (pc := 3952) (v := (0 : Int32)) ic_0 dL_law_3952 ?_
    refine g_laload (pc := 3953) rfl dL_law_3953 fun v914 => ?_
    refine g_iload (pc := 3954) (x := v907) 0 rfl dL_law_3954 ?_
    refine g_i2l (pc := 3956) dL_law_3956 ?_
    refine g_lcmp (pc := 3957) dL_law_3957 ?_
    refine g_if_eq (pc := 3958) (tgt := 3963) rfl dL_law_3958 ?_ ?_
    · exact g_sub [2, 3, 4, 5, 6, 7] rfl (Hj913 () h910)
    refine g_iconst (pc := 3961) (v := (0 : Int32)) ic_0 dL_law_3961 ?_
    exact g_zreturn (pc := 3962) rfl dL_law_3962
  · refine g_aload_n (pc := 3966) (x := v1) 1 rfl rfl dL_law_3966 ?_
    refine g_aload_n (pc := 3967) (x := a0) 0 rfl rfl dL_law_3967 ?_
    refine g_iload (pc := 3968) (x := x13) 5 rfl dL_law_3968 ?_
    refine g_iconst (pc := 3970) (v := (1 : Int32)) ic_1 dL_law_3970 ?_
    refine g_iadd (pc := 3971) dL_law_3971 ?_
    refine g_iaload (pc := 3972) rfl dL_law_3972 fun v917 => ?_
    refine g_aload_n (pc := 3973) (x := v9) 3 rfl rfl dL_law_3973 ?_
    refine g_bi (pc := 3974) (y := yX0_forget) (ws := wsW_ yX0_forget cX0_forget 4 (some .int) [(0, 9, 12, 21), (0, 9, 15, 13)]) (fr := 10) (lo := 228) (as := [gr v1, gi v917, gr v9]) (st := []) (g_no) rfl (fun _ _ e => tX0_forget hs e) (fun K _ _ hM R e1 e2 => g_runSX (M := mL_law) (pc := 3974) (y := yX0_forget) (bytes := cX0_forget) (maxL := 4) (ret := (some .int)) (hh := [(0, 9, 12, 21), (0, 9, 15, 13)]) (fr := 10) (lo := 228) (as := [gr v1, gi v917, gr v9]) (st := []) gy_X0_forget (gbl rfl) (gbl rfl) (gbl rfl) q3880 q3881 dL_law_3974 K hM R e1 e2) fun v918 h919 => ?_
    refine g_istore (pc := 3977) (lv' := [(6, gi v918), (0, gr a0), (1, gr v1), (2, gr v5), (3, gr v9), (4, gr v11), (5, gi x13)]) [0, 1, 2, 3, 4, 5, 6] rfl (gblt rfl) dL_law_3977 ?_
    refine g_aload_n (pc := 3979) (x := v5) 3 rfl rfl dL_law_3979 ?_
    refine g_aload_n (pc := 3980) (x := a0) 1 rfl rfl dL_law_3980 ?_
    refine g_iload (pc := 3981) (x := x13) 6 rfl dL_law_3981 ?_
    refine g_iconst (pc := 3983) (v := (1 : Int32)) ic_1 dL_law_3983 ?_
    refine g_iadd (pc := 3984) dL_law_3984 ?_
    refine g_iaload (pc := 3985) rfl dL_law_3985 fun v920 => ?_
    refine g_bVi (pc := 3986) (y := yX2_forget) (ws := ws_ yX2_forget cX2_forget 4 (some .int)) (fr := 3) (lo := 66) (as := [gi v920]) (st := []) (g_no) rfl (fun _ _ _ e => tX2_forget hs e) (fun K _ _ _ hq hM R e1 e2 => g_runV (M := mL_law) (pc := 3986) (y := yX2_forget) (bytes := cX2_forget) (maxL := 4) (ret := (some .int)) (fr := 3) (lo := 66) (as := [gi v920]) (st := []) hq (C := "FlareSlopesModel") rfl gy_X2_forget (gbl rfl) (gbl rfl) (gbl rfl) q4587 q4588 q4589 dL_law_3986 K hM R e1 e2) fun v921 h922 => ?_
    refine g_istore (pc := 3989) (lv' := [(7, gi v921), (6, gi v918), (0, gr a0), (1, gr v1), (2, gr v5), (3, gr v9), (4, gr v11), (5, gi x13)]) [0, 1, 2, 3, 4, 5, 6, 7] rfl (gblt rfl) dL_law_3989 ?_
    refine g_aload_n (pc := 3991) (x := v5) 4 rfl rfl dL_law_3991 ?_
    refine g_bVi (pc := 3992) (y := yX2_thrown) (ws := ws_ yX2_thrown cX2_thrown 1 (some .int)) (fr := 0) (lo := 0) (as := []) (st := []) (g_no) rfl (fun _ _ _ e => tX2_thrown hs e) (fun K _ _ _ hq hM R e1 e2 => g_runV (M := mL_law) (pc := 3992) (y := yX2_thrown) (bytes := cX2_thrown) (maxL := 1) (ret := (some .int)) (fr := 0) (lo := 0) (as := []) (st := []) hq (C := "FlareSlopesModel") rfl gy_X2_thrown (gbl rfl) (gbl rfl) (gbl rfl) q4009 q4010 q4011 dL_law_3992 K hM R e1 e2) fun v923 h924 => ?_
    refine g_iload (pc := 3995) (x := v918) 1 rfl dL_law_3995 ?_
    refine g_icmp_eq (pc := 3997) (tgt := 4002) rfl dL_law_3997 ?_ ?_
    rotate_left
    · refine g_iconst (pc := 4000) (v := (0 : Int32)) ic_0 dL_law_4000 ?_
      exact g_zreturn (pc := 4001) rfl dL_law_4001
    refine g_iload (pc := 4002) (x := v918) 1 rfl dL_law_4002 ?_
    refine g_join 4019 (fun (x925 : Unit) => [(0, gr a0), (1, gr v1), (2, gr v5), (3, gr v9), (4, gr v11), (5, gi x13)]) (fun (x925 : Unit) => []) (fun x925 h926 => ?_) (fun j927 Hj927 => ?_)
    · refine g_goto (pc := 4019) (tgt := 4259) rfl dL_law_4019 ?_
      exact Hj20 () h926
    refine g_if_ne (pc := 4004) (tgt := 4019) rfl dL_law_4004 ?_ ?_
    rotate_left
    · exact g_sub [2, 3, 4, 5, 6, 7] rfl (Hj927 () h924)
    refine g_aload_n (pc := 4007) (x := v9) 5 rfl rfl dL_law_4007 ?_
    refine g_iconst (pc := 4008) (v := (0 : Int32)) ic_0 dL_law_4008 ?_
    refine g_laload (pc := 4009) rfl dL_law_4009 fun v928 => ?_
    refine g_iload (pc := 4010) (x := v921) 0 rfl dL_law_4010 ?_
    refine g_i2l (pc := 4012) dL_law_4012 ?_
    refine g_lcmp (pc := 4013) dL_law_4013 ?_
    refine g_if_eq (pc := 4014) (tgt := 4019) rfl dL_law_4014 ?_ ?_
    · exact g_sub [2, 3, 4, 5, 6, 7] rfl (Hj927 () h924)
    refine g_iconst (pc := 4017) (v := (0 : Int32)) ic_0 dL_law_4017 ?_
    exact g_zreturn (pc := 4018) rfl dL_law_4018
  · refine g_aload_n (pc := 4022) (x := v1) 1 rfl rfl dL_law_4022 ?_
    refine g_aload_n (pc := 4023) (x := a0) 0 rfl rfl dL_law_4023 ?_
    refine g_iload (pc := 4024) (x := x13) 5 rfl dL_law_4024 ?_
    refine g_iconst (pc := 4026) (v := (1 : Int32)) ic_1 dL_law_4026 ?_
    refine g_iadd (pc := 4027) dL_law_4027 ?_
    refine g_iaload (pc := 4028) rfl dL_law_4028 fun v931 => ?_
    refine g_aload_n (pc := 4029) (x := a0) 0 rfl rfl dL_law_4029 ?_
    refine g_iload (pc := 4030) (x := x13) 5 rfl dL_law_4030 ?_
    refine g_iconst (pc := 4032) (v := (2 : Int32)) ic_2 dL_law_4032 ?_
    refine g_iadd (pc := 4033) dL_law_4033 ?_
    refine g_iaload (pc := 4034) rfl dL_law_4034 fun v932 => ?_
    refine g_aload_n (pc := 4035) (x := v9) 3 rfl rfl dL_law_4035 ?_
    refine g_bi (pc := 4036) (y := yX0_set) (ws := wsW_ yX0_set cX0_set 5 (some .int) [(0, 10, 13, 21), (0, 10, 17, 15)]) (fr := 10) (lo := 229) (as := [gr v1, gi v931, gi v932, gr v9]) (st := []) (g_no) rfl (fun _ _ e => tX0_set hs e) (fun K _ _ hM R e1 e2 => g_runSX (M := mL_law) (pc := 4036) (y := yX0_set) (bytes := cX0_set) (maxL := 5) (ret := (some .int)) (hh := [(0, 10, 13, 21), (0, 10, 17, 15)]) (fr := 10) (lo := 229) (as := [gr v1, gi v931, gi v932, gr v9]) (st := []) gy_X0_set (gbl rfl) (gbl rfl) (gbl rfl) q3899 q3900 dL_law_4036 K hM R e1 e2) fun v933 h934 => ?_
    refine g_istore (pc := 4039) (lv' := [(6, gi v933), (0, gr a0), (1, gr v1), (2, gr v5), (3, gr v9), (4, gr v11), (5, gi x13)]) [0, 1, 2, 3, 4, 5, 6] rfl (gblt rfl) dL_law_4039 ?_
    refine g_aload_n (pc := 4041) (x := v5) 3 rfl rfl dL_law_4041 ?_
    refine g_aload_n (pc := 4042) (x := a0) 1 rfl rfl dL_law_4042 ?_
    refine g_iload (pc := 4043) (x := x13) 6 rfl dL_law_4043 ?_
    refine g_iconst (pc := 4045) (v := (1 : Int32)) ic_1 dL_law_4045 ?_
    refine g_iadd (pc := 4046) dL_law_4046 ?_
    refine g_iaload (pc := 4047) rfl dL_law_4047 fun v935 => ?_
    refine g_aload_n (pc := 4048) (x := a0) 1 rfl rfl dL_law_4048 ?_
    refine g_iload (pc := 4049) (x := x13) 6 rfl dL_law_4049 ?_
    refine g_iconst (pc := 4051) (v := (2 : Int32)) ic_2 dL_law_4051 ?_
    refine g_iadd (pc := 4052) dL_law_4052 ?_
    refine g_iaload (pc := 4053) rfl dL_law_4053 fun v936 => ?_
    refine g_bVi (pc := 4054) (y := yX2_set) (ws := ws_ yX2_set cX2_set 4 (some .int)) (fr := 2) (lo := 45) (as := [gi v935, gi v936]) (st := []) (g_no) rfl (fun _ _ _ e => tX2_set hs e) (fun K _ _ _ hq hM R e1 e2 => g_runV (M := mL_law) (pc := 4054) (y := yX2_set) (bytes := cX2_set) (maxL := 4) (ret := (some .int)) (fr := 2) (lo := 45) (as := [gi v935, gi v936]) (st := []) hq (C := "FlareSlopesModel") rfl gy_X2_set (gbl rfl) (gbl rfl) (gbl rfl) q4591 q4592 q4593 dL_law_4054 K hM R e1 e2) fun v937 h938 => ?_
    refine g_istore (pc := 4057) (lv' := [(7, gi v937), (6, gi v933), (0, gr a0), (1, gr v1), (2, gr v5), (3, gr v9), (4, gr v11), (5, gi x13)]) [0, 1, 2, 3, 4, 5, 6, 7] rfl (gblt rfl) dL_law_4057 ?_
    refine g_aload_n (pc := 4059) (x := v5) 4 rfl rfl dL_law_4059 ?_
    refine g_bVi (pc := 4060) (y := yX2_thrown) (ws := ws_ yX2_thrown cX2_thrown 1 (some .int)) (fr := 0) (lo := 0) (as := []) (st := []) (g_no) rfl (fun _ _ _ e => tX2_thrown hs e) (fun K _ _ _ hq hM R e1 e2 => g_runV (M := mL_law) (pc := 4060) (y := yX2_thrown) (bytes := cX2_thrown) (maxL := 1) (ret := (some .int)) (fr := 0) (lo := 0) (as := []) (st := []) hq (C := "FlareSlopesModel") rfl gy_X2_thrown (gbl rfl) (gbl rfl) (gbl rfl) q4009 q4010 q4011 dL_law_4060 K hM R e1 e2) fun v939 h940 => ?_
    refine g_iload (pc := 4063) (x := v933) 1 rfl dL_law_4063 ?_
    refine g_icmp_eq (pc := 4065) (tgt := 4070) rfl dL_law_4065 ?_ ?_
    rotate_left
    · refine g_iconst (pc := 4068) (v := (0 : Int32)) ic_0 dL_law_4068 ?_
      exact g_zreturn (pc := 4069) rfl dL_law_4069
    refine g_iload (pc := 4070) (x := v933) 1 rfl dL_law_4070 ?_
    refine g_join 4087 (fun (x941 : Unit) => [(0, gr a0), (1, gr v1), (2, gr v5), (3, gr v9), (4, gr v11), (5, gi x13)]) (fun (x941 : Unit) => []) (fun x941 h942 => ?_) (fun j943 Hj943 => ?_)
    · refine g_goto (pc := 4087) (tgt := 4259) rfl dL_law_4087 ?_
      exact Hj20 () h942
    refine g_if_ne (pc := 4072) (tgt := 4087) rfl dL_law_4072 ?_ ?_
    rotate_left
    · exact g_sub [2, 3, 4, 5, 6, 7] rfl (Hj943 () h940)
    refine g_aload_n (pc := 4075) (x := v9) 5 rfl rfl dL_law_4075 ?_
    refine g_iconst (pc := 4076) (v := (0 : Int32)) ic_0 dL_law_4076 ?_
    refine g_laload (pc := 4077) rfl dL_law_4077 fun v944 => ?_
    refine g_iload (pc := 4078) (x := v937) 0 rfl dL_law_4078 ?_
    refine g_i2l (pc := 4080) dL_law_4080 ?_
    refine g_lcmp (pc := 4081) dL_law_4081 ?_
    refine g_if_eq (pc := 4082) (tgt := 4087) rfl dL_law_4082 ?_ ?_
    · exact g_sub [2, 3, 4, 5, 6, 7] rfl (Hj943 () h940)
    refine g_iconst (pc := 4085) (v := (0 : Int32)) ic_0 dL_law_4085 ?_
    exact g_zreturn (pc := 4086) rfl dL_law_4086
  · refine g_aload_n (pc := 4090) (x := v1) 1 rfl rfl dL_law_4090 ?_
    refine g_aload_n (pc := 4091) (x := v9) 3 rfl rfl dL_law_4091 ?_
    refine g_bi (pc := 4092) (y := yX0_undo) (ws := wsW_ yX0_undo cX0_undo 3 (some .int) [(0, 8, 11, 21)]) (fr := 8) (lo := 121) (as := [gr v1, gr v9]) (st := []) (g_no) rfl (fun _ _ e => tX0_undo hs e) (fun K _ _ hM R e1 e2 => g_runSX (M := mL_law) (pc := 4092) (y := yX0_undo) (bytes := cX0_undo) (maxL := 3) (ret := (some .int)) (hh := [(0, 8, 11, 21)]) (fr := 8) (lo := 121) (as := [gr v1, gr v9]) (st := []) gy_X0_undo (gbl rfl) (gbl rfl) (gbl rfl) q3908 q3909 dL_law_4092 K hM R e1 e2) fun v947 h948 => ?_
    refine g_istore (pc := 4095) (lv' := [(6, gi v947), (0, gr a0), (1, gr v1), (2, gr v5), (3, gr v9), (4, gr v11), (5, gi x13)]) [0, 1, 2, 3, 4, 5, 6] rfl (gblt rfl) dL_law_4095 ?_
    refine g_aload_n (pc := 4097) (x := v5) 3 rfl rfl dL_law_4097 ?_
    refine g_bVi (pc := 4098) (y := yX2_undo) (ws := ws_ yX2_undo cX2_undo 1 (some .int)) (fr := 1) (lo := 24) (as := []) (st := []) (g_no) rfl (fun _ _ _ e => tX2_undo hs e) (fun K _ _ _ hq hM R e1 e2 => g_runV (M := mL_law) (pc := 4098) (y := yX2_undo) (bytes := cX2_undo) (maxL := 1) (ret := (some .int)) (fr := 1) (lo := 24) (as := []) (st := []) hq (C := "FlareSlopesModel") rfl gy_X2_undo (gbl rfl) (gbl rfl) (gbl rfl) q4599 q4600 q4601 dL_law_4098 K hM R e1 e2) fun v949 h950 => ?_
    refine g_istore (pc := 4101) (lv' := [(7, gi v949), (6, gi v947), (0, gr a0), (1, gr v1), (2, gr v5), (3, gr v9), (4, gr v11), (5, gi x13)]) [0, 1, 2, 3, 4, 5, 6, 7] rfl (gblt rfl) dL_law_4101 ?_
    refine g_aload_n (pc := 4103) (x := v5) 4 rfl rfl dL_law_4103 ?_
    refine g_bVi (pc := 4104) (y := yX2_thrown) (ws := ws_ yX2_thrown cX2_thrown 1 (some .int)) (fr := 0) (lo := 0) (as := []) (st := []) (g_no) rfl (fun _ _ _ e => tX2_thrown hs e) (fun K _ _ _ hq hM R e1 e2 => g_runV (M := mL_law) (pc := 4104) (y := yX2_thrown) (bytes := cX2_thrown) (maxL := 1) (ret := (some .int)) (fr := 0) (lo := 0) (as := []) (st := []) hq (C := "FlareSlopesModel") rfl gy_X2_thrown (gbl rfl) (gbl rfl) (gbl rfl) q4009 q4010 q4011 dL_law_4104 K hM R e1 e2) fun v951 h952 => ?_
    refine g_iload (pc := 4107) (x := v947) 1 rfl dL_law_4107 ?_
    refine g_icmp_eq (pc := 4109) (tgt := 4114) rfl dL_law_4109 ?_ ?_
    rotate_left
    · refine g_iconst (pc := 4112) (v := (0 : Int32)) ic_0 dL_law_4112 ?_
      exact g_zreturn (pc := 4113) rfl dL_law_4113
    refine g_iload (pc := 4114) (x := v947) 1 rfl dL_law_4114 ?_
    refine g_join 4131 (fun (x953 : Unit) => [(0, gr a0), (1, gr v1), (2, gr v5), (3, gr v9), (4, gr v11), (5, gi x13)]) (fun (x953 : Unit) => []) (fun x953 h954 => ?_) (fun j955 Hj955 => ?_)
    · refine g_goto (pc := 4131) (tgt := 4259) rfl dL_law_4131 ?_
      exact Hj20 () h954
    refine g_if_ne (pc := 4116) (tgt := 4131) rfl dL_law_4116 ?_ ?_
    rotate_left
    · exact g_sub [2, 3, 4, 5, 6, 7] rfl (Hj955 () h952)
    refine g_aload_n (pc := 4119) (x := v9) 5 rfl rfl dL_law_4119 ?_
    refine g_iconst (pc := 4120) (v := (0 : Int32)) ic_0 dL_law_4120 ?_
    refine g_laload (pc := 4121) rfl dL_law_4121 fun v956 => ?_
    refine g_iload (pc := 4122) (x := v949) 0 rfl dL_law_4122 ?_
    refine g_i2l (pc := 4124) dL_law_4124 ?_
    refine g_lcmp (pc := 4125) dL_law_4125 ?_
    refine g_if_eq (pc := 4126) (tgt := 4131) rfl dL_law_4126 ?_ ?_
    · exact g_sub [2, 3, 4, 5, 6, 7] rfl (Hj955 () h952)
    refine g_iconst (pc := 4129) (v := (0 : Int32)) ic_0 dL_law_4129 ?_
    exact g_zreturn (pc := 4130) rfl dL_law_4130
  · refine g_aload_n (pc := 4134) (x := v1) 1 rfl rfl dL_law_4134 ?_
    refine g_bVi (pc := 4135) (y := yX1_undoable) (ws := ws_ yX1_undoable cX1_undoable 1 (some .int)) (fr := 2) (lo := 42) (as := []) (st := []) (g_no) rfl (fun _ _ _ e => tX1_undoable hs e) (fun K _ _ _ hq hM R e1 e2 => g_runV (M := mL_law) (pc := 4135) (y := yX1_undoable) (bytes := cX1_undoable) (maxL := 1) (ret := (some .int)) (fr := 2) (lo := 42) (as := []) (st := []) hq (C := "FlareSlopes") rfl gy_X1_undoable (gbl rfl) (gbl rfl) (gbl rfl) q311 q312 q313 dL_law_4135 K hM R e1 e2) fun v959 h960 => ?_
    refine g_aload_n (pc := 4138) (x := v5) 2 rfl rfl dL_law_4138 ?_
    refine g_bVi (pc := 4139) (y := yX2_undoable) (ws := ws_ yX2_undoable cX2_undoable 1 (some .int)) (fr := 0) (lo := 0) (as := []) (st := [gi v959]) (g_no) rfl (fun _ _ _ e => tX2_undoable hs e) (fun K _ _ _ hq hM R e1 e2 => g_runV (M := mL_law) (pc := 4139) (y := yX2_undoable) (bytes := cX2_undoable) (maxL := 1) (ret := (some .int)) (fr := 0) (lo := 0) (as := []) (st := [gi v959]) hq (C := "FlareSlopesModel") rfl gy_X2_undoable (gbl rfl) (gbl rfl) (gbl rfl) q4603 q4604 q4605 dL_law_4139 K hM R e1 e2) fun v961 h962 => ?_
    refine g_icmp_eq (pc := 4142) (tgt := 4259) rfl dL_law_4142 ?_ ?_
    · exact Hj20 () h962
    refine g_iconst (pc := 4145) (v := (0 : Int32)) ic_0 dL_law_4145 ?_
    exact g_zreturn (pc := 4146) rfl dL_law_4146
  · refine g_aload_n (pc := 4147) (x := v1) 1 rfl rfl dL_law_4147 ?_
    refine g_aload_n (pc := 4148) (x := a0) 0 rfl rfl dL_law_4148 ?_
    refine g_iload (pc := 4149) (x := x13) 5 rfl dL_law_4149 ?_
    refine g_iconst (pc := 4151) (v := (1 : Int32)) ic_1 dL_law_4151 ?_
    refine g_iadd (pc := 4152) dL_law_4152 ?_
    refine g_iaload (pc := 4153) rfl dL_law_4153 fun v965 => ?_
    refine g_aload_n (pc := 4154) (x := v9) 3 rfl rfl dL_law_4154 ?_
    refine g_bi (pc := 4155) (y := yX0_save) (ws := wsW_ yX0_save cX0_save 4 (some .int) [(0, 9, 12, 21), (0, 9, 15, 13)]) (fr := 9) (lo := 207) (as := [gr v1, gi v965, gr v9]) (st := []) (g_no) rfl (fun _ _ e => tX0_save hs e) (fun K _ _ hM R e1 e2 => g_runSX (M := mL_law) (pc := 4155) (y := yX0_save) (bytes := cX0_save) (maxL := 4) (ret := (some .int)) (hh := [(0, 9, 12, 21), (0, 9, 15, 13)]) (fr := 9) (lo := 207) (as := [gr v1, gi v965, gr v9]) (st := []) gy_X0_save (gbl rfl) (gbl rfl) (gbl rfl) q3920 q3921 dL_law_4155 K hM R e1 e2) fun v966 h967 => ?_
    refine g_istore (pc := 4158) (lv' := [(6, gi v966), (0, gr a0), (1, gr v1), (2, gr v5), (3, gr v9), (4, gr v11), (5, gi x13)]) [0, 1, 2, 3, 4, 5, 6] rfl (gblt rfl) dL_law_4158 ?_
    refine g_aload_n (pc := 4160) (x := v5) 3 rfl rfl dL_law_4160 ?_
    refine g_aload_n (pc := 4161) (x := a0) 1 rfl rfl dL_law_4161 ?_
    refine g_iload (pc := 4162) (x := x13) 6 rfl dL_law_4162 ?_
    refine g_iconst (pc := 4164) (v := (1 : Int32)) ic_1 dL_law_4164 ?_
    refine g_iadd (pc := 4165) dL_law_4165 ?_
    refine g_iaload (pc := 4166) rfl dL_law_4166 fun v968 => ?_
    refine g_bVi (pc := 4167) (y := yX2_save) (ws := ws_ yX2_save cX2_save 2 (some .int)) (fr := 2) (lo := 45) (as := [gi v968]) (st := []) (g_no) rfl (fun _ _ _ e => tX2_save hs e) (fun K _ _ _ hq hM R e1 e2 => g_runV (M := mL_law) (pc := 4167) (y := yX2_save) (bytes := cX2_save) (maxL := 2) (ret := (some .int)) (fr := 2) (lo := 45) (as := [gi v968]) (st := []) hq (C := "FlareSlopesModel") rfl gy_X2_save (gbl rfl) (gbl rfl) (gbl rfl) q4607 q4608 q4609 dL_law_4167 K hM R e1 e2) fun v969 h970 => ?_
    refine g_istore (pc := 4170) (lv' := [(7, gi v969), (6, gi v966), (0, gr a0), (1, gr v1), (2, gr v5), (3, gr v9), (4, gr v11), (5, gi x13)]) [0, 1, 2, 3, 4, 5, 6, 7] rfl (gblt rfl) dL_law_4170 ?_
    refine g_aload_n (pc := 4172) (x := v5) 4 rfl rfl dL_law_4172 ?_
    refine g_bVi (pc := 4173) (y := yX2_thrown) (ws := ws_ yX2_thrown cX2_thrown 1 (some .int)) (fr := 0) (lo := 0) (as := []) (st := []) (g_no) rfl (fun _ _ _ e => tX2_thrown hs e) (fun K _ _ _ hq hM R e1 e2 => g_runV (M := mL_law) (pc := 4173) (y := yX2_thrown) (bytes := cX2_thrown) (maxL := 1) (ret := (some .int)) (fr := 0) (lo := 0) (as := []) (st := []) hq (C := "FlareSlopesModel") rfl gy_X2_thrown (gbl rfl) (gbl rfl) (gbl rfl) q4009 q4010 q4011 dL_law_4173 K hM R e1 e2) fun v971 h972 => ?_
    refine g_iload (pc := 4176) (x := v966) 1 rfl dL_law_4176 ?_
    refine g_icmp_eq (pc := 4178) (tgt := 4183) rfl dL_law_4178 ?_ ?_
    rotate_left
    · refine g_iconst (pc := 4181) (v := (0 : Int32)) ic_0 dL_law_4181 ?_
      exact g_zreturn (pc := 4182) rfl dL_law_4182
    refine g_iload (pc := 4183) (x := v966) 1 rfl dL_law_4183 ?_
    refine g_join 4200 (fun (x973 : Unit) => [(0, gr a0), (1, gr v1), (2, gr v5), (3, gr v9), (4, gr v11), (5, gi x13)]) (fun (x973 : Unit) => []) (fun x973 h974 => ?_) (fun j975 Hj975 => ?_)
    · refine g_goto (pc := 4200) (tgt := 4259) rfl dL_law_4200 ?_
      exact Hj20 () h974
    refine g_if_ne (pc := 4185) (tgt := 4200) rfl dL_law_4185 ?_ ?_
    rotate_left
    · exact g_sub [2, 3, 4, 5, 6, 7] rfl (Hj975 () h972)
    refine g_aload_n (pc := 4188) (x := v9) 5 rfl rfl dL_law_4188 ?_
    refine g_iconst (pc := 4189) (v := (0 : Int32)) ic_0 dL_law_4189 ?_
    refine g_laload (pc := 4190) rfl dL_law_4190 fun v976 => ?_
    refine g_iload (pc := 4191) (x := v969) 0 rfl dL_law_4191 ?_
    refine g_i2l (pc := 4193) dL_law_4193 ?_
    refine g_lcmp (pc := 4194) dL_law_4194 ?_
    refine g_if_eq (pc := 4195) (tgt := 4200) rfl dL_law_4195 ?_ ?_
    · exact g_sub [2, 3, 4, 5, 6, 7] rfl (Hj975 () h972)
    refine g_iconst (pc := 4198) (v := (0 : Int32)) ic_0 dL_law_4198 ?_
    exact g_zreturn (pc := 4199) rfl dL_law_4199
  · refine g_aload_n (pc := 4203) (x := v1) 1 rfl rfl dL_law_4203 ?_
    refine g_aload_n (pc := 4204) (x := a0) 0 rfl rfl dL_law_4204 ?_
    refine g_iload (pc := 4205) (x := x13) 5 rfl dL_law_4205 ?_
    refine g_iconst (pc := 4207) (v := (1 : Int32)) ic_1 dL_law_4207 ?_
    refine g_iadd (pc := 4208) dL_law_4208 ?_
    refine g_iaload (pc := 4209) rfl dL_law_4209 fun v979 => ?_
    refine g_aload_n (pc := 4210) (x := v9) 3 rfl rfl dL_law_4210 ?_
    refine g_bi (pc := 4211) (y := yX0_restore) (ws := wsW_ yX0_restore cX0_restore 4 (some .int) [(0, 9, 12, 13), (0, 9, 15, 21)]) (fr := 9) (lo := 206) (as := [gr v1, gi v979, gr v9]) (st := []) (g_no) rfl (fun _ _ e => tX0_restore hs e) (fun K _ _ hM R e1 e2 => g_runSX (M := mL_law) (pc := 4211) (y := yX0_restore) (bytes := cX0_restore) (maxL := 4) (ret := (some .int)) (hh := [(0, 9, 12, 13), (0, 9, 15, 21)]) (fr := 9) (lo := 206) (as := [gr v1, gi v979, gr v9]) (st := []) gy_X0_restore (gbl rfl) (gbl rfl) (gbl rfl) q3927 q3928 dL_law_4211 K hM R e1 e2) fun v980 h981 => ?_
    refine g_istore (pc := 4214) (lv' := [(6, gi v980), (0, gr a0), (1, gr v1), (2, gr v5), (3, gr v9), (4, gr v11), (5, gi x13)]) [0, 1, 2, 3, 4, 5, 6] rfl (gblt rfl) dL_law_4214 ?_
    refine g_aload_n (pc := 4216) (x := v5) 3 rfl rfl dL_law_4216 ?_
    refine g_aload_n (pc := 4217) (x := a0) 1 rfl rfl dL_law_4217 ?_
    refine g_iload (pc := 4218) (x := x13) 6 rfl dL_law_4218 ?_
    refine g_iconst (pc := 4220) (v := (1 : Int32)) ic_1 dL_law_4220 ?_
    refine g_iadd (pc := 4221) dL_law_4221 ?_
    refine g_iaload (pc := 4222) rfl dL_law_4222 fun v982 => ?_
    refine g_bVi (pc := 4223) (y := yX2_restore) (ws := ws_ yX2_restore cX2_restore 3 (some .int)) (fr := 2) (lo := 45) (as := [gi v982]) (st := []) (g_no) rfl (fun _ _ _ e => tX2_restore hs e) (fun K _ _ _ hq hM R e1 e2 => g_runV (M := mL_law) (pc := 4223) (y := yX2_restore) (bytes := cX2_restore) (maxL := 3) (ret := (some .int)) (fr := 2) (lo := 45) (as := [gi v982]) (st := []) hq (C := "FlareSlopesModel") rfl gy_X2_restore (gbl rfl) (gbl rfl) (gbl rfl) q4611 q4612 q4613 dL_law_4223 K hM R e1 e2) fun v983 h984 => ?_
    refine g_istore (pc := 4226) (lv' := [(7, gi v983), (6, gi v980), (0, gr a0), (1, gr v1), (2, gr v5), (3, gr v9), (4, gr v11), (5, gi x13)]) [0, 1, 2, 3, 4, 5, 6, 7] rfl (gblt rfl) dL_law_4226 ?_
    refine g_aload_n (pc := 4228) (x := v5) 4 rfl rfl dL_law_4228 ?_
    refine g_bVi (pc := 4229) (y := yX2_thrown) (ws := ws_ yX2_thrown cX2_thrown 1 (some .int)) (fr := 0) (lo := 0) (as := []) (st := []) (g_no) rfl (fun _ _ _ e => tX2_thrown hs e) (fun K _ _ _ hq hM R e1 e2 => g_runV (M := mL_law) (pc := 4229) (y := yX2_thrown) (bytes := cX2_thrown) (maxL := 1) (ret := (some .int)) (fr := 0) (lo := 0) (as := []) (st := []) hq (C := "FlareSlopesModel") rfl gy_X2_thrown (gbl rfl) (gbl rfl) (gbl rfl) q4009 q4010 q4011 dL_law_4229 K hM R e1 e2) fun v985 h986 => ?_
    refine g_iload (pc := 4232) (x := v980) 1 rfl dL_law_4232 ?_
    refine g_icmp_eq (pc := 4234) (tgt := 4239) rfl dL_law_4234 ?_ ?_
    rotate_left
    · refine g_iconst (pc := 4237) (v := (0 : Int32)) ic_0 dL_law_4237 ?_
      exact g_zreturn (pc := 4238) rfl dL_law_4238
    refine g_iload (pc := 4239) (x := v980) 1 rfl dL_law_4239 ?_
    refine g_join 4256 (fun (x987 : Unit) => [(0, gr a0), (1, gr v1), (2, gr v5), (3, gr v9), (4, gr v11), (5, gi x13)]) (fun (x987 : Unit) => []) (fun x987 h988 => ?_) (fun j989 Hj989 => ?_)
    · refine g_goto (pc := 4256) (tgt := 4259) rfl dL_law_4256 ?_
      exact Hj20 () h988
    refine g_if_ne (pc := 4241) (tgt := 4256) rfl dL_law_4241 ?_ ?_
    rotate_left
    · exact g_sub [2, 3, 4, 5, 6, 7] rfl (Hj989 () h986)
    refine g_aload_n (pc := 4244) (x := v9) 5 rfl rfl dL_law_4244 ?_
    refine g_iconst (pc := 4245) (v := (0 : Int32)) ic_0 dL_law_4245 ?_
    refine g_laload (pc := 4246) rfl dL_law_4246 fun v990 => ?_
    refine g_iload (pc := 4247) (x := v983) 0 rfl dL_law_4247 ?_
    refine g_i2l (pc := 4249) dL_law_4249 ?_
    refine g_lcmp (pc := 4250) dL_law_4250 ?_
    refine g_if_eq (pc := 4251) (tgt := 4256) rfl dL_law_4251 ?_ ?_
    · exact g_sub [2, 3, 4, 5, 6, 7] rfl (Hj989 () h986)
    refine g_iconst (pc := 4254) (v := (0 : Int32)) ic_0 dL_law_4254 ?_
    exact g_zreturn (pc := 4255) rfl dL_law_4255
