set_option maxRecDepth 100000
set_option maxHeartbeats 4000000
/-! FlareSlopes$Mountain.mist(I)I -/
noncomputable def bX5_mist_4 (G : GG) (N : Nat) (a0 : Option Nat) (a1 : Int32) (w3 : (Int32 × Int32) → Hp → Out (Int32)) (x1 : Int32 × Int32) (h2 : Hp) : Out (Int32) :=
  gFr h2 a0 11 3 fun v4 =>
  bV h2 v4 24 (fun q15 => sJ12_size G N (some q15) h2) fun v5 h6 =>
  if v5 ≤ x1.2 then (some (.inl x1.1, h6))
  else gFr h6 a0 11 3 fun v7 =>
  bV h6 v7 24 (fun q14 => sJ12_get G N (some q14) x1.2 h6) fun v8 h9 =>
  gCk h9 v8 [9] (bV h9 v8 9 (fun q13 => sX11_at G N (some q13) a1 h9) fun v10 h11 =>
  gLet (x1.1 + v10) fun v12 =>
  w3 (v12, x1.2 + (1 : Int32)) h11)
noncomputable def sX5_mist (G : GG) (N : Nat) (a0 : Option Nat) (a1 : Int32) (h : Hp) : Out (Int32) :=
  gLp (bX5_mist_4 G N a0 a1) N ((0 : Int32), (0 : Int32)) h
abbrev mX5_mist : MI := (RX5, cX5_mist, 4, (some .int), [], 3, 64, "mist")
theorem tX5_mist {G : GG} {l : Launch} (hs : l.stackTraces = false) {N : Nat} {a0 : Option Nat} {a1 : Int32} {h : Hp} {r : Int32 ⊕ Nat} {hf : Hp} (ho : sX5_mist G N a0 a1 h = some (r, hf)) : gMet G l yX5_mist (ws_ yX5_mist cX5_mist 4 (some .int)) 3 64 [gr a0, gi a1] h cvI r hf := by
  refine gMet.of ho hs (plainFor_of_name pn_X5) rfl rfl (gbl rfl) fun X => ?_
  show gT G l X mX5_mist cvI r hf 0 [(0, gr a0), (1, gi a1)] [] h (sX5_mist G N a0 a1 h)
  delta sX5_mist
  refine g_iconst (pc := 0) (v := (0 : Int32)) ic_0 dX5_mist_0 ?_
  refine g_istore_n (pc := 1) (lv' := [(2, gi (0 : Int32)), (0, gr a0), (1, gi a1)]) [0, 1, 2] rfl rfl (gblt rfl) dX5_mist_1 ?_
  refine g_iconst (pc := 2) (v := (0 : Int32)) ic_0 dX5_mist_2 ?_
  refine g_istore_n (pc := 3) (lv' := [(3, gi (0 : Int32)), (2, gi (0 : Int32)), (0, gr a0), (1, gi a1)]) [0, 1, 2, 3] rfl rfl (gblt rfl) dX5_mist_3 ?_
  refine g_sub (lv' := [(0, gr a0), (1, gi a1), (2, gi (0 : Int32)), (3, gi (0 : Int32))]) [2, 3, 1, 0] rfl ?_
  refine g_loop (pc := 4) (fun (x1 : Int32 × Int32) => [(0, gr a0), (1, gi a1), (2, gi x1.1), (3, gi x1.2)]) (fun (_ : Int32 × Int32) => []) (fun w3 Hw3 x1 h2 => ?_) N ((0 : Int32), (0 : Int32)) h
  delta bX5_mist_4
  refine g_iload_n (pc := 4) (x := x1.2) 3 rfl rfl dX5_mist_4 ?_
  refine g_aload_n (pc := 5) (x := a0) 0 rfl rfl dX5_mist_5 ?_
  refine g_getfr (pc := 6) k_11 (gblt rfl) lk_X5_30_11 dX5_mist_6 fun v4 => ?_
  refine g_bVi (pc := 9) (y := yJ12_size) (ws := ws_ yJ12_size cJ12_size 1 (some .int)) (fr := 0) (lo := 0) (as := []) (st := [gi x1.2]) (g_no) rfl (fun _ _ _ e => tJ12_size hs e) (fun K _ _ _ hq hM R e1 e2 => g_runF (x := ⟨"java/util/List", "size", "()I"⟩) (M := mX5_mist) (pc := 9) (y := yJ12_size) (bytes := cJ12_size) (maxL := 1) (ret := (some .int)) (fr := 0) (lo := 0) (as := []) (st := [gi x1.2]) hq (C := "java/util/ArrayList") rfl gy_J12_size rfl (gbl rfl) (gbl rfl) (gbl rfl) q1657 q970 q969 q975 q973 q971 mhx_java_util_List q972 q974 dX5_mist_9 K hM R e1 e2) fun v5 h6 => ?_
  refine g_icmp_ge (pc := 14) (tgt := 43) rfl dX5_mist_14 ?_ ?_
  · refine g_iload_n (pc := 43) (x := x1.1) 2 rfl rfl dX5_mist_43 ?_
    exact g_ireturn (pc := 44) rfl dX5_mist_44
  refine g_iload_n (pc := 17) (x := x1.1) 2 rfl rfl dX5_mist_17 ?_
  refine g_aload_n (pc := 18) (x := a0) 0 rfl rfl dX5_mist_18 ?_
  refine g_getfr (pc := 19) k_11 (gblt rfl) lk_X5_30_11 dX5_mist_19 fun v7 => ?_
  refine g_iload_n (pc := 22) (x := x1.2) 3 rfl rfl dX5_mist_22 ?_
  refine g_bVr (pc := 23) (y := yJ12_get) (ws := ws_ yJ12_get cJ12_get 2 (some (.object "java/lang/Object"))) (fr := 2) (lo := 43) (as := [gi x1.2]) (st := [gi x1.1]) (g_no) rfl (fun _ _ _ e => tJ12_get hs e) (fun K _ _ _ hq hM R e1 e2 => g_runF (x := ⟨"java/util/List", "get", "(I)Ljava/lang/Object;"⟩) (M := mX5_mist) (pc := 23) (y := yJ12_get) (bytes := cJ12_get) (maxL := 2) (ret := (some (.object "java/lang/Object"))) (fr := 2) (lo := 43) (as := [gi x1.2]) (st := [gi x1.1]) hq (C := "java/util/ArrayList") rfl gy_J12_get rfl (gbl rfl) (gbl rfl) (gbl rfl) q1659 q992 q991 q996 q994 q971 mhx_java_util_List q993 q995 dX5_mist_23 K hM R e1 e2) fun v8 h9 => ?_
  refine g_checkcast (pc := 28) q1660 as_9_FlareSlopes_Fog dX5_mist_28 ?_
  refine g_iload_n (pc := 31) (x := a1) 1 rfl rfl dX5_mist_31 ?_
  refine g_bVi (pc := 32) (y := yX11_at) (ws := ws_ yX11_at cX11_at 2 (some .int)) (fr := 1) (lo := 22) (as := [gi a1]) (st := [gi x1.1]) (g_no) rfl (fun _ _ _ e => tX11_at hs e) (fun K _ _ _ hq hM R e1 e2 => g_runV (M := mX5_mist) (pc := 32) (y := yX11_at) (bytes := cX11_at) (maxL := 2) (ret := (some .int)) (fr := 1) (lo := 22) (as := [gi a1]) (st := [gi x1.1]) hq (C := "FlareSlopes$Fog") rfl gy_X11_at (gbl rfl) (gbl rfl) (gbl rfl) q1661 q1662 q1663 dX5_mist_32 K hM R e1 e2) fun v10 h11 => ?_
  refine g_iadd (pc := 35) dX5_mist_35 ?_
  refine g_leti fun v12 => ?_
  refine g_istore_n (pc := 36) (lv' := [(2, gi v12), (0, gr a0), (1, gi a1), (3, gi x1.2)]) [0, 1, 2, 3] rfl rfl (gblt rfl) dX5_mist_36 ?_
  refine g_iinc (pc := 37) (v := x1.2 + (1 : Int32)) 3 rfl (ii_1 _) (lv' := [(3, gi (x1.2 + (1 : Int32))), (2, gi v12), (0, gr a0), (1, gi a1)]) [0, 1, 2, 3] rfl (gblt rfl) dX5_mist_37 ?_
  refine g_goto (pc := 40) (tgt := 4) rfl dX5_mist_40 ?_
  exact g_sub [2, 3, 1, 0] rfl (Hw3 (v12, x1.2 + (1 : Int32)) h11)
/-! FlareSlopes$State.sight()I -/
noncomputable def sX3_sight (G : GG) (N : Nat) (a0 : Option Nat) (h : Hp) : Out (Int32) :=
  gFr h a0 16 2 fun v1 =>
  gAi h v1 0 (0 : Int32) fun v2 =>
  gFr h a0 16 0 fun v3 =>
  gFi h a0 16 4 fun v4 =>
  bV h v3 11 (fun q9 => sX5_mist G N (some q9) v4 h) fun v5 h6 =>
  bnd (sJ14_max G N (0 : Int32) (v2 - v5) h6) fun v7 h8 =>
  some (.inl v7, h8)
abbrev mX3_sight : MI := (RX3, cX3_sight, 1, (some .int), [], 4, 87, "sight")
theorem tX3_sight {G : GG} {l : Launch} (hs : l.stackTraces = false) {N : Nat} {a0 : Option Nat} {h : Hp} {r : Int32 ⊕ Nat} {hf : Hp} (ho : sX3_sight G N a0 h = some (r, hf)) : gMet G l yX3_sight (ws_ yX3_sight cX3_sight 1 (some .int)) 4 87 [gr a0] h cvI r hf := by
  refine gMet.of ho hs (plainFor_of_name pn_X3) rfl rfl (gbl rfl) fun X => ?_
  show gT G l X mX3_sight cvI r hf 0 [(0, gr a0)] [] h (sX3_sight G N a0 h)
  delta sX3_sight
  refine g_iconst (pc := 0) (v := (0 : Int32)) ic_0 dX3_sight_0 ?_
  refine g_aload_n (pc := 1) (x := a0) 0 rfl rfl dX3_sight_1 ?_
  refine g_getfr (pc := 2) k_16 (gblt rfl) lk_X3_18_16 dX3_sight_2 fun v1 => ?_
  refine g_iconst (pc := 5) (v := (0 : Int32)) ic_0 dX3_sight_5 ?_
  refine g_iaload (pc := 6) rfl dX3_sight_6 fun v2 => ?_
  refine g_aload_n (pc := 7) (x := a0) 0 rfl rfl dX3_sight_7 ?_
  refine g_getfr (pc := 8) k_16 (gblt rfl) lk_X3_35_16 dX3_sight_8 fun v3 => ?_
  refine g_aload_n (pc := 11) (x := a0) 0 rfl rfl dX3_sight_11 ?_
  refine g_getfi (pc := 12) k_16 (gblt rfl) lk_X3_98_16 dX3_sight_12 fun v4 => ?_
  refine g_bVi (pc := 15) (y := yX5_mist) (ws := ws_ yX5_mist cX5_mist 4 (some .int)) (fr := 3) (lo := 64) (as := [gi v4]) (st := [gi v2, gi (0 : Int32)]) (g_no) rfl (fun _ _ _ e => tX5_mist hs e) (fun K _ _ _ hq hM R e1 e2 => g_runV (M := mX3_sight) (pc := 15) (y := yX5_mist) (bytes := cX5_mist) (maxL := 4) (ret := (some .int)) (fr := 3) (lo := 64) (as := [gi v4]) (st := [gi v2, gi (0 : Int32)]) hq (C := "FlareSlopes$Mountain") rfl gy_X5_mist (gbl rfl) (gbl rfl) (gbl rfl) q1652 q1653 q1654 dX3_sight_15 K hM R e1 e2) fun v5 h6 => ?_
  refine g_isub (pc := 18) dX3_sight_18 ?_
  refine g_bi (pc := 19) (y := yJ14_max) (ws := ws_ yJ14_max cJ14_max 2 (some .int)) (fr := 0) (lo := 0) (as := [gi (0 : Int32), gi (v2 - v5)]) (st := []) (g_no) rfl (fun _ _ e => tJ14_max hs e) (fun K _ _ hM R e1 e2 => g_runS (M := mX3_sight) (pc := 19) (y := yJ14_max) (bytes := cJ14_max) (maxL := 2) (ret := (some .int)) (fr := 0) (lo := 0) (as := [gi (0 : Int32), gi (v2 - v5)]) (st := []) gy_J14_max (gbl rfl) (gbl rfl) (gbl rfl) q1666 q638 dX3_sight_19 K hM R e1 e2) fun v7 h8 => ?_
  exact g_ireturn (pc := 22) rfl dX3_sight_22
/-! FlareSlopes$Cabin.x()I -/
noncomputable def sX12_x (G : GG) (N : Nat) (a0 : Option Nat) (h : Hp) : Out (Int32) :=
  gFi h a0 7 0 fun v1 =>
  some (.inl v1, h)
abbrev mX12_x : MI := (RX12, cX12_x, 1, (some .int), [], 0, 0, "x")
theorem tX12_x {G : GG} {l : Launch} (hs : l.stackTraces = false) {N : Nat} {a0 : Option Nat} {h : Hp} {r : Int32 ⊕ Nat} {hf : Hp} (ho : sX12_x G N a0 h = some (r, hf)) : gMet G l yX12_x (ws_ yX12_x cX12_x 1 (some .int)) 0 0 [gr a0] h cvI r hf := by
  refine gMet.of ho hs (plainFor_of_name pn_X12) rfl rfl (gbl rfl) fun X => ?_
  show gT G l X mX12_x cvI r hf 0 [(0, gr a0)] [] h (sX12_x G N a0 h)
  delta sX12_x
  refine g_aload_n (pc := 0) (x := a0) 0 rfl rfl dX12_x_0 ?_
  refine g_getfi (pc := 1) k_7 (gblt rfl) lk_X12_34_7 dX12_x_1 fun v1 => ?_
  exact g_ireturn (pc := 4) rfl dX12_x_4
/-! FlareSlopes$Spot.x()I -/
noncomputable def sX9_x (G : GG) (N : Nat) (a0 : Option Nat) (h : Hp) : Out (Int32) :=
  gFi h a0 15 1 fun v1 =>
  some (.inl v1, h)
abbrev mX9_x : MI := (RX9, cX9_x, 1, (some .int), [], 0, 0, "x")
theorem tX9_x {G : GG} {l : Launch} (hs : l.stackTraces = false) {N : Nat} {a0 : Option Nat} {h : Hp} {r : Int32 ⊕ Nat} {hf : Hp} (ho : sX9_x G N a0 h = some (r, hf)) : gMet G l yX9_x (ws_ yX9_x cX9_x 1 (some .int)) 0 0 [gr a0] h cvI r hf := by
  refine gMet.of ho hs (plainFor_of_name pn_X9) rfl rfl (gbl rfl) fun X => ?_
  show gT G l X mX9_x cvI r hf 0 [(0, gr a0)] [] h (sX9_x G N a0 h)
  delta sX9_x
  refine g_aload_n (pc := 0) (x := a0) 0 rfl rfl dX9_x_0 ?_
  refine g_getfi (pc := 1) k_15 (gblt rfl) lk_X9_13_15 dX9_x_1 fun v1 => ?_
  exact g_ireturn (pc := 4) rfl dX9_x_4
/-! FlareSlopes$Located.square(I)I -/
noncomputable def sX13_square (G : GG) (N : Nat) (a0 : Int32) (h : Hp) : Out (Int32) :=
  some (.inl (a0 * a0), h)
abbrev mX13_square : MI := (RX13, cX13_square, 1, (some .int), [], 0, 0, "square")
theorem tX13_square {G : GG} {l : Launch} (hs : l.stackTraces = false) {N : Nat} {a0 : Int32} {h : Hp} {r : Int32 ⊕ Nat} {hf : Hp} (ho : sX13_square G N a0 h = some (r, hf)) : gMet G l yX13_square (ws_ yX13_square cX13_square 1 (some .int)) 0 0 [gi a0] h cvI r hf := by
  refine gMet.of ho hs (plainFor_of_name pn_X13) rfl rfl (gbl rfl) fun X => ?_
  show gT G l X mX13_square cvI r hf 0 [(0, gi a0)] [] h (sX13_square G N a0 h)
  delta sX13_square
  refine g_iload_n (pc := 0) (x := a0) 0 rfl rfl dX13_square_0 ?_
  refine g_iload_n (pc := 1) (x := a0) 0 rfl rfl dX13_square_1 ?_
  refine g_imul (pc := 2) dX13_square_2 ?_
  exact g_ireturn (pc := 3) rfl dX13_square_3
/-! FlareSlopes$Cabin.y()I -/
noncomputable def sX12_y (G : GG) (N : Nat) (a0 : Option Nat) (h : Hp) : Out (Int32) :=
  gFi h a0 7 1 fun v1 =>
  some (.inl v1, h)
abbrev mX12_y : MI := (RX12, cX12_y, 1, (some .int), [], 0, 0, "y")
theorem tX12_y {G : GG} {l : Launch} (hs : l.stackTraces = false) {N : Nat} {a0 : Option Nat} {h : Hp} {r : Int32 ⊕ Nat} {hf : Hp} (ho : sX12_y G N a0 h = some (r, hf)) : gMet G l yX12_y (ws_ yX12_y cX12_y 1 (some .int)) 0 0 [gr a0] h cvI r hf := by
  refine gMet.of ho hs (plainFor_of_name pn_X12) rfl rfl (gbl rfl) fun X => ?_
  show gT G l X mX12_y cvI r hf 0 [(0, gr a0)] [] h (sX12_y G N a0 h)
  delta sX12_y
  refine g_aload_n (pc := 0) (x := a0) 0 rfl rfl dX12_y_0 ?_
  refine g_getfi (pc := 1) k_7 (gblt rfl) lk_X12_38_7 dX12_y_1 fun v1 => ?_
  exact g_ireturn (pc := 4) rfl dX12_y_4
/-! FlareSlopes$Spot.y()I -/
noncomputable def sX9_y (G : GG) (N : Nat) (a0 : Option Nat) (h : Hp) : Out (Int32) :=
  gFi h a0 15 2 fun v1 =>
  some (.inl v1, h)
abbrev mX9_y : MI := (RX9, cX9_y, 1, (some .int), [], 0, 0, "y")
theorem tX9_y {G : GG} {l : Launch} (hs : l.stackTraces = false) {N : Nat} {a0 : Option Nat} {h : Hp} {r : Int32 ⊕ Nat} {hf : Hp} (ho : sX9_y G N a0 h = some (r, hf)) : gMet G l yX9_y (ws_ yX9_y cX9_y 1 (some .int)) 0 0 [gr a0] h cvI r hf := by
  refine gMet.of ho hs (plainFor_of_name pn_X9) rfl rfl (gbl rfl) fun X => ?_
  show gT G l X mX9_y cvI r hf 0 [(0, gr a0)] [] h (sX9_y G N a0 h)
  delta sX9_y
  refine g_aload_n (pc := 0) (x := a0) 0 rfl rfl dX9_y_0 ?_
  refine g_getfi (pc := 1) k_15 (gblt rfl) lk_X9_17_15 dX9_y_1 fun v1 => ?_
  exact g_ireturn (pc := 4) rfl dX9_y_4
/-! FlareSlopes$Located.isWithin(LFlareSlopes$Located;I)Z -/
noncomputable def sX13_isWithin_c7 (G : GG) (N : Nat) (a0 : Option Nat) (a1 : Option Nat) (a2 : Int32) (h : Hp) : Out (Int32) :=
  bV h a0 7 (fun q22 => sX12_x G N (some q22) h) fun v1 h2 =>
  gJ (fun (v3 : Int32) (h4 : Hp) =>
  bnd (sX13_square G N (v1 - v3) h4) fun v6 h7 =>
  bV h7 a0 7 (fun q19 => sX12_y G N (some q19) h7) fun v8 h9 =>
  gJ (fun (v10 : Int32) (h11 : Hp) =>
  bnd (sX13_square G N (v8 - v10) h11) fun v13 h14 =>
  bnd (sX13_square G N a2 h14) fun v15 h16 =>
  if v15 < (v6 + v13) then (gRtZ (0 : Int32) h16)
  else gRtZ (1 : Int32) h16) fun j12 =>
  gSw h9 a1 7 (bV h9 a1 7 (fun q17 => sX12_y G N (some q17) h9) j12) (bV h9 a1 15 (fun q18 => sX9_y G N (some q18) h9) j12)) fun j5 =>
  gSw h2 a1 7 (bV h2 a1 7 (fun q20 => sX12_x G N (some q20) h2) j5) (bV h2 a1 15 (fun q21 => sX9_x G N (some q21) h2) j5)
abbrev mX13_isWithin_c7 : MI := (RX13, cX13_isWithin, 3, (some .boolean), [], 1, 20, "isWithin")
theorem tX13_isWithin_c7 {G : GG} {l : Launch} (hs : l.stackTraces = false) {N : Nat} {a0 : Option Nat} {a1 : Option Nat} {a2 : Int32} {h : Hp} {r : Int32 ⊕ Nat} {hf : Hp} (ho : sX13_isWithin_c7 G N a0 a1 a2 h = some (r, hf)) : gMet G l yX13_isWithin (ws_ yX13_isWithin cX13_isWithin 3 (some .boolean)) 1 20 [gr a0, gr a1, gi a2] h cvI r hf := by
  refine gMet.of ho hs (plainFor_of_name pn_X13) rfl rfl (gbl rfl) fun X => ?_
  show gT G l X mX13_isWithin_c7 cvI r hf 0 [(0, gr a0), (1, gr a1), (2, gi a2)] [] h (sX13_isWithin_c7 G N a0 a1 a2 h)
  delta sX13_isWithin_c7
  refine g_aload_n (pc := 0) (x := a0) 0 rfl rfl dX13_isWithin_0 ?_
  refine g_bVi (pc := 1) (y := yX12_x) (ws := ws_ yX12_x cX12_x 1 (some .int)) (fr := 0) (lo := 0) (as := []) (st := []) (g_no) rfl (fun _ _ _ e => tX12_x hs e) (fun K _ _ _ hq hM R e1 e2 => g_runF (x := ⟨"FlareSlopes$Located", "x", "()I"⟩) (M := mX13_isWithin_c7) (pc := 1) (y := yX12_x) (bytes := cX12_x) (maxL := 1) (ret := (some .int)) (fr := 0) (lo := 0) (as := []) (st := []) hq (C := "FlareSlopes$Cabin") rfl gy_X12_x rfl (gbl rfl) (gbl rfl) (gbl rfl) q1677 q1679 q1678 q1683 q1681 q1671 mhx_FlareSlopes_Located q1680 q1682 dX13_isWithin_1 K hM R e1 e2) fun v1 h2 => ?_
  refine g_aload_n (pc := 6) (x := a1) 1 rfl rfl dX13_isWithin_6 ?_
  refine g_join 12 (fun (_ : Int32) => [(0, gr a0), (1, gr a1), (2, gi a2)]) (fun (v3 : Int32) => [gi v3, gi v1]) (fun v3 h4 => ?_) (fun j5 Hj5 => ?_)
  · refine g_isub (pc := 12) dX13_isWithin_12 ?_
    refine g_bi (pc := 13) (y := yX13_square) (ws := ws_ yX13_square cX13_square 1 (some .int)) (fr := 0) (lo := 0) (as := [gi (v1 - v3)]) (st := []) (g_no) rfl (fun _ _ e => tX13_square hs e) (fun K _ _ hM R e1 e2 => g_runS (M := mX13_isWithin_c7) (pc := 13) (y := yX13_square) (bytes := cX13_square) (maxL := 1) (ret := (some .int)) (fr := 0) (lo := 0) (as := [gi (v1 - v3)]) (st := []) gy_X13_square (gbl rfl) (gbl rfl) (gbl rfl) q1691 q1692 dX13_isWithin_13 K hM R e1 e2) fun v6 h7 => ?_
    refine g_aload_n (pc := 16) (x := a0) 0 rfl rfl dX13_isWithin_16 ?_
    refine g_bVi (pc := 17) (y := yX12_y) (ws := ws_ yX12_y cX12_y 1 (some .int)) (fr := 0) (lo := 0) (as := []) (st := [gi v6]) (g_no) rfl (fun _ _ _ e => tX12_y hs e) (fun K _ _ _ hq hM R e1 e2 => g_runF (x := ⟨"FlareSlopes$Located", "y", "()I"⟩) (M := mX13_isWithin_c7) (pc := 17) (y := yX12_y) (bytes := cX12_y) (maxL := 1) (ret := (some .int)) (fr := 0) (lo := 0) (as := []) (st := [gi v6]) hq (C := "FlareSlopes$Cabin") rfl gy_X12_y rfl (gbl rfl) (gbl rfl) (gbl rfl) q1695 q1697 q1696 q1701 q1699 q1671 mhx_FlareSlopes_Located q1698 q1700 dX13_isWithin_17 K hM R e1 e2) fun v8 h9 => ?_
    refine g_aload_n (pc := 22) (x := a1) 1 rfl rfl dX13_isWithin_22 ?_
    refine g_join 28 (fun (_ : Int32) => [(0, gr a0), (1, gr a1), (2, gi a2)]) (fun (v10 : Int32) => [gi v10, gi v8, gi v6]) (fun v10 h11 => ?_) (fun j12 Hj12 => ?_)
    · refine g_isub (pc := 28) dX13_isWithin_28 ?_
      refine g_bi (pc := 29) (y := yX13_square) (ws := ws_ yX13_square cX13_square 1 (some .int)) (fr := 0) (lo := 0) (as := [gi (v8 - v10)]) (st := [gi v6]) (g_no) rfl (fun _ _ e => tX13_square hs e) (fun K _ _ hM R e1 e2 => g_runS (M := mX13_isWithin_c7) (pc := 29) (y := yX13_square) (bytes := cX13_square) (maxL := 1) (ret := (some .int)) (fr := 0) (lo := 0) (as := [gi (v8 - v10)]) (st := [gi v6]) gy_X13_square (gbl rfl) (gbl rfl) (gbl rfl) q1691 q1692 dX13_isWithin_29 K hM R e1 e2) fun v13 h14 => ?_
      refine g_iadd (pc := 32) dX13_isWithin_32 ?_
      refine g_iload_n (pc := 33) (x := a2) 2 rfl rfl dX13_isWithin_33 ?_
      refine g_bi (pc := 34) (y := yX13_square) (ws := ws_ yX13_square cX13_square 1 (some .int)) (fr := 0) (lo := 0) (as := [gi a2]) (st := [gi (v6 + v13)]) (g_no) rfl (fun _ _ e => tX13_square hs e) (fun K _ _ hM R e1 e2 => g_runS (M := mX13_isWithin_c7) (pc := 34) (y := yX13_square) (bytes := cX13_square) (maxL := 1) (ret := (some .int)) (fr := 0) (lo := 0) (as := [gi a2]) (st := [gi (v6 + v13)]) gy_X13_square (gbl rfl) (gbl rfl) (gbl rfl) q1691 q1692 dX13_isWithin_34 K hM R e1 e2) fun v15 h16 => ?_
      refine g_icmp_gt (pc := 37) (tgt := 44) rfl dX13_isWithin_37 ?_ ?_
      · refine g_iconst (pc := 44) (v := (0 : Int32)) ic_0 dX13_isWithin_44 ?_
        exact g_zreturn (pc := 45) rfl dX13_isWithin_45
      refine g_iconst (pc := 40) (v := (1 : Int32)) ic_1 dX13_isWithin_40 ?_
      refine g_goto (pc := 41) (tgt := 45) rfl dX13_isWithin_41 ?_
      exact g_zreturn (pc := 45) rfl dX13_isWithin_45
    refine g_sw ?_ ?_
    · exact g_bVi (pc := 23) (y := yX12_y) (ws := ws_ yX12_y cX12_y 1 (some .int)) (fr := 0) (lo := 0) (as := []) (st := [gi v8, gi v6]) (g_no) rfl (fun _ _ _ e => tX12_y hs e) (fun K _ _ _ hq hM R e1 e2 => g_runF (x := ⟨"FlareSlopes$Located", "y", "()I"⟩) (M := mX13_isWithin_c7) (pc := 23) (y := yX12_y) (bytes := cX12_y) (maxL := 1) (ret := (some .int)) (fr := 0) (lo := 0) (as := []) (st := [gi v8, gi v6]) hq (C := "FlareSlopes$Cabin") rfl gy_X12_y rfl (gbl rfl) (gbl rfl) (gbl rfl) q1695 q1697 q1696 q1701 q1699 q1671 mhx_FlareSlopes_Located q1698 q1700 dX13_isWithin_23 K hM R e1 e2) Hj12
    exact g_bVi (pc := 23) (y := yX9_y) (ws := ws_ yX9_y cX9_y 1 (some .int)) (fr := 0) (lo := 0) (as := []) (st := [gi v8, gi v6]) (g_no) rfl (fun _ _ _ e => tX9_y hs e) (fun K _ _ _ hq hM R e1 e2 => g_runF (x := ⟨"FlareSlopes$Located", "y", "()I"⟩) (M := mX13_isWithin_c7) (pc := 23) (y := yX9_y) (bytes := cX9_y) (maxL := 1) (ret := (some .int)) (fr := 0) (lo := 0) (as := []) (st := [gi v8, gi v6]) hq (C := "FlareSlopes$Spot") rfl gy_X9_y rfl (gbl rfl) (gbl rfl) (gbl rfl) q1695 q1697 q1696 q1706 q1704 q1685 mhx_FlareSlopes_Located q1703 q1705 dX13_isWithin_23 K hM R e1 e2) Hj12
  refine g_sw ?_ ?_
  · exact g_bVi (pc := 7) (y := yX12_x) (ws := ws_ yX12_x cX12_x 1 (some .int)) (fr := 0) (lo := 0) (as := []) (st := [gi v1]) (g_no) rfl (fun _ _ _ e => tX12_x hs e) (fun K _ _ _ hq hM R e1 e2 => g_runF (x := ⟨"FlareSlopes$Located", "x", "()I"⟩) (M := mX13_isWithin_c7) (pc := 7) (y := yX12_x) (bytes := cX12_x) (maxL := 1) (ret := (some .int)) (fr := 0) (lo := 0) (as := []) (st := [gi v1]) hq (C := "FlareSlopes$Cabin") rfl gy_X12_x rfl (gbl rfl) (gbl rfl) (gbl rfl) q1677 q1679 q1678 q1683 q1681 q1671 mhx_FlareSlopes_Located q1680 q1682 dX13_isWithin_7 K hM R e1 e2) Hj5
  exact g_bVi (pc := 7) (y := yX9_x) (ws := ws_ yX9_x cX9_x 1 (some .int)) (fr := 0) (lo := 0) (as := []) (st := [gi v1]) (g_no) rfl (fun _ _ _ e => tX9_x hs e) (fun K _ _ _ hq hM R e1 e2 => g_runF (x := ⟨"FlareSlopes$Located", "x", "()I"⟩) (M := mX13_isWithin_c7) (pc := 7) (y := yX9_x) (bytes := cX9_x) (maxL := 1) (ret := (some .int)) (fr := 0) (lo := 0) (as := []) (st := [gi v1]) hq (C := "FlareSlopes$Spot") rfl gy_X9_x rfl (gbl rfl) (gbl rfl) (gbl rfl) q1677 q1679 q1678 q1689 q1687 q1685 mhx_FlareSlopes_Located q1686 q1688 dX13_isWithin_7 K hM R e1 e2) Hj5
/-! FlareSlopes$Cabin.high()I -/
noncomputable def sX12_high (G : GG) (N : Nat) (a0 : Option Nat) (h : Hp) : Out (Int32) :=
  gFi h a0 7 6 fun v1 =>
  some (.inl v1, h)
abbrev mX12_high : MI := (RX12, cX12_high, 1, (some .int), [], 0, 0, "high")
theorem tX12_high {G : GG} {l : Launch} (hs : l.stackTraces = false) {N : Nat} {a0 : Option Nat} {h : Hp} {r : Int32 ⊕ Nat} {hf : Hp} (ho : sX12_high G N a0 h = some (r, hf)) : gMet G l yX12_high (ws_ yX12_high cX12_high 1 (some .int)) 0 0 [gr a0] h cvI r hf := by
  refine gMet.of ho hs (plainFor_of_name pn_X12) rfl rfl (gbl rfl) fun X => ?_
  show gT G l X mX12_high cvI r hf 0 [(0, gr a0)] [] h (sX12_high G N a0 h)
  delta sX12_high
  refine g_aload_n (pc := 0) (x := a0) 0 rfl rfl dX12_high_0 ?_
  refine g_getfi (pc := 1) k_7 (gblt rfl) lk_X12_42_7 dX12_high_1 fun v1 => ?_
  exact g_ireturn (pc := 4) rfl dX12_high_4
/-! FlareSlopes$Spot.high()I -/
noncomputable def sX9_high (G : GG) (N : Nat) (a0 : Option Nat) (h : Hp) : Out (Int32) :=
  gFi h a0 15 3 fun v1 =>
  some (.inl v1, h)
abbrev mX9_high : MI := (RX9, cX9_high, 1, (some .int), [], 0, 0, "high")
theorem tX9_high {G : GG} {l : Launch} (hs : l.stackTraces = false) {N : Nat} {a0 : Option Nat} {h : Hp} {r : Int32 ⊕ Nat} {hf : Hp} (ho : sX9_high G N a0 h = some (r, hf)) : gMet G l yX9_high (ws_ yX9_high cX9_high 1 (some .int)) 0 0 [gr a0] h cvI r hf := by
  refine gMet.of ho hs (plainFor_of_name pn_X9) rfl rfl (gbl rfl) fun X => ?_
  show gT G l X mX9_high cvI r hf 0 [(0, gr a0)] [] h (sX9_high G N a0 h)
  delta sX9_high
  refine g_aload_n (pc := 0) (x := a0) 0 rfl rfl dX9_high_0 ?_
  refine g_getfi (pc := 1) k_15 (gblt rfl) lk_X9_20_15 dX9_high_1 fun v1 => ?_
  exact g_ireturn (pc := 4) rfl dX9_high_4
/-! FlareSlopes$Ridge.hides(LFlareSlopes$Located;LFlareSlopes$Located;)Z -/
noncomputable def sX10_hides (G : GG) (N : Nat) (a0 : Option Nat) (a1 : Option Nat) (a2 : Option Nat) (h : Hp) : Out (Int32) :=
  gJ (fun (v1 : Int32) (h2 : Hp) =>
  gFi h2 a0 14 0 fun v4 =>
  gJ (fun (x5 : Int32) (h6 : Hp) =>
  gJ (fun (v8 : Int32) (h9 : Hp) =>
  gFi h9 a0 14 0 fun v11 =>
  gJ (fun (x12 : Int32) (h13 : Hp) =>
  gJ (fun (x15 : Unit) (h16 : Hp) =>
  gRtZ (0 : Int32) h16) fun j17 =>
  if x5 = x12 then (j17 () h13)
  else gFi h13 a0 14 1 fun v18 =>
  gJ (fun (v19 : Int32) (h20 : Hp) =>
  if v18 ≤ v19 then (j17 () h20)
  else gFi h20 a0 14 1 fun v22 =>
  gJ (fun (v23 : Int32) (h24 : Hp) =>
  if v22 ≤ v23 then (j17 () h24)
  else gRtZ (1 : Int32) h24) fun j25 =>
  gSw h20 a2 7 (bV h20 a2 7 (fun q26 => sX12_high G N (some q26) h20) j25) (bV h20 a2 15 (fun q27 => sX9_high G N (some q27) h20) j25)) fun j21 =>
  gSw h13 a1 7 (bV h13 a1 7 (fun q28 => sX12_high G N (some q28) h13) j21) (bV h13 a1 15 (fun q29 => sX9_high G N (some q29) h13) j21)) fun j14 =>
  if v11 ≤ v8 then (j14 (0 : Int32) h9)
  else j14 (1 : Int32) h9) fun j10 =>
  gSw h6 a2 7 (bV h6 a2 7 (fun q30 => sX12_x G N (some q30) h6) j10) (bV h6 a2 15 (fun q31 => sX9_x G N (some q31) h6) j10)) fun j7 =>
  if v4 ≤ v1 then (j7 (0 : Int32) h2)
  else j7 (1 : Int32) h2) fun j3 =>
  gSw h a1 7 (bV h a1 7 (fun q32 => sX12_x G N (some q32) h) j3) (bV h a1 15 (fun q33 => sX9_x G N (some q33) h) j3)
abbrev mX10_hides : MI := (RX10, cX10_hides, 3, (some .boolean), [], 1, 20, "hides")
theorem tX10_hides {G : GG} {l : Launch} (hs : l.stackTraces = false) {N : Nat} {a0 : Option Nat} {a1 : Option Nat} {a2 : Option Nat} {h : Hp} {r : Int32 ⊕ Nat} {hf : Hp} (ho : sX10_hides G N a0 a1 a2 h = some (r, hf)) : gMet G l yX10_hides (ws_ yX10_hides cX10_hides 3 (some .boolean)) 1 20 [gr a0, gr a1, gr a2] h cvI r hf := by
  refine gMet.of ho hs (plainFor_of_name pn_X10) rfl rfl (gbl rfl) fun X => ?_
  show gT G l X mX10_hides cvI r hf 0 [(0, gr a0), (1, gr a1), (2, gr a2)] [] h (sX10_hides G N a0 a1 a2 h)
  delta sX10_hides
  refine g_aload_n (pc := 0) (x := a1) 1 rfl rfl dX10_hides_0 ?_
  refine g_join 6 (fun (_ : Int32) => [(0, gr a0), (1, gr a1), (2, gr a2)]) (fun (v1 : Int32) => [gi v1]) (fun v1 h2 => ?_) (fun j3 Hj3 => ?_)
  · refine g_aload_n (pc := 6) (x := a0) 0 rfl rfl dX10_hides_6 ?_
    refine g_getfi (pc := 7) k_14 (gblt rfl) lk_X10_7_14 dX10_hides_7 fun v4 => ?_
    refine g_join 18 (fun (x5 : Int32) => [(0, gr a0), (1, gr a1), (2, gr a2)]) (fun (x5 : Int32) => [gi x5]) (fun x5 h6 => ?_) (fun j7 Hj7 => ?_)
    · refine g_aload_n (pc := 18) (x := a2) 2 rfl rfl dX10_hides_18 ?_
      refine g_join 24 (fun (_ : Int32) => [(0, gr a0), (1, gr a1), (2, gr a2)]) (fun (v8 : Int32) => [gi v8, gi x5]) (fun v8 h9 => ?_) (fun j10 Hj10 => ?_)
      · refine g_aload_n (pc := 24) (x := a0) 0 rfl rfl dX10_hides_24 ?_
        refine g_getfi (pc := 25) k_14 (gblt rfl) lk_X10_7_14 dX10_hides_25 fun v11 => ?_
        refine g_join 36 (fun (x12 : Int32) => [(0, gr a0), (1, gr a1), (2, gr a2)]) (fun (x12 : Int32) => [gi x12, gi x5]) (fun x12 h13 => ?_) (fun j14 Hj14 => ?_)
        · refine g_join 69 (fun (x15 : Unit) => []) (fun (x15 : Unit) => []) (fun x15 h16 => ?_) (fun j17 Hj17 => ?_)
          · refine g_iconst (pc := 69) (v := (0 : Int32)) ic_0 dX10_hides_69 ?_
            exact g_zreturn (pc := 70) rfl dX10_hides_70
          refine g_icmp_eq (pc := 36) (tgt := 69) rfl dX10_hides_36 ?_ ?_
          · exact g_sub [] rfl (Hj17 () h13)
          refine g_aload_n (pc := 39) (x := a0) 0 rfl rfl dX10_hides_39 ?_
          refine g_getfi (pc := 40) k_14 (gblt rfl) lk_X10_13_14 dX10_hides_40 fun v18 => ?_
          refine g_aload_n (pc := 43) (x := a1) 1 rfl rfl dX10_hides_43 ?_
          refine g_join 49 (fun (_ : Int32) => [(0, gr a0), (1, gr a1), (2, gr a2)]) (fun (v19 : Int32) => [gi v19, gi v18]) (fun v19 h20 => ?_) (fun j21 Hj21 => ?_)
          · refine g_icmp_le (pc := 49) (tgt := 69) rfl dX10_hides_49 ?_ ?_
            · exact g_sub [] rfl (Hj17 () h20)
            refine g_aload_n (pc := 52) (x := a0) 0 rfl rfl dX10_hides_52 ?_
            refine g_getfi (pc := 53) k_14 (gblt rfl) lk_X10_13_14 dX10_hides_53 fun v22 => ?_
            refine g_aload_n (pc := 56) (x := a2) 2 rfl rfl dX10_hides_56 ?_
            refine g_join 62 (fun (_ : Int32) => [(0, gr a0), (1, gr a1), (2, gr a2)]) (fun (v23 : Int32) => [gi v23, gi v22]) (fun v23 h24 => ?_) (fun j25 Hj25 => ?_)
            · refine g_icmp_le (pc := 62) (tgt := 69) rfl dX10_hides_62 ?_ ?_
              · exact g_sub [] rfl (Hj17 () h24)
              refine g_iconst (pc := 65) (v := (1 : Int32)) ic_1 dX10_hides_65 ?_
              refine g_goto (pc := 66) (tgt := 70) rfl dX10_hides_66 ?_
              exact g_zreturn (pc := 70) rfl dX10_hides_70
            refine g_sw ?_ ?_
            · exact g_bVi (pc := 57) (y := yX12_high) (ws := ws_ yX12_high cX12_high 1 (some .int)) (fr := 0) (lo := 0) (as := []) (st := [gi v22]) (g_no) rfl (fun _ _ _ e => tX12_high hs e) (fun K _ _ _ hq hM R e1 e2 => g_runF (x := ⟨"FlareSlopes$Located", "high", "()I"⟩) (M := mX10_hides) (pc := 57) (y := yX12_high) (bytes := cX12_high) (maxL := 1) (ret := (some .int)) (fr := 0) (lo := 0) (as := []) (st := [gi v22]) hq (C := "FlareSlopes$Cabin") rfl gy_X12_high rfl (gbl rfl) (gbl rfl) (gbl rfl) q1721 q1723 q1722 q1727 q1725 q1671 mhx_FlareSlopes_Located q1724 q1726 dX10_hides_57 K hM R e1 e2) Hj25
            exact g_bVi (pc := 57) (y := yX9_high) (ws := ws_ yX9_high cX9_high 1 (some .int)) (fr := 0) (lo := 0) (as := []) (st := [gi v22]) (g_no) rfl (fun _ _ _ e => tX9_high hs e) (fun K _ _ _ hq hM R e1 e2 => g_runF (x := ⟨"FlareSlopes$Located", "high", "()I"⟩) (M := mX10_hides) (pc := 57) (y := yX9_high) (bytes := cX9_high) (maxL := 1) (ret := (some .int)) (fr := 0) (lo := 0) (as := []) (st := [gi v22]) hq (C := "FlareSlopes$Spot") rfl gy_X9_high rfl (gbl rfl) (gbl rfl) (gbl rfl) q1721 q1723 q1722 q1732 q1730 q1685 mhx_FlareSlopes_Located q1729 q1731 dX10_hides_57 K hM R e1 e2) Hj25
          refine g_sw ?_ ?_
          · exact g_bVi (pc := 44) (y := yX12_high) (ws := ws_ yX12_high cX12_high 1 (some .int)) (fr := 0) (lo := 0) (as := []) (st := [gi v18]) (g_no) rfl (fun _ _ _ e => tX12_high hs e) (fun K _ _ _ hq hM R e1 e2 => g_runF (x := ⟨"FlareSlopes$Located", "high", "()I"⟩) (M := mX10_hides) (pc := 44) (y := yX12_high) (bytes := cX12_high) (maxL := 1) (ret := (some .int)) (fr := 0) (lo := 0) (as := []) (st := [gi v18]) hq (C := "FlareSlopes$Cabin") rfl gy_X12_high rfl (gbl rfl) (gbl rfl) (gbl rfl) q1721 q1723 q1722 q1727 q1725 q1671 mhx_FlareSlopes_Located q1724 q1726 dX10_hides_44 K hM R e1 e2) Hj21
          exact g_bVi (pc := 44) (y := yX9_high) (ws := ws_ yX9_high cX9_high 1 (some .int)) (fr := 0) (lo := 0) (as := []) (st := [gi v18]) (g_no) rfl (fun _ _ _ e => tX9_high hs e) (fun K _ _ _ hq hM R e1 e2 => g_runF (x := ⟨"FlareSlopes$Located", "high", "()I"⟩) (M := mX10_hides) (pc := 44) (y := yX9_high) (bytes := cX9_high) (maxL := 1) (ret := (some .int)) (fr := 0) (lo := 0) (as := []) (st := [gi v18]) hq (C := "FlareSlopes$Spot") rfl gy_X9_high rfl (gbl rfl) (gbl rfl) (gbl rfl) q1721 q1723 q1722 q1732 q1730 q1685 mhx_FlareSlopes_Located q1729 q1731 dX10_hides_44 K hM R e1 e2) Hj21
        refine g_icmp_ge (pc := 28) (tgt := 35) rfl dX10_hides_28 ?_ ?_
        · refine g_iconst (pc := 35) (v := (0 : Int32)) ic_0 dX10_hides_35 ?_
          exact Hj14 (0 : Int32) h9
        refine g_iconst (pc := 31) (v := (1 : Int32)) ic_1 dX10_hides_31 ?_
        refine g_goto (pc := 32) (tgt := 36) rfl dX10_hides_32 ?_
        exact Hj14 (1 : Int32) h9
      refine g_sw ?_ ?_
      · exact g_bVi (pc := 19) (y := yX12_x) (ws := ws_ yX12_x cX12_x 1 (some .int)) (fr := 0) (lo := 0) (as := []) (st := [gi x5]) (g_no) rfl (fun _ _ _ e => tX12_x hs e) (fun K _ _ _ hq hM R e1 e2 => g_runF (x := ⟨"FlareSlopes$Located", "x", "()I"⟩) (M := mX10_hides) (pc := 19) (y := yX12_x) (bytes := cX12_x) (maxL := 1) (ret := (some .int)) (fr := 0) (lo := 0) (as := []) (st := [gi x5]) hq (C := "FlareSlopes$Cabin") rfl gy_X12_x rfl (gbl rfl) (gbl rfl) (gbl rfl) q1719 q1679 q1678 q1683 q1681 q1671 mhx_FlareSlopes_Located q1680 q1682 dX10_hides_19 K hM R e1 e2) Hj10
      exact g_bVi (pc := 19) (y := yX9_x) (ws := ws_ yX9_x cX9_x 1 (some .int)) (fr := 0) (lo := 0) (as := []) (st := [gi x5]) (g_no) rfl (fun _ _ _ e => tX9_x hs e) (fun K _ _ _ hq hM R e1 e2 => g_runF (x := ⟨"FlareSlopes$Located", "x", "()I"⟩) (M := mX10_hides) (pc := 19) (y := yX9_x) (bytes := cX9_x) (maxL := 1) (ret := (some .int)) (fr := 0) (lo := 0) (as := []) (st := [gi x5]) hq (C := "FlareSlopes$Spot") rfl gy_X9_x rfl (gbl rfl) (gbl rfl) (gbl rfl) q1719 q1679 q1678 q1689 q1687 q1685 mhx_FlareSlopes_Located q1686 q1688 dX10_hides_19 K hM R e1 e2) Hj10
    refine g_icmp_ge (pc := 10) (tgt := 17) rfl dX10_hides_10 ?_ ?_
    · refine g_iconst (pc := 17) (v := (0 : Int32)) ic_0 dX10_hides_17 ?_
      exact Hj7 (0 : Int32) h2
    refine g_iconst (pc := 13) (v := (1 : Int32)) ic_1 dX10_hides_13 ?_
    refine g_goto (pc := 14) (tgt := 18) rfl dX10_hides_14 ?_
    exact Hj7 (1 : Int32) h2
  refine g_sw ?_ ?_
  · exact g_bVi (pc := 1) (y := yX12_x) (ws := ws_ yX12_x cX12_x 1 (some .int)) (fr := 0) (lo := 0) (as := []) (st := []) (g_no) rfl (fun _ _ _ e => tX12_x hs e) (fun K _ _ _ hq hM R e1 e2 => g_runF (x := ⟨"FlareSlopes$Located", "x", "()I"⟩) (M := mX10_hides) (pc := 1) (y := yX12_x) (bytes := cX12_x) (maxL := 1) (ret := (some .int)) (fr := 0) (lo := 0) (as := []) (st := []) hq (C := "FlareSlopes$Cabin") rfl gy_X12_x rfl (gbl rfl) (gbl rfl) (gbl rfl) q1719 q1679 q1678 q1683 q1681 q1671 mhx_FlareSlopes_Located q1680 q1682 dX10_hides_1 K hM R e1 e2) Hj3
  exact g_bVi (pc := 1) (y := yX9_x) (ws := ws_ yX9_x cX9_x 1 (some .int)) (fr := 0) (lo := 0) (as := []) (st := []) (g_no) rfl (fun _ _ _ e => tX9_x hs e) (fun K _ _ _ hq hM R e1 e2 => g_runF (x := ⟨"FlareSlopes$Located", "x", "()I"⟩) (M := mX10_hides) (pc := 1) (y := yX9_x) (bytes := cX9_x) (maxL := 1) (ret := (some .int)) (fr := 0) (lo := 0) (as := []) (st := []) hq (C := "FlareSlopes$Spot") rfl gy_X9_x rfl (gbl rfl) (gbl rfl) (gbl rfl) q1719 q1679 q1678 q1689 q1687 q1685 mhx_FlareSlopes_Located q1686 q1688 dX10_hides_1 K hM R e1 e2) Hj3
/-! FlareSlopes$Mountain.ridges(LFlareSlopes$Located;LFlareSlopes$Located;)I -/
noncomputable def bX5_ridges_5 (G : GG) (N : Nat) (a0 : Option Nat) (a1 : Option Nat) (a2 : Option Nat) (w3 : (Int32 × Int32) → Hp → Out (Int32)) (x1 : Int32 × Int32) (h2 : Hp) : Out (Int32) :=
  gFr h2 a0 11 2 fun v4 =>
  bV h2 v4 24 (fun q18 => sJ12_size G N (some q18) h2) fun v5 h6 =>
  if v5 ≤ x1.2 then (some (.inl x1.1, h6))
  else gFr h6 a0 11 2 fun v7 =>
  bV h6 v7 24 (fun q17 => sJ12_get G N (some q17) x1.2 h6) fun v8 h9 =>
  gCk h9 v8 [14] (bV h9 v8 14 (fun q16 => sX10_hides G N (some q16) a1 a2 h9) fun v10 h11 =>
  gJ (fun (x12 : Int32) (h13 : Hp) =>
  gLet (x1.1 + x12) fun v15 =>
  w3 (v15, x1.2 + (1 : Int32)) h13) fun j14 =>
  if v10 = 0 then (j14 (0 : Int32) h11)
  else j14 (1 : Int32) h11)
noncomputable def sX5_ridges (G : GG) (N : Nat) (a0 : Option Nat) (a1 : Option Nat) (a2 : Option Nat) (h : Hp) : Out (Int32) :=
  gLp (bX5_ridges_5 G N a0 a1 a2) N ((0 : Int32), (0 : Int32)) h
abbrev mX5_ridges : MI := (RX5, cX5_ridges, 5, (some .int), [], 3, 64, "ridges")
theorem tX5_ridges {G : GG} {l : Launch} (hs : l.stackTraces = false) {N : Nat} {a0 : Option Nat} {a1 : Option Nat} {a2 : Option Nat} {h : Hp} {r : Int32 ⊕ Nat} {hf : Hp} (ho : sX5_ridges G N a0 a1 a2 h = some (r, hf)) : gMet G l yX5_ridges (ws_ yX5_ridges cX5_ridges 5 (some .int)) 3 64 [gr a0, gr a1, gr a2] h cvI r hf := by
  refine gMet.of ho hs (plainFor_of_name pn_X5) rfl rfl (gbl rfl) fun X => ?_
  show gT G l X mX5_ridges cvI r hf 0 [(0, gr a0), (1, gr a1), (2, gr a2)] [] h (sX5_ridges G N a0 a1 a2 h)
  delta sX5_ridges
  refine g_iconst (pc := 0) (v := (0 : Int32)) ic_0 dX5_ridges_0 ?_
  refine g_istore_n (pc := 1) (lv' := [(3, gi (0 : Int32)), (0, gr a0), (1, gr a1), (2, gr a2)]) [0, 1, 2, 3] rfl rfl (gblt rfl) dX5_ridges_1 ?_
  refine g_iconst (pc := 2) (v := (0 : Int32)) ic_0 dX5_ridges_2 ?_
  refine g_istore (pc := 3) (lv' := [(4, gi (0 : Int32)), (3, gi (0 : Int32)), (0, gr a0), (1, gr a1), (2, gr a2)]) [0, 1, 2, 3, 4] rfl (gblt rfl) dX5_ridges_3 ?_
  refine g_sub (lv' := [(0, gr a0), (1, gr a1), (2, gr a2), (3, gi (0 : Int32)), (4, gi (0 : Int32))]) [2, 3, 4, 1, 0] rfl ?_
  refine g_loop (pc := 5) (fun (x1 : Int32 × Int32) => [(0, gr a0), (1, gr a1), (2, gr a2), (3, gi x1.1), (4, gi x1.2)]) (fun (_ : Int32 × Int32) => []) (fun w3 Hw3 x1 h2 => ?_) N ((0 : Int32), (0 : Int32)) h
  delta bX5_ridges_5
  refine g_iload (pc := 5) (x := x1.2) 4 rfl dX5_ridges_5 ?_
  refine g_aload_n (pc := 7) (x := a0) 0 rfl rfl dX5_ridges_7 ?_
  refine g_getfr (pc := 8) k_11 (gblt rfl) lk_X5_26_11 dX5_ridges_8 fun v4 => ?_
  refine g_bVi (pc := 11) (y := yJ12_size) (ws := ws_ yJ12_size cJ12_size 1 (some .int)) (fr := 0) (lo := 0) (as := []) (st := [gi x1.2]) (g_no) rfl (fun _ _ _ e => tJ12_size hs e) (fun K _ _ _ hq hM R e1 e2 => g_runF (x := ⟨"java/util/List", "size", "()I"⟩) (M := mX5_ridges) (pc := 11) (y := yJ12_size) (bytes := cJ12_size) (maxL := 1) (ret := (some .int)) (fr := 0) (lo := 0) (as := []) (st := [gi x1.2]) hq (C := "java/util/ArrayList") rfl gy_J12_size rfl (gbl rfl) (gbl rfl) (gbl rfl) q1657 q970 q969 q975 q973 q971 mhx_java_util_List q972 q974 dX5_ridges_11 K hM R e1 e2) fun v5 h6 => ?_
  refine g_icmp_ge (pc := 16) (tgt := 55) rfl dX5_ridges_16 ?_ ?_
  · refine g_iload_n (pc := 55) (x := x1.1) 3 rfl rfl dX5_ridges_55 ?_
    exact g_ireturn (pc := 56) rfl dX5_ridges_56
  refine g_iload_n (pc := 19) (x := x1.1) 3 rfl rfl dX5_ridges_19 ?_
  refine g_aload_n (pc := 20) (x := a0) 0 rfl rfl dX5_ridges_20 ?_
  refine g_getfr (pc := 21) k_11 (gblt rfl) lk_X5_26_11 dX5_ridges_21 fun v7 => ?_
  refine g_iload (pc := 24) (x := x1.2) 4 rfl dX5_ridges_24 ?_
  refine g_bVr (pc := 26) (y := yJ12_get) (ws := ws_ yJ12_get cJ12_get 2 (some (.object "java/lang/Object"))) (fr := 2) (lo := 43) (as := [gi x1.2]) (st := [gi x1.1]) (g_no) rfl (fun _ _ _ e => tJ12_get hs e) (fun K _ _ _ hq hM R e1 e2 => g_runF (x := ⟨"java/util/List", "get", "(I)Ljava/lang/Object;"⟩) (M := mX5_ridges) (pc := 26) (y := yJ12_get) (bytes := cJ12_get) (maxL := 2) (ret := (some (.object "java/lang/Object"))) (fr := 2) (lo := 43) (as := [gi x1.2]) (st := [gi x1.1]) hq (C := "java/util/ArrayList") rfl gy_J12_get rfl (gbl rfl) (gbl rfl) (gbl rfl) q1659 q992 q991 q996 q994 q971 mhx_java_util_List q993 q995 dX5_ridges_26 K hM R e1 e2) fun v8 h9 => ?_
  refine g_checkcast (pc := 31) q1713 as_14_FlareSlopes_Ridge dX5_ridges_31 ?_
  refine g_aload_n (pc := 34) (x := a1) 1 rfl rfl dX5_ridges_34 ?_
  refine g_aload_n (pc := 35) (x := a2) 2 rfl rfl dX5_ridges_35 ?_
  refine g_bVi (pc := 36) (y := yX10_hides) (ws := ws_ yX10_hides cX10_hides 3 (some .boolean)) (fr := 1) (lo := 20) (as := [gr a1, gr a2]) (st := [gi x1.1]) (g_no) rfl (fun _ _ _ e => tX10_hides hs e) (fun K _ _ _ hq hM R e1 e2 => g_runV (M := mX5_ridges) (pc := 36) (y := yX10_hides) (bytes := cX10_hides) (maxL := 3) (ret := (some .boolean)) (fr := 1) (lo := 20) (as := [gr a1, gr a2]) (st := [gi x1.1]) hq (C := "FlareSlopes$Ridge") rfl gy_X10_hides (gbl rfl) (gbl rfl) (gbl rfl) q1714 q1715 q1716 dX5_ridges_36 K hM R e1 e2) fun v10 h11 => ?_
  refine g_join 47 (fun (x12 : Int32) => [(0, gr a0), (1, gr a1), (2, gr a2), (4, gi x1.2)]) (fun (x12 : Int32) => [gi x12, gi x1.1]) (fun x12 h13 => ?_) (fun j14 Hj14 => ?_)
  · refine g_iadd (pc := 47) dX5_ridges_47 ?_
    refine g_leti fun v15 => ?_
    refine g_istore_n (pc := 48) (lv' := [(3, gi v15), (0, gr a0), (1, gr a1), (2, gr a2), (4, gi x1.2)]) [0, 1, 2, 3, 4] rfl rfl (gblt rfl) dX5_ridges_48 ?_
    refine g_iinc (pc := 49) (v := x1.2 + (1 : Int32)) 4 rfl (ii_1 _) (lv' := [(4, gi (x1.2 + (1 : Int32))), (3, gi v15), (0, gr a0), (1, gr a1), (2, gr a2)]) [0, 1, 2, 3, 4] rfl (gblt rfl) dX5_ridges_49 ?_
    refine g_goto (pc := 52) (tgt := 5) rfl dX5_ridges_52 ?_
    exact g_sub [2, 3, 4, 1, 0] rfl (Hw3 (v15, x1.2 + (1 : Int32)) h13)
  refine g_if_eq (pc := 39) (tgt := 46) rfl dX5_ridges_39 ?_ ?_
  · refine g_iconst (pc := 46) (v := (0 : Int32)) ic_0 dX5_ridges_46 ?_
    exact g_sub [0, 1, 2, 4] rfl (Hj14 (0 : Int32) h11)
  refine g_iconst (pc := 42) (v := (1 : Int32)) ic_1 dX5_ridges_42 ?_
  refine g_goto (pc := 43) (tgt := 47) rfl dX5_ridges_43 ?_
  exact g_sub [0, 1, 2, 4] rfl (Hj14 (1 : Int32) h11)
/-! FlareSlopes$State.isSeen(LFlareSlopes$Located;LFlareSlopes$Located;)Z -/
noncomputable def sX3_isSeen (G : GG) (N : Nat) (a0 : Option Nat) (a1 : Option Nat) (a2 : Option Nat) (h : Hp) : Out (Int32) :=
  bV h a0 16 (fun q13 => sX3_sight G N (some q13) h) fun v1 h2 =>
  bV h2 a1 7 (fun q12 => sX13_isWithin_c7 G N (some q12) a2 v1 h2) fun v3 h4 =>
  gJ (fun (x5 : Unit) (h6 : Hp) =>
  gRtZ (0 : Int32) h6) fun j7 =>
  if v3 = 0 then (j7 () h4)
  else gFr h4 a0 16 0 fun v8 =>
  bV h4 v8 11 (fun q11 => sX5_ridges G N (some q11) a1 a2 h4) fun v9 h10 =>
  if v9 = 0 then (gRtZ (1 : Int32) h10)
  else j7 () h10
abbrev mX3_isSeen : MI := (RX3, cX3_isSeen, 3, (some .boolean), [], 5, 107, "isSeen")
theorem tX3_isSeen {G : GG} {l : Launch} (hs : l.stackTraces = false) {N : Nat} {a0 : Option Nat} {a1 : Option Nat} {a2 : Option Nat} {h : Hp} {r : Int32 ⊕ Nat} {hf : Hp} (ho : sX3_isSeen G N a0 a1 a2 h = some (r, hf)) : gMet G l yX3_isSeen (ws_ yX3_isSeen cX3_isSeen 3 (some .boolean)) 5 107 [gr a0, gr a1, gr a2] h cvI r hf := by
  refine gMet.of ho hs (plainFor_of_name pn_X3) rfl rfl (gbl rfl) fun X => ?_
  show gT G l X mX3_isSeen cvI r hf 0 [(0, gr a0), (1, gr a1), (2, gr a2)] [] h (sX3_isSeen G N a0 a1 a2 h)
  delta sX3_isSeen
  refine g_aload_n (pc := 0) (x := a1) 1 rfl rfl dX3_isSeen_0 ?_
  refine g_aload_n (pc := 1) (x := a2) 2 rfl rfl dX3_isSeen_1 ?_
  refine g_aload_n (pc := 2) (x := a0) 0 rfl rfl dX3_isSeen_2 ?_
  refine g_bVi (pc := 3) (y := yX3_sight) (ws := ws_ yX3_sight cX3_sight 1 (some .int)) (fr := 4) (lo := 87) (as := []) (st := [gr a2, gr a1]) (g_no) rfl (fun _ _ _ e => tX3_sight hs e) (fun K _ _ _ hq hM R e1 e2 => g_runV (M := mX3_isSeen) (pc := 3) (y := yX3_sight) (bytes := cX3_sight) (maxL := 1) (ret := (some .int)) (fr := 4) (lo := 87) (as := []) (st := [gr a2, gr a1]) hq (C := "FlareSlopes$State") rfl gy_X3_sight (gbl rfl) (gbl rfl) (gbl rfl) q1648 q1649 q1650 dX3_isSeen_3 K hM R e1 e2) fun v1 h2 => ?_
  refine g_bVi (pc := 6) (y := yX13_isWithin) (ws := ws_ yX13_isWithin cX13_isWithin 3 (some .boolean)) (fr := 1) (lo := 20) (as := [gr a2, gi v1]) (st := []) (g_no) rfl (fun _ _ _ e => tX13_isWithin_c7 hs e) (fun K _ _ _ hq hM R e1 e2 => g_runFD (x := ⟨"FlareSlopes$Located", "isWithin", "(LFlareSlopes$Located;I)Z"⟩) (M := mX3_isSeen) (pc := 6) (y := yX13_isWithin) (bytes := cX13_isWithin) (maxL := 3) (ret := (some .boolean)) (fr := 1) (lo := 20) (as := [gr a2, gi v1]) (st := []) hq (C := "FlareSlopes$Cabin") rfl gy_X13_isWithin rfl (gbl rfl) (gbl rfl) (gbl rfl) q1668 q1670 q1669 q1674 q1672 q1671 mhx_FlareSlopes_Located hdf_isWithin q1673 dX3_isSeen_6 K hM R e1 e2) fun v3 h4 => ?_
  refine g_join 30 (fun (x5 : Unit) => []) (fun (x5 : Unit) => []) (fun x5 h6 => ?_) (fun j7 Hj7 => ?_)
  · refine g_iconst (pc := 30) (v := (0 : Int32)) ic_0 dX3_isSeen_30 ?_
    exact g_zreturn (pc := 31) rfl dX3_isSeen_31
  refine g_if_eq (pc := 11) (tgt := 30) rfl dX3_isSeen_11 ?_ ?_
  · exact g_sub [] rfl (Hj7 () h4)
  refine g_aload_n (pc := 14) (x := a0) 0 rfl rfl dX3_isSeen_14 ?_
  refine g_getfr (pc := 15) k_16 (gblt rfl) lk_X3_35_16 dX3_isSeen_15 fun v8 => ?_
  refine g_aload_n (pc := 18) (x := a1) 1 rfl rfl dX3_isSeen_18 ?_
  refine g_aload_n (pc := 19) (x := a2) 2 rfl rfl dX3_isSeen_19 ?_
  refine g_bVi (pc := 20) (y := yX5_ridges) (ws := ws_ yX5_ridges cX5_ridges 5 (some .int)) (fr := 3) (lo := 64) (as := [gr a1, gr a2]) (st := []) (g_no) rfl (fun _ _ _ e => tX5_ridges hs e) (fun K _ _ _ hq hM R e1 e2 => g_runV (M := mX3_isSeen) (pc := 20) (y := yX5_ridges) (bytes := cX5_ridges) (maxL := 5) (ret := (some .int)) (fr := 3) (lo := 64) (as := [gr a1, gr a2]) (st := []) hq (C := "FlareSlopes$Mountain") rfl gy_X5_ridges (gbl rfl) (gbl rfl) (gbl rfl) q1709 q1710 q1711 dX3_isSeen_20 K hM R e1 e2) fun v9 h10 => ?_
  refine g_if_ne (pc := 23) (tgt := 30) rfl dX3_isSeen_23 ?_ ?_
  rotate_left
  · exact g_sub [] rfl (Hj7 () h10)
  refine g_iconst (pc := 26) (v := (1 : Int32)) ic_1 dX3_isSeen_26 ?_
  refine g_goto (pc := 27) (tgt := 31) rfl dX3_isSeen_27 ?_
  exact g_zreturn (pc := 31) rfl dX3_isSeen_31
/-! FlareSlopes$State.sees(II)Z -/
noncomputable def sX3_sees (G : GG) (N : Nat) (a0 : Option Nat) (a1 : Int32) (a2 : Int32) (h : Hp) : Out (Int32) :=
  gJ (fun (x1 : Unit) (h2 : Hp) =>
  gRtZ (1 : Int32) h2) fun j3 =>
  if a1 = a2 then (j3 () h)
  else bV h a0 16 (fun q12 => sX3_cabin G N (some q12) a1 h) fun v4 h5 =>
  bV h5 a0 16 (fun q11 => sX3_cabin G N (some q11) a2 h5) fun v6 h7 =>
  bV h7 a0 16 (fun q10 => sX3_isSeen G N (some q10) v4 v6 h7) fun v8 h9 =>
  if v8 = 0 then (gRtZ (0 : Int32) h9)
  else j3 () h9
abbrev mX3_sees : MI := (RX3, cX3_sees, 3, (some .boolean), [], 6, 129, "sees")
theorem tX3_sees {G : GG} {l : Launch} (hs : l.stackTraces = false) {N : Nat} {a0 : Option Nat} {a1 : Int32} {a2 : Int32} {h : Hp} {r : Int32 ⊕ Nat} {hf : Hp} (ho : sX3_sees G N a0 a1 a2 h = some (r, hf)) : gMet G l yX3_sees (ws_ yX3_sees cX3_sees 3 (some .boolean)) 6 129 [gr a0, gi a1, gi a2] h cvI r hf := by
  refine gMet.of ho hs (plainFor_of_name pn_X3) rfl rfl (gbl rfl) fun X => ?_
  show gT G l X mX3_sees cvI r hf 0 [(0, gr a0), (1, gi a1), (2, gi a2)] [] h (sX3_sees G N a0 a1 a2 h)
  delta sX3_sees
  refine g_iload_n (pc := 0) (x := a1) 1 rfl rfl dX3_sees_0 ?_
  refine g_iload_n (pc := 1) (x := a2) 2 rfl rfl dX3_sees_1 ?_
  refine g_join 22 (fun (x1 : Unit) => []) (fun (x1 : Unit) => []) (fun x1 h2 => ?_) (fun j3 Hj3 => ?_)
  · refine g_iconst (pc := 22) (v := (1 : Int32)) ic_1 dX3_sees_22 ?_
    refine g_goto (pc := 23) (tgt := 27) rfl dX3_sees_23 ?_
    exact g_zreturn (pc := 27) rfl dX3_sees_27
  refine g_icmp_eq (pc := 2) (tgt := 22) rfl dX3_sees_2 ?_ ?_
  · exact g_sub [] rfl (Hj3 () h)
  refine g_aload_n (pc := 5) (x := a0) 0 rfl rfl dX3_sees_5 ?_
  refine g_aload_n (pc := 6) (x := a0) 0 rfl rfl dX3_sees_6 ?_
  refine g_iload_n (pc := 7) (x := a1) 1 rfl rfl dX3_sees_7 ?_
  refine g_bVr (pc := 8) (y := yX3_cabin) (ws := ws_ yX3_cabin cX3_cabin 2 (some (.object "FlareSlopes$Cabin"))) (fr := 3) (lo := 64) (as := [gi a1]) (st := [gr a0]) (g_no) rfl (fun _ _ _ e => tX3_cabin hs e) (fun K _ _ _ hq hM R e1 e2 => g_runV (M := mX3_sees) (pc := 8) (y := yX3_cabin) (bytes := cX3_cabin) (maxL := 2) (ret := (some (.object "FlareSlopes$Cabin"))) (fr := 3) (lo := 64) (as := [gi a1]) (st := [gr a0]) hq (C := "FlareSlopes$State") rfl gy_X3_cabin (gbl rfl) (gbl rfl) (gbl rfl) q1638 q1639 q1640 dX3_sees_8 K hM R e1 e2) fun v4 h5 => ?_
  refine g_aload_n (pc := 11) (x := a0) 0 rfl rfl dX3_sees_11 ?_
  refine g_iload_n (pc := 12) (x := a2) 2 rfl rfl dX3_sees_12 ?_
  refine g_bVr (pc := 13) (y := yX3_cabin) (ws := ws_ yX3_cabin cX3_cabin 2 (some (.object "FlareSlopes$Cabin"))) (fr := 3) (lo := 64) (as := [gi a2]) (st := [gr v4, gr a0]) (g_no) rfl (fun _ _ _ e => tX3_cabin hs e) (fun K _ _ _ hq hM R e1 e2 => g_runV (M := mX3_sees) (pc := 13) (y := yX3_cabin) (bytes := cX3_cabin) (maxL := 2) (ret := (some (.object "FlareSlopes$Cabin"))) (fr := 3) (lo := 64) (as := [gi a2]) (st := [gr v4, gr a0]) hq (C := "FlareSlopes$State") rfl gy_X3_cabin (gbl rfl) (gbl rfl) (gbl rfl) q1638 q1639 q1640 dX3_sees_13 K hM R e1 e2) fun v6 h7 => ?_
  refine g_bVi (pc := 16) (y := yX3_isSeen) (ws := ws_ yX3_isSeen cX3_isSeen 3 (some .boolean)) (fr := 5) (lo := 107) (as := [gr v4, gr v6]) (st := []) (g_no) rfl (fun _ _ _ e => tX3_isSeen hs e) (fun K _ _ _ hq hM R e1 e2 => g_runV (M := mX3_sees) (pc := 16) (y := yX3_isSeen) (bytes := cX3_isSeen) (maxL := 3) (ret := (some .boolean)) (fr := 5) (lo := 107) (as := [gr v4, gr v6]) (st := []) hq (C := "FlareSlopes$State") rfl gy_X3_isSeen (gbl rfl) (gbl rfl) (gbl rfl) q1644 q1646 qs19 dX3_sees_16 K hM R e1 e2) fun v8 h9 => ?_
  refine g_if_eq (pc := 19) (tgt := 26) rfl dX3_sees_19 ?_ ?_
  rotate_left
  · exact g_sub [] rfl (Hj3 () h9)
  refine g_iconst (pc := 26) (v := (0 : Int32)) ic_0 dX3_sees_26 ?_
  exact g_zreturn (pc := 27) rfl dX3_sees_27
/-! FlareSlopes$State.seers(I)I -/
noncomputable def bX3_seers_4 (G : GG) (N : Nat) (a0 : Option Nat) (a1 : Int32) (w3 : (Int32 × Int32) → Hp → Out (Int32)) (x1 : Int32 × Int32) (h2 : Hp) : Out (Int32) :=
  bV h2 a0 16 (fun q13 => sX3_size G N (some q13) h2) fun v4 h5 =>
  if v4 ≤ x1.2 then (some (.inl x1.1, h5))
  else bV h5 a0 16 (fun q12 => sX3_sees G N (some q12) a1 x1.2 h5) fun v6 h7 =>
  gJ (fun (x8 : Int32) (h9 : Hp) =>
  w3 (x8, x1.2 + (1 : Int32)) h9) fun j10 =>
  if v6 = 0 then (j10 x1.1 h7)
  else gLet (x1.1 ||| ((1 : Int32) <<< (x1.2 &&& 31))) fun v11 =>
  j10 v11 h7
noncomputable def sX3_seers (G : GG) (N : Nat) (a0 : Option Nat) (a1 : Int32) (h : Hp) : Out (Int32) :=
  gLp (bX3_seers_4 G N a0 a1) N ((0 : Int32), (0 : Int32)) h
abbrev mX3_seers : MI := (RX3, cX3_seers, 4, (some .int), [], 7, 151, "seers")
theorem tX3_seers {G : GG} {l : Launch} (hs : l.stackTraces = false) {N : Nat} {a0 : Option Nat} {a1 : Int32} {h : Hp} {r : Int32 ⊕ Nat} {hf : Hp} (ho : sX3_seers G N a0 a1 h = some (r, hf)) : gMet G l yX3_seers (ws_ yX3_seers cX3_seers 4 (some .int)) 7 151 [gr a0, gi a1] h cvI r hf := by
  refine gMet.of ho hs (plainFor_of_name pn_X3) rfl rfl (gbl rfl) fun X => ?_
  show gT G l X mX3_seers cvI r hf 0 [(0, gr a0), (1, gi a1)] [] h (sX3_seers G N a0 a1 h)
  delta sX3_seers
  refine g_iconst (pc := 0) (v := (0 : Int32)) ic_0 dX3_seers_0 ?_
  refine g_istore_n (pc := 1) (lv' := [(2, gi (0 : Int32)), (0, gr a0), (1, gi a1)]) [0, 1, 2] rfl rfl (gblt rfl) dX3_seers_1 ?_
  refine g_iconst (pc := 2) (v := (0 : Int32)) ic_0 dX3_seers_2 ?_
  refine g_istore_n (pc := 3) (lv' := [(3, gi (0 : Int32)), (2, gi (0 : Int32)), (0, gr a0), (1, gi a1)]) [0, 1, 2, 3] rfl rfl (gblt rfl) dX3_seers_3 ?_
  refine g_sub (lv' := [(0, gr a0), (1, gi a1), (2, gi (0 : Int32)), (3, gi (0 : Int32))]) [2, 3, 1, 0] rfl ?_
  refine g_loop (pc := 4) (fun (x1 : Int32 × Int32) => [(0, gr a0), (1, gi a1), (2, gi x1.1), (3, gi x1.2)]) (fun (_ : Int32 × Int32) => []) (fun w3 Hw3 x1 h2 => ?_) N ((0 : Int32), (0 : Int32)) h
  delta bX3_seers_4
  refine g_iload_n (pc := 4) (x := x1.2) 3 rfl rfl dX3_seers_4 ?_
  refine g_aload_n (pc := 5) (x := a0) 0 rfl rfl dX3_seers_5 ?_
  refine g_bVi (pc := 6) (y := yX3_size) (ws := ws_ yX3_size cX3_size 1 (some .int)) (fr := 1) (lo := 20) (as := []) (st := [gi x1.2]) (g_no) rfl (fun _ _ _ e => tX3_size hs e) (fun K _ _ _ hq hM R e1 e2 => g_runV (M := mX3_seers) (pc := 6) (y := yX3_size) (bytes := cX3_size) (maxL := 1) (ret := (some .int)) (fr := 1) (lo := 20) (as := []) (st := [gi x1.2]) hq (C := "FlareSlopes$State") rfl gy_X3_size (gbl rfl) (gbl rfl) (gbl rfl) q1633 q1412 q1413 dX3_seers_6 K hM R e1 e2) fun v4 h5 => ?_
  refine g_icmp_ge (pc := 9) (tgt := 33) rfl dX3_seers_9 ?_ ?_
  · refine g_iload_n (pc := 33) (x := x1.1) 2 rfl rfl dX3_seers_33 ?_
    exact g_ireturn (pc := 34) rfl dX3_seers_34
  refine g_aload_n (pc := 12) (x := a0) 0 rfl rfl dX3_seers_12 ?_
  refine g_iload_n (pc := 13) (x := a1) 1 rfl rfl dX3_seers_13 ?_
  refine g_iload_n (pc := 14) (x := x1.2) 3 rfl rfl dX3_seers_14 ?_
  refine g_bVi (pc := 15) (y := yX3_sees) (ws := ws_ yX3_sees cX3_sees 3 (some .boolean)) (fr := 6) (lo := 129) (as := [gi a1, gi x1.2]) (st := []) (g_no) rfl (fun _ _ _ e => tX3_sees hs e) (fun K _ _ _ hq hM R e1 e2 => g_runV (M := mX3_seers) (pc := 15) (y := yX3_sees) (bytes := cX3_sees) (maxL := 3) (ret := (some .boolean)) (fr := 6) (lo := 129) (as := [gi a1, gi x1.2]) (st := []) hq (C := "FlareSlopes$State") rfl gy_X3_sees (gbl rfl) (gbl rfl) (gbl rfl) q1634 q1635 q1636 dX3_seers_15 K hM R e1 e2) fun v6 h7 => ?_
  refine g_join 27 (fun (x8 : Int32) => [(0, gr a0), (1, gi a1), (2, gi x8), (3, gi x1.2)]) (fun (x8 : Int32) => []) (fun x8 h9 => ?_) (fun j10 Hj10 => ?_)
  · refine g_iinc (pc := 27) (v := x1.2 + (1 : Int32)) 3 rfl (ii_1 _) (lv' := [(3, gi (x1.2 + (1 : Int32))), (0, gr a0), (1, gi a1), (2, gi x8)]) [0, 1, 2, 3] rfl (gblt rfl) dX3_seers_27 ?_
    refine g_goto (pc := 30) (tgt := 4) rfl dX3_seers_30 ?_
    exact g_sub [1, 2, 3, 0] rfl (Hw3 (x8, x1.2 + (1 : Int32)) h9)
  refine g_if_eq (pc := 18) (tgt := 27) rfl dX3_seers_18 ?_ ?_
  · exact Hj10 x1.1 h7
  refine g_iload_n (pc := 21) (x := x1.1) 2 rfl rfl dX3_seers_21 ?_
  refine g_iconst (pc := 22) (v := (1 : Int32)) ic_1 dX3_seers_22 ?_
  refine g_iload_n (pc := 23) (x := x1.2) 3 rfl rfl dX3_seers_23 ?_
  refine g_ishl (pc := 24) dX3_seers_24 ?_
  refine g_ior (pc := 25) dX3_seers_25 ?_
  refine g_leti fun v11 => ?_
  refine g_istore_n (pc := 26) (lv' := [(2, gi v11), (0, gr a0), (1, gi a1), (3, gi x1.2)]) [0, 1, 2, 3] rfl rfl (gblt rfl) dX3_seers_26 ?_
  exact g_sub [1, 2, 0, 3] rfl (Hj10 v11 h7)
/-! FlareSlopes.pairsInSight()I -/
noncomputable def bX1_pairsInSight_4 (G : GG) (N : Nat) (a0 : Option Nat) (j3 : (Int32) → Hp → Out (Int32)) (w7 : (Int32 × Int32) → Hp → Out (Int32)) (x5 : Int32 × Int32) (h6 : Hp) : Out (Int32) :=
  gFr h6 a0 3 4 fun v8 =>
  bV h6 v8 16 (fun q18 => sX3_size G N (some q18) h6) fun v9 h10 =>
  if v9 ≤ x5.2 then (j3 x5.1 h10)
  else gFr h10 a0 3 4 fun v11 =>
  bV h10 v11 16 (fun q17 => sX3_seers G N (some q17) x5.2 h10) fun v12 h13 =>
  bnd (sJ20_bitCount G N v12 h13) fun v14 h15 =>
  gLet (x5.1 + (v14 - (1 : Int32))) fun v16 =>
  w7 (v16, x5.2 + (1 : Int32)) h15
noncomputable def sX1_pairsInSight (G : GG) (N : Nat) (a0 : Option Nat) (h : Hp) : Out (Int32) :=
  gJ (fun (x1 : Int32) (h2 : Hp) =>
  gDv x1 (2 : Int32) fun v4 =>
  some (.inl v4, h2)) fun j3 =>
  gLp (bX1_pairsInSight_4 G N a0 j3) N ((0 : Int32), (0 : Int32)) h
abbrev mX1_pairsInSight : MI := (RX1, cX1_pairsInSight, 3, (some .int), [], 8, 174, "pairsInSight")
theorem tX1_pairsInSight {G : GG} {l : Launch} (hs : l.stackTraces = false) {N : Nat} {a0 : Option Nat} {h : Hp} {r : Int32 ⊕ Nat} {hf : Hp} (ho : sX1_pairsInSight G N a0 h = some (r, hf)) : gMet G l yX1_pairsInSight (ws_ yX1_pairsInSight cX1_pairsInSight 3 (some .int)) 8 174 [gr a0] h cvI r hf := by
  refine gMet.of ho hs (plainFor_of_name pn_X1) rfl rfl (gbl rfl) fun X => ?_
  show gT G l X mX1_pairsInSight cvI r hf 0 [(0, gr a0)] [] h (sX1_pairsInSight G N a0 h)
  delta sX1_pairsInSight
  refine g_iconst (pc := 0) (v := (0 : Int32)) ic_0 dX1_pairsInSight_0 ?_
  refine g_istore_n (pc := 1) (lv' := [(1, gi (0 : Int32)), (0, gr a0)]) [0, 1] rfl rfl (gblt rfl) dX1_pairsInSight_1 ?_
  refine g_iconst (pc := 2) (v := (0 : Int32)) ic_0 dX1_pairsInSight_2 ?_
  refine g_istore_n (pc := 3) (lv' := [(2, gi (0 : Int32)), (1, gi (0 : Int32)), (0, gr a0)]) [0, 1, 2] rfl rfl (gblt rfl) dX1_pairsInSight_3 ?_
  refine g_join 37 (fun (x1 : Int32) => [(1, gi x1)]) (fun (x1 : Int32) => []) (fun x1 h2 => ?_) (fun j3 Hj3 => ?_)
  · refine g_iload_n (pc := 37) (x := x1) 0 rfl rfl dX1_pairsInSight_37 ?_
    refine g_iconst (pc := 38) (v := (2 : Int32)) ic_2 dX1_pairsInSight_38 ?_
    refine g_idiv (pc := 39) dX1_pairsInSight_39 fun v4 => ?_
    exact g_ireturn (pc := 40) rfl dX1_pairsInSight_40
  refine g_sub (lv' := [(0, gr a0), (1, gi (0 : Int32)), (2, gi (0 : Int32))]) [2, 1, 0] rfl ?_
  refine g_loop (pc := 4) (fun (x5 : Int32 × Int32) => [(0, gr a0), (1, gi x5.1), (2, gi x5.2)]) (fun (_ : Int32 × Int32) => []) (fun w7 Hw7 x5 h6 => ?_) N ((0 : Int32), (0 : Int32)) h
  delta bX1_pairsInSight_4
  refine g_iload_n (pc := 4) (x := x5.2) 2 rfl rfl dX1_pairsInSight_4 ?_
  refine g_aload_n (pc := 5) (x := a0) 0 rfl rfl dX1_pairsInSight_5 ?_
  refine g_getfr (pc := 6) k_3 (gblt rfl) lk_X1_56_3 dX1_pairsInSight_6 fun v8 => ?_
  refine g_bVi (pc := 9) (y := yX3_size) (ws := ws_ yX3_size cX3_size 1 (some .int)) (fr := 1) (lo := 20) (as := []) (st := [gi x5.2]) (g_no) rfl (fun _ _ _ e => tX3_size hs e) (fun K _ _ _ hq hM R e1 e2 => g_runV (M := mX1_pairsInSight) (pc := 9) (y := yX3_size) (bytes := cX3_size) (maxL := 1) (ret := (some .int)) (fr := 1) (lo := 20) (as := []) (st := [gi x5.2]) hq (C := "FlareSlopes$State") rfl gy_X3_size (gbl rfl) (gbl rfl) (gbl rfl) q1411 q1412 q1413 dX1_pairsInSight_9 K hM R e1 e2) fun v9 h10 => ?_
  refine g_icmp_ge (pc := 12) (tgt := 37) rfl dX1_pairsInSight_12 ?_ ?_
  · exact g_sub [1] rfl (Hj3 x5.1 h10)
  refine g_iload_n (pc := 15) (x := x5.1) 1 rfl rfl dX1_pairsInSight_15 ?_
  refine g_aload_n (pc := 16) (x := a0) 0 rfl rfl dX1_pairsInSight_16 ?_
  refine g_getfr (pc := 17) k_3 (gblt rfl) lk_X1_56_3 dX1_pairsInSight_17 fun v11 => ?_
  refine g_iload_n (pc := 20) (x := x5.2) 2 rfl rfl dX1_pairsInSight_20 ?_
  refine g_bVi (pc := 21) (y := yX3_seers) (ws := ws_ yX3_seers cX3_seers 4 (some .int)) (fr := 7) (lo := 151) (as := [gi x5.2]) (st := [gi x5.1]) (g_no) rfl (fun _ _ _ e => tX3_seers hs e) (fun K _ _ _ hq hM R e1 e2 => g_runV (M := mX1_pairsInSight) (pc := 21) (y := yX3_seers) (bytes := cX3_seers) (maxL := 4) (ret := (some .int)) (fr := 7) (lo := 151) (as := [gi x5.2]) (st := [gi x5.1]) hq (C := "FlareSlopes$State") rfl gy_X3_seers (gbl rfl) (gbl rfl) (gbl rfl) q1629 q1630 q1631 dX1_pairsInSight_21 K hM R e1 e2) fun v12 h13 => ?_
  refine g_bi (pc := 24) (y := yJ20_bitCount) (ws := ws_ yJ20_bitCount cJ20_bitCount 1 (some .int)) (fr := 0) (lo := 0) (as := [gi v12]) (st := [gi x5.1]) (g_no) rfl (fun _ _ e => tJ20_bitCount hs e) (fun K _ _ hM R e1 e2 => g_runS (M := mX1_pairsInSight) (pc := 24) (y := yJ20_bitCount) (bytes := cJ20_bitCount) (maxL := 1) (ret := (some .int)) (fr := 0) (lo := 0) (as := [gi v12]) (st := [gi x5.1]) gy_J20_bitCount (gbl rfl) (gbl rfl) (gbl rfl) q1619 q1620 dX1_pairsInSight_24 K hM R e1 e2) fun v14 h15 => ?_
  refine g_iconst (pc := 27) (v := (1 : Int32)) ic_1 dX1_pairsInSight_27 ?_
  refine g_isub (pc := 28) dX1_pairsInSight_28 ?_
  refine g_iadd (pc := 29) dX1_pairsInSight_29 ?_
  refine g_leti fun v16 => ?_
  refine g_istore_n (pc := 30) (lv' := [(1, gi v16), (0, gr a0), (2, gi x5.2)]) [0, 1, 2] rfl rfl (gblt rfl) dX1_pairsInSight_30 ?_
  refine g_iinc (pc := 31) (v := x5.2 + (1 : Int32)) 2 rfl (ii_1 _) (lv' := [(2, gi (x5.2 + (1 : Int32))), (1, gi v16), (0, gr a0)]) [0, 1, 2] rfl (gblt rfl) dX1_pairsInSight_31 ?_
  refine g_goto (pc := 34) (tgt := 4) rfl dX1_pairsInSight_34 ?_
  exact g_sub [2, 1, 0] rfl (Hw7 (v16, x5.2 + (1 : Int32)) h15)
/-! FlareSlopes.withoutFlares()I -/
noncomputable def bX1_withoutFlares_4 (G : GG) (N : Nat) (a0 : Option Nat) (w3 : (Int32 × Int32) → Hp → Out (Int32)) (x1 : Int32 × Int32) (h2 : Hp) : Out (Int32) :=
  gFr h2 a0 3 4 fun v4 =>
  bV h2 v4 16 (fun q16 => sX3_size G N (some q16) h2) fun v5 h6 =>
  if v5 ≤ x1.2 then (some (.inl x1.1, h6))
  else gFr h6 a0 3 4 fun v7 =>
  bV h6 v7 16 (fun q15 => sX3_cabin G N (some q15) x1.2 h6) fun v8 h9 =>
  gFi h9 v8 7 2 fun v10 =>
  gJ (fun (x11 : Int32) (h12 : Hp) =>
  gLet (x1.1 + x11) fun v14 =>
  w3 (v14, x1.2 + (1 : Int32)) h12) fun j13 =>
  if v10 = 0 then (j13 (1 : Int32) h9)
  else j13 (0 : Int32) h9
noncomputable def sX1_withoutFlares (G : GG) (N : Nat) (a0 : Option Nat) (h : Hp) : Out (Int32) :=
  gLp (bX1_withoutFlares_4 G N a0) N ((0 : Int32), (0 : Int32)) h
abbrev mX1_withoutFlares : MI := (RX1, cX1_withoutFlares, 3, (some .int), [], 4, 85, "withoutFlares")
theorem tX1_withoutFlares {G : GG} {l : Launch} (hs : l.stackTraces = false) {N : Nat} {a0 : Option Nat} {h : Hp} {r : Int32 ⊕ Nat} {hf : Hp} (ho : sX1_withoutFlares G N a0 h = some (r, hf)) : gMet G l yX1_withoutFlares (ws_ yX1_withoutFlares cX1_withoutFlares 3 (some .int)) 4 85 [gr a0] h cvI r hf := by
  refine gMet.of ho hs (plainFor_of_name pn_X1) rfl rfl (gbl rfl) fun X => ?_
  show gT G l X mX1_withoutFlares cvI r hf 0 [(0, gr a0)] [] h (sX1_withoutFlares G N a0 h)
  delta sX1_withoutFlares
  refine g_iconst (pc := 0) (v := (0 : Int32)) ic_0 dX1_withoutFlares_0 ?_
  refine g_istore_n (pc := 1) (lv' := [(1, gi (0 : Int32)), (0, gr a0)]) [0, 1] rfl rfl (gblt rfl) dX1_withoutFlares_1 ?_
  refine g_iconst (pc := 2) (v := (0 : Int32)) ic_0 dX1_withoutFlares_2 ?_
  refine g_istore_n (pc := 3) (lv' := [(2, gi (0 : Int32)), (1, gi (0 : Int32)), (0, gr a0)]) [0, 1, 2] rfl rfl (gblt rfl) dX1_withoutFlares_3 ?_
  refine g_sub (lv' := [(0, gr a0), (1, gi (0 : Int32)), (2, gi (0 : Int32))]) [2, 1, 0] rfl ?_
  refine g_loop (pc := 4) (fun (x1 : Int32 × Int32) => [(0, gr a0), (1, gi x1.1), (2, gi x1.2)]) (fun (_ : Int32 × Int32) => []) (fun w3 Hw3 x1 h2 => ?_) N ((0 : Int32), (0 : Int32)) h
  delta bX1_withoutFlares_4
  refine g_iload_n (pc := 4) (x := x1.2) 2 rfl rfl dX1_withoutFlares_4 ?_
  refine g_aload_n (pc := 5) (x := a0) 0 rfl rfl dX1_withoutFlares_5 ?_
  refine g_getfr (pc := 6) k_3 (gblt rfl) lk_X1_56_3 dX1_withoutFlares_6 fun v4 => ?_
  refine g_bVi (pc := 9) (y := yX3_size) (ws := ws_ yX3_size cX3_size 1 (some .int)) (fr := 1) (lo := 20) (as := []) (st := [gi x1.2]) (g_no) rfl (fun _ _ _ e => tX3_size hs e) (fun K _ _ _ hq hM R e1 e2 => g_runV (M := mX1_withoutFlares) (pc := 9) (y := yX3_size) (bytes := cX3_size) (maxL := 1) (ret := (some .int)) (fr := 1) (lo := 20) (as := []) (st := [gi x1.2]) hq (C := "FlareSlopes$State") rfl gy_X3_size (gbl rfl) (gbl rfl) (gbl rfl) q1411 q1412 q1413 dX1_withoutFlares_9 K hM R e1 e2) fun v5 h6 => ?_
  refine g_icmp_ge (pc := 12) (tgt := 43) rfl dX1_withoutFlares_12 ?_ ?_
  · refine g_iload_n (pc := 43) (x := x1.1) 1 rfl rfl dX1_withoutFlares_43 ?_
    exact g_ireturn (pc := 44) rfl dX1_withoutFlares_44
  refine g_iload_n (pc := 15) (x := x1.1) 1 rfl rfl dX1_withoutFlares_15 ?_
  refine g_aload_n (pc := 16) (x := a0) 0 rfl rfl dX1_withoutFlares_16 ?_
  refine g_getfr (pc := 17) k_3 (gblt rfl) lk_X1_56_3 dX1_withoutFlares_17 fun v7 => ?_
  refine g_iload_n (pc := 20) (x := x1.2) 2 rfl rfl dX1_withoutFlares_20 ?_
  refine g_bVr (pc := 21) (y := yX3_cabin) (ws := ws_ yX3_cabin cX3_cabin 2 (some (.object "FlareSlopes$Cabin"))) (fr := 3) (lo := 64) (as := [gi x1.2]) (st := [gi x1.1]) (g_no) rfl (fun _ _ _ e => tX3_cabin hs e) (fun K _ _ _ hq hM R e1 e2 => g_runV (M := mX1_withoutFlares) (pc := 21) (y := yX3_cabin) (bytes := cX3_cabin) (maxL := 2) (ret := (some (.object "FlareSlopes$Cabin"))) (fr := 3) (lo := 64) (as := [gi x1.2]) (st := [gi x1.1]) hq (C := "FlareSlopes$State") rfl gy_X3_cabin (gbl rfl) (gbl rfl) (gbl rfl) q1738 q1639 q1640 dX1_withoutFlares_21 K hM R e1 e2) fun v8 h9 => ?_
  refine g_getfi (pc := 24) k_7 (gblt rfl) lk_X1_200_7 dX1_withoutFlares_24 fun v10 => ?_
  refine g_join 35 (fun (x11 : Int32) => [(0, gr a0), (2, gi x1.2)]) (fun (x11 : Int32) => [gi x11, gi x1.1]) (fun x11 h12 => ?_) (fun j13 Hj13 => ?_)
  · refine g_iadd (pc := 35) dX1_withoutFlares_35 ?_
    refine g_leti fun v14 => ?_
    refine g_istore_n (pc := 36) (lv' := [(1, gi v14), (0, gr a0), (2, gi x1.2)]) [0, 1, 2] rfl rfl (gblt rfl) dX1_withoutFlares_36 ?_
    refine g_iinc (pc := 37) (v := x1.2 + (1 : Int32)) 2 rfl (ii_1 _) (lv' := [(2, gi (x1.2 + (1 : Int32))), (1, gi v14), (0, gr a0)]) [0, 1, 2] rfl (gblt rfl) dX1_withoutFlares_37 ?_
    refine g_goto (pc := 40) (tgt := 4) rfl dX1_withoutFlares_40 ?_
    exact g_sub [2, 1, 0] rfl (Hw3 (v14, x1.2 + (1 : Int32)) h12)
  refine g_if_ne (pc := 27) (tgt := 34) rfl dX1_withoutFlares_27 ?_ ?_
  rotate_left
  · refine g_iconst (pc := 34) (v := (0 : Int32)) ic_0 dX1_withoutFlares_34 ?_
    exact g_sub [0, 2] rfl (Hj13 (0 : Int32) h9)
  refine g_iconst (pc := 30) (v := (1 : Int32)) ic_1 dX1_withoutFlares_30 ?_
  refine g_goto (pc := 31) (tgt := 35) rfl dX1_withoutFlares_31 ?_
  exact g_sub [0, 2] rfl (Hj13 (1 : Int32) h9)
/-! java/util/AbstractCollection.<init>()V -/
noncomputable def sJ0_init_c33 (G : GG) (N : Nat) (a0 : Option Nat) (h : Hp) : Out (Unit) :=
  gNN a0 (some (.inl (), h))
abbrev mJ0_init_c33 : MI := (RJ0, cJ0_init, 1, none, [], 1, 12, "<init>")
theorem tJ0_init_c33 {G : GG} {l : Launch} (hs : l.stackTraces = false) {N : Nat} {a0 : Option Nat} {h : Hp} {r : Unit ⊕ Nat} {hf : Hp} (ho : sJ0_init_c33 G N a0 h = some (r, hf)) : gMet G l yJ0_init (ws_ yJ0_init cJ0_init 1 none) 1 12 [gr a0] h cvU r hf := by
  refine gMet.of ho hs (plainFor_of_name pn_J0) rfl rfl (gbl rfl) fun X => ?_
  show gT G l X mJ0_init_c33 cvU r hf 0 [(0, gr a0)] [] h (sJ0_init_c33 G N a0 h)
  delta sJ0_init_c33
  refine g_aload_n (pc := 0) (x := a0) 0 rfl rfl dJ0_init_0 ?_
  refine g_objInit' (pc := 1) q217 oi_in oi_code (gbl rfl) (gbl rfl) dJ0_init_1 ?_
  exact g_return (pc := 4) rfl dJ0_init_4
/-! java/util/LinkedHashMap$LinkedValues.<init>(Ljava/util/LinkedHashMap;Z)V -/
noncomputable def sJ27_init (G : GG) (N : Nat) (a0 : Option Nat) (a1 : Option Nat) (a2 : Int32) (h : Hp) : Out (Unit) :=
  gP G h a0 33 1 (va_rf a1) fun h1 =>
  bI a0 (fun q5 => sJ0_init_c33 G N (some q5) h1) fun v2 h3 =>
  gPz G h3 a0 33 0 a2 fun h4 =>
  some (.inl (), h4)
abbrev mJ27_init : MI := (RJ27, cJ27_init, 3, none, [], 2, 32, "<init>")
theorem tJ27_init {G : GG} {l : Launch} (hs : l.stackTraces = false) {N : Nat} {a0 : Option Nat} {a1 : Option Nat} {a2 : Int32} {h : Hp} {r : Unit ⊕ Nat} {hf : Hp} (ho : sJ27_init G N a0 a1 a2 h = some (r, hf)) : gMet G l yJ27_init (ws_ yJ27_init cJ27_init 3 none) 2 32 [gr a0, gr a1, gi a2] h cvU r hf := by
  refine gMet.of ho hs (plainFor_of_name pn_J27) rfl rfl (gbl rfl) fun X => ?_
  show gT G l X mJ27_init cvU r hf 0 [(0, gr a0), (1, gr a1), (2, gi a2)] [] h (sJ27_init G N a0 a1 a2 h)
  delta sJ27_init
  refine g_aload_n (pc := 0) (x := a0) 0 rfl rfl dJ27_init_0 ?_
  refine g_aload_n (pc := 1) (x := a1) 1 rfl rfl dJ27_init_1 ?_
  refine g_putFin (pc := 2) k_33 (gblt rfl) lk_J27_1_33 q1763 rfl rfl rfl rfl (gNr _ _) dJ27_init_2 fun h1 => ?_
  refine g_aload_n (pc := 5) (x := a0) 0 rfl rfl dJ27_init_5 ?_
  refine g_bIu (pc := 6) (y := yJ0_init) (ws := ws_ yJ0_init cJ0_init 1 none) (fr := 1) (lo := 12) (as := []) (st := []) (g_no) rfl (fun _ _ _ e => tJ0_init_c33 hs e) (fun K _ _ _ hM R e1 e2 => g_runI (M := mJ27_init) (pc := 6) (y := yJ0_init) (bytes := cJ0_init) (maxL := 1) (ret := none) (fr := 1) (lo := 12) (as := []) (st := []) gy_J0_init (gbl rfl) (gbl rfl) (gbl rfl) rfl q1761 q215 rfl dJ27_init_6 K hM R e1 e2) fun v2 h3 => ?_
  refine g_aload_n (pc := 9) (x := a0) 0 rfl rfl dJ27_init_9 ?_
  refine g_iload_n (pc := 10) (x := a2) 2 rfl rfl dJ27_init_10 ?_
  refine g_putzFin (pc := 11) k_33 (gblt rfl) lk_J27_13_33 q1762 rfl rfl rfl rfl dJ27_init_11 fun h4 => ?_
  exact g_return (pc := 14) rfl dJ27_init_14
/-! java/util/LinkedHashMap.sequencedValues()Ljava/util/SequencedCollection; -/
noncomputable def sJ24_sequencedValues (G : GG) (N : Nat) (a0 : Option Nat) (h : Hp) : Out (Option Nat) :=
  gFr h a0 26 7 fun v1 =>
  if v1 = none then (gNew h 33 [.int 0, .null] 2 fun v2 h3 =>
  bI v2 (fun q7 => sJ27_init G N (some q7) a0 (0 : Int32) h3) fun v4 h5 =>
  gP G h5 a0 26 7 (va_rf v2) fun h6 =>
  some (.inl v2, h6))
  else gCk h v1 [33] (some (.inl v1, h))
abbrev mJ24_sequencedValues : MI := (RJ24, cJ24_sequencedValues, 3, (some (.object "java/util/SequencedCollection")), [], 3, 54, "sequencedValues")
theorem tJ24_sequencedValues {G : GG} {l : Launch} (hs : l.stackTraces = false) {N : Nat} {a0 : Option Nat} {h : Hp} {r : Option Nat ⊕ Nat} {hf : Hp} (ho : sJ24_sequencedValues G N a0 h = some (r, hf)) : gMet G l yJ24_sequencedValues (ws_ yJ24_sequencedValues cJ24_sequencedValues 3 (some (.object "java/util/SequencedCollection"))) 3 54 [gr a0] h cvR r hf := by
  refine gMet.of ho hs (plainFor_of_name pn_J24) rfl rfl (gbl rfl) fun X => ?_
  show gT G l X mJ24_sequencedValues cvR r hf 0 [(0, gr a0)] [] h (sJ24_sequencedValues G N a0 h)
  delta sJ24_sequencedValues
  refine g_aload_n (pc := 0) (x := a0) 0 rfl rfl dJ24_sequencedValues_0 ?_
  refine g_getfr (pc := 1) k_26 (gblt rfl) lk_J24_139_26 dJ24_sequencedValues_1 fun v1 => ?_
  refine g_astore_n (pc := 4) (lv' := [(1, gr v1), (0, gr a0)]) [0, 1] rfl rfl (gblt rfl) dJ24_sequencedValues_4 ?_
  refine g_aload_n (pc := 5) (x := v1) 0 rfl rfl dJ24_sequencedValues_5 ?_
  refine g_ifnonnull (pc := 6) (tgt := 26) rfl dJ24_sequencedValues_6 ?_ ?_
  rotate_left
  · refine g_aload_n (pc := 26) (x := v1) 0 rfl rfl dJ24_sequencedValues_26 ?_
    refine g_checkcast (pc := 27) q1769 as_33_java_util_SequencedCollection dJ24_sequencedValues_27 ?_
    exact g_areturn (pc := 30) rfl (Or.inl ⟨_, rfl⟩) dJ24_sequencedValues_30
  refine g_new (pc := 9) k_33 df_33 q1756 q1757 q169 dJ24_sequencedValues_9 fun v2 h3 => ?_
  refine g_dup (pc := 12) rfl dJ24_sequencedValues_12 ?_
  refine g_aload_n (pc := 13) (x := a0) 1 rfl rfl dJ24_sequencedValues_13 ?_
  refine g_iconst (pc := 14) (v := (0 : Int32)) ic_0 dJ24_sequencedValues_14 ?_
  refine g_bIu (pc := 15) (y := yJ27_init) (ws := ws_ yJ27_init cJ27_init 3 none) (fr := 2) (lo := 32) (as := [gr a0, gi (0 : Int32)]) (st := [gr v2]) (g_no) rfl (fun _ _ _ e => tJ27_init hs e) (fun K _ _ _ hM R e1 e2 => g_runI (M := mJ24_sequencedValues) (pc := 15) (y := yJ27_init) (bytes := cJ27_init) (maxL := 3) (ret := none) (fr := 2) (lo := 32) (as := [gr a0, gi (0 : Int32)]) (st := [gr v2]) gy_J27_init (gbl rfl) (gbl rfl) (gbl rfl) rfl q1758 q1759 rfl dJ24_sequencedValues_15 K hM R e1 e2) fun v4 h5 => ?_
  refine g_astore_n (pc := 18) (lv' := [(2, gr v2), (0, gr a0)]) [0, 2] rfl rfl (gblt rfl) dJ24_sequencedValues_18 ?_
  refine g_aload_n (pc := 19) (x := a0) 1 rfl rfl dJ24_sequencedValues_19 ?_
  refine g_aload_n (pc := 20) (x := v2) 0 rfl rfl dJ24_sequencedValues_20 ?_
  refine g_put (pc := 21) k_26 (gblt rfl) lk_J24_139_26 rfl rfl (gNr _ _) dJ24_sequencedValues_21 fun h6 => ?_
  refine g_aload_n (pc := 24) (x := v2) 0 rfl rfl dJ24_sequencedValues_24 ?_
  exact g_areturn (pc := 25) rfl (Or.inl ⟨_, rfl⟩) dJ24_sequencedValues_25
/-! java/util/LinkedHashMap.values()Ljava/util/Collection; -/
noncomputable def sJ24_values (G : GG) (N : Nat) (a0 : Option Nat) (h : Hp) : Out (Option Nat) :=
  bV h a0 26 (fun q3 => sJ24_sequencedValues G N (some q3) h) fun v1 h2 =>
  some (.inl v1, h2)
abbrev mJ24_values : MI := (RJ24, cJ24_values, 1, (some (.object "java/util/Collection")), [], 4, 76, "values")
theorem tJ24_values {G : GG} {l : Launch} (hs : l.stackTraces = false) {N : Nat} {a0 : Option Nat} {h : Hp} {r : Option Nat ⊕ Nat} {hf : Hp} (ho : sJ24_values G N a0 h = some (r, hf)) : gMet G l yJ24_values (ws_ yJ24_values cJ24_values 1 (some (.object "java/util/Collection"))) 4 76 [gr a0] h cvR r hf := by
  refine gMet.of ho hs (plainFor_of_name pn_J24) rfl rfl (gbl rfl) fun X => ?_
  show gT G l X mJ24_values cvR r hf 0 [(0, gr a0)] [] h (sJ24_values G N a0 h)
  delta sJ24_values
  refine g_aload_n (pc := 0) (x := a0) 0 rfl rfl dJ24_values_0 ?_
  refine g_bVr (pc := 1) (y := yJ24_sequencedValues) (ws := ws_ yJ24_sequencedValues cJ24_sequencedValues 3 (some (.object "java/util/SequencedCollection"))) (fr := 3) (lo := 54) (as := []) (st := []) (g_no) rfl (fun _ _ _ e => tJ24_sequencedValues hs e) (fun K _ _ _ hq hM R e1 e2 => g_runV (M := mJ24_values) (pc := 1) (y := yJ24_sequencedValues) (bytes := cJ24_sequencedValues) (maxL := 3) (ret := (some (.object "java/util/SequencedCollection"))) (fr := 3) (lo := 54) (as := []) (st := []) hq (C := "java/util/LinkedHashMap") rfl gy_J24_sequencedValues (gbl rfl) (gbl rfl) (gbl rfl) q1752 q1753 q1754 dJ24_values_1 K hM R e1 e2) fun v1 h2 => ?_
  exact g_areturn (pc := 4) rfl (Or.inl ⟨_, rfl⟩) dJ24_values_4
/-! java/util/LinkedHashMap$LinkedHashIterator.<init>(Ljava/util/LinkedHashMap;Z)V -/
noncomputable def sJ31_init_c32 (G : GG) (N : Nat) (a0 : Option Nat) (a1 : Option Nat) (a2 : Int32) (h : Hp) : Out (Unit) :=
  gP G h a0 32 4 (va_rf a1) fun h1 =>
  gNN a0 (gPz G h1 a0 32 3 a2 fun h2 =>
  gJ (fun (x3 : Option Nat) (h4 : Hp) =>
  gP G h4 a0 32 0 (va_rf x3) fun h6 =>
  gFi h6 a1 26 3 fun v7 =>
  gP G h6 a0 32 2 (.int v7) fun h8 =>
  gP G h8 a0 32 1 (va_rf none) fun h9 =>
  some (.inl (), h9)) fun j5 =>
  if a2 = 0 then (gFr h2 a1 26 8 fun v10 =>
  j5 v10 h2)
  else gFr h2 a1 26 9 fun v11 =>
  j5 v11 h2)
abbrev mJ31_init_c32 : MI := (RJ31, cJ31_init, 3, none, [], 1, 12, "<init>")
theorem tJ31_init_c32 {G : GG} {l : Launch} (hs : l.stackTraces = false) {N : Nat} {a0 : Option Nat} {a1 : Option Nat} {a2 : Int32} {h : Hp} {r : Unit ⊕ Nat} {hf : Hp} (ho : sJ31_init_c32 G N a0 a1 a2 h = some (r, hf)) : gMet G l yJ31_init (ws_ yJ31_init cJ31_init 3 none) 1 12 [gr a0, gr a1, gi a2] h cvU r hf := by
  refine gMet.of ho hs (plainFor_of_name pn_J31) rfl rfl (gbl rfl) fun X => ?_
  show gT G l X mJ31_init_c32 cvU r hf 0 [(0, gr a0), (1, gr a1), (2, gi a2)] [] h (sJ31_init_c32 G N a0 a1 a2 h)
  delta sJ31_init_c32
  refine g_aload_n (pc := 0) (x := a0) 0 rfl rfl dJ31_init_0 ?_
  refine g_aload_n (pc := 1) (x := a1) 1 rfl rfl dJ31_init_1 ?_
  refine g_putFin (pc := 2) k_32 (gblt rfl) lk_J31_1_32 q1852 rfl rfl rfl rfl (gNr _ _) dJ31_init_2 fun h1 => ?_
  refine g_aload_n (pc := 5) (x := a0) 0 rfl rfl dJ31_init_5 ?_
  refine g_objInit' (pc := 6) q1847 oi_in oi_code (gbl rfl) (gbl rfl) dJ31_init_6 ?_
  refine g_aload_n (pc := 9) (x := a0) 0 rfl rfl dJ31_init_9 ?_
  refine g_iload_n (pc := 10) (x := a2) 2 rfl rfl dJ31_init_10 ?_
  refine g_putz (pc := 11) k_32 (gblt rfl) lk_J31_13_32 rfl rfl dJ31_init_11 fun h2 => ?_
  refine g_aload_n (pc := 14) (x := a0) 0 rfl rfl dJ31_init_14 ?_
  refine g_iload_n (pc := 15) (x := a2) 2 rfl rfl dJ31_init_15 ?_
  refine g_join 30 (fun (x3 : Option Nat) => [(0, gr a0), (1, gr a1)]) (fun (x3 : Option Nat) => [gr x3, gr a0]) (fun x3 h4 => ?_) (fun j5 Hj5 => ?_)
  · refine g_put (pc := 30) k_32 (gblt rfl) lk_J31_26_32 rfl rfl (gNr _ _) dJ31_init_30 fun h6 => ?_
    refine g_aload_n (pc := 33) (x := a0) 0 rfl rfl dJ31_init_33 ?_
    refine g_aload_n (pc := 34) (x := a1) 1 rfl rfl dJ31_init_34 ?_
    refine g_getfi (pc := 35) k_26 (gblt rfl) lk_J31_29_26 dJ31_init_35 fun v7 => ?_
    refine g_put (pc := 38) k_32 (gblt rfl) lk_J31_33_32 rfl rfl (gNi _) dJ31_init_38 fun h8 => ?_
    refine g_aload_n (pc := 41) (x := a0) 0 rfl rfl dJ31_init_41 ?_
    refine g_aconst_null (pc := 42) dJ31_init_42 ?_
    refine g_put (pc := 43) k_32 (gblt rfl) lk_J31_36_32 rfl rfl (gNr _ _) dJ31_init_43 fun h9 => ?_
    exact g_return (pc := 46) rfl dJ31_init_46
  refine g_if_eq (pc := 16) (tgt := 26) rfl dJ31_init_16 ?_ ?_
  · refine g_aload_n (pc := 26) (x := a1) 1 rfl rfl dJ31_init_26 ?_
    refine g_getfr (pc := 27) k_26 (gblt rfl) lk_J31_23_26 dJ31_init_27 fun v10 => ?_
    exact g_sub [0, 1] rfl (Hj5 v10 h2)
  refine g_aload_n (pc := 19) (x := a1) 1 rfl rfl dJ31_init_19 ?_
  refine g_getfr (pc := 20) k_26 (gblt rfl) lk_J31_17_26 dJ31_init_20 fun v11 => ?_
  refine g_goto (pc := 23) (tgt := 30) rfl dJ31_init_23 ?_
  exact g_sub [0, 1] rfl (Hj5 v11 h2)
/-! java/util/LinkedHashMap$LinkedValueIterator.<init>(Ljava/util/LinkedHashMap;Z)V -/
noncomputable def sJ34_init (G : GG) (N : Nat) (a0 : Option Nat) (a1 : Option Nat) (a2 : Int32) (h : Hp) : Out (Unit) :=
  bI a0 (fun q3 => sJ31_init_c32 G N (some q3) a1 a2 h) fun v1 h2 =>
  some (.inl (), h2)
abbrev mJ34_init : MI := (RJ34, cJ34_init, 3, none, [], 2, 34, "<init>")
theorem tJ34_init {G : GG} {l : Launch} (hs : l.stackTraces = false) {N : Nat} {a0 : Option Nat} {a1 : Option Nat} {a2 : Int32} {h : Hp} {r : Unit ⊕ Nat} {hf : Hp} (ho : sJ34_init G N a0 a1 a2 h = some (r, hf)) : gMet G l yJ34_init (ws_ yJ34_init cJ34_init 3 none) 2 34 [gr a0, gr a1, gi a2] h cvU r hf := by
  refine gMet.of ho hs (plainFor_of_name pn_J34) rfl rfl (gbl rfl) fun X => ?_
  show gT G l X mJ34_init cvU r hf 0 [(0, gr a0), (1, gr a1), (2, gi a2)] [] h (sJ34_init G N a0 a1 a2 h)
  delta sJ34_init
  refine g_aload_n (pc := 0) (x := a0) 0 rfl rfl dJ34_init_0 ?_
  refine g_aload_n (pc := 1) (x := a1) 1 rfl rfl dJ34_init_1 ?_
  refine g_iload_n (pc := 2) (x := a2) 2 rfl rfl dJ34_init_2 ?_
  refine g_bIu (pc := 3) (y := yJ31_init) (ws := ws_ yJ31_init cJ31_init 3 none) (fr := 1) (lo := 12) (as := [gr a1, gi a2]) (st := []) (g_no) rfl (fun _ _ _ e => tJ31_init_c32 hs e) (fun K _ _ _ hM R e1 e2 => g_runI (M := mJ34_init) (pc := 3) (y := yJ31_init) (bytes := cJ31_init) (maxL := 3) (ret := none) (fr := 1) (lo := 12) (as := [gr a1, gi a2]) (st := []) gy_J31_init (gbl rfl) (gbl rfl) (gbl rfl) rfl q1893 q1845 rfl dJ34_init_3 K hM R e1 e2) fun v1 h2 => ?_
  exact g_return (pc := 6) rfl dJ34_init_6
/-! java/util/LinkedHashMap$LinkedValues.iterator()Ljava/util/Iterator; -/
noncomputable def sJ27_iterator (G : GG) (N : Nat) (a0 : Option Nat) (h : Hp) : Out (Option Nat) :=
  gNew h 32 [.null, .null, .int 0, .int 0, .null] 5 fun v1 h2 =>
  gFr h2 a0 33 1 fun v3 =>
  gFi h2 a0 33 0 fun v4 =>
  bI v1 (fun q7 => sJ34_init G N (some q7) v3 v4 h2) fun v5 h6 =>
  some (.inl v1, h6)
abbrev mJ27_iterator : MI := (RJ27, cJ27_iterator, 1, (some (.object "java/util/Iterator")), [], 3, 56, "iterator")
theorem tJ27_iterator {G : GG} {l : Launch} (hs : l.stackTraces = false) {N : Nat} {a0 : Option Nat} {h : Hp} {r : Option Nat ⊕ Nat} {hf : Hp} (ho : sJ27_iterator G N a0 h = some (r, hf)) : gMet G l yJ27_iterator (ws_ yJ27_iterator cJ27_iterator 1 (some (.object "java/util/Iterator"))) 3 56 [gr a0] h cvR r hf := by
  refine gMet.of ho hs (plainFor_of_name pn_J27) rfl rfl (gbl rfl) fun X => ?_
  show gT G l X mJ27_iterator cvR r hf 0 [(0, gr a0)] [] h (sJ27_iterator G N a0 h)
  delta sJ27_iterator
  refine g_new (pc := 0) k_32 df_32 q1888 q1889 q176 dJ27_iterator_0 fun v1 h2 => ?_
  refine g_dup (pc := 3) rfl dJ27_iterator_3 ?_
  refine g_aload_n (pc := 4) (x := a0) 0 rfl rfl dJ27_iterator_4 ?_
  refine g_getfr (pc := 5) k_33 (gblt rfl) lk_J27_1_33 dJ27_iterator_5 fun v3 => ?_
  refine g_aload_n (pc := 8) (x := a0) 0 rfl rfl dJ27_iterator_8 ?_
  refine g_getfi (pc := 9) k_33 (gblt rfl) lk_J27_13_33 dJ27_iterator_9 fun v4 => ?_
  refine g_bIu (pc := 12) (y := yJ34_init) (ws := ws_ yJ34_init cJ34_init 3 none) (fr := 2) (lo := 34) (as := [gr v3, gi v4]) (st := [gr v1]) (g_no) rfl (fun _ _ _ e => tJ34_init hs e) (fun K _ _ _ hM R e1 e2 => g_runI (M := mJ27_iterator) (pc := 12) (y := yJ34_init) (bytes := cJ34_init) (maxL := 3) (ret := none) (fr := 2) (lo := 34) (as := [gr v3, gi v4]) (st := [gr v1]) gy_J34_init (gbl rfl) (gbl rfl) (gbl rfl) rfl q1890 q1891 rfl dJ27_iterator_12 K hM R e1 e2) fun v5 h6 => ?_
  exact g_areturn (pc := 15) rfl (Or.inl ⟨_, rfl⟩) dJ27_iterator_15
/-! java/util/LinkedHashMap$LinkedHashIterator.hasNext()Z -/
noncomputable def sJ31_hasNext_c32 (G : GG) (N : Nat) (a0 : Option Nat) (h : Hp) : Out (Int32) :=
  gFr h a0 32 0 fun v1 =>
  if v1 = none then (gRtZ (0 : Int32) h)
  else gRtZ (1 : Int32) h
abbrev mJ31_hasNext_c32 : MI := (RJ31, cJ31_hasNext, 1, (some .boolean), [], 0, 0, "hasNext")
theorem tJ31_hasNext_c32 {G : GG} {l : Launch} (hs : l.stackTraces = false) {N : Nat} {a0 : Option Nat} {h : Hp} {r : Int32 ⊕ Nat} {hf : Hp} (ho : sJ31_hasNext_c32 G N a0 h = some (r, hf)) : gMet G l yJ31_hasNext (ws_ yJ31_hasNext cJ31_hasNext 1 (some .boolean)) 0 0 [gr a0] h cvI r hf := by
  refine gMet.of ho hs (plainFor_of_name pn_J31) rfl rfl (gbl rfl) fun X => ?_
  show gT G l X mJ31_hasNext_c32 cvI r hf 0 [(0, gr a0)] [] h (sJ31_hasNext_c32 G N a0 h)
  delta sJ31_hasNext_c32
  refine g_aload_n (pc := 0) (x := a0) 0 rfl rfl dJ31_hasNext_0 ?_
  refine g_getfr (pc := 1) k_32 (gblt rfl) lk_J31_26_32 dJ31_hasNext_1 fun v1 => ?_
  refine g_ifnull (pc := 4) (tgt := 11) rfl dJ31_hasNext_4 ?_ ?_
  · refine g_iconst (pc := 11) (v := (0 : Int32)) ic_0 dJ31_hasNext_11 ?_
    exact g_zreturn (pc := 12) rfl dJ31_hasNext_12
  refine g_iconst (pc := 7) (v := (1 : Int32)) ic_1 dJ31_hasNext_7 ?_
  refine g_goto (pc := 8) (tgt := 12) rfl dJ31_hasNext_8 ?_
  exact g_zreturn (pc := 12) rfl dJ31_hasNext_12
/-! java/util/LinkedHashMap$LinkedHashIterator.nextNode()Ljava/util/LinkedHashMap$Entry; -/
noncomputable def sJ31_nextNode_c32 (G : GG) (N : Nat) (a0 : Option Nat) (h : Hp) : Out (Option Nat) :=
  gFr h a0 32 0 fun v1 =>
  gFr h a0 32 4 fun v2 =>
  gFi h v2 26 3 fun v3 =>
  gFi h a0 32 2 fun v4 =>
  if v3 = v4 then (if v1 = none then (none)
  else gP G h a0 32 1 (va_rf v1) fun h5 =>
  gFi h5 a0 32 3 fun v6 =>
  gJ (fun (x7 : Option Nat) (h8 : Hp) =>
  gP G h8 a0 32 0 (va_rf x7) fun h10 =>
  some (.inl v1, h10)) fun j9 =>
  if v6 = 0 then (gFr h5 v1 27 5 fun v11 =>
  j9 v11 h5)
  else gFr h5 v1 27 4 fun v12 =>
  j9 v12 h5)
  else none
abbrev mJ31_nextNode_c32 : MI := (RJ31, cJ31_nextNode, 2, (some (.object "java/util/LinkedHashMap$Entry")), [], 0, 0, "nextNode")
theorem tJ31_nextNode_c32 {G : GG} {l : Launch} (hs : l.stackTraces = false) {N : Nat} {a0 : Option Nat} {h : Hp} {r : Option Nat ⊕ Nat} {hf : Hp} (ho : sJ31_nextNode_c32 G N a0 h = some (r, hf)) : gMet G l yJ31_nextNode (ws_ yJ31_nextNode cJ31_nextNode 2 (some (.object "java/util/LinkedHashMap$Entry"))) 0 0 [gr a0] h cvR r hf := by
  refine gMet.of ho hs (plainFor_of_name pn_J31) rfl rfl (gbl rfl) fun X => ?_
  show gT G l X mJ31_nextNode_c32 cvR r hf 0 [(0, gr a0)] [] h (sJ31_nextNode_c32 G N a0 h)
  delta sJ31_nextNode_c32
  refine g_aload_n (pc := 0) (x := a0) 0 rfl rfl dJ31_nextNode_0 ?_
  refine g_getfr (pc := 1) k_32 (gblt rfl) lk_J31_26_32 dJ31_nextNode_1 fun v1 => ?_
  refine g_astore_n (pc := 4) (lv' := [(1, gr v1), (0, gr a0)]) [0, 1] rfl rfl (gblt rfl) dJ31_nextNode_4 ?_
  refine g_aload_n (pc := 5) (x := a0) 1 rfl rfl dJ31_nextNode_5 ?_
  refine g_getfr (pc := 6) k_32 (gblt rfl) lk_J31_1_32 dJ31_nextNode_6 fun v2 => ?_
  refine g_getfi (pc := 9) k_26 (gblt rfl) lk_J31_29_26 dJ31_nextNode_9 fun v3 => ?_
  refine g_aload_n (pc := 12) (x := a0) 1 rfl rfl dJ31_nextNode_12 ?_
  refine g_getfi (pc := 13) k_32 (gblt rfl) lk_J31_33_32 dJ31_nextNode_13 fun v4 => ?_
  refine g_icmp_eq (pc := 16) (tgt := 27) rfl dJ31_nextNode_16 ?_ ?_
  rotate_left
  · exact g_none
  refine g_aload_n (pc := 27) (x := v1) 0 rfl rfl dJ31_nextNode_27 ?_
  refine g_ifnonnull (pc := 28) (tgt := 39) rfl dJ31_nextNode_28 ?_ ?_
  · exact g_none
  refine g_aload_n (pc := 39) (x := a0) 1 rfl rfl dJ31_nextNode_39 ?_
  refine g_aload_n (pc := 40) (x := v1) 0 rfl rfl dJ31_nextNode_40 ?_
  refine g_put (pc := 41) k_32 (gblt rfl) lk_J31_36_32 rfl rfl (gNr _ _) dJ31_nextNode_41 fun h5 => ?_
  refine g_aload_n (pc := 44) (x := a0) 1 rfl rfl dJ31_nextNode_44 ?_
  refine g_aload_n (pc := 45) (x := a0) 1 rfl rfl dJ31_nextNode_45 ?_
  refine g_getfi (pc := 46) k_32 (gblt rfl) lk_J31_13_32 dJ31_nextNode_46 fun v6 => ?_
  refine g_join 63 (fun (x7 : Option Nat) => [(1, gr v1)]) (fun (x7 : Option Nat) => [gr x7, gr a0]) (fun x7 h8 => ?_) (fun j9 Hj9 => ?_)
  · refine g_put (pc := 63) k_32 (gblt rfl) lk_J31_26_32 rfl rfl (gNr _ _) dJ31_nextNode_63 fun h10 => ?_
    refine g_aload_n (pc := 66) (x := v1) 0 rfl rfl dJ31_nextNode_66 ?_
    exact g_areturn (pc := 67) rfl (Or.inl ⟨_, rfl⟩) dJ31_nextNode_67
  refine g_if_eq (pc := 49) (tgt := 59) rfl dJ31_nextNode_49 ?_ ?_
  · refine g_aload_n (pc := 59) (x := v1) 0 rfl rfl dJ31_nextNode_59 ?_
    refine g_getfr (pc := 60) k_27 (gblt rfl) lk_J31_50_27 dJ31_nextNode_60 fun v11 => ?_
    exact g_sub [0] rfl (Hj9 v11 h5)
  refine g_aload_n (pc := 52) (x := v1) 0 rfl rfl dJ31_nextNode_52 ?_
  refine g_getfr (pc := 53) k_27 (gblt rfl) lk_J31_45_27 dJ31_nextNode_53 fun v12 => ?_
  refine g_goto (pc := 56) (tgt := 63) rfl dJ31_nextNode_56 ?_
  exact g_sub [0] rfl (Hj9 v12 h5)
/-! java/util/LinkedHashMap$LinkedValueIterator.next()Ljava/lang/Object; -/
noncomputable def sJ34_next (G : GG) (N : Nat) (a0 : Option Nat) (h : Hp) : Out (Option Nat) :=
  bV h a0 32 (fun q4 => sJ31_nextNode_c32 G N (some q4) h) fun v1 h2 =>
  gFr h2 v1 27 2 fun v3 =>
  some (.inl v3, h2)
abbrev mJ34_next : MI := (RJ34, cJ34_next, 1, (some (.object "java/lang/Object")), [], 1, 21, "next")
theorem tJ34_next {G : GG} {l : Launch} (hs : l.stackTraces = false) {N : Nat} {a0 : Option Nat} {h : Hp} {r : Option Nat ⊕ Nat} {hf : Hp} (ho : sJ34_next G N a0 h = some (r, hf)) : gMet G l yJ34_next (ws_ yJ34_next cJ34_next 1 (some (.object "java/lang/Object"))) 1 21 [gr a0] h cvR r hf := by
  refine gMet.of ho hs (plainFor_of_name pn_J34) rfl rfl (gbl rfl) fun X => ?_
  show gT G l X mJ34_next cvR r hf 0 [(0, gr a0)] [] h (sJ34_next G N a0 h)
  delta sJ34_next
  refine g_aload_n (pc := 0) (x := a0) 0 rfl rfl dJ34_next_0 ?_
  refine g_bVr (pc := 1) (y := yJ31_nextNode) (ws := ws_ yJ31_nextNode cJ31_nextNode 2 (some (.object "java/util/LinkedHashMap$Entry"))) (fr := 0) (lo := 0) (as := []) (st := []) (g_no) rfl (fun _ _ _ e => tJ31_nextNode_c32 hs e) (fun K _ _ _ hq hM R e1 e2 => g_runU (x := ⟨"java/util/LinkedHashMap$LinkedValueIterator", "nextNode", "()Ljava/util/LinkedHashMap$Entry;"⟩) (owner := "java/util/LinkedHashMap$LinkedHashIterator") (M := mJ34_next) (pc := 1) (y := yJ31_nextNode) (bytes := cJ31_nextNode) (maxL := 2) (ret := (some (.object "java/util/LinkedHashMap$Entry"))) (fr := 0) (lo := 0) (as := []) (st := []) hq (C := "java/util/LinkedHashMap$LinkedValueIterator") rfl gy_J31_nextNode rfl (gbl rfl) (gbl rfl) (gbl rfl) q1606 q1607 ⟨q1584, _, _, _, q1585⟩ mhx_java_util_LinkedHashMap_LinkedHashIterator q1608 q1584 dJ34_next_1 K hM R e1 e2) fun v1 h2 => ?_
  refine g_getfr (pc := 4) k_27 (gblt rfl) lk_J34_13_27 dJ34_next_4 fun v3 => ?_
  exact g_areturn (pc := 7) rfl (Or.inl ⟨_, rfl⟩) dJ34_next_7
/-! FlareSlopes.redVotes()I -/
noncomputable def bX1_redVotes_37 (G : GG) (N : Nat) (v13 : Option Nat) (j17 : (Int32) → Hp → Out (Int32)) (w20 : (Int32) → Hp → Out (Int32)) (x18 : Int32) (h19 : Hp) : Out (Int32) :=
  bV h19 v13 32 (fun q31 => sJ31_hasNext_c32 G N (some q31) h19) fun v21 h22 =>
  if v21 = 0 then (j17 x18 h22)
  else bV h22 v13 32 (fun q30 => sJ34_next G N (some q30) h22) fun v23 h24 =>
  gCk h24 v23 [17] (gFi h24 v23 17 0 fun v25 =>
  gJ (fun (x26 : Int32) (h27 : Hp) =>
  gLet (x18 + x26) fun v29 =>
  w20 v29 h27) fun j28 =>
  if v25 = 0 then (j28 (0 : Int32) h24)
  else j28 (1 : Int32) h24)
noncomputable def bX1_redVotes_4 (G : GG) (N : Nat) (a0 : Option Nat) (w3 : (Int32 × Int32) → Hp → Out (Int32)) (x1 : Int32 × Int32) (h2 : Hp) : Out (Int32) :=
  gFr h2 a0 3 4 fun v4 =>
  bV h2 v4 16 (fun q35 => sX3_size G N (some q35) h2) fun v5 h6 =>
  if v5 ≤ x1.2 then (some (.inl x1.1, h6))
  else gFr h6 a0 3 4 fun v7 =>
  bV h6 v7 16 (fun q34 => sX3_cabin G N (some q34) x1.2 h6) fun v8 h9 =>
  gFr h9 v8 7 8 fun v10 =>
  bV h9 v10 26 (fun q33 => sJ24_values G N (some q33) h9) fun v11 h12 =>
  bV h12 v11 33 (fun q32 => sJ27_iterator G N (some q32) h12) fun v13 h14 =>
  gJ (fun (x15 : Int32) (h16 : Hp) =>
  w3 (x15, x1.2 + (1 : Int32)) h16) fun j17 =>
  gLp (bX1_redVotes_37 G N v13 j17) N x1.1 h14
noncomputable def sX1_redVotes (G : GG) (N : Nat) (a0 : Option Nat) (h : Hp) : Out (Int32) :=
  gLp (bX1_redVotes_4 G N a0) N ((0 : Int32), (0 : Int32)) h
abbrev mX1_redVotes : MI := (RX1, cX1_redVotes, 5, (some .int), [], 5, 96, "redVotes")
theorem tX1_redVotes {G : GG} {l : Launch} (hs : l.stackTraces = false) {N : Nat} {a0 : Option Nat} {h : Hp} {r : Int32 ⊕ Nat} {hf : Hp} (ho : sX1_redVotes G N a0 h = some (r, hf)) : gMet G l yX1_redVotes (ws_ yX1_redVotes cX1_redVotes 5 (some .int)) 5 96 [gr a0] h cvI r hf := by
  refine gMet.of ho hs (plainFor_of_name pn_X1) rfl rfl (gbl rfl) fun X => ?_
  show gT G l X mX1_redVotes cvI r hf 0 [(0, gr a0)] [] h (sX1_redVotes G N a0 h)
  delta sX1_redVotes
  refine g_iconst (pc := 0) (v := (0 : Int32)) ic_0 dX1_redVotes_0 ?_
  refine g_istore_n (pc := 1) (lv' := [(1, gi (0 : Int32)), (0, gr a0)]) [0, 1] rfl rfl (gblt rfl) dX1_redVotes_1 ?_
  refine g_iconst (pc := 2) (v := (0 : Int32)) ic_0 dX1_redVotes_2 ?_
  refine g_istore_n (pc := 3) (lv' := [(2, gi (0 : Int32)), (1, gi (0 : Int32)), (0, gr a0)]) [0, 1, 2] rfl rfl (gblt rfl) dX1_redVotes_3 ?_
  refine g_sub (lv' := [(0, gr a0), (1, gi (0 : Int32)), (2, gi (0 : Int32))]) [2, 1, 0] rfl ?_
  refine g_loop (pc := 4) (fun (x1 : Int32 × Int32) => [(0, gr a0), (1, gi x1.1), (2, gi x1.2)]) (fun (_ : Int32 × Int32) => []) (fun w3 Hw3 x1 h2 => ?_) N ((0 : Int32), (0 : Int32)) h
  delta bX1_redVotes_4
  refine g_iload_n (pc := 4) (x := x1.2) 2 rfl rfl dX1_redVotes_4 ?_
  refine g_aload_n (pc := 5) (x := a0) 0 rfl rfl dX1_redVotes_5 ?_
  refine g_getfr (pc := 6) k_3 (gblt rfl) lk_X1_56_3 dX1_redVotes_6 fun v4 => ?_
  refine g_bVi (pc := 9) (y := yX3_size) (ws := ws_ yX3_size cX3_size 1 (some .int)) (fr := 1) (lo := 20) (as := []) (st := [gi x1.2]) (g_no) rfl (fun _ _ _ e => tX3_size hs e) (fun K _ _ _ hq hM R e1 e2 => g_runV (M := mX1_redVotes) (pc := 9) (y := yX3_size) (bytes := cX3_size) (maxL := 1) (ret := (some .int)) (fr := 1) (lo := 20) (as := []) (st := [gi x1.2]) hq (C := "FlareSlopes$State") rfl gy_X3_size (gbl rfl) (gbl rfl) (gbl rfl) q1411 q1412 q1413 dX1_redVotes_9 K hM R e1 e2) fun v5 h6 => ?_
  refine g_icmp_ge (pc := 12) (tgt := 82) rfl dX1_redVotes_12 ?_ ?_
  · refine g_iload_n (pc := 82) (x := x1.1) 1 rfl rfl dX1_redVotes_82 ?_
    exact g_ireturn (pc := 83) rfl dX1_redVotes_83
  refine g_aload_n (pc := 15) (x := a0) 0 rfl rfl dX1_redVotes_15 ?_
  refine g_getfr (pc := 16) k_3 (gblt rfl) lk_X1_56_3 dX1_redVotes_16 fun v7 => ?_
  refine g_iload_n (pc := 19) (x := x1.2) 2 rfl rfl dX1_redVotes_19 ?_
  refine g_bVr (pc := 20) (y := yX3_cabin) (ws := ws_ yX3_cabin cX3_cabin 2 (some (.object "FlareSlopes$Cabin"))) (fr := 3) (lo := 64) (as := [gi x1.2]) (st := []) (g_no) rfl (fun _ _ _ e => tX3_cabin hs e) (fun K _ _ _ hq hM R e1 e2 => g_runV (M := mX1_redVotes) (pc := 20) (y := yX3_cabin) (bytes := cX3_cabin) (maxL := 2) (ret := (some (.object "FlareSlopes$Cabin"))) (fr := 3) (lo := 64) (as := [gi x1.2]) (st := []) hq (C := "FlareSlopes$State") rfl gy_X3_cabin (gbl rfl) (gbl rfl) (gbl rfl) q1738 q1639 q1640 dX1_redVotes_20 K hM R e1 e2) fun v8 h9 => ?_
  refine g_getfr (pc := 23) k_7 (gblt rfl) lk_X1_205_7 dX1_redVotes_23 fun v10 => ?_
  refine g_bVr (pc := 26) (y := yJ24_values) (ws := ws_ yJ24_values cJ24_values 1 (some (.object "java/util/Collection"))) (fr := 4) (lo := 76) (as := []) (st := []) (g_no) rfl (fun _ _ _ e => tJ24_values hs e) (fun K _ _ _ hq hM R e1 e2 => g_runF (x := ⟨"java/util/Map", "values", "()Ljava/util/Collection;"⟩) (M := mX1_redVotes) (pc := 26) (y := yJ24_values) (bytes := cJ24_values) (maxL := 1) (ret := (some (.object "java/util/Collection"))) (fr := 4) (lo := 76) (as := []) (st := []) hq (C := "java/util/LinkedHashMap") rfl gy_J24_values rfl (gbl rfl) (gbl rfl) (gbl rfl) q1744 q1746 q1745 q1750 q1748 q1613 mhx_java_util_Map q1747 q1749 dX1_redVotes_26 K hM R e1 e2) fun v11 h12 => ?_
  refine g_bVr (pc := 31) (y := yJ27_iterator) (ws := ws_ yJ27_iterator cJ27_iterator 1 (some (.object "java/util/Iterator"))) (fr := 3) (lo := 56) (as := []) (st := []) (g_no) rfl (fun _ _ _ e => tJ27_iterator hs e) (fun K _ _ _ hq hM R e1 e2 => g_runF (x := ⟨"java/util/Collection", "iterator", "()Ljava/util/Iterator;"⟩) (M := mX1_redVotes) (pc := 31) (y := yJ27_iterator) (bytes := cJ27_iterator) (maxL := 1) (ret := (some (.object "java/util/Iterator"))) (fr := 3) (lo := 56) (as := []) (st := []) hq (C := "java/util/LinkedHashMap$LinkedValues") rfl gy_J27_iterator rfl (gbl rfl) (gbl rfl) (gbl rfl) q1771 q1773 q1772 q1886 q1884 q1882 mhx_java_util_Collection q1883 q1885 dX1_redVotes_31 K hM R e1 e2) fun v13 h14 => ?_
  refine g_astore_n (pc := 36) (lv' := [(3, gr v13), (0, gr a0), (1, gi x1.1), (2, gi x1.2)]) [0, 1, 2, 3] rfl rfl (gblt rfl) dX1_redVotes_36 ?_
  refine g_join 76 (fun (x15 : Int32) => [(0, gr a0), (1, gi x15), (2, gi x1.2)]) (fun (x15 : Int32) => []) (fun x15 h16 => ?_) (fun j17 Hj17 => ?_)
  · refine g_iinc (pc := 76) (v := x1.2 + (1 : Int32)) 2 rfl (ii_1 _) (lv' := [(2, gi (x1.2 + (1 : Int32))), (0, gr a0), (1, gi x15)]) [0, 1, 2] rfl (gblt rfl) dX1_redVotes_76 ?_
    refine g_goto (pc := 79) (tgt := 4) rfl dX1_redVotes_79 ?_
    exact g_sub [1, 2, 0] rfl (Hw3 (x15, x1.2 + (1 : Int32)) h16)
  refine g_sub (lv' := [(0, gr a0), (1, gi x1.1), (2, gi x1.2), (3, gr v13)]) [1, 2, 3, 0] rfl ?_
  refine g_loop (pc := 37) (fun (x18 : Int32) => [(0, gr a0), (1, gi x18), (2, gi x1.2), (3, gr v13)]) (fun (_ : Int32) => []) (fun w20 Hw20 x18 h19 => ?_) N x1.1 h14
  delta bX1_redVotes_37
  refine g_aload_n (pc := 37) (x := v13) 3 rfl rfl dX1_redVotes_37 ?_
  refine g_bVi (pc := 38) (y := yJ31_hasNext) (ws := ws_ yJ31_hasNext cJ31_hasNext 1 (some .boolean)) (fr := 0) (lo := 0) (as := []) (st := []) (g_no) rfl (fun _ _ _ e => tJ31_hasNext_c32 hs e) (fun K _ _ _ hq hM R e1 e2 => g_runF (x := ⟨"java/util/Iterator", "hasNext", "()Z"⟩) (M := mX1_redVotes) (pc := 38) (y := yJ31_hasNext) (bytes := cJ31_hasNext) (maxL := 1) (ret := (some .boolean)) (fr := 0) (lo := 0) (as := []) (st := []) hq (C := "java/util/LinkedHashMap$LinkedValueIterator") rfl gy_J31_hasNext rfl (gbl rfl) (gbl rfl) (gbl rfl) q1947 q1505 q1504 q1528 q1535 q1533 mhx_java_util_Iterator q1534 q1527 dX1_redVotes_38 K hM R e1 e2) fun v21 h22 => ?_
  refine g_if_eq (pc := 43) (tgt := 76) rfl dX1_redVotes_43 ?_ ?_
  · exact g_sub [0, 1, 2] rfl (Hj17 x18 h22)
  refine g_aload_n (pc := 46) (x := v13) 3 rfl rfl dX1_redVotes_46 ?_
  refine g_bVr (pc := 47) (y := yJ34_next) (ws := ws_ yJ34_next cJ34_next 1 (some (.object "java/lang/Object"))) (fr := 1) (lo := 21) (as := []) (st := []) (g_no) rfl (fun _ _ _ e => tJ34_next hs e) (fun K _ _ _ hq hM R e1 e2 => g_runF (x := ⟨"java/util/Iterator", "next", "()Ljava/lang/Object;"⟩) (M := mX1_redVotes) (pc := 47) (y := yJ34_next) (bytes := cJ34_next) (maxL := 1) (ret := (some (.object "java/lang/Object"))) (fr := 1) (lo := 21) (as := []) (st := []) hq (C := "java/util/LinkedHashMap$LinkedValueIterator") rfl gy_J34_next rfl (gbl rfl) (gbl rfl) (gbl rfl) q1949 q1539 q1538 q1604 q1602 q1533 mhx_java_util_Iterator q1601 q1603 dX1_redVotes_47 K hM R e1 e2) fun v23 h24 => ?_
  refine g_checkcast (pc := 52) q1950 as_17_FlareSlopes_Vote dX1_redVotes_52 ?_
  refine g_astore (pc := 55) (lv' := [(4, gr v23), (0, gr a0), (1, gi x18), (2, gi x1.2), (3, gr v13)]) [0, 1, 2, 3, 4] rfl (gblt rfl) dX1_redVotes_55 ?_
  refine g_iload_n (pc := 57) (x := x18) 2 rfl rfl dX1_redVotes_57 ?_
  refine g_aload (pc := 58) (x := v23) 0 rfl dX1_redVotes_58 ?_
  refine g_getfi (pc := 60) k_17 (gblt rfl) lk_X1_233_17 dX1_redVotes_60 fun v25 => ?_
  refine g_join 71 (fun (x26 : Int32) => [(0, gr a0), (2, gi x1.2), (3, gr v13)]) (fun (x26 : Int32) => [gi x26, gi x18]) (fun x26 h27 => ?_) (fun j28 Hj28 => ?_)
  · refine g_iadd (pc := 71) dX1_redVotes_71 ?_
    refine g_leti fun v29 => ?_
    refine g_istore_n (pc := 72) (lv' := [(1, gi v29), (0, gr a0), (2, gi x1.2), (3, gr v13)]) [0, 1, 2, 3] rfl rfl (gblt rfl) dX1_redVotes_72 ?_
    refine g_goto (pc := 73) (tgt := 37) rfl dX1_redVotes_73 ?_
    exact g_sub [1, 0, 2, 3] rfl (Hw20 v29 h27)
  refine g_if_eq (pc := 63) (tgt := 70) rfl dX1_redVotes_63 ?_ ?_
  · refine g_iconst (pc := 70) (v := (0 : Int32)) ic_0 dX1_redVotes_70 ?_
    exact g_sub [1, 3, 4] rfl (Hj28 (0 : Int32) h24)
  refine g_iconst (pc := 66) (v := (1 : Int32)) ic_1 dX1_redVotes_66 ?_
  refine g_goto (pc := 67) (tgt := 71) rfl dX1_redVotes_67 ?_
  exact g_sub [1, 3, 4] rfl (Hj28 (1 : Int32) h24)
/-! FlareSlopes.count(I)I -/
noncomputable def sX1_count (G : GG) (N : Nat) (a0 : Option Nat) (a1 : Int32) (h : Hp) : Out (Int32) :=
  bV h a0 3 (fun q43 => sX1_loaded G N (some q43) h) fun v1 h2 =>
  gSel a1 [((0 : Int32), bV h2 v1 16 (fun q7 => sX3_size G N (some q7) h2) fun v5 h6 =>
  some (.inl v5, h6)),
  ((1 : Int32), bV h2 v1 16 (fun q10 => sX3_slopes G N (some q10) h2) fun v8 h9 =>
  some (.inl v8, h9)),
  ((2 : Int32), gFr h2 v1 16 0 fun v11 =>
  gFr h2 v11 11 2 fun v12 =>
  bV h2 v12 24 (fun q15 => sJ12_size G N (some q15) h2) fun v13 h14 =>
  some (.inl v13, h14)),
  ((3 : Int32), gFr h2 v1 16 0 fun v16 =>
  gFr h2 v16 11 3 fun v17 =>
  bV h2 v17 24 (fun q20 => sJ12_size G N (some q20) h2) fun v18 h19 =>
  some (.inl v18, h19)),
  ((4 : Int32), gFi h2 v1 16 4 fun v21 =>
  some (.inl v21, h2)),
  ((5 : Int32), gFi h2 v1 16 5 fun v22 =>
  some (.inl v22, h2)),
  ((6 : Int32), bV h2 v1 16 (fun q25 => sX3_remembered G N (some q25) h2) fun v23 h24 =>
  some (.inl v23, h24)),
  ((7 : Int32), gFi h2 v1 16 6 fun v26 =>
  some (.inl v26, h2)),
  ((8 : Int32), gFi h2 v1 16 7 fun v27 =>
  some (.inl v27, h2)),
  ((9 : Int32), gFi h2 v1 16 8 fun v28 =>
  some (.inl v28, h2)),
  ((10 : Int32), gFi h2 v1 16 9 fun v29 =>
  some (.inl v29, h2)),
  ((11 : Int32), gFi h2 v1 16 10 fun v30 =>
  some (.inl v30, h2)),
  ((12 : Int32), gFi h2 v1 16 11 fun v31 =>
  bnd (sJ20_bitCount G N v31 h2) fun v32 h33 =>
  some (.inl v32, h33)),
  ((13 : Int32), bV h2 a0 3 (fun q36 => sX1_pairsInSight G N (some q36) h2) fun v34 h35 =>
  some (.inl v34, h35)),
  ((14 : Int32), bV h2 a0 3 (fun q39 => sX1_withoutFlares G N (some q39) h2) fun v37 h38 =>
  some (.inl v37, h38)),
  ((15 : Int32), bV h2 a0 3 (fun q42 => sX1_redVotes G N (some q42) h2) fun v40 h41 =>
  some (.inl v40, h41))] (gMk h2 1 fun v3 h4 =>
  gThr G v3 h4)
abbrev mX1_count : MI := (RX1, cX1_count, 3, (some .int), [], 9, 196, "count")
theorem tX1_count {G : GG} {l : Launch} (hs : l.stackTraces = false) {N : Nat} {a0 : Option Nat} {a1 : Int32} {h : Hp} {r : Int32 ⊕ Nat} {hf : Hp} (ho : sX1_count G N a0 a1 h = some (r, hf)) : gMet G l yX1_count (ws_ yX1_count cX1_count 3 (some .int)) 9 196 [gr a0, gi a1] h cvI r hf := by
  refine gMet.of ho hs (plainFor_of_name pn_X1) rfl rfl (gbl rfl) fun X => ?_
  show gT G l X mX1_count cvI r hf 0 [(0, gr a0), (1, gi a1)] [] h (sX1_count G N a0 a1 h)
  delta sX1_count
  refine g_aload_n (pc := 0) (x := a0) 0 rfl rfl dX1_count_0 ?_
  refine g_bVr (pc := 1) (y := yX1_loaded) (ws := ws_ yX1_loaded cX1_loaded 1 (some (.object "FlareSlopes$State"))) (fr := 7) (lo := 101) (as := []) (st := []) (g_no) rfl (fun _ _ _ e => tX1_loaded hs e) (fun K _ _ _ hq hM R e1 e2 => g_runV (M := mX1_count) (pc := 1) (y := yX1_loaded) (bytes := cX1_loaded) (maxL := 1) (ret := (some (.object "FlareSlopes$State"))) (fr := 7) (lo := 101) (as := []) (st := []) hq (C := "FlareSlopes") rfl gy_X1_loaded (gbl rfl) (gbl rfl) (gbl rfl) q1430 q1432 qs17 dX1_count_1 K hM R e1 e2) fun v1 h2 => ?_
  refine g_astore_n (pc := 4) (lv' := [(2, gr v1), (0, gr a0), (1, gi a1)]) [0, 1, 2] rfl rfl (gblt rfl) dX1_count_4 ?_
  refine g_iload_n (pc := 5) (x := a1) 2 rfl rfl dX1_count_5 ?_
  refine g_tableswitch (pc := 6) (td := 215) [((0 : Int32), 84), ((1 : Int32), 91), ((2 : Int32), 98), ((3 : Int32), 113), ((4 : Int32), 128), ((5 : Int32), 135), ((6 : Int32), 142), ((7 : Int32), 149), ((8 : Int32), 156), ((9 : Int32), 163), ((10 : Int32), 170), ((11 : Int32), 177), ((12 : Int32), 184), ((13 : Int32), 194), ((14 : Int32), 201), ((15 : Int32), 208)] (by decide +kernel) dX1_count_6 ?_ (g_all_cons ?_ (g_all_cons ?_ (g_all_cons ?_ (g_all_cons ?_ (g_all_cons ?_ (g_all_cons ?_ (g_all_cons ?_ (g_all_cons ?_ (g_all_cons ?_ (g_all_cons ?_ (g_all_cons ?_ (g_all_cons ?_ (g_all_cons ?_ (g_all_cons ?_ (g_all_cons ?_ (g_all_cons ?_ g_all_nil))))))))))))))))
  · refine g_make0 (pc := 215) xw_X1_43_45 rfl dX1_count_215 dX1_count_218 dX1_count_219 (gblt rfl) (gbl rfl) fun v3 h4 => ?_
    exact g_athrow (pc := 222) (g_no) dX1_count_222
  · refine g_aload_n (pc := 84) (x := v1) 0 rfl rfl dX1_count_84 ?_
    refine g_bVi (pc := 85) (y := yX3_size) (ws := ws_ yX3_size cX3_size 1 (some .int)) (fr := 1) (lo := 20) (as := []) (st := []) (g_no) rfl (fun _ _ _ e => tX3_size hs e) (fun K _ _ _ hq hM R e1 e2 => g_runV (M := mX1_count) (pc := 85) (y := yX3_size) (bytes := cX3_size) (maxL := 1) (ret := (some .int)) (fr := 1) (lo := 20) (as := []) (st := []) hq (C := "FlareSlopes$State") rfl gy_X3_size (gbl rfl) (gbl rfl) (gbl rfl) q1411 q1412 q1413 dX1_count_85 K hM R e1 e2) fun v5 h6 => ?_
    refine g_goto (pc := 88) (tgt := 223) rfl dX1_count_88 ?_
    exact g_ireturn (pc := 223) rfl dX1_count_223
  · refine g_aload_n (pc := 91) (x := v1) 0 rfl rfl dX1_count_91 ?_
    refine g_bVi (pc := 92) (y := yX3_slopes) (ws := ws_ yX3_slopes cX3_slopes 1 (some .int)) (fr := 2) (lo := 40) (as := []) (st := []) (g_no) rfl (fun _ _ _ e => tX3_slopes hs e) (fun K _ _ _ hq hM R e1 e2 => g_runV (M := mX1_count) (pc := 92) (y := yX3_slopes) (bytes := cX3_slopes) (maxL := 1) (ret := (some .int)) (fr := 2) (lo := 40) (as := []) (st := []) hq (C := "FlareSlopes$State") rfl gy_X3_slopes (gbl rfl) (gbl rfl) (gbl rfl) q1464 q1465 q1466 dX1_count_92 K hM R e1 e2) fun v8 h9 => ?_
    refine g_goto (pc := 95) (tgt := 223) rfl dX1_count_95 ?_
    exact g_ireturn (pc := 223) rfl dX1_count_223
  · refine g_aload_n (pc := 98) (x := v1) 0 rfl rfl dX1_count_98 ?_
    refine g_getfr (pc := 99) k_16 (gblt rfl) lk_X1_129_16 dX1_count_99 fun v11 => ?_
    refine g_getfr (pc := 102) k_11 (gblt rfl) lk_X1_145_11 dX1_count_102 fun v12 => ?_
    refine g_bVi (pc := 105) (y := yJ12_size) (ws := ws_ yJ12_size cJ12_size 1 (some .int)) (fr := 0) (lo := 0) (as := []) (st := []) (g_no) rfl (fun _ _ _ e => tJ12_size hs e) (fun K _ _ _ hq hM R e1 e2 => g_runF (x := ⟨"java/util/List", "size", "()I"⟩) (M := mX1_count) (pc := 105) (y := yJ12_size) (bytes := cJ12_size) (maxL := 1) (ret := (some .int)) (fr := 0) (lo := 0) (as := []) (st := []) hq (C := "java/util/ArrayList") rfl gy_J12_size rfl (gbl rfl) (gbl rfl) (gbl rfl) q1469 q970 q969 q975 q973 q971 mhx_java_util_List q972 q974 dX1_count_105 K hM R e1 e2) fun v13 h14 => ?_
    refine g_goto (pc := 110) (tgt := 223) rfl dX1_count_110 ?_
    exact g_ireturn (pc := 223) rfl dX1_count_223
  · refine g_aload_n (pc := 113) (x := v1) 0 rfl rfl dX1_count_113 ?_
    refine g_getfr (pc := 114) k_16 (gblt rfl) lk_X1_129_16 dX1_count_114 fun v16 => ?_
    refine g_getfr (pc := 117) k_11 (gblt rfl) lk_X1_152_11 dX1_count_117 fun v17 => ?_
    refine g_bVi (pc := 120) (y := yJ12_size) (ws := ws_ yJ12_size cJ12_size 1 (some .int)) (fr := 0) (lo := 0) (as := []) (st := []) (g_no) rfl (fun _ _ _ e => tJ12_size hs e) (fun K _ _ _ hq hM R e1 e2 => g_runF (x := ⟨"java/util/List", "size", "()I"⟩) (M := mX1_count) (pc := 120) (y := yJ12_size) (bytes := cJ12_size) (maxL := 1) (ret := (some .int)) (fr := 0) (lo := 0) (as := []) (st := []) hq (C := "java/util/ArrayList") rfl gy_J12_size rfl (gbl rfl) (gbl rfl) (gbl rfl) q1469 q970 q969 q975 q973 q971 mhx_java_util_List q972 q974 dX1_count_120 K hM R e1 e2) fun v18 h19 => ?_
    refine g_goto (pc := 125) (tgt := 223) rfl dX1_count_125 ?_
    exact g_ireturn (pc := 223) rfl dX1_count_223
  · refine g_aload_n (pc := 128) (x := v1) 0 rfl rfl dX1_count_128 ?_
    refine g_getfi (pc := 129) k_16 (gblt rfl) lk_X1_155_16 dX1_count_129 fun v21 => ?_
    refine g_goto (pc := 132) (tgt := 223) rfl dX1_count_132 ?_
    exact g_ireturn (pc := 223) rfl dX1_count_223
  · refine g_aload_n (pc := 135) (x := v1) 0 rfl rfl dX1_count_135 ?_
    refine g_getfi (pc := 136) k_16 (gblt rfl) lk_X1_158_16 dX1_count_136 fun v22 => ?_
    refine g_goto (pc := 139) (tgt := 223) rfl dX1_count_139 ?_
    exact g_ireturn (pc := 223) rfl dX1_count_223
  · refine g_aload_n (pc := 142) (x := v1) 0 rfl rfl dX1_count_142 ?_
    refine g_bVi (pc := 143) (y := yX3_remembered) (ws := ws_ yX3_remembered cX3_remembered 4 (some .int)) (fr := 3) (lo := 53) (as := []) (st := []) (g_no) rfl (fun _ _ _ e => tX3_remembered hs e) (fun K _ _ _ hq hM R e1 e2 => g_runV (M := mX1_count) (pc := 143) (y := yX3_remembered) (bytes := cX3_remembered) (maxL := 4) (ret := (some .int)) (fr := 3) (lo := 53) (as := []) (st := []) hq (C := "FlareSlopes$State") rfl gy_X3_remembered (gbl rfl) (gbl rfl) (gbl rfl) q1470 q1471 q1472 dX1_count_143 K hM R e1 e2) fun v23 h24 => ?_
    refine g_goto (pc := 146) (tgt := 223) rfl dX1_count_146 ?_
    exact g_ireturn (pc := 223) rfl dX1_count_223
  · refine g_aload_n (pc := 149) (x := v1) 0 rfl rfl dX1_count_149 ?_
    refine g_getfi (pc := 150) k_16 (gblt rfl) lk_X1_164_16 dX1_count_150 fun v26 => ?_
    refine g_goto (pc := 153) (tgt := 223) rfl dX1_count_153 ?_
    exact g_ireturn (pc := 223) rfl dX1_count_223
  · refine g_aload_n (pc := 156) (x := v1) 0 rfl rfl dX1_count_156 ?_
    refine g_getfi (pc := 157) k_16 (gblt rfl) lk_X1_167_16 dX1_count_157 fun v27 => ?_
    refine g_goto (pc := 160) (tgt := 223) rfl dX1_count_160 ?_
    exact g_ireturn (pc := 223) rfl dX1_count_223
  · refine g_aload_n (pc := 163) (x := v1) 0 rfl rfl dX1_count_163 ?_
    refine g_getfi (pc := 164) k_16 (gblt rfl) lk_X1_170_16 dX1_count_164 fun v28 => ?_
    refine g_goto (pc := 167) (tgt := 223) rfl dX1_count_167 ?_
    exact g_ireturn (pc := 223) rfl dX1_count_223
  · refine g_aload_n (pc := 170) (x := v1) 0 rfl rfl dX1_count_170 ?_
    refine g_getfi (pc := 171) k_16 (gblt rfl) lk_X1_173_16 dX1_count_171 fun v29 => ?_
    refine g_goto (pc := 174) (tgt := 223) rfl dX1_count_174 ?_
    exact g_ireturn (pc := 223) rfl dX1_count_223
  · refine g_aload_n (pc := 177) (x := v1) 0 rfl rfl dX1_count_177 ?_
    refine g_getfi (pc := 178) k_16 (gblt rfl) lk_X1_176_16 dX1_count_178 fun v30 => ?_
    refine g_goto (pc := 181) (tgt := 223) rfl dX1_count_181 ?_
    exact g_ireturn (pc := 223) rfl dX1_count_223
  · refine g_aload_n (pc := 184) (x := v1) 0 rfl rfl dX1_count_184 ?_
    refine g_getfi (pc := 185) k_16 (gblt rfl) lk_X1_179_16 dX1_count_185 fun v31 => ?_
    refine g_bi (pc := 188) (y := yJ20_bitCount) (ws := ws_ yJ20_bitCount cJ20_bitCount 1 (some .int)) (fr := 0) (lo := 0) (as := [gi v31]) (st := []) (g_no) rfl (fun _ _ e => tJ20_bitCount hs e) (fun K _ _ hM R e1 e2 => g_runS (M := mX1_count) (pc := 188) (y := yJ20_bitCount) (bytes := cJ20_bitCount) (maxL := 1) (ret := (some .int)) (fr := 0) (lo := 0) (as := [gi v31]) (st := []) gy_J20_bitCount (gbl rfl) (gbl rfl) (gbl rfl) q1619 q1620 dX1_count_188 K hM R e1 e2) fun v32 h33 => ?_
    refine g_goto (pc := 191) (tgt := 223) rfl dX1_count_191 ?_
    exact g_ireturn (pc := 223) rfl dX1_count_223
  · refine g_aload_n (pc := 194) (x := a0) 1 rfl rfl dX1_count_194 ?_
    refine g_bVi (pc := 195) (y := yX1_pairsInSight) (ws := ws_ yX1_pairsInSight cX1_pairsInSight 3 (some .int)) (fr := 8) (lo := 174) (as := []) (st := []) (g_no) rfl (fun _ _ _ e => tX1_pairsInSight hs e) (fun K _ _ _ hq hM R e1 e2 => g_runV (M := mX1_count) (pc := 195) (y := yX1_pairsInSight) (bytes := cX1_pairsInSight) (maxL := 3) (ret := (some .int)) (fr := 8) (lo := 174) (as := []) (st := []) hq (C := "FlareSlopes") rfl gy_X1_pairsInSight (gbl rfl) (gbl rfl) (gbl rfl) q1625 q1627 qs18 dX1_count_195 K hM R e1 e2) fun v34 h35 => ?_
    refine g_goto (pc := 198) (tgt := 223) rfl dX1_count_198 ?_
    exact g_ireturn (pc := 223) rfl dX1_count_223
  · refine g_aload_n (pc := 201) (x := a0) 1 rfl rfl dX1_count_201 ?_
    refine g_bVi (pc := 202) (y := yX1_withoutFlares) (ws := ws_ yX1_withoutFlares cX1_withoutFlares 3 (some .int)) (fr := 4) (lo := 85) (as := []) (st := []) (g_no) rfl (fun _ _ _ e => tX1_withoutFlares hs e) (fun K _ _ _ hq hM R e1 e2 => g_runV (M := mX1_count) (pc := 202) (y := yX1_withoutFlares) (bytes := cX1_withoutFlares) (maxL := 3) (ret := (some .int)) (fr := 4) (lo := 85) (as := []) (st := []) hq (C := "FlareSlopes") rfl gy_X1_withoutFlares (gbl rfl) (gbl rfl) (gbl rfl) q1734 q1736 qs20 dX1_count_202 K hM R e1 e2) fun v37 h38 => ?_
    refine g_goto (pc := 205) (tgt := 223) rfl dX1_count_205 ?_
    exact g_ireturn (pc := 223) rfl dX1_count_223
  · refine g_aload_n (pc := 208) (x := a0) 1 rfl rfl dX1_count_208 ?_
    refine g_bVi (pc := 209) (y := yX1_redVotes) (ws := ws_ yX1_redVotes cX1_redVotes 5 (some .int)) (fr := 5) (lo := 96) (as := []) (st := []) (g_no) rfl (fun _ _ _ e => tX1_redVotes hs e) (fun K _ _ _ hq hM R e1 e2 => g_runV (M := mX1_count) (pc := 209) (y := yX1_redVotes) (bytes := cX1_redVotes) (maxL := 5) (ret := (some .int)) (fr := 5) (lo := 96) (as := []) (st := []) hq (C := "FlareSlopes") rfl gy_X1_redVotes (gbl rfl) (gbl rfl) (gbl rfl) q1739 q1741 qs21 dX1_count_209 K hM R e1 e2) fun v40 h41 => ?_
    refine g_goto (pc := 212) (tgt := 223) rfl dX1_count_212 ?_
    exact g_ireturn (pc := 223) rfl dX1_count_223
/-! FlareSlopesLaw.count(LFlareSlopes;I[J)I -/
noncomputable def sX0_count (G : GG) (N : Nat) (a0 : Option Nat) (a1 : Int32) (a2 : Option Nat) (h : Hp) : Out (Int32) :=
  bVX h a0 3 (fun q4 => sX1_count G N (some q4) a1 h) (fun v1 h2 =>
  gSl G h2 a2 3 (0 : Int32) (v1.toInt64) fun h3 =>
  some (.inl (0 : Int32), h3)) fun q5 h6 =>
  gSw h6 (some q5) 0 (some (.inl (1 : Int32), h6)) (gSw h6 (some q5) 1 (some (.inl (2 : Int32), h6)) (none))
abbrev mX0_count : MI := (RX0, cX0_count, 4, (some .int), [(0, 9, 12, 21), (0, 9, 15, 15)], 10, 218, "count")
theorem tX0_count {G : GG} {l : Launch} (hs : l.stackTraces = false) {N : Nat} {a0 : Option Nat} {a1 : Int32} {a2 : Option Nat} {h : Hp} {r : Int32 ⊕ Nat} {hf : Hp} (ho : sX0_count G N a0 a1 a2 h = some (r, hf)) : gMet G l yX0_count (wsW_ yX0_count cX0_count 4 (some .int) [(0, 9, 12, 21), (0, 9, 15, 15)]) 10 218 [gr a0, gi a1, gr a2] h cvI r hf := by
  refine gMet.ofW ho hs (plainFor_of_name pn_X0) rfl rfl (gbl rfl) fun X => ?_
  show gT G l X mX0_count cvI r hf 0 [(0, gr a0), (1, gi a1), (2, gr a2)] [] h (sX0_count G N a0 a1 a2 h)
  delta sX0_count
  refine g_aload_n (pc := 0) (x := a2) 2 rfl rfl dX0_count_0 ?_
  refine g_iconst (pc := 1) (v := (0 : Int32)) ic_0 dX0_count_1 ?_
  refine g_aload_n (pc := 2) (x := a0) 0 rfl rfl dX0_count_2 ?_
  refine g_iload_n (pc := 3) (x := a1) 1 rfl rfl dX0_count_3 ?_
  refine g_bVXi (pc := 4) (y := yX1_count) (ws := ws_ yX1_count cX1_count 3 (some .int)) (fr := 9) (lo := 196) (as := [gi a1]) (st := [gi (0 : Int32), gr a2]) rfl (fun _ _ _ e => tX1_count hs e) (fun K _ _ _ hq hM R e1 e2 => g_runV (M := mX0_count) (pc := 4) (y := yX1_count) (bytes := cX1_count) (maxL := 3) (ret := (some .int)) (fr := 9) (lo := 196) (as := [gi a1]) (st := [gi (0 : Int32), gr a2]) hq (C := "FlareSlopes") rfl gy_X1_count (gbl rfl) (gbl rfl) (gbl rfl) q1460 q1461 q1462 dX0_count_4 K hM R e1 e2) (fun v1 h2 => ?_) (fun q5 h6 => ?_)
  · refine g_i2l (pc := 7) dX0_count_7 ?_
    refine g_lastore (pc := 8) rfl dX0_count_8 fun h3 => ?_
    refine g_goto (pc := 9) (tgt := 18) rfl dX0_count_9 ?_
    refine g_iconst (pc := 18) (v := (0 : Int32)) ic_0 dX0_count_18 ?_
    exact g_ireturn (pc := 19) rfl dX0_count_19
  refine g_catch (E := "java/lang/IllegalStateException") [] ⟨0, 9, 12, 21⟩ [⟨0, 9, 15, 15⟩] rfl rfl (List.forall_mem_nil _) (by decide +kernel) (by decide +kernel) q1425 q1439 ?_ ?_
  · refine g_astore_n (pc := 12) (lv' := []) [] rfl rfl (gblt rfl) dX0_count_12 ?_
    refine g_iconst (pc := 13) (v := (1 : Int32)) ic_1 dX0_count_13 ?_
    exact g_ireturn (pc := 14) rfl dX0_count_14
  refine g_catch (E := "java/lang/IllegalArgumentException") [⟨0, 9, 12, 21⟩] ⟨0, 9, 15, 15⟩ [] rfl rfl (List.forall_mem_cons.mpr ⟨Or.inr ⟨by decide +kernel, _, q1425, ncl_java_lang_IllegalArgumentException_java_lang_IllegalStateException⟩, List.forall_mem_nil _⟩) (by decide +kernel) (by decide +kernel) q404 q751 ?_ ?_
  · refine g_astore_n (pc := 15) (lv' := []) [] rfl rfl (gblt rfl) dX0_count_15 ?_
    refine g_iconst (pc := 16) (v := (2 : Int32)) ic_2 dX0_count_16 ?_
    exact g_ireturn (pc := 17) rfl dX0_count_17
  exact g_noneX
/-! FlareSlopesModel.voteAt(III)I -/
noncomputable def sX2_voteAt (G : GG) (N : Nat) (a0 : Int32) (a1 : Int32) (a2 : Int32) (h : Hp) : Out (Int32) :=
  some (.inl ((((258 : Int32) + ((80 : Int32) * a0)) + ((8 : Int32) * a1)) + a2), h)
abbrev mX2_voteAt : MI := (RX2, cX2_voteAt, 3, (some .int), [], 0, 0, "voteAt")
theorem tX2_voteAt {G : GG} {l : Launch} (hs : l.stackTraces = false) {N : Nat} {a0 : Int32} {a1 : Int32} {a2 : Int32} {h : Hp} {r : Int32 ⊕ Nat} {hf : Hp} (ho : sX2_voteAt G N a0 a1 a2 h = some (r, hf)) : gMet G l yX2_voteAt (ws_ yX2_voteAt cX2_voteAt 3 (some .int)) 0 0 [gi a0, gi a1, gi a2] h cvI r hf := by
  refine gMet.of ho hs (plainFor_of_name pn_X2) rfl rfl (gbl rfl) fun X => ?_
  show gT G l X mX2_voteAt cvI r hf 0 [(0, gi a0), (1, gi a1), (2, gi a2)] [] h (sX2_voteAt G N a0 a1 a2 h)
  delta sX2_voteAt
  refine g_sipush (pc := 0) (v := (258 : Int32)) sc_258 dX2_voteAt_0 ?_
  refine g_bipush (pc := 3) (v := (80 : Int32)) bc_80 dX2_voteAt_3 ?_
  refine g_iload_n (pc := 5) (x := a0) 0 rfl rfl dX2_voteAt_5 ?_
  refine g_imul (pc := 6) dX2_voteAt_6 ?_
  refine g_iadd (pc := 7) dX2_voteAt_7 ?_
  refine g_bipush (pc := 8) (v := (8 : Int32)) bc_8 dX2_voteAt_8 ?_
  refine g_iload_n (pc := 10) (x := a1) 1 rfl rfl dX2_voteAt_10 ?_
  refine g_imul (pc := 11) dX2_voteAt_11 ?_
  refine g_iadd (pc := 12) dX2_voteAt_12 ?_
  refine g_iload_n (pc := 13) (x := a2) 2 rfl rfl dX2_voteAt_13 ?_
  refine g_iadd (pc := 14) dX2_voteAt_14 ?_
  exact g_ireturn (pc := 15) rfl dX2_voteAt_15
/-! FlareSlopesModel.votesBy(I)I -/
noncomputable def bX2_votesBy_9 (G : GG) (N : Nat) (a0 : Option Nat) (a1 : Int32) (w5 : (Int32 × Int32) → Hp → Out (Int32)) (x3 : Int32 × Int32) (h4 : Hp) : Out (Int32) :=
  bnd (sX2_voteAt G N (a1 + (1 : Int32)) (0 : Int32) (0 : Int32) h4) fun v6 h7 =>
  if v6 ≤ x3.2 then (some (.inl x3.1, h7))
  else gFr h7 a0 18 1 fun v8 =>
  gAi h7 v8 0 x3.2 fun v9 =>
  gJ (fun (x10 : Int32) (h11 : Hp) =>
  gLet (x3.1 + x10) fun v13 =>
  w5 (v13, x3.2 + (1 : Int32)) h11) fun j12 =>
  if v9 ≤ 0 then (j12 (0 : Int32) h7)
  else j12 (1 : Int32) h7
noncomputable def sX2_votesBy (G : GG) (N : Nat) (a0 : Option Nat) (a1 : Int32) (h : Hp) : Out (Int32) :=
  bnd (sX2_voteAt G N a1 (0 : Int32) (0 : Int32) h) fun v1 h2 =>
  gLp (bX2_votesBy_9 G N a0 a1) N ((0 : Int32), v1) h2
abbrev mX2_votesBy : MI := (RX2, cX2_votesBy, 4, (some .int), [], 1, 22, "votesBy")
theorem tX2_votesBy {G : GG} {l : Launch} (hs : l.stackTraces = false) {N : Nat} {a0 : Option Nat} {a1 : Int32} {h : Hp} {r : Int32 ⊕ Nat} {hf : Hp} (ho : sX2_votesBy G N a0 a1 h = some (r, hf)) : gMet G l yX2_votesBy (ws_ yX2_votesBy cX2_votesBy 4 (some .int)) 1 22 [gr a0, gi a1] h cvI r hf := by
  refine gMet.of ho hs (plainFor_of_name pn_X2) rfl rfl (gbl rfl) fun X => ?_
  show gT G l X mX2_votesBy cvI r hf 0 [(0, gr a0), (1, gi a1)] [] h (sX2_votesBy G N a0 a1 h)
  delta sX2_votesBy
  refine g_iconst (pc := 0) (v := (0 : Int32)) ic_0 dX2_votesBy_0 ?_
  refine g_istore_n (pc := 1) (lv' := [(2, gi (0 : Int32)), (0, gr a0), (1, gi a1)]) [0, 1, 2] rfl rfl (gblt rfl) dX2_votesBy_1 ?_
  refine g_iload_n (pc := 2) (x := a1) 2 rfl rfl dX2_votesBy_2 ?_
  refine g_iconst (pc := 3) (v := (0 : Int32)) ic_0 dX2_votesBy_3 ?_
  refine g_iconst (pc := 4) (v := (0 : Int32)) ic_0 dX2_votesBy_4 ?_
  refine g_bi (pc := 5) (y := yX2_voteAt) (ws := ws_ yX2_voteAt cX2_voteAt 3 (some .int)) (fr := 0) (lo := 0) (as := [gi a1, gi (0 : Int32), gi (0 : Int32)]) (st := []) (g_no) rfl (fun _ _ e => tX2_voteAt hs e) (fun K _ _ hM R e1 e2 => g_runS (M := mX2_votesBy) (pc := 5) (y := yX2_voteAt) (bytes := cX2_voteAt) (maxL := 3) (ret := (some .int)) (fr := 0) (lo := 0) (as := [gi a1, gi (0 : Int32), gi (0 : Int32)]) (st := []) gy_X2_voteAt (gbl rfl) (gbl rfl) (gbl rfl) q4165 q4166 dX2_votesBy_5 K hM R e1 e2) fun v1 h2 => ?_
  refine g_istore_n (pc := 8) (lv' := [(3, gi v1), (2, gi (0 : Int32)), (0, gr a0), (1, gi a1)]) [0, 1, 2, 3] rfl rfl (gblt rfl) dX2_votesBy_8 ?_
  refine g_sub (lv' := [(0, gr a0), (1, gi a1), (2, gi (0 : Int32)), (3, gi v1)]) [2, 3, 1, 0] rfl ?_
  refine g_loop (pc := 9) (fun (x3 : Int32 × Int32) => [(0, gr a0), (1, gi a1), (2, gi x3.1), (3, gi x3.2)]) (fun (_ : Int32 × Int32) => []) (fun w5 Hw5 x3 h4 => ?_) N ((0 : Int32), v1) h2
  delta bX2_votesBy_9
  refine g_iload_n (pc := 9) (x := x3.2) 3 rfl rfl dX2_votesBy_9 ?_
  refine g_iload_n (pc := 10) (x := a1) 1 rfl rfl dX2_votesBy_10 ?_
  refine g_iconst (pc := 11) (v := (1 : Int32)) ic_1 dX2_votesBy_11 ?_
  refine g_iadd (pc := 12) dX2_votesBy_12 ?_
  refine g_iconst (pc := 13) (v := (0 : Int32)) ic_0 dX2_votesBy_13 ?_
  refine g_iconst (pc := 14) (v := (0 : Int32)) ic_0 dX2_votesBy_14 ?_
  refine g_bi (pc := 15) (y := yX2_voteAt) (ws := ws_ yX2_voteAt cX2_voteAt 3 (some .int)) (fr := 0) (lo := 0) (as := [gi (a1 + (1 : Int32)), gi (0 : Int32), gi (0 : Int32)]) (st := [gi x3.2]) (g_no) rfl (fun _ _ e => tX2_voteAt hs e) (fun K _ _ hM R e1 e2 => g_runS (M := mX2_votesBy) (pc := 15) (y := yX2_voteAt) (bytes := cX2_voteAt) (maxL := 3) (ret := (some .int)) (fr := 0) (lo := 0) (as := [gi (a1 + (1 : Int32)), gi (0 : Int32), gi (0 : Int32)]) (st := [gi x3.2]) gy_X2_voteAt (gbl rfl) (gbl rfl) (gbl rfl) q4165 q4166 dX2_votesBy_15 K hM R e1 e2) fun v6 h7 => ?_
  refine g_icmp_ge (pc := 18) (tgt := 44) rfl dX2_votesBy_18 ?_ ?_
  · refine g_iload_n (pc := 44) (x := x3.1) 2 rfl rfl dX2_votesBy_44 ?_
    exact g_ireturn (pc := 45) rfl dX2_votesBy_45
  refine g_iload_n (pc := 21) (x := x3.1) 2 rfl rfl dX2_votesBy_21 ?_
  refine g_aload_n (pc := 22) (x := a0) 0 rfl rfl dX2_votesBy_22 ?_
  refine g_getfr (pc := 23) k_18 (gblt rfl) lk_X2_9_18 dX2_votesBy_23 fun v8 => ?_
  refine g_iload_n (pc := 26) (x := x3.2) 3 rfl rfl dX2_votesBy_26 ?_
  refine g_iaload (pc := 27) rfl dX2_votesBy_27 fun v9 => ?_
  refine g_join 36 (fun (x10 : Int32) => [(0, gr a0), (1, gi a1), (3, gi x3.2)]) (fun (x10 : Int32) => [gi x10, gi x3.1]) (fun x10 h11 => ?_) (fun j12 Hj12 => ?_)
  · refine g_iadd (pc := 36) dX2_votesBy_36 ?_
    refine g_leti fun v13 => ?_
    refine g_istore_n (pc := 37) (lv' := [(2, gi v13), (0, gr a0), (1, gi a1), (3, gi x3.2)]) [0, 1, 2, 3] rfl rfl (gblt rfl) dX2_votesBy_37 ?_
    refine g_iinc (pc := 38) (v := x3.2 + (1 : Int32)) 3 rfl (ii_1 _) (lv' := [(3, gi (x3.2 + (1 : Int32))), (2, gi v13), (0, gr a0), (1, gi a1)]) [0, 1, 2, 3] rfl (gblt rfl) dX2_votesBy_38 ?_
    refine g_goto (pc := 41) (tgt := 9) rfl dX2_votesBy_41 ?_
    exact g_sub [2, 3, 1, 0] rfl (Hw5 (v13, x3.2 + (1 : Int32)) h11)
  refine g_if_le (pc := 28) (tgt := 35) rfl dX2_votesBy_28 ?_ ?_
  · refine g_iconst (pc := 35) (v := (0 : Int32)) ic_0 dX2_votesBy_35 ?_
    exact g_sub [0, 1, 3] rfl (Hj12 (0 : Int32) h7)
  refine g_iconst (pc := 31) (v := (1 : Int32)) ic_1 dX2_votesBy_31 ?_
  refine g_goto (pc := 32) (tgt := 36) rfl dX2_votesBy_32 ?_
  exact g_sub [0, 1, 3] rfl (Hj12 (1 : Int32) h7)
/-! FlareSlopesModel.allVotes()I -/
noncomputable def bX2_allVotes_4 (G : GG) (N : Nat) (a0 : Option Nat) (w3 : (Int32 × Int32) → Hp → Out (Int32)) (x1 : Int32 × Int32) (h2 : Hp) : Out (Int32) :=
  if (10 : Int32) ≤ x1.2 then (some (.inl x1.1, h2))
  else bV h2 a0 18 (fun q7 => sX2_votesBy G N (some q7) x1.2 h2) fun v4 h5 =>
  gLet (x1.1 + v4) fun v6 =>
  w3 (v6, x1.2 + (1 : Int32)) h5
noncomputable def sX2_allVotes (G : GG) (N : Nat) (a0 : Option Nat) (h : Hp) : Out (Int32) :=
  gLp (bX2_allVotes_4 G N a0) N ((0 : Int32), (0 : Int32)) h
abbrev mX2_allVotes : MI := (RX2, cX2_allVotes, 3, (some .int), [], 2, 45, "allVotes")
theorem tX2_allVotes {G : GG} {l : Launch} (hs : l.stackTraces = false) {N : Nat} {a0 : Option Nat} {h : Hp} {r : Int32 ⊕ Nat} {hf : Hp} (ho : sX2_allVotes G N a0 h = some (r, hf)) : gMet G l yX2_allVotes (ws_ yX2_allVotes cX2_allVotes 3 (some .int)) 2 45 [gr a0] h cvI r hf := by
  refine gMet.of ho hs (plainFor_of_name pn_X2) rfl rfl (gbl rfl) fun X => ?_
  show gT G l X mX2_allVotes cvI r hf 0 [(0, gr a0)] [] h (sX2_allVotes G N a0 h)
  delta sX2_allVotes
  refine g_iconst (pc := 0) (v := (0 : Int32)) ic_0 dX2_allVotes_0 ?_
  refine g_istore_n (pc := 1) (lv' := [(1, gi (0 : Int32)), (0, gr a0)]) [0, 1] rfl rfl (gblt rfl) dX2_allVotes_1 ?_
  refine g_iconst (pc := 2) (v := (0 : Int32)) ic_0 dX2_allVotes_2 ?_
  refine g_istore_n (pc := 3) (lv' := [(2, gi (0 : Int32)), (1, gi (0 : Int32)), (0, gr a0)]) [0, 1, 2] rfl rfl (gblt rfl) dX2_allVotes_3 ?_
  refine g_sub (lv' := [(0, gr a0), (1, gi (0 : Int32)), (2, gi (0 : Int32))]) [2, 1, 0] rfl ?_
  refine g_loop (pc := 4) (fun (x1 : Int32 × Int32) => [(0, gr a0), (1, gi x1.1), (2, gi x1.2)]) (fun (_ : Int32 × Int32) => []) (fun w3 Hw3 x1 h2 => ?_) N ((0 : Int32), (0 : Int32)) h
  delta bX2_allVotes_4
  refine g_iload_n (pc := 4) (x := x1.2) 2 rfl rfl dX2_allVotes_4 ?_
  refine g_bipush (pc := 5) (v := (10 : Int32)) bc_10 dX2_allVotes_5 ?_
  refine g_icmp_ge (pc := 7) (tgt := 24) rfl dX2_allVotes_7 ?_ ?_
  · refine g_iload_n (pc := 24) (x := x1.1) 1 rfl rfl dX2_allVotes_24 ?_
    exact g_ireturn (pc := 25) rfl dX2_allVotes_25
  refine g_iload_n (pc := 10) (x := x1.1) 1 rfl rfl dX2_allVotes_10 ?_
  refine g_aload_n (pc := 11) (x := a0) 0 rfl rfl dX2_allVotes_11 ?_
  refine g_iload_n (pc := 12) (x := x1.2) 2 rfl rfl dX2_allVotes_12 ?_
  refine g_bVi (pc := 13) (y := yX2_votesBy) (ws := ws_ yX2_votesBy cX2_votesBy 4 (some .int)) (fr := 1) (lo := 22) (as := [gi x1.2]) (st := [gi x1.1]) (g_no) rfl (fun _ _ _ e => tX2_votesBy hs e) (fun K _ _ _ hq hM R e1 e2 => g_runV (M := mX2_allVotes) (pc := 13) (y := yX2_votesBy) (bytes := cX2_votesBy) (maxL := 4) (ret := (some .int)) (fr := 1) (lo := 22) (as := [gi x1.2]) (st := [gi x1.1]) hq (C := "FlareSlopesModel") rfl gy_X2_votesBy (gbl rfl) (gbl rfl) (gbl rfl) q4161 q4163 qs79 dX2_allVotes_13 K hM R e1 e2) fun v4 h5 => ?_
  refine g_iadd (pc := 16) dX2_allVotes_16 ?_
  refine g_leti fun v6 => ?_
  refine g_istore_n (pc := 17) (lv' := [(1, gi v6), (0, gr a0), (2, gi x1.2)]) [0, 1, 2] rfl rfl (gblt rfl) dX2_allVotes_17 ?_
  refine g_iinc (pc := 18) (v := x1.2 + (1 : Int32)) 2 rfl (ii_1 _) (lv' := [(2, gi (x1.2 + (1 : Int32))), (1, gi v6), (0, gr a0)]) [0, 1, 2] rfl (gblt rfl) dX2_allVotes_18 ?_
  refine g_goto (pc := 21) (tgt := 4) rfl dX2_allVotes_21 ?_
  exact g_sub [2, 1, 0] rfl (Hw3 (v6, x1.2 + (1 : Int32)) h5)
/-! FlareSlopesModel.bitsOfSlopes(I)I -/
noncomputable def bX2_bitsOfSlopes_4 (G : GG) (N : Nat) (a0 : Int32) (w3 : (Int32 × Int32) → Hp → Out (Int32)) (x1 : Int32 × Int32) (h2 : Hp) : Out (Int32) :=
  if (8 : Int32) ≤ x1.2 then (some (.inl x1.1, h2))
  else gLet (x1.1 + ((a0 >>> (x1.2 &&& 31)) &&& (1 : Int32))) fun v4 =>
  w3 (v4, x1.2 + (1 : Int32)) h2
noncomputable def sX2_bitsOfSlopes (G : GG) (N : Nat) (a0 : Int32) (h : Hp) : Out (Int32) :=
  gLp (bX2_bitsOfSlopes_4 G N a0) N ((0 : Int32), (0 : Int32)) h
abbrev mX2_bitsOfSlopes : MI := (RX2, cX2_bitsOfSlopes, 3, (some .int), [], 0, 0, "bitsOfSlopes")
theorem tX2_bitsOfSlopes {G : GG} {l : Launch} (hs : l.stackTraces = false) {N : Nat} {a0 : Int32} {h : Hp} {r : Int32 ⊕ Nat} {hf : Hp} (ho : sX2_bitsOfSlopes G N a0 h = some (r, hf)) : gMet G l yX2_bitsOfSlopes (ws_ yX2_bitsOfSlopes cX2_bitsOfSlopes 3 (some .int)) 0 0 [gi a0] h cvI r hf := by
  refine gMet.of ho hs (plainFor_of_name pn_X2) rfl rfl (gbl rfl) fun X => ?_
  show gT G l X mX2_bitsOfSlopes cvI r hf 0 [(0, gi a0)] [] h (sX2_bitsOfSlopes G N a0 h)
  delta sX2_bitsOfSlopes
  refine g_iconst (pc := 0) (v := (0 : Int32)) ic_0 dX2_bitsOfSlopes_0 ?_
  refine g_istore_n (pc := 1) (lv' := [(1, gi (0 : Int32)), (0, gi a0)]) [0, 1] rfl rfl (gblt rfl) dX2_bitsOfSlopes_1 ?_
  refine g_iconst (pc := 2) (v := (0 : Int32)) ic_0 dX2_bitsOfSlopes_2 ?_
  refine g_istore_n (pc := 3) (lv' := [(2, gi (0 : Int32)), (1, gi (0 : Int32)), (0, gi a0)]) [0, 1, 2] rfl rfl (gblt rfl) dX2_bitsOfSlopes_3 ?_
  refine g_sub (lv' := [(0, gi a0), (1, gi (0 : Int32)), (2, gi (0 : Int32))]) [2, 1, 0] rfl ?_
  refine g_loop (pc := 4) (fun (x1 : Int32 × Int32) => [(0, gi a0), (1, gi x1.1), (2, gi x1.2)]) (fun (_ : Int32 × Int32) => []) (fun w3 Hw3 x1 h2 => ?_) N ((0 : Int32), (0 : Int32)) h
  delta bX2_bitsOfSlopes_4
  refine g_iload_n (pc := 4) (x := x1.2) 2 rfl rfl dX2_bitsOfSlopes_4 ?_
  refine g_bipush (pc := 5) (v := (8 : Int32)) bc_8 dX2_bitsOfSlopes_5 ?_
  refine g_icmp_ge (pc := 7) (tgt := 24) rfl dX2_bitsOfSlopes_7 ?_ ?_
  · refine g_iload_n (pc := 24) (x := x1.1) 1 rfl rfl dX2_bitsOfSlopes_24 ?_
    exact g_ireturn (pc := 25) rfl dX2_bitsOfSlopes_25
  refine g_iload_n (pc := 10) (x := x1.1) 1 rfl rfl dX2_bitsOfSlopes_10 ?_
  refine g_iload_n (pc := 11) (x := a0) 0 rfl rfl dX2_bitsOfSlopes_11 ?_
  refine g_iload_n (pc := 12) (x := x1.2) 2 rfl rfl dX2_bitsOfSlopes_12 ?_
  refine g_ishr (pc := 13) dX2_bitsOfSlopes_13 ?_
  refine g_iconst (pc := 14) (v := (1 : Int32)) ic_1 dX2_bitsOfSlopes_14 ?_
  refine g_iand (pc := 15) dX2_bitsOfSlopes_15 ?_
  refine g_iadd (pc := 16) dX2_bitsOfSlopes_16 ?_
  refine g_leti fun v4 => ?_
  refine g_istore_n (pc := 17) (lv' := [(1, gi v4), (0, gi a0), (2, gi x1.2)]) [0, 1, 2] rfl rfl (gblt rfl) dX2_bitsOfSlopes_17 ?_
  refine g_iinc (pc := 18) (v := x1.2 + (1 : Int32)) 2 rfl (ii_1 _) (lv' := [(2, gi (x1.2 + (1 : Int32))), (1, gi v4), (0, gi a0)]) [0, 1, 2] rfl (gblt rfl) dX2_bitsOfSlopes_18 ?_
  refine g_goto (pc := 21) (tgt := 4) rfl dX2_bitsOfSlopes_21 ?_
  exact g_sub [2, 1, 0] rfl (Hw3 (v4, x1.2 + (1 : Int32)) h2)
/-! FlareSlopesModel.cabinAt(I)I -/
noncomputable def sX2_cabinAt (G : GG) (N : Nat) (a0 : Int32) (h : Hp) : Out (Int32) :=
  some (.inl ((10 : Int32) + ((3 : Int32) * a0)), h)
abbrev mX2_cabinAt : MI := (RX2, cX2_cabinAt, 1, (some .int), [], 0, 0, "cabinAt")
theorem tX2_cabinAt {G : GG} {l : Launch} (hs : l.stackTraces = false) {N : Nat} {a0 : Int32} {h : Hp} {r : Int32 ⊕ Nat} {hf : Hp} (ho : sX2_cabinAt G N a0 h = some (r, hf)) : gMet G l yX2_cabinAt (ws_ yX2_cabinAt cX2_cabinAt 1 (some .int)) 0 0 [gi a0] h cvI r hf := by
  refine gMet.of ho hs (plainFor_of_name pn_X2) rfl rfl (gbl rfl) fun X => ?_
  show gT G l X mX2_cabinAt cvI r hf 0 [(0, gi a0)] [] h (sX2_cabinAt G N a0 h)
  delta sX2_cabinAt
  refine g_bipush (pc := 0) (v := (10 : Int32)) bc_10 dX2_cabinAt_0 ?_
  refine g_iconst (pc := 2) (v := (3 : Int32)) ic_3 dX2_cabinAt_2 ?_
  refine g_iload_n (pc := 3) (x := a0) 0 rfl rfl dX2_cabinAt_3 ?_
  refine g_imul (pc := 4) dX2_cabinAt_4 ?_
  refine g_iadd (pc := 5) dX2_cabinAt_5 ?_
  exact g_ireturn (pc := 6) rfl dX2_cabinAt_6
/-! FlareSlopesModel.sightNow()I -/
noncomputable def bX2_sightNow_10 (G : GG) (N : Nat) (a0 : Option Nat) (j5 : (Int32) → Hp → Out (Int32)) (w10 : (Int32 × Int32) → Hp → Out (Int32)) (x8 : Int32 × Int32) (h9 : Hp) : Out (Int32) :=
  gFr h9 a0 18 1 fun v11 =>
  gAi h9 v11 0 (9 : Int32) fun v12 =>
  if ((72 : Int32) + ((3 : Int32) * v12)) ≤ x8.2 then (j5 x8.1 h9)
  else gFr h9 a0 18 1 fun v13 =>
  gAi h9 v13 0 (90 : Int32) fun v14 =>
  gFr h9 a0 18 1 fun v15 =>
  gAi h9 v15 0 x8.2 fun v16 =>
  gFr h9 a0 18 1 fun v17 =>
  gAi h9 v17 0 (x8.2 + (1 : Int32)) fun v18 =>
  bnd (sX2_in G N v14 v16 v18 h9) fun v19 h20 =>
  gJ (fun (x21 : Int32) (h22 : Hp) =>
  gLet (x8.1 - x21) fun v24 =>
  w10 (v24, x8.2 + (3 : Int32)) h22) fun j23 =>
  if v19 = 0 then (j23 (0 : Int32) h20)
  else gFr h20 a0 18 1 fun v25 =>
  gAi h20 v25 0 (x8.2 + (2 : Int32)) fun v26 =>
  j23 v26 h20
noncomputable def sX2_sightNow (G : GG) (N : Nat) (a0 : Option Nat) (h : Hp) : Out (Int32) :=
  gFr h a0 18 1 fun v1 =>
  gAi h v1 0 (0 : Int32) fun v2 =>
  gJ (fun (x3 : Int32) (h4 : Hp) =>
  bnd (sJ14_max G N (0 : Int32) x3 h4) fun v6 h7 =>
  some (.inl v6, h7)) fun j5 =>
  gLp (bX2_sightNow_10 G N a0 j5) N (v2, (72 : Int32)) h
abbrev mX2_sightNow : MI := (RX2, cX2_sightNow, 3, (some .int), [], 1, 22, "sightNow")
theorem tX2_sightNow {G : GG} {l : Launch} (hs : l.stackTraces = false) {N : Nat} {a0 : Option Nat} {h : Hp} {r : Int32 ⊕ Nat} {hf : Hp} (ho : sX2_sightNow G N a0 h = some (r, hf)) : gMet G l yX2_sightNow (ws_ yX2_sightNow cX2_sightNow 3 (some .int)) 1 22 [gr a0] h cvI r hf := by
  refine gMet.of ho hs (plainFor_of_name pn_X2) rfl rfl (gbl rfl) fun X => ?_
  show gT G l X mX2_sightNow cvI r hf 0 [(0, gr a0)] [] h (sX2_sightNow G N a0 h)
  delta sX2_sightNow
  refine g_aload_n (pc := 0) (x := a0) 0 rfl rfl dX2_sightNow_0 ?_
  refine g_getfr (pc := 1) k_18 (gblt rfl) lk_X2_9_18 dX2_sightNow_1 fun v1 => ?_
  refine g_iconst (pc := 4) (v := (0 : Int32)) ic_0 dX2_sightNow_4 ?_
  refine g_iaload (pc := 5) rfl dX2_sightNow_5 fun v2 => ?_
  refine g_istore_n (pc := 6) (lv' := [(1, gi v2), (0, gr a0)]) [0, 1] rfl rfl (gblt rfl) dX2_sightNow_6 ?_
  refine g_bipush (pc := 7) (v := (72 : Int32)) bc_72 dX2_sightNow_7 ?_
  refine g_istore_n (pc := 9) (lv' := [(2, gi (72 : Int32)), (1, gi v2), (0, gr a0)]) [0, 1, 2] rfl rfl (gblt rfl) dX2_sightNow_9 ?_
  refine g_join 74 (fun (x3 : Int32) => [(1, gi x3)]) (fun (x3 : Int32) => []) (fun x3 h4 => ?_) (fun j5 Hj5 => ?_)
  · refine g_iconst (pc := 74) (v := (0 : Int32)) ic_0 dX2_sightNow_74 ?_
    refine g_iload_n (pc := 75) (x := x3) 0 rfl rfl dX2_sightNow_75 ?_
    refine g_bi (pc := 76) (y := yJ14_max) (ws := ws_ yJ14_max cJ14_max 2 (some .int)) (fr := 0) (lo := 0) (as := [gi (0 : Int32), gi x3]) (st := []) (g_no) rfl (fun _ _ e => tJ14_max hs e) (fun K _ _ hM R e1 e2 => g_runS (M := mX2_sightNow) (pc := 76) (y := yJ14_max) (bytes := cJ14_max) (maxL := 2) (ret := (some .int)) (fr := 0) (lo := 0) (as := [gi (0 : Int32), gi x3]) (st := []) gy_J14_max (gbl rfl) (gbl rfl) (gbl rfl) q4190 q638 dX2_sightNow_76 K hM R e1 e2) fun v6 h7 => ?_
    exact g_ireturn (pc := 79) rfl dX2_sightNow_79
  refine g_sub (lv' := [(0, gr a0), (1, gi v2), (2, gi (72 : Int32))]) [2, 1, 0] rfl ?_
  refine g_loop (pc := 10) (fun (x8 : Int32 × Int32) => [(0, gr a0), (1, gi x8.1), (2, gi x8.2)]) (fun (_ : Int32 × Int32) => []) (fun w10 Hw10 x8 h9 => ?_) N (v2, (72 : Int32)) h
  delta bX2_sightNow_10
  refine g_iload_n (pc := 10) (x := x8.2) 2 rfl rfl dX2_sightNow_10 ?_
  refine g_bipush (pc := 11) (v := (72 : Int32)) bc_72 dX2_sightNow_11 ?_
  refine g_iconst (pc := 13) (v := (3 : Int32)) ic_3 dX2_sightNow_13 ?_
  refine g_aload_n (pc := 14) (x := a0) 0 rfl rfl dX2_sightNow_14 ?_
  refine g_getfr (pc := 15) k_18 (gblt rfl) lk_X2_9_18 dX2_sightNow_15 fun v11 => ?_
  refine g_bipush (pc := 18) (v := (9 : Int32)) bc_9 dX2_sightNow_18 ?_
  refine g_iaload (pc := 20) rfl dX2_sightNow_20 fun v12 => ?_
  refine g_imul (pc := 21) dX2_sightNow_21 ?_
  refine g_iadd (pc := 22) dX2_sightNow_22 ?_
  refine g_icmp_ge (pc := 23) (tgt := 74) rfl dX2_sightNow_23 ?_ ?_
  · exact g_sub [1] rfl (Hj5 x8.1 h9)
  refine g_iload_n (pc := 26) (x := x8.1) 1 rfl rfl dX2_sightNow_26 ?_
  refine g_aload_n (pc := 27) (x := a0) 0 rfl rfl dX2_sightNow_27 ?_
  refine g_getfr (pc := 28) k_18 (gblt rfl) lk_X2_9_18 dX2_sightNow_28 fun v13 => ?_
  refine g_bipush (pc := 31) (v := (90 : Int32)) bc_90 dX2_sightNow_31 ?_
  refine g_iaload (pc := 33) rfl dX2_sightNow_33 fun v14 => ?_
  refine g_aload_n (pc := 34) (x := a0) 0 rfl rfl dX2_sightNow_34 ?_
  refine g_getfr (pc := 35) k_18 (gblt rfl) lk_X2_9_18 dX2_sightNow_35 fun v15 => ?_
  refine g_iload_n (pc := 38) (x := x8.2) 2 rfl rfl dX2_sightNow_38 ?_
  refine g_iaload (pc := 39) rfl dX2_sightNow_39 fun v16 => ?_
  refine g_aload_n (pc := 40) (x := a0) 0 rfl rfl dX2_sightNow_40 ?_
  refine g_getfr (pc := 41) k_18 (gblt rfl) lk_X2_9_18 dX2_sightNow_41 fun v17 => ?_
  refine g_iload_n (pc := 44) (x := x8.2) 2 rfl rfl dX2_sightNow_44 ?_
  refine g_iconst (pc := 45) (v := (1 : Int32)) ic_1 dX2_sightNow_45 ?_
  refine g_iadd (pc := 46) dX2_sightNow_46 ?_
  refine g_iaload (pc := 47) rfl dX2_sightNow_47 fun v18 => ?_
  refine g_bi (pc := 48) (y := yX2_in) (ws := ws_ yX2_in cX2_in 3 (some .boolean)) (fr := 0) (lo := 0) (as := [gi v14, gi v16, gi v18]) (st := [gi x8.1]) (g_no) rfl (fun _ _ e => tX2_in hs e) (fun K _ _ hM R e1 e2 => g_runS (M := mX2_sightNow) (pc := 48) (y := yX2_in) (bytes := cX2_in) (maxL := 3) (ret := (some .boolean)) (fr := 0) (lo := 0) (as := [gi v14, gi v16, gi v18]) (st := [gi x8.1]) gy_X2_in (gbl rfl) (gbl rfl) (gbl rfl) q4037 q4038 dX2_sightNow_48 K hM R e1 e2) fun v19 h20 => ?_
  refine g_join 66 (fun (x21 : Int32) => [(0, gr a0), (2, gi x8.2)]) (fun (x21 : Int32) => [gi x21, gi x8.1]) (fun x21 h22 => ?_) (fun j23 Hj23 => ?_)
  · refine g_isub (pc := 66) dX2_sightNow_66 ?_
    refine g_leti fun v24 => ?_
    refine g_istore_n (pc := 67) (lv' := [(1, gi v24), (0, gr a0), (2, gi x8.2)]) [0, 1, 2] rfl rfl (gblt rfl) dX2_sightNow_67 ?_
    refine g_iinc (pc := 68) (v := x8.2 + (3 : Int32)) 2 rfl (ii_3 _) (lv' := [(2, gi (x8.2 + (3 : Int32))), (1, gi v24), (0, gr a0)]) [0, 1, 2] rfl (gblt rfl) dX2_sightNow_68 ?_
    refine g_goto (pc := 71) (tgt := 10) rfl dX2_sightNow_71 ?_
    exact g_sub [2, 1, 0] rfl (Hw10 (v24, x8.2 + (3 : Int32)) h22)
  refine g_if_eq (pc := 51) (tgt := 65) rfl dX2_sightNow_51 ?_ ?_
  · refine g_iconst (pc := 65) (v := (0 : Int32)) ic_0 dX2_sightNow_65 ?_
    exact g_sub [0, 2] rfl (Hj23 (0 : Int32) h20)
  refine g_aload_n (pc := 54) (x := a0) 0 rfl rfl dX2_sightNow_54 ?_
  refine g_getfr (pc := 55) k_18 (gblt rfl) lk_X2_9_18 dX2_sightNow_55 fun v25 => ?_
  refine g_iload_n (pc := 58) (x := x8.2) 2 rfl rfl dX2_sightNow_58 ?_
  refine g_iconst (pc := 59) (v := (2 : Int32)) ic_2 dX2_sightNow_59 ?_
  refine g_iadd (pc := 60) dX2_sightNow_60 ?_
  refine g_iaload (pc := 61) rfl dX2_sightNow_61 fun v26 => ?_
  refine g_goto (pc := 62) (tgt := 66) rfl dX2_sightNow_62 ?_
  exact g_sub [0, 2] rfl (Hj23 v26 h20)
/-! FlareSlopesModel.parting(II)I -/
noncomputable def bX2_parting_27 (G : GG) (N : Nat) (a0 : Option Nat) (a1 : Int32) (a2 : Int32) (v5 : Int32) (w9 : (Int32 × Int32) → Hp → Out (Int32)) (x7 : Int32 × Int32) (h8 : Hp) : Out (Int32) :=
  gFr h8 a0 18 1 fun v10 =>
  gAi h8 v10 0 (8 : Int32) fun v11 =>
  if ((64 : Int32) + ((2 : Int32) * v11)) ≤ x7.2 then (some (.inl x7.1, h8))
  else gFr h8 a0 18 1 fun v12 =>
  gAi h8 v12 0 a1 fun v13 =>
  gFr h8 a0 18 1 fun v14 =>
  gAi h8 v14 0 x7.2 fun v15 =>
  gJ (fun (x16 : Int32) (h17 : Hp) =>
  gFr h17 a0 18 1 fun v19 =>
  gAi h17 v19 0 a2 fun v20 =>
  gFr h17 a0 18 1 fun v21 =>
  gAi h17 v21 0 x7.2 fun v22 =>
  gJ (fun (x23 : Int32) (h24 : Hp) =>
  gJ (fun (x26 : Int32) (h27 : Hp) =>
  gLet (x7.1 + x26) fun v29 =>
  w9 (v29, x7.2 + (2 : Int32)) h27) fun j28 =>
  gJ (fun (x30 : Unit) (h31 : Hp) =>
  j28 (0 : Int32) h31) fun j32 =>
  if x16 = x23 then (j32 () h24)
  else gFr h24 a0 18 1 fun v33 =>
  gAi h24 v33 0 (x7.2 + (1 : Int32)) fun v34 =>
  if v34 ≤ v5 then (j32 () h24)
  else j28 (1 : Int32) h24) fun j25 =>
  if v22 ≤ v20 then (j25 (0 : Int32) h17)
  else j25 (1 : Int32) h17) fun j18 =>
  if v15 ≤ v13 then (j18 (0 : Int32) h8)
  else j18 (1 : Int32) h8
noncomputable def sX2_parting (G : GG) (N : Nat) (a0 : Option Nat) (a1 : Int32) (a2 : Int32) (h : Hp) : Out (Int32) :=
  gFr h a0 18 1 fun v1 =>
  gAi h v1 0 (a1 + (2 : Int32)) fun v2 =>
  gFr h a0 18 1 fun v3 =>
  gAi h v3 0 (a2 + (2 : Int32)) fun v4 =>
  bnd (sJ14_max G N v2 v4 h) fun v5 h6 =>
  gLp (bX2_parting_27 G N a0 a1 a2 v5) N ((0 : Int32), (64 : Int32)) h6
abbrev mX2_parting : MI := (RX2, cX2_parting, 6, (some .int), [], 1, 21, "parting")
theorem tX2_parting {G : GG} {l : Launch} (hs : l.stackTraces = false) {N : Nat} {a0 : Option Nat} {a1 : Int32} {a2 : Int32} {h : Hp} {r : Int32 ⊕ Nat} {hf : Hp} (ho : sX2_parting G N a0 a1 a2 h = some (r, hf)) : gMet G l yX2_parting (ws_ yX2_parting cX2_parting 6 (some .int)) 1 21 [gr a0, gi a1, gi a2] h cvI r hf := by
  refine gMet.of ho hs (plainFor_of_name pn_X2) rfl rfl (gbl rfl) fun X => ?_
  show gT G l X mX2_parting cvI r hf 0 [(0, gr a0), (1, gi a1), (2, gi a2)] [] h (sX2_parting G N a0 a1 a2 h)
  delta sX2_parting
  refine g_aload_n (pc := 0) (x := a0) 0 rfl rfl dX2_parting_0 ?_
  refine g_getfr (pc := 1) k_18 (gblt rfl) lk_X2_9_18 dX2_parting_1 fun v1 => ?_
  refine g_iload_n (pc := 4) (x := a1) 1 rfl rfl dX2_parting_4 ?_
  refine g_iconst (pc := 5) (v := (2 : Int32)) ic_2 dX2_parting_5 ?_
  refine g_iadd (pc := 6) dX2_parting_6 ?_
  refine g_iaload (pc := 7) rfl dX2_parting_7 fun v2 => ?_
  refine g_aload_n (pc := 8) (x := a0) 0 rfl rfl dX2_parting_8 ?_
  refine g_getfr (pc := 9) k_18 (gblt rfl) lk_X2_9_18 dX2_parting_9 fun v3 => ?_
  refine g_iload_n (pc := 12) (x := a2) 2 rfl rfl dX2_parting_12 ?_
  refine g_iconst (pc := 13) (v := (2 : Int32)) ic_2 dX2_parting_13 ?_
  refine g_iadd (pc := 14) dX2_parting_14 ?_
  refine g_iaload (pc := 15) rfl dX2_parting_15 fun v4 => ?_
  refine g_bi (pc := 16) (y := yJ14_max) (ws := ws_ yJ14_max cJ14_max 2 (some .int)) (fr := 0) (lo := 0) (as := [gi v2, gi v4]) (st := []) (g_no) rfl (fun _ _ e => tJ14_max hs e) (fun K _ _ hM R e1 e2 => g_runS (M := mX2_parting) (pc := 16) (y := yJ14_max) (bytes := cJ14_max) (maxL := 2) (ret := (some .int)) (fr := 0) (lo := 0) (as := [gi v2, gi v4]) (st := []) gy_J14_max (gbl rfl) (gbl rfl) (gbl rfl) q4190 q638 dX2_parting_16 K hM R e1 e2) fun v5 h6 => ?_
  refine g_istore_n (pc := 19) (lv' := [(3, gi v5), (0, gr a0), (1, gi a1), (2, gi a2)]) [0, 1, 2, 3] rfl rfl (gblt rfl) dX2_parting_19 ?_
  refine g_iconst (pc := 20) (v := (0 : Int32)) ic_0 dX2_parting_20 ?_
  refine g_istore (pc := 21) (lv' := [(4, gi (0 : Int32)), (3, gi v5), (0, gr a0), (1, gi a1), (2, gi a2)]) [0, 1, 2, 3, 4] rfl (gblt rfl) dX2_parting_21 ?_
  refine g_bipush (pc := 23) (v := (64 : Int32)) bc_64 dX2_parting_23 ?_
  refine g_istore (pc := 25) (lv' := [(5, gi (64 : Int32)), (4, gi (0 : Int32)), (3, gi v5), (0, gr a0), (1, gi a1), (2, gi a2)]) [0, 1, 2, 3, 4, 5] rfl (gblt rfl) dX2_parting_25 ?_
  refine g_sub (lv' := [(0, gr a0), (1, gi a1), (2, gi a2), (3, gi v5), (4, gi (0 : Int32)), (5, gi (64 : Int32))]) [3, 4, 5, 2, 1, 0] rfl ?_
  refine g_loop (pc := 27) (fun (x7 : Int32 × Int32) => [(0, gr a0), (1, gi a1), (2, gi a2), (3, gi v5), (4, gi x7.1), (5, gi x7.2)]) (fun (_ : Int32 × Int32) => []) (fun w9 Hw9 x7 h8 => ?_) N ((0 : Int32), (64 : Int32)) h6
  delta bX2_parting_27
  refine g_iload (pc := 27) (x := x7.2) 5 rfl dX2_parting_27 ?_
  refine g_bipush (pc := 29) (v := (64 : Int32)) bc_64 dX2_parting_29 ?_
  refine g_iconst (pc := 31) (v := (2 : Int32)) ic_2 dX2_parting_31 ?_
  refine g_aload_n (pc := 32) (x := a0) 0 rfl rfl dX2_parting_32 ?_
  refine g_getfr (pc := 33) k_18 (gblt rfl) lk_X2_9_18 dX2_parting_33 fun v10 => ?_
  refine g_bipush (pc := 36) (v := (8 : Int32)) bc_8 dX2_parting_36 ?_
  refine g_iaload (pc := 38) rfl dX2_parting_38 fun v11 => ?_
  refine g_imul (pc := 39) dX2_parting_39 ?_
  refine g_iadd (pc := 40) dX2_parting_40 ?_
  refine g_icmp_ge (pc := 41) (tgt := 118) rfl dX2_parting_41 ?_ ?_
  · refine g_iload (pc := 118) (x := x7.1) 4 rfl dX2_parting_118 ?_
    exact g_ireturn (pc := 120) rfl dX2_parting_120
  refine g_iload (pc := 44) (x := x7.1) 4 rfl dX2_parting_44 ?_
  refine g_aload_n (pc := 46) (x := a0) 0 rfl rfl dX2_parting_46 ?_
  refine g_getfr (pc := 47) k_18 (gblt rfl) lk_X2_9_18 dX2_parting_47 fun v12 => ?_
  refine g_iload_n (pc := 50) (x := a1) 1 rfl rfl dX2_parting_50 ?_
  refine g_iaload (pc := 51) rfl dX2_parting_51 fun v13 => ?_
  refine g_aload_n (pc := 52) (x := a0) 0 rfl rfl dX2_parting_52 ?_
  refine g_getfr (pc := 53) k_18 (gblt rfl) lk_X2_9_18 dX2_parting_53 fun v14 => ?_
  refine g_iload (pc := 56) (x := x7.2) 5 rfl dX2_parting_56 ?_
  refine g_iaload (pc := 58) rfl dX2_parting_58 fun v15 => ?_
  refine g_join 67 (fun (x16 : Int32) => [(0, gr a0), (1, gi a1), (2, gi a2), (3, gi v5), (5, gi x7.2)]) (fun (x16 : Int32) => [gi x16, gi x7.1]) (fun x16 h17 => ?_) (fun j18 Hj18 => ?_)
  · refine g_aload_n (pc := 67) (x := a0) 0 rfl rfl dX2_parting_67 ?_
    refine g_getfr (pc := 68) k_18 (gblt rfl) lk_X2_9_18 dX2_parting_68 fun v19 => ?_
    refine g_iload_n (pc := 71) (x := a2) 2 rfl rfl dX2_parting_71 ?_
    refine g_iaload (pc := 72) rfl dX2_parting_72 fun v20 => ?_
    refine g_aload_n (pc := 73) (x := a0) 0 rfl rfl dX2_parting_73 ?_
    refine g_getfr (pc := 74) k_18 (gblt rfl) lk_X2_9_18 dX2_parting_74 fun v21 => ?_
    refine g_iload (pc := 77) (x := x7.2) 4 rfl dX2_parting_77 ?_
    refine g_iaload (pc := 79) rfl dX2_parting_79 fun v22 => ?_
    refine g_join 88 (fun (x23 : Int32) => [(0, gr a0), (1, gi a1), (2, gi a2), (3, gi v5), (5, gi x7.2)]) (fun (x23 : Int32) => [gi x23, gi x16, gi x7.1]) (fun x23 h24 => ?_) (fun j25 Hj25 => ?_)
    · refine g_join 109 (fun (x26 : Int32) => [(0, gr a0), (1, gi a1), (2, gi a2), (3, gi v5), (5, gi x7.2)]) (fun (x26 : Int32) => [gi x26, gi x7.1]) (fun x26 h27 => ?_) (fun j28 Hj28 => ?_)
      · refine g_iadd (pc := 109) dX2_parting_109 ?_
        refine g_leti fun v29 => ?_
        refine g_istore (pc := 110) (lv' := [(4, gi v29), (0, gr a0), (1, gi a1), (2, gi a2), (3, gi v5), (5, gi x7.2)]) [0, 1, 2, 3, 4, 5] rfl (gblt rfl) dX2_parting_110 ?_
        refine g_iinc (pc := 112) (v := x7.2 + (2 : Int32)) 5 rfl (ii_2 _) (lv' := [(5, gi (x7.2 + (2 : Int32))), (4, gi v29), (0, gr a0), (1, gi a1), (2, gi a2), (3, gi v5)]) [0, 1, 2, 3, 4, 5] rfl (gblt rfl) dX2_parting_112 ?_
        refine g_goto (pc := 115) (tgt := 27) rfl dX2_parting_115 ?_
        exact g_sub [2, 3, 4, 5, 1, 0] rfl (Hw9 (v29, x7.2 + (2 : Int32)) h27)
      refine g_join 108 (fun (x30 : Unit) => [(0, gr a0), (1, gi a1), (2, gi a2), (3, gi v5), (5, gi x7.2)]) (fun (x30 : Unit) => [gi x7.1]) (fun x30 h31 => ?_) (fun j32 Hj32 => ?_)
      · refine g_iconst (pc := 108) (v := (0 : Int32)) ic_0 dX2_parting_108 ?_
        exact Hj28 (0 : Int32) h31
      refine g_icmp_eq (pc := 88) (tgt := 108) rfl dX2_parting_88 ?_ ?_
      · exact Hj32 () h24
      refine g_aload_n (pc := 91) (x := a0) 0 rfl rfl dX2_parting_91 ?_
      refine g_getfr (pc := 92) k_18 (gblt rfl) lk_X2_9_18 dX2_parting_92 fun v33 => ?_
      refine g_iload (pc := 95) (x := x7.2) 4 rfl dX2_parting_95 ?_
      refine g_iconst (pc := 97) (v := (1 : Int32)) ic_1 dX2_parting_97 ?_
      refine g_iadd (pc := 98) dX2_parting_98 ?_
      refine g_iaload (pc := 99) rfl dX2_parting_99 fun v34 => ?_
      refine g_iload_n (pc := 100) (x := v5) 3 rfl rfl dX2_parting_100 ?_
      refine g_icmp_le (pc := 101) (tgt := 108) rfl dX2_parting_101 ?_ ?_
      · exact Hj32 () h24
      refine g_iconst (pc := 104) (v := (1 : Int32)) ic_1 dX2_parting_104 ?_
      refine g_goto (pc := 105) (tgt := 109) rfl dX2_parting_105 ?_
      exact Hj28 (1 : Int32) h24
    refine g_icmp_ge (pc := 80) (tgt := 87) rfl dX2_parting_80 ?_ ?_
    · refine g_iconst (pc := 87) (v := (0 : Int32)) ic_0 dX2_parting_87 ?_
      exact Hj25 (0 : Int32) h17
    refine g_iconst (pc := 83) (v := (1 : Int32)) ic_1 dX2_parting_83 ?_
    refine g_goto (pc := 84) (tgt := 88) rfl dX2_parting_84 ?_
    exact Hj25 (1 : Int32) h17
  refine g_icmp_ge (pc := 59) (tgt := 66) rfl dX2_parting_59 ?_ ?_
  · refine g_iconst (pc := 66) (v := (0 : Int32)) ic_0 dX2_parting_66 ?_
    exact g_sub [0, 1, 2, 3, 5] rfl (Hj18 (0 : Int32) h8)
  refine g_iconst (pc := 62) (v := (1 : Int32)) ic_1 dX2_parting_62 ?_
  refine g_goto (pc := 63) (tgt := 67) rfl dX2_parting_63 ?_
  exact g_sub [0, 1, 2, 3, 5] rfl (Hj18 (1 : Int32) h8)
/-! FlareSlopesModel.see(II)Z -/
noncomputable def sX2_see (G : GG) (N : Nat) (a0 : Option Nat) (a1 : Int32) (a2 : Int32) (h : Hp) : Out (Int32) :=
  gFr h a0 18 1 fun v1 =>
  gAi h v1 0 a1 fun v2 =>
  gFr h a0 18 1 fun v3 =>
  gAi h v3 0 a2 fun v4 =>
  gLet (v2 - v4) fun v5 =>
  gFr h a0 18 1 fun v6 =>
  gAi h v6 0 (a1 + (1 : Int32)) fun v7 =>
  gFr h a0 18 1 fun v8 =>
  gAi h v8 0 (a2 + (1 : Int32)) fun v9 =>
  gLet (v7 - v9) fun v10 =>
  bV h a0 18 (fun q19 => sX2_sightNow G N (some q19) h) fun v11 h12 =>
  gJ (fun (x13 : Unit) (h14 : Hp) =>
  gRtZ (0 : Int32) h14) fun j15 =>
  if (v11 * v11) < ((v5 * v5) + (v10 * v10)) then (j15 () h12)
  else bV h12 a0 18 (fun q18 => sX2_parting G N (some q18) a1 a2 h12) fun v16 h17 =>
  if v16 = 0 then (gRtZ (1 : Int32) h17)
  else j15 () h17
abbrev mX2_see : MI := (RX2, cX2_see, 6, (some .boolean), [], 2, 46, "see")
theorem tX2_see {G : GG} {l : Launch} (hs : l.stackTraces = false) {N : Nat} {a0 : Option Nat} {a1 : Int32} {a2 : Int32} {h : Hp} {r : Int32 ⊕ Nat} {hf : Hp} (ho : sX2_see G N a0 a1 a2 h = some (r, hf)) : gMet G l yX2_see (ws_ yX2_see cX2_see 6 (some .boolean)) 2 46 [gr a0, gi a1, gi a2] h cvI r hf := by
  refine gMet.of ho hs (plainFor_of_name pn_X2) rfl rfl (gbl rfl) fun X => ?_
  show gT G l X mX2_see cvI r hf 0 [(0, gr a0), (1, gi a1), (2, gi a2)] [] h (sX2_see G N a0 a1 a2 h)
  delta sX2_see
  refine g_aload_n (pc := 0) (x := a0) 0 rfl rfl dX2_see_0 ?_
  refine g_getfr (pc := 1) k_18 (gblt rfl) lk_X2_9_18 dX2_see_1 fun v1 => ?_
  refine g_iload_n (pc := 4) (x := a1) 1 rfl rfl dX2_see_4 ?_
  refine g_iaload (pc := 5) rfl dX2_see_5 fun v2 => ?_
  refine g_aload_n (pc := 6) (x := a0) 0 rfl rfl dX2_see_6 ?_
  refine g_getfr (pc := 7) k_18 (gblt rfl) lk_X2_9_18 dX2_see_7 fun v3 => ?_
  refine g_iload_n (pc := 10) (x := a2) 2 rfl rfl dX2_see_10 ?_
  refine g_iaload (pc := 11) rfl dX2_see_11 fun v4 => ?_
  refine g_isub (pc := 12) dX2_see_12 ?_
  refine g_leti fun v5 => ?_
  refine g_istore_n (pc := 13) (lv' := [(3, gi v5), (0, gr a0), (1, gi a1), (2, gi a2)]) [0, 1, 2, 3] rfl rfl (gblt rfl) dX2_see_13 ?_
  refine g_aload_n (pc := 14) (x := a0) 1 rfl rfl dX2_see_14 ?_
  refine g_getfr (pc := 15) k_18 (gblt rfl) lk_X2_9_18 dX2_see_15 fun v6 => ?_
  refine g_iload_n (pc := 18) (x := a1) 2 rfl rfl dX2_see_18 ?_
  refine g_iconst (pc := 19) (v := (1 : Int32)) ic_1 dX2_see_19 ?_
  refine g_iadd (pc := 20) dX2_see_20 ?_
  refine g_iaload (pc := 21) rfl dX2_see_21 fun v7 => ?_
  refine g_aload_n (pc := 22) (x := a0) 1 rfl rfl dX2_see_22 ?_
  refine g_getfr (pc := 23) k_18 (gblt rfl) lk_X2_9_18 dX2_see_23 fun v8 => ?_
  refine g_iload_n (pc := 26) (x := a2) 3 rfl rfl dX2_see_26 ?_
  refine g_iconst (pc := 27) (v := (1 : Int32)) ic_1 dX2_see_27 ?_
  refine g_iadd (pc := 28) dX2_see_28 ?_
  refine g_iaload (pc := 29) rfl dX2_see_29 fun v9 => ?_
  refine g_isub (pc := 30) dX2_see_30 ?_
  refine g_leti fun v10 => ?_
  refine g_istore (pc := 31) (lv' := [(4, gi v10), (3, gi v5), (0, gr a0), (1, gi a1), (2, gi a2)]) [0, 1, 2, 3, 4] rfl (gblt rfl) dX2_see_31 ?_
  refine g_aload_n (pc := 33) (x := a0) 2 rfl rfl dX2_see_33 ?_
  refine g_bVi (pc := 34) (y := yX2_sightNow) (ws := ws_ yX2_sightNow cX2_sightNow 3 (some .int)) (fr := 1) (lo := 22) (as := []) (st := []) (g_no) rfl (fun _ _ _ e => tX2_sightNow hs e) (fun K _ _ _ hq hM R e1 e2 => g_runV (M := mX2_see) (pc := 34) (y := yX2_sightNow) (bytes := cX2_sightNow) (maxL := 3) (ret := (some .int)) (fr := 1) (lo := 22) (as := []) (st := []) hq (C := "FlareSlopesModel") rfl gy_X2_sightNow (gbl rfl) (gbl rfl) (gbl rfl) q4186 q4188 qs83 dX2_see_34 K hM R e1 e2) fun v11 h12 => ?_
  refine g_istore (pc := 37) (lv' := [(5, gi v11), (4, gi v10), (3, gi v5), (0, gr a0), (1, gi a1), (2, gi a2)]) [0, 1, 2, 3, 4, 5] rfl (gblt rfl) dX2_see_37 ?_
  refine g_iload_n (pc := 39) (x := v5) 2 rfl rfl dX2_see_39 ?_
  refine g_iload_n (pc := 40) (x := v5) 2 rfl rfl dX2_see_40 ?_
  refine g_imul (pc := 41) dX2_see_41 ?_
  refine g_iload (pc := 42) (x := v10) 1 rfl dX2_see_42 ?_
  refine g_iload (pc := 44) (x := v10) 1 rfl dX2_see_44 ?_
  refine g_imul (pc := 46) dX2_see_46 ?_
  refine g_iadd (pc := 47) dX2_see_47 ?_
  refine g_iload (pc := 48) (x := v11) 0 rfl dX2_see_48 ?_
  refine g_iload (pc := 50) (x := v11) 0 rfl dX2_see_50 ?_
  refine g_imul (pc := 52) dX2_see_52 ?_
  refine g_join 69 (fun (x13 : Unit) => []) (fun (x13 : Unit) => []) (fun x13 h14 => ?_) (fun j15 Hj15 => ?_)
  · refine g_iconst (pc := 69) (v := (0 : Int32)) ic_0 dX2_see_69 ?_
    exact g_zreturn (pc := 70) rfl dX2_see_70
  refine g_icmp_gt (pc := 53) (tgt := 69) rfl dX2_see_53 ?_ ?_
  · exact g_sub [] rfl (Hj15 () h12)
  refine g_aload_n (pc := 56) (x := a0) 3 rfl rfl dX2_see_56 ?_
  refine g_iload_n (pc := 57) (x := a1) 4 rfl rfl dX2_see_57 ?_
  refine g_iload_n (pc := 58) (x := a2) 5 rfl rfl dX2_see_58 ?_
  refine g_bVi (pc := 59) (y := yX2_parting) (ws := ws_ yX2_parting cX2_parting 6 (some .int)) (fr := 1) (lo := 21) (as := [gi a1, gi a2]) (st := []) (g_no) rfl (fun _ _ _ e => tX2_parting hs e) (fun K _ _ _ hq hM R e1 e2 => g_runV (M := mX2_see) (pc := 59) (y := yX2_parting) (bytes := cX2_parting) (maxL := 6) (ret := (some .int)) (fr := 1) (lo := 21) (as := [gi a1, gi a2]) (st := []) hq (C := "FlareSlopesModel") rfl gy_X2_parting (gbl rfl) (gbl rfl) (gbl rfl) q4191 q4193 qs84 dX2_see_59 K hM R e1 e2) fun v16 h17 => ?_
  refine g_if_ne (pc := 62) (tgt := 69) rfl dX2_see_62 ?_ ?_
  rotate_left
  · exact g_sub [] rfl (Hj15 () h17)
  refine g_iconst (pc := 65) (v := (1 : Int32)) ic_1 dX2_see_65 ?_
  refine g_goto (pc := 66) (tgt := 70) rfl dX2_see_66 ?_
  exact g_zreturn (pc := 70) rfl dX2_see_70
/-! FlareSlopesModel.seeOneAnother(II)Z -/
noncomputable def sX2_seeOneAnother (G : GG) (N : Nat) (a0 : Option Nat) (a1 : Int32) (a2 : Int32) (h : Hp) : Out (Int32) :=
  gJ (fun (x1 : Unit) (h2 : Hp) =>
  gRtZ (1 : Int32) h2) fun j3 =>
  if a1 = a2 then (j3 () h)
  else bnd (sX2_cabinAt G N a1 h) fun v4 h5 =>
  bnd (sX2_cabinAt G N a2 h5) fun v6 h7 =>
  bV h7 a0 18 (fun q10 => sX2_see G N (some q10) v4 v6 h7) fun v8 h9 =>
  if v8 = 0 then (gRtZ (0 : Int32) h9)
  else j3 () h9
abbrev mX2_seeOneAnother : MI := (RX2, cX2_seeOneAnother, 3, (some .boolean), [], 3, 71, "seeOneAnother")
theorem tX2_seeOneAnother {G : GG} {l : Launch} (hs : l.stackTraces = false) {N : Nat} {a0 : Option Nat} {a1 : Int32} {a2 : Int32} {h : Hp} {r : Int32 ⊕ Nat} {hf : Hp} (ho : sX2_seeOneAnother G N a0 a1 a2 h = some (r, hf)) : gMet G l yX2_seeOneAnother (ws_ yX2_seeOneAnother cX2_seeOneAnother 3 (some .boolean)) 3 71 [gr a0, gi a1, gi a2] h cvI r hf := by
  refine gMet.of ho hs (plainFor_of_name pn_X2) rfl rfl (gbl rfl) fun X => ?_
  show gT G l X mX2_seeOneAnother cvI r hf 0 [(0, gr a0), (1, gi a1), (2, gi a2)] [] h (sX2_seeOneAnother G N a0 a1 a2 h)
  delta sX2_seeOneAnother
  refine g_iload_n (pc := 0) (x := a1) 1 rfl rfl dX2_seeOneAnother_0 ?_
  refine g_iload_n (pc := 1) (x := a2) 2 rfl rfl dX2_seeOneAnother_1 ?_
  refine g_join 20 (fun (x1 : Unit) => []) (fun (x1 : Unit) => []) (fun x1 h2 => ?_) (fun j3 Hj3 => ?_)
  · refine g_iconst (pc := 20) (v := (1 : Int32)) ic_1 dX2_seeOneAnother_20 ?_
    refine g_goto (pc := 21) (tgt := 25) rfl dX2_seeOneAnother_21 ?_
    exact g_zreturn (pc := 25) rfl dX2_seeOneAnother_25
  refine g_icmp_eq (pc := 2) (tgt := 20) rfl dX2_seeOneAnother_2 ?_ ?_
  · exact g_sub [] rfl (Hj3 () h)
  refine g_aload_n (pc := 5) (x := a0) 0 rfl rfl dX2_seeOneAnother_5 ?_
  refine g_iload_n (pc := 6) (x := a1) 1 rfl rfl dX2_seeOneAnother_6 ?_
  refine g_bi (pc := 7) (y := yX2_cabinAt) (ws := ws_ yX2_cabinAt cX2_cabinAt 1 (some .int)) (fr := 0) (lo := 0) (as := [gi a1]) (st := [gr a0]) (g_no) rfl (fun _ _ e => tX2_cabinAt hs e) (fun K _ _ hM R e1 e2 => g_runS (M := mX2_seeOneAnother) (pc := 7) (y := yX2_cabinAt) (bytes := cX2_cabinAt) (maxL := 1) (ret := (some .int)) (fr := 0) (lo := 0) (as := [gi a1]) (st := [gr a0]) gy_X2_cabinAt (gbl rfl) (gbl rfl) (gbl rfl) q4179 q4180 dX2_seeOneAnother_7 K hM R e1 e2) fun v4 h5 => ?_
  refine g_iload_n (pc := 10) (x := a2) 2 rfl rfl dX2_seeOneAnother_10 ?_
  refine g_bi (pc := 11) (y := yX2_cabinAt) (ws := ws_ yX2_cabinAt cX2_cabinAt 1 (some .int)) (fr := 0) (lo := 0) (as := [gi a2]) (st := [gi v4, gr a0]) (g_no) rfl (fun _ _ e => tX2_cabinAt hs e) (fun K _ _ hM R e1 e2 => g_runS (M := mX2_seeOneAnother) (pc := 11) (y := yX2_cabinAt) (bytes := cX2_cabinAt) (maxL := 1) (ret := (some .int)) (fr := 0) (lo := 0) (as := [gi a2]) (st := [gi v4, gr a0]) gy_X2_cabinAt (gbl rfl) (gbl rfl) (gbl rfl) q4179 q4180 dX2_seeOneAnother_11 K hM R e1 e2) fun v6 h7 => ?_
  refine g_bVi (pc := 14) (y := yX2_see) (ws := ws_ yX2_see cX2_see 6 (some .boolean)) (fr := 2) (lo := 46) (as := [gi v4, gi v6]) (st := []) (g_no) rfl (fun _ _ _ e => tX2_see hs e) (fun K _ _ _ hq hM R e1 e2 => g_runV (M := mX2_seeOneAnother) (pc := 14) (y := yX2_see) (bytes := cX2_see) (maxL := 6) (ret := (some .boolean)) (fr := 2) (lo := 46) (as := [gi v4, gi v6]) (st := []) hq (C := "FlareSlopesModel") rfl gy_X2_see (gbl rfl) (gbl rfl) (gbl rfl) q4182 q4184 qs82 dX2_seeOneAnother_14 K hM R e1 e2) fun v8 h9 => ?_
  refine g_if_eq (pc := 17) (tgt := 24) rfl dX2_seeOneAnother_17 ?_ ?_
  rotate_left
  · exact g_sub [] rfl (Hj3 () h9)
  refine g_iconst (pc := 24) (v := (0 : Int32)) ic_0 dX2_seeOneAnother_24 ?_
  exact g_zreturn (pc := 25) rfl dX2_seeOneAnother_25
/-! FlareSlopesModel.pairs()I -/
noncomputable def bX2_pairs_17 (G : GG) (N : Nat) (a0 : Option Nat) (x1 : Int32 × Int32) (j8 : (Int32) → Hp → Out (Int32)) (w11 : (Int32 × Int32) → Hp → Out (Int32)) (x9 : Int32 × Int32) (h10 : Hp) : Out (Int32) :=
  if x1.2 ≤ x9.2 then (j8 x9.1 h10)
  else bV h10 a0 18 (fun q18 => sX2_seeOneAnother G N (some q18) x1.2 x9.2 h10) fun v12 h13 =>
  gJ (fun (x14 : Int32) (h15 : Hp) =>
  gLet (x9.1 + x14) fun v17 =>
  w11 (v17, x9.2 + (1 : Int32)) h15) fun j16 =>
  if v12 = 0 then (j16 (0 : Int32) h13)
  else j16 (1 : Int32) h13
noncomputable def bX2_pairs_4 (G : GG) (N : Nat) (a0 : Option Nat) (w3 : (Int32 × Int32) → Hp → Out (Int32)) (x1 : Int32 × Int32) (h2 : Hp) : Out (Int32) :=
  gFr h2 a0 18 1 fun v4 =>
  gAi h2 v4 0 (6 : Int32) fun v5 =>
  if v5 ≤ x1.2 then (some (.inl x1.1, h2))
  else gJ (fun (x6 : Int32) (h7 : Hp) =>
  w3 (x6, x1.2 + (1 : Int32)) h7) fun j8 =>
  gLp (bX2_pairs_17 G N a0 x1 j8) N (x1.1, (0 : Int32)) h2
noncomputable def sX2_pairs (G : GG) (N : Nat) (a0 : Option Nat) (h : Hp) : Out (Int32) :=
  gLp (bX2_pairs_4 G N a0) N ((0 : Int32), (0 : Int32)) h
abbrev mX2_pairs : MI := (RX2, cX2_pairs, 4, (some .int), [], 4, 93, "pairs")
theorem tX2_pairs {G : GG} {l : Launch} (hs : l.stackTraces = false) {N : Nat} {a0 : Option Nat} {h : Hp} {r : Int32 ⊕ Nat} {hf : Hp} (ho : sX2_pairs G N a0 h = some (r, hf)) : gMet G l yX2_pairs (ws_ yX2_pairs cX2_pairs 4 (some .int)) 4 93 [gr a0] h cvI r hf := by
  refine gMet.of ho hs (plainFor_of_name pn_X2) rfl rfl (gbl rfl) fun X => ?_
  show gT G l X mX2_pairs cvI r hf 0 [(0, gr a0)] [] h (sX2_pairs G N a0 h)
  delta sX2_pairs
  refine g_iconst (pc := 0) (v := (0 : Int32)) ic_0 dX2_pairs_0 ?_
  refine g_istore_n (pc := 1) (lv' := [(1, gi (0 : Int32)), (0, gr a0)]) [0, 1] rfl rfl (gblt rfl) dX2_pairs_1 ?_
  refine g_iconst (pc := 2) (v := (0 : Int32)) ic_0 dX2_pairs_2 ?_
  refine g_istore_n (pc := 3) (lv' := [(2, gi (0 : Int32)), (1, gi (0 : Int32)), (0, gr a0)]) [0, 1, 2] rfl rfl (gblt rfl) dX2_pairs_3 ?_
  refine g_sub (lv' := [(0, gr a0), (1, gi (0 : Int32)), (2, gi (0 : Int32))]) [2, 1, 0] rfl ?_
  refine g_loop (pc := 4) (fun (x1 : Int32 × Int32) => [(0, gr a0), (1, gi x1.1), (2, gi x1.2)]) (fun (_ : Int32 × Int32) => []) (fun w3 Hw3 x1 h2 => ?_) N ((0 : Int32), (0 : Int32)) h
  delta bX2_pairs_4
  refine g_iload_n (pc := 4) (x := x1.2) 2 rfl rfl dX2_pairs_4 ?_
  refine g_aload_n (pc := 5) (x := a0) 0 rfl rfl dX2_pairs_5 ?_
  refine g_getfr (pc := 6) k_18 (gblt rfl) lk_X2_9_18 dX2_pairs_6 fun v4 => ?_
  refine g_bipush (pc := 9) (v := (6 : Int32)) bc_6 dX2_pairs_9 ?_
  refine g_iaload (pc := 11) rfl dX2_pairs_11 fun v5 => ?_
  refine g_icmp_ge (pc := 12) (tgt := 51) rfl dX2_pairs_12 ?_ ?_
  · refine g_iload_n (pc := 51) (x := x1.1) 1 rfl rfl dX2_pairs_51 ?_
    exact g_ireturn (pc := 52) rfl dX2_pairs_52
  refine g_iconst (pc := 15) (v := (0 : Int32)) ic_0 dX2_pairs_15 ?_
  refine g_istore_n (pc := 16) (lv' := [(3, gi (0 : Int32)), (0, gr a0), (1, gi x1.1), (2, gi x1.2)]) [0, 1, 2, 3] rfl rfl (gblt rfl) dX2_pairs_16 ?_
  refine g_join 45 (fun (x6 : Int32) => [(0, gr a0), (1, gi x6), (2, gi x1.2)]) (fun (x6 : Int32) => []) (fun x6 h7 => ?_) (fun j8 Hj8 => ?_)
  · refine g_iinc (pc := 45) (v := x1.2 + (1 : Int32)) 2 rfl (ii_1 _) (lv' := [(2, gi (x1.2 + (1 : Int32))), (0, gr a0), (1, gi x6)]) [0, 1, 2] rfl (gblt rfl) dX2_pairs_45 ?_
    refine g_goto (pc := 48) (tgt := 4) rfl dX2_pairs_48 ?_
    exact g_sub [1, 2, 0] rfl (Hw3 (x6, x1.2 + (1 : Int32)) h7)
  refine g_sub (lv' := [(0, gr a0), (1, gi x1.1), (2, gi x1.2), (3, gi (0 : Int32))]) [1, 2, 3, 0] rfl ?_
  refine g_loop (pc := 17) (fun (x9 : Int32 × Int32) => [(0, gr a0), (1, gi x9.1), (2, gi x1.2), (3, gi x9.2)]) (fun (_ : Int32 × Int32) => []) (fun w11 Hw11 x9 h10 => ?_) N (x1.1, (0 : Int32)) h2
  delta bX2_pairs_17
  refine g_iload_n (pc := 17) (x := x9.2) 3 rfl rfl dX2_pairs_17 ?_
  refine g_iload_n (pc := 18) (x := x1.2) 2 rfl rfl dX2_pairs_18 ?_
  refine g_icmp_ge (pc := 19) (tgt := 45) rfl dX2_pairs_19 ?_ ?_
  · exact g_sub [0, 1, 2] rfl (Hj8 x9.1 h10)
  refine g_iload_n (pc := 22) (x := x9.1) 1 rfl rfl dX2_pairs_22 ?_
  refine g_aload_n (pc := 23) (x := a0) 0 rfl rfl dX2_pairs_23 ?_
  refine g_iload_n (pc := 24) (x := x1.2) 2 rfl rfl dX2_pairs_24 ?_
  refine g_iload_n (pc := 25) (x := x9.2) 3 rfl rfl dX2_pairs_25 ?_
  refine g_bVi (pc := 26) (y := yX2_seeOneAnother) (ws := ws_ yX2_seeOneAnother cX2_seeOneAnother 3 (some .boolean)) (fr := 3) (lo := 71) (as := [gi x1.2, gi x9.2]) (st := [gi x9.1]) (g_no) rfl (fun _ _ _ e => tX2_seeOneAnother hs e) (fun K _ _ _ hq hM R e1 e2 => g_runV (M := mX2_pairs) (pc := 26) (y := yX2_seeOneAnother) (bytes := cX2_seeOneAnother) (maxL := 3) (ret := (some .boolean)) (fr := 3) (lo := 71) (as := [gi x1.2, gi x9.2]) (st := [gi x9.1]) hq (C := "FlareSlopesModel") rfl gy_X2_seeOneAnother (gbl rfl) (gbl rfl) (gbl rfl) q4175 q4177 qs81 dX2_pairs_26 K hM R e1 e2) fun v12 h13 => ?_
  refine g_join 37 (fun (x14 : Int32) => [(0, gr a0), (2, gi x1.2), (3, gi x9.2)]) (fun (x14 : Int32) => [gi x14, gi x9.1]) (fun x14 h15 => ?_) (fun j16 Hj16 => ?_)
  · refine g_iadd (pc := 37) dX2_pairs_37 ?_
    refine g_leti fun v17 => ?_
    refine g_istore_n (pc := 38) (lv' := [(1, gi v17), (0, gr a0), (2, gi x1.2), (3, gi x9.2)]) [0, 1, 2, 3] rfl rfl (gblt rfl) dX2_pairs_38 ?_
    refine g_iinc (pc := 39) (v := x9.2 + (1 : Int32)) 3 rfl (ii_1 _) (lv' := [(3, gi (x9.2 + (1 : Int32))), (1, gi v17), (0, gr a0), (2, gi x1.2)]) [0, 1, 2, 3] rfl (gblt rfl) dX2_pairs_39 ?_
    refine g_goto (pc := 42) (tgt := 17) rfl dX2_pairs_42 ?_
    exact g_sub [2, 1, 3, 0] rfl (Hw11 (v17, x9.2 + (1 : Int32)) h15)
  refine g_if_eq (pc := 29) (tgt := 36) rfl dX2_pairs_29 ?_ ?_
  · refine g_iconst (pc := 36) (v := (0 : Int32)) ic_0 dX2_pairs_36 ?_
    exact g_sub [0, 2, 3] rfl (Hj16 (0 : Int32) h13)
  refine g_iconst (pc := 32) (v := (1 : Int32)) ic_1 dX2_pairs_32 ?_
  refine g_goto (pc := 33) (tgt := 37) rfl dX2_pairs_33 ?_
  exact g_sub [0, 2, 3] rfl (Hj16 (1 : Int32) h13)
/-! FlareSlopesModel.withoutFlares()I -/
noncomputable def bX2_withoutFlares_4 (G : GG) (N : Nat) (a0 : Option Nat) (w3 : (Int32 × Int32) → Hp → Out (Int32)) (x1 : Int32 × Int32) (h2 : Hp) : Out (Int32) :=
  gFr h2 a0 18 1 fun v4 =>
  gAi h2 v4 0 (6 : Int32) fun v5 =>
  if v5 ≤ x1.2 then (some (.inl x1.1, h2))
  else gFr h2 a0 18 1 fun v6 =>
  gAi h2 v6 0 ((148 : Int32) + x1.2) fun v7 =>
  gJ (fun (x8 : Int32) (h9 : Hp) =>
  gLet (x1.1 + x8) fun v11 =>
  w3 (v11, x1.2 + (1 : Int32)) h9) fun j10 =>
  if v7 = 0 then (j10 (1 : Int32) h2)
  else j10 (0 : Int32) h2
noncomputable def sX2_withoutFlares (G : GG) (N : Nat) (a0 : Option Nat) (h : Hp) : Out (Int32) :=
  gLp (bX2_withoutFlares_4 G N a0) N ((0 : Int32), (0 : Int32)) h
abbrev mX2_withoutFlares : MI := (RX2, cX2_withoutFlares, 3, (some .int), [], 0, 0, "withoutFlares")
theorem tX2_withoutFlares {G : GG} {l : Launch} (hs : l.stackTraces = false) {N : Nat} {a0 : Option Nat} {h : Hp} {r : Int32 ⊕ Nat} {hf : Hp} (ho : sX2_withoutFlares G N a0 h = some (r, hf)) : gMet G l yX2_withoutFlares (ws_ yX2_withoutFlares cX2_withoutFlares 3 (some .int)) 0 0 [gr a0] h cvI r hf := by
  refine gMet.of ho hs (plainFor_of_name pn_X2) rfl rfl (gbl rfl) fun X => ?_
  show gT G l X mX2_withoutFlares cvI r hf 0 [(0, gr a0)] [] h (sX2_withoutFlares G N a0 h)
  delta sX2_withoutFlares
  refine g_iconst (pc := 0) (v := (0 : Int32)) ic_0 dX2_withoutFlares_0 ?_
  refine g_istore_n (pc := 1) (lv' := [(1, gi (0 : Int32)), (0, gr a0)]) [0, 1] rfl rfl (gblt rfl) dX2_withoutFlares_1 ?_
  refine g_iconst (pc := 2) (v := (0 : Int32)) ic_0 dX2_withoutFlares_2 ?_
  refine g_istore_n (pc := 3) (lv' := [(2, gi (0 : Int32)), (1, gi (0 : Int32)), (0, gr a0)]) [0, 1, 2] rfl rfl (gblt rfl) dX2_withoutFlares_3 ?_
  refine g_sub (lv' := [(0, gr a0), (1, gi (0 : Int32)), (2, gi (0 : Int32))]) [2, 1, 0] rfl ?_
  refine g_loop (pc := 4) (fun (x1 : Int32 × Int32) => [(0, gr a0), (1, gi x1.1), (2, gi x1.2)]) (fun (_ : Int32 × Int32) => []) (fun w3 Hw3 x1 h2 => ?_) N ((0 : Int32), (0 : Int32)) h
  delta bX2_withoutFlares_4
  refine g_iload_n (pc := 4) (x := x1.2) 2 rfl rfl dX2_withoutFlares_4 ?_
  refine g_aload_n (pc := 5) (x := a0) 0 rfl rfl dX2_withoutFlares_5 ?_
  refine g_getfr (pc := 6) k_18 (gblt rfl) lk_X2_9_18 dX2_withoutFlares_6 fun v4 => ?_
  refine g_bipush (pc := 9) (v := (6 : Int32)) bc_6 dX2_withoutFlares_9 ?_
  refine g_iaload (pc := 11) rfl dX2_withoutFlares_11 fun v5 => ?_
  refine g_icmp_ge (pc := 12) (tgt := 42) rfl dX2_withoutFlares_12 ?_ ?_
  · refine g_iload_n (pc := 42) (x := x1.1) 1 rfl rfl dX2_withoutFlares_42 ?_
    exact g_ireturn (pc := 43) rfl dX2_withoutFlares_43
  refine g_iload_n (pc := 15) (x := x1.1) 1 rfl rfl dX2_withoutFlares_15 ?_
  refine g_aload_n (pc := 16) (x := a0) 0 rfl rfl dX2_withoutFlares_16 ?_
  refine g_getfr (pc := 17) k_18 (gblt rfl) lk_X2_9_18 dX2_withoutFlares_17 fun v6 => ?_
  refine g_sipush (pc := 20) (v := (148 : Int32)) sc_148 dX2_withoutFlares_20 ?_
  refine g_iload_n (pc := 23) (x := x1.2) 2 rfl rfl dX2_withoutFlares_23 ?_
  refine g_iadd (pc := 24) dX2_withoutFlares_24 ?_
  refine g_iaload (pc := 25) rfl dX2_withoutFlares_25 fun v7 => ?_
  refine g_join 34 (fun (x8 : Int32) => [(0, gr a0), (2, gi x1.2)]) (fun (x8 : Int32) => [gi x8, gi x1.1]) (fun x8 h9 => ?_) (fun j10 Hj10 => ?_)
  · refine g_iadd (pc := 34) dX2_withoutFlares_34 ?_
    refine g_leti fun v11 => ?_
    refine g_istore_n (pc := 35) (lv' := [(1, gi v11), (0, gr a0), (2, gi x1.2)]) [0, 1, 2] rfl rfl (gblt rfl) dX2_withoutFlares_35 ?_
    refine g_iinc (pc := 36) (v := x1.2 + (1 : Int32)) 2 rfl (ii_1 _) (lv' := [(2, gi (x1.2 + (1 : Int32))), (1, gi v11), (0, gr a0)]) [0, 1, 2] rfl (gblt rfl) dX2_withoutFlares_36 ?_
    refine g_goto (pc := 39) (tgt := 4) rfl dX2_withoutFlares_39 ?_
    exact g_sub [2, 1, 0] rfl (Hw3 (v11, x1.2 + (1 : Int32)) h9)
  refine g_if_ne (pc := 26) (tgt := 33) rfl dX2_withoutFlares_26 ?_ ?_
  rotate_left
  · refine g_iconst (pc := 33) (v := (0 : Int32)) ic_0 dX2_withoutFlares_33 ?_
    exact g_sub [0, 2] rfl (Hj10 (0 : Int32) h2)
  refine g_iconst (pc := 29) (v := (1 : Int32)) ic_1 dX2_withoutFlares_29 ?_
  refine g_goto (pc := 30) (tgt := 34) rfl dX2_withoutFlares_30 ?_
  exact g_sub [0, 2] rfl (Hj10 (1 : Int32) h2)
/-! FlareSlopesModel.isRed(I)Z -/
noncomputable def sX2_isRed (G : GG) (N : Nat) (a0 : Int32) (h : Hp) : Out (Int32) :=
  gRm a0 (2 : Int32) fun v1 =>
  if v1 = 0 then (gRtZ (1 : Int32) h)
  else gRtZ (0 : Int32) h
abbrev mX2_isRed : MI := (RX2, cX2_isRed, 1, (some .boolean), [], 0, 0, "isRed")
theorem tX2_isRed {G : GG} {l : Launch} (hs : l.stackTraces = false) {N : Nat} {a0 : Int32} {h : Hp} {r : Int32 ⊕ Nat} {hf : Hp} (ho : sX2_isRed G N a0 h = some (r, hf)) : gMet G l yX2_isRed (ws_ yX2_isRed cX2_isRed 1 (some .boolean)) 0 0 [gi a0] h cvI r hf := by
  refine gMet.of ho hs (plainFor_of_name pn_X2) rfl rfl (gbl rfl) fun X => ?_
  show gT G l X mX2_isRed cvI r hf 0 [(0, gi a0)] [] h (sX2_isRed G N a0 h)
  delta sX2_isRed
  refine g_iload_n (pc := 0) (x := a0) 0 rfl rfl dX2_isRed_0 ?_
  refine g_iconst (pc := 1) (v := (2 : Int32)) ic_2 dX2_isRed_1 ?_
  refine g_irem (pc := 2) dX2_isRed_2 fun v1 => ?_
  refine g_if_ne (pc := 3) (tgt := 10) rfl dX2_isRed_3 ?_ ?_
  rotate_left
  · refine g_iconst (pc := 10) (v := (0 : Int32)) ic_0 dX2_isRed_10 ?_
    exact g_zreturn (pc := 11) rfl dX2_isRed_11
  refine g_iconst (pc := 6) (v := (1 : Int32)) ic_1 dX2_isRed_6 ?_
  refine g_goto (pc := 7) (tgt := 11) rfl dX2_isRed_7 ?_
  exact g_zreturn (pc := 11) rfl dX2_isRed_11
/-! FlareSlopesModel.redVotes()I -/
noncomputable def bX2_redVotes_6 (G : GG) (N : Nat) (a0 : Option Nat) (w3 : (Int32 × Int32) → Hp → Out (Int32)) (x1 : Int32 × Int32) (h2 : Hp) : Out (Int32) :=
  if (1058 : Int32) ≤ x1.2 then (some (.inl x1.1, h2))
  else gFr h2 a0 18 1 fun v4 =>
  gAi h2 v4 0 x1.2 fun v5 =>
  gJ (fun (x6 : Int32) (h7 : Hp) =>
  gLet (x1.1 + x6) fun v9 =>
  w3 (v9, x1.2 + (1 : Int32)) h7) fun j8 =>
  gJ (fun (x10 : Unit) (h11 : Hp) =>
  j8 (0 : Int32) h11) fun j12 =>
  if v5 ≤ 0 then (j12 () h2)
  else gFr h2 a0 18 1 fun v13 =>
  gAi h2 v13 0 x1.2 fun v14 =>
  bnd (sX2_isRed G N v14 h2) fun v15 h16 =>
  if v15 = 0 then (j12 () h16)
  else j8 (1 : Int32) h16
noncomputable def sX2_redVotes (G : GG) (N : Nat) (a0 : Option Nat) (h : Hp) : Out (Int32) :=
  gLp (bX2_redVotes_6 G N a0) N ((0 : Int32), (258 : Int32)) h
abbrev mX2_redVotes : MI := (RX2, cX2_redVotes, 3, (some .int), [], 1, 20, "redVotes")
theorem tX2_redVotes {G : GG} {l : Launch} (hs : l.stackTraces = false) {N : Nat} {a0 : Option Nat} {h : Hp} {r : Int32 ⊕ Nat} {hf : Hp} (ho : sX2_redVotes G N a0 h = some (r, hf)) : gMet G l yX2_redVotes (ws_ yX2_redVotes cX2_redVotes 3 (some .int)) 1 20 [gr a0] h cvI r hf := by
  refine gMet.of ho hs (plainFor_of_name pn_X2) rfl rfl (gbl rfl) fun X => ?_
  show gT G l X mX2_redVotes cvI r hf 0 [(0, gr a0)] [] h (sX2_redVotes G N a0 h)
  delta sX2_redVotes
  refine g_iconst (pc := 0) (v := (0 : Int32)) ic_0 dX2_redVotes_0 ?_
  refine g_istore_n (pc := 1) (lv' := [(1, gi (0 : Int32)), (0, gr a0)]) [0, 1] rfl rfl (gblt rfl) dX2_redVotes_1 ?_
  refine g_sipush (pc := 2) (v := (258 : Int32)) sc_258 dX2_redVotes_2 ?_
  refine g_istore_n (pc := 5) (lv' := [(2, gi (258 : Int32)), (1, gi (0 : Int32)), (0, gr a0)]) [0, 1, 2] rfl rfl (gblt rfl) dX2_redVotes_5 ?_
  refine g_sub (lv' := [(0, gr a0), (1, gi (0 : Int32)), (2, gi (258 : Int32))]) [2, 1, 0] rfl ?_
  refine g_loop (pc := 6) (fun (x1 : Int32 × Int32) => [(0, gr a0), (1, gi x1.1), (2, gi x1.2)]) (fun (_ : Int32 × Int32) => []) (fun w3 Hw3 x1 h2 => ?_) N ((0 : Int32), (258 : Int32)) h
  delta bX2_redVotes_6
  refine g_iload_n (pc := 6) (x := x1.2) 2 rfl rfl dX2_redVotes_6 ?_
  refine g_sipush (pc := 7) (v := (1058 : Int32)) sc_1058 dX2_redVotes_7 ?_
  refine g_icmp_ge (pc := 10) (tgt := 48) rfl dX2_redVotes_10 ?_ ?_
  · refine g_iload_n (pc := 48) (x := x1.1) 1 rfl rfl dX2_redVotes_48 ?_
    exact g_ireturn (pc := 49) rfl dX2_redVotes_49
  refine g_iload_n (pc := 13) (x := x1.1) 1 rfl rfl dX2_redVotes_13 ?_
  refine g_aload_n (pc := 14) (x := a0) 0 rfl rfl dX2_redVotes_14 ?_
  refine g_getfr (pc := 15) k_18 (gblt rfl) lk_X2_9_18 dX2_redVotes_15 fun v4 => ?_
  refine g_iload_n (pc := 18) (x := x1.2) 2 rfl rfl dX2_redVotes_18 ?_
  refine g_iaload (pc := 19) rfl dX2_redVotes_19 fun v5 => ?_
  refine g_join 40 (fun (x6 : Int32) => [(0, gr a0), (2, gi x1.2)]) (fun (x6 : Int32) => [gi x6, gi x1.1]) (fun x6 h7 => ?_) (fun j8 Hj8 => ?_)
  · refine g_iadd (pc := 40) dX2_redVotes_40 ?_
    refine g_leti fun v9 => ?_
    refine g_istore_n (pc := 41) (lv' := [(1, gi v9), (0, gr a0), (2, gi x1.2)]) [0, 1, 2] rfl rfl (gblt rfl) dX2_redVotes_41 ?_
    refine g_iinc (pc := 42) (v := x1.2 + (1 : Int32)) 2 rfl (ii_1 _) (lv' := [(2, gi (x1.2 + (1 : Int32))), (1, gi v9), (0, gr a0)]) [0, 1, 2] rfl (gblt rfl) dX2_redVotes_42 ?_
    refine g_goto (pc := 45) (tgt := 6) rfl dX2_redVotes_45 ?_
    exact g_sub [2, 1, 0] rfl (Hw3 (v9, x1.2 + (1 : Int32)) h7)
  refine g_join 39 (fun (x10 : Unit) => [(0, gr a0), (2, gi x1.2)]) (fun (x10 : Unit) => [gi x1.1]) (fun x10 h11 => ?_) (fun j12 Hj12 => ?_)
  · refine g_iconst (pc := 39) (v := (0 : Int32)) ic_0 dX2_redVotes_39 ?_
    exact Hj8 (0 : Int32) h11
  refine g_if_le (pc := 20) (tgt := 39) rfl dX2_redVotes_20 ?_ ?_
  · exact g_sub [0, 2] rfl (Hj12 () h2)
  refine g_aload_n (pc := 23) (x := a0) 0 rfl rfl dX2_redVotes_23 ?_
  refine g_getfr (pc := 24) k_18 (gblt rfl) lk_X2_9_18 dX2_redVotes_24 fun v13 => ?_
  refine g_iload_n (pc := 27) (x := x1.2) 2 rfl rfl dX2_redVotes_27 ?_
  refine g_iaload (pc := 28) rfl dX2_redVotes_28 fun v14 => ?_
  refine g_bi (pc := 29) (y := yX2_isRed) (ws := ws_ yX2_isRed cX2_isRed 1 (some .boolean)) (fr := 0) (lo := 0) (as := [gi v14]) (st := [gi x1.1]) (g_no) rfl (fun _ _ e => tX2_isRed hs e) (fun K _ _ hM R e1 e2 => g_runS (M := mX2_redVotes) (pc := 29) (y := yX2_isRed) (bytes := cX2_isRed) (maxL := 1) (ret := (some .boolean)) (fr := 0) (lo := 0) (as := [gi v14]) (st := [gi x1.1]) gy_X2_isRed (gbl rfl) (gbl rfl) (gbl rfl) q4203 q4204 dX2_redVotes_29 K hM R e1 e2) fun v15 h16 => ?_
  refine g_if_eq (pc := 32) (tgt := 39) rfl dX2_redVotes_32 ?_ ?_
  · exact g_sub [0, 2] rfl (Hj12 () h16)
  refine g_iconst (pc := 35) (v := (1 : Int32)) ic_1 dX2_redVotes_35 ?_
  refine g_goto (pc := 36) (tgt := 40) rfl dX2_redVotes_36 ?_
  exact g_sub [0, 2] rfl (Hj8 (1 : Int32) h16)
/-! FlareSlopesModel.count(I)I -/
noncomputable def sX2_count (G : GG) (N : Nat) (a0 : Option Nat) (a1 : Int32) (h : Hp) : Out (Int32) :=
  gFi h a0 18 8 fun v1 =>
  bnd (sX2_in G N a1 (0 : Int32) (15 : Int32) h) fun v2 h3 =>
  bV h3 a0 18 (fun q36 => sX2_mayTwo G N (some q36) v1 v2 h3) fun v4 h5 =>
  if v4 = 0 then (some (.inl (0 : Int32), h5))
  else gSel a1 [((0 : Int32), gFr h5 a0 18 1 fun v8 =>
  gAi h5 v8 0 (6 : Int32) fun v9 =>
  some (.inl v9, h5)),
  ((1 : Int32), gFr h5 a0 18 1 fun v10 =>
  gAi h5 v10 0 (7 : Int32) fun v11 =>
  some (.inl v11, h5)),
  ((2 : Int32), gFr h5 a0 18 1 fun v12 =>
  gAi h5 v12 0 (8 : Int32) fun v13 =>
  some (.inl v13, h5)),
  ((3 : Int32), gFr h5 a0 18 1 fun v14 =>
  gAi h5 v14 0 (9 : Int32) fun v15 =>
  some (.inl v15, h5)),
  ((4 : Int32), gFr h5 a0 18 1 fun v16 =>
  gAi h5 v16 0 (90 : Int32) fun v17 =>
  some (.inl v17, h5)),
  ((5 : Int32), gFr h5 a0 18 1 fun v18 =>
  gAi h5 v18 0 (91 : Int32) fun v19 =>
  some (.inl v19, h5)),
  ((6 : Int32), bV h5 a0 18 (fun q22 => sX2_allVotes G N (some q22) h5) fun v20 h21 =>
  some (.inl v20, h21)),
  ((12 : Int32), gFr h5 a0 18 1 fun v23 =>
  gAi h5 v23 0 (97 : Int32) fun v24 =>
  bnd (sX2_bitsOfSlopes G N v24 h5) fun v25 h26 =>
  some (.inl v25, h26)),
  ((13 : Int32), bV h5 a0 18 (fun q29 => sX2_pairs G N (some q29) h5) fun v27 h28 =>
  some (.inl v27, h28)),
  ((14 : Int32), bV h5 a0 18 (fun q32 => sX2_withoutFlares G N (some q32) h5) fun v30 h31 =>
  some (.inl v30, h31)),
  ((15 : Int32), bV h5 a0 18 (fun q35 => sX2_redVotes G N (some q35) h5) fun v33 h34 =>
  some (.inl v33, h34))] (gFr h5 a0 18 1 fun v6 =>
  gAi h5 v6 0 (((92 : Int32) + a1) - (7 : Int32)) fun v7 =>
  some (.inl v7, h5))
abbrev mX2_count : MI := (RX2, cX2_count, 2, (some .int), [], 5, 116, "count")
theorem tX2_count {G : GG} {l : Launch} (hs : l.stackTraces = false) {N : Nat} {a0 : Option Nat} {a1 : Int32} {h : Hp} {r : Int32 ⊕ Nat} {hf : Hp} (ho : sX2_count G N a0 a1 h = some (r, hf)) : gMet G l yX2_count (ws_ yX2_count cX2_count 2 (some .int)) 5 116 [gr a0, gi a1] h cvI r hf := by
  refine gMet.of ho hs (plainFor_of_name pn_X2) rfl rfl (gbl rfl) fun X => ?_
  show gT G l X mX2_count cvI r hf 0 [(0, gr a0), (1, gi a1)] [] h (sX2_count G N a0 a1 h)
  delta sX2_count
  refine g_aload_n (pc := 0) (x := a0) 0 rfl rfl dX2_count_0 ?_
  refine g_aload_n (pc := 1) (x := a0) 0 rfl rfl dX2_count_1 ?_
  refine g_getfi (pc := 2) k_18 (gblt rfl) lk_X2_184_18 dX2_count_2 fun v1 => ?_
  refine g_iload_n (pc := 5) (x := a1) 1 rfl rfl dX2_count_5 ?_
  refine g_iconst (pc := 6) (v := (0 : Int32)) ic_0 dX2_count_6 ?_
  refine g_bipush (pc := 7) (v := (15 : Int32)) bc_15 dX2_count_7 ?_
  refine g_bi (pc := 9) (y := yX2_in) (ws := ws_ yX2_in cX2_in 3 (some .boolean)) (fr := 0) (lo := 0) (as := [gi a1, gi (0 : Int32), gi (15 : Int32)]) (st := [gi v1, gr a0]) (g_no) rfl (fun _ _ e => tX2_in hs e) (fun K _ _ hM R e1 e2 => g_runS (M := mX2_count) (pc := 9) (y := yX2_in) (bytes := cX2_in) (maxL := 3) (ret := (some .boolean)) (fr := 0) (lo := 0) (as := [gi a1, gi (0 : Int32), gi (15 : Int32)]) (st := [gi v1, gr a0]) gy_X2_in (gbl rfl) (gbl rfl) (gbl rfl) q4037 q4038 dX2_count_9 K hM R e1 e2) fun v2 h3 => ?_
  refine g_bVi (pc := 12) (y := yX2_mayTwo) (ws := ws_ yX2_mayTwo cX2_mayTwo 3 (some .boolean)) (fr := 1) (lo := 23) (as := [gi v1, gi v2]) (st := []) (g_no) rfl (fun _ _ _ e => tX2_mayTwo hs e) (fun K _ _ _ hq hM R e1 e2 => g_runV (M := mX2_count) (pc := 12) (y := yX2_mayTwo) (bytes := cX2_mayTwo) (maxL := 3) (ret := (some .boolean)) (fr := 1) (lo := 23) (as := [gi v1, gi v2]) (st := []) hq (C := "FlareSlopesModel") rfl gy_X2_mayTwo (gbl rfl) (gbl rfl) (gbl rfl) q4145 q4147 qs76 dX2_count_12 K hM R e1 e2) fun v4 h5 => ?_
  refine g_if_ne (pc := 15) (tgt := 20) rfl dX2_count_15 ?_ ?_
  · refine g_iconst (pc := 18) (v := (0 : Int32)) ic_0 dX2_count_18 ?_
    exact g_ireturn (pc := 19) rfl dX2_count_19
  refine g_iload_n (pc := 20) (x := a1) 1 rfl rfl dX2_count_20 ?_
  refine g_tableswitch (pc := 21) (td := 179) [((0 : Int32), 100), ((1 : Int32), 108), ((2 : Int32), 116), ((3 : Int32), 124), ((4 : Int32), 132), ((5 : Int32), 140), ((6 : Int32), 148), ((12 : Int32), 153), ((13 : Int32), 164), ((14 : Int32), 169), ((15 : Int32), 174)] (by decide +kernel) dX2_count_21 ?_ (g_all_cons ?_ (g_all_cons ?_ (g_all_cons ?_ (g_all_cons ?_ (g_all_cons ?_ (g_all_cons ?_ (g_all_cons ?_ (g_all_cons ?_ (g_all_cons ?_ (g_all_cons ?_ (g_all_cons ?_ g_all_nil)))))))))))
  · refine g_aload_n (pc := 179) (x := a0) 0 rfl rfl dX2_count_179 ?_
    refine g_getfr (pc := 180) k_18 (gblt rfl) lk_X2_9_18 dX2_count_180 fun v6 => ?_
    refine g_bipush (pc := 183) (v := (92 : Int32)) bc_92 dX2_count_183 ?_
    refine g_iload_n (pc := 185) (x := a1) 1 rfl rfl dX2_count_185 ?_
    refine g_iadd (pc := 186) dX2_count_186 ?_
    refine g_bipush (pc := 187) (v := (7 : Int32)) bc_7 dX2_count_187 ?_
    refine g_isub (pc := 189) dX2_count_189 ?_
    refine g_iaload (pc := 190) rfl dX2_count_190 fun v7 => ?_
    exact g_ireturn (pc := 191) rfl dX2_count_191
  · refine g_aload_n (pc := 100) (x := a0) 0 rfl rfl dX2_count_100 ?_
    refine g_getfr (pc := 101) k_18 (gblt rfl) lk_X2_9_18 dX2_count_101 fun v8 => ?_
    refine g_bipush (pc := 104) (v := (6 : Int32)) bc_6 dX2_count_104 ?_
    refine g_iaload (pc := 106) rfl dX2_count_106 fun v9 => ?_
    exact g_ireturn (pc := 107) rfl dX2_count_107
  · refine g_aload_n (pc := 108) (x := a0) 0 rfl rfl dX2_count_108 ?_
    refine g_getfr (pc := 109) k_18 (gblt rfl) lk_X2_9_18 dX2_count_109 fun v10 => ?_
    refine g_bipush (pc := 112) (v := (7 : Int32)) bc_7 dX2_count_112 ?_
    refine g_iaload (pc := 114) rfl dX2_count_114 fun v11 => ?_
    exact g_ireturn (pc := 115) rfl dX2_count_115
  · refine g_aload_n (pc := 116) (x := a0) 0 rfl rfl dX2_count_116 ?_
    refine g_getfr (pc := 117) k_18 (gblt rfl) lk_X2_9_18 dX2_count_117 fun v12 => ?_
    refine g_bipush (pc := 120) (v := (8 : Int32)) bc_8 dX2_count_120 ?_
    refine g_iaload (pc := 122) rfl dX2_count_122 fun v13 => ?_
    exact g_ireturn (pc := 123) rfl dX2_count_123
  · refine g_aload_n (pc := 124) (x := a0) 0 rfl rfl dX2_count_124 ?_
    refine g_getfr (pc := 125) k_18 (gblt rfl) lk_X2_9_18 dX2_count_125 fun v14 => ?_
    refine g_bipush (pc := 128) (v := (9 : Int32)) bc_9 dX2_count_128 ?_
    refine g_iaload (pc := 130) rfl dX2_count_130 fun v15 => ?_
    exact g_ireturn (pc := 131) rfl dX2_count_131
  · refine g_aload_n (pc := 132) (x := a0) 0 rfl rfl dX2_count_132 ?_
    refine g_getfr (pc := 133) k_18 (gblt rfl) lk_X2_9_18 dX2_count_133 fun v16 => ?_
    refine g_bipush (pc := 136) (v := (90 : Int32)) bc_90 dX2_count_136 ?_
    refine g_iaload (pc := 138) rfl dX2_count_138 fun v17 => ?_
    exact g_ireturn (pc := 139) rfl dX2_count_139
  · refine g_aload_n (pc := 140) (x := a0) 0 rfl rfl dX2_count_140 ?_
    refine g_getfr (pc := 141) k_18 (gblt rfl) lk_X2_9_18 dX2_count_141 fun v18 => ?_
    refine g_bipush (pc := 144) (v := (91 : Int32)) bc_91 dX2_count_144 ?_
    refine g_iaload (pc := 146) rfl dX2_count_146 fun v19 => ?_
    exact g_ireturn (pc := 147) rfl dX2_count_147
  · refine g_aload_n (pc := 148) (x := a0) 0 rfl rfl dX2_count_148 ?_
    refine g_bVi (pc := 149) (y := yX2_allVotes) (ws := ws_ yX2_allVotes cX2_allVotes 3 (some .int)) (fr := 2) (lo := 45) (as := []) (st := []) (g_no) rfl (fun _ _ _ e => tX2_allVotes hs e) (fun K _ _ _ hq hM R e1 e2 => g_runV (M := mX2_count) (pc := 149) (y := yX2_allVotes) (bytes := cX2_allVotes) (maxL := 3) (ret := (some .int)) (fr := 2) (lo := 45) (as := []) (st := []) hq (C := "FlareSlopesModel") rfl gy_X2_allVotes (gbl rfl) (gbl rfl) (gbl rfl) q4157 q4159 qs78 dX2_count_149 K hM R e1 e2) fun v20 h21 => ?_
    exact g_ireturn (pc := 152) rfl dX2_count_152
  · refine g_aload_n (pc := 153) (x := a0) 0 rfl rfl dX2_count_153 ?_
    refine g_getfr (pc := 154) k_18 (gblt rfl) lk_X2_9_18 dX2_count_154 fun v23 => ?_
    refine g_bipush (pc := 157) (v := (97 : Int32)) bc_97 dX2_count_157 ?_
    refine g_iaload (pc := 159) rfl dX2_count_159 fun v24 => ?_
    refine g_bi (pc := 160) (y := yX2_bitsOfSlopes) (ws := ws_ yX2_bitsOfSlopes cX2_bitsOfSlopes 3 (some .int)) (fr := 0) (lo := 0) (as := [gi v24]) (st := []) (g_no) rfl (fun _ _ e => tX2_bitsOfSlopes hs e) (fun K _ _ hM R e1 e2 => g_runS (M := mX2_count) (pc := 160) (y := yX2_bitsOfSlopes) (bytes := cX2_bitsOfSlopes) (maxL := 3) (ret := (some .int)) (fr := 0) (lo := 0) (as := [gi v24]) (st := []) gy_X2_bitsOfSlopes (gbl rfl) (gbl rfl) (gbl rfl) q4168 q4169 dX2_count_160 K hM R e1 e2) fun v25 h26 => ?_
    exact g_ireturn (pc := 163) rfl dX2_count_163
  · refine g_aload_n (pc := 164) (x := a0) 0 rfl rfl dX2_count_164 ?_
    refine g_bVi (pc := 165) (y := yX2_pairs) (ws := ws_ yX2_pairs cX2_pairs 4 (some .int)) (fr := 4) (lo := 93) (as := []) (st := []) (g_no) rfl (fun _ _ _ e => tX2_pairs hs e) (fun K _ _ _ hq hM R e1 e2 => g_runV (M := mX2_count) (pc := 165) (y := yX2_pairs) (bytes := cX2_pairs) (maxL := 4) (ret := (some .int)) (fr := 4) (lo := 93) (as := []) (st := []) hq (C := "FlareSlopesModel") rfl gy_X2_pairs (gbl rfl) (gbl rfl) (gbl rfl) q4171 q4173 qs80 dX2_count_165 K hM R e1 e2) fun v27 h28 => ?_
    exact g_ireturn (pc := 168) rfl dX2_count_168
  · refine g_aload_n (pc := 169) (x := a0) 0 rfl rfl dX2_count_169 ?_
    refine g_bVi (pc := 170) (y := yX2_withoutFlares) (ws := ws_ yX2_withoutFlares cX2_withoutFlares 3 (some .int)) (fr := 0) (lo := 0) (as := []) (st := []) (g_no) rfl (fun _ _ _ e => tX2_withoutFlares hs e) (fun K _ _ _ hq hM R e1 e2 => g_runV (M := mX2_count) (pc := 170) (y := yX2_withoutFlares) (bytes := cX2_withoutFlares) (maxL := 3) (ret := (some .int)) (fr := 0) (lo := 0) (as := []) (st := []) hq (C := "FlareSlopesModel") rfl gy_X2_withoutFlares (gbl rfl) (gbl rfl) (gbl rfl) q4195 q4197 qs85 dX2_count_170 K hM R e1 e2) fun v30 h31 => ?_
    exact g_ireturn (pc := 173) rfl dX2_count_173
  · refine g_aload_n (pc := 174) (x := a0) 0 rfl rfl dX2_count_174 ?_
    refine g_bVi (pc := 175) (y := yX2_redVotes) (ws := ws_ yX2_redVotes cX2_redVotes 3 (some .int)) (fr := 1) (lo := 20) (as := []) (st := []) (g_no) rfl (fun _ _ _ e => tX2_redVotes hs e) (fun K _ _ _ hq hM R e1 e2 => g_runV (M := mX2_count) (pc := 175) (y := yX2_redVotes) (bytes := cX2_redVotes) (maxL := 3) (ret := (some .int)) (fr := 1) (lo := 20) (as := []) (st := []) hq (C := "FlareSlopesModel") rfl gy_X2_redVotes (gbl rfl) (gbl rfl) (gbl rfl) q4199 q4201 qs86 dX2_count_175 K hM R e1 e2) fun v33 h34 => ?_
    exact g_ireturn (pc := 178) rfl dX2_count_178
/-! FlareSlopes.checkArgument(Z)V -/
noncomputable def sX1_checkArgument (G : GG) (N : Nat) (a0 : Int32) (h : Hp) : Out (Unit) :=
  if a0 = 0 then (gMk h 1 fun v1 h2 =>
  gThr G v1 h2)
  else some (.inl (), h)
abbrev mX1_checkArgument : MI := (RX1, cX1_checkArgument, 1, none, [], 6, 81, "checkArgument")
theorem tX1_checkArgument {G : GG} {l : Launch} (hs : l.stackTraces = false) {N : Nat} {a0 : Int32} {h : Hp} {r : Unit ⊕ Nat} {hf : Hp} (ho : sX1_checkArgument G N a0 h = some (r, hf)) : gMet G l yX1_checkArgument (ws_ yX1_checkArgument cX1_checkArgument 1 none) 6 81 [gi a0] h cvU r hf := by
  refine gMet.of ho hs (plainFor_of_name pn_X1) rfl rfl (gbl rfl) fun X => ?_
  show gT G l X mX1_checkArgument cvU r hf 0 [(0, gi a0)] [] h (sX1_checkArgument G N a0 h)
  delta sX1_checkArgument
  refine g_iload_n (pc := 0) (x := a0) 0 rfl rfl dX1_checkArgument_0 ?_
  refine g_if_ne (pc := 1) (tgt := 12) rfl dX1_checkArgument_1 ?_ ?_
  rotate_left
  · exact g_return (pc := 12) rfl dX1_checkArgument_12
  refine g_make0 (pc := 4) xw_X1_43_45 rfl dX1_checkArgument_4 dX1_checkArgument_7 dX1_checkArgument_8 (gblt rfl) (gbl rfl) fun v1 h2 => ?_
  exact g_athrow (pc := 11) (g_no) dX1_checkArgument_11
/-! FlareSlopes.setting(I)I -/
noncomputable def sX1_setting (G : GG) (N : Nat) (a0 : Option Nat) (a1 : Int32) (h : Hp) : Out (Int32) :=
  bV h a0 3 (fun q9 => sX1_loaded G N (some q9) h) fun v1 h2 =>
  bnd (sX1_in G N a1 (0 : Int32) (5 : Int32) h2) fun v3 h4 =>
  bnd (sX1_checkArgument G N v3 h4) fun v5 h6 =>
  gFr h6 v1 16 2 fun v7 =>
  gAi h6 v7 0 a1 fun v8 =>
  some (.inl v8, h6)
abbrev mX1_setting : MI := (RX1, cX1_setting, 3, (some .int), [], 8, 121, "setting")
theorem tX1_setting {G : GG} {l : Launch} (hs : l.stackTraces = false) {N : Nat} {a0 : Option Nat} {a1 : Int32} {h : Hp} {r : Int32 ⊕ Nat} {hf : Hp} (ho : sX1_setting G N a0 a1 h = some (r, hf)) : gMet G l yX1_setting (ws_ yX1_setting cX1_setting 3 (some .int)) 8 121 [gr a0, gi a1] h cvI r hf := by
  refine gMet.of ho hs (plainFor_of_name pn_X1) rfl rfl (gbl rfl) fun X => ?_
  show gT G l X mX1_setting cvI r hf 0 [(0, gr a0), (1, gi a1)] [] h (sX1_setting G N a0 a1 h)
  delta sX1_setting
  refine g_aload_n (pc := 0) (x := a0) 0 rfl rfl dX1_setting_0 ?_
  refine g_bVr (pc := 1) (y := yX1_loaded) (ws := ws_ yX1_loaded cX1_loaded 1 (some (.object "FlareSlopes$State"))) (fr := 7) (lo := 101) (as := []) (st := []) (g_no) rfl (fun _ _ _ e => tX1_loaded hs e) (fun K _ _ _ hq hM R e1 e2 => g_runV (M := mX1_setting) (pc := 1) (y := yX1_loaded) (bytes := cX1_loaded) (maxL := 1) (ret := (some (.object "FlareSlopes$State"))) (fr := 7) (lo := 101) (as := []) (st := []) hq (C := "FlareSlopes") rfl gy_X1_loaded (gbl rfl) (gbl rfl) (gbl rfl) q1430 q1432 qs17 dX1_setting_1 K hM R e1 e2) fun v1 h2 => ?_
  refine g_astore_n (pc := 4) (lv' := [(2, gr v1), (1, gi a1)]) [0, 2] rfl rfl (gblt rfl) dX1_setting_4 ?_
  refine g_iload_n (pc := 5) (x := a1) 1 rfl rfl dX1_setting_5 ?_
  refine g_iconst (pc := 6) (v := (0 : Int32)) ic_0 dX1_setting_6 ?_
  refine g_iconst (pc := 7) (v := (5 : Int32)) ic_5 dX1_setting_7 ?_
  refine g_bi (pc := 8) (y := yX1_in) (ws := ws_ yX1_in cX1_in 3 (some .boolean)) (fr := 0) (lo := 0) (as := [gi a1, gi (0 : Int32), gi (5 : Int32)]) (st := []) (g_no) rfl (fun _ _ e => tX1_in hs e) (fun K _ _ hM R e1 e2 => g_runS (M := mX1_setting) (pc := 8) (y := yX1_in) (bytes := cX1_in) (maxL := 3) (ret := (some .boolean)) (fr := 0) (lo := 0) (as := [gi a1, gi (0 : Int32), gi (5 : Int32)]) (st := []) gy_X1_in (gbl rfl) (gbl rfl) (gbl rfl) q413 q414 dX1_setting_8 K hM R e1 e2) fun v3 h4 => ?_
  refine g_bu (pc := 11) (y := yX1_checkArgument) (ws := ws_ yX1_checkArgument cX1_checkArgument 1 none) (fr := 6) (lo := 81) (as := [gi v3]) (st := []) (g_no) rfl (fun _ _ e => tX1_checkArgument hs e) (fun K _ _ hM R e1 e2 => g_runS (M := mX1_setting) (pc := 11) (y := yX1_checkArgument) (bytes := cX1_checkArgument) (maxL := 1) (ret := none) (fr := 6) (lo := 81) (as := [gi v3]) (st := []) gy_X1_checkArgument (gbl rfl) (gbl rfl) (gbl rfl) q1958 q1959 dX1_setting_11 K hM R e1 e2) fun v5 h6 => ?_
  refine g_aload_n (pc := 14) (x := v1) 0 rfl rfl dX1_setting_14 ?_
  refine g_getfr (pc := 15) k_16 (gblt rfl) lk_X1_240_16 dX1_setting_15 fun v7 => ?_
  refine g_iload_n (pc := 18) (x := a1) 1 rfl rfl dX1_setting_18 ?_
  refine g_iaload (pc := 19) rfl dX1_setting_19 fun v8 => ?_
  exact g_ireturn (pc := 20) rfl dX1_setting_20
/-! FlareSlopesLaw.setting(LFlareSlopes;I[J)I -/
noncomputable def sX0_setting (G : GG) (N : Nat) (a0 : Option Nat) (a1 : Int32) (a2 : Option Nat) (h : Hp) : Out (Int32) :=
  bVX h a0 3 (fun q4 => sX1_setting G N (some q4) a1 h) (fun v1 h2 =>
  gSl G h2 a2 3 (0 : Int32) (v1.toInt64) fun h3 =>
  some (.inl (0 : Int32), h3)) fun q5 h6 =>
  gSw h6 (some q5) 0 (some (.inl (1 : Int32), h6)) (gSw h6 (some q5) 1 (some (.inl (2 : Int32), h6)) (none))
abbrev mX0_setting : MI := (RX0, cX0_setting, 4, (some .int), [(0, 9, 12, 21), (0, 9, 15, 15)], 9, 143, "setting")
theorem tX0_setting {G : GG} {l : Launch} (hs : l.stackTraces = false) {N : Nat} {a0 : Option Nat} {a1 : Int32} {a2 : Option Nat} {h : Hp} {r : Int32 ⊕ Nat} {hf : Hp} (ho : sX0_setting G N a0 a1 a2 h = some (r, hf)) : gMet G l yX0_setting (wsW_ yX0_setting cX0_setting 4 (some .int) [(0, 9, 12, 21), (0, 9, 15, 15)]) 9 143 [gr a0, gi a1, gr a2] h cvI r hf := by
  refine gMet.ofW ho hs (plainFor_of_name pn_X0) rfl rfl (gbl rfl) fun X => ?_
  show gT G l X mX0_setting cvI r hf 0 [(0, gr a0), (1, gi a1), (2, gr a2)] [] h (sX0_setting G N a0 a1 a2 h)
  delta sX0_setting
  refine g_aload_n (pc := 0) (x := a2) 2 rfl rfl dX0_setting_0 ?_
  refine g_iconst (pc := 1) (v := (0 : Int32)) ic_0 dX0_setting_1 ?_
  refine g_aload_n (pc := 2) (x := a0) 0 rfl rfl dX0_setting_2 ?_
  refine g_iload_n (pc := 3) (x := a1) 1 rfl rfl dX0_setting_3 ?_
  refine g_bVXi (pc := 4) (y := yX1_setting) (ws := ws_ yX1_setting cX1_setting 3 (some .int)) (fr := 8) (lo := 121) (as := [gi a1]) (st := [gi (0 : Int32), gr a2]) rfl (fun _ _ _ e => tX1_setting hs e) (fun K _ _ _ hq hM R e1 e2 => g_runV (M := mX0_setting) (pc := 4) (y := yX1_setting) (bytes := cX1_setting) (maxL := 3) (ret := (some .int)) (fr := 8) (lo := 121) (as := [gi a1]) (st := [gi (0 : Int32), gr a2]) hq (C := "FlareSlopes") rfl gy_X1_setting (gbl rfl) (gbl rfl) (gbl rfl) q1954 q1955 q1956 dX0_setting_4 K hM R e1 e2) (fun v1 h2 => ?_) (fun q5 h6 => ?_)
  · refine g_i2l (pc := 7) dX0_setting_7 ?_
    refine g_lastore (pc := 8) rfl dX0_setting_8 fun h3 => ?_
    refine g_goto (pc := 9) (tgt := 18) rfl dX0_setting_9 ?_
    refine g_iconst (pc := 18) (v := (0 : Int32)) ic_0 dX0_setting_18 ?_
    exact g_ireturn (pc := 19) rfl dX0_setting_19
  refine g_catch (E := "java/lang/IllegalStateException") [] ⟨0, 9, 12, 21⟩ [⟨0, 9, 15, 15⟩] rfl rfl (List.forall_mem_nil _) (by decide +kernel) (by decide +kernel) q1425 q1439 ?_ ?_
  · refine g_astore_n (pc := 12) (lv' := []) [] rfl rfl (gblt rfl) dX0_setting_12 ?_
    refine g_iconst (pc := 13) (v := (1 : Int32)) ic_1 dX0_setting_13 ?_
    exact g_ireturn (pc := 14) rfl dX0_setting_14
  refine g_catch (E := "java/lang/IllegalArgumentException") [⟨0, 9, 12, 21⟩] ⟨0, 9, 15, 15⟩ [] rfl rfl (List.forall_mem_cons.mpr ⟨Or.inr ⟨by decide +kernel, _, q1425, ncl_java_lang_IllegalArgumentException_java_lang_IllegalStateException⟩, List.forall_mem_nil _⟩) (by decide +kernel) (by decide +kernel) q404 q751 ?_ ?_
  · refine g_astore_n (pc := 15) (lv' := []) [] rfl rfl (gblt rfl) dX0_setting_15 ?_
    refine g_iconst (pc := 16) (v := (2 : Int32)) ic_2 dX0_setting_16 ?_
    exact g_ireturn (pc := 17) rfl dX0_setting_17
  exact g_noneX
/-! FlareSlopesModel.setting(I)I -/
noncomputable def sX2_setting (G : GG) (N : Nat) (a0 : Option Nat) (a1 : Int32) (h : Hp) : Out (Int32) :=
  gFi h a0 18 8 fun v1 =>
  bnd (sX2_in G N a1 (0 : Int32) (5 : Int32) h) fun v2 h3 =>
  bV h3 a0 18 (fun q8 => sX2_mayTwo G N (some q8) v1 v2 h3) fun v4 h5 =>
  if v4 = 0 then (some (.inl (0 : Int32), h5))
  else gFr h5 a0 18 1 fun v6 =>
  gAi h5 v6 0 a1 fun v7 =>
  some (.inl v7, h5)
abbrev mX2_setting : MI := (RX2, cX2_setting, 2, (some .int), [], 2, 45, "setting")
theorem tX2_setting {G : GG} {l : Launch} (hs : l.stackTraces = false) {N : Nat} {a0 : Option Nat} {a1 : Int32} {h : Hp} {r : Int32 ⊕ Nat} {hf : Hp} (ho : sX2_setting G N a0 a1 h = some (r, hf)) : gMet G l yX2_setting (ws_ yX2_setting cX2_setting 2 (some .int)) 2 45 [gr a0, gi a1] h cvI r hf := by
  refine gMet.of ho hs (plainFor_of_name pn_X2) rfl rfl (gbl rfl) fun X => ?_
  show gT G l X mX2_setting cvI r hf 0 [(0, gr a0), (1, gi a1)] [] h (sX2_setting G N a0 a1 h)
  delta sX2_setting
  refine g_aload_n (pc := 0) (x := a0) 0 rfl rfl dX2_setting_0 ?_
  refine g_aload_n (pc := 1) (x := a0) 0 rfl rfl dX2_setting_1 ?_
  refine g_getfi (pc := 2) k_18 (gblt rfl) lk_X2_184_18 dX2_setting_2 fun v1 => ?_
  refine g_iload_n (pc := 5) (x := a1) 1 rfl rfl dX2_setting_5 ?_
  refine g_iconst (pc := 6) (v := (0 : Int32)) ic_0 dX2_setting_6 ?_
  refine g_iconst (pc := 7) (v := (5 : Int32)) ic_5 dX2_setting_7 ?_
  refine g_bi (pc := 8) (y := yX2_in) (ws := ws_ yX2_in cX2_in 3 (some .boolean)) (fr := 0) (lo := 0) (as := [gi a1, gi (0 : Int32), gi (5 : Int32)]) (st := [gi v1, gr a0]) (g_no) rfl (fun _ _ e => tX2_in hs e) (fun K _ _ hM R e1 e2 => g_runS (M := mX2_setting) (pc := 8) (y := yX2_in) (bytes := cX2_in) (maxL := 3) (ret := (some .boolean)) (fr := 0) (lo := 0) (as := [gi a1, gi (0 : Int32), gi (5 : Int32)]) (st := [gi v1, gr a0]) gy_X2_in (gbl rfl) (gbl rfl) (gbl rfl) q4037 q4038 dX2_setting_8 K hM R e1 e2) fun v2 h3 => ?_
  refine g_bVi (pc := 11) (y := yX2_mayTwo) (ws := ws_ yX2_mayTwo cX2_mayTwo 3 (some .boolean)) (fr := 1) (lo := 23) (as := [gi v1, gi v2]) (st := []) (g_no) rfl (fun _ _ _ e => tX2_mayTwo hs e) (fun K _ _ _ hq hM R e1 e2 => g_runV (M := mX2_setting) (pc := 11) (y := yX2_mayTwo) (bytes := cX2_mayTwo) (maxL := 3) (ret := (some .boolean)) (fr := 1) (lo := 23) (as := [gi v1, gi v2]) (st := []) hq (C := "FlareSlopesModel") rfl gy_X2_mayTwo (gbl rfl) (gbl rfl) (gbl rfl) q4145 q4147 qs76 dX2_setting_11 K hM R e1 e2) fun v4 h5 => ?_
  refine g_if_eq (pc := 14) (tgt := 26) rfl dX2_setting_14 ?_ ?_
  · refine g_iconst (pc := 26) (v := (0 : Int32)) ic_0 dX2_setting_26 ?_
    exact g_ireturn (pc := 27) rfl dX2_setting_27
  refine g_aload_n (pc := 17) (x := a0) 0 rfl rfl dX2_setting_17 ?_
  refine g_getfr (pc := 18) k_18 (gblt rfl) lk_X2_9_18 dX2_setting_18 fun v6 => ?_
  refine g_iload_n (pc := 21) (x := a1) 1 rfl rfl dX2_setting_21 ?_
  refine g_iaload (pc := 22) rfl dX2_setting_22 fun v7 => ?_
  refine g_goto (pc := 23) (tgt := 27) rfl dX2_setting_23 ?_
  exact g_ireturn (pc := 27) rfl dX2_setting_27
/-! FlareSlopes.withCabin(I)LFlareSlopes$Cabin; -/
noncomputable def sX1_withCabin (G : GG) (N : Nat) (a0 : Option Nat) (a1 : Int32) (h : Hp) : Out (Option Nat) :=
  bV h a0 3 (fun q12 => sX1_loaded G N (some q12) h) fun v1 h2 =>
  bV h2 v1 16 (fun q11 => sX3_size G N (some q11) h2) fun v3 h4 =>
  bnd (sX1_checkIndex G N a1 v3 h4) fun v5 h6 =>
  gFr h6 a0 3 4 fun v7 =>
  bV h6 v7 16 (fun q10 => sX3_cabin G N (some q10) a1 h6) fun v8 h9 =>
  some (.inl v8, h9)
abbrev mX1_withCabin : MI := (RX1, cX1_withCabin, 2, (some (.object "FlareSlopes$Cabin")), [], 8, 121, "withCabin")
theorem tX1_withCabin {G : GG} {l : Launch} (hs : l.stackTraces = false) {N : Nat} {a0 : Option Nat} {a1 : Int32} {h : Hp} {r : Option Nat ⊕ Nat} {hf : Hp} (ho : sX1_withCabin G N a0 a1 h = some (r, hf)) : gMet G l yX1_withCabin (ws_ yX1_withCabin cX1_withCabin 2 (some (.object "FlareSlopes$Cabin"))) 8 121 [gr a0, gi a1] h cvR r hf := by
  refine gMet.of ho hs (plainFor_of_name pn_X1) rfl rfl (gbl rfl) fun X => ?_
  show gT G l X mX1_withCabin cvR r hf 0 [(0, gr a0), (1, gi a1)] [] h (sX1_withCabin G N a0 a1 h)
  delta sX1_withCabin
  refine g_iload_n (pc := 0) (x := a1) 1 rfl rfl dX1_withCabin_0 ?_
  refine g_aload_n (pc := 1) (x := a0) 0 rfl rfl dX1_withCabin_1 ?_
  refine g_bVr (pc := 2) (y := yX1_loaded) (ws := ws_ yX1_loaded cX1_loaded 1 (some (.object "FlareSlopes$State"))) (fr := 7) (lo := 101) (as := []) (st := [gi a1]) (g_no) rfl (fun _ _ _ e => tX1_loaded hs e) (fun K _ _ _ hq hM R e1 e2 => g_runV (M := mX1_withCabin) (pc := 2) (y := yX1_loaded) (bytes := cX1_loaded) (maxL := 1) (ret := (some (.object "FlareSlopes$State"))) (fr := 7) (lo := 101) (as := []) (st := [gi a1]) hq (C := "FlareSlopes") rfl gy_X1_loaded (gbl rfl) (gbl rfl) (gbl rfl) q1430 q1432 qs17 dX1_withCabin_2 K hM R e1 e2) fun v1 h2 => ?_
  refine g_bVi (pc := 5) (y := yX3_size) (ws := ws_ yX3_size cX3_size 1 (some .int)) (fr := 1) (lo := 20) (as := []) (st := [gi a1]) (g_no) rfl (fun _ _ _ e => tX3_size hs e) (fun K _ _ _ hq hM R e1 e2 => g_runV (M := mX1_withCabin) (pc := 5) (y := yX3_size) (bytes := cX3_size) (maxL := 1) (ret := (some .int)) (fr := 1) (lo := 20) (as := []) (st := [gi a1]) hq (C := "FlareSlopes$State") rfl gy_X3_size (gbl rfl) (gbl rfl) (gbl rfl) q1411 q1412 q1413 dX1_withCabin_5 K hM R e1 e2) fun v3 h4 => ?_
  refine g_bu (pc := 8) (y := yX1_checkIndex) (ws := ws_ yX1_checkIndex cX1_checkIndex 2 none) (fr := 6) (lo := 81) (as := [gi a1, gi v3]) (st := []) (g_no) rfl (fun _ _ e => tX1_checkIndex hs e) (fun K _ _ hM R e1 e2 => g_runS (M := mX1_withCabin) (pc := 8) (y := yX1_checkIndex) (bytes := cX1_checkIndex) (maxL := 2) (ret := none) (fr := 6) (lo := 81) (as := [gi a1, gi v3]) (st := []) gy_X1_checkIndex (gbl rfl) (gbl rfl) (gbl rfl) q410 q411 dX1_withCabin_8 K hM R e1 e2) fun v5 h6 => ?_
  refine g_aload_n (pc := 11) (x := a0) 0 rfl rfl dX1_withCabin_11 ?_
  refine g_getfr (pc := 12) k_3 (gblt rfl) lk_X1_56_3 dX1_withCabin_12 fun v7 => ?_
  refine g_iload_n (pc := 15) (x := a1) 1 rfl rfl dX1_withCabin_15 ?_
  refine g_bVr (pc := 16) (y := yX3_cabin) (ws := ws_ yX3_cabin cX3_cabin 2 (some (.object "FlareSlopes$Cabin"))) (fr := 3) (lo := 64) (as := [gi a1]) (st := []) (g_no) rfl (fun _ _ _ e => tX3_cabin hs e) (fun K _ _ _ hq hM R e1 e2 => g_runV (M := mX1_withCabin) (pc := 16) (y := yX3_cabin) (bytes := cX3_cabin) (maxL := 2) (ret := (some (.object "FlareSlopes$Cabin"))) (fr := 3) (lo := 64) (as := [gi a1]) (st := []) hq (C := "FlareSlopes$State") rfl gy_X3_cabin (gbl rfl) (gbl rfl) (gbl rfl) q1738 q1639 q1640 dX1_withCabin_16 K hM R e1 e2) fun v8 h9 => ?_
  exact g_areturn (pc := 19) rfl (Or.inl ⟨_, rfl⟩) dX1_withCabin_19
/-! FlareSlopes$Judge.<init>()V -/
noncomputable def sX14_init_c4 (G : GG) (N : Nat) (a0 : Option Nat) (h : Hp) : Out (Unit) :=
  gNN a0 (some (.inl (), h))
abbrev mX14_init_c4 : MI := (RX14, cX14_init, 1, none, [], 1, 12, "<init>")
theorem tX14_init_c4 {G : GG} {l : Launch} (hs : l.stackTraces = false) {N : Nat} {a0 : Option Nat} {h : Hp} {r : Unit ⊕ Nat} {hf : Hp} (ho : sX14_init_c4 G N a0 h = some (r, hf)) : gMet G l yX14_init (ws_ yX14_init cX14_init 1 none) 1 12 [gr a0] h cvU r hf := by
  refine gMet.of ho hs (plainFor_of_name pn_X14) rfl rfl (gbl rfl) fun X => ?_
  show gT G l X mX14_init_c4 cvU r hf 0 [(0, gr a0)] [] h (sX14_init_c4 G N a0 h)
  delta sX14_init_c4
  refine g_aload_n (pc := 0) (x := a0) 0 rfl rfl dX14_init_0 ?_
  refine g_objInit' (pc := 1) q1984 oi_in oi_code (gbl rfl) (gbl rfl) dX14_init_1 ?_
  exact g_return (pc := 4) rfl dX14_init_4
/-! FlareSlopes$1.<init>(LFlareSlopes;)V -/
noncomputable def sX15_init (G : GG) (N : Nat) (a0 : Option Nat) (a1 : Option Nat) (h : Hp) : Out (Unit) :=
  gP G h a0 4 0 (va_rf a1) fun h1 =>
  bI a0 (fun q4 => sX14_init_c4 G N (some q4) h1) fun v2 h3 =>
  some (.inl (), h3)
abbrev mX15_init : MI := (RX15, cX15_init, 2, none, [], 2, 32, "<init>")
theorem tX15_init {G : GG} {l : Launch} (hs : l.stackTraces = false) {N : Nat} {a0 : Option Nat} {a1 : Option Nat} {h : Hp} {r : Unit ⊕ Nat} {hf : Hp} (ho : sX15_init G N a0 a1 h = some (r, hf)) : gMet G l yX15_init (ws_ yX15_init cX15_init 2 none) 2 32 [gr a0, gr a1] h cvU r hf := by
  refine gMet.of ho hs (plainFor_of_name pn_X15) rfl rfl (gbl rfl) fun X => ?_
  show gT G l X mX15_init cvU r hf 0 [(0, gr a0), (1, gr a1)] [] h (sX15_init G N a0 a1 h)
  delta sX15_init
  refine g_aload_n (pc := 0) (x := a0) 0 rfl rfl dX15_init_0 ?_
  refine g_aload_n (pc := 1) (x := a1) 1 rfl rfl dX15_init_1 ?_
  refine g_putFin (pc := 2) k_4 (gblt rfl) lk_X15_1_4 q1985 rfl rfl rfl rfl (gNr _ _) dX15_init_2 fun h1 => ?_
  refine g_aload_n (pc := 5) (x := a0) 0 rfl rfl dX15_init_5 ?_
  refine g_bIu (pc := 6) (y := yX14_init) (ws := ws_ yX14_init cX14_init 1 none) (fr := 1) (lo := 12) (as := []) (st := []) (g_no) rfl (fun _ _ _ e => tX14_init_c4 hs e) (fun K _ _ _ hM R e1 e2 => g_runIN (M := mX15_init) (pc := 6) (y := yX14_init) (bytes := cX14_init) (maxL := 1) (ret := none) (fr := 1) (lo := 12) (as := []) (st := []) gy_X14_init (gbl rfl) (gbl rfl) (gbl rfl) rfl q1981 q1982 rfl dX15_init_6 K hM R e1 e2) fun v2 h3 => ?_
  exact g_return (pc := 9) rfl dX15_init_9
/-! FlareSlopes$Mountain.key(II)LFlareSlopes$Key; -/
noncomputable def sX5_key (G : GG) (N : Nat) (a0 : Option Nat) (a1 : Int32) (a2 : Int32) (h : Hp) : Out (Option Nat) :=
  gFr h a0 11 5 fun v1 =>
  gAr h v1 6 (((8 : Int32) * a1) + a2) fun v2 =>
  some (.inl v2, h)
abbrev mX5_key : MI := (RX5, cX5_key, 3, (some (.object "FlareSlopes$Key")), [], 0, 0, "key")
theorem tX5_key {G : GG} {l : Launch} (hs : l.stackTraces = false) {N : Nat} {a0 : Option Nat} {a1 : Int32} {a2 : Int32} {h : Hp} {r : Option Nat ⊕ Nat} {hf : Hp} (ho : sX5_key G N a0 a1 a2 h = some (r, hf)) : gMet G l yX5_key (ws_ yX5_key cX5_key 3 (some (.object "FlareSlopes$Key"))) 0 0 [gr a0, gi a1, gi a2] h cvR r hf := by
  refine gMet.of ho hs (plainFor_of_name pn_X5) rfl rfl (gbl rfl) fun X => ?_
  show gT G l X mX5_key cvR r hf 0 [(0, gr a0), (1, gi a1), (2, gi a2)] [] h (sX5_key G N a0 a1 a2 h)
  delta sX5_key
  refine g_aload_n (pc := 0) (x := a0) 0 rfl rfl dX5_key_0 ?_
  refine g_getfr (pc := 1) k_11 (gblt rfl) lk_X5_39_11 dX5_key_1 fun v1 => ?_
  refine g_bipush (pc := 4) (v := (8 : Int32)) bc_8 dX5_key_4 ?_
  refine g_iload_n (pc := 6) (x := a1) 1 rfl rfl dX5_key_6 ?_
  refine g_imul (pc := 7) dX5_key_7 ?_
  refine g_iload_n (pc := 8) (x := a2) 2 rfl rfl dX5_key_8 ?_
  refine g_iadd (pc := 9) dX5_key_9 ?_
  refine g_aaload (pc := 10) rfl dX5_key_10 fun v2 => ?_
  exact g_areturn (pc := 11) rfl (Or.inl ⟨_, rfl⟩) dX5_key_11
/-! FlareSlopes$Key.hashCode()I -/
noncomputable def sX7_hashCode (G : GG) (N : Nat) (a0 : Option Nat) (h : Hp) : Out (Int32) :=
  gFi h a0 10 0 fun v1 =>
  gFi h a0 10 1 fun v2 =>
  some (.inl (((8 : Int32) * v1) + v2), h)
abbrev mX7_hashCode : MI := (RX7, cX7_hashCode, 1, (some .int), [], 0, 0, "hashCode")
theorem tX7_hashCode {G : GG} {l : Launch} (hs : l.stackTraces = false) {N : Nat} {a0 : Option Nat} {h : Hp} {r : Int32 ⊕ Nat} {hf : Hp} (ho : sX7_hashCode G N a0 h = some (r, hf)) : gMet G l yX7_hashCode (ws_ yX7_hashCode cX7_hashCode 1 (some .int)) 0 0 [gr a0] h cvI r hf := by
  refine gMet.of ho hs (plainFor_of_name pn_X7) rfl rfl (gbl rfl) fun X => ?_
  show gT G l X mX7_hashCode cvI r hf 0 [(0, gr a0)] [] h (sX7_hashCode G N a0 h)
  delta sX7_hashCode
  refine g_bipush (pc := 0) (v := (8 : Int32)) bc_8 dX7_hashCode_0 ?_
  refine g_aload_n (pc := 2) (x := a0) 0 rfl rfl dX7_hashCode_2 ?_
  refine g_getfi (pc := 3) k_10 (gblt rfl) lk_X7_9_10 dX7_hashCode_3 fun v1 => ?_
  refine g_imul (pc := 6) dX7_hashCode_6 ?_
  refine g_aload_n (pc := 7) (x := a0) 0 rfl rfl dX7_hashCode_7 ?_
  refine g_getfi (pc := 8) k_10 (gblt rfl) lk_X7_15_10 dX7_hashCode_8 fun v2 => ?_
  refine g_iadd (pc := 11) dX7_hashCode_11 ?_
  exact g_ireturn (pc := 12) rfl dX7_hashCode_12
/-! java/lang/Integer.hashCode(I)I -/
noncomputable def sJ20_hashCode_2 (G : GG) (N : Nat) (a0 : Int32) (h : Hp) : Out (Int32) :=
  some (.inl a0, h)
abbrev mJ20_hashCode_2 : MI := (RJ20, cJ20_hashCode_2, 1, (some .int), [], 0, 0, "hashCode")
theorem tJ20_hashCode_2 {G : GG} {l : Launch} (hs : l.stackTraces = false) {N : Nat} {a0 : Int32} {h : Hp} {r : Int32 ⊕ Nat} {hf : Hp} (ho : sJ20_hashCode_2 G N a0 h = some (r, hf)) : gMet G l yJ20_hashCode_2 (ws_ yJ20_hashCode_2 cJ20_hashCode_2 1 (some .int)) 0 0 [gi a0] h cvI r hf := by
  refine gMet.of ho hs (plainFor_of_name pn_J20) rfl rfl (gbl rfl) fun X => ?_
  show gT G l X mJ20_hashCode_2 cvI r hf 0 [(0, gi a0)] [] h (sJ20_hashCode_2 G N a0 h)
  delta sJ20_hashCode_2
  refine g_iload_n (pc := 0) (x := a0) 0 rfl rfl dJ20_hashCode_2_0 ?_
  exact g_ireturn (pc := 1) rfl dJ20_hashCode_2_1
/-! java/lang/Integer.hashCode()I -/
noncomputable def sJ20_hashCode (G : GG) (N : Nat) (a0 : Option Nat) (h : Hp) : Out (Int32) :=
  gFi h a0 19 0 fun v1 =>
  bnd (sJ20_hashCode_2 G N v1 h) fun v2 h3 =>
  some (.inl v2, h3)
abbrev mJ20_hashCode : MI := (RJ20, cJ20_hashCode, 1, (some .int), [], 1, 20, "hashCode")
theorem tJ20_hashCode {G : GG} {l : Launch} (hs : l.stackTraces = false) {N : Nat} {a0 : Option Nat} {h : Hp} {r : Int32 ⊕ Nat} {hf : Hp} (ho : sJ20_hashCode G N a0 h = some (r, hf)) : gMet G l yJ20_hashCode (ws_ yJ20_hashCode cJ20_hashCode 1 (some .int)) 1 20 [gr a0] h cvI r hf := by
  refine gMet.of ho hs (plainFor_of_name pn_J20) rfl rfl (gbl rfl) fun X => ?_
  show gT G l X mJ20_hashCode cvI r hf 0 [(0, gr a0)] [] h (sJ20_hashCode G N a0 h)
  delta sJ20_hashCode
  refine g_aload_n (pc := 0) (x := a0) 0 rfl rfl dJ20_hashCode_0 ?_
  refine g_getfi (pc := 1) k_19 (gblt rfl) lk_J20_205_19 dJ20_hashCode_1 fun v1 => ?_
  refine g_bi (pc := 4) (y := yJ20_hashCode_2) (ws := ws_ yJ20_hashCode_2 cJ20_hashCode_2 1 (some .int)) (fr := 0) (lo := 0) (as := [gi v1]) (st := []) (g_no) rfl (fun _ _ e => tJ20_hashCode_2 hs e) (fun K _ _ hM R e1 e2 => g_runS (M := mJ20_hashCode) (pc := 4) (y := yJ20_hashCode_2) (bytes := cJ20_hashCode_2) (maxL := 1) (ret := (some .int)) (fr := 0) (lo := 0) (as := [gi v1]) (st := []) gy_J20_hashCode_2 (gbl rfl) (gbl rfl) (gbl rfl) q2046 q2047 dJ20_hashCode_4 K hM R e1 e2) fun v2 h3 => ?_
  exact g_ireturn (pc := 7) rfl dJ20_hashCode_7
/-! java/util/HashMap.hash(Ljava/lang/Object;)I -/
noncomputable def sJ23_hash (G : GG) (N : Nat) (a0 : Option Nat) (h : Hp) : Out (Int32) :=
  if a0 = none then (some (.inl (0 : Int32), h))
  else gJ (fun (v1 : Int32) (h2 : Hp) =>
  some (.inl (v1 ^^^ ((v1.toUInt32 >>> ((16 : Int32).toUInt32 &&& Int32.toUInt32 31)).toInt32)), h2)) fun j3 =>
  gSw h a0 10 (bV h a0 10 (fun q4 => sX7_hashCode G N (some q4) h) j3) (bV h a0 19 (fun q5 => sJ20_hashCode G N (some q5) h) j3)
abbrev mJ23_hash : MI := (RJ23, cJ23_hash, 2, (some .int), [], 2, 40, "hash")
theorem tJ23_hash {G : GG} {l : Launch} (hs : l.stackTraces = false) {N : Nat} {a0 : Option Nat} {h : Hp} {r : Int32 ⊕ Nat} {hf : Hp} (ho : sJ23_hash G N a0 h = some (r, hf)) : gMet G l yJ23_hash (ws_ yJ23_hash cJ23_hash 2 (some .int)) 2 40 [gr a0] h cvI r hf := by
  refine gMet.of ho hs (plainFor_of_name pn_J23) rfl rfl (gbl rfl) fun X => ?_
  show gT G l X mJ23_hash cvI r hf 0 [(0, gr a0)] [] h (sJ23_hash G N a0 h)
  delta sJ23_hash
  refine g_aload_n (pc := 0) (x := a0) 0 rfl rfl dJ23_hash_0 ?_
  refine g_ifnonnull (pc := 1) (tgt := 8) rfl dJ23_hash_1 ?_ ?_
  · refine g_iconst (pc := 4) (v := (0 : Int32)) ic_0 dJ23_hash_4 ?_
    refine g_goto (pc := 5) (tgt := 19) rfl dJ23_hash_5 ?_
    exact g_ireturn (pc := 19) rfl dJ23_hash_19
  refine g_aload_n (pc := 8) (x := a0) 0 rfl rfl dJ23_hash_8 ?_
  refine g_join 12 (fun (_ : Int32) => [(0, gr a0)]) (fun (v1 : Int32) => [gi v1]) (fun v1 h2 => ?_) (fun j3 Hj3 => ?_)
  · refine g_dup (pc := 12) rfl dJ23_hash_12 ?_
    refine g_istore_n (pc := 13) (lv' := [(1, gi v1)]) [0] rfl rfl (gblt rfl) dJ23_hash_13 ?_
    refine g_iload_n (pc := 14) (x := v1) 0 rfl rfl dJ23_hash_14 ?_
    refine g_bipush (pc := 15) (v := (16 : Int32)) bc_16 dJ23_hash_15 ?_
    refine g_iushr (pc := 17) dJ23_hash_17 ?_
    refine g_ixor (pc := 18) dJ23_hash_18 ?_
    exact g_ireturn (pc := 19) rfl dJ23_hash_19
  refine g_sw ?_ ?_
  · exact g_bVi (pc := 9) (y := yX7_hashCode) (ws := ws_ yX7_hashCode cX7_hashCode 1 (some .int)) (fr := 0) (lo := 0) (as := []) (st := []) (g_no) rfl (fun _ _ _ e => tX7_hashCode hs e) (fun K _ _ _ hq hM R e1 e2 => g_runUA (x := ⟨"java/lang/Object", "hashCode", "()I"⟩) (owner := "java/lang/Object") (M := mJ23_hash) (pc := 9) (y := yX7_hashCode) (bytes := cX7_hashCode) (maxL := 1) (ret := (some .int)) (fr := 0) (lo := 0) (as := []) (st := []) hq (C := "FlareSlopes$Key") rfl gy_X7_hashCode rfl (gbl rfl) (gbl rfl) (gbl rfl) q2017 q2019 q2016 mhx_java_lang_Object q2027 q2028 dJ23_hash_9 K hM R e1 e2) Hj3
  exact g_bVi (pc := 9) (y := yJ20_hashCode) (ws := ws_ yJ20_hashCode cJ20_hashCode 1 (some .int)) (fr := 1) (lo := 20) (as := []) (st := []) (g_no) rfl (fun _ _ _ e => tJ20_hashCode hs e) (fun K _ _ _ hq hM R e1 e2 => g_runUA (x := ⟨"java/lang/Object", "hashCode", "()I"⟩) (owner := "java/lang/Object") (M := mJ23_hash) (pc := 9) (y := yJ20_hashCode) (bytes := cJ20_hashCode) (maxL := 1) (ret := (some .int)) (fr := 1) (lo := 20) (as := []) (st := []) hq (C := "java/lang/Integer") rfl gy_J20_hashCode rfl (gbl rfl) (gbl rfl) (gbl rfl) q2017 q2019 q2016 mhx_java_lang_Object q2043 q2044 dJ23_hash_9 K hM R e1 e2) Hj3
/-! FlareSlopes$Key.equals(Ljava/lang/Object;)Z -/
noncomputable def sX7_equals (G : GG) (N : Nat) (a0 : Option Nat) (a1 : Option Nat) (h : Hp) : Out (Int32) :=
  gIn h a1 [10] [19] fun v1 =>
  gJ (fun (x2 : Unit) (h3 : Hp) =>
  gRtZ (0 : Int32) h3) fun j4 =>
  if v1 = 0 then (j4 () h)
  else gCk h a1 [10] (gFi h a1 10 0 fun v5 =>
  gFi h a0 10 0 fun v6 =>
  if v5 = v6 then (gFi h a1 10 1 fun v7 =>
  gFi h a0 10 1 fun v8 =>
  if v7 = v8 then (gRtZ (1 : Int32) h)
  else j4 () h)
  else j4 () h)
abbrev mX7_equals : MI := (RX7, cX7_equals, 3, (some .boolean), [], 0, 0, "equals")
theorem tX7_equals {G : GG} {l : Launch} (hs : l.stackTraces = false) {N : Nat} {a0 : Option Nat} {a1 : Option Nat} {h : Hp} {r : Int32 ⊕ Nat} {hf : Hp} (ho : sX7_equals G N a0 a1 h = some (r, hf)) : gMet G l yX7_equals (ws_ yX7_equals cX7_equals 3 (some .boolean)) 0 0 [gr a0, gr a1] h cvI r hf := by
  refine gMet.of ho hs (plainFor_of_name pn_X7) rfl rfl (gbl rfl) fun X => ?_
  show gT G l X mX7_equals cvI r hf 0 [(0, gr a0), (1, gr a1)] [] h (sX7_equals G N a0 a1 h)
  delta sX7_equals
  refine g_aload_n (pc := 0) (x := a1) 1 rfl rfl dX7_equals_0 ?_
  refine g_instanceof (pc := 1) q2070 as_10_FlareSlopes_Key ns_19_FlareSlopes_Key dX7_equals_1 fun v1 => ?_
  refine g_join 38 (fun (x2 : Unit) => []) (fun (x2 : Unit) => []) (fun x2 h3 => ?_) (fun j4 Hj4 => ?_)
  · refine g_iconst (pc := 38) (v := (0 : Int32)) ic_0 dX7_equals_38 ?_
    exact g_zreturn (pc := 39) rfl dX7_equals_39
  refine g_if_eq (pc := 4) (tgt := 38) rfl dX7_equals_4 ?_ ?_
  · exact g_sub [] rfl (Hj4 () h)
  refine g_aload_n (pc := 7) (x := a1) 1 rfl rfl dX7_equals_7 ?_
  refine g_checkcast (pc := 8) q2070 as_10_FlareSlopes_Key dX7_equals_8 ?_
  refine g_astore_n (pc := 11) (lv' := [(2, gr a1), (0, gr a0)]) [0, 1] rfl rfl (gblt rfl) dX7_equals_11 ?_
  refine g_aload_n (pc := 12) (x := a1) 0 rfl rfl dX7_equals_12 ?_
  refine g_getfi (pc := 13) k_10 (gblt rfl) lk_X7_9_10 dX7_equals_13 fun v5 => ?_
  refine g_aload_n (pc := 16) (x := a0) 1 rfl rfl dX7_equals_16 ?_
  refine g_getfi (pc := 17) k_10 (gblt rfl) lk_X7_9_10 dX7_equals_17 fun v6 => ?_
  refine g_icmp_ne (pc := 20) (tgt := 38) rfl dX7_equals_20 ?_ ?_
  rotate_left
  · exact g_sub [] rfl (Hj4 () h)
  refine g_aload_n (pc := 23) (x := a1) 0 rfl rfl dX7_equals_23 ?_
  refine g_getfi (pc := 24) k_10 (gblt rfl) lk_X7_15_10 dX7_equals_24 fun v7 => ?_
  refine g_aload_n (pc := 27) (x := a0) 1 rfl rfl dX7_equals_27 ?_
  refine g_getfi (pc := 28) k_10 (gblt rfl) lk_X7_15_10 dX7_equals_28 fun v8 => ?_
  refine g_icmp_ne (pc := 31) (tgt := 38) rfl dX7_equals_31 ?_ ?_
  rotate_left
  · exact g_sub [] rfl (Hj4 () h)
  refine g_iconst (pc := 34) (v := (1 : Int32)) ic_1 dX7_equals_34 ?_
  refine g_goto (pc := 35) (tgt := 39) rfl dX7_equals_35 ?_
  exact g_zreturn (pc := 39) rfl dX7_equals_39
/-! java/lang/Integer.intValue()I -/
noncomputable def sJ20_intValue (G : GG) (N : Nat) (a0 : Option Nat) (h : Hp) : Out (Int32) :=
  gFi h a0 19 0 fun v1 =>
  some (.inl v1, h)
abbrev mJ20_intValue : MI := (RJ20, cJ20_intValue, 1, (some .int), [], 0, 0, "intValue")
theorem tJ20_intValue {G : GG} {l : Launch} (hs : l.stackTraces = false) {N : Nat} {a0 : Option Nat} {h : Hp} {r : Int32 ⊕ Nat} {hf : Hp} (ho : sJ20_intValue G N a0 h = some (r, hf)) : gMet G l yJ20_intValue (ws_ yJ20_intValue cJ20_intValue 1 (some .int)) 0 0 [gr a0] h cvI r hf := by
  refine gMet.of ho hs (plainFor_of_name pn_J20) rfl rfl (gbl rfl) fun X => ?_
  show gT G l X mJ20_intValue cvI r hf 0 [(0, gr a0)] [] h (sJ20_intValue G N a0 h)
  delta sJ20_intValue
  refine g_aload_n (pc := 0) (x := a0) 0 rfl rfl dJ20_intValue_0 ?_
  refine g_getfi (pc := 1) k_19 (gblt rfl) lk_J20_205_19 dJ20_intValue_1 fun v1 => ?_
  exact g_ireturn (pc := 4) rfl dJ20_intValue_4
/-! java/lang/Integer.equals(Ljava/lang/Object;)Z -/
noncomputable def sJ20_equals (G : GG) (N : Nat) (a0 : Option Nat) (a1 : Option Nat) (h : Hp) : Out (Int32) :=
  gIn h a1 [19] [10] fun v1 =>
  if v1 = 0 then (gRtZ (0 : Int32) h)
  else gFi h a0 19 0 fun v2 =>
  gCk h a1 [19] (bV h a1 19 (fun q5 => sJ20_intValue G N (some q5) h) fun v3 h4 =>
  if v2 = v3 then (gRtZ (1 : Int32) h4)
  else gRtZ (0 : Int32) h4)
abbrev mJ20_equals : MI := (RJ20, cJ20_equals, 2, (some .boolean), [], 1, 20, "equals")
theorem tJ20_equals {G : GG} {l : Launch} (hs : l.stackTraces = false) {N : Nat} {a0 : Option Nat} {a1 : Option Nat} {h : Hp} {r : Int32 ⊕ Nat} {hf : Hp} (ho : sJ20_equals G N a0 a1 h = some (r, hf)) : gMet G l yJ20_equals (ws_ yJ20_equals cJ20_equals 2 (some .boolean)) 1 20 [gr a0, gr a1] h cvI r hf := by
  refine gMet.of ho hs (plainFor_of_name pn_J20) rfl rfl (gbl rfl) fun X => ?_
  show gT G l X mJ20_equals cvI r hf 0 [(0, gr a0), (1, gr a1)] [] h (sJ20_equals G N a0 a1 h)
  delta sJ20_equals
  refine g_aload_n (pc := 0) (x := a1) 1 rfl rfl dJ20_equals_0 ?_
  refine g_instanceof (pc := 1) q2087 as_19_java_lang_Integer ns_10_java_lang_Integer dJ20_equals_1 fun v1 => ?_
  refine g_if_eq (pc := 4) (tgt := 27) rfl dJ20_equals_4 ?_ ?_
  · refine g_iconst (pc := 27) (v := (0 : Int32)) ic_0 dJ20_equals_27 ?_
    exact g_zreturn (pc := 28) rfl dJ20_equals_28
  refine g_aload_n (pc := 7) (x := a0) 0 rfl rfl dJ20_equals_7 ?_
  refine g_getfi (pc := 8) k_19 (gblt rfl) lk_J20_205_19 dJ20_equals_8 fun v2 => ?_
  refine g_aload_n (pc := 11) (x := a1) 1 rfl rfl dJ20_equals_11 ?_
  refine g_checkcast (pc := 12) q2087 as_19_java_lang_Integer dJ20_equals_12 ?_
  refine g_bVi (pc := 15) (y := yJ20_intValue) (ws := ws_ yJ20_intValue cJ20_intValue 1 (some .int)) (fr := 0) (lo := 0) (as := []) (st := [gi v2]) (g_no) rfl (fun _ _ _ e => tJ20_intValue hs e) (fun K _ _ _ hq hM R e1 e2 => g_runV (M := mJ20_equals) (pc := 15) (y := yJ20_intValue) (bytes := cJ20_intValue) (maxL := 1) (ret := (some .int)) (fr := 0) (lo := 0) (as := []) (st := [gi v2]) hq (C := "java/lang/Integer") rfl gy_J20_intValue (gbl rfl) (gbl rfl) (gbl rfl) q2088 q2089 q2090 dJ20_equals_15 K hM R e1 e2) fun v3 h4 => ?_
  refine g_icmp_ne (pc := 18) (tgt := 25) rfl dJ20_equals_18 ?_ ?_
  rotate_left
  · refine g_iconst (pc := 25) (v := (0 : Int32)) ic_0 dJ20_equals_25 ?_
    exact g_zreturn (pc := 26) rfl dJ20_equals_26
  refine g_iconst (pc := 21) (v := (1 : Int32)) ic_1 dJ20_equals_21 ?_
  refine g_goto (pc := 22) (tgt := 26) rfl dJ20_equals_22 ?_
  exact g_zreturn (pc := 26) rfl dJ20_equals_26
/-! java/util/HashMap.getNode(Ljava/lang/Object;)Ljava/util/HashMap$Node; -/
noncomputable def bJ23_getNode_c26_99 (G : GG) (N : Nat) (a1 : Option Nat) (v3 : Int32) (w14 : (Option Nat) → Hp → Out (Option Nat)) (x12 : Option Nat) (h13 : Hp) : Out (Option Nat) :=
  gFi h13 x12 27 0 fun v15 =>
  gJ (fun (x16 : Unit) (h17 : Hp) =>
  gFr h17 x12 27 3 fun v19 =>
  if v19 = none then (some (.inl none, h17))
  else w14 v19 h17) fun j18 =>
  if v15 = v3 then (gFr h13 x12 27 1 fun v20 =>
  if v20 = a1 then (some (.inl x12, h13))
  else if a1 = none then (j18 () h13)
  else gJ (fun (v21 : Int32) (h22 : Hp) =>
  if v21 = 0 then (j18 () h22)
  else some (.inl x12, h22)) fun j23 =>
  gSw h13 a1 10 (bV h13 a1 10 (fun q24 => sX7_equals G N (some q24) v20 h13) j23) (bV h13 a1 19 (fun q25 => sJ20_equals G N (some q25) v20 h13) j23))
  else j18 () h13
noncomputable def sJ23_getNode_c26 (G : GG) (N : Nat) (a0 : Option Nat) (a1 : Option Nat) (h : Hp) : Out (Option Nat) :=
  gFr h a0 26 0 fun v1 =>
  if v1 = none then (some (.inl none, h))
  else gLen h v1 fun v2 =>
  if v2 ≤ 0 then (some (.inl none, h))
  else bnd (sJ23_hash G N a1 h) fun v3 h4 =>
  gAr h4 v1 8 ((v2 - (1 : Int32)) &&& v3) fun v5 =>
  if v5 = none then (some (.inl none, h4))
  else gFi h4 v5 27 0 fun v6 =>
  gJ (fun (x7 : Unit) (h8 : Hp) =>
  gFr h8 v5 27 3 fun v10 =>
  if v10 = none then (some (.inl none, h8))
  else gIn h8 v5 [] [27] fun v11 =>
  if v11 = 0 then (gLp (bJ23_getNode_c26_99 G N a1 v3) N v10 h8)
  else none) fun j9 =>
  if v6 = v3 then (gFr h4 v5 27 1 fun v26 =>
  if v26 = a1 then (some (.inl v5, h4))
  else if a1 = none then (j9 () h4)
  else gJ (fun (v27 : Int32) (h28 : Hp) =>
  if v27 = 0 then (j9 () h28)
  else some (.inl v5, h28)) fun j29 =>
  gSw h4 a1 10 (bV h4 a1 10 (fun q30 => sX7_equals G N (some q30) v26 h4) j29) (bV h4 a1 19 (fun q31 => sJ20_equals G N (some q31) v26 h4) j29))
  else j9 () h4
abbrev mJ23_getNode_c26 : MI := (RJ23, cJ23_getNode, 8, (some (.object "java/util/HashMap$Node")), [], 3, 61, "getNode")
theorem tJ23_getNode_c26 {G : GG} {l : Launch} (hs : l.stackTraces = false) {N : Nat} {a0 : Option Nat} {a1 : Option Nat} {h : Hp} {r : Option Nat ⊕ Nat} {hf : Hp} (ho : sJ23_getNode_c26 G N a0 a1 h = some (r, hf)) : gMet G l yJ23_getNode (ws_ yJ23_getNode cJ23_getNode 8 (some (.object "java/util/HashMap$Node"))) 3 61 [gr a0, gr a1] h cvR r hf := by
  refine gMet.of ho hs (plainFor_of_name pn_J23) rfl rfl (gbl rfl) fun X => ?_
  show gT G l X mJ23_getNode_c26 cvR r hf 0 [(0, gr a0), (1, gr a1)] [] h (sJ23_getNode_c26 G N a0 a1 h)
  delta sJ23_getNode_c26
  refine g_aload_n (pc := 0) (x := a0) 0 rfl rfl dJ23_getNode_0 ?_
  refine g_getfr (pc := 1) k_26 (gblt rfl) lk_J23_105_26 dJ23_getNode_1 fun v1 => ?_
  refine g_dup (pc := 4) rfl dJ23_getNode_4 ?_
  refine g_astore_n (pc := 5) (lv' := [(2, gr v1), (1, gr a1)]) [0, 2] rfl rfl (gblt rfl) dJ23_getNode_5 ?_
  refine g_ifnull (pc := 6) (tgt := 148) rfl dJ23_getNode_6 ?_ ?_
  · refine g_aconst_null (pc := 148) dJ23_getNode_148 ?_
    exact g_areturn (pc := 149) rfl (Or.inl ⟨_, rfl⟩) dJ23_getNode_149
  refine g_aload_n (pc := 9) (x := v1) 0 rfl rfl dJ23_getNode_9 ?_
  refine g_alen (pc := 10) dJ23_getNode_10 fun v2 => ?_
  refine g_dup (pc := 11) rfl dJ23_getNode_11 ?_
  refine g_istore (pc := 12) (lv' := [(5, gi v2), (2, gr v1), (1, gr a1)]) [0, 1, 2] rfl (gblt rfl) dJ23_getNode_12 ?_
  refine g_if_le (pc := 14) (tgt := 148) rfl dJ23_getNode_14 ?_ ?_
  · refine g_aconst_null (pc := 148) dJ23_getNode_148 ?_
    exact g_areturn (pc := 149) rfl (Or.inl ⟨_, rfl⟩) dJ23_getNode_149
  refine g_aload_n (pc := 17) (x := v1) 1 rfl rfl dJ23_getNode_17 ?_
  refine g_iload (pc := 18) (x := v2) 0 rfl dJ23_getNode_18 ?_
  refine g_iconst (pc := 20) (v := (1 : Int32)) ic_1 dJ23_getNode_20 ?_
  refine g_isub (pc := 21) dJ23_getNode_21 ?_
  refine g_aload_n (pc := 22) (x := a1) 2 rfl rfl dJ23_getNode_22 ?_
  refine g_bi (pc := 23) (y := yJ23_hash) (ws := ws_ yJ23_hash cJ23_hash 2 (some .int)) (fr := 2) (lo := 40) (as := [gr a1]) (st := [gi (v2 - (1 : Int32)), gr v1]) (g_no) rfl (fun _ _ e => tJ23_hash hs e) (fun K _ _ hM R e1 e2 => g_runS (M := mJ23_getNode_c26) (pc := 23) (y := yJ23_hash) (bytes := cJ23_hash) (maxL := 2) (ret := (some .int)) (fr := 2) (lo := 40) (as := [gr a1]) (st := [gi (v2 - (1 : Int32)), gr v1]) gy_J23_hash (gbl rfl) (gbl rfl) (gbl rfl) q2013 q2014 dJ23_getNode_23 K hM R e1 e2) fun v3 h4 => ?_
  refine g_dup (pc := 26) rfl dJ23_getNode_26 ?_
  refine g_istore (pc := 27) (lv' := [(6, gi v3), (1, gr a1)]) [0, 3] rfl (gblt rfl) dJ23_getNode_27 ?_
  refine g_iand (pc := 29) dJ23_getNode_29 ?_
  refine g_aaload (pc := 30) rfl dJ23_getNode_30 fun v5 => ?_
  refine g_dup (pc := 31) rfl dJ23_getNode_31 ?_
  refine g_astore_n (pc := 32) (lv' := [(3, gr v5), (6, gi v3), (1, gr a1)]) [0, 1, 2] rfl rfl (gblt rfl) dJ23_getNode_32 ?_
  refine g_ifnull (pc := 33) (tgt := 148) rfl dJ23_getNode_33 ?_ ?_
  · refine g_aconst_null (pc := 148) dJ23_getNode_148 ?_
    exact g_areturn (pc := 149) rfl (Or.inl ⟨_, rfl⟩) dJ23_getNode_149
  refine g_aload_n (pc := 36) (x := v5) 0 rfl rfl dJ23_getNode_36 ?_
  refine g_getfi (pc := 37) k_27 (gblt rfl) lk_J23_168_27 dJ23_getNode_37 fun v6 => ?_
  refine g_iload (pc := 40) (x := v3) 1 rfl dJ23_getNode_40 ?_
  refine g_join 71 (fun (x7 : Unit) => [(1, gr a1), (3, gr v5), (6, gi v3)]) (fun (x7 : Unit) => []) (fun x7 h8 => ?_) (fun j9 Hj9 => ?_)
  · refine g_aload_n (pc := 71) (x := v5) 1 rfl rfl dJ23_getNode_71 ?_
    refine g_getfr (pc := 72) k_27 (gblt rfl) lk_J23_177_27 dJ23_getNode_72 fun v10 => ?_
    refine g_dup (pc := 75) rfl dJ23_getNode_75 ?_
    refine g_astore (pc := 76) (lv' := [(4, gr v10), (1, gr a1), (3, gr v5), (6, gi v3)]) [0, 1, 2, 3] rfl (gblt rfl) dJ23_getNode_76 ?_
    refine g_ifnull (pc := 78) (tgt := 148) rfl dJ23_getNode_78 ?_ ?_
    · refine g_aconst_null (pc := 148) dJ23_getNode_148 ?_
      exact g_areturn (pc := 149) rfl (Or.inl ⟨_, rfl⟩) dJ23_getNode_149
    refine g_aload_n (pc := 81) (x := v5) 2 rfl rfl dJ23_getNode_81 ?_
    refine g_instanceof (pc := 82) q2099 as__java_util_HashMap_TreeNode ns_27_java_util_HashMap_TreeNode dJ23_getNode_82 fun v11 => ?_
    refine g_if_eq (pc := 85) (tgt := 99) rfl dJ23_getNode_85 ?_ ?_
    rotate_left
    · exact g_none
    refine g_sub (lv' := [(1, gr a1), (4, gr v10), (6, gi v3)]) [1, 0, 3] rfl ?_
    refine g_loop (pc := 99) (fun (x12 : Option Nat) => [(1, gr a1), (4, gr x12), (6, gi v3)]) (fun (_ : Option Nat) => []) (fun w14 Hw14 x12 h13 => ?_) N v10 h8
    delta bJ23_getNode_c26_99
    refine g_aload (pc := 99) (x := x12) 1 rfl dJ23_getNode_99 ?_
    refine g_getfi (pc := 101) k_27 (gblt rfl) lk_J23_168_27 dJ23_getNode_101 fun v15 => ?_
    refine g_iload (pc := 104) (x := v3) 2 rfl dJ23_getNode_104 ?_
    refine g_join 137 (fun (x16 : Unit) => [(1, gr a1), (4, gr x12), (6, gi v3)]) (fun (x16 : Unit) => []) (fun x16 h17 => ?_) (fun j18 Hj18 => ?_)
    · refine g_aload (pc := 137) (x := x12) 1 rfl dJ23_getNode_137 ?_
      refine g_getfr (pc := 139) k_27 (gblt rfl) lk_J23_177_27 dJ23_getNode_139 fun v19 => ?_
      refine g_dup (pc := 142) rfl dJ23_getNode_142 ?_
      refine g_astore (pc := 143) (lv' := [(4, gr v19), (1, gr a1), (6, gi v3)]) [0, 1, 2] rfl (gblt rfl) dJ23_getNode_143 ?_
      refine g_ifnonnull (pc := 145) (tgt := 99) rfl dJ23_getNode_145 ?_ ?_
      rotate_left
      · exact g_sub [1, 0, 2] rfl (Hw14 v19 h17)
      refine g_aconst_null (pc := 148) dJ23_getNode_148 ?_
      exact g_areturn (pc := 149) rfl (Or.inl ⟨_, rfl⟩) dJ23_getNode_149
    refine g_icmp_ne (pc := 106) (tgt := 137) rfl dJ23_getNode_106 ?_ ?_
    rotate_left
    · exact Hj18 () h13
    refine g_aload (pc := 109) (x := x12) 1 rfl dJ23_getNode_109 ?_
    refine g_getfr (pc := 111) k_27 (gblt rfl) lk_J23_170_27 dJ23_getNode_111 fun v20 => ?_
    refine g_dup (pc := 114) rfl dJ23_getNode_114 ?_
    refine g_astore (pc := 115) (lv' := [(7, gr v20), (1, gr a1), (4, gr x12), (6, gi v3)]) [0, 1, 2, 3] rfl (gblt rfl) dJ23_getNode_115 ?_
    refine g_aload_n (pc := 117) (x := a1) 1 rfl rfl dJ23_getNode_117 ?_
    refine g_acmp_eq (pc := 118) (tgt := 134) rfl dJ23_getNode_118 ?_ ?_
    · refine g_aload (pc := 134) (x := x12) 2 rfl dJ23_getNode_134 ?_
      exact g_areturn (pc := 136) rfl (Or.inl ⟨_, rfl⟩) dJ23_getNode_136
    refine g_aload_n (pc := 121) (x := a1) 1 rfl rfl dJ23_getNode_121 ?_
    refine g_ifnull (pc := 122) (tgt := 137) rfl dJ23_getNode_122 ?_ ?_
    · exact g_sub [1, 2, 3] rfl (Hj18 () h13)
    refine g_aload_n (pc := 125) (x := a1) 1 rfl rfl dJ23_getNode_125 ?_
    refine g_aload (pc := 126) (x := v20) 0 rfl dJ23_getNode_126 ?_
    refine g_join 131 (fun (_ : Int32) => [(7, gr v20), (1, gr a1), (4, gr x12), (6, gi v3)]) (fun (v21 : Int32) => [gi v21]) (fun v21 h22 => ?_) (fun j23 Hj23 => ?_)
    · refine g_if_eq (pc := 131) (tgt := 137) rfl dJ23_getNode_131 ?_ ?_
      · exact g_sub [1, 2, 3] rfl (Hj18 () h22)
      refine g_aload (pc := 134) (x := x12) 2 rfl dJ23_getNode_134 ?_
      exact g_areturn (pc := 136) rfl (Or.inl ⟨_, rfl⟩) dJ23_getNode_136
    refine g_sw ?_ ?_
    · exact g_bVi (pc := 128) (y := yX7_equals) (ws := ws_ yX7_equals cX7_equals 3 (some .boolean)) (fr := 0) (lo := 0) (as := [gr v20]) (st := []) (g_no) rfl (fun _ _ _ e => tX7_equals hs e) (fun K _ _ _ hq hM R e1 e2 => g_runU (x := ⟨"java/lang/Object", "equals", "(Ljava/lang/Object;)Z"⟩) (owner := "java/lang/Object") (M := mJ23_getNode_c26) (pc := 128) (y := yX7_equals) (bytes := cX7_equals) (maxL := 3) (ret := (some .boolean)) (fr := 0) (lo := 0) (as := [gr v20]) (st := []) hq (C := "FlareSlopes$Key") rfl gy_X7_equals rfl (gbl rfl) (gbl rfl) (gbl rfl) q2057 q2059 ⟨q2058, _, _, _, q2098⟩ mhx_java_lang_Object q2067 q2068 dJ23_getNode_128 K hM R e1 e2) Hj23
    exact g_bVi (pc := 128) (y := yJ20_equals) (ws := ws_ yJ20_equals cJ20_equals 2 (some .boolean)) (fr := 1) (lo := 20) (as := [gr v20]) (st := []) (g_no) rfl (fun _ _ _ e => tJ20_equals hs e) (fun K _ _ _ hq hM R e1 e2 => g_runU (x := ⟨"java/lang/Object", "equals", "(Ljava/lang/Object;)Z"⟩) (owner := "java/lang/Object") (M := mJ23_getNode_c26) (pc := 128) (y := yJ20_equals) (bytes := cJ20_equals) (maxL := 2) (ret := (some .boolean)) (fr := 1) (lo := 20) (as := [gr v20]) (st := []) hq (C := "java/lang/Integer") rfl gy_J20_equals rfl (gbl rfl) (gbl rfl) (gbl rfl) q2057 q2059 ⟨q2058, _, _, _, q2098⟩ mhx_java_lang_Object q2084 q2085 dJ23_getNode_128 K hM R e1 e2) Hj23
  refine g_icmp_ne (pc := 42) (tgt := 71) rfl dJ23_getNode_42 ?_ ?_
  rotate_left
  · exact g_sub [2, 0, 1] rfl (Hj9 () h4)
  refine g_aload_n (pc := 45) (x := v5) 0 rfl rfl dJ23_getNode_45 ?_
  refine g_getfr (pc := 46) k_27 (gblt rfl) lk_J23_170_27 dJ23_getNode_46 fun v26 => ?_
  refine g_dup (pc := 49) rfl dJ23_getNode_49 ?_
  refine g_astore (pc := 50) (lv' := [(7, gr v26), (3, gr v5), (6, gi v3), (1, gr a1)]) [0, 1, 2, 3] rfl (gblt rfl) dJ23_getNode_50 ?_
  refine g_aload_n (pc := 52) (x := a1) 3 rfl rfl dJ23_getNode_52 ?_
  refine g_acmp_eq (pc := 53) (tgt := 69) rfl dJ23_getNode_53 ?_ ?_
  · refine g_aload_n (pc := 69) (x := v5) 1 rfl rfl dJ23_getNode_69 ?_
    exact g_areturn (pc := 70) rfl (Or.inl ⟨_, rfl⟩) dJ23_getNode_70
  refine g_aload_n (pc := 56) (x := a1) 3 rfl rfl dJ23_getNode_56 ?_
  refine g_ifnull (pc := 57) (tgt := 71) rfl dJ23_getNode_57 ?_ ?_
  · exact g_sub [3, 1, 2] rfl (Hj9 () h4)
  refine g_aload_n (pc := 60) (x := a1) 3 rfl rfl dJ23_getNode_60 ?_
  refine g_aload (pc := 61) (x := v26) 0 rfl dJ23_getNode_61 ?_
  refine g_join 66 (fun (_ : Int32) => [(7, gr v26), (3, gr v5), (6, gi v3), (1, gr a1)]) (fun (v27 : Int32) => [gi v27]) (fun v27 h28 => ?_) (fun j29 Hj29 => ?_)
  · refine g_if_eq (pc := 66) (tgt := 71) rfl dJ23_getNode_66 ?_ ?_
    · exact g_sub [3, 1, 2] rfl (Hj9 () h28)
    refine g_aload_n (pc := 69) (x := v5) 1 rfl rfl dJ23_getNode_69 ?_
    exact g_areturn (pc := 70) rfl (Or.inl ⟨_, rfl⟩) dJ23_getNode_70
  refine g_sw ?_ ?_
  · exact g_bVi (pc := 63) (y := yX7_equals) (ws := ws_ yX7_equals cX7_equals 3 (some .boolean)) (fr := 0) (lo := 0) (as := [gr v26]) (st := []) (g_no) rfl (fun _ _ _ e => tX7_equals hs e) (fun K _ _ _ hq hM R e1 e2 => g_runU (x := ⟨"java/lang/Object", "equals", "(Ljava/lang/Object;)Z"⟩) (owner := "java/lang/Object") (M := mJ23_getNode_c26) (pc := 63) (y := yX7_equals) (bytes := cX7_equals) (maxL := 3) (ret := (some .boolean)) (fr := 0) (lo := 0) (as := [gr v26]) (st := []) hq (C := "FlareSlopes$Key") rfl gy_X7_equals rfl (gbl rfl) (gbl rfl) (gbl rfl) q2057 q2059 ⟨q2058, _, _, _, q2098⟩ mhx_java_lang_Object q2067 q2068 dJ23_getNode_63 K hM R e1 e2) Hj29
  exact g_bVi (pc := 63) (y := yJ20_equals) (ws := ws_ yJ20_equals cJ20_equals 2 (some .boolean)) (fr := 1) (lo := 20) (as := [gr v26]) (st := []) (g_no) rfl (fun _ _ _ e => tJ20_equals hs e) (fun K _ _ _ hq hM R e1 e2 => g_runU (x := ⟨"java/lang/Object", "equals", "(Ljava/lang/Object;)Z"⟩) (owner := "java/lang/Object") (M := mJ23_getNode_c26) (pc := 63) (y := yJ20_equals) (bytes := cJ20_equals) (maxL := 2) (ret := (some .boolean)) (fr := 1) (lo := 20) (as := [gr v26]) (st := []) hq (C := "java/lang/Integer") rfl gy_J20_equals rfl (gbl rfl) (gbl rfl) (gbl rfl) q2057 q2059 ⟨q2058, _, _, _, q2098⟩ mhx_java_lang_Object q2084 q2085 dJ23_getNode_63 K hM R e1 e2) Hj29
/-! java/util/LinkedHashMap.afterNodeAccess(Ljava/util/HashMap$Node;)V -/
noncomputable def sJ24_afterNodeAccess (G : GG) (N : Nat) (a0 : Option Nat) (a1 : Option Nat) (h : Hp) : Out (Unit) :=
  gFi h a0 26 11 fun v1 =>
  gJ (fun (x2 : Unit) (h3 : Hp) =>
  gFi h3 a0 26 11 fun v5 =>
  if v5 = (1 : Int32) then (gFr h3 a0 26 8 fun v6 =>
  if v6 = a1 then (some (.inl (), h3))
  else gCk h3 a1 [27] (gFr h3 a1 27 4 fun v7 =>
  gFr h3 a1 27 5 fun v8 =>
  gP G h3 a1 27 4 (va_rf none) fun h9 =>
  gJ (fun (x10 : Unit) (h11 : Hp) =>
  gJ (fun (x13 : Option Nat) (h14 : Hp) =>
  gJ (fun (x16 : Unit) (h17 : Hp) =>
  gP G h17 a0 26 8 (va_rf a1) fun h19 =>
  gFi h19 a0 26 3 fun v20 =>
  gP G h19 a0 26 3 (.int (v20 + (1 : Int32))) fun h21 =>
  some (.inl (), h21)) fun j18 =>
  if x13 = none then (gP G h14 a0 26 9 (va_rf a1) fun h24 =>
  j18 () h24)
  else gP G h14 a1 27 5 (va_rf x13) fun h22 =>
  gP G h22 x13 27 4 (va_rf a1) fun h23 =>
  j18 () h23) fun j15 =>
  if v7 = none then (j15 v8 h11)
  else gP G h11 v7 27 5 (va_rf v8) fun h25 =>
  j15 v6 h25) fun j12 =>
  if v8 = none then (gP G h9 a0 26 9 (va_rf v7) fun h27 =>
  j12 () h27)
  else gP G h9 v8 27 4 (va_rf v7) fun h26 =>
  j12 () h26))
  else some (.inl (), h3)) fun j4 =>
  gJ (fun (x28 : Unit) (h29 : Hp) =>
  gFr h29 a0 26 9 fun v31 =>
  if v31 = a1 then (j4 () h29)
  else gCk h29 a1 [27] (gFr h29 a1 27 4 fun v32 =>
  gFr h29 a1 27 5 fun v33 =>
  gP G h29 a1 27 5 (va_rf none) fun h34 =>
  gJ (fun (x35 : Unit) (h36 : Hp) =>
  gJ (fun (x38 : Option Nat) (h39 : Hp) =>
  gJ (fun (x41 : Unit) (h42 : Hp) =>
  gP G h42 a0 26 9 (va_rf a1) fun h44 =>
  gFi h44 a0 26 3 fun v45 =>
  gP G h44 a0 26 3 (.int (v45 + (1 : Int32))) fun h46 =>
  some (.inl (), h46)) fun j43 =>
  if x38 = none then (gP G h39 a0 26 8 (va_rf a1) fun h49 =>
  j43 () h49)
  else gP G h39 a1 27 4 (va_rf x38) fun h47 =>
  gP G h47 x38 27 5 (va_rf a1) fun h48 =>
  j43 () h48) fun j40 =>
  if v33 = none then (j40 v32 h36)
  else gP G h36 v33 27 4 (va_rf v32) fun h50 =>
  j40 v31 h50) fun j37 =>
  if v32 = none then (gP G h34 a0 26 8 (va_rf v33) fun h52 =>
  j37 () h52)
  else gP G h34 v32 27 5 (va_rf v33) fun h51 =>
  j37 () h51)) fun j30 =>
  if v1 = (2 : Int32) then (j30 () h)
  else gFi h a0 26 11 fun v53 =>
  if v53 = 0 then (gFi h a0 26 10 fun v54 =>
  if v54 = 0 then (j4 () h)
  else j30 () h)
  else j4 () h
abbrev mJ24_afterNodeAccess : MI := (RJ24, cJ24_afterNodeAccess, 7, none, [], 0, 0, "afterNodeAccess")
theorem tJ24_afterNodeAccess {G : GG} {l : Launch} (hs : l.stackTraces = false) {N : Nat} {a0 : Option Nat} {a1 : Option Nat} {h : Hp} {r : Unit ⊕ Nat} {hf : Hp} (ho : sJ24_afterNodeAccess G N a0 a1 h = some (r, hf)) : gMet G l yJ24_afterNodeAccess (ws_ yJ24_afterNodeAccess cJ24_afterNodeAccess 7 none) 0 0 [gr a0, gr a1] h cvU r hf := by
  refine gMet.of ho hs (plainFor_of_name pn_J24) rfl rfl (gbl rfl) fun X => ?_
  show gT G l X mJ24_afterNodeAccess cvU r hf 0 [(0, gr a0), (1, gr a1)] [] h (sJ24_afterNodeAccess G N a0 a1 h)
  delta sJ24_afterNodeAccess
  refine g_aload_n (pc := 0) (x := a0) 0 rfl rfl dJ24_afterNodeAccess_0 ?_
  refine g_getfi (pc := 1) k_26 (gblt rfl) lk_J24_1_26 dJ24_afterNodeAccess_1 fun v1 => ?_
  refine g_iconst (pc := 4) (v := (2 : Int32)) ic_2 dJ24_afterNodeAccess_4 ?_
  refine g_join 141 (fun (x2 : Unit) => [(0, gr a0), (1, gr a1)]) (fun (x2 : Unit) => []) (fun x2 h3 => ?_) (fun j4 Hj4 => ?_)
  · refine g_aload_n (pc := 141) (x := a0) 0 rfl rfl dJ24_afterNodeAccess_141 ?_
    refine g_getfi (pc := 142) k_26 (gblt rfl) lk_J24_1_26 dJ24_afterNodeAccess_142 fun v5 => ?_
    refine g_iconst (pc := 145) (v := (1 : Int32)) ic_1 dJ24_afterNodeAccess_145 ?_
    refine g_icmp_ne (pc := 146) (tgt := 265) rfl dJ24_afterNodeAccess_146 ?_ ?_
    rotate_left
    · exact g_return (pc := 265) rfl dJ24_afterNodeAccess_265
    refine g_aload_n (pc := 149) (x := a0) 0 rfl rfl dJ24_afterNodeAccess_149 ?_
    refine g_getfr (pc := 150) k_26 (gblt rfl) lk_J24_7_26 dJ24_afterNodeAccess_150 fun v6 => ?_
    refine g_dup (pc := 153) rfl dJ24_afterNodeAccess_153 ?_
    refine g_astore_n (pc := 154) (lv' := [(3, gr v6), (0, gr a0), (1, gr a1)]) [0, 1, 2] rfl rfl (gblt rfl) dJ24_afterNodeAccess_154 ?_
    refine g_aload_n (pc := 155) (x := a1) 2 rfl rfl dJ24_afterNodeAccess_155 ?_
    refine g_acmp_eq (pc := 156) (tgt := 265) rfl dJ24_afterNodeAccess_156 ?_ ?_
    · exact g_return (pc := 265) rfl dJ24_afterNodeAccess_265
    refine g_aload_n (pc := 159) (x := a1) 2 rfl rfl dJ24_afterNodeAccess_159 ?_
    refine g_checkcast (pc := 160) q2321 as_27_java_util_LinkedHashMap_Entry dJ24_afterNodeAccess_160 ?_
    refine g_astore (pc := 163) (lv' := [(4, gr a1), (3, gr v6), (0, gr a0)]) [0, 1, 2] rfl (gblt rfl) dJ24_afterNodeAccess_163 ?_
    refine g_aload (pc := 165) (x := a1) 0 rfl dJ24_afterNodeAccess_165 ?_
    refine g_getfr (pc := 167) k_27 (gblt rfl) lk_J24_19_27 dJ24_afterNodeAccess_167 fun v7 => ?_
    refine g_astore (pc := 170) (lv' := [(5, gr v7), (4, gr a1), (3, gr v6), (0, gr a0)]) [0, 1, 2, 3] rfl (gblt rfl) dJ24_afterNodeAccess_170 ?_
    refine g_aload (pc := 172) (x := a1) 1 rfl dJ24_afterNodeAccess_172 ?_
    refine g_getfr (pc := 174) k_27 (gblt rfl) lk_J24_14_27 dJ24_afterNodeAccess_174 fun v8 => ?_
    refine g_astore (pc := 177) (lv' := [(6, gr v8), (5, gr v7), (4, gr a1), (3, gr v6), (0, gr a0)]) [0, 1, 2, 3, 4] rfl (gblt rfl) dJ24_afterNodeAccess_177 ?_
    refine g_aload (pc := 179) (x := a1) 2 rfl dJ24_afterNodeAccess_179 ?_
    refine g_aconst_null (pc := 181) dJ24_afterNodeAccess_181 ?_
    refine g_put (pc := 182) k_27 (gblt rfl) lk_J24_19_27 rfl rfl (gNr _ _) dJ24_afterNodeAccess_182 fun h9 => ?_
    refine g_aload (pc := 185) (x := v8) 0 rfl dJ24_afterNodeAccess_185 ?_
    refine g_join 206 (fun (x10 : Unit) => [(0, gr a0), (3, gr v6), (4, gr a1), (5, gr v7), (6, gr v8)]) (fun (x10 : Unit) => []) (fun x10 h11 => ?_) (fun j12 Hj12 => ?_)
    · refine g_aload (pc := 206) (x := v7) 3 rfl dJ24_afterNodeAccess_206 ?_
      refine g_join 224 (fun (x13 : Option Nat) => [(0, gr a0), (3, gr x13), (4, gr a1)]) (fun (x13 : Option Nat) => []) (fun x13 h14 => ?_) (fun j15 Hj15 => ?_)
      · refine g_aload_n (pc := 224) (x := x13) 1 rfl rfl dJ24_afterNodeAccess_224 ?_
        refine g_join 249 (fun (x16 : Unit) => [(0, gr a0), (4, gr a1)]) (fun (x16 : Unit) => []) (fun x16 h17 => ?_) (fun j18 Hj18 => ?_)
        · refine g_aload_n (pc := 249) (x := a0) 0 rfl rfl dJ24_afterNodeAccess_249 ?_
          refine g_aload (pc := 250) (x := a1) 1 rfl dJ24_afterNodeAccess_250 ?_
          refine g_put (pc := 252) k_26 (gblt rfl) lk_J24_7_26 rfl rfl (gNr _ _) dJ24_afterNodeAccess_252 fun h19 => ?_
          refine g_aload_n (pc := 255) (x := a0) 0 rfl rfl dJ24_afterNodeAccess_255 ?_
          refine g_dup (pc := 256) rfl dJ24_afterNodeAccess_256 ?_
          refine g_getfi (pc := 257) k_26 (gblt rfl) lk_J24_68_26 dJ24_afterNodeAccess_257 fun v20 => ?_
          refine g_iconst (pc := 260) (v := (1 : Int32)) ic_1 dJ24_afterNodeAccess_260 ?_
          refine g_iadd (pc := 261) dJ24_afterNodeAccess_261 ?_
          refine g_put (pc := 262) k_26 (gblt rfl) lk_J24_68_26 rfl rfl (gNi _) dJ24_afterNodeAccess_262 fun h21 => ?_
          exact g_return (pc := 265) rfl dJ24_afterNodeAccess_265
        refine g_ifnonnull (pc := 225) (tgt := 237) rfl dJ24_afterNodeAccess_225 ?_ ?_
        · refine g_aload_n (pc := 228) (x := a0) 0 rfl rfl dJ24_afterNodeAccess_228 ?_
          refine g_aload (pc := 229) (x := a1) 2 rfl dJ24_afterNodeAccess_229 ?_
          refine g_put (pc := 231) k_26 (gblt rfl) lk_J24_11_26 rfl rfl (gNr _ _) dJ24_afterNodeAccess_231 fun h24 => ?_
          refine g_goto (pc := 234) (tgt := 249) rfl dJ24_afterNodeAccess_234 ?_
          exact g_sub [0, 2] rfl (Hj18 () h24)
        refine g_aload (pc := 237) (x := a1) 2 rfl dJ24_afterNodeAccess_237 ?_
        refine g_aload_n (pc := 239) (x := x13) 1 rfl rfl dJ24_afterNodeAccess_239 ?_
        refine g_put (pc := 240) k_27 (gblt rfl) lk_J24_14_27 rfl rfl (gNr _ _) dJ24_afterNodeAccess_240 fun h22 => ?_
        refine g_aload_n (pc := 243) (x := x13) 1 rfl rfl dJ24_afterNodeAccess_243 ?_
        refine g_aload (pc := 244) (x := a1) 2 rfl dJ24_afterNodeAccess_244 ?_
        refine g_put (pc := 246) k_27 (gblt rfl) lk_J24_19_27 rfl rfl (gNr _ _) dJ24_afterNodeAccess_246 fun h23 => ?_
        exact g_sub [0, 2] rfl (Hj18 () h23)
      refine g_ifnull (pc := 208) (tgt := 221) rfl dJ24_afterNodeAccess_208 ?_ ?_
      · refine g_aload (pc := 221) (x := v8) 4 rfl dJ24_afterNodeAccess_221 ?_
        refine g_astore_n (pc := 223) (lv' := [(3, gr v8), (0, gr a0), (4, gr a1)]) [0, 1, 2] rfl rfl (gblt rfl) dJ24_afterNodeAccess_223 ?_
        exact g_sub [1, 0, 2] rfl (Hj15 v8 h11)
      refine g_aload (pc := 211) (x := v7) 3 rfl dJ24_afterNodeAccess_211 ?_
      refine g_aload (pc := 213) (x := v8) 4 rfl dJ24_afterNodeAccess_213 ?_
      refine g_put (pc := 215) k_27 (gblt rfl) lk_J24_14_27 rfl rfl (gNr _ _) dJ24_afterNodeAccess_215 fun h25 => ?_
      refine g_goto (pc := 218) (tgt := 224) rfl dJ24_afterNodeAccess_218 ?_
      exact g_sub [0, 1, 2] rfl (Hj15 v6 h25)
    refine g_ifnonnull (pc := 187) (tgt := 199) rfl dJ24_afterNodeAccess_187 ?_ ?_
    rotate_left
    · refine g_aload (pc := 199) (x := v8) 0 rfl dJ24_afterNodeAccess_199 ?_
      refine g_aload (pc := 201) (x := v7) 1 rfl dJ24_afterNodeAccess_201 ?_
      refine g_put (pc := 203) k_27 (gblt rfl) lk_J24_19_27 rfl rfl (gNr _ _) dJ24_afterNodeAccess_203 fun h26 => ?_
      exact g_sub [4, 3, 2, 1, 0] rfl (Hj12 () h26)
    refine g_aload_n (pc := 190) (x := a0) 4 rfl rfl dJ24_afterNodeAccess_190 ?_
    refine g_aload (pc := 191) (x := v7) 1 rfl dJ24_afterNodeAccess_191 ?_
    refine g_put (pc := 193) k_26 (gblt rfl) lk_J24_11_26 rfl rfl (gNr _ _) dJ24_afterNodeAccess_193 fun h27 => ?_
    refine g_goto (pc := 196) (tgt := 206) rfl dJ24_afterNodeAccess_196 ?_
    exact g_sub [4, 3, 2, 1, 0] rfl (Hj12 () h27)
  refine g_join 22 (fun (x28 : Unit) => [(0, gr a0), (1, gr a1)]) (fun (x28 : Unit) => []) (fun x28 h29 => ?_) (fun j30 Hj30 => ?_)
  · refine g_aload_n (pc := 22) (x := a0) 0 rfl rfl dJ24_afterNodeAccess_22 ?_
    refine g_getfr (pc := 23) k_26 (gblt rfl) lk_J24_11_26 dJ24_afterNodeAccess_23 fun v31 => ?_
    refine g_dup (pc := 26) rfl dJ24_afterNodeAccess_26 ?_
    refine g_astore_n (pc := 27) (lv' := [(2, gr v31), (0, gr a0), (1, gr a1)]) [0, 1, 2] rfl rfl (gblt rfl) dJ24_afterNodeAccess_27 ?_
    refine g_aload_n (pc := 28) (x := a1) 2 rfl rfl dJ24_afterNodeAccess_28 ?_
    refine g_acmp_eq (pc := 29) (tgt := 141) rfl dJ24_afterNodeAccess_29 ?_ ?_
    · exact g_sub [1, 2] rfl (Hj4 () h29)
    refine g_aload_n (pc := 32) (x := a1) 2 rfl rfl dJ24_afterNodeAccess_32 ?_
    refine g_checkcast (pc := 33) q2321 as_27_java_util_LinkedHashMap_Entry dJ24_afterNodeAccess_33 ?_
    refine g_astore (pc := 36) (lv' := [(4, gr a1), (2, gr v31), (0, gr a0)]) [0, 1, 2] rfl (gblt rfl) dJ24_afterNodeAccess_36 ?_
    refine g_aload (pc := 38) (x := a1) 0 rfl dJ24_afterNodeAccess_38 ?_
    refine g_getfr (pc := 40) k_27 (gblt rfl) lk_J24_19_27 dJ24_afterNodeAccess_40 fun v32 => ?_
    refine g_astore (pc := 43) (lv' := [(5, gr v32), (4, gr a1), (2, gr v31), (0, gr a0)]) [0, 1, 2, 3] rfl (gblt rfl) dJ24_afterNodeAccess_43 ?_
    refine g_aload (pc := 45) (x := a1) 1 rfl dJ24_afterNodeAccess_45 ?_
    refine g_getfr (pc := 47) k_27 (gblt rfl) lk_J24_14_27 dJ24_afterNodeAccess_47 fun v33 => ?_
    refine g_astore (pc := 50) (lv' := [(6, gr v33), (5, gr v32), (4, gr a1), (2, gr v31), (0, gr a0)]) [0, 1, 2, 3, 4] rfl (gblt rfl) dJ24_afterNodeAccess_50 ?_
    refine g_aload (pc := 52) (x := a1) 2 rfl dJ24_afterNodeAccess_52 ?_
    refine g_aconst_null (pc := 54) dJ24_afterNodeAccess_54 ?_
    refine g_put (pc := 55) k_27 (gblt rfl) lk_J24_14_27 rfl rfl (gNr _ _) dJ24_afterNodeAccess_55 fun h34 => ?_
    refine g_aload (pc := 58) (x := v32) 1 rfl dJ24_afterNodeAccess_58 ?_
    refine g_join 79 (fun (x35 : Unit) => [(0, gr a0), (2, gr v31), (4, gr a1), (5, gr v32), (6, gr v33)]) (fun (x35 : Unit) => []) (fun x35 h36 => ?_) (fun j37 Hj37 => ?_)
    · refine g_aload (pc := 79) (x := v33) 4 rfl dJ24_afterNodeAccess_79 ?_
      refine g_join 97 (fun (x38 : Option Nat) => [(0, gr a0), (2, gr x38), (4, gr a1)]) (fun (x38 : Option Nat) => []) (fun x38 h39 => ?_) (fun j40 Hj40 => ?_)
      · refine g_aload_n (pc := 97) (x := x38) 1 rfl rfl dJ24_afterNodeAccess_97 ?_
        refine g_join 122 (fun (x41 : Unit) => [(0, gr a0), (4, gr a1)]) (fun (x41 : Unit) => []) (fun x41 h42 => ?_) (fun j43 Hj43 => ?_)
        · refine g_aload_n (pc := 122) (x := a0) 0 rfl rfl dJ24_afterNodeAccess_122 ?_
          refine g_aload (pc := 123) (x := a1) 1 rfl dJ24_afterNodeAccess_123 ?_
          refine g_put (pc := 125) k_26 (gblt rfl) lk_J24_11_26 rfl rfl (gNr _ _) dJ24_afterNodeAccess_125 fun h44 => ?_
          refine g_aload_n (pc := 128) (x := a0) 0 rfl rfl dJ24_afterNodeAccess_128 ?_
          refine g_dup (pc := 129) rfl dJ24_afterNodeAccess_129 ?_
          refine g_getfi (pc := 130) k_26 (gblt rfl) lk_J24_68_26 dJ24_afterNodeAccess_130 fun v45 => ?_
          refine g_iconst (pc := 133) (v := (1 : Int32)) ic_1 dJ24_afterNodeAccess_133 ?_
          refine g_iadd (pc := 134) dJ24_afterNodeAccess_134 ?_
          refine g_put (pc := 135) k_26 (gblt rfl) lk_J24_68_26 rfl rfl (gNi _) dJ24_afterNodeAccess_135 fun h46 => ?_
          refine g_goto (pc := 138) (tgt := 265) rfl dJ24_afterNodeAccess_138 ?_
          exact g_return (pc := 265) rfl dJ24_afterNodeAccess_265
        refine g_ifnonnull (pc := 98) (tgt := 110) rfl dJ24_afterNodeAccess_98 ?_ ?_
        · refine g_aload_n (pc := 101) (x := a0) 0 rfl rfl dJ24_afterNodeAccess_101 ?_
          refine g_aload (pc := 102) (x := a1) 2 rfl dJ24_afterNodeAccess_102 ?_
          refine g_put (pc := 104) k_26 (gblt rfl) lk_J24_7_26 rfl rfl (gNr _ _) dJ24_afterNodeAccess_104 fun h49 => ?_
          refine g_goto (pc := 107) (tgt := 122) rfl dJ24_afterNodeAccess_107 ?_
          exact g_sub [0, 2] rfl (Hj43 () h49)
        refine g_aload (pc := 110) (x := a1) 2 rfl dJ24_afterNodeAccess_110 ?_
        refine g_aload_n (pc := 112) (x := x38) 1 rfl rfl dJ24_afterNodeAccess_112 ?_
        refine g_put (pc := 113) k_27 (gblt rfl) lk_J24_19_27 rfl rfl (gNr _ _) dJ24_afterNodeAccess_113 fun h47 => ?_
        refine g_aload_n (pc := 116) (x := x38) 1 rfl rfl dJ24_afterNodeAccess_116 ?_
        refine g_aload (pc := 117) (x := a1) 2 rfl dJ24_afterNodeAccess_117 ?_
        refine g_put (pc := 119) k_27 (gblt rfl) lk_J24_14_27 rfl rfl (gNr _ _) dJ24_afterNodeAccess_119 fun h48 => ?_
        exact g_sub [0, 2] rfl (Hj43 () h48)
      refine g_ifnull (pc := 81) (tgt := 94) rfl dJ24_afterNodeAccess_81 ?_ ?_
      · refine g_aload (pc := 94) (x := v32) 3 rfl dJ24_afterNodeAccess_94 ?_
        refine g_astore_n (pc := 96) (lv' := [(2, gr v32), (0, gr a0), (4, gr a1)]) [0, 1, 2] rfl rfl (gblt rfl) dJ24_afterNodeAccess_96 ?_
        exact g_sub [1, 0, 2] rfl (Hj40 v32 h36)
      refine g_aload (pc := 84) (x := v33) 4 rfl dJ24_afterNodeAccess_84 ?_
      refine g_aload (pc := 86) (x := v32) 3 rfl dJ24_afterNodeAccess_86 ?_
      refine g_put (pc := 88) k_27 (gblt rfl) lk_J24_19_27 rfl rfl (gNr _ _) dJ24_afterNodeAccess_88 fun h50 => ?_
      refine g_goto (pc := 91) (tgt := 97) rfl dJ24_afterNodeAccess_91 ?_
      exact g_sub [0, 1, 2] rfl (Hj40 v31 h50)
    refine g_ifnonnull (pc := 60) (tgt := 72) rfl dJ24_afterNodeAccess_60 ?_ ?_
    rotate_left
    · refine g_aload (pc := 72) (x := v32) 1 rfl dJ24_afterNodeAccess_72 ?_
      refine g_aload (pc := 74) (x := v33) 0 rfl dJ24_afterNodeAccess_74 ?_
      refine g_put (pc := 76) k_27 (gblt rfl) lk_J24_14_27 rfl rfl (gNr _ _) dJ24_afterNodeAccess_76 fun h51 => ?_
      exact g_sub [4, 3, 2, 1, 0] rfl (Hj37 () h51)
    refine g_aload_n (pc := 63) (x := a0) 4 rfl rfl dJ24_afterNodeAccess_63 ?_
    refine g_aload (pc := 64) (x := v33) 0 rfl dJ24_afterNodeAccess_64 ?_
    refine g_put (pc := 66) k_26 (gblt rfl) lk_J24_7_26 rfl rfl (gNr _ _) dJ24_afterNodeAccess_66 fun h52 => ?_
    refine g_goto (pc := 69) (tgt := 79) rfl dJ24_afterNodeAccess_69 ?_
    exact g_sub [4, 3, 2, 1, 0] rfl (Hj37 () h52)
  refine g_icmp_eq (pc := 5) (tgt := 22) rfl dJ24_afterNodeAccess_5 ?_ ?_
  · exact Hj30 () h
  refine g_aload_n (pc := 8) (x := a0) 0 rfl rfl dJ24_afterNodeAccess_8 ?_
  refine g_getfi (pc := 9) k_26 (gblt rfl) lk_J24_1_26 dJ24_afterNodeAccess_9 fun v53 => ?_
  refine g_if_ne (pc := 12) (tgt := 141) rfl dJ24_afterNodeAccess_12 ?_ ?_
  rotate_left
  · exact Hj4 () h
  refine g_aload_n (pc := 15) (x := a0) 0 rfl rfl dJ24_afterNodeAccess_15 ?_
  refine g_getfi (pc := 16) k_26 (gblt rfl) lk_J24_64_26 dJ24_afterNodeAccess_16 fun v54 => ?_
  refine g_if_eq (pc := 19) (tgt := 141) rfl dJ24_afterNodeAccess_19 ?_ ?_
  · exact Hj4 () h
  exact Hj30 () h
/-! java/util/LinkedHashMap.get(Ljava/lang/Object;)Ljava/lang/Object; -/
noncomputable def sJ24_get (G : GG) (N : Nat) (a0 : Option Nat) (a1 : Option Nat) (h : Hp) : Out (Option Nat) :=
  bV h a0 26 (fun q11 => sJ23_getNode_c26 G N (some q11) a1 h) fun v1 h2 =>
  if v1 = none then (some (.inl none, h2))
  else gFi h2 a0 26 10 fun v3 =>
  gJ (fun (x4 : Unit) (h5 : Hp) =>
  gFr h5 v1 27 2 fun v7 =>
  some (.inl v7, h5)) fun j6 =>
  if v3 = 0 then (j6 () h2)
  else bV h2 a0 26 (fun q10 => sJ24_afterNodeAccess G N (some q10) v1 h2) fun v8 h9 =>
  j6 () h9
abbrev mJ24_get : MI := (RJ24, cJ24_get, 3, (some (.object "java/lang/Object")), [], 4, 88, "get")
theorem tJ24_get {G : GG} {l : Launch} (hs : l.stackTraces = false) {N : Nat} {a0 : Option Nat} {a1 : Option Nat} {h : Hp} {r : Option Nat ⊕ Nat} {hf : Hp} (ho : sJ24_get G N a0 a1 h = some (r, hf)) : gMet G l yJ24_get (ws_ yJ24_get cJ24_get 3 (some (.object "java/lang/Object"))) 4 88 [gr a0, gr a1] h cvR r hf := by
  refine gMet.of ho hs (plainFor_of_name pn_J24) rfl rfl (gbl rfl) fun X => ?_
  show gT G l X mJ24_get cvR r hf 0 [(0, gr a0), (1, gr a1)] [] h (sJ24_get G N a0 a1 h)
  delta sJ24_get
  refine g_aload_n (pc := 0) (x := a0) 0 rfl rfl dJ24_get_0 ?_
  refine g_aload_n (pc := 1) (x := a1) 1 rfl rfl dJ24_get_1 ?_
  refine g_bVr (pc := 2) (y := yJ23_getNode) (ws := ws_ yJ23_getNode cJ23_getNode 8 (some (.object "java/util/HashMap$Node"))) (fr := 3) (lo := 61) (as := [gr a1]) (st := []) (g_no) rfl (fun _ _ _ e => tJ23_getNode_c26 hs e) (fun K _ _ _ hq hM R e1 e2 => g_runU (x := ⟨"java/util/LinkedHashMap", "getNode", "(Ljava/lang/Object;)Ljava/util/HashMap$Node;"⟩) (owner := "java/util/HashMap") (M := mJ24_get) (pc := 2) (y := yJ23_getNode) (bytes := cJ23_getNode) (maxL := 8) (ret := (some (.object "java/util/HashMap$Node"))) (fr := 3) (lo := 61) (as := [gr a1]) (st := []) hq (C := "java/util/LinkedHashMap") rfl gy_J23_getNode rfl (gbl rfl) (gbl rfl) (gbl rfl) q2007 q2008 ⟨q2011, _, _, _, q2012⟩ mhx_java_util_HashMap q2010 q2011 dJ24_get_2 K hM R e1 e2) fun v1 h2 => ?_
  refine g_dup (pc := 5) rfl dJ24_get_5 ?_
  refine g_astore_n (pc := 6) (lv' := [(2, gr v1), (0, gr a0)]) [0, 1] rfl rfl (gblt rfl) dJ24_get_6 ?_
  refine g_ifnonnull (pc := 7) (tgt := 12) rfl dJ24_get_7 ?_ ?_
  · refine g_aconst_null (pc := 10) dJ24_get_10 ?_
    exact g_areturn (pc := 11) rfl (Or.inl ⟨_, rfl⟩) dJ24_get_11
  refine g_aload_n (pc := 12) (x := a0) 1 rfl rfl dJ24_get_12 ?_
  refine g_getfi (pc := 13) k_26 (gblt rfl) lk_J24_64_26 dJ24_get_13 fun v3 => ?_
  refine g_join 24 (fun (x4 : Unit) => [(2, gr v1)]) (fun (x4 : Unit) => []) (fun x4 h5 => ?_) (fun j6 Hj6 => ?_)
  · refine g_aload_n (pc := 24) (x := v1) 0 rfl rfl dJ24_get_24 ?_
    refine g_getfr (pc := 25) k_27 (gblt rfl) lk_J24_107_27 dJ24_get_25 fun v7 => ?_
    exact g_areturn (pc := 28) rfl (Or.inl ⟨_, rfl⟩) dJ24_get_28
  refine g_if_eq (pc := 16) (tgt := 24) rfl dJ24_get_16 ?_ ?_
  · exact g_sub [0] rfl (Hj6 () h2)
  refine g_aload_n (pc := 19) (x := a0) 1 rfl rfl dJ24_get_19 ?_
  refine g_aload_n (pc := 20) (x := v1) 0 rfl rfl dJ24_get_20 ?_
  refine g_bVu (pc := 21) (y := yJ24_afterNodeAccess) (ws := ws_ yJ24_afterNodeAccess cJ24_afterNodeAccess 7 none) (fr := 0) (lo := 0) (as := [gr v1]) (st := []) (g_no) rfl (fun _ _ _ e => tJ24_afterNodeAccess hs e) (fun K _ _ _ hq hM R e1 e2 => g_runV (M := mJ24_get) (pc := 21) (y := yJ24_afterNodeAccess) (bytes := cJ24_afterNodeAccess) (maxL := 7) (ret := none) (fr := 0) (lo := 0) (as := [gr v1]) (st := []) hq (C := "java/util/LinkedHashMap") rfl gy_J24_afterNodeAccess (gbl rfl) (gbl rfl) (gbl rfl) q2317 q2318 q2319 dJ24_get_21 K hM R e1 e2) fun v8 h9 => ?_
  exact g_sub [0] rfl (Hj6 () h9)
/-! FlareSlopes$1.counts(LFlareSlopes$Vote;I)Z -/
noncomputable def sX15_counts (G : GG) (N : Nat) (a0 : Option Nat) (a1 : Option Nat) (a2 : Int32) (h : Hp) : Out (Int32) :=
  if a1 = none then (gRtZ (0 : Int32) h)
  else gRtZ (1 : Int32) h
abbrev mX15_counts : MI := (RX15, cX15_counts, 3, (some .boolean), [], 0, 0, "counts")
theorem tX15_counts {G : GG} {l : Launch} (hs : l.stackTraces = false) {N : Nat} {a0 : Option Nat} {a1 : Option Nat} {a2 : Int32} {h : Hp} {r : Int32 ⊕ Nat} {hf : Hp} (ho : sX15_counts G N a0 a1 a2 h = some (r, hf)) : gMet G l yX15_counts (ws_ yX15_counts cX15_counts 3 (some .boolean)) 0 0 [gr a0, gr a1, gi a2] h cvI r hf := by
  refine gMet.of ho hs (plainFor_of_name pn_X15) rfl rfl (gbl rfl) fun X => ?_
  show gT G l X mX15_counts cvI r hf 0 [(0, gr a0), (1, gr a1), (2, gi a2)] [] h (sX15_counts G N a0 a1 a2 h)
  delta sX15_counts
  refine g_aload_n (pc := 0) (x := a1) 1 rfl rfl dX15_counts_0 ?_
  refine g_ifnull (pc := 1) (tgt := 8) rfl dX15_counts_1 ?_ ?_
  · refine g_iconst (pc := 8) (v := (0 : Int32)) ic_0 dX15_counts_8 ?_
    exact g_zreturn (pc := 9) rfl dX15_counts_9
  refine g_iconst (pc := 4) (v := (1 : Int32)) ic_1 dX15_counts_4 ?_
  refine g_goto (pc := 5) (tgt := 9) rfl dX15_counts_5 ?_
  exact g_zreturn (pc := 9) rfl dX15_counts_9
/-! FlareSlopes.has(II)Z -/
noncomputable def sX1_has (G : GG) (N : Nat) (a0 : Int32) (a1 : Int32) (h : Hp) : Out (Int32) :=
  if ((a0 >>> (a1 &&& 31)) &&& (1 : Int32)) = (1 : Int32) then (gRtZ (1 : Int32) h)
  else gRtZ (0 : Int32) h
abbrev mX1_has : MI := (RX1, cX1_has, 2, (some .boolean), [], 0, 0, "has")
theorem tX1_has {G : GG} {l : Launch} (hs : l.stackTraces = false) {N : Nat} {a0 : Int32} {a1 : Int32} {h : Hp} {r : Int32 ⊕ Nat} {hf : Hp} (ho : sX1_has G N a0 a1 h = some (r, hf)) : gMet G l yX1_has (ws_ yX1_has cX1_has 2 (some .boolean)) 0 0 [gi a0, gi a1] h cvI r hf := by
  refine gMet.of ho hs (plainFor_of_name pn_X1) rfl rfl (gbl rfl) fun X => ?_
  show gT G l X mX1_has cvI r hf 0 [(0, gi a0), (1, gi a1)] [] h (sX1_has G N a0 a1 h)
  delta sX1_has
  refine g_iload_n (pc := 0) (x := a0) 0 rfl rfl dX1_has_0 ?_
  refine g_iload_n (pc := 1) (x := a1) 1 rfl rfl dX1_has_1 ?_
  refine g_ishr (pc := 2) dX1_has_2 ?_
  refine g_iconst (pc := 3) (v := (1 : Int32)) ic_1 dX1_has_3 ?_
  refine g_iand (pc := 4) dX1_has_4 ?_
  refine g_iconst (pc := 5) (v := (1 : Int32)) ic_1 dX1_has_5 ?_
  refine g_icmp_ne (pc := 6) (tgt := 13) rfl dX1_has_6 ?_ ?_
  rotate_left
  · refine g_iconst (pc := 13) (v := (0 : Int32)) ic_0 dX1_has_13 ?_
    exact g_zreturn (pc := 14) rfl dX1_has_14
  refine g_iconst (pc := 9) (v := (1 : Int32)) ic_1 dX1_has_9 ?_
  refine g_goto (pc := 10) (tgt := 14) rfl dX1_has_10 ?_
  exact g_zreturn (pc := 14) rfl dX1_has_14
/-! FlareSlopes$State.isDangerous(I)Z -/
noncomputable def sX3_isDangerous (G : GG) (N : Nat) (a0 : Option Nat) (a1 : Int32) (h : Hp) : Out (Int32) :=
  gFi h a0 16 11 fun v1 =>
  bnd (sX1_has G N v1 a1 h) fun v2 h3 =>
  gRtZ v2 h3
abbrev mX3_isDangerous : MI := (RX3, cX3_isDangerous, 2, (some .boolean), [], 1, 21, "isDangerous")
theorem tX3_isDangerous {G : GG} {l : Launch} (hs : l.stackTraces = false) {N : Nat} {a0 : Option Nat} {a1 : Int32} {h : Hp} {r : Int32 ⊕ Nat} {hf : Hp} (ho : sX3_isDangerous G N a0 a1 h = some (r, hf)) : gMet G l yX3_isDangerous (ws_ yX3_isDangerous cX3_isDangerous 2 (some .boolean)) 1 21 [gr a0, gi a1] h cvI r hf := by
  refine gMet.of ho hs (plainFor_of_name pn_X3) rfl rfl (gbl rfl) fun X => ?_
  show gT G l X mX3_isDangerous cvI r hf 0 [(0, gr a0), (1, gi a1)] [] h (sX3_isDangerous G N a0 a1 h)
  delta sX3_isDangerous
  refine g_aload_n (pc := 0) (x := a0) 0 rfl rfl dX3_isDangerous_0 ?_
  refine g_getfi (pc := 1) k_16 (gblt rfl) lk_X3_120_16 dX3_isDangerous_1 fun v1 => ?_
  refine g_iload_n (pc := 4) (x := a1) 1 rfl rfl dX3_isDangerous_4 ?_
  refine g_bi (pc := 5) (y := yX1_has) (ws := ws_ yX1_has cX1_has 2 (some .boolean)) (fr := 0) (lo := 0) (as := [gi v1, gi a1]) (st := []) (g_no) rfl (fun _ _ e => tX1_has hs e) (fun K _ _ hM R e1 e2 => g_runSN (M := mX3_isDangerous) (pc := 5) (y := yX1_has) (bytes := cX1_has) (maxL := 2) (ret := (some .boolean)) (fr := 0) (lo := 0) (as := [gi v1, gi a1]) (st := []) gy_X1_has (gbl rfl) (gbl rfl) (gbl rfl) q2336 q2337 dX3_isDangerous_5 K hM R e1 e2) fun v2 h3 => ?_
  exact g_zreturn (pc := 8) rfl dX3_isDangerous_8
/-! FlareSlopes$Vote.isFalse(Z)Z -/
noncomputable def sX17_isFalse (G : GG) (N : Nat) (a0 : Option Nat) (a1 : Int32) (h : Hp) : Out (Int32) :=
  gFi h a0 17 0 fun v1 =>
  if v1 = a1 then (gRtZ (0 : Int32) h)
  else gRtZ (1 : Int32) h
abbrev mX17_isFalse : MI := (RX17, cX17_isFalse, 2, (some .boolean), [], 0, 0, "isFalse")
theorem tX17_isFalse {G : GG} {l : Launch} (hs : l.stackTraces = false) {N : Nat} {a0 : Option Nat} {a1 : Int32} {h : Hp} {r : Int32 ⊕ Nat} {hf : Hp} (ho : sX17_isFalse G N a0 a1 h = some (r, hf)) : gMet G l yX17_isFalse (ws_ yX17_isFalse cX17_isFalse 2 (some .boolean)) 0 0 [gr a0, gi a1] h cvI r hf := by
  refine gMet.of ho hs (plainFor_of_name pn_X17) rfl rfl (gbl rfl) fun X => ?_
  show gT G l X mX17_isFalse cvI r hf 0 [(0, gr a0), (1, gi a1)] [] h (sX17_isFalse G N a0 a1 h)
  delta sX17_isFalse
  refine g_aload_n (pc := 0) (x := a0) 0 rfl rfl dX17_isFalse_0 ?_
  refine g_getfi (pc := 1) k_17 (gblt rfl) lk_X17_7_17 dX17_isFalse_1 fun v1 => ?_
  refine g_iload_n (pc := 4) (x := a1) 1 rfl rfl dX17_isFalse_4 ?_
  refine g_icmp_eq (pc := 5) (tgt := 12) rfl dX17_isFalse_5 ?_ ?_
  · refine g_iconst (pc := 12) (v := (0 : Int32)) ic_0 dX17_isFalse_12 ?_
    exact g_zreturn (pc := 13) rfl dX17_isFalse_13
  refine g_iconst (pc := 8) (v := (1 : Int32)) ic_1 dX17_isFalse_8 ?_
  refine g_goto (pc := 9) (tgt := 13) rfl dX17_isFalse_9 ?_
  exact g_zreturn (pc := 13) rfl dX17_isFalse_13
/-! FlareSlopes$2.counts(LFlareSlopes$Vote;I)Z -/
noncomputable def sX16_counts (G : GG) (N : Nat) (a0 : Option Nat) (a1 : Option Nat) (a2 : Int32) (h : Hp) : Out (Int32) :=
  gJ (fun (x1 : Unit) (h2 : Hp) =>
  gRtZ (0 : Int32) h2) fun j3 =>
  if a1 = none then (j3 () h)
  else gFr h a0 5 0 fun v4 =>
  gFr h v4 3 4 fun v5 =>
  bV h v5 16 (fun q11 => sX3_isDangerous G N (some q11) a2 h) fun v6 h7 =>
  bV h7 a1 17 (fun q10 => sX17_isFalse G N (some q10) v6 h7) fun v8 h9 =>
  if v8 = 0 then (j3 () h9)
  else gRtZ (1 : Int32) h9
abbrev mX16_counts : MI := (RX16, cX16_counts, 3, (some .boolean), [], 2, 42, "counts")
theorem tX16_counts {G : GG} {l : Launch} (hs : l.stackTraces = false) {N : Nat} {a0 : Option Nat} {a1 : Option Nat} {a2 : Int32} {h : Hp} {r : Int32 ⊕ Nat} {hf : Hp} (ho : sX16_counts G N a0 a1 a2 h = some (r, hf)) : gMet G l yX16_counts (ws_ yX16_counts cX16_counts 3 (some .boolean)) 2 42 [gr a0, gr a1, gi a2] h cvI r hf := by
  refine gMet.of ho hs (plainFor_of_name pn_X16) rfl rfl (gbl rfl) fun X => ?_
  show gT G l X mX16_counts cvI r hf 0 [(0, gr a0), (1, gr a1), (2, gi a2)] [] h (sX16_counts G N a0 a1 a2 h)
  delta sX16_counts
  refine g_aload_n (pc := 0) (x := a1) 1 rfl rfl dX16_counts_0 ?_
  refine g_join 26 (fun (x1 : Unit) => []) (fun (x1 : Unit) => []) (fun x1 h2 => ?_) (fun j3 Hj3 => ?_)
  · refine g_iconst (pc := 26) (v := (0 : Int32)) ic_0 dX16_counts_26 ?_
    exact g_zreturn (pc := 27) rfl dX16_counts_27
  refine g_ifnull (pc := 1) (tgt := 26) rfl dX16_counts_1 ?_ ?_
  · exact g_sub [] rfl (Hj3 () h)
  refine g_aload_n (pc := 4) (x := a1) 1 rfl rfl dX16_counts_4 ?_
  refine g_aload_n (pc := 5) (x := a0) 0 rfl rfl dX16_counts_5 ?_
  refine g_getfr (pc := 6) k_5 (gblt rfl) lk_X16_1_5 dX16_counts_6 fun v4 => ?_
  refine g_getfr (pc := 9) k_3 (gblt rfl) lk_X16_13_3 dX16_counts_9 fun v5 => ?_
  refine g_iload_n (pc := 12) (x := a2) 2 rfl rfl dX16_counts_12 ?_
  refine g_bVi (pc := 13) (y := yX3_isDangerous) (ws := ws_ yX3_isDangerous cX3_isDangerous 2 (some .boolean)) (fr := 1) (lo := 21) (as := [gi a2]) (st := [gr a1]) (g_no) rfl (fun _ _ _ e => tX3_isDangerous hs e) (fun K _ _ _ hq hM R e1 e2 => g_runV (M := mX16_counts) (pc := 13) (y := yX3_isDangerous) (bytes := cX3_isDangerous) (maxL := 2) (ret := (some .boolean)) (fr := 1) (lo := 21) (as := [gi a2]) (st := [gr a1]) hq (C := "FlareSlopes$State") rfl gy_X3_isDangerous (gbl rfl) (gbl rfl) (gbl rfl) q2332 q2333 q2334 dX16_counts_13 K hM R e1 e2) fun v6 h7 => ?_
  refine g_bVi (pc := 16) (y := yX17_isFalse) (ws := ws_ yX17_isFalse cX17_isFalse 2 (some .boolean)) (fr := 0) (lo := 0) (as := [gi v6]) (st := []) (g_no) rfl (fun _ _ _ e => tX17_isFalse hs e) (fun K _ _ _ hq hM R e1 e2 => g_runV (M := mX16_counts) (pc := 16) (y := yX17_isFalse) (bytes := cX17_isFalse) (maxL := 2) (ret := (some .boolean)) (fr := 0) (lo := 0) (as := [gi v6]) (st := []) hq (C := "FlareSlopes$Vote") rfl gy_X17_isFalse (gbl rfl) (gbl rfl) (gbl rfl) q2339 q2340 q2341 dX16_counts_16 K hM R e1 e2) fun v8 h9 => ?_
  refine g_if_eq (pc := 19) (tgt := 26) rfl dX16_counts_19 ?_ ?_
  · exact g_sub [] rfl (Hj3 () h9)
  refine g_iconst (pc := 22) (v := (1 : Int32)) ic_1 dX16_counts_22 ?_
  refine g_goto (pc := 23) (tgt := 27) rfl dX16_counts_23 ?_
  exact g_zreturn (pc := 27) rfl dX16_counts_27
/-! FlareSlopes$State.votesOf(ILFlareSlopes$Judge;)I -/
noncomputable def bX3_votesOf_38 (G : GG) (N : Nat) (a0 : Option Nat) (a1 : Int32) (a2 : Option Nat) (v9 : Option Nat) (j13 : (Int32) → Hp → Out (Int32)) (w16 : (Int32 × Int32) → Hp → Out (Int32)) (x14 : Int32 × Int32) (h15 : Hp) : Out (Int32) :=
  bV h15 a0 16 (fun q36 => sX3_slopes G N (some q36) h15) fun v17 h18 =>
  if v17 ≤ x14.2 then (j13 x14.1 h18)
  else gFr h18 v9 7 8 fun v19 =>
  gFr h18 a0 16 0 fun v20 =>
  bV h18 v20 11 (fun q35 => sX5_key G N (some q35) a1 x14.2 h18) fun v21 h22 =>
  bV h22 v19 26 (fun q34 => sJ24_get G N (some q34) v21 h22) fun v23 h24 =>
  gCk h24 v23 [17] (gJ (fun (v25 : Int32) (h26 : Hp) =>
  gJ (fun (x28 : Int32) (h29 : Hp) =>
  gLet (x14.1 + x28) fun v31 =>
  w16 (v31, x14.2 + (1 : Int32)) h29) fun j30 =>
  if v25 = 0 then (j30 (0 : Int32) h26)
  else j30 (1 : Int32) h26) fun j27 =>
  gSw h24 a2 4 (bV h24 a2 4 (fun q32 => sX15_counts G N (some q32) v23 x14.2 h24) j27) (bV h24 a2 5 (fun q33 => sX16_counts G N (some q33) v23 x14.2 h24) j27))
noncomputable def bX3_votesOf_13 (G : GG) (N : Nat) (a0 : Option Nat) (a1 : Int32) (a2 : Option Nat) (v2 : Option Nat) (w6 : (Int32) → Hp → Out (Int32)) (x4 : Int32) (h5 : Hp) : Out (Int32) :=
  bV h5 v2 25 (fun q38 => sJ26_hasNext G N (some q38) h5) fun v7 h8 =>
  if v7 = 0 then (some (.inl x4, h8))
  else bV h8 v2 25 (fun q37 => sJ26_next G N (some q37) h8) fun v9 h10 =>
  gCk h10 v9 [7] (gJ (fun (x11 : Int32) (h12 : Hp) =>
  w6 x11 h12) fun j13 =>
  gLp (bX3_votesOf_38 G N a0 a1 a2 v9 j13) N (x4, (0 : Int32)) h10)
noncomputable def sX3_votesOf (G : GG) (N : Nat) (a0 : Option Nat) (a1 : Int32) (a2 : Option Nat) (h : Hp) : Out (Int32) :=
  gFr h a0 16 1 fun v1 =>
  bV h v1 24 (fun q39 => sJ12_iterator G N (some q39) h) fun v2 h3 =>
  gLp (bX3_votesOf_13 G N a0 a1 a2 v2) N (0 : Int32) h3
abbrev mX3_votesOf : MI := (RX3, cX3_votesOf, 7, (some .int), [], 5, 110, "votesOf")
theorem tX3_votesOf {G : GG} {l : Launch} (hs : l.stackTraces = false) {N : Nat} {a0 : Option Nat} {a1 : Int32} {a2 : Option Nat} {h : Hp} {r : Int32 ⊕ Nat} {hf : Hp} (ho : sX3_votesOf G N a0 a1 a2 h = some (r, hf)) : gMet G l yX3_votesOf (ws_ yX3_votesOf cX3_votesOf 7 (some .int)) 5 110 [gr a0, gi a1, gr a2] h cvI r hf := by
  refine gMet.of ho hs (plainFor_of_name pn_X3) rfl rfl (gbl rfl) fun X => ?_
  show gT G l X mX3_votesOf cvI r hf 0 [(0, gr a0), (1, gi a1), (2, gr a2)] [] h (sX3_votesOf G N a0 a1 a2 h)
  delta sX3_votesOf
  refine g_iconst (pc := 0) (v := (0 : Int32)) ic_0 dX3_votesOf_0 ?_
  refine g_istore_n (pc := 1) (lv' := [(3, gi (0 : Int32)), (0, gr a0), (1, gi a1), (2, gr a2)]) [0, 1, 2, 3] rfl rfl (gblt rfl) dX3_votesOf_1 ?_
  refine g_aload_n (pc := 2) (x := a0) 1 rfl rfl dX3_votesOf_2 ?_
  refine g_getfr (pc := 3) k_16 (gblt rfl) lk_X3_12_16 dX3_votesOf_3 fun v1 => ?_
  refine g_bVr (pc := 6) (y := yJ12_iterator) (ws := ws_ yJ12_iterator cJ12_iterator 1 (some (.object "java/util/Iterator"))) (fr := 2) (lo := 33) (as := []) (st := []) (g_no) rfl (fun _ _ _ e => tJ12_iterator hs e) (fun K _ _ _ hq hM R e1 e2 => g_runF (x := ⟨"java/util/List", "iterator", "()Ljava/util/Iterator;"⟩) (M := mX3_votesOf) (pc := 6) (y := yJ12_iterator) (bytes := cJ12_iterator) (maxL := 1) (ret := (some (.object "java/util/Iterator"))) (fr := 2) (lo := 33) (as := []) (st := []) hq (C := "java/util/ArrayList") rfl gy_J12_iterator rfl (gbl rfl) (gbl rfl) (gbl rfl) q1475 q1477 q1476 q1481 q1479 q971 mhx_java_util_List q1478 q1480 dX3_votesOf_6 K hM R e1 e2) fun v2 h3 => ?_
  refine g_astore (pc := 11) (lv' := [(4, gr v2), (3, gi (0 : Int32)), (0, gr a0), (1, gi a1), (2, gr a2)]) [0, 1, 2, 3, 4] rfl (gblt rfl) dX3_votesOf_11 ?_
  refine g_sub (lv' := [(0, gr a0), (1, gi a1), (2, gr a2), (3, gi (0 : Int32)), (4, gr v2)]) [2, 3, 4, 1, 0] rfl ?_
  refine g_loop (pc := 13) (fun (x4 : Int32) => [(0, gr a0), (1, gi a1), (2, gr a2), (3, gi x4), (4, gr v2)]) (fun (_ : Int32) => []) (fun w6 Hw6 x4 h5 => ?_) N (0 : Int32) h3
  delta bX3_votesOf_13
  refine g_aload (pc := 13) (x := v2) 4 rfl dX3_votesOf_13 ?_
  refine g_bVi (pc := 15) (y := yJ26_hasNext) (ws := ws_ yJ26_hasNext cJ26_hasNext 1 (some .boolean)) (fr := 0) (lo := 0) (as := []) (st := []) (g_no) rfl (fun _ _ _ e => tJ26_hasNext hs e) (fun K _ _ _ hq hM R e1 e2 => g_runF (x := ⟨"java/util/Iterator", "hasNext", "()Z"⟩) (M := mX3_votesOf) (pc := 15) (y := yJ26_hasNext) (bytes := cJ26_hasNext) (maxL := 1) (ret := (some .boolean)) (fr := 0) (lo := 0) (as := []) (st := []) hq (C := "java/util/ArrayList$Itr") rfl gy_J26_hasNext rfl (gbl rfl) (gbl rfl) (gbl rfl) q1503 q1505 q1504 q1516 q1514 q1512 mhx_java_util_Iterator q1513 q1515 dX3_votesOf_15 K hM R e1 e2) fun v7 h8 => ?_
  refine g_if_eq (pc := 20) (tgt := 96) rfl dX3_votesOf_20 ?_ ?_
  · refine g_iload_n (pc := 96) (x := x4) 3 rfl rfl dX3_votesOf_96 ?_
    exact g_ireturn (pc := 97) rfl dX3_votesOf_97
  refine g_aload (pc := 23) (x := v2) 4 rfl dX3_votesOf_23 ?_
  refine g_bVr (pc := 25) (y := yJ26_next) (ws := ws_ yJ26_next cJ26_next 3 (some (.object "java/lang/Object"))) (fr := 1) (lo := 20) (as := []) (st := []) (g_no) rfl (fun _ _ _ e => tJ26_next hs e) (fun K _ _ _ hq hM R e1 e2 => g_runF (x := ⟨"java/util/Iterator", "next", "()Ljava/lang/Object;"⟩) (M := mX3_votesOf) (pc := 25) (y := yJ26_next) (bytes := cJ26_next) (maxL := 3) (ret := (some (.object "java/lang/Object"))) (fr := 1) (lo := 20) (as := []) (st := []) hq (C := "java/util/ArrayList$Itr") rfl gy_J26_next rfl (gbl rfl) (gbl rfl) (gbl rfl) q1537 q1539 q1538 q1554 q1552 q1512 mhx_java_util_Iterator q1551 q1553 dX3_votesOf_25 K hM R e1 e2) fun v9 h10 => ?_
  refine g_checkcast (pc := 30) q1230 as_7_FlareSlopes_Cabin dX3_votesOf_30 ?_
  refine g_astore (pc := 33) (lv' := [(5, gr v9), (0, gr a0), (1, gi a1), (2, gr a2), (3, gi x4), (4, gr v2)]) [0, 1, 2, 3, 4, 5] rfl (gblt rfl) dX3_votesOf_33 ?_
  refine g_iconst (pc := 35) (v := (0 : Int32)) ic_0 dX3_votesOf_35 ?_
  refine g_istore (pc := 36) (lv' := [(6, gi (0 : Int32)), (5, gr v9), (0, gr a0), (1, gi a1), (2, gr a2), (3, gi x4), (4, gr v2)]) [0, 1, 2, 3, 4, 5, 6] rfl (gblt rfl) dX3_votesOf_36 ?_
  refine g_join 93 (fun (x11 : Int32) => [(0, gr a0), (1, gi a1), (2, gr a2), (3, gi x11), (4, gr v2)]) (fun (x11 : Int32) => []) (fun x11 h12 => ?_) (fun j13 Hj13 => ?_)
  · refine g_goto (pc := 93) (tgt := 13) rfl dX3_votesOf_93 ?_
    exact Hw6 x11 h12
  refine g_sub (lv' := [(0, gr a0), (1, gi a1), (2, gr a2), (3, gi x4), (4, gr v2), (5, gr v9), (6, gi (0 : Int32))]) [2, 3, 4, 5, 6, 1, 0] rfl ?_
  refine g_loop (pc := 38) (fun (x14 : Int32 × Int32) => [(0, gr a0), (1, gi a1), (2, gr a2), (3, gi x14.1), (4, gr v2), (5, gr v9), (6, gi x14.2)]) (fun (_ : Int32 × Int32) => []) (fun w16 Hw16 x14 h15 => ?_) N (x4, (0 : Int32)) h10
  delta bX3_votesOf_38
  refine g_iload (pc := 38) (x := x14.2) 6 rfl dX3_votesOf_38 ?_
  refine g_aload_n (pc := 40) (x := a0) 0 rfl rfl dX3_votesOf_40 ?_
  refine g_bVi (pc := 41) (y := yX3_slopes) (ws := ws_ yX3_slopes cX3_slopes 1 (some .int)) (fr := 2) (lo := 40) (as := []) (st := [gi x14.2]) (g_no) rfl (fun _ _ _ e => tX3_slopes hs e) (fun K _ _ _ hq hM R e1 e2 => g_runV (M := mX3_votesOf) (pc := 41) (y := yX3_slopes) (bytes := cX3_slopes) (maxL := 1) (ret := (some .int)) (fr := 2) (lo := 40) (as := []) (st := [gi x14.2]) hq (C := "FlareSlopes$State") rfl gy_X3_slopes (gbl rfl) (gbl rfl) (gbl rfl) q1993 q1465 q1466 dX3_votesOf_41 K hM R e1 e2) fun v17 h18 => ?_
  refine g_icmp_ge (pc := 44) (tgt := 93) rfl dX3_votesOf_44 ?_ ?_
  · exact g_sub [0, 1, 2, 3, 4] rfl (Hj13 x14.1 h18)
  refine g_iload_n (pc := 47) (x := x14.1) 3 rfl rfl dX3_votesOf_47 ?_
  refine g_aload_n (pc := 48) (x := a2) 2 rfl rfl dX3_votesOf_48 ?_
  refine g_aload (pc := 49) (x := v9) 5 rfl dX3_votesOf_49 ?_
  refine g_getfr (pc := 51) k_7 (gblt rfl) lk_X3_188_7 dX3_votesOf_51 fun v19 => ?_
  refine g_aload_n (pc := 54) (x := a0) 0 rfl rfl dX3_votesOf_54 ?_
  refine g_getfr (pc := 55) k_16 (gblt rfl) lk_X3_35_16 dX3_votesOf_55 fun v20 => ?_
  refine g_iload_n (pc := 58) (x := a1) 1 rfl rfl dX3_votesOf_58 ?_
  refine g_iload (pc := 59) (x := x14.2) 6 rfl dX3_votesOf_59 ?_
  refine g_bVr (pc := 61) (y := yX5_key) (ws := ws_ yX5_key cX5_key 3 (some (.object "FlareSlopes$Key"))) (fr := 0) (lo := 0) (as := [gi a1, gi x14.2]) (st := [gr v19, gr a2, gi x14.1]) (g_no) rfl (fun _ _ _ e => tX5_key hs e) (fun K _ _ _ hq hM R e1 e2 => g_runV (M := mX3_votesOf) (pc := 61) (y := yX5_key) (bytes := cX5_key) (maxL := 3) (ret := (some (.object "FlareSlopes$Key"))) (fr := 0) (lo := 0) (as := [gi a1, gi x14.2]) (st := [gr v19, gr a2, gi x14.1]) hq (C := "FlareSlopes$Mountain") rfl gy_X5_key (gbl rfl) (gbl rfl) (gbl rfl) q1994 q1995 q1996 dX3_votesOf_61 K hM R e1 e2) fun v21 h22 => ?_
  refine g_bVr (pc := 64) (y := yJ24_get) (ws := ws_ yJ24_get cJ24_get 3 (some (.object "java/lang/Object"))) (fr := 4) (lo := 88) (as := [gr v21]) (st := [gr a2, gi x14.1]) (g_no) rfl (fun _ _ _ e => tJ24_get hs e) (fun K _ _ _ hq hM R e1 e2 => g_runF (x := ⟨"java/util/Map", "get", "(Ljava/lang/Object;)Ljava/lang/Object;"⟩) (M := mX3_votesOf) (pc := 64) (y := yJ24_get) (bytes := cJ24_get) (maxL := 3) (ret := (some (.object "java/lang/Object"))) (fr := 4) (lo := 88) (as := [gr v21]) (st := [gr a2, gi x14.1]) hq (C := "java/util/LinkedHashMap") rfl gy_J24_get rfl (gbl rfl) (gbl rfl) (gbl rfl) q1999 q2001 q2000 q2005 q2003 q1613 mhx_java_util_Map q2002 q2004 dX3_votesOf_64 K hM R e1 e2) fun v23 h24 => ?_
  refine g_checkcast (pc := 69) q2322 as_17_FlareSlopes_Vote dX3_votesOf_69 ?_
  refine g_iload (pc := 72) (x := x14.2) 6 rfl dX3_votesOf_72 ?_
  refine g_join 77 (fun (_ : Int32) => [(0, gr a0), (1, gi a1), (2, gr a2), (3, gi x14.1), (4, gr v2), (5, gr v9), (6, gi x14.2)]) (fun (v25 : Int32) => [gi v25, gi x14.1]) (fun v25 h26 => ?_) (fun j27 Hj27 => ?_)
  · refine g_join 85 (fun (x28 : Int32) => [(0, gr a0), (1, gi a1), (2, gr a2), (4, gr v2), (5, gr v9), (6, gi x14.2)]) (fun (x28 : Int32) => [gi x28, gi x14.1]) (fun x28 h29 => ?_) (fun j30 Hj30 => ?_)
    · refine g_iadd (pc := 85) dX3_votesOf_85 ?_
      refine g_leti fun v31 => ?_
      refine g_istore_n (pc := 86) (lv' := [(3, gi v31), (0, gr a0), (1, gi a1), (2, gr a2), (4, gr v2), (5, gr v9), (6, gi x14.2)]) [0, 1, 2, 3, 4, 5, 6] rfl rfl (gblt rfl) dX3_votesOf_86 ?_
      refine g_iinc (pc := 87) (v := x14.2 + (1 : Int32)) 6 rfl (ii_1 _) (lv' := [(6, gi (x14.2 + (1 : Int32))), (3, gi v31), (0, gr a0), (1, gi a1), (2, gr a2), (4, gr v2), (5, gr v9)]) [0, 1, 2, 3, 4, 5, 6] rfl (gblt rfl) dX3_votesOf_87 ?_
      refine g_goto (pc := 90) (tgt := 38) rfl dX3_votesOf_90 ?_
      exact g_sub [2, 3, 4, 1, 5, 6, 0] rfl (Hw16 (v31, x14.2 + (1 : Int32)) h29)
    refine g_if_eq (pc := 77) (tgt := 84) rfl dX3_votesOf_77 ?_ ?_
    · refine g_iconst (pc := 84) (v := (0 : Int32)) ic_0 dX3_votesOf_84 ?_
      exact g_sub [0, 1, 2, 4, 5, 6] rfl (Hj30 (0 : Int32) h26)
    refine g_iconst (pc := 80) (v := (1 : Int32)) ic_1 dX3_votesOf_80 ?_
    refine g_goto (pc := 81) (tgt := 85) rfl dX3_votesOf_81 ?_
    exact g_sub [0, 1, 2, 4, 5, 6] rfl (Hj30 (1 : Int32) h26)
  refine g_sw ?_ ?_
  · exact g_bVi (pc := 74) (y := yX15_counts) (ws := ws_ yX15_counts cX15_counts 3 (some .boolean)) (fr := 0) (lo := 0) (as := [gr v23, gi x14.2]) (st := [gi x14.1]) (g_no) rfl (fun _ _ _ e => tX15_counts hs e) (fun K _ _ _ hq hM R e1 e2 => g_runUA (x := ⟨"FlareSlopes$Judge", "counts", "(LFlareSlopes$Vote;I)Z"⟩) (owner := "FlareSlopes$Judge") (M := mX3_votesOf) (pc := 74) (y := yX15_counts) (bytes := cX15_counts) (maxL := 3) (ret := (some .boolean)) (fr := 0) (lo := 0) (as := [gr v23, gi x14.2]) (st := [gi x14.1]) hq (C := "FlareSlopes$1") rfl gy_X15_counts rfl (gbl rfl) (gbl rfl) (gbl rfl) q2323 q2325 q2324 mhx_FlareSlopes_Judge q2326 q2327 dX3_votesOf_74 K hM R e1 e2) Hj27
  exact g_bVi (pc := 74) (y := yX16_counts) (ws := ws_ yX16_counts cX16_counts 3 (some .boolean)) (fr := 2) (lo := 42) (as := [gr v23, gi x14.2]) (st := [gi x14.1]) (g_no) rfl (fun _ _ _ e => tX16_counts hs e) (fun K _ _ _ hq hM R e1 e2 => g_runUA (x := ⟨"FlareSlopes$Judge", "counts", "(LFlareSlopes$Vote;I)Z"⟩) (owner := "FlareSlopes$Judge") (M := mX3_votesOf) (pc := 74) (y := yX16_counts) (bytes := cX16_counts) (maxL := 3) (ret := (some .boolean)) (fr := 2) (lo := 42) (as := [gr v23, gi x14.2]) (st := [gi x14.1]) hq (C := "FlareSlopes$2") rfl gy_X16_counts rfl (gbl rfl) (gbl rfl) (gbl rfl) q2323 q2325 q2324 mhx_FlareSlopes_Judge q2329 q2330 dX3_votesOf_74 K hM R e1 e2) Hj27
/-! FlareSlopes.votesOfAll(I)I -/
noncomputable def sX1_votesOfAll (G : GG) (N : Nat) (a0 : Option Nat) (a1 : Int32) (h : Hp) : Out (Int32) :=
  gFr h a0 3 4 fun v1 =>
  gNew h 4 [.null] 1 fun v2 h3 =>
  bI v2 (fun q9 => sX15_init G N (some q9) a0 h3) fun v4 h5 =>
  bV h5 v1 16 (fun q8 => sX3_votesOf G N (some q8) a1 v2 h5) fun v6 h7 =>
  some (.inl v6, h7)
abbrev mX1_votesOfAll : MI := (RX1, cX1_votesOfAll, 2, (some .int), [], 6, 136, "votesOfAll")
theorem tX1_votesOfAll {G : GG} {l : Launch} (hs : l.stackTraces = false) {N : Nat} {a0 : Option Nat} {a1 : Int32} {h : Hp} {r : Int32 ⊕ Nat} {hf : Hp} (ho : sX1_votesOfAll G N a0 a1 h = some (r, hf)) : gMet G l yX1_votesOfAll (ws_ yX1_votesOfAll cX1_votesOfAll 2 (some .int)) 6 136 [gr a0, gi a1] h cvI r hf := by
  refine gMet.of ho hs (plainFor_of_name pn_X1) rfl rfl (gbl rfl) fun X => ?_
  show gT G l X mX1_votesOfAll cvI r hf 0 [(0, gr a0), (1, gi a1)] [] h (sX1_votesOfAll G N a0 a1 h)
  delta sX1_votesOfAll
  refine g_aload_n (pc := 0) (x := a0) 0 rfl rfl dX1_votesOfAll_0 ?_
  refine g_getfr (pc := 1) k_3 (gblt rfl) lk_X1_56_3 dX1_votesOfAll_1 fun v1 => ?_
  refine g_iload_n (pc := 4) (x := a1) 1 rfl rfl dX1_votesOfAll_4 ?_
  refine g_new (pc := 5) k_4 df_4 q1976 q1977 q181 dX1_votesOfAll_5 fun v2 h3 => ?_
  refine g_dup (pc := 8) rfl dX1_votesOfAll_8 ?_
  refine g_aload_n (pc := 9) (x := a0) 0 rfl rfl dX1_votesOfAll_9 ?_
  refine g_bIu (pc := 10) (y := yX15_init) (ws := ws_ yX15_init cX15_init 2 none) (fr := 2) (lo := 32) (as := [gr a0]) (st := [gr v2, gi a1, gr v1]) (g_no) rfl (fun _ _ _ e => tX15_init hs e) (fun K _ _ _ hM R e1 e2 => g_runI (M := mX1_votesOfAll) (pc := 10) (y := yX15_init) (bytes := cX15_init) (maxL := 2) (ret := none) (fr := 2) (lo := 32) (as := [gr a0]) (st := [gr v2, gi a1, gr v1]) gy_X15_init (gbl rfl) (gbl rfl) (gbl rfl) rfl q1978 q1979 rfl dX1_votesOfAll_10 K hM R e1 e2) fun v4 h5 => ?_
  refine g_bVi (pc := 13) (y := yX3_votesOf) (ws := ws_ yX3_votesOf cX3_votesOf 7 (some .int)) (fr := 5) (lo := 110) (as := [gi a1, gr v2]) (st := []) (g_no) rfl (fun _ _ _ e => tX3_votesOf hs e) (fun K _ _ _ hq hM R e1 e2 => g_runV (M := mX1_votesOfAll) (pc := 13) (y := yX3_votesOf) (bytes := cX3_votesOf) (maxL := 7) (ret := (some .int)) (fr := 5) (lo := 110) (as := [gi a1, gr v2]) (st := []) hq (C := "FlareSlopes$State") rfl gy_X3_votesOf (gbl rfl) (gbl rfl) (gbl rfl) q1989 q1990 q1991 dX1_votesOfAll_13 K hM R e1 e2) fun v6 h7 => ?_
  exact g_ireturn (pc := 16) rfl dX1_votesOfAll_16
/-! FlareSlopes$State.slope(I)LFlareSlopes$Spot; -/
noncomputable def sX3_slope (G : GG) (N : Nat) (a0 : Option Nat) (a1 : Int32) (h : Hp) : Out (Option Nat) :=
  gFr h a0 16 0 fun v1 =>
  gFr h v1 11 1 fun v2 =>
  bV h v2 13 (fun q5 => sX6_get G N (some q5) a1 h) fun v3 h4 =>
  gCk h4 v3 [15] (some (.inl v3, h4))
abbrev mX3_slope : MI := (RX3, cX3_slope, 2, (some (.object "FlareSlopes$Spot")), [], 4, 85, "slope")
theorem tX3_slope {G : GG} {l : Launch} (hs : l.stackTraces = false) {N : Nat} {a0 : Option Nat} {a1 : Int32} {h : Hp} {r : Option Nat ⊕ Nat} {hf : Hp} (ho : sX3_slope G N a0 a1 h = some (r, hf)) : gMet G l yX3_slope (ws_ yX3_slope cX3_slope 2 (some (.object "FlareSlopes$Spot"))) 4 85 [gr a0, gi a1] h cvR r hf := by
  refine gMet.of ho hs (plainFor_of_name pn_X3) rfl rfl (gbl rfl) fun X => ?_
  show gT G l X mX3_slope cvR r hf 0 [(0, gr a0), (1, gi a1)] [] h (sX3_slope G N a0 a1 h)
  delta sX3_slope
  refine g_aload_n (pc := 0) (x := a0) 0 rfl rfl dX3_slope_0 ?_
  refine g_getfr (pc := 1) k_16 (gblt rfl) lk_X3_35_16 dX3_slope_1 fun v1 => ?_
  refine g_getfr (pc := 4) k_11 (gblt rfl) lk_X3_124_11 dX3_slope_4 fun v2 => ?_
  refine g_iload_n (pc := 7) (x := a1) 1 rfl rfl dX3_slope_7 ?_
  refine g_bVr (pc := 8) (y := yX6_get) (ws := ws_ yX6_get cX6_get 2 (some (.object "FlareSlopes$Named"))) (fr := 3) (lo := 64) (as := [gi a1]) (st := []) (g_no) rfl (fun _ _ _ e => tX6_get hs e) (fun K _ _ _ hq hM R e1 e2 => g_runV (M := mX3_slope) (pc := 8) (y := yX6_get) (bytes := cX6_get) (maxL := 2) (ret := (some (.object "FlareSlopes$Named"))) (fr := 3) (lo := 64) (as := [gi a1]) (st := []) hq (C := "FlareSlopes$Register") rfl gy_X6_get (gbl rfl) (gbl rfl) (gbl rfl) q1232 q986 q987 dX3_slope_8 K hM R e1 e2) fun v3 h4 => ?_
  refine g_checkcast (pc := 11) q1233 as_15_FlareSlopes_Spot dX3_slope_11 ?_
  exact g_areturn (pc := 14) rfl (Or.inl ⟨_, rfl⟩) dX3_slope_14
/-! FlareSlopes$State.seesSlope(II)Z -/
noncomputable def sX3_seesSlope (G : GG) (N : Nat) (a0 : Option Nat) (a1 : Int32) (a2 : Int32) (h : Hp) : Out (Int32) :=
  bV h a0 16 (fun q9 => sX3_cabin G N (some q9) a1 h) fun v1 h2 =>
  bV h2 a0 16 (fun q8 => sX3_slope G N (some q8) a2 h2) fun v3 h4 =>
  bV h4 a0 16 (fun q7 => sX3_isSeen G N (some q7) v1 v3 h4) fun v5 h6 =>
  gRtZ v5 h6
abbrev mX3_seesSlope : MI := (RX3, cX3_seesSlope, 3, (some .boolean), [], 6, 129, "seesSlope")
theorem tX3_seesSlope {G : GG} {l : Launch} (hs : l.stackTraces = false) {N : Nat} {a0 : Option Nat} {a1 : Int32} {a2 : Int32} {h : Hp} {r : Int32 ⊕ Nat} {hf : Hp} (ho : sX3_seesSlope G N a0 a1 a2 h = some (r, hf)) : gMet G l yX3_seesSlope (ws_ yX3_seesSlope cX3_seesSlope 3 (some .boolean)) 6 129 [gr a0, gi a1, gi a2] h cvI r hf := by
  refine gMet.of ho hs (plainFor_of_name pn_X3) rfl rfl (gbl rfl) fun X => ?_
  show gT G l X mX3_seesSlope cvI r hf 0 [(0, gr a0), (1, gi a1), (2, gi a2)] [] h (sX3_seesSlope G N a0 a1 a2 h)
  delta sX3_seesSlope
  refine g_aload_n (pc := 0) (x := a0) 0 rfl rfl dX3_seesSlope_0 ?_
  refine g_aload_n (pc := 1) (x := a0) 0 rfl rfl dX3_seesSlope_1 ?_
  refine g_iload_n (pc := 2) (x := a1) 1 rfl rfl dX3_seesSlope_2 ?_
  refine g_bVr (pc := 3) (y := yX3_cabin) (ws := ws_ yX3_cabin cX3_cabin 2 (some (.object "FlareSlopes$Cabin"))) (fr := 3) (lo := 64) (as := [gi a1]) (st := [gr a0]) (g_no) rfl (fun _ _ _ e => tX3_cabin hs e) (fun K _ _ _ hq hM R e1 e2 => g_runV (M := mX3_seesSlope) (pc := 3) (y := yX3_cabin) (bytes := cX3_cabin) (maxL := 2) (ret := (some (.object "FlareSlopes$Cabin"))) (fr := 3) (lo := 64) (as := [gi a1]) (st := [gr a0]) hq (C := "FlareSlopes$State") rfl gy_X3_cabin (gbl rfl) (gbl rfl) (gbl rfl) q1638 q1639 q1640 dX3_seesSlope_3 K hM R e1 e2) fun v1 h2 => ?_
  refine g_aload_n (pc := 6) (x := a0) 0 rfl rfl dX3_seesSlope_6 ?_
  refine g_iload_n (pc := 7) (x := a2) 2 rfl rfl dX3_seesSlope_7 ?_
  refine g_bVr (pc := 8) (y := yX3_slope) (ws := ws_ yX3_slope cX3_slope 2 (some (.object "FlareSlopes$Spot"))) (fr := 4) (lo := 85) (as := [gi a2]) (st := [gr v1, gr a0]) (g_no) rfl (fun _ _ _ e => tX3_slope hs e) (fun K _ _ _ hq hM R e1 e2 => g_runV (M := mX3_seesSlope) (pc := 8) (y := yX3_slope) (bytes := cX3_slope) (maxL := 2) (ret := (some (.object "FlareSlopes$Spot"))) (fr := 4) (lo := 85) (as := [gi a2]) (st := [gr v1, gr a0]) hq (C := "FlareSlopes$State") rfl gy_X3_slope (gbl rfl) (gbl rfl) (gbl rfl) q2353 q2354 q2355 dX3_seesSlope_8 K hM R e1 e2) fun v3 h4 => ?_
  refine g_bVi (pc := 11) (y := yX3_isSeen) (ws := ws_ yX3_isSeen cX3_isSeen 3 (some .boolean)) (fr := 5) (lo := 107) (as := [gr v1, gr v3]) (st := []) (g_no) rfl (fun _ _ _ e => tX3_isSeen hs e) (fun K _ _ _ hq hM R e1 e2 => g_runV (M := mX3_seesSlope) (pc := 11) (y := yX3_isSeen) (bytes := cX3_isSeen) (maxL := 3) (ret := (some .boolean)) (fr := 5) (lo := 107) (as := [gr v1, gr v3]) (st := []) hq (C := "FlareSlopes$State") rfl gy_X3_isSeen (gbl rfl) (gbl rfl) (gbl rfl) q1644 q1646 qs19 dX3_seesSlope_11 K hM R e1 e2) fun v5 h6 => ?_
  exact g_zreturn (pc := 14) rfl dX3_seesSlope_14
/-! FlareSlopes.slopesSeen(I)I -/
noncomputable def bX1_slopesSeen_4 (G : GG) (N : Nat) (a0 : Option Nat) (a1 : Int32) (w3 : (Int32 × Int32) → Hp → Out (Int32)) (x1 : Int32 × Int32) (h2 : Hp) : Out (Int32) :=
  gFr h2 a0 3 4 fun v4 =>
  bV h2 v4 16 (fun q15 => sX3_slopes G N (some q15) h2) fun v5 h6 =>
  if v5 ≤ x1.2 then (some (.inl x1.1, h6))
  else gFr h6 a0 3 4 fun v7 =>
  bV h6 v7 16 (fun q14 => sX3_seesSlope G N (some q14) a1 x1.2 h6) fun v8 h9 =>
  gJ (fun (x10 : Int32) (h11 : Hp) =>
  gLet (x1.1 + x10) fun v13 =>
  w3 (v13, x1.2 + (1 : Int32)) h11) fun j12 =>
  if v8 = 0 then (j12 (0 : Int32) h9)
  else j12 (1 : Int32) h9
noncomputable def sX1_slopesSeen (G : GG) (N : Nat) (a0 : Option Nat) (a1 : Int32) (h : Hp) : Out (Int32) :=
  gLp (bX1_slopesSeen_4 G N a0 a1) N ((0 : Int32), (0 : Int32)) h
abbrev mX1_slopesSeen : MI := (RX1, cX1_slopesSeen, 4, (some .int), [], 7, 151, "slopesSeen")
theorem tX1_slopesSeen {G : GG} {l : Launch} (hs : l.stackTraces = false) {N : Nat} {a0 : Option Nat} {a1 : Int32} {h : Hp} {r : Int32 ⊕ Nat} {hf : Hp} (ho : sX1_slopesSeen G N a0 a1 h = some (r, hf)) : gMet G l yX1_slopesSeen (ws_ yX1_slopesSeen cX1_slopesSeen 4 (some .int)) 7 151 [gr a0, gi a1] h cvI r hf := by
  refine gMet.of ho hs (plainFor_of_name pn_X1) rfl rfl (gbl rfl) fun X => ?_
  show gT G l X mX1_slopesSeen cvI r hf 0 [(0, gr a0), (1, gi a1)] [] h (sX1_slopesSeen G N a0 a1 h)
  delta sX1_slopesSeen
  refine g_iconst (pc := 0) (v := (0 : Int32)) ic_0 dX1_slopesSeen_0 ?_
  refine g_istore_n (pc := 1) (lv' := [(2, gi (0 : Int32)), (0, gr a0), (1, gi a1)]) [0, 1, 2] rfl rfl (gblt rfl) dX1_slopesSeen_1 ?_
  refine g_iconst (pc := 2) (v := (0 : Int32)) ic_0 dX1_slopesSeen_2 ?_
  refine g_istore_n (pc := 3) (lv' := [(3, gi (0 : Int32)), (2, gi (0 : Int32)), (0, gr a0), (1, gi a1)]) [0, 1, 2, 3] rfl rfl (gblt rfl) dX1_slopesSeen_3 ?_
  refine g_sub (lv' := [(0, gr a0), (1, gi a1), (2, gi (0 : Int32)), (3, gi (0 : Int32))]) [2, 3, 1, 0] rfl ?_
  refine g_loop (pc := 4) (fun (x1 : Int32 × Int32) => [(0, gr a0), (1, gi a1), (2, gi x1.1), (3, gi x1.2)]) (fun (_ : Int32 × Int32) => []) (fun w3 Hw3 x1 h2 => ?_) N ((0 : Int32), (0 : Int32)) h
  delta bX1_slopesSeen_4
  refine g_iload_n (pc := 4) (x := x1.2) 3 rfl rfl dX1_slopesSeen_4 ?_
  refine g_aload_n (pc := 5) (x := a0) 0 rfl rfl dX1_slopesSeen_5 ?_
  refine g_getfr (pc := 6) k_3 (gblt rfl) lk_X1_56_3 dX1_slopesSeen_6 fun v4 => ?_
  refine g_bVi (pc := 9) (y := yX3_slopes) (ws := ws_ yX3_slopes cX3_slopes 1 (some .int)) (fr := 2) (lo := 40) (as := []) (st := [gi x1.2]) (g_no) rfl (fun _ _ _ e => tX3_slopes hs e) (fun K _ _ _ hq hM R e1 e2 => g_runV (M := mX1_slopesSeen) (pc := 9) (y := yX3_slopes) (bytes := cX3_slopes) (maxL := 1) (ret := (some .int)) (fr := 2) (lo := 40) (as := []) (st := [gi x1.2]) hq (C := "FlareSlopes$State") rfl gy_X3_slopes (gbl rfl) (gbl rfl) (gbl rfl) q1464 q1465 q1466 dX1_slopesSeen_9 K hM R e1 e2) fun v5 h6 => ?_
  refine g_icmp_ge (pc := 12) (tgt := 41) rfl dX1_slopesSeen_12 ?_ ?_
  · refine g_iload_n (pc := 41) (x := x1.1) 2 rfl rfl dX1_slopesSeen_41 ?_
    exact g_ireturn (pc := 42) rfl dX1_slopesSeen_42
  refine g_iload_n (pc := 15) (x := x1.1) 2 rfl rfl dX1_slopesSeen_15 ?_
  refine g_aload_n (pc := 16) (x := a0) 0 rfl rfl dX1_slopesSeen_16 ?_
  refine g_getfr (pc := 17) k_3 (gblt rfl) lk_X1_56_3 dX1_slopesSeen_17 fun v7 => ?_
  refine g_iload_n (pc := 20) (x := a1) 1 rfl rfl dX1_slopesSeen_20 ?_
  refine g_iload_n (pc := 21) (x := x1.2) 3 rfl rfl dX1_slopesSeen_21 ?_
  refine g_bVi (pc := 22) (y := yX3_seesSlope) (ws := ws_ yX3_seesSlope cX3_seesSlope 3 (some .boolean)) (fr := 6) (lo := 129) (as := [gi a1, gi x1.2]) (st := [gi x1.1]) (g_no) rfl (fun _ _ _ e => tX3_seesSlope hs e) (fun K _ _ _ hq hM R e1 e2 => g_runV (M := mX1_slopesSeen) (pc := 22) (y := yX3_seesSlope) (bytes := cX3_seesSlope) (maxL := 3) (ret := (some .boolean)) (fr := 6) (lo := 129) (as := [gi a1, gi x1.2]) (st := [gi x1.1]) hq (C := "FlareSlopes$State") rfl gy_X3_seesSlope (gbl rfl) (gbl rfl) (gbl rfl) q2349 q2350 q2351 dX1_slopesSeen_22 K hM R e1 e2) fun v8 h9 => ?_
  refine g_join 33 (fun (x10 : Int32) => [(0, gr a0), (1, gi a1), (3, gi x1.2)]) (fun (x10 : Int32) => [gi x10, gi x1.1]) (fun x10 h11 => ?_) (fun j12 Hj12 => ?_)
  · refine g_iadd (pc := 33) dX1_slopesSeen_33 ?_
    refine g_leti fun v13 => ?_
    refine g_istore_n (pc := 34) (lv' := [(2, gi v13), (0, gr a0), (1, gi a1), (3, gi x1.2)]) [0, 1, 2, 3] rfl rfl (gblt rfl) dX1_slopesSeen_34 ?_
    refine g_iinc (pc := 35) (v := x1.2 + (1 : Int32)) 3 rfl (ii_1 _) (lv' := [(3, gi (x1.2 + (1 : Int32))), (2, gi v13), (0, gr a0), (1, gi a1)]) [0, 1, 2, 3] rfl (gblt rfl) dX1_slopesSeen_35 ?_
    refine g_goto (pc := 38) (tgt := 4) rfl dX1_slopesSeen_38 ?_
    exact g_sub [2, 3, 1, 0] rfl (Hw3 (v13, x1.2 + (1 : Int32)) h11)
  refine g_if_eq (pc := 25) (tgt := 32) rfl dX1_slopesSeen_25 ?_ ?_
  · refine g_iconst (pc := 32) (v := (0 : Int32)) ic_0 dX1_slopesSeen_32 ?_
    exact g_sub [0, 1, 3] rfl (Hj12 (0 : Int32) h9)
  refine g_iconst (pc := 28) (v := (1 : Int32)) ic_1 dX1_slopesSeen_28 ?_
  refine g_goto (pc := 29) (tgt := 33) rfl dX1_slopesSeen_29 ?_
  exact g_sub [0, 1, 3] rfl (Hj12 (1 : Int32) h9)
/-! java/util/AbstractCollection.<init>()V -/
noncomputable def sJ0_init_c34 (G : GG) (N : Nat) (a0 : Option Nat) (h : Hp) : Out (Unit) :=
  gNN a0 (some (.inl (), h))
abbrev mJ0_init_c34 : MI := (RJ0, cJ0_init, 1, none, [], 1, 12, "<init>")
theorem tJ0_init_c34 {G : GG} {l : Launch} (hs : l.stackTraces = false) {N : Nat} {a0 : Option Nat} {h : Hp} {r : Unit ⊕ Nat} {hf : Hp} (ho : sJ0_init_c34 G N a0 h = some (r, hf)) : gMet G l yJ0_init (ws_ yJ0_init cJ0_init 1 none) 1 12 [gr a0] h cvU r hf := by
  refine gMet.of ho hs (plainFor_of_name pn_J0) rfl rfl (gbl rfl) fun X => ?_
  show gT G l X mJ0_init_c34 cvU r hf 0 [(0, gr a0)] [] h (sJ0_init_c34 G N a0 h)
  delta sJ0_init_c34
  refine g_aload_n (pc := 0) (x := a0) 0 rfl rfl dJ0_init_0 ?_
  refine g_objInit' (pc := 1) q217 oi_in oi_code (gbl rfl) (gbl rfl) dJ0_init_1 ?_
  exact g_return (pc := 4) rfl dJ0_init_4
/-! java/util/AbstractSet.<init>()V -/
noncomputable def sJ35_init_c34 (G : GG) (N : Nat) (a0 : Option Nat) (h : Hp) : Out (Unit) :=
  bI a0 (fun q3 => sJ0_init_c34 G N (some q3) h) fun v1 h2 =>
  some (.inl (), h2)
abbrev mJ35_init_c34 : MI := (RJ35, cJ35_init, 1, none, [], 2, 32, "<init>")
theorem tJ35_init_c34 {G : GG} {l : Launch} (hs : l.stackTraces = false) {N : Nat} {a0 : Option Nat} {h : Hp} {r : Unit ⊕ Nat} {hf : Hp} (ho : sJ35_init_c34 G N a0 h = some (r, hf)) : gMet G l yJ35_init (ws_ yJ35_init cJ35_init 1 none) 2 32 [gr a0] h cvU r hf := by
  refine gMet.of ho hs (plainFor_of_name pn_J35) rfl rfl (gbl rfl) fun X => ?_
  show gT G l X mJ35_init_c34 cvU r hf 0 [(0, gr a0)] [] h (sJ35_init_c34 G N a0 h)
  delta sJ35_init_c34
  refine g_aload_n (pc := 0) (x := a0) 0 rfl rfl dJ35_init_0 ?_
  refine g_bIu (pc := 1) (y := yJ0_init) (ws := ws_ yJ0_init cJ0_init 1 none) (fr := 1) (lo := 12) (as := []) (st := []) (g_no) rfl (fun _ _ _ e => tJ0_init_c34 hs e) (fun K _ _ _ hM R e1 e2 => g_runI (M := mJ35_init_c34) (pc := 1) (y := yJ0_init) (bytes := cJ0_init) (maxL := 1) (ret := none) (fr := 1) (lo := 12) (as := []) (st := []) gy_J0_init (gbl rfl) (gbl rfl) (gbl rfl) rfl q1924 q215 rfl dJ35_init_1 K hM R e1 e2) fun v1 h2 => ?_
  exact g_return (pc := 4) rfl dJ35_init_4
/-! java/lang/Float.isNaN(F)Z -/
noncomputable def sJ42_isNaN (G : GG) (N : Nat) (a0 : UInt32) (h : Hp) : Out (Int32) :=
  if (Op.cmpValue (FP.fcmp a0 a0) .l) = 0 then (gRtZ (0 : Int32) h)
  else gRtZ (1 : Int32) h
abbrev mJ42_isNaN : MI := (RJ42, cJ42_isNaN, 1, (some .boolean), [], 0, 0, "isNaN")
theorem tJ42_isNaN {G : GG} {l : Launch} (hs : l.stackTraces = false) {N : Nat} {a0 : UInt32} {h : Hp} {r : Int32 ⊕ Nat} {hf : Hp} (ho : sJ42_isNaN G N a0 h = some (r, hf)) : gMet G l yJ42_isNaN (ws_ yJ42_isNaN cJ42_isNaN 1 (some .boolean)) 0 0 [gf a0] h cvI r hf := by
  refine gMet.of ho hs pf_J42_isNaN rfl rfl (gbl rfl) fun X => ?_
  show gT G l X mJ42_isNaN cvI r hf 0 [(0, gf a0)] [] h (sJ42_isNaN G N a0 h)
  delta sJ42_isNaN
  refine g_fload_n (pc := 0) (x := a0) 0 rfl rfl dJ42_isNaN_0 ?_
  refine g_fload_n (pc := 1) (x := a0) 0 rfl rfl dJ42_isNaN_1 ?_
  refine g_fcmp (pc := 2) dJ42_isNaN_2 ?_
  refine g_if_eq (pc := 3) (tgt := 10) rfl dJ42_isNaN_3 ?_ ?_
  · refine g_iconst (pc := 10) (v := (0 : Int32)) ic_0 dJ42_isNaN_10 ?_
    exact g_zreturn (pc := 11) rfl dJ42_isNaN_11
  refine g_iconst (pc := 6) (v := (1 : Int32)) ic_1 dJ42_isNaN_6 ?_
  refine g_goto (pc := 7) (tgt := 11) rfl dJ42_isNaN_7 ?_
  exact g_zreturn (pc := 11) rfl dJ42_isNaN_11
/-! java/lang/Integer.numberOfLeadingZeros(I)I -/
noncomputable def sJ20_numberOfLeadingZeros (G : GG) (N : Nat) (a0 : Int32) (h : Hp) : Out (Int32) :=
  if 0 < a0 then (gJ (fun (x1 : Int32 × Int32) (h2 : Hp) =>
  gJ (fun (x4 : Int32 × Int32) (h5 : Hp) =>
  gJ (fun (x7 : Int32 × Int32) (h8 : Hp) =>
  gJ (fun (x10 : Int32 × Int32) (h11 : Hp) =>
  some (.inl (x10.2 - ((x10.1.toUInt32 >>> ((1 : Int32).toUInt32 &&& Int32.toUInt32 31)).toInt32)), h11)) fun j12 =>
  if x7.1 < (4 : Int32) then (j12 (x7.1, x7.2) h8)
  else gLet ((x7.1.toUInt32 >>> ((2 : Int32).toUInt32 &&& Int32.toUInt32 31)).toInt32) fun v13 =>
  j12 (v13, x7.2 + (-2 : Int32)) h8) fun j9 =>
  if x4.1 < (16 : Int32) then (j9 (x4.1, x4.2) h5)
  else gLet ((x4.1.toUInt32 >>> ((4 : Int32).toUInt32 &&& Int32.toUInt32 31)).toInt32) fun v14 =>
  j9 (v14, x4.2 + (-4 : Int32)) h5) fun j6 =>
  if x1.1 < (256 : Int32) then (j6 (x1.1, x1.2) h2)
  else gLet ((x1.1.toUInt32 >>> ((8 : Int32).toUInt32 &&& Int32.toUInt32 31)).toInt32) fun v15 =>
  j6 (v15, x1.2 + (-8 : Int32)) h2) fun j3 =>
  if a0 < (65536 : Int32) then (j3 (a0, (31 : Int32)) h)
  else gLet ((a0.toUInt32 >>> ((16 : Int32).toUInt32 &&& Int32.toUInt32 31)).toInt32) fun v16 =>
  j3 (v16, (31 : Int32) + (-16 : Int32)) h)
  else if a0 = 0 then (some (.inl (32 : Int32), h))
  else some (.inl (0 : Int32), h)
abbrev mJ20_numberOfLeadingZeros : MI := (RJ20, cJ20_numberOfLeadingZeros, 2, (some .int), [], 0, 0, "numberOfLeadingZeros")
theorem tJ20_numberOfLeadingZeros {G : GG} {l : Launch} (hs : l.stackTraces = false) {N : Nat} {a0 : Int32} {h : Hp} {r : Int32 ⊕ Nat} {hf : Hp} (ho : sJ20_numberOfLeadingZeros G N a0 h = some (r, hf)) : gMet G l yJ20_numberOfLeadingZeros (ws_ yJ20_numberOfLeadingZeros cJ20_numberOfLeadingZeros 2 (some .int)) 0 0 [gi a0] h cvI r hf := by
  refine gMet.of ho hs (plainFor_of_name pn_J20) rfl rfl (gbl rfl) fun X => ?_
  show gT G l X mJ20_numberOfLeadingZeros cvI r hf 0 [(0, gi a0)] [] h (sJ20_numberOfLeadingZeros G N a0 h)
  delta sJ20_numberOfLeadingZeros
  refine g_iload_n (pc := 0) (x := a0) 0 rfl rfl dJ20_numberOfLeadingZeros_0 ?_
  refine g_if_gt (pc := 1) (tgt := 15) rfl dJ20_numberOfLeadingZeros_1 ?_ ?_
  rotate_left
  · refine g_iload_n (pc := 4) (x := a0) 0 rfl rfl dJ20_numberOfLeadingZeros_4 ?_
    refine g_if_ne (pc := 5) (tgt := 13) rfl dJ20_numberOfLeadingZeros_5 ?_ ?_
    rotate_left
    · refine g_iconst (pc := 13) (v := (0 : Int32)) ic_0 dJ20_numberOfLeadingZeros_13 ?_
      exact g_ireturn (pc := 14) rfl dJ20_numberOfLeadingZeros_14
    refine g_bipush (pc := 8) (v := (32 : Int32)) bc_32 dJ20_numberOfLeadingZeros_8 ?_
    refine g_goto (pc := 10) (tgt := 14) rfl dJ20_numberOfLeadingZeros_10 ?_
    exact g_ireturn (pc := 14) rfl dJ20_numberOfLeadingZeros_14
  refine g_bipush (pc := 15) (v := (31 : Int32)) bc_31 dJ20_numberOfLeadingZeros_15 ?_
  refine g_istore_n (pc := 17) (lv' := [(1, gi (31 : Int32)), (0, gi a0)]) [0, 1] rfl rfl (gblt rfl) dJ20_numberOfLeadingZeros_17 ?_
  refine g_iload_n (pc := 18) (x := a0) 1 rfl rfl dJ20_numberOfLeadingZeros_18 ?_
  refine g_ldcw (pc := 19) q2230 dJ20_numberOfLeadingZeros_19 ?_
  refine g_join 33 (fun (x1 : Int32 × Int32) => [(0, gi x1.1), (1, gi x1.2)]) (fun (x1 : Int32 × Int32) => []) (fun x1 h2 => ?_) (fun j3 Hj3 => ?_)
  · refine g_iload_n (pc := 33) (x := x1.1) 0 rfl rfl dJ20_numberOfLeadingZeros_33 ?_
    refine g_sipush (pc := 34) (v := (256 : Int32)) sc_256 dJ20_numberOfLeadingZeros_34 ?_
    refine g_join 48 (fun (x4 : Int32 × Int32) => [(0, gi x4.1), (1, gi x4.2)]) (fun (x4 : Int32 × Int32) => []) (fun x4 h5 => ?_) (fun j6 Hj6 => ?_)
    · refine g_iload_n (pc := 48) (x := x4.1) 0 rfl rfl dJ20_numberOfLeadingZeros_48 ?_
      refine g_bipush (pc := 49) (v := (16 : Int32)) bc_16 dJ20_numberOfLeadingZeros_49 ?_
      refine g_join 61 (fun (x7 : Int32 × Int32) => [(0, gi x7.1), (1, gi x7.2)]) (fun (x7 : Int32 × Int32) => []) (fun x7 h8 => ?_) (fun j9 Hj9 => ?_)
      · refine g_iload_n (pc := 61) (x := x7.1) 0 rfl rfl dJ20_numberOfLeadingZeros_61 ?_
        refine g_iconst (pc := 62) (v := (4 : Int32)) ic_4 dJ20_numberOfLeadingZeros_62 ?_
        refine g_join 73 (fun (x10 : Int32 × Int32) => [(0, gi x10.1), (1, gi x10.2)]) (fun (x10 : Int32 × Int32) => []) (fun x10 h11 => ?_) (fun j12 Hj12 => ?_)
        · refine g_iload_n (pc := 73) (x := x10.2) 1 rfl rfl dJ20_numberOfLeadingZeros_73 ?_
          refine g_iload_n (pc := 74) (x := x10.1) 0 rfl rfl dJ20_numberOfLeadingZeros_74 ?_
          refine g_iconst (pc := 75) (v := (1 : Int32)) ic_1 dJ20_numberOfLeadingZeros_75 ?_
          refine g_iushr (pc := 76) dJ20_numberOfLeadingZeros_76 ?_
          refine g_isub (pc := 77) dJ20_numberOfLeadingZeros_77 ?_
          exact g_ireturn (pc := 78) rfl dJ20_numberOfLeadingZeros_78
        refine g_icmp_lt (pc := 63) (tgt := 73) rfl dJ20_numberOfLeadingZeros_63 ?_ ?_
        · exact Hj12 (x7.1, x7.2) h8
        refine g_iinc (pc := 66) (v := x7.2 + (-2 : Int32)) 1 rfl (ii_m2 _) (lv' := [(1, gi (x7.2 + (-2 : Int32))), (0, gi x7.1)]) [0, 1] rfl (gblt rfl) dJ20_numberOfLeadingZeros_66 ?_
        refine g_iload_n (pc := 69) (x := x7.1) 1 rfl rfl dJ20_numberOfLeadingZeros_69 ?_
        refine g_iconst (pc := 70) (v := (2 : Int32)) ic_2 dJ20_numberOfLeadingZeros_70 ?_
        refine g_iushr (pc := 71) dJ20_numberOfLeadingZeros_71 ?_
        refine g_leti fun v13 => ?_
        refine g_istore_n (pc := 72) (lv' := [(0, gi v13), (1, gi (x7.2 + (-2 : Int32)))]) [0, 1] rfl rfl (gblt rfl) dJ20_numberOfLeadingZeros_72 ?_
        exact Hj12 (v13, x7.2 + (-2 : Int32)) h8
      refine g_icmp_lt (pc := 51) (tgt := 61) rfl dJ20_numberOfLeadingZeros_51 ?_ ?_
      · exact Hj9 (x4.1, x4.2) h5
      refine g_iinc (pc := 54) (v := x4.2 + (-4 : Int32)) 1 rfl (ii_m4 _) (lv' := [(1, gi (x4.2 + (-4 : Int32))), (0, gi x4.1)]) [0, 1] rfl (gblt rfl) dJ20_numberOfLeadingZeros_54 ?_
      refine g_iload_n (pc := 57) (x := x4.1) 1 rfl rfl dJ20_numberOfLeadingZeros_57 ?_
      refine g_iconst (pc := 58) (v := (4 : Int32)) ic_4 dJ20_numberOfLeadingZeros_58 ?_
      refine g_iushr (pc := 59) dJ20_numberOfLeadingZeros_59 ?_
      refine g_leti fun v14 => ?_
      refine g_istore_n (pc := 60) (lv' := [(0, gi v14), (1, gi (x4.2 + (-4 : Int32)))]) [0, 1] rfl rfl (gblt rfl) dJ20_numberOfLeadingZeros_60 ?_
      exact Hj9 (v14, x4.2 + (-4 : Int32)) h5
    refine g_icmp_lt (pc := 37) (tgt := 48) rfl dJ20_numberOfLeadingZeros_37 ?_ ?_
    · exact Hj6 (x1.1, x1.2) h2
    refine g_iinc (pc := 40) (v := x1.2 + (-8 : Int32)) 1 rfl (ii_m8 _) (lv' := [(1, gi (x1.2 + (-8 : Int32))), (0, gi x1.1)]) [0, 1] rfl (gblt rfl) dJ20_numberOfLeadingZeros_40 ?_
    refine g_iload_n (pc := 43) (x := x1.1) 1 rfl rfl dJ20_numberOfLeadingZeros_43 ?_
    refine g_bipush (pc := 44) (v := (8 : Int32)) bc_8 dJ20_numberOfLeadingZeros_44 ?_
    refine g_iushr (pc := 46) dJ20_numberOfLeadingZeros_46 ?_
    refine g_leti fun v15 => ?_
    refine g_istore_n (pc := 47) (lv' := [(0, gi v15), (1, gi (x1.2 + (-8 : Int32)))]) [0, 1] rfl rfl (gblt rfl) dJ20_numberOfLeadingZeros_47 ?_
    exact Hj6 (v15, x1.2 + (-8 : Int32)) h2
  refine g_icmp_lt (pc := 22) (tgt := 33) rfl dJ20_numberOfLeadingZeros_22 ?_ ?_
  · exact g_sub [1, 0] rfl (Hj3 (a0, (31 : Int32)) h)
  refine g_iinc (pc := 25) (v := (31 : Int32) + (-16 : Int32)) 0 rfl (ii_m16 _) (lv' := [(1, gi ((31 : Int32) + (-16 : Int32))), (0, gi a0)]) [0, 1] rfl (gblt rfl) dJ20_numberOfLeadingZeros_25 ?_
  refine g_iload_n (pc := 28) (x := a0) 1 rfl rfl dJ20_numberOfLeadingZeros_28 ?_
  refine g_bipush (pc := 29) (v := (16 : Int32)) bc_16 dJ20_numberOfLeadingZeros_29 ?_
  refine g_iushr (pc := 31) dJ20_numberOfLeadingZeros_31 ?_
  refine g_leti fun v16 => ?_
  refine g_istore_n (pc := 32) (lv' := [(0, gi v16), (1, gi ((31 : Int32) + (-16 : Int32)))]) [0, 1] rfl rfl (gblt rfl) dJ20_numberOfLeadingZeros_32 ?_
  exact Hj3 (v16, (31 : Int32) + (-16 : Int32)) h
/-! java/util/HashMap.tableSizeFor(I)I -/
noncomputable def sJ23_tableSizeFor (G : GG) (N : Nat) (a0 : Int32) (h : Hp) : Out (Int32) :=
  bnd (sJ20_numberOfLeadingZeros G N (a0 - (1 : Int32)) h) fun v1 h2 =>
  gLet (((-1 : Int32).toUInt32 >>> (v1.toUInt32 &&& Int32.toUInt32 31)).toInt32) fun v3 =>
  if 0 ≤ v3 then (if v3 < (1073741824 : Int32) then (some (.inl (v3 + (1 : Int32)), h2))
  else some (.inl (1073741824 : Int32), h2))
  else some (.inl (1 : Int32), h2)
abbrev mJ23_tableSizeFor : MI := (RJ23, cJ23_tableSizeFor, 2, (some .int), [], 1, 21, "tableSizeFor")
theorem tJ23_tableSizeFor {G : GG} {l : Launch} (hs : l.stackTraces = false) {N : Nat} {a0 : Int32} {h : Hp} {r : Int32 ⊕ Nat} {hf : Hp} (ho : sJ23_tableSizeFor G N a0 h = some (r, hf)) : gMet G l yJ23_tableSizeFor (ws_ yJ23_tableSizeFor cJ23_tableSizeFor 2 (some .int)) 1 21 [gi a0] h cvI r hf := by
  refine gMet.of ho hs (plainFor_of_name pn_J23) rfl rfl (gbl rfl) fun X => ?_
  show gT G l X mJ23_tableSizeFor cvI r hf 0 [(0, gi a0)] [] h (sJ23_tableSizeFor G N a0 h)
  delta sJ23_tableSizeFor
  refine g_iconst (pc := 0) (v := (-1 : Int32)) ic_m1 dJ23_tableSizeFor_0 ?_
  refine g_iload_n (pc := 1) (x := a0) 0 rfl rfl dJ23_tableSizeFor_1 ?_
  refine g_iconst (pc := 2) (v := (1 : Int32)) ic_1 dJ23_tableSizeFor_2 ?_
  refine g_isub (pc := 3) dJ23_tableSizeFor_3 ?_
  refine g_bi (pc := 4) (y := yJ20_numberOfLeadingZeros) (ws := ws_ yJ20_numberOfLeadingZeros cJ20_numberOfLeadingZeros 2 (some .int)) (fr := 0) (lo := 0) (as := [gi (a0 - (1 : Int32))]) (st := [gi (-1 : Int32)]) (g_no) rfl (fun _ _ e => tJ20_numberOfLeadingZeros hs e) (fun K _ _ hM R e1 e2 => g_runS (M := mJ23_tableSizeFor) (pc := 4) (y := yJ20_numberOfLeadingZeros) (bytes := cJ20_numberOfLeadingZeros) (maxL := 2) (ret := (some .int)) (fr := 0) (lo := 0) (as := [gi (a0 - (1 : Int32))]) (st := [gi (-1 : Int32)]) gy_J20_numberOfLeadingZeros (gbl rfl) (gbl rfl) (gbl rfl) q2770 q2228 dJ23_tableSizeFor_4 K hM R e1 e2) fun v1 h2 => ?_
  refine g_iushr (pc := 7) dJ23_tableSizeFor_7 ?_
  refine g_leti fun v3 => ?_
  refine g_istore_n (pc := 8) (lv' := [(1, gi v3)]) [0] rfl rfl (gblt rfl) dJ23_tableSizeFor_8 ?_
  refine g_iload_n (pc := 9) (x := v3) 0 rfl rfl dJ23_tableSizeFor_9 ?_
  refine g_if_ge (pc := 10) (tgt := 17) rfl dJ23_tableSizeFor_10 ?_ ?_
  rotate_left
  · refine g_iconst (pc := 13) (v := (1 : Int32)) ic_1 dJ23_tableSizeFor_13 ?_
    refine g_goto (pc := 14) (tgt := 31) rfl dJ23_tableSizeFor_14 ?_
    exact g_ireturn (pc := 31) rfl dJ23_tableSizeFor_31
  refine g_iload_n (pc := 17) (x := v3) 0 rfl rfl dJ23_tableSizeFor_17 ?_
  refine g_ldc (pc := 18) q2385 dJ23_tableSizeFor_18 ?_
  refine g_icmp_lt (pc := 20) (tgt := 28) rfl dJ23_tableSizeFor_20 ?_ ?_
  rotate_left
  · refine g_ldc (pc := 23) q2385 dJ23_tableSizeFor_23 ?_
    refine g_goto (pc := 25) (tgt := 31) rfl dJ23_tableSizeFor_25 ?_
    exact g_ireturn (pc := 31) rfl dJ23_tableSizeFor_31
  refine g_iload_n (pc := 28) (x := v3) 0 rfl rfl dJ23_tableSizeFor_28 ?_
  refine g_iconst (pc := 29) (v := (1 : Int32)) ic_1 dJ23_tableSizeFor_29 ?_
  refine g_iadd (pc := 30) dJ23_tableSizeFor_30 ?_
  exact g_ireturn (pc := 31) rfl dJ23_tableSizeFor_31
/-! java/util/HashMap.<init>(IF)V -/
noncomputable def sJ23_init_2_c26 (G : GG) (N : Nat) (a0 : Option Nat) (a1 : Int32) (a2 : UInt32) (h : Hp) : Out (Unit) :=
  bI a0 (fun q12 => sJ22_init_c26 G N (some q12) h) fun v1 h2 =>
  if 0 ≤ a1 then (gJ (fun (x3 : Int32) (h4 : Hp) =>
  if (Op.cmpValue (FP.fcmp a2 FP.fconst0) .g) ≤ 0 then (none)
  else bnd (sJ42_isNaN G N a2 h4) fun v6 h7 =>
  if v6 = 0 then (gP G h7 a0 26 5 (.float a2) fun h8 =>
  bnd (sJ23_tableSizeFor G N x3 h8) fun v9 h10 =>
  gP G h10 a0 26 4 (.int v9) fun h11 =>
  some (.inl (), h11))
  else none) fun j5 =>
  if a1 ≤ (1073741824 : Int32) then (j5 a1 h2)
  else j5 (1073741824 : Int32) h2)
  else none
abbrev mJ23_init_2_c26 : MI := (RJ23, cJ23_init_2, 3, none, [], 2, 42, "<init>")
theorem tJ23_init_2_c26 {G : GG} {l : Launch} (hs : l.stackTraces = false) {N : Nat} {a0 : Option Nat} {a1 : Int32} {a2 : UInt32} {h : Hp} {r : Unit ⊕ Nat} {hf : Hp} (ho : sJ23_init_2_c26 G N a0 a1 a2 h = some (r, hf)) : gMet G l yJ23_init_2 (ws_ yJ23_init_2 cJ23_init_2 3 none) 2 42 [gr a0, gi a1, gf a2] h cvU r hf := by
  refine gMet.of ho hs (plainFor_of_name pn_J23) rfl rfl (gbl rfl) fun X => ?_
  show gT G l X mJ23_init_2_c26 cvU r hf 0 [(0, gr a0), (1, gi a1), (2, gf a2)] [] h (sJ23_init_2_c26 G N a0 a1 a2 h)
  delta sJ23_init_2_c26
  refine g_aload_n (pc := 0) (x := a0) 0 rfl rfl dJ23_init_2_0 ?_
  refine g_bIu (pc := 1) (y := yJ22_init) (ws := ws_ yJ22_init cJ22_init 1 none) (fr := 1) (lo := 12) (as := []) (st := []) (g_no) rfl (fun _ _ _ e => tJ22_init_c26 hs e) (fun K _ _ _ hM R e1 e2 => g_runI (M := mJ23_init_2_c26) (pc := 1) (y := yJ22_init) (bytes := cJ22_init) (maxL := 1) (ret := none) (fr := 1) (lo := 12) (as := []) (st := []) gy_J22_init (gbl rfl) (gbl rfl) (gbl rfl) rfl q1246 q1247 rfl dJ23_init_2_1 K hM R e1 e2) fun v1 h2 => ?_
  refine g_iload_n (pc := 4) (x := a1) 1 rfl rfl dJ23_init_2_4 ?_
  refine g_if_ge (pc := 5) (tgt := 35) rfl dJ23_init_2_5 ?_ ?_
  rotate_left
  · exact g_none
  refine g_iload_n (pc := 35) (x := a1) 1 rfl rfl dJ23_init_2_35 ?_
  refine g_ldc (pc := 36) q2385 dJ23_init_2_36 ?_
  refine g_join 44 (fun (x3 : Int32) => [(0, gr a0), (1, gi x3), (2, gf a2)]) (fun (x3 : Int32) => []) (fun x3 h4 => ?_) (fun j5 Hj5 => ?_)
  · refine g_fload_n (pc := 44) (x := a2) 2 rfl rfl dJ23_init_2_44 ?_
    refine g_fconst0 (pc := 45) dJ23_init_2_45 ?_
    refine g_fcmp (pc := 46) dJ23_init_2_46 ?_
    refine g_if_le (pc := 47) (tgt := 57) rfl dJ23_init_2_47 ?_ ?_
    · exact g_none
    refine g_fload_n (pc := 50) (x := a2) 2 rfl rfl dJ23_init_2_50 ?_
    refine g_bi (pc := 51) (y := yJ42_isNaN) (ws := ws_ yJ42_isNaN cJ42_isNaN 1 (some .boolean)) (fr := 0) (lo := 0) (as := [gf a2]) (st := []) (g_no) rfl (fun _ _ e => tJ42_isNaN hs e) (fun K _ _ hM R e1 e2 => g_runS (M := mJ23_init_2_c26) (pc := 51) (y := yJ42_isNaN) (bytes := cJ42_isNaN) (maxL := 1) (ret := (some .boolean)) (fr := 0) (lo := 0) (as := [gf a2]) (st := []) gy_J42_isNaN (gbl rfl) (gbl rfl) (gbl rfl) q2386 q2387 dJ23_init_2_51 K hM R e1 e2) fun v6 h7 => ?_
    refine g_if_eq (pc := 54) (tgt := 84) rfl dJ23_init_2_54 ?_ ?_
    rotate_left
    · exact g_none
    refine g_aload_n (pc := 84) (x := a0) 0 rfl rfl dJ23_init_2_84 ?_
    refine g_fload_n (pc := 85) (x := a2) 2 rfl rfl dJ23_init_2_85 ?_
    refine g_putFin (pc := 86) k_26 (gblt rfl) lk_J23_81_26 q1273 rfl rfl rfl rfl (gNf _) dJ23_init_2_86 fun h8 => ?_
    refine g_aload_n (pc := 89) (x := a0) 0 rfl rfl dJ23_init_2_89 ?_
    refine g_iload_n (pc := 90) (x := x3) 1 rfl rfl dJ23_init_2_90 ?_
    refine g_bi (pc := 91) (y := yJ23_tableSizeFor) (ws := ws_ yJ23_tableSizeFor cJ23_tableSizeFor 2 (some .int)) (fr := 1) (lo := 21) (as := [gi x3]) (st := [gr a0]) (g_no) rfl (fun _ _ e => tJ23_tableSizeFor hs e) (fun K _ _ hM R e1 e2 => g_runS (M := mJ23_init_2_c26) (pc := 91) (y := yJ23_tableSizeFor) (bytes := cJ23_tableSizeFor) (maxL := 2) (ret := (some .int)) (fr := 1) (lo := 21) (as := [gi x3]) (st := [gr a0]) gy_J23_tableSizeFor (gbl rfl) (gbl rfl) (gbl rfl) q2767 q2768 dJ23_init_2_91 K hM R e1 e2) fun v9 h10 => ?_
    refine g_put (pc := 94) k_26 (gblt rfl) lk_J23_88_26 rfl rfl (gNi _) dJ23_init_2_94 fun h11 => ?_
    exact g_return (pc := 97) rfl dJ23_init_2_97
  refine g_icmp_le (pc := 38) (tgt := 44) rfl dJ23_init_2_38 ?_ ?_
  · exact Hj5 a1 h2
  refine g_ldc (pc := 41) q2385 dJ23_init_2_41 ?_
  refine g_istore_n (pc := 43) (lv' := [(1, gi (1073741824 : Int32)), (0, gr a0), (2, gf a2)]) [0, 1, 2] rfl rfl (gblt rfl) dJ23_init_2_43 ?_
  exact g_sub [1, 0, 2] rfl (Hj5 (1073741824 : Int32) h2)
