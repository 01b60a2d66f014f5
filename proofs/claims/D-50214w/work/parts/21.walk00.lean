set_option maxRecDepth 100000
set_option maxHeartbeats 4000000
/-! java/util/AbstractCollection.<init>()V -/
noncomputable def sJ0_init_c22 (G : GG) (N : Nat) (a0 : Option Nat) (h : Hp) : Out (Unit) :=
  gNN a0 (some (.inl (), h))
abbrev mJ0_init_c22 : MI := (RJ0, cJ0_init, 1, none, [], 1, 12, "<init>")
theorem tJ0_init_c22 {G : GG} {l : Launch} (hs : l.stackTraces = false) {N : Nat} {a0 : Option Nat} {h : Hp} {r : Unit ⊕ Nat} {hf : Hp} (ho : sJ0_init_c22 G N a0 h = some (r, hf)) : gMet G l yJ0_init (ws_ yJ0_init cJ0_init 1 none) 1 12 [gr a0] h cvU r hf := by
  refine gMet.of ho hs (plainFor_of_name pn_J0) rfl rfl (gbl rfl) fun X => ?_
  show gT G l X mJ0_init_c22 cvU r hf 0 [(0, gr a0)] [] h (sJ0_init_c22 G N a0 h)
  delta sJ0_init_c22
  refine g_aload_n (pc := 0) (x := a0) 0 rfl rfl dJ0_init_0 ?_
  refine g_objInit' (pc := 1) q217 oi_in oi_code (gbl rfl) (gbl rfl) dJ0_init_1 ?_
  exact g_return (pc := 4) rfl dJ0_init_4
/-! java/util/ArrayDeque.<init>()V -/
noncomputable def sJ1_init (G : GG) (N : Nat) (a0 : Option Nat) (h : Hp) : Out (Unit) :=
  bI a0 (fun q6 => sJ0_init_c22 G N (some q6) h) fun v1 h2 =>
  gNA h2 5 z_R (17 : Int32) fun v3 h4 =>
  gP G h4 a0 22 0 (va_rf v3) fun h5 =>
  some (.inl (), h5)
abbrev mJ1_init : MI := (RJ1, cJ1_init, 1, none, [], 2, 32, "<init>")
theorem tJ1_init {G : GG} {l : Launch} (hs : l.stackTraces = false) {N : Nat} {a0 : Option Nat} {h : Hp} {r : Unit ⊕ Nat} {hf : Hp} (ho : sJ1_init G N a0 h = some (r, hf)) : gMet G l yJ1_init (ws_ yJ1_init cJ1_init 1 none) 2 32 [gr a0] h cvU r hf := by
  refine gMet.of ho hs (plainFor_of_name pn_J1) rfl rfl (gbl rfl) fun X => ?_
  show gT G l X mJ1_init cvU r hf 0 [(0, gr a0)] [] h (sJ1_init G N a0 h)
  delta sJ1_init
  refine g_aload_n (pc := 0) (x := a0) 0 rfl rfl dJ1_init_0 ?_
  refine g_bIu (pc := 1) (y := yJ0_init) (ws := ws_ yJ0_init cJ0_init 1 none) (fr := 1) (lo := 12) (as := []) (st := []) (g_no) rfl (fun _ _ _ e => tJ0_init_c22 hs e) (fun K _ _ _ hM R e1 e2 => g_runI (M := mJ1_init) (pc := 1) (y := yJ0_init) (bytes := cJ0_init) (maxL := 1) (ret := none) (fr := 1) (lo := 12) (as := []) (st := []) gy_J0_init (gbl rfl) (gbl rfl) (gbl rfl) rfl q214 q215 rfl dJ1_init_1 K hM R e1 e2) fun v1 h2 => ?_
  refine g_aload_n (pc := 4) (x := a0) 0 rfl rfl dJ1_init_4 ?_
  refine g_bipush (pc := 5) (v := (17 : Int32)) bc_17 dJ1_init_5 ?_
  refine g_anewarray (pc := 7) rfl q218 q219 dJ1_init_7 fun v3 h4 => ?_
  refine g_put (pc := 10) k_22 (gblt rfl) lk_J1_3_22 rfl rfl (gNa _ _) dJ1_init_10 fun h5 => ?_
  exact g_return (pc := 13) rfl dJ1_init_13
/-! java/lang/AbstractStringBuilder.<init>(I)V -/
noncomputable def sJ2_init_c21 (G : GG) (N : Nat) (a0 : Option Nat) (a1 : Int32) (h : Hp) : Out (Unit) :=
  gNN a0 (if (1 : Int32) = 0 then (none)
  else gNA h 1 z_B a1 fun v1 h2 =>
  gP G h2 a0 21 0 (va_rf v1) fun h3 =>
  gPb G h3 a0 21 1 (0 : Int32) fun h4 =>
  some (.inl (), h4))
abbrev mJ2_init_c21 : MI := (RJ2, cJ2_init, 2, none, [], 1, 12, "<init>")
theorem tJ2_init_c21 {G : GG} {l : Launch} (hs : l.stackTraces = false) {N : Nat} {a0 : Option Nat} {a1 : Int32} {h : Hp} {r : Unit ⊕ Nat} {hf : Hp} (ho : sJ2_init_c21 G N a0 a1 h = some (r, hf)) : gMet G l yJ2_init (ws_ yJ2_init cJ2_init 2 none) 1 12 [gr a0, gi a1] h cvU r hf := by
  refine gMet.of ho hs (plainFor_of_name pn_J2) rfl rfl (gbl rfl) fun X => ?_
  show gT G l X mJ2_init_c21 cvU r hf 0 [(0, gr a0), (1, gi a1)] [] h (sJ2_init_c21 G N a0 a1 h)
  delta sJ2_init_c21
  refine g_aload_n (pc := 0) (x := a0) 0 rfl rfl dJ2_init_0 ?_
  refine g_objInit' (pc := 1) q243 oi_in oi_code (gbl rfl) (gbl rfl) dJ2_init_1 ?_
  refine g_gets (pc := 4) (sv := .inl (.int 1)) (w := gi (1 : Int32)) sfl_0 rfl ⟨Or.inl q244, Or.inl rfl⟩ dJ2_init_4 ?_
  refine g_if_eq (pc := 7) (tgt := 25) rfl dJ2_init_7 ?_ ?_
  · exact g_none
  refine g_aload_n (pc := 10) (x := a0) 0 rfl rfl dJ2_init_10 ?_
  refine g_iload_n (pc := 11) (x := a1) 1 rfl rfl dJ2_init_11 ?_
  refine g_naB (pc := 12) q232 dJ2_init_12 fun v1 h2 => ?_
  refine g_put (pc := 14) k_21 (gblt rfl) lk_J2_15_21 rfl rfl (gNa _ _) dJ2_init_14 fun h3 => ?_
  refine g_aload_n (pc := 17) (x := a0) 0 rfl rfl dJ2_init_17 ?_
  refine g_iconst (pc := 18) (v := (0 : Int32)) ic_0 dJ2_init_18 ?_
  refine g_putb (pc := 19) k_21 (gblt rfl) lk_J2_22_21 rfl rfl dJ2_init_19 fun h4 => ?_
  refine g_goto (pc := 22) (tgt := 38) rfl dJ2_init_22 ?_
  exact g_return (pc := 38) rfl dJ2_init_38
/-! java/lang/StringBuilder.<init>()V -/
noncomputable def sJ3_init (G : GG) (N : Nat) (a0 : Option Nat) (h : Hp) : Out (Unit) :=
  bI a0 (fun q3 => sJ2_init_c21 G N (some q3) (16 : Int32) h) fun v1 h2 =>
  some (.inl (), h2)
abbrev mJ3_init : MI := (RJ3, cJ3_init, 1, none, [], 2, 33, "<init>")
theorem tJ3_init {G : GG} {l : Launch} (hs : l.stackTraces = false) {N : Nat} {a0 : Option Nat} {h : Hp} {r : Unit ⊕ Nat} {hf : Hp} (ho : sJ3_init G N a0 h = some (r, hf)) : gMet G l yJ3_init (ws_ yJ3_init cJ3_init 1 none) 2 33 [gr a0] h cvU r hf := by
  refine gMet.of ho hs (plainFor_of_name pn_J3) rfl rfl (gbl rfl) fun X => ?_
  show gT G l X mJ3_init cvU r hf 0 [(0, gr a0)] [] h (sJ3_init G N a0 h)
  delta sJ3_init
  refine g_aload_n (pc := 0) (x := a0) 0 rfl rfl dJ3_init_0 ?_
  refine g_bipush (pc := 1) (v := (16 : Int32)) bc_16 dJ3_init_1 ?_
  refine g_bIu (pc := 3) (y := yJ2_init) (ws := ws_ yJ2_init cJ2_init 2 none) (fr := 1) (lo := 12) (as := [gi (16 : Int32)]) (st := []) (g_no) rfl (fun _ _ _ e => tJ2_init_c21 hs e) (fun K _ _ _ hM R e1 e2 => g_runI (M := mJ3_init) (pc := 3) (y := yJ2_init) (bytes := cJ2_init) (maxL := 2) (ret := none) (fr := 1) (lo := 12) (as := [gi (16 : Int32)]) (st := []) gy_J2_init (gbl rfl) (gbl rfl) (gbl rfl) rfl q240 q241 rfl dJ3_init_3 K hM R e1 e2) fun v1 h2 => ?_
  exact g_return (pc := 6) rfl dJ3_init_6
/-! FlareSlopes.<init>()V -/
noncomputable def sX1_init (G : GG) (N : Nat) (a0 : Option Nat) (h : Hp) : Out (Unit) :=
  gNN a0 (gNA h 1 z_B (700 : Int32) fun v1 h2 =>
  gP G h2 a0 3 0 (va_rf v1) fun h3 =>
  gP G h3 a0 3 3 (.int (-1 : Int32)) fun h4 =>
  gNew h4 22 [.null, .int 0, .int 0] 3 fun v5 h6 =>
  bI v5 (fun q19 => sJ1_init G N (some q19) h6) fun v7 h8 =>
  gP G h8 a0 3 5 (va_rf v5) fun h9 =>
  gNA h9 7 z_R (2 : Int32) fun v10 h11 =>
  gP G h11 a0 3 6 (va_rf v10) fun h12 =>
  gNew h12 21 [.null, .int 0, .int 0, .int 0] 4 fun v13 h14 =>
  bI v13 (fun q18 => sJ3_init G N (some q18) h14) fun v15 h16 =>
  gP G h16 a0 3 7 (va_rf v13) fun h17 =>
  some (.inl (), h17))
abbrev mX1_init : MI := (RX1, cX1_init, 1, none, [], 3, 53, "<init>")
theorem tX1_init {G : GG} {l : Launch} (hs : l.stackTraces = false) {N : Nat} {a0 : Option Nat} {h : Hp} {r : Unit ⊕ Nat} {hf : Hp} (ho : sX1_init G N a0 h = some (r, hf)) : gMet G l yX1_init (ws_ yX1_init cX1_init 1 none) 3 53 [gr a0] h cvU r hf := by
  refine gMet.of ho hs (plainFor_of_name pn_X1) rfl rfl (gbl rfl) fun X => ?_
  show gT G l X mX1_init cvU r hf 0 [(0, gr a0)] [] h (sX1_init G N a0 h)
  delta sX1_init
  refine g_aload_n (pc := 0) (x := a0) 0 rfl rfl dX1_init_0 ?_
  refine g_objInit' (pc := 1) q206 oi_in oi_code (gbl rfl) (gbl rfl) dX1_init_1 ?_
  refine g_aload_n (pc := 4) (x := a0) 0 rfl rfl dX1_init_4 ?_
  refine g_sipush (pc := 5) (v := (700 : Int32)) sc_700 dX1_init_5 ?_
  refine g_naB (pc := 8) q232 dX1_init_8 fun v1 h2 => ?_
  refine g_putFin (pc := 10) k_3 (gblt rfl) lk_X1_15_3 q268 rfl rfl rfl rfl (gNa _ _) dX1_init_10 fun h3 => ?_
  refine g_aload_n (pc := 13) (x := a0) 0 rfl rfl dX1_init_13 ?_
  refine g_iconst (pc := 14) (v := (-1 : Int32)) ic_m1 dX1_init_14 ?_
  refine g_put (pc := 15) k_3 (gblt rfl) lk_X1_19_3 rfl rfl (gNi _) dX1_init_15 fun h4 => ?_
  refine g_aload_n (pc := 18) (x := a0) 0 rfl rfl dX1_init_18 ?_
  refine g_new (pc := 19) k_22 df_22 q209 q210 q130 dX1_init_19 fun v5 h6 => ?_
  refine g_dup (pc := 22) rfl dX1_init_22 ?_
  refine g_bIu (pc := 23) (y := yJ1_init) (ws := ws_ yJ1_init cJ1_init 1 none) (fr := 2) (lo := 32) (as := []) (st := [gr v5, gr a0]) (g_no) rfl (fun _ _ _ e => tJ1_init hs e) (fun K _ _ _ hM R e1 e2 => g_runI (M := mX1_init) (pc := 23) (y := yJ1_init) (bytes := cJ1_init) (maxL := 1) (ret := none) (fr := 2) (lo := 32) (as := []) (st := [gr v5, gr a0]) gy_J1_init (gbl rfl) (gbl rfl) (gbl rfl) rfl q211 q212 rfl dX1_init_23 K hM R e1 e2) fun v7 h8 => ?_
  refine g_putFin (pc := 26) k_3 (gblt rfl) lk_X1_26_3 q274 rfl rfl rfl rfl (gNr _ _) dX1_init_26 fun h9 => ?_
  refine g_aload_n (pc := 29) (x := a0) 0 rfl rfl dX1_init_29 ?_
  refine g_iconst (pc := 30) (v := (2 : Int32)) ic_2 dX1_init_30 ?_
  refine g_anewarray (pc := 31) rfl q233 q234 dX1_init_31 fun v10 h11 => ?_
  refine g_putFin (pc := 34) k_3 (gblt rfl) lk_X1_32_3 q275 rfl rfl rfl rfl (gNa _ _) dX1_init_34 fun h12 => ?_
  refine g_aload_n (pc := 37) (x := a0) 0 rfl rfl dX1_init_37 ?_
  refine g_new (pc := 38) k_21 df_21 q235 q236 q132 dX1_init_38 fun v13 h14 => ?_
  refine g_dup (pc := 41) rfl dX1_init_41 ?_
  refine g_bIu (pc := 42) (y := yJ3_init) (ws := ws_ yJ3_init cJ3_init 1 none) (fr := 2) (lo := 33) (as := []) (st := [gr v13, gr a0]) (g_no) rfl (fun _ _ _ e => tJ3_init hs e) (fun K _ _ _ hM R e1 e2 => g_runI (M := mX1_init) (pc := 42) (y := yJ3_init) (bytes := cJ3_init) (maxL := 1) (ret := none) (fr := 2) (lo := 33) (as := []) (st := [gr v13, gr a0]) gy_J3_init (gbl rfl) (gbl rfl) (gbl rfl) rfl q237 q238 rfl dX1_init_42 K hM R e1 e2) fun v15 h16 => ?_
  refine g_putFin (pc := 45) k_3 (gblt rfl) lk_X1_39_3 q276 rfl rfl rfl rfl (gNr _ _) dX1_init_45 fun h17 => ?_
  exact g_return (pc := 48) rfl dX1_init_48
/-! FlareSlopesModel.<init>()V -/
noncomputable def sX2_init (G : GG) (N : Nat) (a0 : Option Nat) (h : Hp) : Out (Unit) :=
  gNN a0 (gNA h 0 z_I (1058 : Int32) fun v1 h2 =>
  gP G h2 a0 18 1 (va_rf v1) fun h3 =>
  gNA h3 0 z_I (1058 : Int32) fun v4 h5 =>
  gP G h5 a0 18 2 (va_rf v4) fun h6 =>
  gNA h6 0 z_I (8464 : Int32) fun v7 h8 =>
  gP G h8 a0 18 3 (va_rf v7) fun h9 =>
  gNA h9 0 z_I (2116 : Int32) fun v10 h11 =>
  gP G h11 a0 18 4 (va_rf v10) fun h12 =>
  gNA h12 2 z_Z (2 : Int32) fun v13 h14 =>
  gP G h14 a0 18 5 (va_rf v13) fun h15 =>
  gNA h15 3 z_J (18 : Int32) fun v16 h17 =>
  gP G h17 a0 18 6 (va_rf v16) fun h18 =>
  gNA h18 3 z_J (18 : Int32) fun v19 h20 =>
  gP G h20 a0 18 7 (va_rf v19) fun h21 =>
  gNA h21 1 z_B (700 : Int32) fun v22 h23 =>
  gP G h23 a0 18 10 (va_rf v22) fun h24 =>
  gP G h24 a0 18 13 (.int (-1 : Int32)) fun h25 =>
  gNA h25 1 z_B (300 : Int32) fun v26 h27 =>
  gP G h27 a0 18 20 (va_rf v26) fun h28 =>
  some (.inl (), h28))
abbrev mX2_init : MI := (RX2, cX2_init, 1, none, [], 1, 12, "<init>")
theorem tX2_init {G : GG} {l : Launch} (hs : l.stackTraces = false) {N : Nat} {a0 : Option Nat} {h : Hp} {r : Unit ⊕ Nat} {hf : Hp} (ho : sX2_init G N a0 h = some (r, hf)) : gMet G l yX2_init (ws_ yX2_init cX2_init 1 none) 1 12 [gr a0] h cvU r hf := by
  refine gMet.of ho hs (plainFor_of_name pn_X2) rfl rfl (gbl rfl) fun X => ?_
  show gT G l X mX2_init cvU r hf 0 [(0, gr a0)] [] h (sX2_init G N a0 h)
  delta sX2_init
  refine g_aload_n (pc := 0) (x := a0) 0 rfl rfl dX2_init_0 ?_
  refine g_objInit' (pc := 1) q3939 oi_in oi_code (gbl rfl) (gbl rfl) dX2_init_1 ?_
  refine g_aload_n (pc := 4) (x := a0) 0 rfl rfl dX2_init_4 ?_
  refine g_sipush (pc := 5) (v := (1058 : Int32)) sc_1058 dX2_init_5 ?_
  refine g_naI (pc := 8) q298 dX2_init_8 fun v1 h2 => ?_
  refine g_putFin (pc := 10) k_18 (gblt rfl) lk_X2_9_18 q3941 rfl rfl rfl rfl (gNa _ _) dX2_init_10 fun h3 => ?_
  refine g_aload_n (pc := 13) (x := a0) 0 rfl rfl dX2_init_13 ?_
  refine g_sipush (pc := 14) (v := (1058 : Int32)) sc_1058 dX2_init_14 ?_
  refine g_naI (pc := 17) q298 dX2_init_17 fun v4 h5 => ?_
  refine g_putFin (pc := 19) k_18 (gblt rfl) lk_X2_13_18 q3942 rfl rfl rfl rfl (gNa _ _) dX2_init_19 fun h6 => ?_
  refine g_aload_n (pc := 22) (x := a0) 0 rfl rfl dX2_init_22 ?_
  refine g_sipush (pc := 23) (v := (8464 : Int32)) sc_8464 dX2_init_23 ?_
  refine g_naI (pc := 26) q298 dX2_init_26 fun v7 h8 => ?_
  refine g_putFin (pc := 28) k_18 (gblt rfl) lk_X2_16_18 q3943 rfl rfl rfl rfl (gNa _ _) dX2_init_28 fun h9 => ?_
  refine g_aload_n (pc := 31) (x := a0) 0 rfl rfl dX2_init_31 ?_
  refine g_sipush (pc := 32) (v := (2116 : Int32)) sc_2116 dX2_init_32 ?_
  refine g_naI (pc := 35) q298 dX2_init_35 fun v10 h11 => ?_
  refine g_putFin (pc := 37) k_18 (gblt rfl) lk_X2_19_18 q3944 rfl rfl rfl rfl (gNa _ _) dX2_init_37 fun h12 => ?_
  refine g_aload_n (pc := 40) (x := a0) 0 rfl rfl dX2_init_40 ?_
  refine g_iconst (pc := 41) (v := (2 : Int32)) ic_2 dX2_init_41 ?_
  refine g_naZ (pc := 42) q4007 dX2_init_42 fun v13 h14 => ?_
  refine g_putFin (pc := 44) k_18 (gblt rfl) lk_X2_22_18 q3945 rfl rfl rfl rfl (gNa _ _) dX2_init_44 fun h15 => ?_
  refine g_aload_n (pc := 47) (x := a0) 0 rfl rfl dX2_init_47 ?_
  refine g_bipush (pc := 48) (v := (18 : Int32)) bc_18 dX2_init_48 ?_
  refine g_naJ (pc := 50) q4008 dX2_init_50 fun v16 h17 => ?_
  refine g_putFin (pc := 52) k_18 (gblt rfl) lk_X2_26_18 q3946 rfl rfl rfl rfl (gNa _ _) dX2_init_52 fun h18 => ?_
  refine g_aload_n (pc := 55) (x := a0) 0 rfl rfl dX2_init_55 ?_
  refine g_bipush (pc := 56) (v := (18 : Int32)) bc_18 dX2_init_56 ?_
  refine g_naJ (pc := 58) q4008 dX2_init_58 fun v19 h20 => ?_
  refine g_putFin (pc := 60) k_18 (gblt rfl) lk_X2_30_18 q3947 rfl rfl rfl rfl (gNa _ _) dX2_init_60 fun h21 => ?_
  refine g_aload_n (pc := 63) (x := a0) 0 rfl rfl dX2_init_63 ?_
  refine g_sipush (pc := 64) (v := (700 : Int32)) sc_700 dX2_init_64 ?_
  refine g_naB (pc := 67) q232 dX2_init_67 fun v22 h23 => ?_
  refine g_putFin (pc := 69) k_18 (gblt rfl) lk_X2_33_18 q3950 rfl rfl rfl rfl (gNa _ _) dX2_init_69 fun h24 => ?_
  refine g_aload_n (pc := 72) (x := a0) 0 rfl rfl dX2_init_72 ?_
  refine g_iconst (pc := 73) (v := (-1 : Int32)) ic_m1 dX2_init_73 ?_
  refine g_put (pc := 74) k_18 (gblt rfl) lk_X2_37_18 rfl rfl (gNi _) dX2_init_74 fun h25 => ?_
  refine g_aload_n (pc := 77) (x := a0) 0 rfl rfl dX2_init_77 ?_
  refine g_sipush (pc := 78) (v := (300 : Int32)) sc_300 dX2_init_78 ?_
  refine g_naB (pc := 81) q232 dX2_init_81 fun v26 h27 => ?_
  refine g_putFin (pc := 83) k_18 (gblt rfl) lk_X2_41_18 q3960 rfl rfl rfl rfl (gNa _ _) dX2_init_83 fun h28 => ?_
  exact g_return (pc := 86) rfl dX2_init_86
/-! FlareSlopes.append(IIIII)I -/
noncomputable def bX1_append_68 (G : GG) (N : Nat) (a0 : Option Nat) (v17 : Int32) (j20 : (Unit) → Hp → Out (Int32)) (w23 : (Int32) → Hp → Out (Int32)) (x21 : Int32) (h22 : Hp) : Out (Int32) :=
  if x21 < 0 then (j20 () h22)
  else gFr h22 a0 3 0 fun v24 =>
  gFi h22 a0 3 1 fun v25 =>
  gSb G h22 v24 1 v25 ((v17 >>> (x21 &&& 31)).toInt8.toInt32) fun h26 =>
  gFi h26 a0 3 1 fun v27 =>
  gP G h26 a0 3 1 (.int (v27 + (1 : Int32))) fun h28 =>
  w23 (x21 + (-8 : Int32)) h28
noncomputable def bX1_append_50 (G : GG) (N : Nat) (a0 : Option Nat) (v2 : Option Nat) (v9 : Int32) (j12 : (Unit) → Hp → Out (Int32)) (w16 : (Int32) → Hp → Out (Int32)) (x14 : Int32) (h15 : Hp) : Out (Int32) :=
  if v9 ≤ x14 then (j12 () h15)
  else gAi h15 v2 0 x14 fun v17 =>
  gJ (fun (x18 : Unit) (h19 : Hp) =>
  w16 (x14 + (1 : Int32)) h19) fun j20 =>
  gLp (bX1_append_68 G N a0 v17 j20) N (24 : Int32) h15
noncomputable def sX1_append (G : GG) (N : Nat) (a0 : Option Nat) (a1 : Int32) (a2 : Int32) (a3 : Int32) (a4 : Int32) (a5 : Int32) (h : Hp) : Out (Int32) :=
  gFi h a0 3 1 fun v1 =>
  if (v1 + (20 : Int32)) ≤ (700 : Int32) then (gNA h 0 z_I (5 : Int32) fun v2 h3 =>
  gSi G h3 v2 0 (0 : Int32) a1 fun h4 =>
  gSi G h4 v2 0 (1 : Int32) a2 fun h5 =>
  gSi G h5 v2 0 (2 : Int32) a3 fun h6 =>
  gSi G h6 v2 0 (3 : Int32) a4 fun h7 =>
  gSi G h7 v2 0 (4 : Int32) a5 fun h8 =>
  gLen h8 v2 fun v9 =>
  gJ (fun (x10 : Unit) (h11 : Hp) =>
  gFi h11 a0 3 1 fun v13 =>
  some (.inl v13, h11)) fun j12 =>
  gLp (bX1_append_50 G N a0 v2 v9 j12) N (0 : Int32) h8)
  else some (.inl (-1 : Int32), h)
abbrev mX1_append : MI := (RX1, cX1_append, 11, (some .int), [], 0, 0, "append")
theorem tX1_append {G : GG} {l : Launch} (hs : l.stackTraces = false) {N : Nat} {a0 : Option Nat} {a1 : Int32} {a2 : Int32} {a3 : Int32} {a4 : Int32} {a5 : Int32} {h : Hp} {r : Int32 ⊕ Nat} {hf : Hp} (ho : sX1_append G N a0 a1 a2 a3 a4 a5 h = some (r, hf)) : gMet G l yX1_append (ws_ yX1_append cX1_append 11 (some .int)) 0 0 [gr a0, gi a1, gi a2, gi a3, gi a4, gi a5] h cvI r hf := by
  refine gMet.of ho hs (plainFor_of_name pn_X1) rfl rfl (gbl rfl) fun X => ?_
  show gT G l X mX1_append cvI r hf 0 [(0, gr a0), (1, gi a1), (2, gi a2), (3, gi a3), (4, gi a4), (5, gi a5)] [] h (sX1_append G N a0 a1 a2 a3 a4 a5 h)
  delta sX1_append
  refine g_aload_n (pc := 0) (x := a0) 0 rfl rfl dX1_append_0 ?_
  refine g_getfi (pc := 1) k_3 (gblt rfl) lk_X1_90_3 dX1_append_1 fun v1 => ?_
  refine g_bipush (pc := 4) (v := (20 : Int32)) bc_20 dX1_append_4 ?_
  refine g_iadd (pc := 6) dX1_append_6 ?_
  refine g_sipush (pc := 7) (v := (700 : Int32)) sc_700 dX1_append_7 ?_
  refine g_icmp_le (pc := 10) (tgt := 15) rfl dX1_append_10 ?_ ?_
  rotate_left
  · refine g_iconst (pc := 13) (v := (-1 : Int32)) ic_m1 dX1_append_13 ?_
    exact g_ireturn (pc := 14) rfl dX1_append_14
  refine g_iconst (pc := 15) (v := (5 : Int32)) ic_5 dX1_append_15 ?_
  refine g_naI (pc := 16) q298 dX1_append_16 fun v2 h3 => ?_
  refine g_dup (pc := 18) rfl dX1_append_18 ?_
  refine g_iconst (pc := 19) (v := (0 : Int32)) ic_0 dX1_append_19 ?_
  refine g_iload_n (pc := 20) (x := a1) 1 rfl rfl dX1_append_20 ?_
  refine g_iastore (pc := 21) rfl dX1_append_21 fun h4 => ?_
  refine g_dup (pc := 22) rfl dX1_append_22 ?_
  refine g_iconst (pc := 23) (v := (1 : Int32)) ic_1 dX1_append_23 ?_
  refine g_iload_n (pc := 24) (x := a2) 2 rfl rfl dX1_append_24 ?_
  refine g_iastore (pc := 25) rfl dX1_append_25 fun h5 => ?_
  refine g_dup (pc := 26) rfl dX1_append_26 ?_
  refine g_iconst (pc := 27) (v := (2 : Int32)) ic_2 dX1_append_27 ?_
  refine g_iload_n (pc := 28) (x := a3) 3 rfl rfl dX1_append_28 ?_
  refine g_iastore (pc := 29) rfl dX1_append_29 fun h6 => ?_
  refine g_dup (pc := 30) rfl dX1_append_30 ?_
  refine g_iconst (pc := 31) (v := (3 : Int32)) ic_3 dX1_append_31 ?_
  refine g_iload (pc := 32) (x := a4) 4 rfl dX1_append_32 ?_
  refine g_iastore (pc := 34) rfl dX1_append_34 fun h7 => ?_
  refine g_dup (pc := 35) rfl dX1_append_35 ?_
  refine g_iconst (pc := 36) (v := (4 : Int32)) ic_4 dX1_append_36 ?_
  refine g_iload (pc := 37) (x := a5) 5 rfl dX1_append_37 ?_
  refine g_iastore (pc := 39) rfl dX1_append_39 fun h8 => ?_
  refine g_astore (pc := 40) (lv' := [(6, gr v2), (0, gr a0)]) [0, 1] rfl (gblt rfl) dX1_append_40 ?_
  refine g_aload (pc := 42) (x := v2) 0 rfl dX1_append_42 ?_
  refine g_alen (pc := 44) dX1_append_44 fun v9 => ?_
  refine g_istore (pc := 45) (lv' := [(7, gi v9), (6, gr v2), (0, gr a0)]) [0, 1, 2] rfl (gblt rfl) dX1_append_45 ?_
  refine g_iconst (pc := 47) (v := (0 : Int32)) ic_0 dX1_append_47 ?_
  refine g_istore (pc := 48) (lv' := [(8, gi (0 : Int32)), (7, gi v9), (6, gr v2), (0, gr a0)]) [0, 1, 2, 3] rfl (gblt rfl) dX1_append_48 ?_
  refine g_join 110 (fun (x10 : Unit) => [(0, gr a0)]) (fun (x10 : Unit) => []) (fun x10 h11 => ?_) (fun j12 Hj12 => ?_)
  · refine g_aload_n (pc := 110) (x := a0) 0 rfl rfl dX1_append_110 ?_
    refine g_getfi (pc := 111) k_3 (gblt rfl) lk_X1_90_3 dX1_append_111 fun v13 => ?_
    exact g_ireturn (pc := 114) rfl dX1_append_114
  refine g_sub (lv' := [(0, gr a0), (6, gr v2), (7, gi v9), (8, gi (0 : Int32))]) [3, 2, 1, 0] rfl ?_
  refine g_loop (pc := 50) (fun (x14 : Int32) => [(0, gr a0), (6, gr v2), (7, gi v9), (8, gi x14)]) (fun (_ : Int32) => []) (fun w16 Hw16 x14 h15 => ?_) N (0 : Int32) h8
  delta bX1_append_50
  refine g_iload (pc := 50) (x := x14) 3 rfl dX1_append_50 ?_
  refine g_iload (pc := 52) (x := v9) 2 rfl dX1_append_52 ?_
  refine g_icmp_ge (pc := 54) (tgt := 110) rfl dX1_append_54 ?_ ?_
  · exact g_sub [0] rfl (Hj12 () h15)
  refine g_aload (pc := 57) (x := v2) 1 rfl dX1_append_57 ?_
  refine g_iload (pc := 59) (x := x14) 3 rfl dX1_append_59 ?_
  refine g_iaload (pc := 61) rfl dX1_append_61 fun v17 => ?_
  refine g_istore (pc := 62) (lv' := [(9, gi v17), (0, gr a0), (6, gr v2), (7, gi v9), (8, gi x14)]) [0, 1, 2, 3, 4] rfl (gblt rfl) dX1_append_62 ?_
  refine g_bipush (pc := 64) (v := (24 : Int32)) bc_24 dX1_append_64 ?_
  refine g_istore (pc := 66) (lv' := [(10, gi (24 : Int32)), (9, gi v17), (0, gr a0), (6, gr v2), (7, gi v9), (8, gi x14)]) [0, 1, 2, 3, 4, 5] rfl (gblt rfl) dX1_append_66 ?_
  refine g_join 104 (fun (x18 : Unit) => [(0, gr a0), (6, gr v2), (7, gi v9), (8, gi x14)]) (fun (x18 : Unit) => []) (fun x18 h19 => ?_) (fun j20 Hj20 => ?_)
  · refine g_iinc (pc := 104) (v := x14 + (1 : Int32)) 3 rfl (ii_1 _) (lv' := [(8, gi (x14 + (1 : Int32))), (0, gr a0), (6, gr v2), (7, gi v9)]) [0, 1, 2, 3] rfl (gblt rfl) dX1_append_104 ?_
    refine g_goto (pc := 107) (tgt := 50) rfl dX1_append_107 ?_
    exact g_sub [1, 2, 3, 0] rfl (Hw16 (x14 + (1 : Int32)) h19)
  refine g_sub (lv' := [(0, gr a0), (6, gr v2), (7, gi v9), (8, gi x14), (9, gi v17), (10, gi (24 : Int32))]) [2, 3, 4, 5, 1, 0] rfl ?_
  refine g_loop (pc := 68) (fun (x21 : Int32) => [(0, gr a0), (6, gr v2), (7, gi v9), (8, gi x14), (9, gi v17), (10, gi x21)]) (fun (_ : Int32) => []) (fun w23 Hw23 x21 h22 => ?_) N (24 : Int32) h15
  delta bX1_append_68
  refine g_iload (pc := 68) (x := x21) 5 rfl dX1_append_68 ?_
  refine g_if_lt (pc := 70) (tgt := 104) rfl dX1_append_70 ?_ ?_
  · exact g_sub [0, 1, 2, 3] rfl (Hj20 () h22)
  refine g_aload_n (pc := 73) (x := a0) 0 rfl rfl dX1_append_73 ?_
  refine g_getfr (pc := 74) k_3 (gblt rfl) lk_X1_15_3 dX1_append_74 fun v24 => ?_
  refine g_aload_n (pc := 77) (x := a0) 0 rfl rfl dX1_append_77 ?_
  refine g_getfi (pc := 78) k_3 (gblt rfl) lk_X1_90_3 dX1_append_78 fun v25 => ?_
  refine g_iload (pc := 81) (x := v17) 4 rfl dX1_append_81 ?_
  refine g_iload (pc := 83) (x := x21) 5 rfl dX1_append_83 ?_
  refine g_ishr (pc := 85) dX1_append_85 ?_
  refine g_i2b (pc := 86) dX1_append_86 ?_
  refine g_bastore (pc := 87) rfl dX1_append_87 fun h26 => ?_
  refine g_aload_n (pc := 88) (x := a0) 0 rfl rfl dX1_append_88 ?_
  refine g_dup (pc := 89) rfl dX1_append_89 ?_
  refine g_getfi (pc := 90) k_3 (gblt rfl) lk_X1_90_3 dX1_append_90 fun v27 => ?_
  refine g_iconst (pc := 93) (v := (1 : Int32)) ic_1 dX1_append_93 ?_
  refine g_iadd (pc := 94) dX1_append_94 ?_
  refine g_put (pc := 95) k_3 (gblt rfl) lk_X1_90_3 rfl rfl (gNi _) dX1_append_95 fun h28 => ?_
  refine g_iinc (pc := 98) (v := x21 + (-8 : Int32)) 5 rfl (ii_m8 _) (lv' := [(10, gi (x21 + (-8 : Int32))), (0, gr a0), (6, gr v2), (7, gi v9), (8, gi x14), (9, gi v17)]) [0, 1, 2, 3, 4, 5] rfl (gblt rfl) dX1_append_98 ?_
  refine g_goto (pc := 101) (tgt := 68) rfl dX1_append_101 ?_
  exact g_sub [1, 2, 3, 4, 5, 0] rfl (Hw23 (x21 + (-8 : Int32)) h28)
/-! FlareSlopesModel.four(I)V -/
noncomputable def bX2_four_2 (G : GG) (N : Nat) (a0 : Option Nat) (a1 : Int32) (w3 : (Int32) → Hp → Out (Unit)) (x1 : Int32) (h2 : Hp) : Out (Unit) :=
  if x1 < 0 then (some (.inl (), h2))
  else gFr h2 a0 18 10 fun v4 =>
  gFi h2 a0 18 11 fun v5 =>
  gSb G h2 v4 1 v5 ((a1 >>> (((8 : Int32) * x1) &&& 31)).toInt8.toInt32) fun h6 =>
  gFi h6 a0 18 11 fun v7 =>
  gP G h6 a0 18 11 (.int (v7 + (1 : Int32))) fun h8 =>
  w3 (x1 + (-1 : Int32)) h8
noncomputable def sX2_four (G : GG) (N : Nat) (a0 : Option Nat) (a1 : Int32) (h : Hp) : Out (Unit) :=
  gLp (bX2_four_2 G N a0 a1) N (3 : Int32) h
abbrev mX2_four : MI := (RX2, cX2_four, 3, none, [], 0, 0, "four")
theorem tX2_four {G : GG} {l : Launch} (hs : l.stackTraces = false) {N : Nat} {a0 : Option Nat} {a1 : Int32} {h : Hp} {r : Unit ⊕ Nat} {hf : Hp} (ho : sX2_four G N a0 a1 h = some (r, hf)) : gMet G l yX2_four (ws_ yX2_four cX2_four 3 none) 0 0 [gr a0, gi a1] h cvU r hf := by
  refine gMet.of ho hs (plainFor_of_name pn_X2) rfl rfl (gbl rfl) fun X => ?_
  show gT G l X mX2_four cvU r hf 0 [(0, gr a0), (1, gi a1)] [] h (sX2_four G N a0 a1 h)
  delta sX2_four
  refine g_iconst (pc := 0) (v := (3 : Int32)) ic_3 dX2_four_0 ?_
  refine g_istore_n (pc := 1) (lv' := [(2, gi (3 : Int32)), (0, gr a0), (1, gi a1)]) [0, 1, 2] rfl rfl (gblt rfl) dX2_four_1 ?_
  refine g_sub (lv' := [(0, gr a0), (1, gi a1), (2, gi (3 : Int32))]) [1, 2, 0] rfl ?_
  refine g_loop (pc := 2) (fun (x1 : Int32) => [(0, gr a0), (1, gi a1), (2, gi x1)]) (fun (_ : Int32) => []) (fun w3 Hw3 x1 h2 => ?_) N (3 : Int32) h
  delta bX2_four_2
  refine g_iload_n (pc := 2) (x := x1) 2 rfl rfl dX2_four_2 ?_
  refine g_if_lt (pc := 3) (tgt := 38) rfl dX2_four_3 ?_ ?_
  · exact g_return (pc := 38) rfl dX2_four_38
  refine g_aload_n (pc := 6) (x := a0) 0 rfl rfl dX2_four_6 ?_
  refine g_getfr (pc := 7) k_18 (gblt rfl) lk_X2_33_18 dX2_four_7 fun v4 => ?_
  refine g_aload_n (pc := 10) (x := a0) 0 rfl rfl dX2_four_10 ?_
  refine g_getfi (pc := 11) k_18 (gblt rfl) lk_X2_51_18 dX2_four_11 fun v5 => ?_
  refine g_iload_n (pc := 14) (x := a1) 1 rfl rfl dX2_four_14 ?_
  refine g_bipush (pc := 15) (v := (8 : Int32)) bc_8 dX2_four_15 ?_
  refine g_iload_n (pc := 17) (x := x1) 2 rfl rfl dX2_four_17 ?_
  refine g_imul (pc := 18) dX2_four_18 ?_
  refine g_ishr (pc := 19) dX2_four_19 ?_
  refine g_i2b (pc := 20) dX2_four_20 ?_
  refine g_bastore (pc := 21) rfl dX2_four_21 fun h6 => ?_
  refine g_aload_n (pc := 22) (x := a0) 0 rfl rfl dX2_four_22 ?_
  refine g_dup (pc := 23) rfl dX2_four_23 ?_
  refine g_getfi (pc := 24) k_18 (gblt rfl) lk_X2_51_18 dX2_four_24 fun v7 => ?_
  refine g_iconst (pc := 27) (v := (1 : Int32)) ic_1 dX2_four_27 ?_
  refine g_iadd (pc := 28) dX2_four_28 ?_
  refine g_put (pc := 29) k_18 (gblt rfl) lk_X2_51_18 rfl rfl (gNi _) dX2_four_29 fun h8 => ?_
  refine g_iinc (pc := 32) (v := x1 + (-1 : Int32)) 2 rfl (ii_m1 _) (lv' := [(2, gi (x1 + (-1 : Int32))), (0, gr a0), (1, gi a1)]) [0, 1, 2] rfl (gblt rfl) dX2_four_32 ?_
  refine g_goto (pc := 35) (tgt := 2) rfl dX2_four_35 ?_
  exact g_sub [1, 2, 0] rfl (Hw3 (x1 + (-1 : Int32)) h8)
/-! FlareSlopesModel.append(IIIII)I -/
noncomputable def sX2_append (G : GG) (N : Nat) (a0 : Option Nat) (a1 : Int32) (a2 : Int32) (a3 : Int32) (a4 : Int32) (a5 : Int32) (h : Hp) : Out (Int32) :=
  gP G h a0 18 0 (.int (0 : Int32)) fun h1 =>
  gFi h1 a0 18 11 fun v2 =>
  if v2 ≤ (680 : Int32) then (bV h1 a0 18 (fun q18 => sX2_four G N (some q18) a1 h1) fun v3 h4 =>
  bV h4 a0 18 (fun q17 => sX2_four G N (some q17) a2 h4) fun v5 h6 =>
  bV h6 a0 18 (fun q16 => sX2_four G N (some q16) a3 h6) fun v7 h8 =>
  bV h8 a0 18 (fun q15 => sX2_four G N (some q15) a4 h8) fun v9 h10 =>
  bV h10 a0 18 (fun q14 => sX2_four G N (some q14) a5 h10) fun v11 h12 =>
  gFi h12 a0 18 11 fun v13 =>
  some (.inl v13, h12))
  else some (.inl (-1 : Int32), h1)
abbrev mX2_append : MI := (RX2, cX2_append, 6, (some .int), [], 1, 22, "append")
theorem tX2_append {G : GG} {l : Launch} (hs : l.stackTraces = false) {N : Nat} {a0 : Option Nat} {a1 : Int32} {a2 : Int32} {a3 : Int32} {a4 : Int32} {a5 : Int32} {h : Hp} {r : Int32 ⊕ Nat} {hf : Hp} (ho : sX2_append G N a0 a1 a2 a3 a4 a5 h = some (r, hf)) : gMet G l yX2_append (ws_ yX2_append cX2_append 6 (some .int)) 1 22 [gr a0, gi a1, gi a2, gi a3, gi a4, gi a5] h cvI r hf := by
  refine gMet.of ho hs (plainFor_of_name pn_X2) rfl rfl (gbl rfl) fun X => ?_
  show gT G l X mX2_append cvI r hf 0 [(0, gr a0), (1, gi a1), (2, gi a2), (3, gi a3), (4, gi a4), (5, gi a5)] [] h (sX2_append G N a0 a1 a2 a3 a4 a5 h)
  delta sX2_append
  refine g_aload_n (pc := 0) (x := a0) 0 rfl rfl dX2_append_0 ?_
  refine g_iconst (pc := 1) (v := (0 : Int32)) ic_0 dX2_append_1 ?_
  refine g_put (pc := 2) k_18 (gblt rfl) lk_X2_44_18 rfl rfl (gNi _) dX2_append_2 fun h1 => ?_
  refine g_aload_n (pc := 5) (x := a0) 0 rfl rfl dX2_append_5 ?_
  refine g_getfi (pc := 6) k_18 (gblt rfl) lk_X2_51_18 dX2_append_6 fun v2 => ?_
  refine g_sipush (pc := 9) (v := (680 : Int32)) sc_680 dX2_append_9 ?_
  refine g_icmp_le (pc := 12) (tgt := 17) rfl dX2_append_12 ?_ ?_
  rotate_left
  · refine g_iconst (pc := 15) (v := (-1 : Int32)) ic_m1 dX2_append_15 ?_
    exact g_ireturn (pc := 16) rfl dX2_append_16
  refine g_aload_n (pc := 17) (x := a0) 0 rfl rfl dX2_append_17 ?_
  refine g_iload_n (pc := 18) (x := a1) 1 rfl rfl dX2_append_18 ?_
  refine g_bVu (pc := 19) (y := yX2_four) (ws := ws_ yX2_four cX2_four 3 none) (fr := 0) (lo := 0) (as := [gi a1]) (st := []) (g_no) rfl (fun _ _ _ e => tX2_four hs e) (fun K _ _ _ hq hM R e1 e2 => g_runV (M := mX2_append) (pc := 19) (y := yX2_four) (bytes := cX2_four) (maxL := 3) (ret := none) (fr := 0) (lo := 0) (as := [gi a1]) (st := []) hq (C := "FlareSlopesModel") rfl gy_X2_four (gbl rfl) (gbl rfl) (gbl rfl) q4017 q4019 qs53 dX2_append_19 K hM R e1 e2) fun v3 h4 => ?_
  refine g_aload_n (pc := 22) (x := a0) 0 rfl rfl dX2_append_22 ?_
  refine g_iload_n (pc := 23) (x := a2) 2 rfl rfl dX2_append_23 ?_
  refine g_bVu (pc := 24) (y := yX2_four) (ws := ws_ yX2_four cX2_four 3 none) (fr := 0) (lo := 0) (as := [gi a2]) (st := []) (g_no) rfl (fun _ _ _ e => tX2_four hs e) (fun K _ _ _ hq hM R e1 e2 => g_runV (M := mX2_append) (pc := 24) (y := yX2_four) (bytes := cX2_four) (maxL := 3) (ret := none) (fr := 0) (lo := 0) (as := [gi a2]) (st := []) hq (C := "FlareSlopesModel") rfl gy_X2_four (gbl rfl) (gbl rfl) (gbl rfl) q4017 q4019 qs53 dX2_append_24 K hM R e1 e2) fun v5 h6 => ?_
  refine g_aload_n (pc := 27) (x := a0) 0 rfl rfl dX2_append_27 ?_
  refine g_iload_n (pc := 28) (x := a3) 3 rfl rfl dX2_append_28 ?_
  refine g_bVu (pc := 29) (y := yX2_four) (ws := ws_ yX2_four cX2_four 3 none) (fr := 0) (lo := 0) (as := [gi a3]) (st := []) (g_no) rfl (fun _ _ _ e => tX2_four hs e) (fun K _ _ _ hq hM R e1 e2 => g_runV (M := mX2_append) (pc := 29) (y := yX2_four) (bytes := cX2_four) (maxL := 3) (ret := none) (fr := 0) (lo := 0) (as := [gi a3]) (st := []) hq (C := "FlareSlopesModel") rfl gy_X2_four (gbl rfl) (gbl rfl) (gbl rfl) q4017 q4019 qs53 dX2_append_29 K hM R e1 e2) fun v7 h8 => ?_
  refine g_aload_n (pc := 32) (x := a0) 0 rfl rfl dX2_append_32 ?_
  refine g_iload (pc := 33) (x := a4) 4 rfl dX2_append_33 ?_
  refine g_bVu (pc := 35) (y := yX2_four) (ws := ws_ yX2_four cX2_four 3 none) (fr := 0) (lo := 0) (as := [gi a4]) (st := []) (g_no) rfl (fun _ _ _ e => tX2_four hs e) (fun K _ _ _ hq hM R e1 e2 => g_runV (M := mX2_append) (pc := 35) (y := yX2_four) (bytes := cX2_four) (maxL := 3) (ret := none) (fr := 0) (lo := 0) (as := [gi a4]) (st := []) hq (C := "FlareSlopesModel") rfl gy_X2_four (gbl rfl) (gbl rfl) (gbl rfl) q4017 q4019 qs53 dX2_append_35 K hM R e1 e2) fun v9 h10 => ?_
  refine g_aload_n (pc := 38) (x := a0) 0 rfl rfl dX2_append_38 ?_
  refine g_iload (pc := 39) (x := a5) 5 rfl dX2_append_39 ?_
  refine g_bVu (pc := 41) (y := yX2_four) (ws := ws_ yX2_four cX2_four 3 none) (fr := 0) (lo := 0) (as := [gi a5]) (st := []) (g_no) rfl (fun _ _ _ e => tX2_four hs e) (fun K _ _ _ hq hM R e1 e2 => g_runV (M := mX2_append) (pc := 41) (y := yX2_four) (bytes := cX2_four) (maxL := 3) (ret := none) (fr := 0) (lo := 0) (as := [gi a5]) (st := []) hq (C := "FlareSlopesModel") rfl gy_X2_four (gbl rfl) (gbl rfl) (gbl rfl) q4017 q4019 qs53 dX2_append_41 K hM R e1 e2) fun v11 h12 => ?_
  refine g_aload_n (pc := 44) (x := a0) 0 rfl rfl dX2_append_44 ?_
  refine g_getfi (pc := 45) k_18 (gblt rfl) lk_X2_51_18 dX2_append_45 fun v13 => ?_
  exact g_ireturn (pc := 48) rfl dX2_append_48
/-! FlareSlopes.in(III)Z -/
noncomputable def sX1_in (G : GG) (N : Nat) (a0 : Int32) (a1 : Int32) (a2 : Int32) (h : Hp) : Out (Int32) :=
  gJ (fun (x1 : Unit) (h2 : Hp) =>
  gRtZ (0 : Int32) h2) fun j3 =>
  if a0 < a1 then (j3 () h)
  else if a2 < a0 then (j3 () h)
  else gRtZ (1 : Int32) h
abbrev mX1_in : MI := (RX1, cX1_in, 3, (some .boolean), [], 0, 0, "in")
theorem tX1_in {G : GG} {l : Launch} (hs : l.stackTraces = false) {N : Nat} {a0 : Int32} {a1 : Int32} {a2 : Int32} {h : Hp} {r : Int32 ⊕ Nat} {hf : Hp} (ho : sX1_in G N a0 a1 a2 h = some (r, hf)) : gMet G l yX1_in (ws_ yX1_in cX1_in 3 (some .boolean)) 0 0 [gi a0, gi a1, gi a2] h cvI r hf := by
  refine gMet.of ho hs (plainFor_of_name pn_X1) rfl rfl (gbl rfl) fun X => ?_
  show gT G l X mX1_in cvI r hf 0 [(0, gi a0), (1, gi a1), (2, gi a2)] [] h (sX1_in G N a0 a1 a2 h)
  delta sX1_in
  refine g_iload_n (pc := 0) (x := a0) 0 rfl rfl dX1_in_0 ?_
  refine g_iload_n (pc := 1) (x := a1) 1 rfl rfl dX1_in_1 ?_
  refine g_join 14 (fun (x1 : Unit) => []) (fun (x1 : Unit) => []) (fun x1 h2 => ?_) (fun j3 Hj3 => ?_)
  · refine g_iconst (pc := 14) (v := (0 : Int32)) ic_0 dX1_in_14 ?_
    exact g_zreturn (pc := 15) rfl dX1_in_15
  refine g_icmp_lt (pc := 2) (tgt := 14) rfl dX1_in_2 ?_ ?_
  · exact g_sub [] rfl (Hj3 () h)
  refine g_iload_n (pc := 5) (x := a0) 0 rfl rfl dX1_in_5 ?_
  refine g_iload_n (pc := 6) (x := a2) 2 rfl rfl dX1_in_6 ?_
  refine g_icmp_gt (pc := 7) (tgt := 14) rfl dX1_in_7 ?_ ?_
  · exact g_sub [] rfl (Hj3 () h)
  refine g_iconst (pc := 10) (v := (1 : Int32)) ic_1 dX1_in_10 ?_
  refine g_goto (pc := 11) (tgt := 15) rfl dX1_in_11 ?_
  exact g_zreturn (pc := 15) rfl dX1_in_15
/-! FlareSlopes.checkIndex(II)V -/
noncomputable def sX1_checkIndex (G : GG) (N : Nat) (a0 : Int32) (a1 : Int32) (h : Hp) : Out (Unit) :=
  bnd (sX1_in G N a0 (0 : Int32) (a1 - (1 : Int32)) h) fun v1 h2 =>
  if v1 = 0 then (gMk h2 2 fun v3 h4 =>
  gThr G v3 h4)
  else some (.inl (), h2)
abbrev mX1_checkIndex : MI := (RX1, cX1_checkIndex, 2, none, [], 6, 81, "checkIndex")
theorem tX1_checkIndex {G : GG} {l : Launch} (hs : l.stackTraces = false) {N : Nat} {a0 : Int32} {a1 : Int32} {h : Hp} {r : Unit ⊕ Nat} {hf : Hp} (ho : sX1_checkIndex G N a0 a1 h = some (r, hf)) : gMet G l yX1_checkIndex (ws_ yX1_checkIndex cX1_checkIndex 2 none) 6 81 [gi a0, gi a1] h cvU r hf := by
  refine gMet.of ho hs (plainFor_of_name pn_X1) rfl rfl (gbl rfl) fun X => ?_
  show gT G l X mX1_checkIndex cvU r hf 0 [(0, gi a0), (1, gi a1)] [] h (sX1_checkIndex G N a0 a1 h)
  delta sX1_checkIndex
  refine g_iload_n (pc := 0) (x := a0) 0 rfl rfl dX1_checkIndex_0 ?_
  refine g_iconst (pc := 1) (v := (0 : Int32)) ic_0 dX1_checkIndex_1 ?_
  refine g_iload_n (pc := 2) (x := a1) 1 rfl rfl dX1_checkIndex_2 ?_
  refine g_iconst (pc := 3) (v := (1 : Int32)) ic_1 dX1_checkIndex_3 ?_
  refine g_isub (pc := 4) dX1_checkIndex_4 ?_
  refine g_bi (pc := 5) (y := yX1_in) (ws := ws_ yX1_in cX1_in 3 (some .boolean)) (fr := 0) (lo := 0) (as := [gi a0, gi (0 : Int32), gi (a1 - (1 : Int32))]) (st := []) (g_no) rfl (fun _ _ e => tX1_in hs e) (fun K _ _ hM R e1 e2 => g_runS (M := mX1_checkIndex) (pc := 5) (y := yX1_in) (bytes := cX1_in) (maxL := 3) (ret := (some .boolean)) (fr := 0) (lo := 0) (as := [gi a0, gi (0 : Int32), gi (a1 - (1 : Int32))]) (st := []) gy_X1_in (gbl rfl) (gbl rfl) (gbl rfl) q413 q414 dX1_checkIndex_5 K hM R e1 e2) fun v1 h2 => ?_
  refine g_if_ne (pc := 8) (tgt := 19) rfl dX1_checkIndex_8 ?_ ?_
  rotate_left
  · exact g_return (pc := 19) rfl dX1_checkIndex_19
  refine g_make0 (pc := 11) xw_X1_50_52 rfl dX1_checkIndex_11 dX1_checkIndex_14 dX1_checkIndex_15 (gblt rfl) (gbl rfl) fun v3 h4 => ?_
  exact g_athrow (pc := 18) (g_no) dX1_checkIndex_18
/-! java/util/AbstractCollection.<init>()V -/
noncomputable def sJ0_init_c24 (G : GG) (N : Nat) (a0 : Option Nat) (h : Hp) : Out (Unit) :=
  gNN a0 (some (.inl (), h))
abbrev mJ0_init_c24 : MI := (RJ0, cJ0_init, 1, none, [], 1, 12, "<init>")
theorem tJ0_init_c24 {G : GG} {l : Launch} (hs : l.stackTraces = false) {N : Nat} {a0 : Option Nat} {h : Hp} {r : Unit ⊕ Nat} {hf : Hp} (ho : sJ0_init_c24 G N a0 h = some (r, hf)) : gMet G l yJ0_init (ws_ yJ0_init cJ0_init 1 none) 1 12 [gr a0] h cvU r hf := by
  refine gMet.of ho hs (plainFor_of_name pn_J0) rfl rfl (gbl rfl) fun X => ?_
  show gT G l X mJ0_init_c24 cvU r hf 0 [(0, gr a0)] [] h (sJ0_init_c24 G N a0 h)
  delta sJ0_init_c24
  refine g_aload_n (pc := 0) (x := a0) 0 rfl rfl dJ0_init_0 ?_
  refine g_objInit' (pc := 1) q217 oi_in oi_code (gbl rfl) (gbl rfl) dJ0_init_1 ?_
  exact g_return (pc := 4) rfl dJ0_init_4
/-! java/util/AbstractList.<init>()V -/
noncomputable def sJ11_init_c24 (G : GG) (N : Nat) (a0 : Option Nat) (h : Hp) : Out (Unit) :=
  bI a0 (fun q4 => sJ0_init_c24 G N (some q4) h) fun v1 h2 =>
  gP G h2 a0 24 0 (.int (0 : Int32)) fun h3 =>
  some (.inl (), h3)
abbrev mJ11_init_c24 : MI := (RJ11, cJ11_init, 1, none, [], 2, 32, "<init>")
theorem tJ11_init_c24 {G : GG} {l : Launch} (hs : l.stackTraces = false) {N : Nat} {a0 : Option Nat} {h : Hp} {r : Unit ⊕ Nat} {hf : Hp} (ho : sJ11_init_c24 G N a0 h = some (r, hf)) : gMet G l yJ11_init (ws_ yJ11_init cJ11_init 1 none) 2 32 [gr a0] h cvU r hf := by
  refine gMet.of ho hs (plainFor_of_name pn_J11) rfl rfl (gbl rfl) fun X => ?_
  show gT G l X mJ11_init_c24 cvU r hf 0 [(0, gr a0)] [] h (sJ11_init_c24 G N a0 h)
  delta sJ11_init_c24
  refine g_aload_n (pc := 0) (x := a0) 0 rfl rfl dJ11_init_0 ?_
  refine g_bIu (pc := 1) (y := yJ0_init) (ws := ws_ yJ0_init cJ0_init 1 none) (fr := 1) (lo := 12) (as := []) (st := []) (g_no) rfl (fun _ _ _ e => tJ0_init_c24 hs e) (fun K _ _ _ hM R e1 e2 => g_runI (M := mJ11_init_c24) (pc := 1) (y := yJ0_init) (bytes := cJ0_init) (maxL := 1) (ret := none) (fr := 1) (lo := 12) (as := []) (st := []) gy_J0_init (gbl rfl) (gbl rfl) (gbl rfl) rfl q464 q215 rfl dJ11_init_1 K hM R e1 e2) fun v1 h2 => ?_
  refine g_aload_n (pc := 4) (x := a0) 0 rfl rfl dJ11_init_4 ?_
  refine g_iconst (pc := 5) (v := (0 : Int32)) ic_0 dJ11_init_5 ?_
  refine g_put (pc := 6) k_24 (gblt rfl) lk_J11_7_24 rfl rfl (gNi _) dJ11_init_6 fun h3 => ?_
  exact g_return (pc := 9) rfl dJ11_init_9
/-! java/util/ArrayList.<init>()V -/
noncomputable def sJ12_init (G : GG) (N : Nat) (a0 : Option Nat) (h : Hp) : Out (Unit) :=
  bI a0 (fun q4 => sJ11_init_c24 G N (some q4) h) fun v1 h2 =>
  gP G h2 a0 24 1 (va_rf (some (G.2.2.2.2 0))) fun h3 =>
  some (.inl (), h3)
abbrev mJ12_init : MI := (RJ12, cJ12_init, 1, none, [], 3, 52, "<init>")
theorem tJ12_init {G : GG} {l : Launch} (hs : l.stackTraces = false) {N : Nat} {a0 : Option Nat} {h : Hp} {r : Unit ⊕ Nat} {hf : Hp} (ho : sJ12_init G N a0 h = some (r, hf)) : gMet G l yJ12_init (ws_ yJ12_init cJ12_init 1 none) 3 52 [gr a0] h cvU r hf := by
  refine gMet.of ho hs (plainFor_of_name pn_J12) rfl rfl (gbl rfl) fun X => ?_
  show gT G l X mJ12_init cvU r hf 0 [(0, gr a0)] [] h (sJ12_init G N a0 h)
  delta sJ12_init
  refine g_aload_n (pc := 0) (x := a0) 0 rfl rfl dJ12_init_0 ?_
  refine g_bIu (pc := 1) (y := yJ11_init) (ws := ws_ yJ11_init cJ11_init 1 none) (fr := 2) (lo := 32) (as := []) (st := []) (g_no) rfl (fun _ _ _ e => tJ11_init_c24 hs e) (fun K _ _ _ hM R e1 e2 => g_runI (M := mJ12_init) (pc := 1) (y := yJ11_init) (bytes := cJ11_init) (maxL := 1) (ret := none) (fr := 2) (lo := 32) (as := []) (st := []) gy_J11_init (gbl rfl) (gbl rfl) (gbl rfl) rfl q461 q462 rfl dJ12_init_1 K hM R e1 e2) fun v1 h2 => ?_
  refine g_aload_n (pc := 4) (x := a0) 0 rfl rfl dJ12_init_4 ?_
  refine g_gets (pc := 5) (sv := .inr 0) (w := gr (some (G.2.2.2.2 0))) sfl_1 rfl ⟨Or.inl q465, Or.inl rfl⟩ dJ12_init_5 ?_
  refine g_put (pc := 8) k_24 (gblt rfl) lk_J12_9_24 rfl rfl (gNa _ _) dJ12_init_8 fun h3 => ?_
  exact g_return (pc := 11) rfl dJ12_init_11
/-! FlareSlopes$Register.<init>(I)V -/
noncomputable def sX6_init (G : GG) (N : Nat) (a0 : Option Nat) (a1 : Int32) (h : Hp) : Out (Unit) :=
  gNN a0 (gNew h 24 [.int 0, .null, .int 0] 3 fun v1 h2 =>
  bI v1 (fun q7 => sJ12_init G N (some q7) h2) fun v3 h4 =>
  gP G h4 a0 13 0 (va_rf v1) fun h5 =>
  gP G h5 a0 13 1 (.int a1) fun h6 =>
  some (.inl (), h6))
abbrev mX6_init : MI := (RX6, cX6_init, 2, none, [], 4, 72, "<init>")
theorem tX6_init {G : GG} {l : Launch} (hs : l.stackTraces = false) {N : Nat} {a0 : Option Nat} {a1 : Int32} {h : Hp} {r : Unit ⊕ Nat} {hf : Hp} (ho : sX6_init G N a0 a1 h = some (r, hf)) : gMet G l yX6_init (ws_ yX6_init cX6_init 2 none) 4 72 [gr a0, gi a1] h cvU r hf := by
  refine gMet.of ho hs (plainFor_of_name pn_X6) rfl rfl (gbl rfl) fun X => ?_
  show gT G l X mX6_init cvU r hf 0 [(0, gr a0), (1, gi a1)] [] h (sX6_init G N a0 a1 h)
  delta sX6_init
  refine g_aload_n (pc := 0) (x := a0) 0 rfl rfl dX6_init_0 ?_
  refine g_objInit' (pc := 1) q455 oi_in oi_code (gbl rfl) (gbl rfl) dX6_init_1 ?_
  refine g_aload_n (pc := 4) (x := a0) 0 rfl rfl dX6_init_4 ?_
  refine g_new (pc := 5) k_24 df_24 q456 q457 q146 dX6_init_5 fun v1 h2 => ?_
  refine g_dup (pc := 8) rfl dX6_init_8 ?_
  refine g_bIu (pc := 9) (y := yJ12_init) (ws := ws_ yJ12_init cJ12_init 1 none) (fr := 3) (lo := 52) (as := []) (st := [gr v1, gr a0]) (g_no) rfl (fun _ _ _ e => tJ12_init hs e) (fun K _ _ _ hM R e1 e2 => g_runI (M := mX6_init) (pc := 9) (y := yJ12_init) (bytes := cJ12_init) (maxL := 1) (ret := none) (fr := 3) (lo := 52) (as := []) (st := [gr v1, gr a0]) gy_J12_init (gbl rfl) (gbl rfl) (gbl rfl) rfl q458 q459 rfl dX6_init_9 K hM R e1 e2) fun v3 h4 => ?_
  refine g_putFin (pc := 12) k_13 (gblt rfl) lk_X6_12_13 q482 rfl rfl rfl rfl (gNr _ _) dX6_init_12 fun h5 => ?_
  refine g_aload_n (pc := 15) (x := a0) 0 rfl rfl dX6_init_15 ?_
  refine g_iload_n (pc := 16) (x := a1) 1 rfl rfl dX6_init_16 ?_
  refine g_putFin (pc := 17) k_13 (gblt rfl) lk_X6_18_13 q483 rfl rfl rfl rfl (gNi _) dX6_init_17 fun h6 => ?_
  exact g_return (pc := 20) rfl dX6_init_20
/-! FlareSlopes$Key.<init>(II)V -/
noncomputable def sX7_init (G : GG) (N : Nat) (a0 : Option Nat) (a1 : Int32) (a2 : Int32) (h : Hp) : Out (Unit) :=
  gNN a0 (gP G h a0 10 0 (.int a1) fun h1 =>
  gP G h1 a0 10 1 (.int a2) fun h2 =>
  some (.inl (), h2))
abbrev mX7_init : MI := (RX7, cX7_init, 3, none, [], 1, 12, "<init>")
theorem tX7_init {G : GG} {l : Launch} (hs : l.stackTraces = false) {N : Nat} {a0 : Option Nat} {a1 : Int32} {a2 : Int32} {h : Hp} {r : Unit ⊕ Nat} {hf : Hp} (ho : sX7_init G N a0 a1 a2 h = some (r, hf)) : gMet G l yX7_init (ws_ yX7_init cX7_init 3 none) 1 12 [gr a0, gi a1, gi a2] h cvU r hf := by
  refine gMet.of ho hs (plainFor_of_name pn_X7) rfl rfl (gbl rfl) fun X => ?_
  show gT G l X mX7_init cvU r hf 0 [(0, gr a0), (1, gi a1), (2, gi a2)] [] h (sX7_init G N a0 a1 a2 h)
  delta sX7_init
  refine g_aload_n (pc := 0) (x := a0) 0 rfl rfl dX7_init_0 ?_
  refine g_objInit' (pc := 1) q497 oi_in oi_code (gbl rfl) (gbl rfl) dX7_init_1 ?_
  refine g_aload_n (pc := 4) (x := a0) 0 rfl rfl dX7_init_4 ?_
  refine g_iload_n (pc := 5) (x := a1) 1 rfl rfl dX7_init_5 ?_
  refine g_putFin (pc := 6) k_10 (gblt rfl) lk_X7_9_10 q498 rfl rfl rfl rfl (gNi _) dX7_init_6 fun h1 => ?_
  refine g_aload_n (pc := 9) (x := a0) 0 rfl rfl dX7_init_9 ?_
  refine g_iload_n (pc := 10) (x := a2) 2 rfl rfl dX7_init_10 ?_
  refine g_putFin (pc := 11) k_10 (gblt rfl) lk_X7_15_10 q499 rfl rfl rfl rfl (gNi _) dX7_init_11 fun h2 => ?_
  exact g_return (pc := 14) rfl dX7_init_14
/-! FlareSlopes$Mountain.<init>()V -/
noncomputable def bX5_init_71 (G : GG) (N : Nat) (a0 : Option Nat) (w29 : (Int32) → Hp → Out (Unit)) (x27 : Int32) (h28 : Hp) : Out (Unit) :=
  gFr h28 a0 11 5 fun v30 =>
  gLen h28 v30 fun v31 =>
  if v31 ≤ x27 then (some (.inl (), h28))
  else gFr h28 a0 11 5 fun v32 =>
  gNew h28 10 [.int 0, .int 0] 2 fun v33 h34 =>
  gDv x27 (8 : Int32) fun v35 =>
  gRm x27 (8 : Int32) fun v36 =>
  bI v33 (fun q40 => sX7_init G N (some q40) v35 v36 h34) fun v37 h38 =>
  gSr G h38 v32 6 asl_FlareSlopes_Key x27 v33 fun h39 =>
  w29 (x27 + (1 : Int32)) h39
noncomputable def sX5_init (G : GG) (N : Nat) (a0 : Option Nat) (h : Hp) : Out (Unit) :=
  gNN a0 (gNew h 13 [.null, .int 0] 2 fun v1 h2 =>
  bI v1 (fun q44 => sX6_init G N (some q44) (10 : Int32) h2) fun v3 h4 =>
  gP G h4 a0 11 0 (va_rf v1) fun h5 =>
  gNew h5 13 [.null, .int 0] 2 fun v6 h7 =>
  bI v6 (fun q43 => sX6_init G N (some q43) (8 : Int32) h7) fun v8 h9 =>
  gP G h9 a0 11 1 (va_rf v6) fun h10 =>
  gNew h10 24 [.int 0, .null, .int 0] 3 fun v11 h12 =>
  bI v11 (fun q42 => sJ12_init G N (some q42) h12) fun v13 h14 =>
  gP G h14 a0 11 2 (va_rf v11) fun h15 =>
  gNew h15 24 [.int 0, .null, .int 0] 3 fun v16 h17 =>
  bI v16 (fun q41 => sJ12_init G N (some q41) h17) fun v18 h19 =>
  gP G h19 a0 11 3 (va_rf v16) fun h20 =>
  gNA h20 0 z_I (6 : Int32) fun v21 h22 =>
  gP G h22 a0 11 4 (va_rf v21) fun h23 =>
  gNA h23 6 z_R (80 : Int32) fun v24 h25 =>
  gP G h25 a0 11 5 (va_rf v24) fun h26 =>
  gLp (bX5_init_71 G N a0) N (0 : Int32) h26)
abbrev mX5_init : MI := (RX5, cX5_init, 2, none, [], 5, 93, "<init>")
theorem tX5_init {G : GG} {l : Launch} (hs : l.stackTraces = false) {N : Nat} {a0 : Option Nat} {h : Hp} {r : Unit ⊕ Nat} {hf : Hp} (ho : sX5_init G N a0 h = some (r, hf)) : gMet G l yX5_init (ws_ yX5_init cX5_init 2 none) 5 93 [gr a0] h cvU r hf := by
  refine gMet.of ho hs (plainFor_of_name pn_X5) rfl rfl (gbl rfl) fun X => ?_
  show gT G l X mX5_init cvU r hf 0 [(0, gr a0)] [] h (sX5_init G N a0 h)
  delta sX5_init
  refine g_aload_n (pc := 0) (x := a0) 0 rfl rfl dX5_init_0 ?_
  refine g_objInit' (pc := 1) q449 oi_in oi_code (gbl rfl) (gbl rfl) dX5_init_1 ?_
  refine g_aload_n (pc := 4) (x := a0) 0 rfl rfl dX5_init_4 ?_
  refine g_new (pc := 5) k_13 df_13 q450 q451 q144 dX5_init_5 fun v1 h2 => ?_
  refine g_dup (pc := 8) rfl dX5_init_8 ?_
  refine g_bipush (pc := 9) (v := (10 : Int32)) bc_10 dX5_init_9 ?_
  refine g_bIu (pc := 11) (y := yX6_init) (ws := ws_ yX6_init cX6_init 2 none) (fr := 4) (lo := 72) (as := [gi (10 : Int32)]) (st := [gr v1, gr a0]) (g_no) rfl (fun _ _ _ e => tX6_init hs e) (fun K _ _ _ hM R e1 e2 => g_runI (M := mX5_init) (pc := 11) (y := yX6_init) (bytes := cX6_init) (maxL := 2) (ret := none) (fr := 4) (lo := 72) (as := [gi (10 : Int32)]) (st := [gr v1, gr a0]) gy_X6_init (gbl rfl) (gbl rfl) (gbl rfl) rfl q452 q453 rfl dX5_init_11 K hM R e1 e2) fun v3 h4 => ?_
  refine g_putFin (pc := 14) k_11 (gblt rfl) lk_X5_14_11 q506 rfl rfl rfl rfl (gNr _ _) dX5_init_14 fun h5 => ?_
  refine g_aload_n (pc := 17) (x := a0) 0 rfl rfl dX5_init_17 ?_
  refine g_new (pc := 18) k_13 df_13 q450 q451 q144 dX5_init_18 fun v6 h7 => ?_
  refine g_dup (pc := 21) rfl dX5_init_21 ?_
  refine g_bipush (pc := 22) (v := (8 : Int32)) bc_8 dX5_init_22 ?_
  refine g_bIu (pc := 24) (y := yX6_init) (ws := ws_ yX6_init cX6_init 2 none) (fr := 4) (lo := 72) (as := [gi (8 : Int32)]) (st := [gr v6, gr a0]) (g_no) rfl (fun _ _ _ e => tX6_init hs e) (fun K _ _ _ hM R e1 e2 => g_runI (M := mX5_init) (pc := 24) (y := yX6_init) (bytes := cX6_init) (maxL := 2) (ret := none) (fr := 4) (lo := 72) (as := [gi (8 : Int32)]) (st := [gr v6, gr a0]) gy_X6_init (gbl rfl) (gbl rfl) (gbl rfl) rfl q452 q453 rfl dX5_init_24 K hM R e1 e2) fun v8 h9 => ?_
  refine g_putFin (pc := 27) k_11 (gblt rfl) lk_X5_20_11 q510 rfl rfl rfl rfl (gNr _ _) dX5_init_27 fun h10 => ?_
  refine g_aload_n (pc := 30) (x := a0) 0 rfl rfl dX5_init_30 ?_
  refine g_new (pc := 31) k_24 df_24 q489 q457 q146 dX5_init_31 fun v11 h12 => ?_
  refine g_dup (pc := 34) rfl dX5_init_34 ?_
  refine g_bIu (pc := 35) (y := yJ12_init) (ws := ws_ yJ12_init cJ12_init 1 none) (fr := 3) (lo := 52) (as := []) (st := [gr v11, gr a0]) (g_no) rfl (fun _ _ _ e => tJ12_init hs e) (fun K _ _ _ hM R e1 e2 => g_runI (M := mX5_init) (pc := 35) (y := yJ12_init) (bytes := cJ12_init) (maxL := 1) (ret := none) (fr := 3) (lo := 52) (as := []) (st := [gr v11, gr a0]) gy_J12_init (gbl rfl) (gbl rfl) (gbl rfl) rfl q490 q459 rfl dX5_init_35 K hM R e1 e2) fun v13 h14 => ?_
  refine g_putFin (pc := 38) k_11 (gblt rfl) lk_X5_26_11 q514 rfl rfl rfl rfl (gNr _ _) dX5_init_38 fun h15 => ?_
  refine g_aload_n (pc := 41) (x := a0) 0 rfl rfl dX5_init_41 ?_
  refine g_new (pc := 42) k_24 df_24 q489 q457 q146 dX5_init_42 fun v16 h17 => ?_
  refine g_dup (pc := 45) rfl dX5_init_45 ?_
  refine g_bIu (pc := 46) (y := yJ12_init) (ws := ws_ yJ12_init cJ12_init 1 none) (fr := 3) (lo := 52) (as := []) (st := [gr v16, gr a0]) (g_no) rfl (fun _ _ _ e => tJ12_init hs e) (fun K _ _ _ hM R e1 e2 => g_runI (M := mX5_init) (pc := 46) (y := yJ12_init) (bytes := cJ12_init) (maxL := 1) (ret := none) (fr := 3) (lo := 52) (as := []) (st := [gr v16, gr a0]) gy_J12_init (gbl rfl) (gbl rfl) (gbl rfl) rfl q490 q459 rfl dX5_init_46 K hM R e1 e2) fun v18 h19 => ?_
  refine g_putFin (pc := 49) k_11 (gblt rfl) lk_X5_30_11 q517 rfl rfl rfl rfl (gNr _ _) dX5_init_49 fun h20 => ?_
  refine g_aload_n (pc := 52) (x := a0) 0 rfl rfl dX5_init_52 ?_
  refine g_bipush (pc := 53) (v := (6 : Int32)) bc_6 dX5_init_53 ?_
  refine g_naI (pc := 55) q298 dX5_init_55 fun v21 h22 => ?_
  refine g_putFin (pc := 57) k_11 (gblt rfl) lk_X5_33_11 q521 rfl rfl rfl rfl (gNa _ _) dX5_init_57 fun h23 => ?_
  refine g_aload_n (pc := 60) (x := a0) 0 rfl rfl dX5_init_60 ?_
  refine g_bipush (pc := 61) (v := (80 : Int32)) bc_80 dX5_init_61 ?_
  refine g_anewarray (pc := 63) rfl q491 q492 dX5_init_63 fun v24 h25 => ?_
  refine g_putFin (pc := 66) k_11 (gblt rfl) lk_X5_39_11 q523 rfl rfl rfl rfl (gNa _ _) dX5_init_66 fun h26 => ?_
  refine g_iconst (pc := 69) (v := (0 : Int32)) ic_0 dX5_init_69 ?_
  refine g_istore_n (pc := 70) (lv' := [(1, gi (0 : Int32)), (0, gr a0)]) [0, 1] rfl rfl (gblt rfl) dX5_init_70 ?_
  refine g_sub (lv' := [(0, gr a0), (1, gi (0 : Int32))]) [1, 0] rfl ?_
  refine g_loop (pc := 71) (fun (x27 : Int32) => [(0, gr a0), (1, gi x27)]) (fun (_ : Int32) => []) (fun w29 Hw29 x27 h28 => ?_) N (0 : Int32) h26
  delta bX5_init_71
  refine g_iload_n (pc := 71) (x := x27) 1 rfl rfl dX5_init_71 ?_
  refine g_aload_n (pc := 72) (x := a0) 0 rfl rfl dX5_init_72 ?_
  refine g_getfr (pc := 73) k_11 (gblt rfl) lk_X5_39_11 dX5_init_73 fun v30 => ?_
  refine g_alen (pc := 76) dX5_init_76 fun v31 => ?_
  refine g_icmp_ge (pc := 77) (tgt := 107) rfl dX5_init_77 ?_ ?_
  · exact g_return (pc := 107) rfl dX5_init_107
  refine g_aload_n (pc := 80) (x := a0) 0 rfl rfl dX5_init_80 ?_
  refine g_getfr (pc := 81) k_11 (gblt rfl) lk_X5_39_11 dX5_init_81 fun v32 => ?_
  refine g_iload_n (pc := 84) (x := x27) 1 rfl rfl dX5_init_84 ?_
  refine g_new (pc := 85) k_10 df_10 q491 q493 q147 dX5_init_85 fun v33 h34 => ?_
  refine g_dup (pc := 88) rfl dX5_init_88 ?_
  refine g_iload_n (pc := 89) (x := x27) 1 rfl rfl dX5_init_89 ?_
  refine g_bipush (pc := 90) (v := (8 : Int32)) bc_8 dX5_init_90 ?_
  refine g_idiv (pc := 92) dX5_init_92 fun v35 => ?_
  refine g_iload_n (pc := 93) (x := x27) 1 rfl rfl dX5_init_93 ?_
  refine g_bipush (pc := 94) (v := (8 : Int32)) bc_8 dX5_init_94 ?_
  refine g_irem (pc := 96) dX5_init_96 fun v36 => ?_
  refine g_bIu (pc := 97) (y := yX7_init) (ws := ws_ yX7_init cX7_init 3 none) (fr := 1) (lo := 12) (as := [gi v35, gi v36]) (st := [gr v33, gi x27, gr v32]) (g_no) rfl (fun _ _ _ e => tX7_init hs e) (fun K _ _ _ hM R e1 e2 => g_runI (M := mX5_init) (pc := 97) (y := yX7_init) (bytes := cX7_init) (maxL := 3) (ret := none) (fr := 1) (lo := 12) (as := [gi v35, gi v36]) (st := [gr v33, gi x27, gr v32]) gy_X7_init (gbl rfl) (gbl rfl) (gbl rfl) rfl q494 q495 rfl dX5_init_97 K hM R e1 e2) fun v37 h38 => ?_
  refine g_aastore (pc := 100) rfl asl_FlareSlopes_Key_ok dX5_init_100 fun h39 => ?_
  refine g_iinc (pc := 101) (v := x27 + (1 : Int32)) 1 rfl (ii_1 _) (lv' := [(1, gi (x27 + (1 : Int32))), (0, gr a0)]) [0, 1] rfl (gblt rfl) dX5_init_101 ?_
  refine g_goto (pc := 104) (tgt := 71) rfl dX5_init_104 ?_
  exact g_sub [1, 0] rfl (Hw29 (x27 + (1 : Int32)) h39)
/-! FlareSlopes$Parser.at(I)I -/
noncomputable def sX4_at (G : GG) (N : Nat) (a0 : Option Nat) (a1 : Int32) (h : Hp) : Out (Int32) :=
  gFi h a0 12 0 fun v1 =>
  if v1 ≤ a1 then (some (.inl (-1 : Int32), h))
  else gFr h a0 12 6 fun v2 =>
  gFr h v2 3 0 fun v3 =>
  gAi h v3 1 a1 fun v4 =>
  some (.inl (v4 &&& (255 : Int32)), h)
abbrev mX4_at : MI := (RX4, cX4_at, 2, (some .int), [], 0, 0, "at")
theorem tX4_at {G : GG} {l : Launch} (hs : l.stackTraces = false) {N : Nat} {a0 : Option Nat} {a1 : Int32} {h : Hp} {r : Int32 ⊕ Nat} {hf : Hp} (ho : sX4_at G N a0 a1 h = some (r, hf)) : gMet G l yX4_at (ws_ yX4_at cX4_at 2 (some .int)) 0 0 [gr a0, gi a1] h cvI r hf := by
  refine gMet.of ho hs (plainFor_of_name pn_X4) rfl rfl (gbl rfl) fun X => ?_
  show gT G l X mX4_at cvI r hf 0 [(0, gr a0), (1, gi a1)] [] h (sX4_at G N a0 a1 h)
  delta sX4_at
  refine g_iload_n (pc := 0) (x := a1) 1 rfl rfl dX4_at_0 ?_
  refine g_aload_n (pc := 1) (x := a0) 0 rfl rfl dX4_at_1 ?_
  refine g_getfi (pc := 2) k_12 (gblt rfl) lk_X4_22_12 dX4_at_2 fun v1 => ?_
  refine g_icmp_ge (pc := 5) (tgt := 24) rfl dX4_at_5 ?_ ?_
  · refine g_iconst (pc := 24) (v := (-1 : Int32)) ic_m1 dX4_at_24 ?_
    exact g_ireturn (pc := 25) rfl dX4_at_25
  refine g_aload_n (pc := 8) (x := a0) 0 rfl rfl dX4_at_8 ?_
  refine g_getfr (pc := 9) k_12 (gblt rfl) lk_X4_3_12 dX4_at_9 fun v2 => ?_
  refine g_getfr (pc := 12) k_3 (gblt rfl) lk_X4_29_3 dX4_at_12 fun v3 => ?_
  refine g_iload_n (pc := 15) (x := a1) 1 rfl rfl dX4_at_15 ?_
  refine g_baload (pc := 16) rfl dX4_at_16 fun v4 => ?_
  refine g_sipush (pc := 17) (v := (255 : Int32)) sc_255 dX4_at_17 ?_
  refine g_iand (pc := 20) dX4_at_20 ?_
  refine g_goto (pc := 21) (tgt := 25) rfl dX4_at_21 ?_
  exact g_ireturn (pc := 25) rfl dX4_at_25
/-! FlareSlopes$Parser.run(III)I -/
noncomputable def bX4_run_3 (G : GG) (N : Nat) (a0 : Option Nat) (a2 : Int32) (a3 : Int32) (w3 : (Int32) → Hp → Out (Int32)) (x1 : Int32) (h2 : Hp) : Out (Int32) :=
  bV h2 a0 12 (fun q8 => sX4_at G N (some q8) x1 h2) fun v4 h5 =>
  bnd (sX1_in G N v4 a2 a3 h5) fun v6 h7 =>
  if v6 = 0 then (some (.inl x1, h7))
  else w3 (x1 + (1 : Int32)) h7
noncomputable def sX4_run (G : GG) (N : Nat) (a0 : Option Nat) (a1 : Int32) (a2 : Int32) (a3 : Int32) (h : Hp) : Out (Int32) :=
  gLp (bX4_run_3 G N a0 a2 a3) N a1 h
abbrev mX4_run : MI := (RX4, cX4_run, 5, (some .int), [], 1, 22, "run")
theorem tX4_run {G : GG} {l : Launch} (hs : l.stackTraces = false) {N : Nat} {a0 : Option Nat} {a1 : Int32} {a2 : Int32} {a3 : Int32} {h : Hp} {r : Int32 ⊕ Nat} {hf : Hp} (ho : sX4_run G N a0 a1 a2 a3 h = some (r, hf)) : gMet G l yX4_run (ws_ yX4_run cX4_run 5 (some .int)) 1 22 [gr a0, gi a1, gi a2, gi a3] h cvI r hf := by
  refine gMet.of ho hs (plainFor_of_name pn_X4) rfl rfl (gbl rfl) fun X => ?_
  show gT G l X mX4_run cvI r hf 0 [(0, gr a0), (1, gi a1), (2, gi a2), (3, gi a3)] [] h (sX4_run G N a0 a1 a2 a3 h)
  delta sX4_run
  refine g_iload_n (pc := 0) (x := a1) 1 rfl rfl dX4_run_0 ?_
  refine g_istore (pc := 1) (lv' := [(4, gi a1), (0, gr a0), (2, gi a2), (3, gi a3)]) [0, 1, 3, 4] rfl (gblt rfl) dX4_run_1 ?_
  refine g_sub (lv' := [(0, gr a0), (2, gi a2), (3, gi a3), (4, gi a1)]) [1, 2, 3, 0] rfl ?_
  refine g_loop (pc := 3) (fun (x1 : Int32) => [(0, gr a0), (2, gi a2), (3, gi a3), (4, gi x1)]) (fun (_ : Int32) => []) (fun w3 Hw3 x1 h2 => ?_) N a1 h
  delta bX4_run_3
  refine g_aload_n (pc := 3) (x := a0) 0 rfl rfl dX4_run_3 ?_
  refine g_iload (pc := 4) (x := x1) 3 rfl dX4_run_4 ?_
  refine g_bVi (pc := 6) (y := yX4_at) (ws := ws_ yX4_at cX4_at 2 (some .int)) (fr := 0) (lo := 0) (as := [gi x1]) (st := []) (g_no) rfl (fun _ _ _ e => tX4_at hs e) (fun K _ _ _ hq hM R e1 e2 => g_runV (M := mX4_run) (pc := 6) (y := yX4_at) (bytes := cX4_at) (maxL := 2) (ret := (some .int)) (fr := 0) (lo := 0) (as := [gi x1]) (st := []) hq (C := "FlareSlopes$Parser") rfl gy_X4_at (gbl rfl) (gbl rfl) (gbl rfl) q541 q543 qs2 dX4_run_6 K hM R e1 e2) fun v4 h5 => ?_
  refine g_iload_n (pc := 9) (x := a2) 1 rfl rfl dX4_run_9 ?_
  refine g_iload_n (pc := 10) (x := a3) 2 rfl rfl dX4_run_10 ?_
  refine g_bi (pc := 11) (y := yX1_in) (ws := ws_ yX1_in cX1_in 3 (some .boolean)) (fr := 0) (lo := 0) (as := [gi v4, gi a2, gi a3]) (st := []) (g_no) rfl (fun _ _ e => tX1_in hs e) (fun K _ _ hM R e1 e2 => g_runSN (M := mX4_run) (pc := 11) (y := yX1_in) (bytes := cX1_in) (maxL := 3) (ret := (some .boolean)) (fr := 0) (lo := 0) (as := [gi v4, gi a2, gi a3]) (st := []) gy_X1_in (gbl rfl) (gbl rfl) (gbl rfl) q545 q414 dX4_run_11 K hM R e1 e2) fun v6 h7 => ?_
  refine g_if_eq (pc := 14) (tgt := 23) rfl dX4_run_14 ?_ ?_
  · refine g_iload (pc := 23) (x := x1) 3 rfl dX4_run_23 ?_
    exact g_ireturn (pc := 25) rfl dX4_run_25
  refine g_iinc (pc := 17) (v := x1 + (1 : Int32)) 3 rfl (ii_1 _) (lv' := [(4, gi (x1 + (1 : Int32))), (0, gr a0), (2, gi a2), (3, gi a3)]) [0, 1, 2, 3] rfl (gblt rfl) dX4_run_17 ?_
  refine g_goto (pc := 20) (tgt := 3) rfl dX4_run_20 ?_
  exact g_sub [1, 2, 3, 0] rfl (Hw3 (x1 + (1 : Int32)) h7)
/-! FlareSlopes$Parser.step()V -/
noncomputable def bX4_step_168 (G : GG) (N : Nat) (a0 : Option Nat) (j33 : (Unit) → Hp → Out (Unit)) (w36 : (Int32) → Hp → Out (Unit)) (x34 : Int32) (h35 : Hp) : Out (Unit) :=
  gFi h35 a0 12 2 fun v37 =>
  if v37 ≤ x34 then (j33 () h35)
  else gFi h35 a0 12 4 fun v38 =>
  if v38 = (1 : Int32) then (gFi h35 a0 12 5 fun v39 =>
  bV h35 a0 12 (fun q43 => sX4_at G N (some q43) x34 h35) fun v40 h41 =>
  gP G h41 a0 12 5 (.int ((((10 : Int32) * v39) + v40) - (48 : Int32))) fun h42 =>
  w36 (x34 + (1 : Int32)) h42)
  else j33 () h35
noncomputable def bX4_step_0 (G : GG) (N : Nat) (a0 : Option Nat) (j3 : (Unit) → Hp → Out (Unit)) (w60 : (Unit) → Hp → Out (Unit)) (x58 : Unit) (h59 : Hp) : Out (Unit) :=
  gFi h59 a0 12 2 fun v61 =>
  bV h59 a0 12 (fun q66 => sX4_at G N (some q66) v61 h59) fun v62 h63 =>
  if v62 = (32 : Int32) then (gFi h63 a0 12 2 fun v64 =>
  gP G h63 a0 12 2 (.int (v64 + (1 : Int32))) fun h65 =>
  w60 () h65)
  else j3 () h63
noncomputable def sX4_step (G : GG) (N : Nat) (a0 : Option Nat) (h : Hp) : Out (Unit) :=
  gJ (fun (x1 : Unit) (h2 : Hp) =>
  gFi h2 a0 12 2 fun v4 =>
  gP G h2 a0 12 3 (.int v4) fun h5 =>
  gFi h5 a0 12 3 fun v6 =>
  bV h5 a0 12 (fun q57 => sX4_at G N (some q57) v6 h5) fun v7 h8 =>
  if v7 = (-1 : Int32) then (gP G h8 a0 12 4 (.int (3 : Int32)) fun h56 =>
  some (.inl (), h56))
  else bnd (sX1_in G N v7 (97 : Int32) (122 : Int32) h8) fun v9 h10 =>
  if v9 = 0 then (bnd (sX1_in G N v7 (48 : Int32) (57 : Int32) h10) fun v11 h12 =>
  if v11 = 0 then (gJ (fun (x13 : Int32) (h14 : Hp) =>
  gP G h14 a0 12 4 (.int x13) fun h16 =>
  gFi h16 a0 12 2 fun v17 =>
  gP G h16 a0 12 2 (.int (v17 + (1 : Int32))) fun h18 =>
  some (.inl (), h18)) fun j15 =>
  if v7 = (59 : Int32) then (j15 (2 : Int32) h12)
  else j15 (4 : Int32) h12)
  else gFi h12 a0 12 3 fun v19 =>
  bV h12 a0 12 (fun q44 => sX4_run G N (some q44) v19 (48 : Int32) (57 : Int32) h12) fun v20 h21 =>
  gP G h21 a0 12 2 (.int v20) fun h22 =>
  gFi h22 a0 12 2 fun v23 =>
  gFi h22 a0 12 3 fun v24 =>
  gJ (fun (x25 : Int32) (h26 : Hp) =>
  gP G h26 a0 12 4 (.int x25) fun h28 =>
  gP G h28 a0 12 5 (.int (0 : Int32)) fun h29 =>
  gFi h29 a0 12 3 fun v30 =>
  gJ (fun (x31 : Unit) (h32 : Hp) =>
  some (.inl (), h32)) fun j33 =>
  gLp (bX4_step_168 G N a0 j33) N v30 h29) fun j27 =>
  if (4 : Int32) < (v23 - v24) then (j27 (4 : Int32) h22)
  else j27 (1 : Int32) h22)
  else gFi h10 a0 12 3 fun v45 =>
  bV h10 a0 12 (fun q55 => sX4_run G N (some q55) v45 (97 : Int32) (122 : Int32) h10) fun v46 h47 =>
  gP G h47 a0 12 2 (.int v46) fun h48 =>
  gFi h48 a0 12 2 fun v49 =>
  gFi h48 a0 12 3 fun v50 =>
  gJ (fun (x51 : Int32) (h52 : Hp) =>
  gP G h52 a0 12 4 (.int x51) fun h54 =>
  some (.inl (), h54)) fun j53 =>
  if (6 : Int32) < (v49 - v50) then (j53 (4 : Int32) h48)
  else j53 (0 : Int32) h48) fun j3 =>
  gLp (bX4_step_0 G N a0 j3) N () h
abbrev mX4_step : MI := (RX4, cX4_step, 3, none, [], 2, 46, "step")
theorem tX4_step {G : GG} {l : Launch} (hs : l.stackTraces = false) {N : Nat} {a0 : Option Nat} {h : Hp} {r : Unit ⊕ Nat} {hf : Hp} (ho : sX4_step G N a0 h = some (r, hf)) : gMet G l yX4_step (ws_ yX4_step cX4_step 3 none) 2 46 [gr a0] h cvU r hf := by
  refine gMet.of ho hs (plainFor_of_name pn_X4) rfl rfl (gbl rfl) fun X => ?_
  show gT G l X mX4_step cvU r hf 0 [(0, gr a0)] [] h (sX4_step G N a0 h)
  delta sX4_step
  refine g_join 26 (fun (x1 : Unit) => [(0, gr a0)]) (fun (x1 : Unit) => []) (fun x1 h2 => ?_) (fun j3 Hj3 => ?_)
  · refine g_aload_n (pc := 26) (x := a0) 0 rfl rfl dX4_step_26 ?_
    refine g_aload_n (pc := 27) (x := a0) 0 rfl rfl dX4_step_27 ?_
    refine g_getfi (pc := 28) k_12 (gblt rfl) lk_X4_41_12 dX4_step_28 fun v4 => ?_
    refine g_put (pc := 31) k_12 (gblt rfl) lk_X4_44_12 rfl rfl (gNi _) dX4_step_31 fun h5 => ?_
    refine g_aload_n (pc := 34) (x := a0) 0 rfl rfl dX4_step_34 ?_
    refine g_aload_n (pc := 35) (x := a0) 0 rfl rfl dX4_step_35 ?_
    refine g_getfi (pc := 36) k_12 (gblt rfl) lk_X4_44_12 dX4_step_36 fun v6 => ?_
    refine g_bVi (pc := 39) (y := yX4_at) (ws := ws_ yX4_at cX4_at 2 (some .int)) (fr := 0) (lo := 0) (as := [gi v6]) (st := []) (g_no) rfl (fun _ _ _ e => tX4_at hs e) (fun K _ _ _ hq hM R e1 e2 => g_runV (M := mX4_step) (pc := 39) (y := yX4_at) (bytes := cX4_at) (maxL := 2) (ret := (some .int)) (fr := 0) (lo := 0) (as := [gi v6]) (st := []) hq (C := "FlareSlopes$Parser") rfl gy_X4_at (gbl rfl) (gbl rfl) (gbl rfl) q541 q543 qs2 dX4_step_39 K hM R e1 e2) fun v7 h8 => ?_
    refine g_istore_n (pc := 42) (lv' := [(1, gi v7), (0, gr a0)]) [0, 1] rfl rfl (gblt rfl) dX4_step_42 ?_
    refine g_iload_n (pc := 43) (x := v7) 0 rfl rfl dX4_step_43 ?_
    refine g_iconst (pc := 44) (v := (-1 : Int32)) ic_m1 dX4_step_44 ?_
    refine g_icmp_ne (pc := 45) (tgt := 56) rfl dX4_step_45 ?_ ?_
    · refine g_aload_n (pc := 48) (x := a0) 1 rfl rfl dX4_step_48 ?_
      refine g_iconst (pc := 49) (v := (3 : Int32)) ic_3 dX4_step_49 ?_
      refine g_put (pc := 50) k_12 (gblt rfl) lk_X4_47_12 rfl rfl (gNi _) dX4_step_50 fun h56 => ?_
      refine g_goto (pc := 53) (tgt := 238) rfl dX4_step_53 ?_
      exact g_return (pc := 238) rfl dX4_step_238
    refine g_iload_n (pc := 56) (x := v7) 0 rfl rfl dX4_step_56 ?_
    refine g_bipush (pc := 57) (v := (97 : Int32)) bc_97 dX4_step_57 ?_
    refine g_bipush (pc := 59) (v := (122 : Int32)) bc_122 dX4_step_59 ?_
    refine g_bi (pc := 61) (y := yX1_in) (ws := ws_ yX1_in cX1_in 3 (some .boolean)) (fr := 0) (lo := 0) (as := [gi v7, gi (97 : Int32), gi (122 : Int32)]) (st := []) (g_no) rfl (fun _ _ e => tX1_in hs e) (fun K _ _ hM R e1 e2 => g_runSN (M := mX4_step) (pc := 61) (y := yX1_in) (bytes := cX1_in) (maxL := 3) (ret := (some .boolean)) (fr := 0) (lo := 0) (as := [gi v7, gi (97 : Int32), gi (122 : Int32)]) (st := []) gy_X1_in (gbl rfl) (gbl rfl) (gbl rfl) q545 q414 dX4_step_61 K hM R e1 e2) fun v9 h10 => ?_
    refine g_if_eq (pc := 64) (tgt := 109) rfl dX4_step_64 ?_ ?_
    rotate_left
    · refine g_aload_n (pc := 67) (x := a0) 1 rfl rfl dX4_step_67 ?_
      refine g_aload_n (pc := 68) (x := a0) 1 rfl rfl dX4_step_68 ?_
      refine g_aload_n (pc := 69) (x := a0) 1 rfl rfl dX4_step_69 ?_
      refine g_getfi (pc := 70) k_12 (gblt rfl) lk_X4_44_12 dX4_step_70 fun v45 => ?_
      refine g_bipush (pc := 73) (v := (97 : Int32)) bc_97 dX4_step_73 ?_
      refine g_bipush (pc := 75) (v := (122 : Int32)) bc_122 dX4_step_75 ?_
      refine g_bVi (pc := 77) (y := yX4_run) (ws := ws_ yX4_run cX4_run 5 (some .int)) (fr := 1) (lo := 22) (as := [gi v45, gi (97 : Int32), gi (122 : Int32)]) (st := [gr a0]) (g_no) rfl (fun _ _ _ e => tX4_run hs e) (fun K _ _ _ hq hM R e1 e2 => g_runV (M := mX4_step) (pc := 77) (y := yX4_run) (bytes := cX4_run) (maxL := 5) (ret := (some .int)) (fr := 1) (lo := 22) (as := [gi v45, gi (97 : Int32), gi (122 : Int32)]) (st := [gr a0]) hq (C := "FlareSlopes$Parser") rfl gy_X4_run (gbl rfl) (gbl rfl) (gbl rfl) q546 q548 qs3 dX4_step_77 K hM R e1 e2) fun v46 h47 => ?_
      refine g_put (pc := 80) k_12 (gblt rfl) lk_X4_41_12 rfl rfl (gNi _) dX4_step_80 fun h48 => ?_
      refine g_aload_n (pc := 83) (x := a0) 1 rfl rfl dX4_step_83 ?_
      refine g_aload_n (pc := 84) (x := a0) 1 rfl rfl dX4_step_84 ?_
      refine g_getfi (pc := 85) k_12 (gblt rfl) lk_X4_41_12 dX4_step_85 fun v49 => ?_
      refine g_aload_n (pc := 88) (x := a0) 1 rfl rfl dX4_step_88 ?_
      refine g_getfi (pc := 89) k_12 (gblt rfl) lk_X4_44_12 dX4_step_89 fun v50 => ?_
      refine g_isub (pc := 92) dX4_step_92 ?_
      refine g_bipush (pc := 93) (v := (6 : Int32)) bc_6 dX4_step_93 ?_
      refine g_join 103 (fun (x51 : Int32) => []) (fun (x51 : Int32) => [gi x51, gr a0]) (fun x51 h52 => ?_) (fun j53 Hj53 => ?_)
      · refine g_put (pc := 103) k_12 (gblt rfl) lk_X4_47_12 rfl rfl (gNi _) dX4_step_103 fun h54 => ?_
        refine g_goto (pc := 106) (tgt := 238) rfl dX4_step_106 ?_
        exact g_return (pc := 238) rfl dX4_step_238
      refine g_icmp_gt (pc := 95) (tgt := 102) rfl dX4_step_95 ?_ ?_
      · refine g_iconst (pc := 102) (v := (4 : Int32)) ic_4 dX4_step_102 ?_
        exact g_sub [] rfl (Hj53 (4 : Int32) h48)
      refine g_iconst (pc := 98) (v := (0 : Int32)) ic_0 dX4_step_98 ?_
      refine g_goto (pc := 99) (tgt := 103) rfl dX4_step_99 ?_
      exact g_sub [] rfl (Hj53 (0 : Int32) h48)
    refine g_iload_n (pc := 109) (x := v7) 0 rfl rfl dX4_step_109 ?_
    refine g_bipush (pc := 110) (v := (48 : Int32)) bc_48 dX4_step_110 ?_
    refine g_bipush (pc := 112) (v := (57 : Int32)) bc_57 dX4_step_112 ?_
    refine g_bi (pc := 114) (y := yX1_in) (ws := ws_ yX1_in cX1_in 3 (some .boolean)) (fr := 0) (lo := 0) (as := [gi v7, gi (48 : Int32), gi (57 : Int32)]) (st := []) (g_no) rfl (fun _ _ e => tX1_in hs e) (fun K _ _ hM R e1 e2 => g_runSN (M := mX4_step) (pc := 114) (y := yX1_in) (bytes := cX1_in) (maxL := 3) (ret := (some .boolean)) (fr := 0) (lo := 0) (as := [gi v7, gi (48 : Int32), gi (57 : Int32)]) (st := []) gy_X1_in (gbl rfl) (gbl rfl) (gbl rfl) q545 q414 dX4_step_114 K hM R e1 e2) fun v11 h12 => ?_
    refine g_if_eq (pc := 117) (tgt := 213) rfl dX4_step_117 ?_ ?_
    · refine g_aload_n (pc := 213) (x := a0) 1 rfl rfl dX4_step_213 ?_
      refine g_iload_n (pc := 214) (x := v7) 0 rfl rfl dX4_step_214 ?_
      refine g_bipush (pc := 215) (v := (59 : Int32)) bc_59 dX4_step_215 ?_
      refine g_join 225 (fun (x13 : Int32) => [(0, gr a0)]) (fun (x13 : Int32) => [gi x13, gr a0]) (fun x13 h14 => ?_) (fun j15 Hj15 => ?_)
      · refine g_put (pc := 225) k_12 (gblt rfl) lk_X4_47_12 rfl rfl (gNi _) dX4_step_225 fun h16 => ?_
        refine g_aload_n (pc := 228) (x := a0) 0 rfl rfl dX4_step_228 ?_
        refine g_dup (pc := 229) rfl dX4_step_229 ?_
        refine g_getfi (pc := 230) k_12 (gblt rfl) lk_X4_41_12 dX4_step_230 fun v17 => ?_
        refine g_iconst (pc := 233) (v := (1 : Int32)) ic_1 dX4_step_233 ?_
        refine g_iadd (pc := 234) dX4_step_234 ?_
        refine g_put (pc := 235) k_12 (gblt rfl) lk_X4_41_12 rfl rfl (gNi _) dX4_step_235 fun h18 => ?_
        exact g_return (pc := 238) rfl dX4_step_238
      refine g_icmp_ne (pc := 217) (tgt := 224) rfl dX4_step_217 ?_ ?_
      rotate_left
      · refine g_iconst (pc := 224) (v := (4 : Int32)) ic_4 dX4_step_224 ?_
        exact g_sub [1] rfl (Hj15 (4 : Int32) h12)
      refine g_iconst (pc := 220) (v := (2 : Int32)) ic_2 dX4_step_220 ?_
      refine g_goto (pc := 221) (tgt := 225) rfl dX4_step_221 ?_
      exact g_sub [1] rfl (Hj15 (2 : Int32) h12)
    refine g_aload_n (pc := 120) (x := a0) 1 rfl rfl dX4_step_120 ?_
    refine g_aload_n (pc := 121) (x := a0) 1 rfl rfl dX4_step_121 ?_
    refine g_aload_n (pc := 122) (x := a0) 1 rfl rfl dX4_step_122 ?_
    refine g_getfi (pc := 123) k_12 (gblt rfl) lk_X4_44_12 dX4_step_123 fun v19 => ?_
    refine g_bipush (pc := 126) (v := (48 : Int32)) bc_48 dX4_step_126 ?_
    refine g_bipush (pc := 128) (v := (57 : Int32)) bc_57 dX4_step_128 ?_
    refine g_bVi (pc := 130) (y := yX4_run) (ws := ws_ yX4_run cX4_run 5 (some .int)) (fr := 1) (lo := 22) (as := [gi v19, gi (48 : Int32), gi (57 : Int32)]) (st := [gr a0]) (g_no) rfl (fun _ _ _ e => tX4_run hs e) (fun K _ _ _ hq hM R e1 e2 => g_runV (M := mX4_step) (pc := 130) (y := yX4_run) (bytes := cX4_run) (maxL := 5) (ret := (some .int)) (fr := 1) (lo := 22) (as := [gi v19, gi (48 : Int32), gi (57 : Int32)]) (st := [gr a0]) hq (C := "FlareSlopes$Parser") rfl gy_X4_run (gbl rfl) (gbl rfl) (gbl rfl) q546 q548 qs3 dX4_step_130 K hM R e1 e2) fun v20 h21 => ?_
    refine g_put (pc := 133) k_12 (gblt rfl) lk_X4_41_12 rfl rfl (gNi _) dX4_step_133 fun h22 => ?_
    refine g_aload_n (pc := 136) (x := a0) 1 rfl rfl dX4_step_136 ?_
    refine g_aload_n (pc := 137) (x := a0) 1 rfl rfl dX4_step_137 ?_
    refine g_getfi (pc := 138) k_12 (gblt rfl) lk_X4_41_12 dX4_step_138 fun v23 => ?_
    refine g_aload_n (pc := 141) (x := a0) 1 rfl rfl dX4_step_141 ?_
    refine g_getfi (pc := 142) k_12 (gblt rfl) lk_X4_44_12 dX4_step_142 fun v24 => ?_
    refine g_isub (pc := 145) dX4_step_145 ?_
    refine g_iconst (pc := 146) (v := (4 : Int32)) ic_4 dX4_step_146 ?_
    refine g_join 155 (fun (x25 : Int32) => [(0, gr a0)]) (fun (x25 : Int32) => [gi x25, gr a0]) (fun x25 h26 => ?_) (fun j27 Hj27 => ?_)
    · refine g_put (pc := 155) k_12 (gblt rfl) lk_X4_47_12 rfl rfl (gNi _) dX4_step_155 fun h28 => ?_
      refine g_aload_n (pc := 158) (x := a0) 0 rfl rfl dX4_step_158 ?_
      refine g_iconst (pc := 159) (v := (0 : Int32)) ic_0 dX4_step_159 ?_
      refine g_put (pc := 160) k_12 (gblt rfl) lk_X4_54_12 rfl rfl (gNi _) dX4_step_160 fun h29 => ?_
      refine g_aload_n (pc := 163) (x := a0) 0 rfl rfl dX4_step_163 ?_
      refine g_getfi (pc := 164) k_12 (gblt rfl) lk_X4_44_12 dX4_step_164 fun v30 => ?_
      refine g_istore_n (pc := 167) (lv' := [(2, gi v30), (0, gr a0)]) [0, 1] rfl rfl (gblt rfl) dX4_step_167 ?_
      refine g_join 210 (fun (x31 : Unit) => []) (fun (x31 : Unit) => []) (fun x31 h32 => ?_) (fun j33 Hj33 => ?_)
      · refine g_goto (pc := 210) (tgt := 238) rfl dX4_step_210 ?_
        exact g_return (pc := 238) rfl dX4_step_238
      refine g_sub (lv' := [(0, gr a0), (2, gi v30)]) [1, 0] rfl ?_
      refine g_loop (pc := 168) (fun (x34 : Int32) => [(0, gr a0), (2, gi x34)]) (fun (_ : Int32) => []) (fun w36 Hw36 x34 h35 => ?_) N v30 h29
      delta bX4_step_168
      refine g_iload_n (pc := 168) (x := x34) 1 rfl rfl dX4_step_168 ?_
      refine g_aload_n (pc := 169) (x := a0) 0 rfl rfl dX4_step_169 ?_
      refine g_getfi (pc := 170) k_12 (gblt rfl) lk_X4_41_12 dX4_step_170 fun v37 => ?_
      refine g_icmp_ge (pc := 173) (tgt := 210) rfl dX4_step_173 ?_ ?_
      · exact g_sub [] rfl (Hj33 () h35)
      refine g_aload_n (pc := 176) (x := a0) 0 rfl rfl dX4_step_176 ?_
      refine g_getfi (pc := 177) k_12 (gblt rfl) lk_X4_47_12 dX4_step_177 fun v38 => ?_
      refine g_iconst (pc := 180) (v := (1 : Int32)) ic_1 dX4_step_180 ?_
      refine g_icmp_ne (pc := 181) (tgt := 210) rfl dX4_step_181 ?_ ?_
      rotate_left
      · exact g_sub [] rfl (Hj33 () h35)
      refine g_aload_n (pc := 184) (x := a0) 0 rfl rfl dX4_step_184 ?_
      refine g_bipush (pc := 185) (v := (10 : Int32)) bc_10 dX4_step_185 ?_
      refine g_aload_n (pc := 187) (x := a0) 0 rfl rfl dX4_step_187 ?_
      refine g_getfi (pc := 188) k_12 (gblt rfl) lk_X4_54_12 dX4_step_188 fun v39 => ?_
      refine g_imul (pc := 191) dX4_step_191 ?_
      refine g_aload_n (pc := 192) (x := a0) 0 rfl rfl dX4_step_192 ?_
      refine g_iload_n (pc := 193) (x := x34) 1 rfl rfl dX4_step_193 ?_
      refine g_bVi (pc := 194) (y := yX4_at) (ws := ws_ yX4_at cX4_at 2 (some .int)) (fr := 0) (lo := 0) (as := [gi x34]) (st := [gi ((10 : Int32) * v39), gr a0]) (g_no) rfl (fun _ _ _ e => tX4_at hs e) (fun K _ _ _ hq hM R e1 e2 => g_runV (M := mX4_step) (pc := 194) (y := yX4_at) (bytes := cX4_at) (maxL := 2) (ret := (some .int)) (fr := 0) (lo := 0) (as := [gi x34]) (st := [gi ((10 : Int32) * v39), gr a0]) hq (C := "FlareSlopes$Parser") rfl gy_X4_at (gbl rfl) (gbl rfl) (gbl rfl) q541 q543 qs2 dX4_step_194 K hM R e1 e2) fun v40 h41 => ?_
      refine g_iadd (pc := 197) dX4_step_197 ?_
      refine g_bipush (pc := 198) (v := (48 : Int32)) bc_48 dX4_step_198 ?_
      refine g_isub (pc := 200) dX4_step_200 ?_
      refine g_put (pc := 201) k_12 (gblt rfl) lk_X4_54_12 rfl rfl (gNi _) dX4_step_201 fun h42 => ?_
      refine g_iinc (pc := 204) (v := x34 + (1 : Int32)) 1 rfl (ii_1 _) (lv' := [(2, gi (x34 + (1 : Int32))), (0, gr a0)]) [0, 1] rfl (gblt rfl) dX4_step_204 ?_
      refine g_goto (pc := 207) (tgt := 168) rfl dX4_step_207 ?_
      exact g_sub [1, 0] rfl (Hw36 (x34 + (1 : Int32)) h42)
    refine g_icmp_gt (pc := 147) (tgt := 154) rfl dX4_step_147 ?_ ?_
    · refine g_iconst (pc := 154) (v := (4 : Int32)) ic_4 dX4_step_154 ?_
      exact g_sub [1] rfl (Hj27 (4 : Int32) h22)
    refine g_iconst (pc := 150) (v := (1 : Int32)) ic_1 dX4_step_150 ?_
    refine g_goto (pc := 151) (tgt := 155) rfl dX4_step_151 ?_
    exact g_sub [1] rfl (Hj27 (1 : Int32) h22)
  refine g_loop (pc := 0) (fun (x58 : Unit) => [(0, gr a0)]) (fun (_ : Unit) => []) (fun w60 Hw60 x58 h59 => ?_) N () h
  delta bX4_step_0
  refine g_aload_n (pc := 0) (x := a0) 0 rfl rfl dX4_step_0 ?_
  refine g_aload_n (pc := 1) (x := a0) 0 rfl rfl dX4_step_1 ?_
  refine g_getfi (pc := 2) k_12 (gblt rfl) lk_X4_41_12 dX4_step_2 fun v61 => ?_
  refine g_bVi (pc := 5) (y := yX4_at) (ws := ws_ yX4_at cX4_at 2 (some .int)) (fr := 0) (lo := 0) (as := [gi v61]) (st := []) (g_no) rfl (fun _ _ _ e => tX4_at hs e) (fun K _ _ _ hq hM R e1 e2 => g_runV (M := mX4_step) (pc := 5) (y := yX4_at) (bytes := cX4_at) (maxL := 2) (ret := (some .int)) (fr := 0) (lo := 0) (as := [gi v61]) (st := []) hq (C := "FlareSlopes$Parser") rfl gy_X4_at (gbl rfl) (gbl rfl) (gbl rfl) q541 q543 qs2 dX4_step_5 K hM R e1 e2) fun v62 h63 => ?_
  refine g_bipush (pc := 8) (v := (32 : Int32)) bc_32 dX4_step_8 ?_
  refine g_icmp_ne (pc := 10) (tgt := 26) rfl dX4_step_10 ?_ ?_
  rotate_left
  · exact Hj3 () h63
  refine g_aload_n (pc := 13) (x := a0) 0 rfl rfl dX4_step_13 ?_
  refine g_dup (pc := 14) rfl dX4_step_14 ?_
  refine g_getfi (pc := 15) k_12 (gblt rfl) lk_X4_41_12 dX4_step_15 fun v64 => ?_
  refine g_iconst (pc := 18) (v := (1 : Int32)) ic_1 dX4_step_18 ?_
  refine g_iadd (pc := 19) dX4_step_19 ?_
  refine g_put (pc := 20) k_12 (gblt rfl) lk_X4_41_12 rfl rfl (gNi _) dX4_step_20 fun h65 => ?_
  refine g_goto (pc := 23) (tgt := 0) rfl dX4_step_23 ?_
  exact Hw60 () h65
/-! FlareSlopes$Parser.<init>(LFlareSlopes;I)V -/
noncomputable def sX4_init (G : GG) (N : Nat) (a0 : Option Nat) (a1 : Option Nat) (a2 : Int32) (h : Hp) : Out (Unit) :=
  gP G h a0 12 6 (va_rf a1) fun h1 =>
  gNN a0 (gNew h1 11 [.null, .null, .null, .null, .null, .null] 6 fun v2 h3 =>
  bI v2 (fun q11 => sX5_init G N (some q11) h3) fun v4 h5 =>
  gP G h5 a0 12 1 (va_rf v2) fun h6 =>
  gP G h6 a0 12 0 (.int a2) fun h7 =>
  bV h7 a0 12 (fun q10 => sX4_step G N (some q10) h7) fun v8 h9 =>
  some (.inl (), h9))
abbrev mX4_init : MI := (RX4, cX4_init, 3, none, [], 6, 114, "<init>")
theorem tX4_init {G : GG} {l : Launch} (hs : l.stackTraces = false) {N : Nat} {a0 : Option Nat} {a1 : Option Nat} {a2 : Int32} {h : Hp} {r : Unit ⊕ Nat} {hf : Hp} (ho : sX4_init G N a0 a1 a2 h = some (r, hf)) : gMet G l yX4_init (ws_ yX4_init cX4_init 3 none) 6 114 [gr a0, gr a1, gi a2] h cvU r hf := by
  refine gMet.of ho hs (plainFor_of_name pn_X4) rfl rfl (gbl rfl) fun X => ?_
  show gT G l X mX4_init cvU r hf 0 [(0, gr a0), (1, gr a1), (2, gi a2)] [] h (sX4_init G N a0 a1 a2 h)
  delta sX4_init
  refine g_aload_n (pc := 0) (x := a0) 0 rfl rfl dX4_init_0 ?_
  refine g_aload_n (pc := 1) (x := a1) 1 rfl rfl dX4_init_1 ?_
  refine g_putFin (pc := 2) k_12 (gblt rfl) lk_X4_3_12 q556 rfl rfl rfl rfl (gNr _ _) dX4_init_2 fun h1 => ?_
  refine g_aload_n (pc := 5) (x := a0) 0 rfl rfl dX4_init_5 ?_
  refine g_objInit' (pc := 6) q443 oi_in oi_code (gbl rfl) (gbl rfl) dX4_init_6 ?_
  refine g_aload_n (pc := 9) (x := a0) 0 rfl rfl dX4_init_9 ?_
  refine g_new (pc := 10) k_11 df_11 q444 q445 q143 dX4_init_10 fun v2 h3 => ?_
  refine g_dup (pc := 13) rfl dX4_init_13 ?_
  refine g_bIu (pc := 14) (y := yX5_init) (ws := ws_ yX5_init cX5_init 2 none) (fr := 5) (lo := 93) (as := []) (st := [gr v2, gr a0]) (g_no) rfl (fun _ _ _ e => tX5_init hs e) (fun K _ _ _ hM R e1 e2 => g_runIN (M := mX4_init) (pc := 14) (y := yX5_init) (bytes := cX5_init) (maxL := 2) (ret := none) (fr := 5) (lo := 93) (as := []) (st := [gr v2, gr a0]) gy_X5_init (gbl rfl) (gbl rfl) (gbl rfl) rfl q446 q447 rfl dX4_init_14 K hM R e1 e2) fun v4 h5 => ?_
  refine g_putFin (pc := 17) k_12 (gblt rfl) lk_X4_18_12 q551 rfl rfl rfl rfl (gNr _ _) dX4_init_17 fun h6 => ?_
  refine g_aload_n (pc := 20) (x := a0) 0 rfl rfl dX4_init_20 ?_
  refine g_iload_n (pc := 21) (x := a2) 2 rfl rfl dX4_init_21 ?_
  refine g_putFin (pc := 22) k_12 (gblt rfl) lk_X4_22_12 q550 rfl rfl rfl rfl (gNi _) dX4_init_22 fun h7 => ?_
  refine g_aload_n (pc := 25) (x := a0) 0 rfl rfl dX4_init_25 ?_
  refine g_bVu (pc := 26) (y := yX4_step) (ws := ws_ yX4_step cX4_step 3 none) (fr := 2) (lo := 46) (as := []) (st := []) (g_no) rfl (fun _ _ _ e => tX4_step hs e) (fun K _ _ _ hq hM R e1 e2 => g_runV (M := mX4_init) (pc := 26) (y := yX4_step) (bytes := cX4_step) (maxL := 3) (ret := none) (fr := 2) (lo := 46) (as := []) (st := []) hq (C := "FlareSlopes$Parser") rfl gy_X4_step (gbl rfl) (gbl rfl) (gbl rfl) q537 q539 qs1 dX4_init_26 K hM R e1 e2) fun v8 h9 => ?_
  exact g_return (pc := 29) rfl dX4_init_29
/-! java/lang/Throwable.<init>(Ljava/lang/String;Ljava/lang/Throwable;ZZ)V -/
noncomputable def sJ6_init_3_c8 (G : GG) (N : Nat) (a0 : Option Nat) (a1 : Option Nat) (a2 : Option Nat) (a3 : Int32) (a4 : Int32) (h : Hp) : Out (Unit) :=
  gNN a0 (gP G h a0 8 0 (va_rf a0) fun h1 =>
  gP G h1 a0 8 1 (va_rf (some (G.2.2.2.2 1))) fun h2 =>
  gP G h2 a0 8 2 (va_rf (some (G.2.2.2.2 2))) fun h3 =>
  if a4 = 0 then (gP G h3 a0 8 1 (va_rf none) fun h4 =>
  gP G h4 a0 8 3 (va_rf a1) fun h5 =>
  gP G h5 a0 8 0 (va_rf a2) fun h6 =>
  if a3 = 0 then (gP G h6 a0 8 2 (va_rf none) fun h7 =>
  some (.inl (), h7))
  else some (.inl (), h6))
  else none)
abbrev mJ6_init_3_c8 : MI := (RJ6, cJ6_init_3, 5, none, [], 1, 12, "<init>")
theorem tJ6_init_3_c8 {G : GG} {l : Launch} (hs : l.stackTraces = false) {N : Nat} {a0 : Option Nat} {a1 : Option Nat} {a2 : Option Nat} {a3 : Int32} {a4 : Int32} {h : Hp} {r : Unit ⊕ Nat} {hf : Hp} (ho : sJ6_init_3_c8 G N a0 a1 a2 a3 a4 h = some (r, hf)) : gMet G l yJ6_init_3 (ws_ yJ6_init_3 cJ6_init_3 5 none) 1 12 [gr a0, gr a1, gr a2, gi a3, gi a4] h cvU r hf := by
  refine gMet.of ho hs (plainFor_of_name pn_J6) rfl rfl (gbl rfl) fun X => ?_
  show gT G l X mJ6_init_3_c8 cvU r hf 0 [(0, gr a0), (1, gr a1), (2, gr a2), (3, gi a3), (4, gi a4)] [] h (sJ6_init_3_c8 G N a0 a1 a2 a3 a4 h)
  delta sJ6_init_3_c8
  refine g_aload_n (pc := 0) (x := a0) 0 rfl rfl dJ6_init_3_0 ?_
  refine g_objInit' (pc := 1) q341 oi_in oi_code (gbl rfl) (gbl rfl) dJ6_init_3_1 ?_
  refine g_aload_n (pc := 4) (x := a0) 0 rfl rfl dJ6_init_3_4 ?_
  refine g_aload_n (pc := 5) (x := a0) 0 rfl rfl dJ6_init_3_5 ?_
  refine g_put (pc := 6) k_8 (gblt rfl) lk_J6_7_8 rfl rfl (gNr _ _) dJ6_init_3_6 fun h1 => ?_
  refine g_aload_n (pc := 9) (x := a0) 0 rfl rfl dJ6_init_3_9 ?_
  refine g_gets (pc := 10) (sv := .inr 1) (w := gr (some (G.2.2.2.2 1))) sfl_2 rfl ⟨Or.inl q342, Or.inl rfl⟩ dJ6_init_3_10 ?_
  refine g_put (pc := 13) k_8 (gblt rfl) lk_J6_17_8 rfl rfl (gNa _ _) dJ6_init_3_13 fun h2 => ?_
  refine g_aload_n (pc := 16) (x := a0) 0 rfl rfl dJ6_init_3_16 ?_
  refine g_gets (pc := 17) (sv := .inr 2) (w := gr (some (G.2.2.2.2 2))) sfl_3 rfl ⟨Or.inl q344, Or.inl rfl⟩ dJ6_init_3_17 ?_
  refine g_put (pc := 20) k_8 (gblt rfl) lk_J6_24_8 rfl rfl (gNr _ _) dJ6_init_3_20 fun h3 => ?_
  refine g_iload (pc := 23) (x := a4) 4 rfl dJ6_init_3_23 ?_
  refine g_if_eq (pc := 25) (tgt := 36) rfl dJ6_init_3_25 ?_ ?_
  rotate_left
  · exact g_none
  refine g_aload_n (pc := 36) (x := a0) 0 rfl rfl dJ6_init_3_36 ?_
  refine g_aconst_null (pc := 37) dJ6_init_3_37 ?_
  refine g_put (pc := 38) k_8 (gblt rfl) lk_J6_17_8 rfl rfl (gNa _ _) dJ6_init_3_38 fun h4 => ?_
  refine g_aload_n (pc := 41) (x := a0) 0 rfl rfl dJ6_init_3_41 ?_
  refine g_aload_n (pc := 42) (x := a1) 1 rfl rfl dJ6_init_3_42 ?_
  refine g_put (pc := 43) k_8 (gblt rfl) lk_J6_31_8 rfl rfl (gNr _ _) dJ6_init_3_43 fun h5 => ?_
  refine g_aload_n (pc := 46) (x := a0) 0 rfl rfl dJ6_init_3_46 ?_
  refine g_aload_n (pc := 47) (x := a2) 2 rfl rfl dJ6_init_3_47 ?_
  refine g_put (pc := 48) k_8 (gblt rfl) lk_J6_7_8 rfl rfl (gNr _ _) dJ6_init_3_48 fun h6 => ?_
  refine g_iload_n (pc := 51) (x := a3) 3 rfl rfl dJ6_init_3_51 ?_
  refine g_if_ne (pc := 52) (tgt := 60) rfl dJ6_init_3_52 ?_ ?_
  rotate_left
  · exact g_return (pc := 60) rfl dJ6_init_3_60
  refine g_aload_n (pc := 55) (x := a0) 0 rfl rfl dJ6_init_3_55 ?_
  refine g_aconst_null (pc := 56) dJ6_init_3_56 ?_
  refine g_put (pc := 57) k_8 (gblt rfl) lk_J6_24_8 rfl rfl (gNr _ _) dJ6_init_3_57 fun h7 => ?_
  exact g_return (pc := 60) rfl dJ6_init_3_60
/-! java/lang/Exception.<init>(Ljava/lang/String;Ljava/lang/Throwable;ZZ)V -/
noncomputable def sJ7_init_3_c8 (G : GG) (N : Nat) (a0 : Option Nat) (a1 : Option Nat) (a2 : Option Nat) (a3 : Int32) (a4 : Int32) (h : Hp) : Out (Unit) :=
  bI a0 (fun q3 => sJ6_init_3_c8 G N (some q3) a1 a2 a3 a4 h) fun v1 h2 =>
  some (.inl (), h2)
abbrev mJ7_init_3_c8 : MI := (RJ7, cJ7_init_3, 5, none, [], 2, 36, "<init>")
theorem tJ7_init_3_c8 {G : GG} {l : Launch} (hs : l.stackTraces = false) {N : Nat} {a0 : Option Nat} {a1 : Option Nat} {a2 : Option Nat} {a3 : Int32} {a4 : Int32} {h : Hp} {r : Unit ⊕ Nat} {hf : Hp} (ho : sJ7_init_3_c8 G N a0 a1 a2 a3 a4 h = some (r, hf)) : gMet G l yJ7_init_3 (ws_ yJ7_init_3 cJ7_init_3 5 none) 2 36 [gr a0, gr a1, gr a2, gi a3, gi a4] h cvU r hf := by
  refine gMet.of ho hs (plainFor_of_name pn_J7) rfl rfl (gbl rfl) fun X => ?_
  show gT G l X mJ7_init_3_c8 cvU r hf 0 [(0, gr a0), (1, gr a1), (2, gr a2), (3, gi a3), (4, gi a4)] [] h (sJ7_init_3_c8 G N a0 a1 a2 a3 a4 h)
  delta sJ7_init_3_c8
  refine g_aload_n (pc := 0) (x := a0) 0 rfl rfl dJ7_init_3_0 ?_
  refine g_aload_n (pc := 1) (x := a1) 1 rfl rfl dJ7_init_3_1 ?_
  refine g_aload_n (pc := 2) (x := a2) 2 rfl rfl dJ7_init_3_2 ?_
  refine g_iload_n (pc := 3) (x := a3) 3 rfl rfl dJ7_init_3_3 ?_
  refine g_iload (pc := 4) (x := a4) 4 rfl dJ7_init_3_4 ?_
  refine g_bIu (pc := 6) (y := yJ6_init_3) (ws := ws_ yJ6_init_3 cJ6_init_3 5 none) (fr := 1) (lo := 12) (as := [gr a1, gr a2, gi a3, gi a4]) (st := []) (g_no) rfl (fun _ _ _ e => tJ6_init_3_c8 hs e) (fun K _ _ _ hM R e1 e2 => g_runI (M := mJ7_init_3_c8) (pc := 6) (y := yJ6_init_3) (bytes := cJ6_init_3) (maxL := 5) (ret := none) (fr := 1) (lo := 12) (as := [gr a1, gr a2, gi a3, gi a4]) (st := []) gy_J6_init_3 (gbl rfl) (gbl rfl) (gbl rfl) rfl q604 q605 rfl dJ7_init_3_6 K hM R e1 e2) fun v1 h2 => ?_
  exact g_return (pc := 9) rfl dJ7_init_3_9
/-! FlareSlopes$Flaw.<init>(II)V -/
noncomputable def sX8_init (G : GG) (N : Nat) (a0 : Option Nat) (a1 : Int32) (a2 : Int32) (h : Hp) : Out (Unit) :=
  bI a0 (fun q5 => sJ7_init_3_c8 G N (some q5) none none (0 : Int32) (0 : Int32) h) fun v1 h2 =>
  gP G h2 a0 8 6 (.int a1) fun h3 =>
  gP G h3 a0 8 7 (.int a2) fun h4 =>
  some (.inl (), h4)
abbrev mX8_init : MI := (RX8, cX8_init, 3, none, [], 3, 60, "<init>")
theorem tX8_init {G : GG} {l : Launch} (hs : l.stackTraces = false) {N : Nat} {a0 : Option Nat} {a1 : Int32} {a2 : Int32} {h : Hp} {r : Unit ⊕ Nat} {hf : Hp} (ho : sX8_init G N a0 a1 a2 h = some (r, hf)) : gMet G l yX8_init (ws_ yX8_init cX8_init 3 none) 3 60 [gr a0, gi a1, gi a2] h cvU r hf := by
  refine gMet.of ho hs (plainFor_of_name pn_X8) rfl rfl (gbl rfl) fun X => ?_
  show gT G l X mX8_init cvU r hf 0 [(0, gr a0), (1, gi a1), (2, gi a2)] [] h (sX8_init G N a0 a1 a2 h)
  delta sX8_init
  refine g_aload_n (pc := 0) (x := a0) 0 rfl rfl dX8_init_0 ?_
  refine g_aconst_null (pc := 1) dX8_init_1 ?_
  refine g_aconst_null (pc := 2) dX8_init_2 ?_
  refine g_iconst (pc := 3) (v := (0 : Int32)) ic_0 dX8_init_3 ?_
  refine g_iconst (pc := 4) (v := (0 : Int32)) ic_0 dX8_init_4 ?_
  refine g_bIu (pc := 5) (y := yJ7_init_3) (ws := ws_ yJ7_init_3 cJ7_init_3 5 none) (fr := 2) (lo := 36) (as := [gr none, gr none, gi (0 : Int32), gi (0 : Int32)]) (st := []) (g_no) rfl (fun _ _ _ e => tJ7_init_3_c8 hs e) (fun K _ _ _ hM R e1 e2 => g_runI (M := mX8_init) (pc := 5) (y := yJ7_init_3) (bytes := cJ7_init_3) (maxL := 5) (ret := none) (fr := 2) (lo := 36) (as := [gr none, gr none, gi (0 : Int32), gi (0 : Int32)]) (st := []) gy_J7_init_3 (gbl rfl) (gbl rfl) (gbl rfl) rfl q601 q602 rfl dX8_init_5 K hM R e1 e2) fun v1 h2 => ?_
  refine g_aload_n (pc := 8) (x := a0) 0 rfl rfl dX8_init_8 ?_
  refine g_iload_n (pc := 9) (x := a1) 1 rfl rfl dX8_init_9 ?_
  refine g_putFin (pc := 10) k_8 (gblt rfl) lk_X8_7_8 q607 rfl rfl rfl rfl (gNi _) dX8_init_10 fun h3 => ?_
  refine g_aload_n (pc := 13) (x := a0) 0 rfl rfl dX8_init_13 ?_
  refine g_iload_n (pc := 14) (x := a2) 2 rfl rfl dX8_init_14 ?_
  refine g_putFin (pc := 15) k_8 (gblt rfl) lk_X8_13_8 q609 rfl rfl rfl rfl (gNi _) dX8_init_15 fun h4 => ?_
  exact g_return (pc := 18) rfl dX8_init_18
/-! FlareSlopes$Parser.check(ZI)V -/
noncomputable def sX4_check (G : GG) (N : Nat) (a0 : Option Nat) (a1 : Int32) (a2 : Int32) (h : Hp) : Out (Unit) :=
  if a1 = 0 then (gNew h 8 [.null, .null, .null, .null, .null, .int 0, .int 0, .int 0] 8 fun v1 h2 =>
  gFi h2 a0 12 3 fun v3 =>
  bI v1 (fun q6 => sX8_init G N (some q6) a2 v3 h2) fun v4 h5 =>
  gThr G v1 h5)
  else some (.inl (), h)
abbrev mX4_check : MI := (RX4, cX4_check, 3, none, [], 4, 82, "check")
theorem tX4_check {G : GG} {l : Launch} (hs : l.stackTraces = false) {N : Nat} {a0 : Option Nat} {a1 : Int32} {a2 : Int32} {h : Hp} {r : Unit ⊕ Nat} {hf : Hp} (ho : sX4_check G N a0 a1 a2 h = some (r, hf)) : gMet G l yX4_check (ws_ yX4_check cX4_check 3 none) 4 82 [gr a0, gi a1, gi a2] h cvU r hf := by
  refine gMet.of ho hs (plainFor_of_name pn_X4) rfl rfl (gbl rfl) fun X => ?_
  show gT G l X mX4_check cvU r hf 0 [(0, gr a0), (1, gi a1), (2, gi a2)] [] h (sX4_check G N a0 a1 a2 h)
  delta sX4_check
  refine g_iload_n (pc := 0) (x := a1) 1 rfl rfl dX4_check_0 ?_
  refine g_if_ne (pc := 1) (tgt := 17) rfl dX4_check_1 ?_ ?_
  rotate_left
  · exact g_return (pc := 17) rfl dX4_check_17
  refine g_new (pc := 4) k_8 df_8 q589 q590 q148 dX4_check_4 fun v1 h2 => ?_
  refine g_dup (pc := 7) rfl dX4_check_7 ?_
  refine g_iload_n (pc := 8) (x := a2) 2 rfl rfl dX4_check_8 ?_
  refine g_aload_n (pc := 9) (x := a0) 0 rfl rfl dX4_check_9 ?_
  refine g_getfi (pc := 10) k_12 (gblt rfl) lk_X4_44_12 dX4_check_10 fun v3 => ?_
  refine g_bIu (pc := 13) (y := yX8_init) (ws := ws_ yX8_init cX8_init 3 none) (fr := 3) (lo := 60) (as := [gi a2, gi v3]) (st := [gr v1]) (g_no) rfl (fun _ _ _ e => tX8_init hs e) (fun K _ _ _ hM R e1 e2 => g_runI (M := mX4_check) (pc := 13) (y := yX8_init) (bytes := cX8_init) (maxL := 3) (ret := none) (fr := 3) (lo := 60) (as := [gi a2, gi v3]) (st := [gr v1]) gy_X8_init (gbl rfl) (gbl rfl) (gbl rfl) rfl q598 q599 rfl dX4_check_13 K hM R e1 e2) fun v4 h5 => ?_
  exact g_athrow (pc := 16) (g_no) dX4_check_16
/-! java/lang/Math.max(II)I -/
noncomputable def sJ14_max (G : GG) (N : Nat) (a0 : Int32) (a1 : Int32) (h : Hp) : Out (Int32) :=
  if a0 < a1 then (some (.inl a1, h))
  else some (.inl a0, h)
abbrev mJ14_max : MI := (RJ14, cJ14_max, 2, (some .int), [], 0, 0, "max")
theorem tJ14_max {G : GG} {l : Launch} (hs : l.stackTraces = false) {N : Nat} {a0 : Int32} {a1 : Int32} {h : Hp} {r : Int32 ⊕ Nat} {hf : Hp} (ho : sJ14_max G N a0 a1 h = some (r, hf)) : gMet G l yJ14_max (ws_ yJ14_max cJ14_max 2 (some .int)) 0 0 [gi a0, gi a1] h cvI r hf := by
  refine gMet.of ho hs pf_J14_max rfl rfl (gbl rfl) fun X => ?_
  show gT G l X mJ14_max cvI r hf 0 [(0, gi a0), (1, gi a1)] [] h (sJ14_max G N a0 a1 h)
  delta sJ14_max
  refine g_iload_n (pc := 0) (x := a0) 0 rfl rfl dJ14_max_0 ?_
  refine g_iload_n (pc := 1) (x := a1) 1 rfl rfl dJ14_max_1 ?_
  refine g_icmp_lt (pc := 2) (tgt := 9) rfl dJ14_max_2 ?_ ?_
  · refine g_iload_n (pc := 9) (x := a1) 1 rfl rfl dJ14_max_9 ?_
    exact g_ireturn (pc := 10) rfl dJ14_max_10
  refine g_iload_n (pc := 5) (x := a0) 0 rfl rfl dJ14_max_5 ?_
  refine g_goto (pc := 6) (tgt := 10) rfl dJ14_max_6 ?_
  exact g_ireturn (pc := 10) rfl dJ14_max_10
/-! jdk/internal/util/ArraysSupport.newLength(III)I -/
noncomputable def sJ13_newLength (G : GG) (N : Nat) (a0 : Int32) (a1 : Int32) (a2 : Int32) (h : Hp) : Out (Int32) :=
  bnd (sJ14_max G N a1 a2 h) fun v1 h2 =>
  gLet (a0 + v1) fun v3 =>
  if v3 ≤ (0 : Int32) then (none)
  else if (2147483639 : Int32) < v3 then (none)
  else some (.inl v3, h2)
abbrev mJ13_newLength : MI := (RJ13, cJ13_newLength, 4, (some .int), [], 1, 21, "newLength")
theorem tJ13_newLength {G : GG} {l : Launch} (hs : l.stackTraces = false) {N : Nat} {a0 : Int32} {a1 : Int32} {a2 : Int32} {h : Hp} {r : Int32 ⊕ Nat} {hf : Hp} (ho : sJ13_newLength G N a0 a1 a2 h = some (r, hf)) : gMet G l yJ13_newLength (ws_ yJ13_newLength cJ13_newLength 4 (some .int)) 1 21 [gi a0, gi a1, gi a2] h cvI r hf := by
  refine gMet.of ho hs (plainFor_of_name pn_J13) rfl rfl (gbl rfl) fun X => ?_
  show gT G l X mJ13_newLength cvI r hf 0 [(0, gi a0), (1, gi a1), (2, gi a2)] [] h (sJ13_newLength G N a0 a1 a2 h)
  delta sJ13_newLength
  refine g_iload_n (pc := 0) (x := a0) 0 rfl rfl dJ13_newLength_0 ?_
  refine g_iload_n (pc := 1) (x := a1) 1 rfl rfl dJ13_newLength_1 ?_
  refine g_iload_n (pc := 2) (x := a2) 2 rfl rfl dJ13_newLength_2 ?_
  refine g_bi (pc := 3) (y := yJ14_max) (ws := ws_ yJ14_max cJ14_max 2 (some .int)) (fr := 0) (lo := 0) (as := [gi a1, gi a2]) (st := [gi a0]) (g_no) rfl (fun _ _ e => tJ14_max hs e) (fun K _ _ hM R e1 e2 => g_runS (M := mJ13_newLength) (pc := 3) (y := yJ14_max) (bytes := cJ14_max) (maxL := 2) (ret := (some .int)) (fr := 0) (lo := 0) (as := [gi a1, gi a2]) (st := [gi a0]) gy_J14_max (gbl rfl) (gbl rfl) (gbl rfl) q637 q638 dJ13_newLength_3 K hM R e1 e2) fun v1 h2 => ?_
  refine g_iadd (pc := 6) dJ13_newLength_6 ?_
  refine g_leti fun v3 => ?_
  refine g_istore_n (pc := 7) (lv' := [(3, gi v3)]) [0] rfl rfl (gblt rfl) dJ13_newLength_7 ?_
  refine g_iconst (pc := 8) (v := (0 : Int32)) ic_0 dJ13_newLength_8 ?_
  refine g_iload_n (pc := 9) (x := v3) 0 rfl rfl dJ13_newLength_9 ?_
  refine g_icmp_ge (pc := 10) (tgt := 21) rfl dJ13_newLength_10 ?_ ?_
  · exact g_none
  refine g_iload_n (pc := 13) (x := v3) 0 rfl rfl dJ13_newLength_13 ?_
  refine g_ldc (pc := 14) q640 dJ13_newLength_14 ?_
  refine g_icmp_gt (pc := 16) (tgt := 21) rfl dJ13_newLength_16 ?_ ?_
  · exact g_none
  refine g_iload_n (pc := 19) (x := v3) 0 rfl rfl dJ13_newLength_19 ?_
  exact g_ireturn (pc := 20) rfl dJ13_newLength_20
/-! java/lang/AbstractStringBuilder.newCapacity(I)I -/
noncomputable def sJ2_newCapacity_c21 (G : GG) (N : Nat) (a0 : Option Nat) (a1 : Int32) (h : Hp) : Out (Int32) :=
  gFr h a0 21 0 fun v1 =>
  gLen h v1 fun v2 =>
  gFi h a0 21 1 fun v3 =>
  gLet (a1 <<< (v3 &&& 31)) fun v4 =>
  gLet (v4 - v2) fun v5 =>
  gFi h a0 21 1 fun v6 =>
  bnd (sJ13_newLength G N v2 v5 (v2 + ((2 : Int32) <<< (v6 &&& 31))) h) fun v7 h8 =>
  if v7 = (2147483647 : Int32) then (none)
  else gFi h8 a0 21 1 fun v9 =>
  some (.inl (v7 >>> (v9 &&& 31)), h8)
abbrev mJ2_newCapacity_c21 : MI := (RJ2, cJ2_newCapacity, 6, (some .int), [], 2, 44, "newCapacity")
theorem tJ2_newCapacity_c21 {G : GG} {l : Launch} (hs : l.stackTraces = false) {N : Nat} {a0 : Option Nat} {a1 : Int32} {h : Hp} {r : Int32 ⊕ Nat} {hf : Hp} (ho : sJ2_newCapacity_c21 G N a0 a1 h = some (r, hf)) : gMet G l yJ2_newCapacity (ws_ yJ2_newCapacity cJ2_newCapacity 6 (some .int)) 2 44 [gr a0, gi a1] h cvI r hf := by
  refine gMet.of ho hs (plainFor_of_name pn_J2) rfl rfl (gbl rfl) fun X => ?_
  show gT G l X mJ2_newCapacity_c21 cvI r hf 0 [(0, gr a0), (1, gi a1)] [] h (sJ2_newCapacity_c21 G N a0 a1 h)
  delta sJ2_newCapacity_c21
  refine g_aload_n (pc := 0) (x := a0) 0 rfl rfl dJ2_newCapacity_0 ?_
  refine g_getfr (pc := 1) k_21 (gblt rfl) lk_J2_15_21 dJ2_newCapacity_1 fun v1 => ?_
  refine g_alen (pc := 4) dJ2_newCapacity_4 fun v2 => ?_
  refine g_istore_n (pc := 5) (lv' := [(2, gi v2), (0, gr a0), (1, gi a1)]) [0, 1, 2] rfl rfl (gblt rfl) dJ2_newCapacity_5 ?_
  refine g_iload_n (pc := 6) (x := a1) 2 rfl rfl dJ2_newCapacity_6 ?_
  refine g_aload_n (pc := 7) (x := a0) 1 rfl rfl dJ2_newCapacity_7 ?_
  refine g_getfi (pc := 8) k_21 (gblt rfl) lk_J2_22_21 dJ2_newCapacity_8 fun v3 => ?_
  refine g_ishl (pc := 11) dJ2_newCapacity_11 ?_
  refine g_leti fun v4 => ?_
  refine g_istore_n (pc := 12) (lv' := [(3, gi v4), (2, gi v2), (0, gr a0)]) [0, 1, 2] rfl rfl (gblt rfl) dJ2_newCapacity_12 ?_
  refine g_iload_n (pc := 13) (x := v4) 0 rfl rfl dJ2_newCapacity_13 ?_
  refine g_iload_n (pc := 14) (x := v2) 1 rfl rfl dJ2_newCapacity_14 ?_
  refine g_isub (pc := 15) dJ2_newCapacity_15 ?_
  refine g_leti fun v5 => ?_
  refine g_istore (pc := 16) (lv' := [(4, gi v5), (2, gi v2), (0, gr a0)]) [0, 2, 3] rfl (gblt rfl) dJ2_newCapacity_16 ?_
  refine g_iload_n (pc := 18) (x := v2) 1 rfl rfl dJ2_newCapacity_18 ?_
  refine g_iload (pc := 19) (x := v5) 0 rfl dJ2_newCapacity_19 ?_
  refine g_iload_n (pc := 21) (x := v2) 1 rfl rfl dJ2_newCapacity_21 ?_
  refine g_iconst (pc := 22) (v := (2 : Int32)) ic_2 dJ2_newCapacity_22 ?_
  refine g_aload_n (pc := 23) (x := a0) 2 rfl rfl dJ2_newCapacity_23 ?_
  refine g_getfi (pc := 24) k_21 (gblt rfl) lk_J2_22_21 dJ2_newCapacity_24 fun v6 => ?_
  refine g_ishl (pc := 27) dJ2_newCapacity_27 ?_
  refine g_iadd (pc := 28) dJ2_newCapacity_28 ?_
  refine g_bi (pc := 29) (y := yJ13_newLength) (ws := ws_ yJ13_newLength cJ13_newLength 4 (some .int)) (fr := 1) (lo := 21) (as := [gi v2, gi v5, gi (v2 + ((2 : Int32) <<< (v6 &&& 31)))]) (st := []) (g_no) rfl (fun _ _ e => tJ13_newLength hs e) (fun K _ _ hM R e1 e2 => g_runS (M := mJ2_newCapacity_c21) (pc := 29) (y := yJ13_newLength) (bytes := cJ13_newLength) (maxL := 4) (ret := (some .int)) (fr := 1) (lo := 21) (as := [gi v2, gi v5, gi (v2 + ((2 : Int32) <<< (v6 &&& 31)))]) (st := []) gy_J13_newLength (gbl rfl) (gbl rfl) (gbl rfl) q634 q635 dJ2_newCapacity_29 K hM R e1 e2) fun v7 h8 => ?_
  refine g_istore (pc := 32) (lv' := [(5, gi v7), (0, gr a0)]) [0, 3] rfl (gblt rfl) dJ2_newCapacity_32 ?_
  refine g_iload (pc := 34) (x := v7) 0 rfl dJ2_newCapacity_34 ?_
  refine g_ldc (pc := 36) q644 dJ2_newCapacity_36 ?_
  refine g_icmp_ne (pc := 38) (tgt := 51) rfl dJ2_newCapacity_38 ?_ ?_
  · exact g_none
  refine g_iload (pc := 51) (x := v7) 0 rfl dJ2_newCapacity_51 ?_
  refine g_aload_n (pc := 53) (x := a0) 1 rfl rfl dJ2_newCapacity_53 ?_
  refine g_getfi (pc := 54) k_21 (gblt rfl) lk_J2_22_21 dJ2_newCapacity_54 fun v9 => ?_
  refine g_ishr (pc := 57) dJ2_newCapacity_57 ?_
  exact g_ireturn (pc := 58) rfl dJ2_newCapacity_58
/-! java/lang/Math.min(II)I -/
noncomputable def sJ14_min (G : GG) (N : Nat) (a0 : Int32) (a1 : Int32) (h : Hp) : Out (Int32) :=
  if a1 < a0 then (some (.inl a1, h))
  else some (.inl a0, h)
abbrev mJ14_min : MI := (RJ14, cJ14_min, 2, (some .int), [], 0, 0, "min")
theorem tJ14_min {G : GG} {l : Launch} (hs : l.stackTraces = false) {N : Nat} {a0 : Int32} {a1 : Int32} {h : Hp} {r : Int32 ⊕ Nat} {hf : Hp} (ho : sJ14_min G N a0 a1 h = some (r, hf)) : gMet G l yJ14_min (ws_ yJ14_min cJ14_min 2 (some .int)) 0 0 [gi a0, gi a1] h cvI r hf := by
  refine gMet.of ho hs pf_J14_min rfl rfl (gbl rfl) fun X => ?_
  show gT G l X mJ14_min cvI r hf 0 [(0, gi a0), (1, gi a1)] [] h (sJ14_min G N a0 a1 h)
  delta sJ14_min
  refine g_iload_n (pc := 0) (x := a0) 0 rfl rfl dJ14_min_0 ?_
  refine g_iload_n (pc := 1) (x := a1) 1 rfl rfl dJ14_min_1 ?_
  refine g_icmp_gt (pc := 2) (tgt := 9) rfl dJ14_min_2 ?_ ?_
  · refine g_iload_n (pc := 9) (x := a1) 1 rfl rfl dJ14_min_9 ?_
    exact g_ireturn (pc := 10) rfl dJ14_min_10
  refine g_iload_n (pc := 5) (x := a0) 0 rfl rfl dJ14_min_5 ?_
  refine g_goto (pc := 6) (tgt := 10) rfl dJ14_min_6 ?_
  exact g_ireturn (pc := 10) rfl dJ14_min_10
/-! java/util/Arrays.copyOf([BI)[B -/
noncomputable def sJ15_copyOf (G : GG) (N : Nat) (a0 : Option Nat) (a1 : Int32) (h : Hp) : Out (Option Nat) :=
  gLen h a0 fun v1 =>
  if a1 = v1 then (none)
  else gNA h 1 z_B a1 fun v2 h3 =>
  gLen h3 a0 fun v4 =>
  bnd (sJ14_min G N v4 a1 h3) fun v5 h6 =>
  gCp G h6 a0 (0 : Int32) v2 (0 : Int32) v5 1 .byte fun h7 =>
  some (.inl v2, h7)
abbrev mJ15_copyOf : MI := (RJ15, cJ15_copyOf, 3, (some (.array .byte)), [], 1, 21, "copyOf")
theorem tJ15_copyOf {G : GG} {l : Launch} (hs : l.stackTraces = false) {N : Nat} {a0 : Option Nat} {a1 : Int32} {h : Hp} {r : Option Nat ⊕ Nat} {hf : Hp} (ho : sJ15_copyOf G N a0 a1 h = some (r, hf)) : gMet G l yJ15_copyOf (ws_ yJ15_copyOf cJ15_copyOf 3 (some (.array .byte))) 1 21 [gr a0, gi a1] h cvR r hf := by
  refine gMet.of ho hs (plainFor_of_name pn_J15) rfl rfl (gbl rfl) fun X => ?_
  show gT G l X mJ15_copyOf cvR r hf 0 [(0, gr a0), (1, gi a1)] [] h (sJ15_copyOf G N a0 a1 h)
  delta sJ15_copyOf
  refine g_iload_n (pc := 0) (x := a1) 1 rfl rfl dJ15_copyOf_0 ?_
  refine g_aload_n (pc := 1) (x := a0) 0 rfl rfl dJ15_copyOf_1 ?_
  refine g_alen (pc := 2) dJ15_copyOf_2 fun v1 => ?_
  refine g_icmp_ne (pc := 3) (tgt := 14) rfl dJ15_copyOf_3 ?_ ?_
  · exact g_none
  refine g_iload_n (pc := 14) (x := a1) 1 rfl rfl dJ15_copyOf_14 ?_
  refine g_naB (pc := 15) q232 dJ15_copyOf_15 fun v2 h3 => ?_
  refine g_astore_n (pc := 17) (lv' := [(2, gr v2), (0, gr a0), (1, gi a1)]) [0, 1, 2] rfl rfl (gblt rfl) dJ15_copyOf_17 ?_
  refine g_aload_n (pc := 18) (x := a0) 1 rfl rfl dJ15_copyOf_18 ?_
  refine g_iconst (pc := 19) (v := (0 : Int32)) ic_0 dJ15_copyOf_19 ?_
  refine g_aload_n (pc := 20) (x := v2) 0 rfl rfl dJ15_copyOf_20 ?_
  refine g_iconst (pc := 21) (v := (0 : Int32)) ic_0 dJ15_copyOf_21 ?_
  refine g_aload_n (pc := 22) (x := a0) 1 rfl rfl dJ15_copyOf_22 ?_
  refine g_alen (pc := 23) dJ15_copyOf_23 fun v4 => ?_
  refine g_iload_n (pc := 24) (x := a1) 2 rfl rfl dJ15_copyOf_24 ?_
  refine g_bi (pc := 25) (y := yJ14_min) (ws := ws_ yJ14_min cJ14_min 2 (some .int)) (fr := 0) (lo := 0) (as := [gi v4, gi a1]) (st := [gi (0 : Int32), gr v2, gi (0 : Int32), gr a0]) (g_no) rfl (fun _ _ e => tJ14_min hs e) (fun K _ _ hM R e1 e2 => g_runS (M := mJ15_copyOf) (pc := 25) (y := yJ14_min) (bytes := cJ14_min) (maxL := 2) (ret := (some .int)) (fr := 0) (lo := 0) (as := [gi v4, gi a1]) (st := [gi (0 : Int32), gr v2, gi (0 : Int32), gr a0]) gy_J14_min (gbl rfl) (gbl rfl) (gbl rfl) q655 q656 dJ15_copyOf_25 K hM R e1 e2) fun v5 h6 => ?_
  refine g_arraycopy (pc := 28) (t := 1) rfl rfl q658 ac_nat ac_stat q152 (gbl rfl) (gbl rfl) dJ15_copyOf_28 fun h7 => ?_
  refine g_aload_n (pc := 31) (x := v2) 0 rfl rfl dJ15_copyOf_31 ?_
  exact g_areturn (pc := 32) rfl (Or.inr ⟨_, rfl⟩) dJ15_copyOf_32
/-! java/lang/AbstractStringBuilder.ensureCapacityInternal(I)V -/
noncomputable def sJ2_ensureCapacityInternal_c21 (G : GG) (N : Nat) (a0 : Option Nat) (a1 : Int32) (h : Hp) : Out (Unit) :=
  gFr h a0 21 0 fun v1 =>
  gLen h v1 fun v2 =>
  gFi h a0 21 1 fun v3 =>
  gLet (v2 >>> (v3 &&& 31)) fun v4 =>
  if (a1 - v4) ≤ 0 then (some (.inl (), h))
  else gFr h a0 21 0 fun v5 =>
  bV h a0 21 (fun q12 => sJ2_newCapacity_c21 G N (some q12) a1 h) fun v6 h7 =>
  gFi h7 a0 21 1 fun v8 =>
  bnd (sJ15_copyOf G N v5 (v6 <<< (v8 &&& 31)) h7) fun v9 h10 =>
  gP G h10 a0 21 0 (va_rf v9) fun h11 =>
  some (.inl (), h11)
abbrev mJ2_ensureCapacityInternal_c21 : MI := (RJ2, cJ2_ensureCapacityInternal, 3, none, [], 3, 69, "ensureCapacityInternal")
theorem tJ2_ensureCapacityInternal_c21 {G : GG} {l : Launch} (hs : l.stackTraces = false) {N : Nat} {a0 : Option Nat} {a1 : Int32} {h : Hp} {r : Unit ⊕ Nat} {hf : Hp} (ho : sJ2_ensureCapacityInternal_c21 G N a0 a1 h = some (r, hf)) : gMet G l yJ2_ensureCapacityInternal (ws_ yJ2_ensureCapacityInternal cJ2_ensureCapacityInternal 3 none) 3 69 [gr a0, gi a1] h cvU r hf := by
  refine gMet.of ho hs (plainFor_of_name pn_J2) rfl rfl (gbl rfl) fun X => ?_
  show gT G l X mJ2_ensureCapacityInternal_c21 cvU r hf 0 [(0, gr a0), (1, gi a1)] [] h (sJ2_ensureCapacityInternal_c21 G N a0 a1 h)
  delta sJ2_ensureCapacityInternal_c21
  refine g_aload_n (pc := 0) (x := a0) 0 rfl rfl dJ2_ensureCapacityInternal_0 ?_
  refine g_getfr (pc := 1) k_21 (gblt rfl) lk_J2_15_21 dJ2_ensureCapacityInternal_1 fun v1 => ?_
  refine g_alen (pc := 4) dJ2_ensureCapacityInternal_4 fun v2 => ?_
  refine g_aload_n (pc := 5) (x := a0) 0 rfl rfl dJ2_ensureCapacityInternal_5 ?_
  refine g_getfi (pc := 6) k_21 (gblt rfl) lk_J2_22_21 dJ2_ensureCapacityInternal_6 fun v3 => ?_
  refine g_ishr (pc := 9) dJ2_ensureCapacityInternal_9 ?_
  refine g_leti fun v4 => ?_
  refine g_istore_n (pc := 10) (lv' := [(2, gi v4), (0, gr a0), (1, gi a1)]) [0, 1, 2] rfl rfl (gblt rfl) dJ2_ensureCapacityInternal_10 ?_
  refine g_iload_n (pc := 11) (x := a1) 2 rfl rfl dJ2_ensureCapacityInternal_11 ?_
  refine g_iload_n (pc := 12) (x := v4) 0 rfl rfl dJ2_ensureCapacityInternal_12 ?_
  refine g_isub (pc := 13) dJ2_ensureCapacityInternal_13 ?_
  refine g_if_le (pc := 14) (tgt := 38) rfl dJ2_ensureCapacityInternal_14 ?_ ?_
  · exact g_return (pc := 38) rfl dJ2_ensureCapacityInternal_38
  refine g_aload_n (pc := 17) (x := a0) 1 rfl rfl dJ2_ensureCapacityInternal_17 ?_
  refine g_aload_n (pc := 18) (x := a0) 1 rfl rfl dJ2_ensureCapacityInternal_18 ?_
  refine g_getfr (pc := 19) k_21 (gblt rfl) lk_J2_15_21 dJ2_ensureCapacityInternal_19 fun v5 => ?_
  refine g_aload_n (pc := 22) (x := a0) 1 rfl rfl dJ2_ensureCapacityInternal_22 ?_
  refine g_iload_n (pc := 23) (x := a1) 2 rfl rfl dJ2_ensureCapacityInternal_23 ?_
  refine g_bVi (pc := 24) (y := yJ2_newCapacity) (ws := ws_ yJ2_newCapacity cJ2_newCapacity 6 (some .int)) (fr := 2) (lo := 44) (as := [gi a1]) (st := [gr v5, gr a0]) (g_no) rfl (fun _ _ _ e => tJ2_newCapacity_c21 hs e) (fun K _ _ _ hq hM R e1 e2 => g_runVP (M := mJ2_ensureCapacityInternal_c21) (pc := 24) (y := yJ2_newCapacity) (bytes := cJ2_newCapacity) (maxL := 6) (ret := (some .int)) (fr := 2) (lo := 44) (as := [gi a1]) (st := [gr v5, gr a0]) hq (C := "java/lang/StringBuilder") rfl gy_J2_newCapacity (gbl rfl) (gbl rfl) (gbl rfl) q630 q4619 q631 q632 dJ2_ensureCapacityInternal_24 K hM R e1 e2) fun v6 h7 => ?_
  refine g_aload_n (pc := 27) (x := a0) 1 rfl rfl dJ2_ensureCapacityInternal_27 ?_
  refine g_getfi (pc := 28) k_21 (gblt rfl) lk_J2_22_21 dJ2_ensureCapacityInternal_28 fun v8 => ?_
  refine g_ishl (pc := 31) dJ2_ensureCapacityInternal_31 ?_
  refine g_br (pc := 32) (y := yJ15_copyOf) (ws := ws_ yJ15_copyOf cJ15_copyOf 3 (some (.array .byte))) (fr := 1) (lo := 21) (as := [gr v5, gi (v6 <<< (v8 &&& 31))]) (st := [gr a0]) (g_no) rfl (fun _ _ e => tJ15_copyOf hs e) (fun K _ _ hM R e1 e2 => g_runS (M := mJ2_ensureCapacityInternal_c21) (pc := 32) (y := yJ15_copyOf) (bytes := cJ15_copyOf) (maxL := 3) (ret := (some (.array .byte))) (fr := 1) (lo := 21) (as := [gr v5, gi (v6 <<< (v8 &&& 31))]) (st := [gr a0]) gy_J15_copyOf (gbl rfl) (gbl rfl) (gbl rfl) q645 q646 dJ2_ensureCapacityInternal_32 K hM R e1 e2) fun v9 h10 => ?_
  refine g_put (pc := 35) k_21 (gblt rfl) lk_J2_15_21 rfl rfl (gNa _ _) dJ2_ensureCapacityInternal_35 fun h11 => ?_
  exact g_return (pc := 38) rfl dJ2_ensureCapacityInternal_38
/-! java/lang/AbstractStringBuilder.isLatin1()Z -/
noncomputable def sJ2_isLatin1_c21 (G : GG) (N : Nat) (a0 : Option Nat) (h : Hp) : Out (Int32) :=
  gJ (fun (x1 : Unit) (h2 : Hp) =>
  gRtZ (0 : Int32) h2) fun j3 =>
  if (1 : Int32) = 0 then (j3 () h)
  else gFi h a0 21 1 fun v4 =>
  if v4 = 0 then (gRtZ (1 : Int32) h)
  else j3 () h
abbrev mJ2_isLatin1_c21 : MI := (RJ2, cJ2_isLatin1, 1, (some .boolean), [], 0, 0, "isLatin1")
theorem tJ2_isLatin1_c21 {G : GG} {l : Launch} (hs : l.stackTraces = false) {N : Nat} {a0 : Option Nat} {h : Hp} {r : Int32 ⊕ Nat} {hf : Hp} (ho : sJ2_isLatin1_c21 G N a0 h = some (r, hf)) : gMet G l yJ2_isLatin1 (ws_ yJ2_isLatin1 cJ2_isLatin1 1 (some .boolean)) 0 0 [gr a0] h cvI r hf := by
  refine gMet.of ho hs (plainFor_of_name pn_J2) rfl rfl (gbl rfl) fun X => ?_
  show gT G l X mJ2_isLatin1_c21 cvI r hf 0 [(0, gr a0)] [] h (sJ2_isLatin1_c21 G N a0 h)
  delta sJ2_isLatin1_c21
  refine g_gets (pc := 0) (sv := .inl (.int 1)) (w := gi (1 : Int32)) sfl_0 rfl ⟨Or.inl q244, Or.inl rfl⟩ dJ2_isLatin1_0 ?_
  refine g_join 17 (fun (x1 : Unit) => []) (fun (x1 : Unit) => []) (fun x1 h2 => ?_) (fun j3 Hj3 => ?_)
  · refine g_iconst (pc := 17) (v := (0 : Int32)) ic_0 dJ2_isLatin1_17 ?_
    exact g_zreturn (pc := 18) rfl dJ2_isLatin1_18
  refine g_if_eq (pc := 3) (tgt := 17) rfl dJ2_isLatin1_3 ?_ ?_
  · exact g_sub [] rfl (Hj3 () h)
  refine g_aload_n (pc := 6) (x := a0) 0 rfl rfl dJ2_isLatin1_6 ?_
  refine g_getfi (pc := 7) k_21 (gblt rfl) lk_J2_22_21 dJ2_isLatin1_7 fun v4 => ?_
  refine g_if_ne (pc := 10) (tgt := 17) rfl dJ2_isLatin1_10 ?_ ?_
  rotate_left
  · exact g_sub [] rfl (Hj3 () h)
  refine g_iconst (pc := 13) (v := (1 : Int32)) ic_1 dJ2_isLatin1_13 ?_
  refine g_goto (pc := 14) (tgt := 18) rfl dJ2_isLatin1_14 ?_
  exact g_zreturn (pc := 18) rfl dJ2_isLatin1_18
/-! java/lang/StringLatin1.canEncode(C)Z -/
noncomputable def sJ16_canEncode (G : GG) (N : Nat) (a0 : Int32) (h : Hp) : Out (Int32) :=
  if (255 : Int32) < a0 then (gRtZ (0 : Int32) h)
  else gRtZ (1 : Int32) h
abbrev mJ16_canEncode : MI := (RJ16, cJ16_canEncode, 1, (some .boolean), [], 0, 0, "canEncode")
theorem tJ16_canEncode {G : GG} {l : Launch} (hs : l.stackTraces = false) {N : Nat} {a0 : Int32} {h : Hp} {r : Int32 ⊕ Nat} {hf : Hp} (ho : sJ16_canEncode G N a0 h = some (r, hf)) : gMet G l yJ16_canEncode (ws_ yJ16_canEncode cJ16_canEncode 1 (some .boolean)) 0 0 [gi a0] h cvI r hf := by
  refine gMet.of ho hs (plainFor_of_name pn_J16) rfl rfl (gbl rfl) fun X => ?_
  show gT G l X mJ16_canEncode cvI r hf 0 [(0, gi a0)] [] h (sJ16_canEncode G N a0 h)
  delta sJ16_canEncode
  refine g_iload_n (pc := 0) (x := a0) 0 rfl rfl dJ16_canEncode_0 ?_
  refine g_sipush (pc := 1) (v := (255 : Int32)) sc_255 dJ16_canEncode_1 ?_
  refine g_icmp_gt (pc := 4) (tgt := 11) rfl dJ16_canEncode_4 ?_ ?_
  · refine g_iconst (pc := 11) (v := (0 : Int32)) ic_0 dJ16_canEncode_11 ?_
    exact g_zreturn (pc := 12) rfl dJ16_canEncode_12
  refine g_iconst (pc := 7) (v := (1 : Int32)) ic_1 dJ16_canEncode_7 ?_
  refine g_goto (pc := 8) (tgt := 12) rfl dJ16_canEncode_8 ?_
  exact g_zreturn (pc := 12) rfl dJ16_canEncode_12
/-! java/lang/AbstractStringBuilder.append(C)Ljava/lang/AbstractStringBuilder; -/
noncomputable def sJ2_append_c21 (G : GG) (N : Nat) (a0 : Option Nat) (a1 : Int32) (h : Hp) : Out (Option Nat) :=
  gFi h a0 21 3 fun v1 =>
  bV h a0 21 (fun q13 => sJ2_ensureCapacityInternal_c21 G N (some q13) (v1 + (1 : Int32)) h) fun v2 h3 =>
  bV h3 a0 21 (fun q12 => sJ2_isLatin1_c21 G N (some q12) h3) fun v4 h5 =>
  if v4 = 0 then (none)
  else bnd (sJ16_canEncode G N a1 h5) fun v6 h7 =>
  if v6 = 0 then (none)
  else gFr h7 a0 21 0 fun v8 =>
  gFi h7 a0 21 3 fun v9 =>
  gP G h7 a0 21 3 (.int (v9 + (1 : Int32))) fun h10 =>
  gSb G h10 v8 1 v9 (a1.toInt8.toInt32) fun h11 =>
  some (.inl a0, h11)
abbrev mJ2_append_c21 : MI := (RJ2, cJ2_append, 2, (some (.object "java/lang/AbstractStringBuilder")), [], 4, 91, "append")
theorem tJ2_append_c21 {G : GG} {l : Launch} (hs : l.stackTraces = false) {N : Nat} {a0 : Option Nat} {a1 : Int32} {h : Hp} {r : Option Nat ⊕ Nat} {hf : Hp} (ho : sJ2_append_c21 G N a0 a1 h = some (r, hf)) : gMet G l yJ2_append (ws_ yJ2_append cJ2_append 2 (some (.object "java/lang/AbstractStringBuilder"))) 4 91 [gr a0, gi a1] h cvR r hf := by
  refine gMet.of ho hs (plainFor_of_name pn_J2) rfl rfl (gbl rfl) fun X => ?_
  show gT G l X mJ2_append_c21 cvR r hf 0 [(0, gr a0), (1, gi a1)] [] h (sJ2_append_c21 G N a0 a1 h)
  delta sJ2_append_c21
  refine g_aload_n (pc := 0) (x := a0) 0 rfl rfl dJ2_append_0 ?_
  refine g_aload_n (pc := 1) (x := a0) 0 rfl rfl dJ2_append_1 ?_
  refine g_getfi (pc := 2) k_21 (gblt rfl) lk_J2_79_21 dJ2_append_2 fun v1 => ?_
  refine g_iconst (pc := 5) (v := (1 : Int32)) ic_1 dJ2_append_5 ?_
  refine g_iadd (pc := 6) dJ2_append_6 ?_
  refine g_bVu (pc := 7) (y := yJ2_ensureCapacityInternal) (ws := ws_ yJ2_ensureCapacityInternal cJ2_ensureCapacityInternal 3 none) (fr := 3) (lo := 69) (as := [gi (v1 + (1 : Int32))]) (st := []) (g_no) rfl (fun _ _ _ e => tJ2_ensureCapacityInternal_c21 hs e) (fun K _ _ _ hq hM R e1 e2 => g_runVP (M := mJ2_append_c21) (pc := 7) (y := yJ2_ensureCapacityInternal) (bytes := cJ2_ensureCapacityInternal) (maxL := 3) (ret := none) (fr := 3) (lo := 69) (as := [gi (v1 + (1 : Int32))]) (st := []) hq (C := "java/lang/StringBuilder") rfl gy_J2_ensureCapacityInternal (gbl rfl) (gbl rfl) (gbl rfl) q626 q4618 q627 q628 dJ2_append_7 K hM R e1 e2) fun v2 h3 => ?_
  refine g_aload_n (pc := 10) (x := a0) 0 rfl rfl dJ2_append_10 ?_
  refine g_bVi (pc := 11) (y := yJ2_isLatin1) (ws := ws_ yJ2_isLatin1 cJ2_isLatin1 1 (some .boolean)) (fr := 0) (lo := 0) (as := []) (st := []) (g_no) rfl (fun _ _ _ e => tJ2_isLatin1_c21 hs e) (fun K _ _ _ hq hM R e1 e2 => g_runV (M := mJ2_append_c21) (pc := 11) (y := yJ2_isLatin1) (bytes := cJ2_isLatin1) (maxL := 1) (ret := (some .boolean)) (fr := 0) (lo := 0) (as := []) (st := []) hq (C := "java/lang/StringBuilder") rfl gy_J2_isLatin1 (gbl rfl) (gbl rfl) (gbl rfl) q661 q662 q664 dJ2_append_11 K hM R e1 e2) fun v4 h5 => ?_
  refine g_if_eq (pc := 14) (tgt := 45) rfl dJ2_append_14 ?_ ?_
  · exact g_none
  refine g_iload_n (pc := 17) (x := a1) 1 rfl rfl dJ2_append_17 ?_
  refine g_bi (pc := 18) (y := yJ16_canEncode) (ws := ws_ yJ16_canEncode cJ16_canEncode 1 (some .boolean)) (fr := 0) (lo := 0) (as := [gi a1]) (st := []) (g_no) rfl (fun _ _ e => tJ16_canEncode hs e) (fun K _ _ hM R e1 e2 => g_runS (M := mJ2_append_c21) (pc := 18) (y := yJ16_canEncode) (bytes := cJ16_canEncode) (maxL := 1) (ret := (some .boolean)) (fr := 0) (lo := 0) (as := [gi a1]) (st := []) gy_J16_canEncode (gbl rfl) (gbl rfl) (gbl rfl) q666 q667 dJ2_append_18 K hM R e1 e2) fun v6 h7 => ?_
  refine g_if_eq (pc := 21) (tgt := 45) rfl dJ2_append_21 ?_ ?_
  · exact g_none
  refine g_aload_n (pc := 24) (x := a0) 0 rfl rfl dJ2_append_24 ?_
  refine g_getfr (pc := 25) k_21 (gblt rfl) lk_J2_15_21 dJ2_append_25 fun v8 => ?_
  refine g_aload_n (pc := 28) (x := a0) 0 rfl rfl dJ2_append_28 ?_
  refine g_dup (pc := 29) rfl dJ2_append_29 ?_
  refine g_getfi (pc := 30) k_21 (gblt rfl) lk_J2_79_21 dJ2_append_30 fun v9 => ?_
  refine g_dup_x1 (pc := 33) rfl rfl dJ2_append_33 ?_
  refine g_iconst (pc := 34) (v := (1 : Int32)) ic_1 dJ2_append_34 ?_
  refine g_iadd (pc := 35) dJ2_append_35 ?_
  refine g_put (pc := 36) k_21 (gblt rfl) lk_J2_79_21 rfl rfl (gNi _) dJ2_append_36 fun h10 => ?_
  refine g_iload_n (pc := 39) (x := a1) 1 rfl rfl dJ2_append_39 ?_
  refine g_i2b (pc := 40) dJ2_append_40 ?_
  refine g_bastore (pc := 41) rfl dJ2_append_41 fun h11 => ?_
  refine g_goto (pc := 42) (tgt := 75) rfl dJ2_append_42 ?_
  refine g_aload_n (pc := 75) (x := a0) 0 rfl rfl dJ2_append_75 ?_
  exact g_areturn (pc := 76) rfl (Or.inl ⟨_, rfl⟩) dJ2_append_76
/-! java/lang/StringBuilder.append(C)Ljava/lang/StringBuilder; -/
noncomputable def sJ3_append (G : GG) (N : Nat) (a0 : Option Nat) (a1 : Int32) (h : Hp) : Out (Option Nat) :=
  bV h a0 21 (fun q3 => sJ2_append_c21 G N (some q3) a1 h) fun v1 h2 =>
  some (.inl a0, h2)
abbrev mJ3_append : MI := (RJ3, cJ3_append, 2, (some (.object "java/lang/StringBuilder")), [], 5, 112, "append")
theorem tJ3_append {G : GG} {l : Launch} (hs : l.stackTraces = false) {N : Nat} {a0 : Option Nat} {a1 : Int32} {h : Hp} {r : Option Nat ⊕ Nat} {hf : Hp} (ho : sJ3_append G N a0 a1 h = some (r, hf)) : gMet G l yJ3_append (ws_ yJ3_append cJ3_append 2 (some (.object "java/lang/StringBuilder"))) 5 112 [gr a0, gi a1] h cvR r hf := by
  refine gMet.of ho hs (plainFor_of_name pn_J3) rfl rfl (gbl rfl) fun X => ?_
  show gT G l X mJ3_append cvR r hf 0 [(0, gr a0), (1, gi a1)] [] h (sJ3_append G N a0 a1 h)
  delta sJ3_append
  refine g_aload_n (pc := 0) (x := a0) 0 rfl rfl dJ3_append_0 ?_
  refine g_iload_n (pc := 1) (x := a1) 1 rfl rfl dJ3_append_1 ?_
  refine g_bVr (pc := 2) (y := yJ2_append) (ws := ws_ yJ2_append cJ2_append 2 (some (.object "java/lang/AbstractStringBuilder"))) (fr := 4) (lo := 91) (as := [gi a1]) (st := []) (g_no) rfl (fun _ _ _ e => tJ2_append_c21 hs e) (fun K _ _ _ hq hM R e1 e2 => g_runSU (M := mJ3_append) (pc := 2) (y := yJ2_append) (bytes := cJ2_append) (maxL := 2) (ret := (some (.object "java/lang/AbstractStringBuilder"))) (fr := 4) (lo := 91) (as := [gi a1]) (st := []) hq (C := "java/lang/StringBuilder") rfl gy_J2_append (gbl rfl) (gbl rfl) (gbl rfl) q623 q4617 q266 q624 (by decide +kernel) dJ3_append_2 K hM R e1 e2) fun v1 h2 => ?_
  refine g_pop (pc := 5) rfl dJ3_append_5 ?_
  refine g_aload_n (pc := 6) (x := a0) 0 rfl rfl dJ3_append_6 ?_
  exact g_areturn (pc := 7) rfl (Or.inl ⟨_, rfl⟩) dJ3_append_7
/-! java/lang/AbstractStringBuilder.getValue()[B -/
noncomputable def sJ2_getValue_c21 (G : GG) (N : Nat) (a0 : Option Nat) (h : Hp) : Out (Option Nat) :=
  gFr h a0 21 0 fun v1 =>
  some (.inl v1, h)
abbrev mJ2_getValue_c21 : MI := (RJ2, cJ2_getValue, 1, (some (.array .byte)), [], 0, 0, "getValue")
theorem tJ2_getValue_c21 {G : GG} {l : Launch} (hs : l.stackTraces = false) {N : Nat} {a0 : Option Nat} {h : Hp} {r : Option Nat ⊕ Nat} {hf : Hp} (ho : sJ2_getValue_c21 G N a0 h = some (r, hf)) : gMet G l yJ2_getValue (ws_ yJ2_getValue cJ2_getValue 1 (some (.array .byte))) 0 0 [gr a0] h cvR r hf := by
  refine gMet.of ho hs (plainFor_of_name pn_J2) rfl rfl (gbl rfl) fun X => ?_
  show gT G l X mJ2_getValue_c21 cvR r hf 0 [(0, gr a0)] [] h (sJ2_getValue_c21 G N a0 h)
  delta sJ2_getValue_c21
  refine g_aload_n (pc := 0) (x := a0) 0 rfl rfl dJ2_getValue_0 ?_
  refine g_getfr (pc := 1) k_21 (gblt rfl) lk_J2_15_21 dJ2_getValue_1 fun v1 => ?_
  exact g_areturn (pc := 4) rfl (Or.inr ⟨_, rfl⟩) dJ2_getValue_4
/-! java/lang/AbstractStringBuilder.length()I -/
noncomputable def sJ2_length_c21 (G : GG) (N : Nat) (a0 : Option Nat) (h : Hp) : Out (Int32) :=
  gFi h a0 21 3 fun v1 =>
  some (.inl v1, h)
abbrev mJ2_length_c21 : MI := (RJ2, cJ2_length, 1, (some .int), [], 0, 0, "length")
theorem tJ2_length_c21 {G : GG} {l : Launch} (hs : l.stackTraces = false) {N : Nat} {a0 : Option Nat} {h : Hp} {r : Int32 ⊕ Nat} {hf : Hp} (ho : sJ2_length_c21 G N a0 h = some (r, hf)) : gMet G l yJ2_length (ws_ yJ2_length cJ2_length 1 (some .int)) 0 0 [gr a0] h cvI r hf := by
  refine gMet.of ho hs (plainFor_of_name pn_J2) rfl rfl (gbl rfl) fun X => ?_
  show gT G l X mJ2_length_c21 cvI r hf 0 [(0, gr a0)] [] h (sJ2_length_c21 G N a0 h)
  delta sJ2_length_c21
  refine g_aload_n (pc := 0) (x := a0) 0 rfl rfl dJ2_length_0 ?_
  refine g_getfi (pc := 1) k_21 (gblt rfl) lk_J2_79_21 dJ2_length_1 fun v1 => ?_
  exact g_ireturn (pc := 4) rfl dJ2_length_4
/-! java/lang/StringBuilder.length()I -/
noncomputable def sJ3_length (G : GG) (N : Nat) (a0 : Option Nat) (h : Hp) : Out (Int32) :=
  bV h a0 21 (fun q3 => sJ2_length_c21 G N (some q3) h) fun v1 h2 =>
  some (.inl v1, h2)
abbrev mJ3_length : MI := (RJ3, cJ3_length, 1, (some .int), [], 1, 20, "length")
theorem tJ3_length {G : GG} {l : Launch} (hs : l.stackTraces = false) {N : Nat} {a0 : Option Nat} {h : Hp} {r : Int32 ⊕ Nat} {hf : Hp} (ho : sJ3_length G N a0 h = some (r, hf)) : gMet G l yJ3_length (ws_ yJ3_length cJ3_length 1 (some .int)) 1 20 [gr a0] h cvI r hf := by
  refine gMet.of ho hs (plainFor_of_name pn_J3) rfl rfl (gbl rfl) fun X => ?_
  show gT G l X mJ3_length cvI r hf 0 [(0, gr a0)] [] h (sJ3_length G N a0 h)
  delta sJ3_length
  refine g_aload_n (pc := 0) (x := a0) 0 rfl rfl dJ3_length_0 ?_
  refine g_bVi (pc := 1) (y := yJ2_length) (ws := ws_ yJ2_length cJ2_length 1 (some .int)) (fr := 0) (lo := 0) (as := []) (st := []) (g_no) rfl (fun _ _ _ e => tJ2_length_c21 hs e) (fun K _ _ _ hq hM R e1 e2 => g_runSU (M := mJ3_length) (pc := 1) (y := yJ2_length) (bytes := cJ2_length) (maxL := 1) (ret := (some .int)) (fr := 0) (lo := 0) (as := []) (st := []) hq (C := "java/lang/StringBuilder") rfl gy_J2_length (gbl rfl) (gbl rfl) (gbl rfl) q737 q733 q266 q732 (by decide +kernel) dJ3_length_1 K hM R e1 e2) fun v1 h2 => ?_
  exact g_ireturn (pc := 4) rfl dJ3_length_4
/-! java/util/Arrays.checkLength(II)V -/
noncomputable def sJ15_checkLength (G : GG) (N : Nat) (a0 : Int32) (a1 : Int32) (h : Hp) : Out (Unit) :=
  if a0 ≤ a1 then (some (.inl (), h))
  else none
abbrev mJ15_checkLength : MI := (RJ15, cJ15_checkLength, 2, none, [], 0, 0, "checkLength")
theorem tJ15_checkLength {G : GG} {l : Launch} (hs : l.stackTraces = false) {N : Nat} {a0 : Int32} {a1 : Int32} {h : Hp} {r : Unit ⊕ Nat} {hf : Hp} (ho : sJ15_checkLength G N a0 a1 h = some (r, hf)) : gMet G l yJ15_checkLength (ws_ yJ15_checkLength cJ15_checkLength 2 none) 0 0 [gi a0, gi a1] h cvU r hf := by
  refine gMet.of ho hs (plainFor_of_name pn_J15) rfl rfl (gbl rfl) fun X => ?_
  show gT G l X mJ15_checkLength cvU r hf 0 [(0, gi a0), (1, gi a1)] [] h (sJ15_checkLength G N a0 a1 h)
  delta sJ15_checkLength
  refine g_iload_n (pc := 0) (x := a1) 1 rfl rfl dJ15_checkLength_0 ?_
  refine g_iload_n (pc := 1) (x := a0) 0 rfl rfl dJ15_checkLength_1 ?_
  refine g_icmp_ge (pc := 2) (tgt := 37) rfl dJ15_checkLength_2 ?_ ?_
  · exact g_return (pc := 37) rfl dJ15_checkLength_37
  exact g_none
/-! java/util/Arrays.copyOfRangeByte([BII)[B -/
noncomputable def sJ15_copyOfRangeByte (G : GG) (N : Nat) (a0 : Option Nat) (a1 : Int32) (a2 : Int32) (h : Hp) : Out (Option Nat) :=
  bnd (sJ15_checkLength G N a1 a2 h) fun v1 h2 =>
  gLet (a2 - a1) fun v3 =>
  gNA h2 1 z_B v3 fun v4 h5 =>
  gLen h5 a0 fun v6 =>
  bnd (sJ14_min G N (v6 - a1) v3 h5) fun v7 h8 =>
  gCp G h8 a0 a1 v4 (0 : Int32) v7 1 .byte fun h9 =>
  some (.inl v4, h9)
abbrev mJ15_copyOfRangeByte : MI := (RJ15, cJ15_copyOfRangeByte, 5, (some (.array .byte)), [], 1, 21, "copyOfRangeByte")
theorem tJ15_copyOfRangeByte {G : GG} {l : Launch} (hs : l.stackTraces = false) {N : Nat} {a0 : Option Nat} {a1 : Int32} {a2 : Int32} {h : Hp} {r : Option Nat ⊕ Nat} {hf : Hp} (ho : sJ15_copyOfRangeByte G N a0 a1 a2 h = some (r, hf)) : gMet G l yJ15_copyOfRangeByte (ws_ yJ15_copyOfRangeByte cJ15_copyOfRangeByte 5 (some (.array .byte))) 1 21 [gr a0, gi a1, gi a2] h cvR r hf := by
  refine gMet.of ho hs (plainFor_of_name pn_J15) rfl rfl (gbl rfl) fun X => ?_
  show gT G l X mJ15_copyOfRangeByte cvR r hf 0 [(0, gr a0), (1, gi a1), (2, gi a2)] [] h (sJ15_copyOfRangeByte G N a0 a1 a2 h)
  delta sJ15_copyOfRangeByte
  refine g_iload_n (pc := 0) (x := a1) 1 rfl rfl dJ15_copyOfRangeByte_0 ?_
  refine g_iload_n (pc := 1) (x := a2) 2 rfl rfl dJ15_copyOfRangeByte_1 ?_
  refine g_bu (pc := 2) (y := yJ15_checkLength) (ws := ws_ yJ15_checkLength cJ15_checkLength 2 none) (fr := 0) (lo := 0) (as := [gi a1, gi a2]) (st := []) (g_no) rfl (fun _ _ e => tJ15_checkLength hs e) (fun K _ _ hM R e1 e2 => g_runS (M := mJ15_copyOfRangeByte) (pc := 2) (y := yJ15_checkLength) (bytes := cJ15_checkLength) (maxL := 2) (ret := none) (fr := 0) (lo := 0) (as := [gi a1, gi a2]) (st := []) gy_J15_checkLength (gbl rfl) (gbl rfl) (gbl rfl) q746 q747 dJ15_copyOfRangeByte_2 K hM R e1 e2) fun v1 h2 => ?_
  refine g_iload_n (pc := 5) (x := a2) 2 rfl rfl dJ15_copyOfRangeByte_5 ?_
  refine g_iload_n (pc := 6) (x := a1) 1 rfl rfl dJ15_copyOfRangeByte_6 ?_
  refine g_isub (pc := 7) dJ15_copyOfRangeByte_7 ?_
  refine g_leti fun v3 => ?_
  refine g_istore_n (pc := 8) (lv' := [(3, gi v3), (0, gr a0), (1, gi a1)]) [0, 1, 2] rfl rfl (gblt rfl) dJ15_copyOfRangeByte_8 ?_
  refine g_iload_n (pc := 9) (x := v3) 0 rfl rfl dJ15_copyOfRangeByte_9 ?_
  refine g_naB (pc := 10) q232 dJ15_copyOfRangeByte_10 fun v4 h5 => ?_
  refine g_astore (pc := 12) (lv' := [(4, gr v4), (3, gi v3), (0, gr a0), (1, gi a1)]) [0, 1, 2, 3] rfl (gblt rfl) dJ15_copyOfRangeByte_12 ?_
  refine g_aload_n (pc := 14) (x := a0) 2 rfl rfl dJ15_copyOfRangeByte_14 ?_
  refine g_iload_n (pc := 15) (x := a1) 3 rfl rfl dJ15_copyOfRangeByte_15 ?_
  refine g_aload (pc := 16) (x := v4) 0 rfl dJ15_copyOfRangeByte_16 ?_
  refine g_iconst (pc := 18) (v := (0 : Int32)) ic_0 dJ15_copyOfRangeByte_18 ?_
  refine g_aload_n (pc := 19) (x := a0) 2 rfl rfl dJ15_copyOfRangeByte_19 ?_
  refine g_alen (pc := 20) dJ15_copyOfRangeByte_20 fun v6 => ?_
  refine g_iload_n (pc := 21) (x := a1) 3 rfl rfl dJ15_copyOfRangeByte_21 ?_
  refine g_isub (pc := 22) dJ15_copyOfRangeByte_22 ?_
  refine g_iload_n (pc := 23) (x := v3) 1 rfl rfl dJ15_copyOfRangeByte_23 ?_
  refine g_bi (pc := 24) (y := yJ14_min) (ws := ws_ yJ14_min cJ14_min 2 (some .int)) (fr := 0) (lo := 0) (as := [gi (v6 - a1), gi v3]) (st := [gi (0 : Int32), gr v4, gi a1, gr a0]) (g_no) rfl (fun _ _ e => tJ14_min hs e) (fun K _ _ hM R e1 e2 => g_runS (M := mJ15_copyOfRangeByte) (pc := 24) (y := yJ14_min) (bytes := cJ14_min) (maxL := 2) (ret := (some .int)) (fr := 0) (lo := 0) (as := [gi (v6 - a1), gi v3]) (st := [gi (0 : Int32), gr v4, gi a1, gr a0]) gy_J14_min (gbl rfl) (gbl rfl) (gbl rfl) q655 q656 dJ15_copyOfRangeByte_24 K hM R e1 e2) fun v7 h8 => ?_
  refine g_arraycopy (pc := 27) (t := 1) rfl rfl q658 ac_nat ac_stat q152 (gbl rfl) (gbl rfl) dJ15_copyOfRangeByte_27 fun h9 => ?_
  refine g_aload (pc := 30) (x := v4) 0 rfl dJ15_copyOfRangeByte_30 ?_
  exact g_areturn (pc := 32) rfl (Or.inr ⟨_, rfl⟩) dJ15_copyOfRangeByte_32
/-! java/util/Arrays.copyOfRange([BII)[B -/
noncomputable def sJ15_copyOfRange (G : GG) (N : Nat) (a0 : Option Nat) (a1 : Int32) (a2 : Int32) (h : Hp) : Out (Option Nat) :=
  gJ (fun (x1 : Unit) (h2 : Hp) =>
  bnd (sJ15_copyOfRangeByte G N a0 a1 a2 h2) fun v4 h5 =>
  some (.inl v4, h5)) fun j3 =>
  if a1 = 0 then (gLen h a0 fun v6 =>
  if a2 = v6 then (none)
  else j3 () h)
  else j3 () h
abbrev mJ15_copyOfRange : MI := (RJ15, cJ15_copyOfRange, 3, (some (.array .byte)), [], 2, 45, "copyOfRange")
theorem tJ15_copyOfRange {G : GG} {l : Launch} (hs : l.stackTraces = false) {N : Nat} {a0 : Option Nat} {a1 : Int32} {a2 : Int32} {h : Hp} {r : Option Nat ⊕ Nat} {hf : Hp} (ho : sJ15_copyOfRange G N a0 a1 a2 h = some (r, hf)) : gMet G l yJ15_copyOfRange (ws_ yJ15_copyOfRange cJ15_copyOfRange 3 (some (.array .byte))) 2 45 [gr a0, gi a1, gi a2] h cvR r hf := by
  refine gMet.of ho hs (plainFor_of_name pn_J15) rfl rfl (gbl rfl) fun X => ?_
  show gT G l X mJ15_copyOfRange cvR r hf 0 [(0, gr a0), (1, gi a1), (2, gi a2)] [] h (sJ15_copyOfRange G N a0 a1 a2 h)
  delta sJ15_copyOfRange
  refine g_iload_n (pc := 0) (x := a1) 1 rfl rfl dJ15_copyOfRange_0 ?_
  refine g_join 10 (fun (x1 : Unit) => [(0, gr a0), (1, gi a1), (2, gi a2)]) (fun (x1 : Unit) => []) (fun x1 h2 => ?_) (fun j3 Hj3 => ?_)
  · refine g_aload_n (pc := 10) (x := a0) 0 rfl rfl dJ15_copyOfRange_10 ?_
    refine g_iload_n (pc := 11) (x := a1) 1 rfl rfl dJ15_copyOfRange_11 ?_
    refine g_iload_n (pc := 12) (x := a2) 2 rfl rfl dJ15_copyOfRange_12 ?_
    refine g_br (pc := 13) (y := yJ15_copyOfRangeByte) (ws := ws_ yJ15_copyOfRangeByte cJ15_copyOfRangeByte 5 (some (.array .byte))) (fr := 1) (lo := 21) (as := [gr a0, gi a1, gi a2]) (st := []) (g_no) rfl (fun _ _ e => tJ15_copyOfRangeByte hs e) (fun K _ _ hM R e1 e2 => g_runS (M := mJ15_copyOfRange) (pc := 13) (y := yJ15_copyOfRangeByte) (bytes := cJ15_copyOfRangeByte) (maxL := 5) (ret := (some (.array .byte))) (fr := 1) (lo := 21) (as := [gr a0, gi a1, gi a2]) (st := []) gy_J15_copyOfRangeByte (gbl rfl) (gbl rfl) (gbl rfl) q743 q744 dJ15_copyOfRange_13 K hM R e1 e2) fun v4 h5 => ?_
    exact g_areturn (pc := 16) rfl (Or.inr ⟨_, rfl⟩) dJ15_copyOfRange_16
  refine g_if_ne (pc := 1) (tgt := 10) rfl dJ15_copyOfRange_1 ?_ ?_
  rotate_left
  · exact Hj3 () h
  refine g_iload_n (pc := 4) (x := a2) 2 rfl rfl dJ15_copyOfRange_4 ?_
  refine g_aload_n (pc := 5) (x := a0) 0 rfl rfl dJ15_copyOfRange_5 ?_
  refine g_alen (pc := 6) dJ15_copyOfRange_6 fun v6 => ?_
  refine g_icmp_eq (pc := 7) (tgt := 17) rfl dJ15_copyOfRange_7 ?_ ?_
  · exact g_none
  exact Hj3 () h
/-! java/lang/String.<init>(Ljava/lang/AbstractStringBuilder;Ljava/lang/Void;)V -/
noncomputable def sJ4_init_2 (G : GG) (N : Nat) (a0 : Option Nat) (a1 : Option Nat) (a2 : Option Nat) (h : Hp) : Out (Unit) :=
  gNN a0 (bV h a1 21 (fun q21 => sJ2_getValue_c21 G N (some q21) h) fun v1 h2 =>
  bV h2 a1 21 (fun q20 => sJ3_length G N (some q20) h2) fun v3 h4 =>
  bV h4 a1 21 (fun q19 => sJ2_isLatin1_c21 G N (some q19) h4) fun v5 h6 =>
  if v5 = 0 then (gJ (fun (x7 : Unit) (h8 : Hp) =>
  gPb G h8 a0 20 1 (1 : Int32) fun h10 =>
  bnd (sJ15_copyOfRange G N v1 (0 : Int32) (v3 <<< ((1 : Int32) &&& 31)) h10) fun v11 h12 =>
  gP G h12 a0 20 0 (va_rf v11) fun h13 =>
  some (.inl (), h13)) fun j9 =>
  if (1 : Int32) = 0 then (j9 () h6)
  else gFi h6 a1 21 2 fun v14 =>
  if v14 = 0 then (j9 () h6)
  else none)
  else gPb G h6 a0 20 1 (0 : Int32) fun h15 =>
  bnd (sJ15_copyOfRange G N v1 (0 : Int32) v3 h15) fun v16 h17 =>
  gP G h17 a0 20 0 (va_rf v16) fun h18 =>
  some (.inl (), h18))
abbrev mJ4_init_2 : MI := (RJ4, cJ4_init_2, 5, none, [], 3, 67, "<init>")
theorem tJ4_init_2 {G : GG} {l : Launch} (hs : l.stackTraces = false) {N : Nat} {a0 : Option Nat} {a1 : Option Nat} {a2 : Option Nat} {h : Hp} {r : Unit ⊕ Nat} {hf : Hp} (ho : sJ4_init_2 G N a0 a1 a2 h = some (r, hf)) : gMet G l yJ4_init_2 (ws_ yJ4_init_2 cJ4_init_2 5 none) 3 67 [gr a0, gr a1, gr a2] h cvU r hf := by
  refine gMet.of ho hs (plainFor_of_name pn_J4) rfl rfl (gbl rfl) fun X => ?_
  show gT G l X mJ4_init_2 cvU r hf 0 [(0, gr a0), (1, gr a1), (2, gr a2)] [] h (sJ4_init_2 G N a0 a1 a2 h)
  delta sJ4_init_2
  refine g_aload_n (pc := 0) (x := a0) 0 rfl rfl dJ4_init_2_0 ?_
  refine g_objInit' (pc := 1) q725 oi_in oi_code (gbl rfl) (gbl rfl) dJ4_init_2_1 ?_
  refine g_aload_n (pc := 4) (x := a1) 1 rfl rfl dJ4_init_2_4 ?_
  refine g_bVr (pc := 5) (y := yJ2_getValue) (ws := ws_ yJ2_getValue cJ2_getValue 1 (some (.array .byte))) (fr := 0) (lo := 0) (as := []) (st := []) (g_no) rfl (fun _ _ _ e => tJ2_getValue_c21 hs e) (fun K _ _ _ hq hM R e1 e2 => g_runV (M := mJ4_init_2) (pc := 5) (y := yJ2_getValue) (bytes := cJ2_getValue) (maxL := 1) (ret := (some (.array .byte))) (fr := 0) (lo := 0) (as := []) (st := []) hq (C := "java/lang/StringBuilder") rfl gy_J2_getValue (gbl rfl) (gbl rfl) (gbl rfl) q726 q727 q729 dJ4_init_2_5 K hM R e1 e2) fun v1 h2 => ?_
  refine g_astore_n (pc := 8) (lv' := [(3, gr v1), (0, gr a0), (1, gr a1)]) [0, 1, 2] rfl rfl (gblt rfl) dJ4_init_2_8 ?_
  refine g_aload_n (pc := 9) (x := a1) 2 rfl rfl dJ4_init_2_9 ?_
  refine g_bVi (pc := 10) (y := yJ3_length) (ws := ws_ yJ3_length cJ3_length 1 (some .int)) (fr := 1) (lo := 20) (as := []) (st := []) (g_no) rfl (fun _ _ _ e => tJ3_length hs e) (fun K _ _ _ hq hM R e1 e2 => g_runU (x := ⟨"java/lang/AbstractStringBuilder", "length", "()I"⟩) (owner := "java/lang/AbstractStringBuilder") (M := mJ4_init_2) (pc := 10) (y := yJ3_length) (bytes := cJ3_length) (maxL := 1) (ret := (some .int)) (fr := 1) (lo := 20) (as := []) (st := []) hq (C := "java/lang/StringBuilder") rfl gy_J3_length rfl (gbl rfl) (gbl rfl) (gbl rfl) q731 q733 ⟨q732, _, _, _, q738⟩ mhx_java_lang_AbstractStringBuilder q734 q735 dJ4_init_2_10 K hM R e1 e2) fun v3 h4 => ?_
  refine g_istore (pc := 13) (lv' := [(4, gi v3), (3, gr v1), (0, gr a0), (1, gr a1)]) [0, 1, 2, 3] rfl (gblt rfl) dJ4_init_2_13 ?_
  refine g_aload_n (pc := 15) (x := a1) 3 rfl rfl dJ4_init_2_15 ?_
  refine g_bVi (pc := 16) (y := yJ2_isLatin1) (ws := ws_ yJ2_isLatin1 cJ2_isLatin1 1 (some .boolean)) (fr := 0) (lo := 0) (as := []) (st := []) (g_no) rfl (fun _ _ _ e => tJ2_isLatin1_c21 hs e) (fun K _ _ _ hq hM R e1 e2 => g_runV (M := mJ4_init_2) (pc := 16) (y := yJ2_isLatin1) (bytes := cJ2_isLatin1) (maxL := 1) (ret := (some .boolean)) (fr := 0) (lo := 0) (as := []) (st := []) hq (C := "java/lang/StringBuilder") rfl gy_J2_isLatin1 (gbl rfl) (gbl rfl) (gbl rfl) q739 q662 q664 dJ4_init_2_16 K hM R e1 e2) fun v5 h6 => ?_
  refine g_if_eq (pc := 19) (tgt := 41) rfl dJ4_init_2_19 ?_ ?_
  rotate_left
  · refine g_aload_n (pc := 22) (x := a0) 2 rfl rfl dJ4_init_2_22 ?_
    refine g_iconst (pc := 23) (v := (0 : Int32)) ic_0 dJ4_init_2_23 ?_
    refine g_putbFin (pc := 24) k_20 (gblt rfl) lk_J4_15_20 q854 rfl rfl rfl rfl dJ4_init_2_24 fun h15 => ?_
    refine g_aload_n (pc := 27) (x := a0) 2 rfl rfl dJ4_init_2_27 ?_
    refine g_aload_n (pc := 28) (x := v1) 1 rfl rfl dJ4_init_2_28 ?_
    refine g_iconst (pc := 29) (v := (0 : Int32)) ic_0 dJ4_init_2_29 ?_
    refine g_iload (pc := 30) (x := v3) 0 rfl dJ4_init_2_30 ?_
    refine g_br (pc := 32) (y := yJ15_copyOfRange) (ws := ws_ yJ15_copyOfRange cJ15_copyOfRange 3 (some (.array .byte))) (fr := 2) (lo := 45) (as := [gr v1, gi (0 : Int32), gi v3]) (st := [gr a0]) (g_no) rfl (fun _ _ e => tJ15_copyOfRange hs e) (fun K _ _ hM R e1 e2 => g_runS (M := mJ4_init_2) (pc := 32) (y := yJ15_copyOfRange) (bytes := cJ15_copyOfRange) (maxL := 3) (ret := (some (.array .byte))) (fr := 2) (lo := 45) (as := [gr v1, gi (0 : Int32), gi v3]) (st := [gr a0]) gy_J15_copyOfRange (gbl rfl) (gbl rfl) (gbl rfl) q740 q741 dJ4_init_2_32 K hM R e1 e2) fun v16 h17 => ?_
    refine g_putFin (pc := 35) k_20 (gblt rfl) lk_J4_9_20 q853 rfl rfl rfl rfl (gNa _ _) dJ4_init_2_35 fun h18 => ?_
    refine g_goto (pc := 38) (tgt := 97) rfl dJ4_init_2_38 ?_
    exact g_return (pc := 97) rfl dJ4_init_2_97
  refine g_gets (pc := 41) (sv := .inl (.int 1)) (w := gi (1 : Int32)) sfl_0 rfl ⟨Or.inl q817, Or.inl rfl⟩ dJ4_init_2_41 ?_
  refine g_join 79 (fun (x7 : Unit) => [(0, gr a0), (3, gr v1), (4, gi v3)]) (fun (x7 : Unit) => []) (fun x7 h8 => ?_) (fun j9 Hj9 => ?_)
  · refine g_aload_n (pc := 79) (x := a0) 0 rfl rfl dJ4_init_2_79 ?_
    refine g_iconst (pc := 80) (v := (1 : Int32)) ic_1 dJ4_init_2_80 ?_
    refine g_putbFin (pc := 81) k_20 (gblt rfl) lk_J4_15_20 q854 rfl rfl rfl rfl dJ4_init_2_81 fun h10 => ?_
    refine g_aload_n (pc := 84) (x := a0) 0 rfl rfl dJ4_init_2_84 ?_
    refine g_aload_n (pc := 85) (x := v1) 1 rfl rfl dJ4_init_2_85 ?_
    refine g_iconst (pc := 86) (v := (0 : Int32)) ic_0 dJ4_init_2_86 ?_
    refine g_iload (pc := 87) (x := v3) 2 rfl dJ4_init_2_87 ?_
    refine g_iconst (pc := 89) (v := (1 : Int32)) ic_1 dJ4_init_2_89 ?_
    refine g_ishl (pc := 90) dJ4_init_2_90 ?_
    refine g_br (pc := 91) (y := yJ15_copyOfRange) (ws := ws_ yJ15_copyOfRange cJ15_copyOfRange 3 (some (.array .byte))) (fr := 2) (lo := 45) (as := [gr v1, gi (0 : Int32), gi (v3 <<< ((1 : Int32) &&& 31))]) (st := [gr a0]) (g_no) rfl (fun _ _ e => tJ15_copyOfRange hs e) (fun K _ _ hM R e1 e2 => g_runS (M := mJ4_init_2) (pc := 91) (y := yJ15_copyOfRange) (bytes := cJ15_copyOfRange) (maxL := 3) (ret := (some (.array .byte))) (fr := 2) (lo := 45) (as := [gr v1, gi (0 : Int32), gi (v3 <<< ((1 : Int32) &&& 31))]) (st := [gr a0]) gy_J15_copyOfRange (gbl rfl) (gbl rfl) (gbl rfl) q740 q741 dJ4_init_2_91 K hM R e1 e2) fun v11 h12 => ?_
    refine g_putFin (pc := 94) k_20 (gblt rfl) lk_J4_9_20 q853 rfl rfl rfl rfl (gNa _ _) dJ4_init_2_94 fun h13 => ?_
    exact g_return (pc := 97) rfl dJ4_init_2_97
  refine g_if_eq (pc := 44) (tgt := 79) rfl dJ4_init_2_44 ?_ ?_
  · exact g_sub [2, 1, 0] rfl (Hj9 () h6)
  refine g_aload_n (pc := 47) (x := a1) 3 rfl rfl dJ4_init_2_47 ?_
  refine g_getfi (pc := 48) k_21 (gblt rfl) lk_J4_1048_21 dJ4_init_2_48 fun v14 => ?_
  refine g_if_eq (pc := 51) (tgt := 79) rfl dJ4_init_2_51 ?_ ?_
  · exact g_sub [2, 1, 0] rfl (Hj9 () h6)
  exact g_none
/-! java/lang/String.<init>(Ljava/lang/StringBuilder;)V -/
noncomputable def sJ4_init (G : GG) (N : Nat) (a0 : Option Nat) (a1 : Option Nat) (h : Hp) : Out (Unit) :=
  bI a0 (fun q3 => sJ4_init_2 G N (some q3) a1 none h) fun v1 h2 =>
  some (.inl (), h2)
abbrev mJ4_init : MI := (RJ4, cJ4_init, 2, none, [], 4, 91, "<init>")
theorem tJ4_init {G : GG} {l : Launch} (hs : l.stackTraces = false) {N : Nat} {a0 : Option Nat} {a1 : Option Nat} {h : Hp} {r : Unit ⊕ Nat} {hf : Hp} (ho : sJ4_init G N a0 a1 h = some (r, hf)) : gMet G l yJ4_init (ws_ yJ4_init cJ4_init 2 none) 4 91 [gr a0, gr a1] h cvU r hf := by
  refine gMet.of ho hs (plainFor_of_name pn_J4) rfl rfl (gbl rfl) fun X => ?_
  show gT G l X mJ4_init cvU r hf 0 [(0, gr a0), (1, gr a1)] [] h (sJ4_init G N a0 a1 h)
  delta sJ4_init
  refine g_aload_n (pc := 0) (x := a0) 0 rfl rfl dJ4_init_0 ?_
  refine g_aload_n (pc := 1) (x := a1) 1 rfl rfl dJ4_init_1 ?_
  refine g_aconst_null (pc := 2) dJ4_init_2 ?_
  refine g_bIu (pc := 3) (y := yJ4_init_2) (ws := ws_ yJ4_init_2 cJ4_init_2 5 none) (fr := 3) (lo := 67) (as := [gr a1, gr none]) (st := []) (g_no) rfl (fun _ _ _ e => tJ4_init_2 hs e) (fun K _ _ _ hM R e1 e2 => g_runI (M := mJ4_init) (pc := 3) (y := yJ4_init_2) (bytes := cJ4_init_2) (maxL := 5) (ret := none) (fr := 3) (lo := 67) (as := [gr a1, gr none]) (st := []) gy_J4_init_2 (gbl rfl) (gbl rfl) (gbl rfl) rfl q722 q723 rfl dJ4_init_3 K hM R e1 e2) fun v1 h2 => ?_
  exact g_return (pc := 6) rfl dJ4_init_6
/-! java/lang/StringBuilder.toString()Ljava/lang/String; -/
noncomputable def sJ3_toString (G : GG) (N : Nat) (a0 : Option Nat) (h : Hp) : Out (Option Nat) :=
  gNew h 20 [.null, .int 0, .int 0, .int 0] 4 fun v1 h2 =>
  bI v1 (fun q5 => sJ4_init G N (some q5) a0 h2) fun v3 h4 =>
  some (.inl v1, h4)
abbrev mJ3_toString : MI := (RJ3, cJ3_toString, 1, (some (.object "java/lang/String")), [], 5, 112, "toString")
theorem tJ3_toString {G : GG} {l : Launch} (hs : l.stackTraces = false) {N : Nat} {a0 : Option Nat} {h : Hp} {r : Option Nat ⊕ Nat} {hf : Hp} (ho : sJ3_toString G N a0 h = some (r, hf)) : gMet G l yJ3_toString (ws_ yJ3_toString cJ3_toString 1 (some (.object "java/lang/String"))) 5 112 [gr a0] h cvR r hf := by
  refine gMet.of ho hs (plainFor_of_name pn_J3) rfl rfl (gbl rfl) fun X => ?_
  show gT G l X mJ3_toString cvR r hf 0 [(0, gr a0)] [] h (sJ3_toString G N a0 h)
  delta sJ3_toString
  refine g_new (pc := 0) k_20 df_20 q718 q399 q133 dJ3_toString_0 fun v1 h2 => ?_
  refine g_dup (pc := 3) rfl dJ3_toString_3 ?_
  refine g_aload_n (pc := 4) (x := a0) 0 rfl rfl dJ3_toString_4 ?_
  refine g_bIu (pc := 5) (y := yJ4_init) (ws := ws_ yJ4_init cJ4_init 2 none) (fr := 4) (lo := 91) (as := [gr a0]) (st := [gr v1]) (g_no) rfl (fun _ _ _ e => tJ4_init hs e) (fun K _ _ _ hM R e1 e2 => g_runI (M := mJ3_toString) (pc := 5) (y := yJ4_init) (bytes := cJ4_init) (maxL := 2) (ret := none) (fr := 4) (lo := 91) (as := [gr a0]) (st := [gr v1]) gy_J4_init (gbl rfl) (gbl rfl) (gbl rfl) rfl q719 q720 rfl dJ3_toString_5 K hM R e1 e2) fun v3 h4 => ?_
  exact g_areturn (pc := 8) rfl (Or.inl ⟨_, rfl⟩) dJ3_toString_8
/-! FlareSlopes$Parser.word()Ljava/lang/String; -/
noncomputable def bX4_word_30 (G : GG) (N : Nat) (a0 : Option Nat) (v7 : Option Nat) (j14 : (Unit) → Hp → Out (Option Nat)) (w20 : (Int32) → Hp → Out (Option Nat)) (x18 : Int32) (h19 : Hp) : Out (Option Nat) :=
  gFi h19 a0 12 2 fun v21 =>
  if v21 ≤ x18 then (j14 () h19)
  else bV h19 a0 12 (fun q27 => sX4_at G N (some q27) x18 h19) fun v22 h23 =>
  bV h23 v7 21 (fun q26 => sJ3_append G N (some q26) ((v22.toUInt32 % 65536).toInt32) h23) fun v24 h25 =>
  w20 (x18 + (1 : Int32)) h25
noncomputable def sX4_word (G : GG) (N : Nat) (a0 : Option Nat) (h : Hp) : Out (Option Nat) :=
  gFi h a0 12 4 fun v1 =>
  gJ (fun (x2 : Int32) (h3 : Hp) =>
  bV h3 a0 12 (fun q29 => sX4_check G N (some q29) x2 (1 : Int32) h3) fun v5 h6 =>
  gNew h6 21 [.null, .int 0, .int 0, .int 0] 4 fun v7 h8 =>
  bI v7 (fun q28 => sJ3_init G N (some q28) h8) fun v9 h10 =>
  gFi h10 a0 12 3 fun v11 =>
  gJ (fun (x12 : Unit) (h13 : Hp) =>
  bV h13 v7 21 (fun q17 => sJ3_toString G N (some q17) h13) fun v15 h16 =>
  some (.inl v15, h16)) fun j14 =>
  gLp (bX4_word_30 G N a0 v7 j14) N v11 h10) fun j4 =>
  if v1 = 0 then (j4 (1 : Int32) h)
  else j4 (0 : Int32) h
abbrev mX4_word : MI := (RX4, cX4_word, 3, (some (.object "java/lang/String")), [], 6, 133, "word")
theorem tX4_word {G : GG} {l : Launch} (hs : l.stackTraces = false) {N : Nat} {a0 : Option Nat} {h : Hp} {r : Option Nat ⊕ Nat} {hf : Hp} (ho : sX4_word G N a0 h = some (r, hf)) : gMet G l yX4_word (ws_ yX4_word cX4_word 3 (some (.object "java/lang/String"))) 6 133 [gr a0] h cvR r hf := by
  refine gMet.of ho hs (plainFor_of_name pn_X4) rfl rfl (gbl rfl) fun X => ?_
  show gT G l X mX4_word cvR r hf 0 [(0, gr a0)] [] h (sX4_word G N a0 h)
  delta sX4_word
  refine g_aload_n (pc := 0) (x := a0) 0 rfl rfl dX4_word_0 ?_
  refine g_aload_n (pc := 1) (x := a0) 0 rfl rfl dX4_word_1 ?_
  refine g_getfi (pc := 2) k_12 (gblt rfl) lk_X4_47_12 dX4_word_2 fun v1 => ?_
  refine g_join 13 (fun (x2 : Int32) => [(0, gr a0)]) (fun (x2 : Int32) => [gi x2, gr a0]) (fun x2 h3 => ?_) (fun j4 Hj4 => ?_)
  · refine g_iconst (pc := 13) (v := (1 : Int32)) ic_1 dX4_word_13 ?_
    refine g_bVu (pc := 14) (y := yX4_check) (ws := ws_ yX4_check cX4_check 3 none) (fr := 4) (lo := 82) (as := [gi x2, gi (1 : Int32)]) (st := []) (g_no) rfl (fun _ _ _ e => tX4_check hs e) (fun K _ _ _ hq hM R e1 e2 => g_runV (M := mX4_word) (pc := 14) (y := yX4_check) (bytes := cX4_check) (maxL := 3) (ret := none) (fr := 4) (lo := 82) (as := [gi x2, gi (1 : Int32)]) (st := []) hq (C := "FlareSlopes$Parser") rfl gy_X4_check (gbl rfl) (gbl rfl) (gbl rfl) q585 q587 qs6 dX4_word_14 K hM R e1 e2) fun v5 h6 => ?_
    refine g_new (pc := 17) k_21 df_21 q617 q236 q132 dX4_word_17 fun v7 h8 => ?_
    refine g_dup (pc := 20) rfl dX4_word_20 ?_
    refine g_bIu (pc := 21) (y := yJ3_init) (ws := ws_ yJ3_init cJ3_init 1 none) (fr := 2) (lo := 33) (as := []) (st := [gr v7]) (g_no) rfl (fun _ _ _ e => tJ3_init hs e) (fun K _ _ _ hM R e1 e2 => g_runI (M := mX4_word) (pc := 21) (y := yJ3_init) (bytes := cJ3_init) (maxL := 1) (ret := none) (fr := 2) (lo := 33) (as := []) (st := [gr v7]) gy_J3_init (gbl rfl) (gbl rfl) (gbl rfl) rfl q618 q238 rfl dX4_word_21 K hM R e1 e2) fun v9 h10 => ?_
    refine g_astore_n (pc := 24) (lv' := [(1, gr v7), (0, gr a0)]) [0, 1] rfl rfl (gblt rfl) dX4_word_24 ?_
    refine g_aload_n (pc := 25) (x := a0) 1 rfl rfl dX4_word_25 ?_
    refine g_getfi (pc := 26) k_12 (gblt rfl) lk_X4_44_12 dX4_word_26 fun v11 => ?_
    refine g_istore_n (pc := 29) (lv' := [(2, gi v11), (1, gr v7), (0, gr a0)]) [0, 1, 2] rfl rfl (gblt rfl) dX4_word_29 ?_
    refine g_join 55 (fun (x12 : Unit) => [(1, gr v7)]) (fun (x12 : Unit) => []) (fun x12 h13 => ?_) (fun j14 Hj14 => ?_)
    · refine g_aload_n (pc := 55) (x := v7) 0 rfl rfl dX4_word_55 ?_
      refine g_bVr (pc := 56) (y := yJ3_toString) (ws := ws_ yJ3_toString cJ3_toString 1 (some (.object "java/lang/String"))) (fr := 5) (lo := 112) (as := []) (st := []) (g_no) rfl (fun _ _ _ e => tJ3_toString hs e) (fun K _ _ _ hq hM R e1 e2 => g_runV (M := mX4_word) (pc := 56) (y := yJ3_toString) (bytes := cJ3_toString) (maxL := 1) (ret := (some (.object "java/lang/String"))) (fr := 5) (lo := 112) (as := []) (st := []) hq (C := "java/lang/StringBuilder") rfl gy_J3_toString (gbl rfl) (gbl rfl) (gbl rfl) q714 q715 q716 dX4_word_56 K hM R e1 e2) fun v15 h16 => ?_
      exact g_areturn (pc := 59) rfl (Or.inl ⟨_, rfl⟩) dX4_word_59
    refine g_sub (lv' := [(0, gr a0), (1, gr v7), (2, gi v11)]) [2, 1, 0] rfl ?_
    refine g_loop (pc := 30) (fun (x18 : Int32) => [(0, gr a0), (1, gr v7), (2, gi x18)]) (fun (_ : Int32) => []) (fun w20 Hw20 x18 h19 => ?_) N v11 h10
    delta bX4_word_30
    refine g_iload_n (pc := 30) (x := x18) 2 rfl rfl dX4_word_30 ?_
    refine g_aload_n (pc := 31) (x := a0) 0 rfl rfl dX4_word_31 ?_
    refine g_getfi (pc := 32) k_12 (gblt rfl) lk_X4_41_12 dX4_word_32 fun v21 => ?_
    refine g_icmp_ge (pc := 35) (tgt := 55) rfl dX4_word_35 ?_ ?_
    · exact g_sub [1] rfl (Hj14 () h19)
    refine g_aload_n (pc := 38) (x := v7) 1 rfl rfl dX4_word_38 ?_
    refine g_aload_n (pc := 39) (x := a0) 0 rfl rfl dX4_word_39 ?_
    refine g_iload_n (pc := 40) (x := x18) 2 rfl rfl dX4_word_40 ?_
    refine g_bVi (pc := 41) (y := yX4_at) (ws := ws_ yX4_at cX4_at 2 (some .int)) (fr := 0) (lo := 0) (as := [gi x18]) (st := [gr v7]) (g_no) rfl (fun _ _ _ e => tX4_at hs e) (fun K _ _ _ hq hM R e1 e2 => g_runV (M := mX4_word) (pc := 41) (y := yX4_at) (bytes := cX4_at) (maxL := 2) (ret := (some .int)) (fr := 0) (lo := 0) (as := [gi x18]) (st := [gr v7]) hq (C := "FlareSlopes$Parser") rfl gy_X4_at (gbl rfl) (gbl rfl) (gbl rfl) q541 q543 qs2 dX4_word_41 K hM R e1 e2) fun v22 h23 => ?_
    refine g_i2c (pc := 44) dX4_word_44 ?_
    refine g_bVr (pc := 45) (y := yJ3_append) (ws := ws_ yJ3_append cJ3_append 2 (some (.object "java/lang/StringBuilder"))) (fr := 5) (lo := 112) (as := [gi ((v22.toUInt32 % 65536).toInt32)]) (st := []) (g_no) rfl (fun _ _ _ e => tJ3_append hs e) (fun K _ _ _ hq hM R e1 e2 => g_runV (M := mX4_word) (pc := 45) (y := yJ3_append) (bytes := cJ3_append) (maxL := 2) (ret := (some (.object "java/lang/StringBuilder"))) (fr := 5) (lo := 112) (as := [gi ((v22.toUInt32 % 65536).toInt32)]) (st := []) hq (C := "java/lang/StringBuilder") rfl gy_J3_append (gbl rfl) (gbl rfl) (gbl rfl) q619 q620 q621 dX4_word_45 K hM R e1 e2) fun v24 h25 => ?_
    refine g_pop (pc := 48) rfl dX4_word_48 ?_
    refine g_iinc (pc := 49) (v := x18 + (1 : Int32)) 2 rfl (ii_1 _) (lv' := [(2, gi (x18 + (1 : Int32))), (0, gr a0), (1, gr v7)]) [0, 1, 2] rfl (gblt rfl) dX4_word_49 ?_
    refine g_goto (pc := 52) (tgt := 30) rfl dX4_word_52 ?_
    exact g_sub [1, 2, 0] rfl (Hw20 (x18 + (1 : Int32)) h25)
  refine g_if_ne (pc := 5) (tgt := 12) rfl dX4_word_5 ?_ ?_
  rotate_left
  · refine g_iconst (pc := 12) (v := (0 : Int32)) ic_0 dX4_word_12 ?_
    exact Hj4 (0 : Int32) h
  refine g_iconst (pc := 8) (v := (1 : Int32)) ic_1 dX4_word_8 ?_
  refine g_goto (pc := 9) (tgt := 13) rfl dX4_word_9 ?_
  exact Hj4 (1 : Int32) h
/-! java/lang/StringLatin1.equals([B[B)Z -/
noncomputable def bJ16_equals_9 (G : GG) (N : Nat) (a0 : Option Nat) (a1 : Option Nat) (w5 : (Int32) → Hp → Out (Int32)) (x3 : Int32) (h4 : Hp) : Out (Int32) :=
  gLen h4 a0 fun v6 =>
  if v6 ≤ x3 then (gRtZ (1 : Int32) h4)
  else gAi h4 a0 1 x3 fun v7 =>
  gAi h4 a1 1 x3 fun v8 =>
  if v7 = v8 then (w5 (x3 + (1 : Int32)) h4)
  else gRtZ (0 : Int32) h4
noncomputable def sJ16_equals (G : GG) (N : Nat) (a0 : Option Nat) (a1 : Option Nat) (h : Hp) : Out (Int32) :=
  gLen h a0 fun v1 =>
  gLen h a1 fun v2 =>
  if v1 = v2 then (gLp (bJ16_equals_9 G N a0 a1) N (0 : Int32) h)
  else gRtZ (0 : Int32) h
abbrev mJ16_equals : MI := (RJ16, cJ16_equals, 3, (some .boolean), [], 0, 0, "equals")
theorem tJ16_equals {G : GG} {l : Launch} (hs : l.stackTraces = false) {N : Nat} {a0 : Option Nat} {a1 : Option Nat} {h : Hp} {r : Int32 ⊕ Nat} {hf : Hp} (ho : sJ16_equals G N a0 a1 h = some (r, hf)) : gMet G l yJ16_equals (ws_ yJ16_equals cJ16_equals 3 (some .boolean)) 0 0 [gr a0, gr a1] h cvI r hf := by
  refine gMet.of ho hs (plainFor_of_name pn_J16) rfl rfl (gbl rfl) fun X => ?_
  show gT G l X mJ16_equals cvI r hf 0 [(0, gr a0), (1, gr a1)] [] h (sJ16_equals G N a0 a1 h)
  delta sJ16_equals
  refine g_aload_n (pc := 0) (x := a0) 0 rfl rfl dJ16_equals_0 ?_
  refine g_alen (pc := 1) dJ16_equals_1 fun v1 => ?_
  refine g_aload_n (pc := 2) (x := a1) 1 rfl rfl dJ16_equals_2 ?_
  refine g_alen (pc := 3) dJ16_equals_3 fun v2 => ?_
  refine g_icmp_ne (pc := 4) (tgt := 34) rfl dJ16_equals_4 ?_ ?_
  rotate_left
  · refine g_iconst (pc := 34) (v := (0 : Int32)) ic_0 dJ16_equals_34 ?_
    exact g_zreturn (pc := 35) rfl dJ16_equals_35
  refine g_iconst (pc := 7) (v := (0 : Int32)) ic_0 dJ16_equals_7 ?_
  refine g_istore_n (pc := 8) (lv' := [(2, gi (0 : Int32)), (0, gr a0), (1, gr a1)]) [0, 1, 2] rfl rfl (gblt rfl) dJ16_equals_8 ?_
  refine g_sub (lv' := [(0, gr a0), (1, gr a1), (2, gi (0 : Int32))]) [1, 2, 0] rfl ?_
  refine g_loop (pc := 9) (fun (x3 : Int32) => [(0, gr a0), (1, gr a1), (2, gi x3)]) (fun (_ : Int32) => []) (fun w5 Hw5 x3 h4 => ?_) N (0 : Int32) h
  delta bJ16_equals_9
  refine g_iload_n (pc := 9) (x := x3) 2 rfl rfl dJ16_equals_9 ?_
  refine g_aload_n (pc := 10) (x := a0) 0 rfl rfl dJ16_equals_10 ?_
  refine g_alen (pc := 11) dJ16_equals_11 fun v6 => ?_
  refine g_icmp_ge (pc := 12) (tgt := 32) rfl dJ16_equals_12 ?_ ?_
  · refine g_iconst (pc := 32) (v := (1 : Int32)) ic_1 dJ16_equals_32 ?_
    exact g_zreturn (pc := 33) rfl dJ16_equals_33
  refine g_aload_n (pc := 15) (x := a0) 0 rfl rfl dJ16_equals_15 ?_
  refine g_iload_n (pc := 16) (x := x3) 2 rfl rfl dJ16_equals_16 ?_
  refine g_baload (pc := 17) rfl dJ16_equals_17 fun v7 => ?_
  refine g_aload_n (pc := 18) (x := a1) 1 rfl rfl dJ16_equals_18 ?_
  refine g_iload_n (pc := 19) (x := x3) 2 rfl rfl dJ16_equals_19 ?_
  refine g_baload (pc := 20) rfl dJ16_equals_20 fun v8 => ?_
  refine g_icmp_eq (pc := 21) (tgt := 26) rfl dJ16_equals_21 ?_ ?_
  rotate_left
  · refine g_iconst (pc := 24) (v := (0 : Int32)) ic_0 dJ16_equals_24 ?_
    exact g_zreturn (pc := 25) rfl dJ16_equals_25
  refine g_iinc (pc := 26) (v := x3 + (1 : Int32)) 2 rfl (ii_1 _) (lv' := [(2, gi (x3 + (1 : Int32))), (0, gr a0), (1, gr a1)]) [0, 1, 2] rfl (gblt rfl) dJ16_equals_26 ?_
  refine g_goto (pc := 29) (tgt := 9) rfl dJ16_equals_29 ?_
  exact g_sub [1, 2, 0] rfl (Hw5 (x3 + (1 : Int32)) h4)
/-! java/lang/String.equals(Ljava/lang/Object;)Z -/
noncomputable def sJ4_equals (G : GG) (N : Nat) (a0 : Option Nat) (a1 : Option Nat) (h : Hp) : Out (Int32) :=
  if a0 = a1 then (gRtZ (1 : Int32) h)
  else gIn h a1 [20] [10, 19] fun v1 =>
  gJ (fun (x2 : Unit) (h3 : Hp) =>
  gRtZ (0 : Int32) h3) fun j4 =>
  if v1 = 0 then (j4 () h)
  else gCk h a1 [20] (gJ (fun (x5 : Unit) (h6 : Hp) =>
  gFr h6 a0 20 0 fun v8 =>
  gFr h6 a1 20 0 fun v9 =>
  bnd (sJ16_equals G N v8 v9 h6) fun v10 h11 =>
  if v10 = 0 then (j4 () h11)
  else gRtZ (1 : Int32) h11) fun j7 =>
  if (1 : Int32) = 0 then (j7 () h)
  else gFi h a0 20 1 fun v12 =>
  gFi h a1 20 1 fun v13 =>
  if v12 = v13 then (j7 () h)
  else j4 () h)
abbrev mJ4_equals : MI := (RJ4, cJ4_equals, 3, (some .boolean), [], 1, 22, "equals")
theorem tJ4_equals {G : GG} {l : Launch} (hs : l.stackTraces = false) {N : Nat} {a0 : Option Nat} {a1 : Option Nat} {h : Hp} {r : Int32 ⊕ Nat} {hf : Hp} (ho : sJ4_equals G N a0 a1 h = some (r, hf)) : gMet G l yJ4_equals (ws_ yJ4_equals cJ4_equals 3 (some .boolean)) 1 22 [gr a0, gr a1] h cvI r hf := by
  refine gMet.of ho hs (plainFor_of_name pn_J4) rfl rfl (gbl rfl) fun X => ?_
  show gT G l X mJ4_equals cvI r hf 0 [(0, gr a0), (1, gr a1)] [] h (sJ4_equals G N a0 a1 h)
  delta sJ4_equals
  refine g_aload_n (pc := 0) (x := a0) 0 rfl rfl dJ4_equals_0 ?_
  refine g_aload_n (pc := 1) (x := a1) 1 rfl rfl dJ4_equals_1 ?_
  refine g_acmp_ne (pc := 2) (tgt := 7) rfl dJ4_equals_2 ?_ ?_
  · refine g_iconst (pc := 5) (v := (1 : Int32)) ic_1 dJ4_equals_5 ?_
    exact g_zreturn (pc := 6) rfl dJ4_equals_6
  refine g_aload_n (pc := 7) (x := a1) 1 rfl rfl dJ4_equals_7 ?_
  refine g_instanceof (pc := 8) q866 as_20_java_lang_String ns_10_19_java_lang_String dJ4_equals_8 fun v1 => ?_
  refine g_join 54 (fun (x2 : Unit) => []) (fun (x2 : Unit) => []) (fun x2 h3 => ?_) (fun j4 Hj4 => ?_)
  · refine g_iconst (pc := 54) (v := (0 : Int32)) ic_0 dJ4_equals_54 ?_
    exact g_zreturn (pc := 55) rfl dJ4_equals_55
  refine g_if_eq (pc := 11) (tgt := 54) rfl dJ4_equals_11 ?_ ?_
  · exact g_sub [] rfl (Hj4 () h)
  refine g_aload_n (pc := 14) (x := a1) 1 rfl rfl dJ4_equals_14 ?_
  refine g_checkcast (pc := 15) q866 as_20_java_lang_String dJ4_equals_15 ?_
  refine g_astore_n (pc := 18) (lv' := [(2, gr a1), (0, gr a0)]) [0, 1] rfl rfl (gblt rfl) dJ4_equals_18 ?_
  refine g_gets (pc := 19) (sv := .inl (.int 1)) (w := gi (1 : Int32)) sfl_0 rfl ⟨Or.inl q817, Or.inl rfl⟩ dJ4_equals_19 ?_
  refine g_join 36 (fun (x5 : Unit) => [(0, gr a0), (2, gr a1)]) (fun (x5 : Unit) => []) (fun x5 h6 => ?_) (fun j7 Hj7 => ?_)
  · refine g_aload_n (pc := 36) (x := a0) 0 rfl rfl dJ4_equals_36 ?_
    refine g_getfr (pc := 37) k_20 (gblt rfl) lk_J4_9_20 dJ4_equals_37 fun v8 => ?_
    refine g_aload_n (pc := 40) (x := a1) 1 rfl rfl dJ4_equals_40 ?_
    refine g_getfr (pc := 41) k_20 (gblt rfl) lk_J4_9_20 dJ4_equals_41 fun v9 => ?_
    refine g_bi (pc := 44) (y := yJ16_equals) (ws := ws_ yJ16_equals cJ16_equals 3 (some .boolean)) (fr := 0) (lo := 0) (as := [gr v8, gr v9]) (st := []) (g_no) rfl (fun _ _ e => tJ16_equals hs e) (fun K _ _ hM R e1 e2 => g_runS (M := mJ4_equals) (pc := 44) (y := yJ16_equals) (bytes := cJ16_equals) (maxL := 3) (ret := (some .boolean)) (fr := 0) (lo := 0) (as := [gr v8, gr v9]) (st := []) gy_J16_equals (gbl rfl) (gbl rfl) (gbl rfl) q867 q868 dJ4_equals_44 K hM R e1 e2) fun v10 h11 => ?_
    refine g_if_eq (pc := 47) (tgt := 54) rfl dJ4_equals_47 ?_ ?_
    · exact g_sub [] rfl (Hj4 () h11)
    refine g_iconst (pc := 50) (v := (1 : Int32)) ic_1 dJ4_equals_50 ?_
    refine g_goto (pc := 51) (tgt := 55) rfl dJ4_equals_51 ?_
    exact g_zreturn (pc := 55) rfl dJ4_equals_55
  refine g_if_eq (pc := 22) (tgt := 36) rfl dJ4_equals_22 ?_ ?_
  · exact g_sub [1, 0] rfl (Hj7 () h)
  refine g_aload_n (pc := 25) (x := a0) 1 rfl rfl dJ4_equals_25 ?_
  refine g_getfi (pc := 26) k_20 (gblt rfl) lk_J4_15_20 dJ4_equals_26 fun v12 => ?_
  refine g_aload_n (pc := 29) (x := a1) 0 rfl rfl dJ4_equals_29 ?_
  refine g_getfi (pc := 30) k_20 (gblt rfl) lk_J4_15_20 dJ4_equals_30 fun v13 => ?_
  refine g_icmp_ne (pc := 33) (tgt := 54) rfl dJ4_equals_33 ?_ ?_
  · exact g_sub [1, 0] rfl (Hj7 () h)
  exact g_sub [] rfl (Hj4 () h)
/-! FlareSlopes$Parser.expect(Ljava/lang/String;)V -/
noncomputable def sX4_expect (G : GG) (N : Nat) (a0 : Option Nat) (a1 : Option Nat) (h : Hp) : Out (Unit) :=
  bV h a0 12 (fun q12 => sX4_word G N (some q12) h) fun v1 h2 =>
  bV h2 v1 20 (fun q11 => sJ4_equals G N (some q11) a1 h2) fun v3 h4 =>
  bV h4 a0 12 (fun q10 => sX4_check G N (some q10) v3 (1 : Int32) h4) fun v5 h6 =>
  bV h6 a0 12 (fun q9 => sX4_step G N (some q9) h6) fun v7 h8 =>
  some (.inl (), h8)
abbrev mX4_expect : MI := (RX4, cX4_expect, 2, none, [], 7, 155, "expect")
theorem tX4_expect {G : GG} {l : Launch} (hs : l.stackTraces = false) {N : Nat} {a0 : Option Nat} {a1 : Option Nat} {h : Hp} {r : Unit ⊕ Nat} {hf : Hp} (ho : sX4_expect G N a0 a1 h = some (r, hf)) : gMet G l yX4_expect (ws_ yX4_expect cX4_expect 2 none) 7 155 [gr a0, gr a1] h cvU r hf := by
  refine gMet.of ho hs (plainFor_of_name pn_X4) rfl rfl (gbl rfl) fun X => ?_
  show gT G l X mX4_expect cvU r hf 0 [(0, gr a0), (1, gr a1)] [] h (sX4_expect G N a0 a1 h)
  delta sX4_expect
  refine g_aload_n (pc := 0) (x := a0) 0 rfl rfl dX4_expect_0 ?_
  refine g_aload_n (pc := 1) (x := a0) 0 rfl rfl dX4_expect_1 ?_
  refine g_bVr (pc := 2) (y := yX4_word) (ws := ws_ yX4_word cX4_word 3 (some (.object "java/lang/String"))) (fr := 6) (lo := 133) (as := []) (st := [gr a0]) (g_no) rfl (fun _ _ _ e => tX4_word hs e) (fun K _ _ _ hq hM R e1 e2 => g_runV (M := mX4_expect) (pc := 2) (y := yX4_word) (bytes := cX4_word) (maxL := 3) (ret := (some (.object "java/lang/String"))) (fr := 6) (lo := 133) (as := []) (st := [gr a0]) hq (C := "FlareSlopes$Parser") rfl gy_X4_word (gbl rfl) (gbl rfl) (gbl rfl) q581 q583 qs5 dX4_expect_2 K hM R e1 e2) fun v1 h2 => ?_
  refine g_aload_n (pc := 5) (x := a1) 1 rfl rfl dX4_expect_5 ?_
  refine g_bVi (pc := 6) (y := yJ4_equals) (ws := ws_ yJ4_equals cJ4_equals 3 (some .boolean)) (fr := 1) (lo := 22) (as := [gr a1]) (st := [gr a0]) (g_no) rfl (fun _ _ _ e => tJ4_equals hs e) (fun K _ _ _ hq hM R e1 e2 => g_runV (M := mX4_expect) (pc := 6) (y := yJ4_equals) (bytes := cJ4_equals) (maxL := 3) (ret := (some .boolean)) (fr := 1) (lo := 22) (as := [gr a1]) (st := [gr a0]) hq (C := "java/lang/String") rfl gy_J4_equals (gbl rfl) (gbl rfl) (gbl rfl) q862 q863 q864 dX4_expect_6 K hM R e1 e2) fun v3 h4 => ?_
  refine g_iconst (pc := 9) (v := (1 : Int32)) ic_1 dX4_expect_9 ?_
  refine g_bVu (pc := 10) (y := yX4_check) (ws := ws_ yX4_check cX4_check 3 none) (fr := 4) (lo := 82) (as := [gi v3, gi (1 : Int32)]) (st := []) (g_no) rfl (fun _ _ _ e => tX4_check hs e) (fun K _ _ _ hq hM R e1 e2 => g_runV (M := mX4_expect) (pc := 10) (y := yX4_check) (bytes := cX4_check) (maxL := 3) (ret := none) (fr := 4) (lo := 82) (as := [gi v3, gi (1 : Int32)]) (st := []) hq (C := "FlareSlopes$Parser") rfl gy_X4_check (gbl rfl) (gbl rfl) (gbl rfl) q585 q587 qs6 dX4_expect_10 K hM R e1 e2) fun v5 h6 => ?_
  refine g_aload_n (pc := 13) (x := a0) 0 rfl rfl dX4_expect_13 ?_
  refine g_bVu (pc := 14) (y := yX4_step) (ws := ws_ yX4_step cX4_step 3 none) (fr := 2) (lo := 46) (as := []) (st := []) (g_no) rfl (fun _ _ _ e => tX4_step hs e) (fun K _ _ _ hq hM R e1 e2 => g_runV (M := mX4_expect) (pc := 14) (y := yX4_step) (bytes := cX4_step) (maxL := 3) (ret := none) (fr := 2) (lo := 46) (as := []) (st := []) hq (C := "FlareSlopes$Parser") rfl gy_X4_step (gbl rfl) (gbl rfl) (gbl rfl) q537 q539 qs1 dX4_expect_14 K hM R e1 e2) fun v7 h8 => ?_
  exact g_return (pc := 17) rfl dX4_expect_17
/-! FlareSlopes.leastOf(I[I)I -/
noncomputable def sX1_leastOf (G : GG) (N : Nat) (a0 : Int32) (a1 : Option Nat) (h : Hp) : Out (Int32) :=
  gSel a0 [((4 : Int32), gAi h a1 0 (3 : Int32) fun v1 =>
  some (.inl v1, h)),
  ((5 : Int32), some (.inl (0 : Int32), h))] (some (.inl (1 : Int32), h))
abbrev mX1_leastOf : MI := (RX1, cX1_leastOf, 2, (some .int), [], 0, 0, "leastOf")
theorem tX1_leastOf {G : GG} {l : Launch} (hs : l.stackTraces = false) {N : Nat} {a0 : Int32} {a1 : Option Nat} {h : Hp} {r : Int32 ⊕ Nat} {hf : Hp} (ho : sX1_leastOf G N a0 a1 h = some (r, hf)) : gMet G l yX1_leastOf (ws_ yX1_leastOf cX1_leastOf 2 (some .int)) 0 0 [gi a0, gr a1] h cvI r hf := by
  refine gMet.of ho hs (plainFor_of_name pn_X1) rfl rfl (gbl rfl) fun X => ?_
  show gT G l X mX1_leastOf cvI r hf 0 [(0, gi a0), (1, gr a1)] [] h (sX1_leastOf G N a0 a1 h)
  delta sX1_leastOf
  refine g_iload_n (pc := 0) (x := a0) 0 rfl rfl dX1_leastOf_0 ?_
  refine g_lookupswitch (pc := 1) (td := 38) [((4 : Int32), 32), ((5 : Int32), 28)] (by decide +kernel) dX1_leastOf_1 ?_ (g_all_cons ?_ (g_all_cons ?_ g_all_nil))
  · refine g_iconst (pc := 38) (v := (1 : Int32)) ic_1 dX1_leastOf_38 ?_
    exact g_ireturn (pc := 39) rfl dX1_leastOf_39
  · refine g_aload_n (pc := 32) (x := a1) 1 rfl rfl dX1_leastOf_32 ?_
    refine g_iconst (pc := 33) (v := (3 : Int32)) ic_3 dX1_leastOf_33 ?_
    refine g_iaload (pc := 34) rfl dX1_leastOf_34 fun v1 => ?_
    refine g_goto (pc := 35) (tgt := 39) rfl dX1_leastOf_35 ?_
    exact g_ireturn (pc := 39) rfl dX1_leastOf_39
  · refine g_iconst (pc := 28) (v := (0 : Int32)) ic_0 dX1_leastOf_28 ?_
    refine g_goto (pc := 29) (tgt := 39) rfl dX1_leastOf_29 ?_
    exact g_ireturn (pc := 39) rfl dX1_leastOf_39
/-! FlareSlopes.mostOf(I[I)I -/
noncomputable def sX1_mostOf (G : GG) (N : Nat) (a0 : Int32) (a1 : Option Nat) (h : Hp) : Out (Int32) :=
  gSel a0 [((0 : Int32), some (.inl (200 : Int32), h)),
  ((1 : Int32), some (.inl (99 : Int32), h)),
  ((2 : Int32), some (.inl (100 : Int32), h)),
  ((3 : Int32), gAi h a1 0 (4 : Int32) fun v1 =>
  bnd (sJ14_min G N (9 : Int32) v1 h) fun v2 h3 =>
  some (.inl v2, h3)),
  ((4 : Int32), some (.inl (30 : Int32), h))] (some (.inl (50 : Int32), h))
abbrev mX1_mostOf : MI := (RX1, cX1_mostOf, 2, (some .int), [], 1, 21, "mostOf")
theorem tX1_mostOf {G : GG} {l : Launch} (hs : l.stackTraces = false) {N : Nat} {a0 : Int32} {a1 : Option Nat} {h : Hp} {r : Int32 ⊕ Nat} {hf : Hp} (ho : sX1_mostOf G N a0 a1 h = some (r, hf)) : gMet G l yX1_mostOf (ws_ yX1_mostOf cX1_mostOf 2 (some .int)) 1 21 [gi a0, gr a1] h cvI r hf := by
  refine gMet.of ho hs (plainFor_of_name pn_X1) rfl rfl (gbl rfl) fun X => ?_
  show gT G l X mX1_mostOf cvI r hf 0 [(0, gi a0), (1, gr a1)] [] h (sX1_mostOf G N a0 a1 h)
  delta sX1_mostOf
  refine g_iload_n (pc := 0) (x := a0) 0 rfl rfl dX1_mostOf_0 ?_
  refine g_tableswitch (pc := 1) (td := 68) [((0 : Int32), 36), ((1 : Int32), 42), ((2 : Int32), 47), ((3 : Int32), 52), ((4 : Int32), 63)] (by decide +kernel) dX1_mostOf_1 ?_ (g_all_cons ?_ (g_all_cons ?_ (g_all_cons ?_ (g_all_cons ?_ (g_all_cons ?_ g_all_nil)))))
  · refine g_bipush (pc := 68) (v := (50 : Int32)) bc_50 dX1_mostOf_68 ?_
    exact g_ireturn (pc := 70) rfl dX1_mostOf_70
  · refine g_sipush (pc := 36) (v := (200 : Int32)) sc_200 dX1_mostOf_36 ?_
    refine g_goto (pc := 39) (tgt := 70) rfl dX1_mostOf_39 ?_
    exact g_ireturn (pc := 70) rfl dX1_mostOf_70
  · refine g_bipush (pc := 42) (v := (99 : Int32)) bc_99 dX1_mostOf_42 ?_
    refine g_goto (pc := 44) (tgt := 70) rfl dX1_mostOf_44 ?_
    exact g_ireturn (pc := 70) rfl dX1_mostOf_70
  · refine g_bipush (pc := 47) (v := (100 : Int32)) bc_100 dX1_mostOf_47 ?_
    refine g_goto (pc := 49) (tgt := 70) rfl dX1_mostOf_49 ?_
    exact g_ireturn (pc := 70) rfl dX1_mostOf_70
  · refine g_bipush (pc := 52) (v := (9 : Int32)) bc_9 dX1_mostOf_52 ?_
    refine g_aload_n (pc := 54) (x := a1) 1 rfl rfl dX1_mostOf_54 ?_
    refine g_iconst (pc := 55) (v := (4 : Int32)) ic_4 dX1_mostOf_55 ?_
    refine g_iaload (pc := 56) rfl dX1_mostOf_56 fun v1 => ?_
    refine g_bi (pc := 57) (y := yJ14_min) (ws := ws_ yJ14_min cJ14_min 2 (some .int)) (fr := 0) (lo := 0) (as := [gi (9 : Int32), gi v1]) (st := []) (g_no) rfl (fun _ _ e => tJ14_min hs e) (fun K _ _ hM R e1 e2 => g_runS (M := mX1_mostOf) (pc := 57) (y := yJ14_min) (bytes := cJ14_min) (maxL := 2) (ret := (some .int)) (fr := 0) (lo := 0) (as := [gi (9 : Int32), gi v1]) (st := []) gy_J14_min (gbl rfl) (gbl rfl) (gbl rfl) q880 q656 dX1_mostOf_57 K hM R e1 e2) fun v2 h3 => ?_
    refine g_goto (pc := 60) (tgt := 70) rfl dX1_mostOf_60 ?_
    exact g_ireturn (pc := 70) rfl dX1_mostOf_70
  · refine g_bipush (pc := 63) (v := (30 : Int32)) bc_30 dX1_mostOf_63 ?_
    refine g_goto (pc := 65) (tgt := 70) rfl dX1_mostOf_65 ?_
    exact g_ireturn (pc := 70) rfl dX1_mostOf_70
/-! FlareSlopes$Parser.number(II)I -/
noncomputable def sX4_number (G : GG) (N : Nat) (a0 : Option Nat) (a1 : Int32) (a2 : Int32) (h : Hp) : Out (Int32) :=
  gFi h a0 12 4 fun v1 =>
  gJ (fun (x2 : Int32) (h3 : Hp) =>
  bV h3 a0 12 (fun q17 => sX4_check G N (some q17) x2 (1 : Int32) h3) fun v5 h6 =>
  gFi h6 a0 12 5 fun v7 =>
  bnd (sX1_in G N v7 a1 a2 h6) fun v8 h9 =>
  bV h9 a0 12 (fun q16 => sX4_check G N (some q16) v8 (2 : Int32) h9) fun v10 h11 =>
  gFi h11 a0 12 5 fun v12 =>
  bV h11 a0 12 (fun q15 => sX4_step G N (some q15) h11) fun v13 h14 =>
  some (.inl v12, h14)) fun j4 =>
  if v1 = (1 : Int32) then (j4 (1 : Int32) h)
  else j4 (0 : Int32) h
abbrev mX4_number : MI := (RX4, cX4_number, 4, (some .int), [], 5, 104, "number")
theorem tX4_number {G : GG} {l : Launch} (hs : l.stackTraces = false) {N : Nat} {a0 : Option Nat} {a1 : Int32} {a2 : Int32} {h : Hp} {r : Int32 ⊕ Nat} {hf : Hp} (ho : sX4_number G N a0 a1 a2 h = some (r, hf)) : gMet G l yX4_number (ws_ yX4_number cX4_number 4 (some .int)) 5 104 [gr a0, gi a1, gi a2] h cvI r hf := by
  refine gMet.of ho hs (plainFor_of_name pn_X4) rfl rfl (gbl rfl) fun X => ?_
  show gT G l X mX4_number cvI r hf 0 [(0, gr a0), (1, gi a1), (2, gi a2)] [] h (sX4_number G N a0 a1 a2 h)
  delta sX4_number
  refine g_aload_n (pc := 0) (x := a0) 0 rfl rfl dX4_number_0 ?_
  refine g_aload_n (pc := 1) (x := a0) 0 rfl rfl dX4_number_1 ?_
  refine g_getfi (pc := 2) k_12 (gblt rfl) lk_X4_47_12 dX4_number_2 fun v1 => ?_
  refine g_iconst (pc := 5) (v := (1 : Int32)) ic_1 dX4_number_5 ?_
  refine g_join 14 (fun (x2 : Int32) => [(0, gr a0), (1, gi a1), (2, gi a2)]) (fun (x2 : Int32) => [gi x2, gr a0]) (fun x2 h3 => ?_) (fun j4 Hj4 => ?_)
  · refine g_iconst (pc := 14) (v := (1 : Int32)) ic_1 dX4_number_14 ?_
    refine g_bVu (pc := 15) (y := yX4_check) (ws := ws_ yX4_check cX4_check 3 none) (fr := 4) (lo := 82) (as := [gi x2, gi (1 : Int32)]) (st := []) (g_no) rfl (fun _ _ _ e => tX4_check hs e) (fun K _ _ _ hq hM R e1 e2 => g_runV (M := mX4_number) (pc := 15) (y := yX4_check) (bytes := cX4_check) (maxL := 3) (ret := none) (fr := 4) (lo := 82) (as := [gi x2, gi (1 : Int32)]) (st := []) hq (C := "FlareSlopes$Parser") rfl gy_X4_check (gbl rfl) (gbl rfl) (gbl rfl) q585 q587 qs6 dX4_number_15 K hM R e1 e2) fun v5 h6 => ?_
    refine g_aload_n (pc := 18) (x := a0) 0 rfl rfl dX4_number_18 ?_
    refine g_aload_n (pc := 19) (x := a0) 0 rfl rfl dX4_number_19 ?_
    refine g_getfi (pc := 20) k_12 (gblt rfl) lk_X4_54_12 dX4_number_20 fun v7 => ?_
    refine g_iload_n (pc := 23) (x := a1) 1 rfl rfl dX4_number_23 ?_
    refine g_iload_n (pc := 24) (x := a2) 2 rfl rfl dX4_number_24 ?_
    refine g_bi (pc := 25) (y := yX1_in) (ws := ws_ yX1_in cX1_in 3 (some .boolean)) (fr := 0) (lo := 0) (as := [gi v7, gi a1, gi a2]) (st := [gr a0]) (g_no) rfl (fun _ _ e => tX1_in hs e) (fun K _ _ hM R e1 e2 => g_runSN (M := mX4_number) (pc := 25) (y := yX1_in) (bytes := cX1_in) (maxL := 3) (ret := (some .boolean)) (fr := 0) (lo := 0) (as := [gi v7, gi a1, gi a2]) (st := [gr a0]) gy_X1_in (gbl rfl) (gbl rfl) (gbl rfl) q545 q414 dX4_number_25 K hM R e1 e2) fun v8 h9 => ?_
    refine g_iconst (pc := 28) (v := (2 : Int32)) ic_2 dX4_number_28 ?_
    refine g_bVu (pc := 29) (y := yX4_check) (ws := ws_ yX4_check cX4_check 3 none) (fr := 4) (lo := 82) (as := [gi v8, gi (2 : Int32)]) (st := []) (g_no) rfl (fun _ _ _ e => tX4_check hs e) (fun K _ _ _ hq hM R e1 e2 => g_runV (M := mX4_number) (pc := 29) (y := yX4_check) (bytes := cX4_check) (maxL := 3) (ret := none) (fr := 4) (lo := 82) (as := [gi v8, gi (2 : Int32)]) (st := []) hq (C := "FlareSlopes$Parser") rfl gy_X4_check (gbl rfl) (gbl rfl) (gbl rfl) q585 q587 qs6 dX4_number_29 K hM R e1 e2) fun v10 h11 => ?_
    refine g_aload_n (pc := 32) (x := a0) 0 rfl rfl dX4_number_32 ?_
    refine g_getfi (pc := 33) k_12 (gblt rfl) lk_X4_54_12 dX4_number_33 fun v12 => ?_
    refine g_istore_n (pc := 36) (lv' := [(3, gi v12), (0, gr a0)]) [0, 1] rfl rfl (gblt rfl) dX4_number_36 ?_
    refine g_aload_n (pc := 37) (x := a0) 1 rfl rfl dX4_number_37 ?_
    refine g_bVu (pc := 38) (y := yX4_step) (ws := ws_ yX4_step cX4_step 3 none) (fr := 2) (lo := 46) (as := []) (st := []) (g_no) rfl (fun _ _ _ e => tX4_step hs e) (fun K _ _ _ hq hM R e1 e2 => g_runV (M := mX4_number) (pc := 38) (y := yX4_step) (bytes := cX4_step) (maxL := 3) (ret := none) (fr := 2) (lo := 46) (as := []) (st := []) hq (C := "FlareSlopes$Parser") rfl gy_X4_step (gbl rfl) (gbl rfl) (gbl rfl) q537 q539 qs1 dX4_number_38 K hM R e1 e2) fun v13 h14 => ?_
    refine g_iload_n (pc := 41) (x := v12) 0 rfl rfl dX4_number_41 ?_
    exact g_ireturn (pc := 42) rfl dX4_number_42
  refine g_icmp_ne (pc := 6) (tgt := 13) rfl dX4_number_6 ?_ ?_
  rotate_left
  · refine g_iconst (pc := 13) (v := (0 : Int32)) ic_0 dX4_number_13 ?_
    exact Hj4 (0 : Int32) h
  refine g_iconst (pc := 9) (v := (1 : Int32)) ic_1 dX4_number_9 ?_
  refine g_goto (pc := 10) (tgt := 14) rfl dX4_number_10 ?_
  exact Hj4 (1 : Int32) h
/-! FlareSlopes$Parser.setting(I)V -/
noncomputable def sX4_setting (G : GG) (N : Nat) (a0 : Option Nat) (a1 : Int32) (h : Hp) : Out (Unit) :=
  gFr h a0 12 1 fun v1 =>
  gFr h v1 11 4 fun v2 =>
  gFr h a0 12 1 fun v3 =>
  gFr h v3 11 4 fun v4 =>
  bnd (sX1_leastOf G N a1 v4 h) fun v5 h6 =>
  gFr h6 a0 12 1 fun v7 =>
  gFr h6 v7 11 4 fun v8 =>
  bnd (sX1_mostOf G N a1 v8 h6) fun v9 h10 =>
  bV h10 a0 12 (fun q14 => sX4_number G N (some q14) v5 v9 h10) fun v11 h12 =>
  gSi G h12 v2 0 a1 v11 fun h13 =>
  some (.inl (), h13)
abbrev mX4_setting : MI := (RX4, cX4_setting, 2, none, [], 6, 127, "setting")
theorem tX4_setting {G : GG} {l : Launch} (hs : l.stackTraces = false) {N : Nat} {a0 : Option Nat} {a1 : Int32} {h : Hp} {r : Unit ⊕ Nat} {hf : Hp} (ho : sX4_setting G N a0 a1 h = some (r, hf)) : gMet G l yX4_setting (ws_ yX4_setting cX4_setting 2 none) 6 127 [gr a0, gi a1] h cvU r hf := by
  refine gMet.of ho hs (plainFor_of_name pn_X4) rfl rfl (gbl rfl) fun X => ?_
  show gT G l X mX4_setting cvU r hf 0 [(0, gr a0), (1, gi a1)] [] h (sX4_setting G N a0 a1 h)
  delta sX4_setting
  refine g_aload_n (pc := 0) (x := a0) 0 rfl rfl dX4_setting_0 ?_
  refine g_getfr (pc := 1) k_12 (gblt rfl) lk_X4_18_12 dX4_setting_1 fun v1 => ?_
  refine g_getfr (pc := 4) k_11 (gblt rfl) lk_X4_162_11 dX4_setting_4 fun v2 => ?_
  refine g_iload_n (pc := 7) (x := a1) 1 rfl rfl dX4_setting_7 ?_
  refine g_aload_n (pc := 8) (x := a0) 0 rfl rfl dX4_setting_8 ?_
  refine g_iload_n (pc := 9) (x := a1) 1 rfl rfl dX4_setting_9 ?_
  refine g_aload_n (pc := 10) (x := a0) 0 rfl rfl dX4_setting_10 ?_
  refine g_getfr (pc := 11) k_12 (gblt rfl) lk_X4_18_12 dX4_setting_11 fun v3 => ?_
  refine g_getfr (pc := 14) k_11 (gblt rfl) lk_X4_162_11 dX4_setting_14 fun v4 => ?_
  refine g_bi (pc := 17) (y := yX1_leastOf) (ws := ws_ yX1_leastOf cX1_leastOf 2 (some .int)) (fr := 0) (lo := 0) (as := [gi a1, gr v4]) (st := [gr a0, gi a1, gr v2]) (g_no) rfl (fun _ _ e => tX1_leastOf hs e) (fun K _ _ hM R e1 e2 => g_runSN (M := mX4_setting) (pc := 17) (y := yX1_leastOf) (bytes := cX1_leastOf) (maxL := 2) (ret := (some .int)) (fr := 0) (lo := 0) (as := [gi a1, gr v4]) (st := [gr a0, gi a1, gr v2]) gy_X1_leastOf (gbl rfl) (gbl rfl) (gbl rfl) q874 q875 dX4_setting_17 K hM R e1 e2) fun v5 h6 => ?_
  refine g_iload_n (pc := 20) (x := a1) 1 rfl rfl dX4_setting_20 ?_
  refine g_aload_n (pc := 21) (x := a0) 0 rfl rfl dX4_setting_21 ?_
  refine g_getfr (pc := 22) k_12 (gblt rfl) lk_X4_18_12 dX4_setting_22 fun v7 => ?_
  refine g_getfr (pc := 25) k_11 (gblt rfl) lk_X4_162_11 dX4_setting_25 fun v8 => ?_
  refine g_bi (pc := 28) (y := yX1_mostOf) (ws := ws_ yX1_mostOf cX1_mostOf 2 (some .int)) (fr := 1) (lo := 21) (as := [gi a1, gr v8]) (st := [gi v5, gr a0, gi a1, gr v2]) (g_no) rfl (fun _ _ e => tX1_mostOf hs e) (fun K _ _ hM R e1 e2 => g_runSN (M := mX4_setting) (pc := 28) (y := yX1_mostOf) (bytes := cX1_mostOf) (maxL := 2) (ret := (some .int)) (fr := 1) (lo := 21) (as := [gi a1, gr v8]) (st := [gi v5, gr a0, gi a1, gr v2]) gy_X1_mostOf (gbl rfl) (gbl rfl) (gbl rfl) q877 q878 dX4_setting_28 K hM R e1 e2) fun v9 h10 => ?_
  refine g_bVi (pc := 31) (y := yX4_number) (ws := ws_ yX4_number cX4_number 4 (some .int)) (fr := 5) (lo := 104) (as := [gi v5, gi v9]) (st := [gi a1, gr v2]) (g_no) rfl (fun _ _ _ e => tX4_number hs e) (fun K _ _ _ hq hM R e1 e2 => g_runV (M := mX4_setting) (pc := 31) (y := yX4_number) (bytes := cX4_number) (maxL := 4) (ret := (some .int)) (fr := 5) (lo := 104) (as := [gi v5, gi v9]) (st := [gi a1, gr v2]) hq (C := "FlareSlopes$Parser") rfl gy_X4_number (gbl rfl) (gbl rfl) (gbl rfl) q881 q883 qs8 dX4_setting_31 K hM R e1 e2) fun v11 h12 => ?_
  refine g_iastore (pc := 34) rfl dX4_setting_34 fun h13 => ?_
  exact g_return (pc := 35) rfl dX4_setting_35
/-! java/lang/String.isLatin1()Z -/
noncomputable def sJ4_isLatin1 (G : GG) (N : Nat) (a0 : Option Nat) (h : Hp) : Out (Int32) :=
  gJ (fun (x1 : Unit) (h2 : Hp) =>
  gRtZ (0 : Int32) h2) fun j3 =>
  if (1 : Int32) = 0 then (j3 () h)
  else gFi h a0 20 1 fun v4 =>
  if v4 = 0 then (gRtZ (1 : Int32) h)
  else j3 () h
abbrev mJ4_isLatin1 : MI := (RJ4, cJ4_isLatin1, 1, (some .boolean), [], 0, 0, "isLatin1")
theorem tJ4_isLatin1 {G : GG} {l : Launch} (hs : l.stackTraces = false) {N : Nat} {a0 : Option Nat} {h : Hp} {r : Int32 ⊕ Nat} {hf : Hp} (ho : sJ4_isLatin1 G N a0 h = some (r, hf)) : gMet G l yJ4_isLatin1 (ws_ yJ4_isLatin1 cJ4_isLatin1 1 (some .boolean)) 0 0 [gr a0] h cvI r hf := by
  refine gMet.of ho hs (plainFor_of_name pn_J4) rfl rfl (gbl rfl) fun X => ?_
  show gT G l X mJ4_isLatin1 cvI r hf 0 [(0, gr a0)] [] h (sJ4_isLatin1 G N a0 h)
  delta sJ4_isLatin1
  refine g_gets (pc := 0) (sv := .inl (.int 1)) (w := gi (1 : Int32)) sfl_0 rfl ⟨Or.inl q817, Or.inl rfl⟩ dJ4_isLatin1_0 ?_
  refine g_join 17 (fun (x1 : Unit) => []) (fun (x1 : Unit) => []) (fun x1 h2 => ?_) (fun j3 Hj3 => ?_)
  · refine g_iconst (pc := 17) (v := (0 : Int32)) ic_0 dJ4_isLatin1_17 ?_
    exact g_zreturn (pc := 18) rfl dJ4_isLatin1_18
  refine g_if_eq (pc := 3) (tgt := 17) rfl dJ4_isLatin1_3 ?_ ?_
  · exact g_sub [] rfl (Hj3 () h)
  refine g_aload_n (pc := 6) (x := a0) 0 rfl rfl dJ4_isLatin1_6 ?_
  refine g_getfi (pc := 7) k_20 (gblt rfl) lk_J4_15_20 dJ4_isLatin1_7 fun v4 => ?_
  refine g_if_ne (pc := 10) (tgt := 17) rfl dJ4_isLatin1_10 ?_ ?_
  rotate_left
  · exact g_sub [] rfl (Hj3 () h)
  refine g_iconst (pc := 13) (v := (1 : Int32)) ic_1 dJ4_isLatin1_13 ?_
  refine g_goto (pc := 14) (tgt := 18) rfl dJ4_isLatin1_14 ?_
  exact g_zreturn (pc := 18) rfl dJ4_isLatin1_18
/-! jdk/internal/util/ArraysSupport.signedHashCode(I[BII)I -/
noncomputable def bJ13_signedHashCode_8 (G : GG) (N : Nat) (a1 : Option Nat) (v1 : Int32) (w4 : (Int32 × Int32) → Hp → Out (Int32)) (x2 : Int32 × Int32) (h3 : Hp) : Out (Int32) :=
  if v1 ≤ x2.2 then (some (.inl x2.1, h3))
  else gAi h3 a1 1 x2.2 fun v5 =>
  gLet (((31 : Int32) * x2.1) + (v5 &&& (255 : Int32))) fun v6 =>
  w4 (v6, x2.2 + (1 : Int32)) h3
noncomputable def sJ13_signedHashCode (G : GG) (N : Nat) (a0 : Int32) (a1 : Option Nat) (a2 : Int32) (a3 : Int32) (h : Hp) : Out (Int32) :=
  gLet (a2 + a3) fun v1 =>
  gLp (bJ13_signedHashCode_8 G N a1 v1) N (a0, a2) h
abbrev mJ13_signedHashCode : MI := (RJ13, cJ13_signedHashCode, 6, (some .int), [], 0, 0, "signedHashCode")
theorem tJ13_signedHashCode {G : GG} {l : Launch} (hs : l.stackTraces = false) {N : Nat} {a0 : Int32} {a1 : Option Nat} {a2 : Int32} {a3 : Int32} {h : Hp} {r : Int32 ⊕ Nat} {hf : Hp} (ho : sJ13_signedHashCode G N a0 a1 a2 a3 h = some (r, hf)) : gMet G l yJ13_signedHashCode (ws_ yJ13_signedHashCode cJ13_signedHashCode 6 (some .int)) 0 0 [gi a0, gr a1, gi a2, gi a3] h cvI r hf := by
  refine gMet.of ho hs (plainFor_of_name pn_J13) rfl rfl (gbl rfl) fun X => ?_
  show gT G l X mJ13_signedHashCode cvI r hf 0 [(0, gi a0), (1, gr a1), (2, gi a2), (3, gi a3)] [] h (sJ13_signedHashCode G N a0 a1 a2 a3 h)
  delta sJ13_signedHashCode
  refine g_iload_n (pc := 0) (x := a2) 2 rfl rfl dJ13_signedHashCode_0 ?_
  refine g_iload_n (pc := 1) (x := a3) 3 rfl rfl dJ13_signedHashCode_1 ?_
  refine g_iadd (pc := 2) dJ13_signedHashCode_2 ?_
  refine g_leti fun v1 => ?_
  refine g_istore (pc := 3) (lv' := [(4, gi v1), (0, gi a0), (1, gr a1), (2, gi a2)]) [0, 1, 2, 3] rfl (gblt rfl) dJ13_signedHashCode_3 ?_
  refine g_iload_n (pc := 5) (x := a2) 3 rfl rfl dJ13_signedHashCode_5 ?_
  refine g_istore (pc := 6) (lv' := [(5, gi a2), (4, gi v1), (0, gi a0), (1, gr a1)]) [0, 1, 2, 3] rfl (gblt rfl) dJ13_signedHashCode_6 ?_
  refine g_sub (lv' := [(0, gi a0), (1, gr a1), (4, gi v1), (5, gi a2)]) [2, 3, 1, 0] rfl ?_
  refine g_loop (pc := 8) (fun (x2 : Int32 × Int32) => [(0, gi x2.1), (1, gr a1), (4, gi v1), (5, gi x2.2)]) (fun (_ : Int32 × Int32) => []) (fun w4 Hw4 x2 h3 => ?_) N (a0, a2) h
  delta bJ13_signedHashCode_8
  refine g_iload (pc := 8) (x := x2.2) 3 rfl dJ13_signedHashCode_8 ?_
  refine g_iload (pc := 10) (x := v1) 2 rfl dJ13_signedHashCode_10 ?_
  refine g_icmp_ge (pc := 12) (tgt := 35) rfl dJ13_signedHashCode_12 ?_ ?_
  · refine g_iload_n (pc := 35) (x := x2.1) 0 rfl rfl dJ13_signedHashCode_35 ?_
    exact g_ireturn (pc := 36) rfl dJ13_signedHashCode_36
  refine g_bipush (pc := 15) (v := (31 : Int32)) bc_31 dJ13_signedHashCode_15 ?_
  refine g_iload_n (pc := 17) (x := x2.1) 0 rfl rfl dJ13_signedHashCode_17 ?_
  refine g_imul (pc := 18) dJ13_signedHashCode_18 ?_
  refine g_aload_n (pc := 19) (x := a1) 1 rfl rfl dJ13_signedHashCode_19 ?_
  refine g_iload (pc := 20) (x := x2.2) 3 rfl dJ13_signedHashCode_20 ?_
  refine g_baload (pc := 22) rfl dJ13_signedHashCode_22 fun v5 => ?_
  refine g_sipush (pc := 23) (v := (255 : Int32)) sc_255 dJ13_signedHashCode_23 ?_
  refine g_iand (pc := 26) dJ13_signedHashCode_26 ?_
  refine g_iadd (pc := 27) dJ13_signedHashCode_27 ?_
  refine g_leti fun v6 => ?_
  refine g_istore_n (pc := 28) (lv' := [(0, gi v6), (1, gr a1), (4, gi v1), (5, gi x2.2)]) [0, 1, 2, 3] rfl rfl (gblt rfl) dJ13_signedHashCode_28 ?_
  refine g_iinc (pc := 29) (v := x2.2 + (1 : Int32)) 3 rfl (ii_1 _) (lv' := [(5, gi (x2.2 + (1 : Int32))), (0, gi v6), (1, gr a1), (4, gi v1)]) [0, 1, 2, 3] rfl (gblt rfl) dJ13_signedHashCode_29 ?_
  refine g_goto (pc := 32) (tgt := 8) rfl dJ13_signedHashCode_32 ?_
  exact g_sub [1, 2, 3, 0] rfl (Hw4 (v6, x2.2 + (1 : Int32)) h3)
/-! jdk/internal/util/ArraysSupport.vectorizedHashCode(Ljava/lang/Object;IIII)I -/
noncomputable def sJ13_vectorizedHashCode (G : GG) (N : Nat) (a0 : Option Nat) (a1 : Int32) (a2 : Int32) (a3 : Int32) (a4 : Int32) (h : Hp) : Out (Int32) :=
  gSel a4 [((4 : Int32), gCkA G h a0 1 (bnd (sJ13_signedHashCode G N a3 a0 a1 a2 h) fun v1 h2 =>
  some (.inl v1, h2))),
  ((5 : Int32), none),
  ((8 : Int32), none),
  ((9 : Int32), none),
  ((10 : Int32), none)] (none)
abbrev mJ13_vectorizedHashCode : MI := (RJ13, cJ13_vectorizedHashCode, 5, (some .int), [], 1, 25, "vectorizedHashCode")
theorem tJ13_vectorizedHashCode {G : GG} {l : Launch} (hs : l.stackTraces = false) {N : Nat} {a0 : Option Nat} {a1 : Int32} {a2 : Int32} {a3 : Int32} {a4 : Int32} {h : Hp} {r : Int32 ⊕ Nat} {hf : Hp} (ho : sJ13_vectorizedHashCode G N a0 a1 a2 a3 a4 h = some (r, hf)) : gMet G l yJ13_vectorizedHashCode (ws_ yJ13_vectorizedHashCode cJ13_vectorizedHashCode 5 (some .int)) 1 25 [gr a0, gi a1, gi a2, gi a3, gi a4] h cvI r hf := by
  refine gMet.of ho hs (plainFor_of_name pn_J13) rfl rfl (gbl rfl) fun X => ?_
  show gT G l X mJ13_vectorizedHashCode cvI r hf 0 [(0, gr a0), (1, gi a1), (2, gi a2), (3, gi a3), (4, gi a4)] [] h (sJ13_vectorizedHashCode G N a0 a1 a2 a3 a4 h)
  delta sJ13_vectorizedHashCode
  refine g_iload (pc := 0) (x := a4) 4 rfl dJ13_vectorizedHashCode_0 ?_
  refine g_tableswitch (pc := 2) (td := 129) [((4 : Int32), 44), ((5 : Int32), 57), ((8 : Int32), 90), ((9 : Int32), 103), ((10 : Int32), 116)] (by decide +kernel) dJ13_vectorizedHashCode_2 ?_ (g_all_cons ?_ (g_all_cons ?_ (g_all_cons ?_ (g_all_cons ?_ (g_all_cons ?_ g_all_nil)))))
  · exact g_none
  · refine g_iload_n (pc := 44) (x := a3) 3 rfl rfl dJ13_vectorizedHashCode_44 ?_
    refine g_aload_n (pc := 45) (x := a0) 0 rfl rfl dJ13_vectorizedHashCode_45 ?_
    refine g_checkcastA (pc := 46) rfl q904 (fun _ _ h => h) dJ13_vectorizedHashCode_46 ?_
    refine g_iload_n (pc := 49) (x := a1) 1 rfl rfl dJ13_vectorizedHashCode_49 ?_
    refine g_iload_n (pc := 50) (x := a2) 2 rfl rfl dJ13_vectorizedHashCode_50 ?_
    refine g_bi (pc := 51) (y := yJ13_signedHashCode) (ws := ws_ yJ13_signedHashCode cJ13_signedHashCode 6 (some .int)) (fr := 0) (lo := 0) (as := [gi a3, gr a0, gi a1, gi a2]) (st := []) (g_no) rfl (fun _ _ e => tJ13_signedHashCode hs e) (fun K _ _ hM R e1 e2 => g_runS (M := mJ13_vectorizedHashCode) (pc := 51) (y := yJ13_signedHashCode) (bytes := cJ13_signedHashCode) (maxL := 6) (ret := (some .int)) (fr := 0) (lo := 0) (as := [gi a3, gr a0, gi a1, gi a2]) (st := []) gy_J13_signedHashCode (gbl rfl) (gbl rfl) (gbl rfl) q905 q906 dJ13_vectorizedHashCode_51 K hM R e1 e2) fun v1 h2 => ?_
    refine g_goto (pc := 54) (tgt := 157) rfl dJ13_vectorizedHashCode_54 ?_
    exact g_ireturn (pc := 157) rfl dJ13_vectorizedHashCode_157
  · exact g_none
  · exact g_none
  · exact g_none
  · exact g_none
/-! java/lang/StringLatin1.hashCode([B)I -/
noncomputable def sJ16_hashCode (G : GG) (N : Nat) (a0 : Option Nat) (h : Hp) : Out (Int32) :=
  gLen h a0 fun v1 =>
  gSel v1 [((0 : Int32), some (.inl (0 : Int32), h)),
  ((1 : Int32), gAi h a0 1 (0 : Int32) fun v5 =>
  some (.inl (v5 &&& (255 : Int32)), h))] (gLen h a0 fun v2 =>
  bnd (sJ13_vectorizedHashCode G N a0 (0 : Int32) v2 (0 : Int32) (4 : Int32) h) fun v3 h4 =>
  some (.inl v3, h4))
abbrev mJ16_hashCode : MI := (RJ16, cJ16_hashCode, 1, (some .int), [], 2, 49, "hashCode")
theorem tJ16_hashCode {G : GG} {l : Launch} (hs : l.stackTraces = false) {N : Nat} {a0 : Option Nat} {h : Hp} {r : Int32 ⊕ Nat} {hf : Hp} (ho : sJ16_hashCode G N a0 h = some (r, hf)) : gMet G l yJ16_hashCode (ws_ yJ16_hashCode cJ16_hashCode 1 (some .int)) 2 49 [gr a0] h cvI r hf := by
  refine gMet.of ho hs (plainFor_of_name pn_J16) rfl rfl (gbl rfl) fun X => ?_
  show gT G l X mJ16_hashCode cvI r hf 0 [(0, gr a0)] [] h (sJ16_hashCode G N a0 h)
  delta sJ16_hashCode
  refine g_aload_n (pc := 0) (x := a0) 0 rfl rfl dJ16_hashCode_0 ?_
  refine g_alen (pc := 1) dJ16_hashCode_1 fun v1 => ?_
  refine g_lookupswitch (pc := 2) (td := 42) [((0 : Int32), 28), ((1 : Int32), 32)] (by decide +kernel) dJ16_hashCode_2 ?_ (g_all_cons ?_ (g_all_cons ?_ g_all_nil))
  · refine g_aload_n (pc := 42) (x := a0) 0 rfl rfl dJ16_hashCode_42 ?_
    refine g_iconst (pc := 43) (v := (0 : Int32)) ic_0 dJ16_hashCode_43 ?_
    refine g_aload_n (pc := 44) (x := a0) 0 rfl rfl dJ16_hashCode_44 ?_
    refine g_alen (pc := 45) dJ16_hashCode_45 fun v2 => ?_
    refine g_iconst (pc := 46) (v := (0 : Int32)) ic_0 dJ16_hashCode_46 ?_
    refine g_iconst (pc := 47) (v := (4 : Int32)) ic_4 dJ16_hashCode_47 ?_
    refine g_bi (pc := 48) (y := yJ13_vectorizedHashCode) (ws := ws_ yJ13_vectorizedHashCode cJ13_vectorizedHashCode 5 (some .int)) (fr := 1) (lo := 25) (as := [gr a0, gi (0 : Int32), gi v2, gi (0 : Int32), gi (4 : Int32)]) (st := []) (g_no) rfl (fun _ _ e => tJ13_vectorizedHashCode hs e) (fun K _ _ hM R e1 e2 => g_runS (M := mJ16_hashCode) (pc := 48) (y := yJ13_vectorizedHashCode) (bytes := cJ13_vectorizedHashCode) (maxL := 5) (ret := (some .int)) (fr := 1) (lo := 25) (as := [gr a0, gi (0 : Int32), gi v2, gi (0 : Int32), gi (4 : Int32)]) (st := []) gy_J13_vectorizedHashCode (gbl rfl) (gbl rfl) (gbl rfl) q901 q902 dJ16_hashCode_48 K hM R e1 e2) fun v3 h4 => ?_
    exact g_ireturn (pc := 51) rfl dJ16_hashCode_51
  · refine g_iconst (pc := 28) (v := (0 : Int32)) ic_0 dJ16_hashCode_28 ?_
    refine g_goto (pc := 29) (tgt := 51) rfl dJ16_hashCode_29 ?_
    exact g_ireturn (pc := 51) rfl dJ16_hashCode_51
  · refine g_aload_n (pc := 32) (x := a0) 0 rfl rfl dJ16_hashCode_32 ?_
    refine g_iconst (pc := 33) (v := (0 : Int32)) ic_0 dJ16_hashCode_33 ?_
    refine g_baload (pc := 34) rfl dJ16_hashCode_34 fun v5 => ?_
    refine g_sipush (pc := 35) (v := (255 : Int32)) sc_255 dJ16_hashCode_35 ?_
    refine g_iand (pc := 38) dJ16_hashCode_38 ?_
    refine g_goto (pc := 39) (tgt := 51) rfl dJ16_hashCode_39 ?_
    exact g_ireturn (pc := 51) rfl dJ16_hashCode_51
/-! java/lang/String.hashCode()I -/
noncomputable def sJ4_hashCode (G : GG) (N : Nat) (a0 : Option Nat) (h : Hp) : Out (Int32) :=
  gFi h a0 20 2 fun v1 =>
  if v1 = 0 then (gFi h a0 20 3 fun v2 =>
  if v2 = 0 then (bV h a0 20 (fun q10 => sJ4_isLatin1 G N (some q10) h) fun v3 h4 =>
  if v3 = 0 then (none)
  else gFr h4 a0 20 0 fun v5 =>
  bnd (sJ16_hashCode G N v5 h4) fun v6 h7 =>
  if v6 = 0 then (gPz G h7 a0 20 3 (1 : Int32) fun h9 =>
  some (.inl v6, h9))
  else gP G h7 a0 20 2 (.int v6) fun h8 =>
  some (.inl v6, h8))
  else some (.inl v1, h))
  else some (.inl v1, h)
abbrev mJ4_hashCode : MI := (RJ4, cJ4_hashCode, 2, (some .int), [], 3, 69, "hashCode")
theorem tJ4_hashCode {G : GG} {l : Launch} (hs : l.stackTraces = false) {N : Nat} {a0 : Option Nat} {h : Hp} {r : Int32 ⊕ Nat} {hf : Hp} (ho : sJ4_hashCode G N a0 h = some (r, hf)) : gMet G l yJ4_hashCode (ws_ yJ4_hashCode cJ4_hashCode 2 (some .int)) 3 69 [gr a0] h cvI r hf := by
  refine gMet.of ho hs (plainFor_of_name pn_J4) rfl rfl (gbl rfl) fun X => ?_
  show gT G l X mJ4_hashCode cvI r hf 0 [(0, gr a0)] [] h (sJ4_hashCode G N a0 h)
  delta sJ4_hashCode
  refine g_aload_n (pc := 0) (x := a0) 0 rfl rfl dJ4_hashCode_0 ?_
  refine g_getfi (pc := 1) k_20 (gblt rfl) lk_J4_19_20 dJ4_hashCode_1 fun v1 => ?_
  refine g_istore_n (pc := 4) (lv' := [(1, gi v1), (0, gr a0)]) [0, 1] rfl rfl (gblt rfl) dJ4_hashCode_4 ?_
  refine g_iload_n (pc := 5) (x := v1) 0 rfl rfl dJ4_hashCode_5 ?_
  refine g_if_ne (pc := 6) (tgt := 58) rfl dJ4_hashCode_6 ?_ ?_
  rotate_left
  · refine g_iload_n (pc := 58) (x := v1) 0 rfl rfl dJ4_hashCode_58 ?_
    exact g_ireturn (pc := 59) rfl dJ4_hashCode_59
  refine g_aload_n (pc := 9) (x := a0) 1 rfl rfl dJ4_hashCode_9 ?_
  refine g_getfi (pc := 10) k_20 (gblt rfl) lk_J4_23_20 dJ4_hashCode_10 fun v2 => ?_
  refine g_if_ne (pc := 13) (tgt := 58) rfl dJ4_hashCode_13 ?_ ?_
  rotate_left
  · refine g_iload_n (pc := 58) (x := v1) 0 rfl rfl dJ4_hashCode_58 ?_
    exact g_ireturn (pc := 59) rfl dJ4_hashCode_59
  refine g_aload_n (pc := 16) (x := a0) 1 rfl rfl dJ4_hashCode_16 ?_
  refine g_bVi (pc := 17) (y := yJ4_isLatin1) (ws := ws_ yJ4_isLatin1 cJ4_isLatin1 1 (some .boolean)) (fr := 0) (lo := 0) (as := []) (st := []) (g_no) rfl (fun _ _ _ e => tJ4_isLatin1 hs e) (fun K _ _ _ hq hM R e1 e2 => g_runV (M := mJ4_hashCode) (pc := 17) (y := yJ4_isLatin1) (bytes := cJ4_isLatin1) (maxL := 1) (ret := (some .boolean)) (fr := 0) (lo := 0) (as := []) (st := []) hq (C := "java/lang/String") rfl gy_J4_isLatin1 (gbl rfl) (gbl rfl) (gbl rfl) q894 q895 q896 dJ4_hashCode_17 K hM R e1 e2) fun v3 h4 => ?_
  refine g_if_eq (pc := 20) (tgt := 33) rfl dJ4_hashCode_20 ?_ ?_
  · exact g_none
  refine g_aload_n (pc := 23) (x := a0) 1 rfl rfl dJ4_hashCode_23 ?_
  refine g_getfr (pc := 24) k_20 (gblt rfl) lk_J4_9_20 dJ4_hashCode_24 fun v5 => ?_
  refine g_bi (pc := 27) (y := yJ16_hashCode) (ws := ws_ yJ16_hashCode cJ16_hashCode 1 (some .int)) (fr := 2) (lo := 49) (as := [gr v5]) (st := []) (g_no) rfl (fun _ _ e => tJ16_hashCode hs e) (fun K _ _ hM R e1 e2 => g_runS (M := mJ4_hashCode) (pc := 27) (y := yJ16_hashCode) (bytes := cJ16_hashCode) (maxL := 1) (ret := (some .int)) (fr := 2) (lo := 49) (as := [gr v5]) (st := []) gy_J16_hashCode (gbl rfl) (gbl rfl) (gbl rfl) q898 q899 dJ4_hashCode_27 K hM R e1 e2) fun v6 h7 => ?_
  refine g_goto (pc := 30) (tgt := 40) rfl dJ4_hashCode_30 ?_
  refine g_istore_n (pc := 40) (lv' := [(1, gi v6), (0, gr a0)]) [0, 1] rfl rfl (gblt rfl) dJ4_hashCode_40 ?_
  refine g_iload_n (pc := 41) (x := v6) 0 rfl rfl dJ4_hashCode_41 ?_
  refine g_if_ne (pc := 42) (tgt := 53) rfl dJ4_hashCode_42 ?_ ?_
  rotate_left
  · refine g_aload_n (pc := 53) (x := a0) 1 rfl rfl dJ4_hashCode_53 ?_
    refine g_iload_n (pc := 54) (x := v6) 0 rfl rfl dJ4_hashCode_54 ?_
    refine g_put (pc := 55) k_20 (gblt rfl) lk_J4_19_20 rfl rfl (gNi _) dJ4_hashCode_55 fun h8 => ?_
    refine g_iload_n (pc := 58) (x := v6) 0 rfl rfl dJ4_hashCode_58 ?_
    exact g_ireturn (pc := 59) rfl dJ4_hashCode_59
  refine g_aload_n (pc := 45) (x := a0) 1 rfl rfl dJ4_hashCode_45 ?_
  refine g_iconst (pc := 46) (v := (1 : Int32)) ic_1 dJ4_hashCode_46 ?_
  refine g_putz (pc := 47) k_20 (gblt rfl) lk_J4_23_20 rfl rfl dJ4_hashCode_47 fun h9 => ?_
  refine g_goto (pc := 50) (tgt := 58) rfl dJ4_hashCode_50 ?_
  refine g_iload_n (pc := 58) (x := v6) 0 rfl rfl dJ4_hashCode_58 ?_
  exact g_ireturn (pc := 59) rfl dJ4_hashCode_59
/-! java/util/ArrayList.size()I -/
noncomputable def sJ12_size (G : GG) (N : Nat) (a0 : Option Nat) (h : Hp) : Out (Int32) :=
  gFi h a0 24 2 fun v1 =>
  some (.inl v1, h)
abbrev mJ12_size : MI := (RJ12, cJ12_size, 1, (some .int), [], 0, 0, "size")
theorem tJ12_size {G : GG} {l : Launch} (hs : l.stackTraces = false) {N : Nat} {a0 : Option Nat} {h : Hp} {r : Int32 ⊕ Nat} {hf : Hp} (ho : sJ12_size G N a0 h = some (r, hf)) : gMet G l yJ12_size (ws_ yJ12_size cJ12_size 1 (some .int)) 0 0 [gr a0] h cvI r hf := by
  refine gMet.of ho hs (plainFor_of_name pn_J12) rfl rfl (gbl rfl) fun X => ?_
  show gT G l X mJ12_size cvI r hf 0 [(0, gr a0)] [] h (sJ12_size G N a0 h)
  delta sJ12_size
  refine g_aload_n (pc := 0) (x := a0) 0 rfl rfl dJ12_size_0 ?_
  refine g_getfi (pc := 1) k_24 (gblt rfl) lk_J12_48_24 dJ12_size_1 fun v1 => ?_
  exact g_ireturn (pc := 4) rfl dJ12_size_4
/-! FlareSlopes$Register.size()I -/
noncomputable def sX6_size (G : GG) (N : Nat) (a0 : Option Nat) (h : Hp) : Out (Int32) :=
  gFr h a0 13 0 fun v1 =>
  bV h v1 24 (fun q4 => sJ12_size G N (some q4) h) fun v2 h3 =>
  some (.inl v2, h3)
abbrev mX6_size : MI := (RX6, cX6_size, 1, (some .int), [], 1, 20, "size")
theorem tX6_size {G : GG} {l : Launch} (hs : l.stackTraces = false) {N : Nat} {a0 : Option Nat} {h : Hp} {r : Int32 ⊕ Nat} {hf : Hp} (ho : sX6_size G N a0 h = some (r, hf)) : gMet G l yX6_size (ws_ yX6_size cX6_size 1 (some .int)) 1 20 [gr a0] h cvI r hf := by
  refine gMet.of ho hs (plainFor_of_name pn_X6) rfl rfl (gbl rfl) fun X => ?_
  show gT G l X mX6_size cvI r hf 0 [(0, gr a0)] [] h (sX6_size G N a0 h)
  delta sX6_size
  refine g_aload_n (pc := 0) (x := a0) 0 rfl rfl dX6_size_0 ?_
  refine g_getfr (pc := 1) k_13 (gblt rfl) lk_X6_12_13 dX6_size_1 fun v1 => ?_
  refine g_bVi (pc := 4) (y := yJ12_size) (ws := ws_ yJ12_size cJ12_size 1 (some .int)) (fr := 0) (lo := 0) (as := []) (st := []) (g_no) rfl (fun _ _ _ e => tJ12_size hs e) (fun K _ _ _ hq hM R e1 e2 => g_runF (x := ⟨"java/util/List", "size", "()I"⟩) (M := mX6_size) (pc := 4) (y := yJ12_size) (bytes := cJ12_size) (maxL := 1) (ret := (some .int)) (fr := 0) (lo := 0) (as := []) (st := []) hq (C := "java/util/ArrayList") rfl gy_J12_size rfl (gbl rfl) (gbl rfl) (gbl rfl) q968 q970 q969 q975 q973 q971 mhx_java_util_List q972 q974 dX6_size_4 K hM R e1 e2) fun v2 h3 => ?_
  exact g_ireturn (pc := 9) rfl dX6_size_9
/-! FlareSlopes$Register.isFull()Z -/
noncomputable def sX6_isFull (G : GG) (N : Nat) (a0 : Option Nat) (h : Hp) : Out (Int32) :=
  bV h a0 13 (fun q4 => sX6_size G N (some q4) h) fun v1 h2 =>
  gFi h2 a0 13 1 fun v3 =>
  if v1 = v3 then (gRtZ (1 : Int32) h2)
  else gRtZ (0 : Int32) h2
abbrev mX6_isFull : MI := (RX6, cX6_isFull, 1, (some .boolean), [], 2, 40, "isFull")
theorem tX6_isFull {G : GG} {l : Launch} (hs : l.stackTraces = false) {N : Nat} {a0 : Option Nat} {h : Hp} {r : Int32 ⊕ Nat} {hf : Hp} (ho : sX6_isFull G N a0 h = some (r, hf)) : gMet G l yX6_isFull (ws_ yX6_isFull cX6_isFull 1 (some .boolean)) 2 40 [gr a0] h cvI r hf := by
  refine gMet.of ho hs (plainFor_of_name pn_X6) rfl rfl (gbl rfl) fun X => ?_
  show gT G l X mX6_isFull cvI r hf 0 [(0, gr a0)] [] h (sX6_isFull G N a0 h)
  delta sX6_isFull
  refine g_aload_n (pc := 0) (x := a0) 0 rfl rfl dX6_isFull_0 ?_
  refine g_bVi (pc := 1) (y := yX6_size) (ws := ws_ yX6_size cX6_size 1 (some .int)) (fr := 1) (lo := 20) (as := []) (st := []) (g_no) rfl (fun _ _ _ e => tX6_size hs e) (fun K _ _ _ hq hM R e1 e2 => g_runV (M := mX6_isFull) (pc := 1) (y := yX6_size) (bytes := cX6_size) (maxL := 1) (ret := (some .int)) (fr := 1) (lo := 20) (as := []) (st := []) hq (C := "FlareSlopes$Register") rfl gy_X6_size (gbl rfl) (gbl rfl) (gbl rfl) q963 q964 q965 dX6_isFull_1 K hM R e1 e2) fun v1 h2 => ?_
  refine g_aload_n (pc := 4) (x := a0) 0 rfl rfl dX6_isFull_4 ?_
  refine g_getfi (pc := 5) k_13 (gblt rfl) lk_X6_18_13 dX6_isFull_5 fun v3 => ?_
  refine g_icmp_ne (pc := 8) (tgt := 15) rfl dX6_isFull_8 ?_ ?_
  rotate_left
  · refine g_iconst (pc := 15) (v := (0 : Int32)) ic_0 dX6_isFull_15 ?_
    exact g_zreturn (pc := 16) rfl dX6_isFull_16
  refine g_iconst (pc := 11) (v := (1 : Int32)) ic_1 dX6_isFull_11 ?_
  refine g_goto (pc := 12) (tgt := 16) rfl dX6_isFull_12 ?_
  exact g_zreturn (pc := 16) rfl dX6_isFull_16
/-! jdk/internal/util/Preconditions.checkIndex(IILjava/util/function/BiFunction;)I -/
noncomputable def sJ17_checkIndex (G : GG) (N : Nat) (a0 : Int32) (a1 : Int32) (a2 : Option Nat) (h : Hp) : Out (Int32) :=
  if a0 < 0 then (none)
  else if a0 < a1 then (some (.inl a0, h))
  else none
abbrev mJ17_checkIndex : MI := (RJ17, cJ17_checkIndex, 3, (some .int), [], 0, 0, "checkIndex")
theorem tJ17_checkIndex {G : GG} {l : Launch} (hs : l.stackTraces = false) {N : Nat} {a0 : Int32} {a1 : Int32} {a2 : Option Nat} {h : Hp} {r : Int32 ⊕ Nat} {hf : Hp} (ho : sJ17_checkIndex G N a0 a1 a2 h = some (r, hf)) : gMet G l yJ17_checkIndex (ws_ yJ17_checkIndex cJ17_checkIndex 3 (some .int)) 0 0 [gi a0, gi a1, gr a2] h cvI r hf := by
  refine gMet.of ho hs (plainFor_of_name pn_J17) rfl rfl (gbl rfl) fun X => ?_
  show gT G l X mJ17_checkIndex cvI r hf 0 [(0, gi a0), (1, gi a1), (2, gr a2)] [] h (sJ17_checkIndex G N a0 a1 a2 h)
  delta sJ17_checkIndex
  refine g_iload_n (pc := 0) (x := a0) 0 rfl rfl dJ17_checkIndex_0 ?_
  refine g_if_lt (pc := 1) (tgt := 9) rfl dJ17_checkIndex_1 ?_ ?_
  · exact g_none
  refine g_iload_n (pc := 4) (x := a0) 0 rfl rfl dJ17_checkIndex_4 ?_
  refine g_iload_n (pc := 5) (x := a1) 1 rfl rfl dJ17_checkIndex_5 ?_
  refine g_icmp_lt (pc := 6) (tgt := 16) rfl dJ17_checkIndex_6 ?_ ?_
  rotate_left
  · exact g_none
  refine g_iload_n (pc := 16) (x := a0) 0 rfl rfl dJ17_checkIndex_16 ?_
  exact g_ireturn (pc := 17) rfl dJ17_checkIndex_17
/-! java/util/Objects.checkIndex(II)I -/
noncomputable def sJ21_checkIndex (G : GG) (N : Nat) (a0 : Int32) (a1 : Int32) (h : Hp) : Out (Int32) :=
  bnd (sJ17_checkIndex G N a0 a1 none h) fun v1 h2 =>
  some (.inl v1, h2)
abbrev mJ21_checkIndex : MI := (RJ21, cJ21_checkIndex, 2, (some .int), [], 1, 22, "checkIndex")
theorem tJ21_checkIndex {G : GG} {l : Launch} (hs : l.stackTraces = false) {N : Nat} {a0 : Int32} {a1 : Int32} {h : Hp} {r : Int32 ⊕ Nat} {hf : Hp} (ho : sJ21_checkIndex G N a0 a1 h = some (r, hf)) : gMet G l yJ21_checkIndex (ws_ yJ21_checkIndex cJ21_checkIndex 2 (some .int)) 1 22 [gi a0, gi a1] h cvI r hf := by
  refine gMet.of ho hs (plainFor_of_name pn_J21) rfl rfl (gbl rfl) fun X => ?_
  show gT G l X mJ21_checkIndex cvI r hf 0 [(0, gi a0), (1, gi a1)] [] h (sJ21_checkIndex G N a0 a1 h)
  delta sJ21_checkIndex
  refine g_iload_n (pc := 0) (x := a0) 0 rfl rfl dJ21_checkIndex_0 ?_
  refine g_iload_n (pc := 1) (x := a1) 1 rfl rfl dJ21_checkIndex_1 ?_
  refine g_aconst_null (pc := 2) dJ21_checkIndex_2 ?_
  refine g_bi (pc := 3) (y := yJ17_checkIndex) (ws := ws_ yJ17_checkIndex cJ17_checkIndex 3 (some .int)) (fr := 0) (lo := 0) (as := [gi a0, gi a1, gr none]) (st := []) (g_no) rfl (fun _ _ e => tJ17_checkIndex hs e) (fun K _ _ hM R e1 e2 => g_runS (M := mJ21_checkIndex) (pc := 3) (y := yJ17_checkIndex) (bytes := cJ17_checkIndex) (maxL := 3) (ret := (some .int)) (fr := 0) (lo := 0) (as := [gi a0, gi a1, gr none]) (st := []) gy_J17_checkIndex (gbl rfl) (gbl rfl) (gbl rfl) q1001 q712 dJ21_checkIndex_3 K hM R e1 e2) fun v1 h2 => ?_
  exact g_ireturn (pc := 6) rfl dJ21_checkIndex_6
/-! java/util/ArrayList.elementData(I)Ljava/lang/Object; -/
noncomputable def sJ12_elementData (G : GG) (N : Nat) (a0 : Option Nat) (a1 : Int32) (h : Hp) : Out (Option Nat) :=
  gFr h a0 24 1 fun v1 =>
  gAr h v1 5 a1 fun v2 =>
  some (.inl v2, h)
abbrev mJ12_elementData : MI := (RJ12, cJ12_elementData, 2, (some (.object "java/lang/Object")), [], 0, 0, "elementData")
theorem tJ12_elementData {G : GG} {l : Launch} (hs : l.stackTraces = false) {N : Nat} {a0 : Option Nat} {a1 : Int32} {h : Hp} {r : Option Nat ⊕ Nat} {hf : Hp} (ho : sJ12_elementData G N a0 a1 h = some (r, hf)) : gMet G l yJ12_elementData (ws_ yJ12_elementData cJ12_elementData 2 (some (.object "java/lang/Object"))) 0 0 [gr a0, gi a1] h cvR r hf := by
  refine gMet.of ho hs (plainFor_of_name pn_J12) rfl rfl (gbl rfl) fun X => ?_
  show gT G l X mJ12_elementData cvR r hf 0 [(0, gr a0), (1, gi a1)] [] h (sJ12_elementData G N a0 a1 h)
  delta sJ12_elementData
  refine g_aload_n (pc := 0) (x := a0) 0 rfl rfl dJ12_elementData_0 ?_
  refine g_getfr (pc := 1) k_24 (gblt rfl) lk_J12_9_24 dJ12_elementData_1 fun v1 => ?_
  refine g_iload_n (pc := 4) (x := a1) 1 rfl rfl dJ12_elementData_4 ?_
  refine g_aaload (pc := 5) rfl dJ12_elementData_5 fun v2 => ?_
  exact g_areturn (pc := 6) rfl (Or.inl ⟨_, rfl⟩) dJ12_elementData_6
/-! java/util/ArrayList.get(I)Ljava/lang/Object; -/
noncomputable def sJ12_get (G : GG) (N : Nat) (a0 : Option Nat) (a1 : Int32) (h : Hp) : Out (Option Nat) :=
  gFi h a0 24 2 fun v1 =>
  bnd (sJ21_checkIndex G N a1 v1 h) fun v2 h3 =>
  bV h3 a0 24 (fun q6 => sJ12_elementData G N (some q6) a1 h3) fun v4 h5 =>
  some (.inl v4, h5)
abbrev mJ12_get : MI := (RJ12, cJ12_get, 2, (some (.object "java/lang/Object")), [], 2, 43, "get")
theorem tJ12_get {G : GG} {l : Launch} (hs : l.stackTraces = false) {N : Nat} {a0 : Option Nat} {a1 : Int32} {h : Hp} {r : Option Nat ⊕ Nat} {hf : Hp} (ho : sJ12_get G N a0 a1 h = some (r, hf)) : gMet G l yJ12_get (ws_ yJ12_get cJ12_get 2 (some (.object "java/lang/Object"))) 2 43 [gr a0, gi a1] h cvR r hf := by
  refine gMet.of ho hs (plainFor_of_name pn_J12) rfl rfl (gbl rfl) fun X => ?_
  show gT G l X mJ12_get cvR r hf 0 [(0, gr a0), (1, gi a1)] [] h (sJ12_get G N a0 a1 h)
  delta sJ12_get
  refine g_iload_n (pc := 0) (x := a1) 1 rfl rfl dJ12_get_0 ?_
  refine g_aload_n (pc := 1) (x := a0) 0 rfl rfl dJ12_get_1 ?_
  refine g_getfi (pc := 2) k_24 (gblt rfl) lk_J12_48_24 dJ12_get_2 fun v1 => ?_
  refine g_bi (pc := 5) (y := yJ21_checkIndex) (ws := ws_ yJ21_checkIndex cJ21_checkIndex 2 (some .int)) (fr := 1) (lo := 22) (as := [gi a1, gi v1]) (st := []) (g_no) rfl (fun _ _ e => tJ21_checkIndex hs e) (fun K _ _ hM R e1 e2 => g_runS (M := mJ12_get) (pc := 5) (y := yJ21_checkIndex) (bytes := cJ21_checkIndex) (maxL := 2) (ret := (some .int)) (fr := 1) (lo := 22) (as := [gi a1, gi v1]) (st := []) gy_J21_checkIndex (gbl rfl) (gbl rfl) (gbl rfl) q998 q999 dJ12_get_5 K hM R e1 e2) fun v2 h3 => ?_
  refine g_pop (pc := 8) rfl dJ12_get_8 ?_
  refine g_aload_n (pc := 9) (x := a0) 0 rfl rfl dJ12_get_9 ?_
  refine g_iload_n (pc := 10) (x := a1) 1 rfl rfl dJ12_get_10 ?_
  refine g_bVr (pc := 11) (y := yJ12_elementData) (ws := ws_ yJ12_elementData cJ12_elementData 2 (some (.object "java/lang/Object"))) (fr := 0) (lo := 0) (as := [gi a1]) (st := []) (g_no) rfl (fun _ _ _ e => tJ12_elementData hs e) (fun K _ _ _ hq hM R e1 e2 => g_runV (M := mJ12_get) (pc := 11) (y := yJ12_elementData) (bytes := cJ12_elementData) (maxL := 2) (ret := (some (.object "java/lang/Object"))) (fr := 0) (lo := 0) (as := [gi a1]) (st := []) hq (C := "java/util/ArrayList") rfl gy_J12_elementData (gbl rfl) (gbl rfl) (gbl rfl) q1002 q1003 q1004 dJ12_get_11 K hM R e1 e2) fun v4 h5 => ?_
  exact g_areturn (pc := 14) rfl (Or.inl ⟨_, rfl⟩) dJ12_get_14
/-! FlareSlopes$Register.get(I)LFlareSlopes$Named; -/
noncomputable def sX6_get (G : GG) (N : Nat) (a0 : Option Nat) (a1 : Int32) (h : Hp) : Out (Option Nat) :=
  gFr h a0 13 0 fun v1 =>
  bV h v1 24 (fun q4 => sJ12_get G N (some q4) a1 h) fun v2 h3 =>
  gCk h3 v2 [15] (some (.inl v2, h3))
abbrev mX6_get : MI := (RX6, cX6_get, 2, (some (.object "FlareSlopes$Named")), [], 3, 64, "get")
theorem tX6_get {G : GG} {l : Launch} (hs : l.stackTraces = false) {N : Nat} {a0 : Option Nat} {a1 : Int32} {h : Hp} {r : Option Nat ⊕ Nat} {hf : Hp} (ho : sX6_get G N a0 a1 h = some (r, hf)) : gMet G l yX6_get (ws_ yX6_get cX6_get 2 (some (.object "FlareSlopes$Named"))) 3 64 [gr a0, gi a1] h cvR r hf := by
  refine gMet.of ho hs (plainFor_of_name pn_X6) rfl rfl (gbl rfl) fun X => ?_
  show gT G l X mX6_get cvR r hf 0 [(0, gr a0), (1, gi a1)] [] h (sX6_get G N a0 a1 h)
  delta sX6_get
  refine g_aload_n (pc := 0) (x := a0) 0 rfl rfl dX6_get_0 ?_
  refine g_getfr (pc := 1) k_13 (gblt rfl) lk_X6_12_13 dX6_get_1 fun v1 => ?_
  refine g_iload_n (pc := 4) (x := a1) 1 rfl rfl dX6_get_4 ?_
  refine g_bVr (pc := 5) (y := yJ12_get) (ws := ws_ yJ12_get cJ12_get 2 (some (.object "java/lang/Object"))) (fr := 2) (lo := 43) (as := [gi a1]) (st := []) (g_no) rfl (fun _ _ _ e => tJ12_get hs e) (fun K _ _ _ hq hM R e1 e2 => g_runF (x := ⟨"java/util/List", "get", "(I)Ljava/lang/Object;"⟩) (M := mX6_get) (pc := 5) (y := yJ12_get) (bytes := cJ12_get) (maxL := 2) (ret := (some (.object "java/lang/Object"))) (fr := 2) (lo := 43) (as := [gi a1]) (st := []) hq (C := "java/util/ArrayList") rfl gy_J12_get rfl (gbl rfl) (gbl rfl) (gbl rfl) q990 q992 q991 q996 q994 q971 mhx_java_util_List q993 q995 dX6_get_5 K hM R e1 e2) fun v2 h3 => ?_
  refine g_checkcast (pc := 10) q1006 as_15_FlareSlopes_Named dX6_get_10 ?_
  exact g_areturn (pc := 13) rfl (Or.inl ⟨_, rfl⟩) dX6_get_13
/-! FlareSlopes$Spot.name()Ljava/lang/CharSequence; -/
noncomputable def sX9_name (G : GG) (N : Nat) (a0 : Option Nat) (h : Hp) : Out (Option Nat) :=
  gFr h a0 15 0 fun v1 =>
  some (.inl v1, h)
abbrev mX9_name : MI := (RX9, cX9_name, 1, (some (.object "java/lang/CharSequence")), [], 0, 0, "name")
theorem tX9_name {G : GG} {l : Launch} (hs : l.stackTraces = false) {N : Nat} {a0 : Option Nat} {h : Hp} {r : Option Nat ⊕ Nat} {hf : Hp} (ho : sX9_name G N a0 h = some (r, hf)) : gMet G l yX9_name (ws_ yX9_name cX9_name 1 (some (.object "java/lang/CharSequence"))) 0 0 [gr a0] h cvR r hf := by
  refine gMet.of ho hs (plainFor_of_name pn_X9) rfl rfl (gbl rfl) fun X => ?_
  show gT G l X mX9_name cvR r hf 0 [(0, gr a0)] [] h (sX9_name G N a0 h)
  delta sX9_name
  refine g_aload_n (pc := 0) (x := a0) 0 rfl rfl dX9_name_0 ?_
  refine g_getfr (pc := 1) k_15 (gblt rfl) lk_X9_7_15 dX9_name_1 fun v1 => ?_
  exact g_areturn (pc := 4) rfl (Or.inl ⟨_, rfl⟩) dX9_name_4
/-! java/lang/String.coder()B -/
noncomputable def sJ4_coder (G : GG) (N : Nat) (a0 : Option Nat) (h : Hp) : Out (Int32) :=
  if (1 : Int32) = 0 then (gRtB (1 : Int32) h)
  else gFi h a0 20 1 fun v1 =>
  gRtB v1 h
abbrev mJ4_coder : MI := (RJ4, cJ4_coder, 1, (some .byte), [], 0, 0, "coder")
theorem tJ4_coder {G : GG} {l : Launch} (hs : l.stackTraces = false) {N : Nat} {a0 : Option Nat} {h : Hp} {r : Int32 ⊕ Nat} {hf : Hp} (ho : sJ4_coder G N a0 h = some (r, hf)) : gMet G l yJ4_coder (ws_ yJ4_coder cJ4_coder 1 (some .byte)) 0 0 [gr a0] h cvI r hf := by
  refine gMet.of ho hs (plainFor_of_name pn_J4) rfl rfl (gbl rfl) fun X => ?_
  show gT G l X mJ4_coder cvI r hf 0 [(0, gr a0)] [] h (sJ4_coder G N a0 h)
  delta sJ4_coder
  refine g_gets (pc := 0) (sv := .inl (.int 1)) (w := gi (1 : Int32)) sfl_0 rfl ⟨Or.inl q817, Or.inl rfl⟩ dJ4_coder_0 ?_
  refine g_if_eq (pc := 3) (tgt := 13) rfl dJ4_coder_3 ?_ ?_
  · refine g_iconst (pc := 13) (v := (1 : Int32)) ic_1 dJ4_coder_13 ?_
    exact g_breturn (pc := 14) rfl dJ4_coder_14
  refine g_aload_n (pc := 6) (x := a0) 0 rfl rfl dJ4_coder_6 ?_
  refine g_getfi (pc := 7) k_20 (gblt rfl) lk_J4_15_20 dJ4_coder_7 fun v1 => ?_
  refine g_goto (pc := 10) (tgt := 14) rfl dJ4_coder_10 ?_
  exact g_breturn (pc := 14) rfl dJ4_coder_14
/-! java/lang/String.length()I -/
noncomputable def sJ4_length (G : GG) (N : Nat) (a0 : Option Nat) (h : Hp) : Out (Int32) :=
  gFr h a0 20 0 fun v1 =>
  gLen h v1 fun v2 =>
  bV h a0 20 (fun q5 => sJ4_coder G N (some q5) h) fun v3 h4 =>
  some (.inl (v2 >>> (v3 &&& 31)), h4)
abbrev mJ4_length : MI := (RJ4, cJ4_length, 1, (some .int), [], 1, 20, "length")
theorem tJ4_length {G : GG} {l : Launch} (hs : l.stackTraces = false) {N : Nat} {a0 : Option Nat} {h : Hp} {r : Int32 ⊕ Nat} {hf : Hp} (ho : sJ4_length G N a0 h = some (r, hf)) : gMet G l yJ4_length (ws_ yJ4_length cJ4_length 1 (some .int)) 1 20 [gr a0] h cvI r hf := by
  refine gMet.of ho hs (plainFor_of_name pn_J4) rfl rfl (gbl rfl) fun X => ?_
  show gT G l X mJ4_length cvI r hf 0 [(0, gr a0)] [] h (sJ4_length G N a0 h)
  delta sJ4_length
  refine g_aload_n (pc := 0) (x := a0) 0 rfl rfl dJ4_length_0 ?_
  refine g_getfr (pc := 1) k_20 (gblt rfl) lk_J4_9_20 dJ4_length_1 fun v1 => ?_
  refine g_alen (pc := 4) dJ4_length_4 fun v2 => ?_
  refine g_aload_n (pc := 5) (x := a0) 0 rfl rfl dJ4_length_5 ?_
  refine g_bVi (pc := 6) (y := yJ4_coder) (ws := ws_ yJ4_coder cJ4_coder 1 (some .byte)) (fr := 0) (lo := 0) (as := []) (st := [gi v2]) (g_no) rfl (fun _ _ _ e => tJ4_coder hs e) (fun K _ _ _ hq hM R e1 e2 => g_runV (M := mJ4_length) (pc := 6) (y := yJ4_coder) (bytes := cJ4_coder) (maxL := 1) (ret := (some .byte)) (fr := 0) (lo := 0) (as := []) (st := [gi v2]) hq (C := "java/lang/String") rfl gy_J4_coder (gbl rfl) (gbl rfl) (gbl rfl) q813 q814 q815 dJ4_length_6 K hM R e1 e2) fun v3 h4 => ?_
  refine g_ishr (pc := 9) dJ4_length_9 ?_
  exact g_ireturn (pc := 10) rfl dJ4_length_10
/-! java/lang/String.checkIndex(II)V -/
noncomputable def sJ4_checkIndex (G : GG) (N : Nat) (a0 : Int32) (a1 : Int32) (h : Hp) : Out (Unit) :=
  bnd (sJ17_checkIndex G N a0 a1 (some (G.2.2.2.2 3)) h) fun v1 h2 =>
  some (.inl (), h2)
abbrev mJ4_checkIndex : MI := (RJ4, cJ4_checkIndex, 2, none, [], 1, 22, "checkIndex")
theorem tJ4_checkIndex {G : GG} {l : Launch} (hs : l.stackTraces = false) {N : Nat} {a0 : Int32} {a1 : Int32} {h : Hp} {r : Unit ⊕ Nat} {hf : Hp} (ho : sJ4_checkIndex G N a0 a1 h = some (r, hf)) : gMet G l yJ4_checkIndex (ws_ yJ4_checkIndex cJ4_checkIndex 2 none) 1 22 [gi a0, gi a1] h cvU r hf := by
  refine gMet.of ho hs (plainFor_of_name pn_J4) rfl rfl (gbl rfl) fun X => ?_
  show gT G l X mJ4_checkIndex cvU r hf 0 [(0, gi a0), (1, gi a1)] [] h (sJ4_checkIndex G N a0 a1 h)
  delta sJ4_checkIndex
  refine g_iload_n (pc := 0) (x := a0) 0 rfl rfl dJ4_checkIndex_0 ?_
  refine g_iload_n (pc := 1) (x := a1) 1 rfl rfl dJ4_checkIndex_1 ?_
  refine g_gets (pc := 2) (sv := .inr 3) (w := gr (some (G.2.2.2.2 3))) sfl_4 rfl ⟨Or.inl q688, Or.inl rfl⟩ dJ4_checkIndex_2 ?_
  refine g_bi (pc := 5) (y := yJ17_checkIndex) (ws := ws_ yJ17_checkIndex cJ17_checkIndex 3 (some .int)) (fr := 0) (lo := 0) (as := [gi a0, gi a1, gr (some (G.2.2.2.2 3))]) (st := []) (g_no) rfl (fun _ _ e => tJ17_checkIndex hs e) (fun K _ _ hM R e1 e2 => g_runS (M := mJ4_checkIndex) (pc := 5) (y := yJ17_checkIndex) (bytes := cJ17_checkIndex) (maxL := 3) (ret := (some .int)) (fr := 0) (lo := 0) (as := [gi a0, gi a1, gr (some (G.2.2.2.2 3))]) (st := []) gy_J17_checkIndex (gbl rfl) (gbl rfl) (gbl rfl) q711 q712 dJ4_checkIndex_5 K hM R e1 e2) fun v1 h2 => ?_
  refine g_pop (pc := 8) rfl dJ4_checkIndex_8 ?_
  exact g_return (pc := 9) rfl dJ4_checkIndex_9
/-! java/lang/StringLatin1.charAt([BI)C -/
noncomputable def sJ16_charAt (G : GG) (N : Nat) (a0 : Option Nat) (a1 : Int32) (h : Hp) : Out (Int32) :=
  gLen h a0 fun v1 =>
  bnd (sJ4_checkIndex G N a1 v1 h) fun v2 h3 =>
  gAi h3 a0 1 a1 fun v4 =>
  gRtC (((v4 &&& (255 : Int32)).toUInt32 % 65536).toInt32) h3
abbrev mJ16_charAt : MI := (RJ16, cJ16_charAt, 2, (some .char), [], 2, 43, "charAt")
theorem tJ16_charAt {G : GG} {l : Launch} (hs : l.stackTraces = false) {N : Nat} {a0 : Option Nat} {a1 : Int32} {h : Hp} {r : Int32 ⊕ Nat} {hf : Hp} (ho : sJ16_charAt G N a0 a1 h = some (r, hf)) : gMet G l yJ16_charAt (ws_ yJ16_charAt cJ16_charAt 2 (some .char)) 2 43 [gr a0, gi a1] h cvI r hf := by
  refine gMet.of ho hs (plainFor_of_name pn_J16) rfl rfl (gbl rfl) fun X => ?_
  show gT G l X mJ16_charAt cvI r hf 0 [(0, gr a0), (1, gi a1)] [] h (sJ16_charAt G N a0 a1 h)
  delta sJ16_charAt
  refine g_iload_n (pc := 0) (x := a1) 1 rfl rfl dJ16_charAt_0 ?_
  refine g_aload_n (pc := 1) (x := a0) 0 rfl rfl dJ16_charAt_1 ?_
  refine g_alen (pc := 2) dJ16_charAt_2 fun v1 => ?_
  refine g_bu (pc := 3) (y := yJ4_checkIndex) (ws := ws_ yJ4_checkIndex cJ4_checkIndex 2 none) (fr := 1) (lo := 22) (as := [gi a1, gi v1]) (st := []) (g_no) rfl (fun _ _ e => tJ4_checkIndex hs e) (fun K _ _ hM R e1 e2 => g_runS (M := mJ16_charAt) (pc := 3) (y := yJ4_checkIndex) (bytes := cJ4_checkIndex) (maxL := 2) (ret := none) (fr := 1) (lo := 22) (as := [gi a1, gi v1]) (st := []) gy_J4_checkIndex (gbl rfl) (gbl rfl) (gbl rfl) q1044 q709 dJ16_charAt_3 K hM R e1 e2) fun v2 h3 => ?_
  refine g_aload_n (pc := 6) (x := a0) 0 rfl rfl dJ16_charAt_6 ?_
  refine g_iload_n (pc := 7) (x := a1) 1 rfl rfl dJ16_charAt_7 ?_
  refine g_baload (pc := 8) rfl dJ16_charAt_8 fun v4 => ?_
  refine g_sipush (pc := 9) (v := (255 : Int32)) sc_255 dJ16_charAt_9 ?_
  refine g_iand (pc := 12) dJ16_charAt_12 ?_
  refine g_i2c (pc := 13) dJ16_charAt_13 ?_
  exact g_creturn (pc := 14) rfl dJ16_charAt_14
/-! java/lang/String.charAt(I)C -/
noncomputable def sJ4_charAt (G : GG) (N : Nat) (a0 : Option Nat) (a1 : Int32) (h : Hp) : Out (Int32) :=
  bV h a0 20 (fun q6 => sJ4_isLatin1 G N (some q6) h) fun v1 h2 =>
  if v1 = 0 then (none)
  else gFr h2 a0 20 0 fun v3 =>
  bnd (sJ16_charAt G N v3 a1 h2) fun v4 h5 =>
  gRtC v4 h5
abbrev mJ4_charAt : MI := (RJ4, cJ4_charAt, 2, (some .char), [], 3, 64, "charAt")
theorem tJ4_charAt {G : GG} {l : Launch} (hs : l.stackTraces = false) {N : Nat} {a0 : Option Nat} {a1 : Int32} {h : Hp} {r : Int32 ⊕ Nat} {hf : Hp} (ho : sJ4_charAt G N a0 a1 h = some (r, hf)) : gMet G l yJ4_charAt (ws_ yJ4_charAt cJ4_charAt 2 (some .char)) 3 64 [gr a0, gi a1] h cvI r hf := by
  refine gMet.of ho hs (plainFor_of_name pn_J4) rfl rfl (gbl rfl) fun X => ?_
  show gT G l X mJ4_charAt cvI r hf 0 [(0, gr a0), (1, gi a1)] [] h (sJ4_charAt G N a0 a1 h)
  delta sJ4_charAt
  refine g_aload_n (pc := 0) (x := a0) 0 rfl rfl dJ4_charAt_0 ?_
  refine g_bVi (pc := 1) (y := yJ4_isLatin1) (ws := ws_ yJ4_isLatin1 cJ4_isLatin1 1 (some .boolean)) (fr := 0) (lo := 0) (as := []) (st := []) (g_no) rfl (fun _ _ _ e => tJ4_isLatin1 hs e) (fun K _ _ _ hq hM R e1 e2 => g_runV (M := mJ4_charAt) (pc := 1) (y := yJ4_isLatin1) (bytes := cJ4_isLatin1) (maxL := 1) (ret := (some .boolean)) (fr := 0) (lo := 0) (as := []) (st := []) hq (C := "java/lang/String") rfl gy_J4_isLatin1 (gbl rfl) (gbl rfl) (gbl rfl) q894 q895 q896 dJ4_charAt_1 K hM R e1 e2) fun v1 h2 => ?_
  refine g_if_eq (pc := 4) (tgt := 16) rfl dJ4_charAt_4 ?_ ?_
  · exact g_none
  refine g_aload_n (pc := 7) (x := a0) 0 rfl rfl dJ4_charAt_7 ?_
  refine g_getfr (pc := 8) k_20 (gblt rfl) lk_J4_9_20 dJ4_charAt_8 fun v3 => ?_
  refine g_iload_n (pc := 11) (x := a1) 1 rfl rfl dJ4_charAt_11 ?_
  refine g_bi (pc := 12) (y := yJ16_charAt) (ws := ws_ yJ16_charAt cJ16_charAt 2 (some .char)) (fr := 2) (lo := 43) (as := [gr v3, gi a1]) (st := []) (g_no) rfl (fun _ _ e => tJ16_charAt hs e) (fun K _ _ hM R e1 e2 => g_runS (M := mJ4_charAt) (pc := 12) (y := yJ16_charAt) (bytes := cJ16_charAt) (maxL := 2) (ret := (some .char)) (fr := 2) (lo := 43) (as := [gr v3, gi a1]) (st := []) gy_J16_charAt (gbl rfl) (gbl rfl) (gbl rfl) q1041 q1042 dJ4_charAt_12 K hM R e1 e2) fun v4 h5 => ?_
  exact g_creturn (pc := 15) rfl dJ4_charAt_15
/-! java/lang/AbstractStringBuilder.charAt(I)C -/
noncomputable def sJ2_charAt_c21 (G : GG) (N : Nat) (a0 : Option Nat) (a1 : Int32) (h : Hp) : Out (Int32) :=
  gFi h a0 21 1 fun v1 =>
  gFr h a0 21 0 fun v2 =>
  gFi h a0 21 3 fun v3 =>
  gLen h v2 fun v4 =>
  bnd (sJ14_min G N v3 (v4 >>> (v1 &&& 31)) h) fun v5 h6 =>
  bnd (sJ4_checkIndex G N a1 v5 h6) fun v7 h8 =>
  if v1 = 0 then (gAi h8 v2 1 a1 fun v9 =>
  gRtC (((v9 &&& (255 : Int32)).toUInt32 % 65536).toInt32) h8)
  else none
abbrev mJ2_charAt_c21 : MI := (RJ2, cJ2_charAt, 5, (some .char), [], 2, 43, "charAt")
theorem tJ2_charAt_c21 {G : GG} {l : Launch} (hs : l.stackTraces = false) {N : Nat} {a0 : Option Nat} {a1 : Int32} {h : Hp} {r : Int32 ⊕ Nat} {hf : Hp} (ho : sJ2_charAt_c21 G N a0 a1 h = some (r, hf)) : gMet G l yJ2_charAt (ws_ yJ2_charAt cJ2_charAt 5 (some .char)) 2 43 [gr a0, gi a1] h cvI r hf := by
  refine gMet.of ho hs (plainFor_of_name pn_J2) rfl rfl (gbl rfl) fun X => ?_
  show gT G l X mJ2_charAt_c21 cvI r hf 0 [(0, gr a0), (1, gi a1)] [] h (sJ2_charAt_c21 G N a0 a1 h)
  delta sJ2_charAt_c21
  refine g_aload_n (pc := 0) (x := a0) 0 rfl rfl dJ2_charAt_0 ?_
  refine g_getfi (pc := 1) k_21 (gblt rfl) lk_J2_22_21 dJ2_charAt_1 fun v1 => ?_
  refine g_istore_n (pc := 4) (lv' := [(2, gi v1), (0, gr a0), (1, gi a1)]) [0, 1, 2] rfl rfl (gblt rfl) dJ2_charAt_4 ?_
  refine g_aload_n (pc := 5) (x := a0) 1 rfl rfl dJ2_charAt_5 ?_
  refine g_getfr (pc := 6) k_21 (gblt rfl) lk_J2_15_21 dJ2_charAt_6 fun v2 => ?_
  refine g_astore_n (pc := 9) (lv' := [(3, gr v2), (2, gi v1), (0, gr a0), (1, gi a1)]) [0, 1, 2, 3] rfl rfl (gblt rfl) dJ2_charAt_9 ?_
  refine g_aload_n (pc := 10) (x := a0) 2 rfl rfl dJ2_charAt_10 ?_
  refine g_getfi (pc := 11) k_21 (gblt rfl) lk_J2_79_21 dJ2_charAt_11 fun v3 => ?_
  refine g_aload_n (pc := 14) (x := v2) 0 rfl rfl dJ2_charAt_14 ?_
  refine g_alen (pc := 15) dJ2_charAt_15 fun v4 => ?_
  refine g_iload_n (pc := 16) (x := v1) 1 rfl rfl dJ2_charAt_16 ?_
  refine g_ishr (pc := 17) dJ2_charAt_17 ?_
  refine g_bi (pc := 18) (y := yJ14_min) (ws := ws_ yJ14_min cJ14_min 2 (some .int)) (fr := 0) (lo := 0) (as := [gi v3, gi (v4 >>> (v1 &&& 31))]) (st := []) (g_no) rfl (fun _ _ e => tJ14_min hs e) (fun K _ _ hM R e1 e2 => g_runS (M := mJ2_charAt_c21) (pc := 18) (y := yJ14_min) (bytes := cJ14_min) (maxL := 2) (ret := (some .int)) (fr := 0) (lo := 0) (as := [gi v3, gi (v4 >>> (v1 &&& 31))]) (st := []) gy_J14_min (gbl rfl) (gbl rfl) (gbl rfl) q1056 q656 dJ2_charAt_18 K hM R e1 e2) fun v5 h6 => ?_
  refine g_istore (pc := 21) (lv' := [(4, gi v5), (3, gr v2), (2, gi v1), (1, gi a1)]) [0, 1, 2, 4] rfl (gblt rfl) dJ2_charAt_21 ?_
  refine g_iload_n (pc := 23) (x := a1) 3 rfl rfl dJ2_charAt_23 ?_
  refine g_iload (pc := 24) (x := v5) 0 rfl dJ2_charAt_24 ?_
  refine g_bu (pc := 26) (y := yJ4_checkIndex) (ws := ws_ yJ4_checkIndex cJ4_checkIndex 2 none) (fr := 1) (lo := 22) (as := [gi a1, gi v5]) (st := []) (g_no) rfl (fun _ _ e => tJ4_checkIndex hs e) (fun K _ _ hM R e1 e2 => g_runS (M := mJ2_charAt_c21) (pc := 26) (y := yJ4_checkIndex) (bytes := cJ4_checkIndex) (maxL := 2) (ret := none) (fr := 1) (lo := 22) (as := [gi a1, gi v5]) (st := []) gy_J4_checkIndex (gbl rfl) (gbl rfl) (gbl rfl) q1057 q709 dJ2_charAt_26 K hM R e1 e2) fun v7 h8 => ?_
  refine g_iload_n (pc := 29) (x := v1) 2 rfl rfl dJ2_charAt_29 ?_
  refine g_if_ne (pc := 30) (tgt := 42) rfl dJ2_charAt_30 ?_ ?_
  rotate_left
  · exact g_none
  refine g_aload_n (pc := 33) (x := v2) 1 rfl rfl dJ2_charAt_33 ?_
  refine g_iload_n (pc := 34) (x := a1) 3 rfl rfl dJ2_charAt_34 ?_
  refine g_baload (pc := 35) rfl dJ2_charAt_35 fun v9 => ?_
  refine g_sipush (pc := 36) (v := (255 : Int32)) sc_255 dJ2_charAt_36 ?_
  refine g_iand (pc := 39) dJ2_charAt_39 ?_
  refine g_i2c (pc := 40) dJ2_charAt_40 ?_
  exact g_creturn (pc := 41) rfl dJ2_charAt_41
/-! java/lang/StringBuilder.charAt(I)C -/
noncomputable def sJ3_charAt (G : GG) (N : Nat) (a0 : Option Nat) (a1 : Int32) (h : Hp) : Out (Int32) :=
  bV h a0 21 (fun q3 => sJ2_charAt_c21 G N (some q3) a1 h) fun v1 h2 =>
  gRtC v1 h2
abbrev mJ3_charAt : MI := (RJ3, cJ3_charAt, 2, (some .char), [], 3, 67, "charAt")
theorem tJ3_charAt {G : GG} {l : Launch} (hs : l.stackTraces = false) {N : Nat} {a0 : Option Nat} {a1 : Int32} {h : Hp} {r : Int32 ⊕ Nat} {hf : Hp} (ho : sJ3_charAt G N a0 a1 h = some (r, hf)) : gMet G l yJ3_charAt (ws_ yJ3_charAt cJ3_charAt 2 (some .char)) 3 67 [gr a0, gi a1] h cvI r hf := by
  refine gMet.of ho hs (plainFor_of_name pn_J3) rfl rfl (gbl rfl) fun X => ?_
  show gT G l X mJ3_charAt cvI r hf 0 [(0, gr a0), (1, gi a1)] [] h (sJ3_charAt G N a0 a1 h)
  delta sJ3_charAt
  refine g_aload_n (pc := 0) (x := a0) 0 rfl rfl dJ3_charAt_0 ?_
  refine g_iload_n (pc := 1) (x := a1) 1 rfl rfl dJ3_charAt_1 ?_
  refine g_bVi (pc := 2) (y := yJ2_charAt) (ws := ws_ yJ2_charAt cJ2_charAt 5 (some .char)) (fr := 2) (lo := 43) (as := [gi a1]) (st := []) (g_no) rfl (fun _ _ _ e => tJ2_charAt_c21 hs e) (fun K _ _ _ hq hM R e1 e2 => g_runSU (M := mJ3_charAt) (pc := 2) (y := yJ2_charAt) (bytes := cJ2_charAt) (maxL := 5) (ret := (some .char)) (fr := 2) (lo := 43) (as := [gi a1]) (st := []) hq (C := "java/lang/StringBuilder") rfl gy_J2_charAt (gbl rfl) (gbl rfl) (gbl rfl) q1053 q4626 q266 q1054 (by decide +kernel) dJ3_charAt_2 K hM R e1 e2) fun v1 h2 => ?_
  exact g_creturn (pc := 5) rfl dJ3_charAt_5
/-! FlareSlopes$Register.isSame(Ljava/lang/CharSequence;Ljava/lang/CharSequence;)Z -/
noncomputable def bX6_isSame_23 (G : GG) (N : Nat) (a0 : Option Nat) (a1 : Option Nat) (w12 : (Int32 × Int32) → Hp → Out (Int32)) (x10 : Int32 × Int32) (h11 : Hp) : Out (Int32) :=
  gJ (fun (v13 : Int32) (h14 : Hp) =>
  if v13 ≤ x10.2 then (gRtZ x10.1 h14)
  else if x10.1 = 0 then (gRtZ x10.1 h14)
  else gJ (fun (v16 : Int32) (h17 : Hp) =>
  gJ (fun (v19 : Int32) (h20 : Hp) =>
  gJ (fun (x22 : Int32) (h23 : Hp) =>
  w12 (x22, x10.2 + (1 : Int32)) h23) fun j24 =>
  if v16 = v19 then (j24 (1 : Int32) h20)
  else j24 (0 : Int32) h20) fun j21 =>
  gSw h17 a1 20 (bV h17 a1 20 (fun q25 => sJ4_charAt G N (some q25) x10.2 h17) j21) (bV h17 a1 21 (fun q26 => sJ3_charAt G N (some q26) x10.2 h17) j21)) fun j18 =>
  gSw h14 a0 20 (bV h14 a0 20 (fun q27 => sJ4_charAt G N (some q27) x10.2 h14) j18) (bV h14 a0 21 (fun q28 => sJ3_charAt G N (some q28) x10.2 h14) j18)) fun j15 =>
  gSw h11 a0 20 (bV h11 a0 20 (fun q29 => sJ4_length G N (some q29) h11) j15) (bV h11 a0 21 (fun q30 => sJ3_length G N (some q30) h11) j15)
noncomputable def sX6_isSame (G : GG) (N : Nat) (a0 : Option Nat) (a1 : Option Nat) (h : Hp) : Out (Int32) :=
  gJ (fun (v1 : Int32) (h2 : Hp) =>
  gJ (fun (v4 : Int32) (h5 : Hp) =>
  gJ (fun (x7 : Int32) (h8 : Hp) =>
  gLp (bX6_isSame_23 G N a0 a1) N (x7, (0 : Int32)) h8) fun j9 =>
  if v1 = v4 then (j9 (1 : Int32) h5)
  else j9 (0 : Int32) h5) fun j6 =>
  gSw h2 a1 20 (bV h2 a1 20 (fun q31 => sJ4_length G N (some q31) h2) j6) (bV h2 a1 21 (fun q32 => sJ3_length G N (some q32) h2) j6)) fun j3 =>
  gSw h a0 20 (bV h a0 20 (fun q33 => sJ4_length G N (some q33) h) j3) (bV h a0 21 (fun q34 => sJ3_length G N (some q34) h) j3)
abbrev mX6_isSame : MI := (RX6, cX6_isSame, 4, (some .boolean), [], 4, 88, "isSame")
theorem tX6_isSame {G : GG} {l : Launch} (hs : l.stackTraces = false) {N : Nat} {a0 : Option Nat} {a1 : Option Nat} {h : Hp} {r : Int32 ⊕ Nat} {hf : Hp} (ho : sX6_isSame G N a0 a1 h = some (r, hf)) : gMet G l yX6_isSame (ws_ yX6_isSame cX6_isSame 4 (some .boolean)) 4 88 [gr a0, gr a1] h cvI r hf := by
  refine gMet.of ho hs (plainFor_of_name pn_X6) rfl rfl (gbl rfl) fun X => ?_
  show gT G l X mX6_isSame cvI r hf 0 [(0, gr a0), (1, gr a1)] [] h (sX6_isSame G N a0 a1 h)
  delta sX6_isSame
  refine g_aload_n (pc := 0) (x := a0) 0 rfl rfl dX6_isSame_0 ?_
  refine g_join 6 (fun (_ : Int32) => [(0, gr a0), (1, gr a1)]) (fun (v1 : Int32) => [gi v1]) (fun v1 h2 => ?_) (fun j3 Hj3 => ?_)
  · refine g_aload_n (pc := 6) (x := a1) 1 rfl rfl dX6_isSame_6 ?_
    refine g_join 12 (fun (_ : Int32) => [(0, gr a0), (1, gr a1)]) (fun (v4 : Int32) => [gi v4, gi v1]) (fun v4 h5 => ?_) (fun j6 Hj6 => ?_)
    · refine g_join 20 (fun (x7 : Int32) => [(0, gr a0), (1, gr a1)]) (fun (x7 : Int32) => [gi x7]) (fun x7 h8 => ?_) (fun j9 Hj9 => ?_)
      · refine g_istore_n (pc := 20) (lv' := [(2, gi x7), (0, gr a0), (1, gr a1)]) [0, 1, 2] rfl rfl (gblt rfl) dX6_isSame_20 ?_
        refine g_iconst (pc := 21) (v := (0 : Int32)) ic_0 dX6_isSame_21 ?_
        refine g_istore_n (pc := 22) (lv' := [(3, gi (0 : Int32)), (2, gi x7), (0, gr a0), (1, gr a1)]) [0, 1, 2, 3] rfl rfl (gblt rfl) dX6_isSame_22 ?_
        refine g_sub (lv' := [(0, gr a0), (1, gr a1), (2, gi x7), (3, gi (0 : Int32))]) [2, 3, 1, 0] rfl ?_
        refine g_loop (pc := 23) (fun (x10 : Int32 × Int32) => [(0, gr a0), (1, gr a1), (2, gi x10.1), (3, gi x10.2)]) (fun (_ : Int32 × Int32) => []) (fun w12 Hw12 x10 h11 => ?_) N (x7, (0 : Int32)) h8
        delta bX6_isSame_23
        refine g_iload_n (pc := 23) (x := x10.2) 3 rfl rfl dX6_isSame_23 ?_
        refine g_aload_n (pc := 24) (x := a0) 0 rfl rfl dX6_isSame_24 ?_
        refine g_join 30 (fun (_ : Int32) => [(0, gr a0), (1, gr a1), (2, gi x10.1), (3, gi x10.2)]) (fun (v13 : Int32) => [gi v13, gi x10.2]) (fun v13 h14 => ?_) (fun j15 Hj15 => ?_)
        · refine g_icmp_ge (pc := 30) (tgt := 66) rfl dX6_isSame_30 ?_ ?_
          · refine g_iload_n (pc := 66) (x := x10.1) 2 rfl rfl dX6_isSame_66 ?_
            exact g_zreturn (pc := 67) rfl dX6_isSame_67
          refine g_iload_n (pc := 33) (x := x10.1) 2 rfl rfl dX6_isSame_33 ?_
          refine g_if_eq (pc := 34) (tgt := 66) rfl dX6_isSame_34 ?_ ?_
          · refine g_iload_n (pc := 66) (x := x10.1) 2 rfl rfl dX6_isSame_66 ?_
            exact g_zreturn (pc := 67) rfl dX6_isSame_67
          refine g_aload_n (pc := 37) (x := a0) 0 rfl rfl dX6_isSame_37 ?_
          refine g_iload_n (pc := 38) (x := x10.2) 3 rfl rfl dX6_isSame_38 ?_
          refine g_join 44 (fun (_ : Int32) => [(0, gr a0), (1, gr a1), (2, gi x10.1), (3, gi x10.2)]) (fun (v16 : Int32) => [gi v16]) (fun v16 h17 => ?_) (fun j18 Hj18 => ?_)
          · refine g_aload_n (pc := 44) (x := a1) 1 rfl rfl dX6_isSame_44 ?_
            refine g_iload_n (pc := 45) (x := x10.2) 3 rfl rfl dX6_isSame_45 ?_
            refine g_join 51 (fun (_ : Int32) => [(0, gr a0), (1, gr a1), (2, gi x10.1), (3, gi x10.2)]) (fun (v19 : Int32) => [gi v19, gi v16]) (fun v19 h20 => ?_) (fun j21 Hj21 => ?_)
            · refine g_join 59 (fun (x22 : Int32) => [(0, gr a0), (1, gr a1), (3, gi x10.2)]) (fun (x22 : Int32) => [gi x22]) (fun x22 h23 => ?_) (fun j24 Hj24 => ?_)
              · refine g_istore_n (pc := 59) (lv' := [(2, gi x22), (0, gr a0), (1, gr a1), (3, gi x10.2)]) [0, 1, 2, 3] rfl rfl (gblt rfl) dX6_isSame_59 ?_
                refine g_iinc (pc := 60) (v := x10.2 + (1 : Int32)) 3 rfl (ii_1 _) (lv' := [(3, gi (x10.2 + (1 : Int32))), (2, gi x22), (0, gr a0), (1, gr a1)]) [0, 1, 2, 3] rfl (gblt rfl) dX6_isSame_60 ?_
                refine g_goto (pc := 63) (tgt := 23) rfl dX6_isSame_63 ?_
                exact g_sub [2, 3, 1, 0] rfl (Hw12 (x22, x10.2 + (1 : Int32)) h23)
              refine g_icmp_ne (pc := 51) (tgt := 58) rfl dX6_isSame_51 ?_ ?_
              rotate_left
              · refine g_iconst (pc := 58) (v := (0 : Int32)) ic_0 dX6_isSame_58 ?_
                exact g_sub [0, 1, 3] rfl (Hj24 (0 : Int32) h20)
              refine g_iconst (pc := 54) (v := (1 : Int32)) ic_1 dX6_isSame_54 ?_
              refine g_goto (pc := 55) (tgt := 59) rfl dX6_isSame_55 ?_
              exact g_sub [0, 1, 3] rfl (Hj24 (1 : Int32) h20)
            refine g_sw ?_ ?_
            · exact g_bVi (pc := 46) (y := yJ4_charAt) (ws := ws_ yJ4_charAt cJ4_charAt 2 (some .char)) (fr := 3) (lo := 64) (as := [gi x10.2]) (st := [gi v16]) (g_no) rfl (fun _ _ _ e => tJ4_charAt hs e) (fun K _ _ _ hq hM R e1 e2 => g_runF (x := ⟨"java/lang/CharSequence", "charAt", "(I)C"⟩) (M := mX6_isSame) (pc := 46) (y := yJ4_charAt) (bytes := cJ4_charAt) (maxL := 2) (ret := (some .char)) (fr := 3) (lo := 64) (as := [gi x10.2]) (st := [gi v16]) hq (C := "java/lang/String") rfl gy_J4_charAt rfl (gbl rfl) (gbl rfl) (gbl rfl) q1033 q1035 q1034 q1039 q1037 q1024 mhx_java_lang_CharSequence q1036 q1038 dX6_isSame_46 K hM R e1 e2) Hj21
            exact g_bVi (pc := 46) (y := yJ3_charAt) (ws := ws_ yJ3_charAt cJ3_charAt 2 (some .char)) (fr := 3) (lo := 67) (as := [gi x10.2]) (st := [gi v16]) (g_no) rfl (fun _ _ _ e => tJ3_charAt hs e) (fun K _ _ _ hq hM R e1 e2 => g_runF (x := ⟨"java/lang/CharSequence", "charAt", "(I)C"⟩) (M := mX6_isSame) (pc := 46) (y := yJ3_charAt) (bytes := cJ3_charAt) (maxL := 2) (ret := (some .char)) (fr := 3) (lo := 67) (as := [gi x10.2]) (st := [gi v16]) hq (C := "java/lang/StringBuilder") rfl gy_J3_charAt rfl (gbl rfl) (gbl rfl) (gbl rfl) q1033 q1035 q1034 q1051 q1049 q1028 mhx_java_lang_CharSequence q1048 q1050 dX6_isSame_46 K hM R e1 e2) Hj21
          refine g_sw ?_ ?_
          · exact g_bVi (pc := 39) (y := yJ4_charAt) (ws := ws_ yJ4_charAt cJ4_charAt 2 (some .char)) (fr := 3) (lo := 64) (as := [gi x10.2]) (st := []) (g_no) rfl (fun _ _ _ e => tJ4_charAt hs e) (fun K _ _ _ hq hM R e1 e2 => g_runF (x := ⟨"java/lang/CharSequence", "charAt", "(I)C"⟩) (M := mX6_isSame) (pc := 39) (y := yJ4_charAt) (bytes := cJ4_charAt) (maxL := 2) (ret := (some .char)) (fr := 3) (lo := 64) (as := [gi x10.2]) (st := []) hq (C := "java/lang/String") rfl gy_J4_charAt rfl (gbl rfl) (gbl rfl) (gbl rfl) q1033 q1035 q1034 q1039 q1037 q1024 mhx_java_lang_CharSequence q1036 q1038 dX6_isSame_39 K hM R e1 e2) Hj18
          exact g_bVi (pc := 39) (y := yJ3_charAt) (ws := ws_ yJ3_charAt cJ3_charAt 2 (some .char)) (fr := 3) (lo := 67) (as := [gi x10.2]) (st := []) (g_no) rfl (fun _ _ _ e => tJ3_charAt hs e) (fun K _ _ _ hq hM R e1 e2 => g_runF (x := ⟨"java/lang/CharSequence", "charAt", "(I)C"⟩) (M := mX6_isSame) (pc := 39) (y := yJ3_charAt) (bytes := cJ3_charAt) (maxL := 2) (ret := (some .char)) (fr := 3) (lo := 67) (as := [gi x10.2]) (st := []) hq (C := "java/lang/StringBuilder") rfl gy_J3_charAt rfl (gbl rfl) (gbl rfl) (gbl rfl) q1033 q1035 q1034 q1051 q1049 q1028 mhx_java_lang_CharSequence q1048 q1050 dX6_isSame_39 K hM R e1 e2) Hj18
        refine g_sw ?_ ?_
        · exact g_bVi (pc := 25) (y := yJ4_length) (ws := ws_ yJ4_length cJ4_length 1 (some .int)) (fr := 1) (lo := 20) (as := []) (st := [gi x10.2]) (g_no) rfl (fun _ _ _ e => tJ4_length hs e) (fun K _ _ _ hq hM R e1 e2 => g_runF (x := ⟨"java/lang/CharSequence", "length", "()I"⟩) (M := mX6_isSame) (pc := 25) (y := yJ4_length) (bytes := cJ4_length) (maxL := 1) (ret := (some .int)) (fr := 1) (lo := 20) (as := []) (st := [gi x10.2]) hq (C := "java/lang/String") rfl gy_J4_length rfl (gbl rfl) (gbl rfl) (gbl rfl) q1021 q1023 q1022 q1027 q1026 q1024 mhx_java_lang_CharSequence q1025 q810 dX6_isSame_25 K hM R e1 e2) Hj15
        exact g_bVi (pc := 25) (y := yJ3_length) (ws := ws_ yJ3_length cJ3_length 1 (some .int)) (fr := 1) (lo := 20) (as := []) (st := [gi x10.2]) (g_no) rfl (fun _ _ _ e => tJ3_length hs e) (fun K _ _ _ hq hM R e1 e2 => g_runF (x := ⟨"java/lang/CharSequence", "length", "()I"⟩) (M := mX6_isSame) (pc := 25) (y := yJ3_length) (bytes := cJ3_length) (maxL := 1) (ret := (some .int)) (fr := 1) (lo := 20) (as := []) (st := [gi x10.2]) hq (C := "java/lang/StringBuilder") rfl gy_J3_length rfl (gbl rfl) (gbl rfl) (gbl rfl) q1021 q1023 q1022 q1031 q1030 q1028 mhx_java_lang_CharSequence q1029 q735 dX6_isSame_25 K hM R e1 e2) Hj15
      refine g_icmp_ne (pc := 12) (tgt := 19) rfl dX6_isSame_12 ?_ ?_
      rotate_left
      · refine g_iconst (pc := 19) (v := (0 : Int32)) ic_0 dX6_isSame_19 ?_
        exact Hj9 (0 : Int32) h5
      refine g_iconst (pc := 15) (v := (1 : Int32)) ic_1 dX6_isSame_15 ?_
      refine g_goto (pc := 16) (tgt := 20) rfl dX6_isSame_16 ?_
      exact Hj9 (1 : Int32) h5
    refine g_sw ?_ ?_
    · exact g_bVi (pc := 7) (y := yJ4_length) (ws := ws_ yJ4_length cJ4_length 1 (some .int)) (fr := 1) (lo := 20) (as := []) (st := [gi v1]) (g_no) rfl (fun _ _ _ e => tJ4_length hs e) (fun K _ _ _ hq hM R e1 e2 => g_runF (x := ⟨"java/lang/CharSequence", "length", "()I"⟩) (M := mX6_isSame) (pc := 7) (y := yJ4_length) (bytes := cJ4_length) (maxL := 1) (ret := (some .int)) (fr := 1) (lo := 20) (as := []) (st := [gi v1]) hq (C := "java/lang/String") rfl gy_J4_length rfl (gbl rfl) (gbl rfl) (gbl rfl) q1021 q1023 q1022 q1027 q1026 q1024 mhx_java_lang_CharSequence q1025 q810 dX6_isSame_7 K hM R e1 e2) Hj6
    exact g_bVi (pc := 7) (y := yJ3_length) (ws := ws_ yJ3_length cJ3_length 1 (some .int)) (fr := 1) (lo := 20) (as := []) (st := [gi v1]) (g_no) rfl (fun _ _ _ e => tJ3_length hs e) (fun K _ _ _ hq hM R e1 e2 => g_runF (x := ⟨"java/lang/CharSequence", "length", "()I"⟩) (M := mX6_isSame) (pc := 7) (y := yJ3_length) (bytes := cJ3_length) (maxL := 1) (ret := (some .int)) (fr := 1) (lo := 20) (as := []) (st := [gi v1]) hq (C := "java/lang/StringBuilder") rfl gy_J3_length rfl (gbl rfl) (gbl rfl) (gbl rfl) q1021 q1023 q1022 q1031 q1030 q1028 mhx_java_lang_CharSequence q1029 q735 dX6_isSame_7 K hM R e1 e2) Hj6
  refine g_sw ?_ ?_
  · exact g_bVi (pc := 1) (y := yJ4_length) (ws := ws_ yJ4_length cJ4_length 1 (some .int)) (fr := 1) (lo := 20) (as := []) (st := []) (g_no) rfl (fun _ _ _ e => tJ4_length hs e) (fun K _ _ _ hq hM R e1 e2 => g_runF (x := ⟨"java/lang/CharSequence", "length", "()I"⟩) (M := mX6_isSame) (pc := 1) (y := yJ4_length) (bytes := cJ4_length) (maxL := 1) (ret := (some .int)) (fr := 1) (lo := 20) (as := []) (st := []) hq (C := "java/lang/String") rfl gy_J4_length rfl (gbl rfl) (gbl rfl) (gbl rfl) q1021 q1023 q1022 q1027 q1026 q1024 mhx_java_lang_CharSequence q1025 q810 dX6_isSame_1 K hM R e1 e2) Hj3
  exact g_bVi (pc := 1) (y := yJ3_length) (ws := ws_ yJ3_length cJ3_length 1 (some .int)) (fr := 1) (lo := 20) (as := []) (st := []) (g_no) rfl (fun _ _ _ e => tJ3_length hs e) (fun K _ _ _ hq hM R e1 e2 => g_runF (x := ⟨"java/lang/CharSequence", "length", "()I"⟩) (M := mX6_isSame) (pc := 1) (y := yJ3_length) (bytes := cJ3_length) (maxL := 1) (ret := (some .int)) (fr := 1) (lo := 20) (as := []) (st := []) hq (C := "java/lang/StringBuilder") rfl gy_J3_length rfl (gbl rfl) (gbl rfl) (gbl rfl) q1021 q1023 q1022 q1031 q1030 q1028 mhx_java_lang_CharSequence q1029 q735 dX6_isSame_1 K hM R e1 e2) Hj3
/-! FlareSlopes$Register.find(Ljava/lang/CharSequence;)I -/
noncomputable def bX6_find_2 (G : GG) (N : Nat) (a0 : Option Nat) (a1 : Option Nat) (w3 : (Int32) → Hp → Out (Int32)) (x1 : Int32) (h2 : Hp) : Out (Int32) :=
  bV h2 a0 13 (fun q14 => sX6_size G N (some q14) h2) fun v4 h5 =>
  if v4 ≤ x1 then (some (.inl (-1 : Int32), h5))
  else bV h5 a0 13 (fun q13 => sX6_get G N (some q13) x1 h5) fun v6 h7 =>
  bV h7 v6 15 (fun q12 => sX9_name G N (some q12) h7) fun v8 h9 =>
  bnd (sX6_isSame G N v8 a1 h9) fun v10 h11 =>
  if v10 = 0 then (w3 (x1 + (1 : Int32)) h11)
  else some (.inl x1, h11)
noncomputable def sX6_find (G : GG) (N : Nat) (a0 : Option Nat) (a1 : Option Nat) (h : Hp) : Out (Int32) :=
  gLp (bX6_find_2 G N a0 a1) N (0 : Int32) h
abbrev mX6_find : MI := (RX6, cX6_find, 3, (some .int), [], 5, 111, "find")
theorem tX6_find {G : GG} {l : Launch} (hs : l.stackTraces = false) {N : Nat} {a0 : Option Nat} {a1 : Option Nat} {h : Hp} {r : Int32 ⊕ Nat} {hf : Hp} (ho : sX6_find G N a0 a1 h = some (r, hf)) : gMet G l yX6_find (ws_ yX6_find cX6_find 3 (some .int)) 5 111 [gr a0, gr a1] h cvI r hf := by
  refine gMet.of ho hs (plainFor_of_name pn_X6) rfl rfl (gbl rfl) fun X => ?_
  show gT G l X mX6_find cvI r hf 0 [(0, gr a0), (1, gr a1)] [] h (sX6_find G N a0 a1 h)
  delta sX6_find
  refine g_iconst (pc := 0) (v := (0 : Int32)) ic_0 dX6_find_0 ?_
  refine g_istore_n (pc := 1) (lv' := [(2, gi (0 : Int32)), (0, gr a0), (1, gr a1)]) [0, 1, 2] rfl rfl (gblt rfl) dX6_find_1 ?_
  refine g_sub (lv' := [(0, gr a0), (1, gr a1), (2, gi (0 : Int32))]) [1, 2, 0] rfl ?_
  refine g_loop (pc := 2) (fun (x1 : Int32) => [(0, gr a0), (1, gr a1), (2, gi x1)]) (fun (_ : Int32) => []) (fun w3 Hw3 x1 h2 => ?_) N (0 : Int32) h
  delta bX6_find_2
  refine g_iload_n (pc := 2) (x := x1) 2 rfl rfl dX6_find_2 ?_
  refine g_aload_n (pc := 3) (x := a0) 0 rfl rfl dX6_find_3 ?_
  refine g_bVi (pc := 4) (y := yX6_size) (ws := ws_ yX6_size cX6_size 1 (some .int)) (fr := 1) (lo := 20) (as := []) (st := [gi x1]) (g_no) rfl (fun _ _ _ e => tX6_size hs e) (fun K _ _ _ hq hM R e1 e2 => g_runV (M := mX6_find) (pc := 4) (y := yX6_size) (bytes := cX6_size) (maxL := 1) (ret := (some .int)) (fr := 1) (lo := 20) (as := []) (st := [gi x1]) hq (C := "FlareSlopes$Register") rfl gy_X6_size (gbl rfl) (gbl rfl) (gbl rfl) q963 q964 q965 dX6_find_4 K hM R e1 e2) fun v4 h5 => ?_
  refine g_icmp_ge (pc := 7) (tgt := 35) rfl dX6_find_7 ?_ ?_
  · refine g_iconst (pc := 35) (v := (-1 : Int32)) ic_m1 dX6_find_35 ?_
    exact g_ireturn (pc := 36) rfl dX6_find_36
  refine g_aload_n (pc := 10) (x := a0) 0 rfl rfl dX6_find_10 ?_
  refine g_iload_n (pc := 11) (x := x1) 2 rfl rfl dX6_find_11 ?_
  refine g_bVr (pc := 12) (y := yX6_get) (ws := ws_ yX6_get cX6_get 2 (some (.object "FlareSlopes$Named"))) (fr := 3) (lo := 64) (as := [gi x1]) (st := []) (g_no) rfl (fun _ _ _ e => tX6_get hs e) (fun K _ _ _ hq hM R e1 e2 => g_runV (M := mX6_find) (pc := 12) (y := yX6_get) (bytes := cX6_get) (maxL := 2) (ret := (some (.object "FlareSlopes$Named"))) (fr := 3) (lo := 64) (as := [gi x1]) (st := []) hq (C := "FlareSlopes$Register") rfl gy_X6_get (gbl rfl) (gbl rfl) (gbl rfl) q985 q986 q987 dX6_find_12 K hM R e1 e2) fun v6 h7 => ?_
  refine g_bVr (pc := 15) (y := yX9_name) (ws := ws_ yX9_name cX9_name 1 (some (.object "java/lang/CharSequence"))) (fr := 0) (lo := 0) (as := []) (st := []) (g_no) rfl (fun _ _ _ e => tX9_name hs e) (fun K _ _ _ hq hM R e1 e2 => g_runF (x := ⟨"FlareSlopes$Named", "name", "()Ljava/lang/CharSequence;"⟩) (M := mX6_find) (pc := 15) (y := yX9_name) (bytes := cX9_name) (maxL := 1) (ret := (some (.object "java/lang/CharSequence"))) (fr := 0) (lo := 0) (as := []) (st := []) hq (C := "FlareSlopes$Spot") rfl gy_X9_name rfl (gbl rfl) (gbl rfl) (gbl rfl) q1008 q1010 q1009 q1015 q1013 q1011 mhx_FlareSlopes_Named q1012 q1014 dX6_find_15 K hM R e1 e2) fun v8 h9 => ?_
  refine g_aload_n (pc := 20) (x := a1) 1 rfl rfl dX6_find_20 ?_
  refine g_bi (pc := 21) (y := yX6_isSame) (ws := ws_ yX6_isSame cX6_isSame 4 (some .boolean)) (fr := 4) (lo := 88) (as := [gr v8, gr a1]) (st := []) (g_no) rfl (fun _ _ e => tX6_isSame hs e) (fun K _ _ hM R e1 e2 => g_runS (M := mX6_find) (pc := 21) (y := yX6_isSame) (bytes := cX6_isSame) (maxL := 4) (ret := (some .boolean)) (fr := 4) (lo := 88) (as := [gr v8, gr a1]) (st := []) gy_X6_isSame (gbl rfl) (gbl rfl) (gbl rfl) q1017 q1018 dX6_find_21 K hM R e1 e2) fun v10 h11 => ?_
  refine g_if_eq (pc := 24) (tgt := 29) rfl dX6_find_24 ?_ ?_
  rotate_left
  · refine g_iload_n (pc := 27) (x := x1) 2 rfl rfl dX6_find_27 ?_
    exact g_ireturn (pc := 28) rfl dX6_find_28
  refine g_iinc (pc := 29) (v := x1 + (1 : Int32)) 2 rfl (ii_1 _) (lv' := [(2, gi (x1 + (1 : Int32))), (0, gr a0), (1, gr a1)]) [0, 1, 2] rfl (gblt rfl) dX6_find_29 ?_
  refine g_goto (pc := 32) (tgt := 2) rfl dX6_find_32 ?_
  exact g_sub [1, 2, 0] rfl (Hw3 (x1 + (1 : Int32)) h11)
/-! FlareSlopes$Parser.name(LFlareSlopes$Register;)Ljava/lang/String; -/
noncomputable def sX4_name (G : GG) (N : Nat) (a0 : Option Nat) (a1 : Option Nat) (h : Hp) : Out (Option Nat) :=
  bV h a0 12 (fun q15 => sX4_word G N (some q15) h) fun v1 h2 =>
  bV h2 a1 13 (fun q14 => sX6_find G N (some q14) v1 h2) fun v3 h4 =>
  gJ (fun (x5 : Int32) (h6 : Hp) =>
  bV h6 a0 12 (fun q13 => sX4_check G N (some q13) x5 (3 : Int32) h6) fun v8 h9 =>
  bV h9 a0 12 (fun q12 => sX4_step G N (some q12) h9) fun v10 h11 =>
  some (.inl v1, h11)) fun j7 =>
  if v3 = (-1 : Int32) then (j7 (1 : Int32) h4)
  else j7 (0 : Int32) h4
abbrev mX4_name : MI := (RX4, cX4_name, 3, (some (.object "java/lang/String")), [], 7, 155, "name")
theorem tX4_name {G : GG} {l : Launch} (hs : l.stackTraces = false) {N : Nat} {a0 : Option Nat} {a1 : Option Nat} {h : Hp} {r : Option Nat ⊕ Nat} {hf : Hp} (ho : sX4_name G N a0 a1 h = some (r, hf)) : gMet G l yX4_name (ws_ yX4_name cX4_name 3 (some (.object "java/lang/String"))) 7 155 [gr a0, gr a1] h cvR r hf := by
  refine gMet.of ho hs (plainFor_of_name pn_X4) rfl rfl (gbl rfl) fun X => ?_
  show gT G l X mX4_name cvR r hf 0 [(0, gr a0), (1, gr a1)] [] h (sX4_name G N a0 a1 h)
  delta sX4_name
  refine g_aload_n (pc := 0) (x := a0) 0 rfl rfl dX4_name_0 ?_
  refine g_bVr (pc := 1) (y := yX4_word) (ws := ws_ yX4_word cX4_word 3 (some (.object "java/lang/String"))) (fr := 6) (lo := 133) (as := []) (st := []) (g_no) rfl (fun _ _ _ e => tX4_word hs e) (fun K _ _ _ hq hM R e1 e2 => g_runV (M := mX4_name) (pc := 1) (y := yX4_word) (bytes := cX4_word) (maxL := 3) (ret := (some (.object "java/lang/String"))) (fr := 6) (lo := 133) (as := []) (st := []) hq (C := "FlareSlopes$Parser") rfl gy_X4_word (gbl rfl) (gbl rfl) (gbl rfl) q581 q583 qs5 dX4_name_1 K hM R e1 e2) fun v1 h2 => ?_
  refine g_astore_n (pc := 4) (lv' := [(2, gr v1), (0, gr a0), (1, gr a1)]) [0, 1, 2] rfl rfl (gblt rfl) dX4_name_4 ?_
  refine g_aload_n (pc := 5) (x := a0) 1 rfl rfl dX4_name_5 ?_
  refine g_aload_n (pc := 6) (x := a1) 2 rfl rfl dX4_name_6 ?_
  refine g_aload_n (pc := 7) (x := v1) 0 rfl rfl dX4_name_7 ?_
  refine g_bVi (pc := 8) (y := yX6_find) (ws := ws_ yX6_find cX6_find 3 (some .int)) (fr := 5) (lo := 111) (as := [gr v1]) (st := [gr a0]) (g_no) rfl (fun _ _ _ e => tX6_find hs e) (fun K _ _ _ hq hM R e1 e2 => g_runV (M := mX4_name) (pc := 8) (y := yX6_find) (bytes := cX6_find) (maxL := 3) (ret := (some .int)) (fr := 5) (lo := 111) (as := [gr v1]) (st := [gr a0]) hq (C := "FlareSlopes$Register") rfl gy_X6_find (gbl rfl) (gbl rfl) (gbl rfl) q981 q982 q983 dX4_name_8 K hM R e1 e2) fun v3 h4 => ?_
  refine g_iconst (pc := 11) (v := (-1 : Int32)) ic_m1 dX4_name_11 ?_
  refine g_join 20 (fun (x5 : Int32) => [(0, gr a0), (2, gr v1)]) (fun (x5 : Int32) => [gi x5, gr a0]) (fun x5 h6 => ?_) (fun j7 Hj7 => ?_)
  · refine g_iconst (pc := 20) (v := (3 : Int32)) ic_3 dX4_name_20 ?_
    refine g_bVu (pc := 21) (y := yX4_check) (ws := ws_ yX4_check cX4_check 3 none) (fr := 4) (lo := 82) (as := [gi x5, gi (3 : Int32)]) (st := []) (g_no) rfl (fun _ _ _ e => tX4_check hs e) (fun K _ _ _ hq hM R e1 e2 => g_runV (M := mX4_name) (pc := 21) (y := yX4_check) (bytes := cX4_check) (maxL := 3) (ret := none) (fr := 4) (lo := 82) (as := [gi x5, gi (3 : Int32)]) (st := []) hq (C := "FlareSlopes$Parser") rfl gy_X4_check (gbl rfl) (gbl rfl) (gbl rfl) q585 q587 qs6 dX4_name_21 K hM R e1 e2) fun v8 h9 => ?_
    refine g_aload_n (pc := 24) (x := a0) 0 rfl rfl dX4_name_24 ?_
    refine g_bVu (pc := 25) (y := yX4_step) (ws := ws_ yX4_step cX4_step 3 none) (fr := 2) (lo := 46) (as := []) (st := []) (g_no) rfl (fun _ _ _ e => tX4_step hs e) (fun K _ _ _ hq hM R e1 e2 => g_runV (M := mX4_name) (pc := 25) (y := yX4_step) (bytes := cX4_step) (maxL := 3) (ret := none) (fr := 2) (lo := 46) (as := []) (st := []) hq (C := "FlareSlopes$Parser") rfl gy_X4_step (gbl rfl) (gbl rfl) (gbl rfl) q537 q539 qs1 dX4_name_25 K hM R e1 e2) fun v10 h11 => ?_
    refine g_aload_n (pc := 28) (x := v1) 1 rfl rfl dX4_name_28 ?_
    exact g_areturn (pc := 29) rfl (Or.inl ⟨_, rfl⟩) dX4_name_29
  refine g_icmp_ne (pc := 12) (tgt := 19) rfl dX4_name_12 ?_ ?_
  rotate_left
  · refine g_iconst (pc := 19) (v := (0 : Int32)) ic_0 dX4_name_19 ?_
    exact g_sub [1, 0] rfl (Hj7 (0 : Int32) h4)
  refine g_iconst (pc := 15) (v := (1 : Int32)) ic_1 dX4_name_15 ?_
  refine g_goto (pc := 16) (tgt := 20) rfl dX4_name_16 ?_
  exact g_sub [1, 0] rfl (Hj7 (1 : Int32) h4)
/-! FlareSlopes$Spot.<init>(Ljava/lang/String;IIII)V -/
noncomputable def sX9_init (G : GG) (N : Nat) (a0 : Option Nat) (a1 : Option Nat) (a2 : Int32) (a3 : Int32) (a4 : Int32) (a5 : Int32) (h : Hp) : Out (Unit) :=
  gNN a0 (gP G h a0 15 0 (va_rf a1) fun h1 =>
  gP G h1 a0 15 1 (.int a2) fun h2 =>
  gP G h2 a0 15 2 (.int a3) fun h3 =>
  gP G h3 a0 15 3 (.int a4) fun h4 =>
  gP G h4 a0 15 4 (.int a5) fun h5 =>
  some (.inl (), h5))
abbrev mX9_init : MI := (RX9, cX9_init, 6, none, [], 1, 12, "<init>")
theorem tX9_init {G : GG} {l : Launch} (hs : l.stackTraces = false) {N : Nat} {a0 : Option Nat} {a1 : Option Nat} {a2 : Int32} {a3 : Int32} {a4 : Int32} {a5 : Int32} {h : Hp} {r : Unit ⊕ Nat} {hf : Hp} (ho : sX9_init G N a0 a1 a2 a3 a4 a5 h = some (r, hf)) : gMet G l yX9_init (ws_ yX9_init cX9_init 6 none) 1 12 [gr a0, gr a1, gi a2, gi a3, gi a4, gi a5] h cvU r hf := by
  refine gMet.of ho hs (plainFor_of_name pn_X9) rfl rfl (gbl rfl) fun X => ?_
  show gT G l X mX9_init cvU r hf 0 [(0, gr a0), (1, gr a1), (2, gi a2), (3, gi a3), (4, gi a4), (5, gi a5)] [] h (sX9_init G N a0 a1 a2 a3 a4 a5 h)
  delta sX9_init
  refine g_aload_n (pc := 0) (x := a0) 0 rfl rfl dX9_init_0 ?_
  refine g_objInit' (pc := 1) q1064 oi_in oi_code (gbl rfl) (gbl rfl) dX9_init_1 ?_
  refine g_aload_n (pc := 4) (x := a0) 0 rfl rfl dX9_init_4 ?_
  refine g_aload_n (pc := 5) (x := a1) 1 rfl rfl dX9_init_5 ?_
  refine g_putFin (pc := 6) k_15 (gblt rfl) lk_X9_7_15 q1065 rfl rfl rfl rfl (gNr _ _) dX9_init_6 fun h1 => ?_
  refine g_aload_n (pc := 9) (x := a0) 0 rfl rfl dX9_init_9 ?_
  refine g_iload_n (pc := 10) (x := a2) 2 rfl rfl dX9_init_10 ?_
  refine g_putFin (pc := 11) k_15 (gblt rfl) lk_X9_13_15 q1067 rfl rfl rfl rfl (gNi _) dX9_init_11 fun h2 => ?_
  refine g_aload_n (pc := 14) (x := a0) 0 rfl rfl dX9_init_14 ?_
  refine g_iload_n (pc := 15) (x := a3) 3 rfl rfl dX9_init_15 ?_
  refine g_putFin (pc := 16) k_15 (gblt rfl) lk_X9_17_15 q1070 rfl rfl rfl rfl (gNi _) dX9_init_16 fun h3 => ?_
  refine g_aload_n (pc := 19) (x := a0) 0 rfl rfl dX9_init_19 ?_
  refine g_iload (pc := 20) (x := a4) 4 rfl dX9_init_20 ?_
  refine g_putFin (pc := 22) k_15 (gblt rfl) lk_X9_20_15 q1073 rfl rfl rfl rfl (gNi _) dX9_init_22 fun h4 => ?_
  refine g_aload_n (pc := 25) (x := a0) 0 rfl rfl dX9_init_25 ?_
  refine g_iload (pc := 26) (x := a5) 5 rfl dX9_init_26 ?_
  refine g_putFin (pc := 28) k_15 (gblt rfl) lk_X9_23_15 q1076 rfl rfl rfl rfl (gNi _) dX9_init_28 fun h5 => ?_
  exact g_return (pc := 31) rfl dX9_init_31
/-! java/util/ArrayList.grow(I)[Ljava/lang/Object; -/
noncomputable def sJ12_grow_2 (G : GG) (N : Nat) (a0 : Option Nat) (a1 : Int32) (h : Hp) : Out (Option Nat) :=
  gFr h a0 24 1 fun v1 =>
  gLen h v1 fun v2 =>
  if 0 < v2 then (none)
  else gFr h a0 24 1 fun v3 =>
  if v3 = (some (G.2.2.2.2 0)) then (bnd (sJ14_max G N (10 : Int32) a1 h) fun v4 h5 =>
  gNA h5 5 z_R v4 fun v6 h7 =>
  gP G h7 a0 24 1 (va_rf v6) fun h8 =>
  some (.inl v6, h8))
  else none
abbrev mJ12_grow_2 : MI := (RJ12, cJ12_grow_2, 4, (some (.array (.object "java/lang/Object"))), [], 1, 21, "grow")
theorem tJ12_grow_2 {G : GG} {l : Launch} (hs : l.stackTraces = false) {N : Nat} {a0 : Option Nat} {a1 : Int32} {h : Hp} {r : Option Nat ⊕ Nat} {hf : Hp} (ho : sJ12_grow_2 G N a0 a1 h = some (r, hf)) : gMet G l yJ12_grow_2 (ws_ yJ12_grow_2 cJ12_grow_2 4 (some (.array (.object "java/lang/Object")))) 1 21 [gr a0, gi a1] h cvR r hf := by
  refine gMet.of ho hs (plainFor_of_name pn_J12) rfl rfl (gbl rfl) fun X => ?_
  show gT G l X mJ12_grow_2 cvR r hf 0 [(0, gr a0), (1, gi a1)] [] h (sJ12_grow_2 G N a0 a1 h)
  delta sJ12_grow_2
  refine g_aload_n (pc := 0) (x := a0) 0 rfl rfl dJ12_grow_2_0 ?_
  refine g_getfr (pc := 1) k_24 (gblt rfl) lk_J12_9_24 dJ12_grow_2_1 fun v1 => ?_
  refine g_alen (pc := 4) dJ12_grow_2_4 fun v2 => ?_
  refine g_istore_n (pc := 5) (lv' := [(2, gi v2), (0, gr a0), (1, gi a1)]) [0, 1, 2] rfl rfl (gblt rfl) dJ12_grow_2_5 ?_
  refine g_iload_n (pc := 6) (x := v2) 0 rfl rfl dJ12_grow_2_6 ?_
  refine g_if_gt (pc := 7) (tgt := 20) rfl dJ12_grow_2_7 ?_ ?_
  · exact g_none
  refine g_aload_n (pc := 10) (x := a0) 1 rfl rfl dJ12_grow_2_10 ?_
  refine g_getfr (pc := 11) k_24 (gblt rfl) lk_J12_9_24 dJ12_grow_2_11 fun v3 => ?_
  refine g_gets (pc := 14) (sv := .inr 0) (w := gr (some (G.2.2.2.2 0))) sfl_1 rfl ⟨Or.inl q465, Or.inl rfl⟩ dJ12_grow_2_14 ?_
  refine g_acmp_eq (pc := 17) (tgt := 45) rfl dJ12_grow_2_17 ?_ ?_
  rotate_left
  · exact g_none
  refine g_aload_n (pc := 45) (x := a0) 1 rfl rfl dJ12_grow_2_45 ?_
  refine g_bipush (pc := 46) (v := (10 : Int32)) bc_10 dJ12_grow_2_46 ?_
  refine g_iload_n (pc := 48) (x := a1) 2 rfl rfl dJ12_grow_2_48 ?_
  refine g_bi (pc := 49) (y := yJ14_max) (ws := ws_ yJ14_max cJ14_max 2 (some .int)) (fr := 0) (lo := 0) (as := [gi (10 : Int32), gi a1]) (st := [gr a0]) (g_no) rfl (fun _ _ e => tJ14_max hs e) (fun K _ _ hM R e1 e2 => g_runS (M := mJ12_grow_2) (pc := 49) (y := yJ14_max) (bytes := cJ14_max) (maxL := 2) (ret := (some .int)) (fr := 0) (lo := 0) (as := [gi (10 : Int32), gi a1]) (st := [gr a0]) gy_J14_max (gbl rfl) (gbl rfl) (gbl rfl) q1172 q638 dJ12_grow_2_49 K hM R e1 e2) fun v4 h5 => ?_
  refine g_anewarray (pc := 52) rfl q1173 q219 dJ12_grow_2_52 fun v6 h7 => ?_
  refine g_dup_x1 (pc := 55) rfl rfl dJ12_grow_2_55 ?_
  refine g_put (pc := 56) k_24 (gblt rfl) lk_J12_9_24 rfl rfl (gNa _ _) dJ12_grow_2_56 fun h8 => ?_
  exact g_areturn (pc := 59) rfl (Or.inr ⟨_, rfl⟩) dJ12_grow_2_59
/-! java/util/ArrayList.grow()[Ljava/lang/Object; -/
noncomputable def sJ12_grow (G : GG) (N : Nat) (a0 : Option Nat) (h : Hp) : Out (Option Nat) :=
  gFi h a0 24 2 fun v1 =>
  bV h a0 24 (fun q4 => sJ12_grow_2 G N (some q4) (v1 + (1 : Int32)) h) fun v2 h3 =>
  some (.inl v2, h3)
abbrev mJ12_grow : MI := (RJ12, cJ12_grow, 1, (some (.array (.object "java/lang/Object"))), [], 2, 44, "grow")
theorem tJ12_grow {G : GG} {l : Launch} (hs : l.stackTraces = false) {N : Nat} {a0 : Option Nat} {h : Hp} {r : Option Nat ⊕ Nat} {hf : Hp} (ho : sJ12_grow G N a0 h = some (r, hf)) : gMet G l yJ12_grow (ws_ yJ12_grow cJ12_grow 1 (some (.array (.object "java/lang/Object")))) 2 44 [gr a0] h cvR r hf := by
  refine gMet.of ho hs (plainFor_of_name pn_J12) rfl rfl (gbl rfl) fun X => ?_
  show gT G l X mJ12_grow cvR r hf 0 [(0, gr a0)] [] h (sJ12_grow G N a0 h)
  delta sJ12_grow
  refine g_aload_n (pc := 0) (x := a0) 0 rfl rfl dJ12_grow_0 ?_
  refine g_aload_n (pc := 1) (x := a0) 0 rfl rfl dJ12_grow_1 ?_
  refine g_getfi (pc := 2) k_24 (gblt rfl) lk_J12_48_24 dJ12_grow_2 fun v1 => ?_
  refine g_iconst (pc := 5) (v := (1 : Int32)) ic_1 dJ12_grow_5 ?_
  refine g_iadd (pc := 6) dJ12_grow_6 ?_
  refine g_bVr (pc := 7) (y := yJ12_grow_2) (ws := ws_ yJ12_grow_2 cJ12_grow_2 4 (some (.array (.object "java/lang/Object")))) (fr := 1) (lo := 21) (as := [gi (v1 + (1 : Int32))]) (st := []) (g_no) rfl (fun _ _ _ e => tJ12_grow_2 hs e) (fun K _ _ _ hq hM R e1 e2 => g_runV (M := mJ12_grow) (pc := 7) (y := yJ12_grow_2) (bytes := cJ12_grow_2) (maxL := 4) (ret := (some (.array (.object "java/lang/Object")))) (fr := 1) (lo := 21) (as := [gi (v1 + (1 : Int32))]) (st := []) hq (C := "java/util/ArrayList") rfl gy_J12_grow_2 (gbl rfl) (gbl rfl) (gbl rfl) q1110 q1112 qs14 dJ12_grow_7 K hM R e1 e2) fun v2 h3 => ?_
  exact g_areturn (pc := 10) rfl (Or.inr ⟨_, rfl⟩) dJ12_grow_10
/-! java/util/ArrayList.add(Ljava/lang/Object;[Ljava/lang/Object;I)V -/
noncomputable def sJ12_add_2 (G : GG) (N : Nat) (a0 : Option Nat) (a1 : Option Nat) (a2 : Option Nat) (a3 : Int32) (h : Hp) : Out (Unit) :=
  gLen h a2 fun v1 =>
  gJ (fun (x2 : Option Nat) (h3 : Hp) =>
  gSr G h3 x2 5 asl_java_lang_Object a3 a1 fun h5 =>
  gP G h5 a0 24 2 (.int (a3 + (1 : Int32))) fun h6 =>
  some (.inl (), h6)) fun j4 =>
  if a3 = v1 then (bV h a0 24 (fun q9 => sJ12_grow G N (some q9) h) fun v7 h8 =>
  j4 v7 h8)
  else j4 a2 h
abbrev mJ12_add_2 : MI := (RJ12, cJ12_add_2, 4, none, [], 3, 64, "add")
theorem tJ12_add_2 {G : GG} {l : Launch} (hs : l.stackTraces = false) {N : Nat} {a0 : Option Nat} {a1 : Option Nat} {a2 : Option Nat} {a3 : Int32} {h : Hp} {r : Unit ⊕ Nat} {hf : Hp} (ho : sJ12_add_2 G N a0 a1 a2 a3 h = some (r, hf)) : gMet G l yJ12_add_2 (ws_ yJ12_add_2 cJ12_add_2 4 none) 3 64 [gr a0, gr a1, gr a2, gi a3] h cvU r hf := by
  refine gMet.of ho hs (plainFor_of_name pn_J12) rfl rfl (gbl rfl) fun X => ?_
  show gT G l X mJ12_add_2 cvU r hf 0 [(0, gr a0), (1, gr a1), (2, gr a2), (3, gi a3)] [] h (sJ12_add_2 G N a0 a1 a2 a3 h)
  delta sJ12_add_2
  refine g_iload_n (pc := 0) (x := a3) 3 rfl rfl dJ12_add_2_0 ?_
  refine g_aload_n (pc := 1) (x := a2) 2 rfl rfl dJ12_add_2_1 ?_
  refine g_alen (pc := 2) dJ12_add_2_2 fun v1 => ?_
  refine g_join 11 (fun (x2 : Option Nat) => [(0, gr a0), (1, gr a1), (2, gr x2), (3, gi a3)]) (fun (x2 : Option Nat) => []) (fun x2 h3 => ?_) (fun j4 Hj4 => ?_)
  · refine g_aload_n (pc := 11) (x := x2) 2 rfl rfl dJ12_add_2_11 ?_
    refine g_iload_n (pc := 12) (x := a3) 3 rfl rfl dJ12_add_2_12 ?_
    refine g_aload_n (pc := 13) (x := a1) 1 rfl rfl dJ12_add_2_13 ?_
    refine g_aastore (pc := 14) rfl asl_java_lang_Object_ok dJ12_add_2_14 fun h5 => ?_
    refine g_aload_n (pc := 15) (x := a0) 0 rfl rfl dJ12_add_2_15 ?_
    refine g_iload_n (pc := 16) (x := a3) 3 rfl rfl dJ12_add_2_16 ?_
    refine g_iconst (pc := 17) (v := (1 : Int32)) ic_1 dJ12_add_2_17 ?_
    refine g_iadd (pc := 18) dJ12_add_2_18 ?_
    refine g_put (pc := 19) k_24 (gblt rfl) lk_J12_48_24 rfl rfl (gNi _) dJ12_add_2_19 fun h6 => ?_
    exact g_return (pc := 22) rfl dJ12_add_2_22
  refine g_icmp_ne (pc := 3) (tgt := 11) rfl dJ12_add_2_3 ?_ ?_
  rotate_left
  · exact Hj4 a2 h
  refine g_aload_n (pc := 6) (x := a0) 0 rfl rfl dJ12_add_2_6 ?_
  refine g_bVr (pc := 7) (y := yJ12_grow) (ws := ws_ yJ12_grow cJ12_grow 1 (some (.array (.object "java/lang/Object")))) (fr := 2) (lo := 44) (as := []) (st := []) (g_no) rfl (fun _ _ _ e => tJ12_grow hs e) (fun K _ _ _ hq hM R e1 e2 => g_runV (M := mJ12_add_2) (pc := 7) (y := yJ12_grow) (bytes := cJ12_grow) (maxL := 1) (ret := (some (.array (.object "java/lang/Object")))) (fr := 2) (lo := 44) (as := []) (st := []) hq (C := "java/util/ArrayList") rfl gy_J12_grow (gbl rfl) (gbl rfl) (gbl rfl) q1106 q1108 qs13 dJ12_add_2_7 K hM R e1 e2) fun v7 h8 => ?_
  refine g_astore_n (pc := 10) (lv' := [(2, gr v7), (0, gr a0), (1, gr a1), (3, gi a3)]) [0, 1, 2, 3] rfl rfl (gblt rfl) dJ12_add_2_10 ?_
  exact g_sub [1, 2, 0, 3] rfl (Hj4 v7 h8)
/-! java/util/ArrayList.add(Ljava/lang/Object;)Z -/
noncomputable def sJ12_add (G : GG) (N : Nat) (a0 : Option Nat) (a1 : Option Nat) (h : Hp) : Out (Int32) :=
  gFi h a0 24 0 fun v1 =>
  gP G h a0 24 0 (.int (v1 + (1 : Int32))) fun h2 =>
  gFr h2 a0 24 1 fun v3 =>
  gFi h2 a0 24 2 fun v4 =>
  bV h2 a0 24 (fun q7 => sJ12_add_2 G N (some q7) a1 v3 v4 h2) fun v5 h6 =>
  gRtZ (1 : Int32) h6
abbrev mJ12_add : MI := (RJ12, cJ12_add, 2, (some .boolean), [], 4, 87, "add")
theorem tJ12_add {G : GG} {l : Launch} (hs : l.stackTraces = false) {N : Nat} {a0 : Option Nat} {a1 : Option Nat} {h : Hp} {r : Int32 ⊕ Nat} {hf : Hp} (ho : sJ12_add G N a0 a1 h = some (r, hf)) : gMet G l yJ12_add (ws_ yJ12_add cJ12_add 2 (some .boolean)) 4 87 [gr a0, gr a1] h cvI r hf := by
  refine gMet.of ho hs (plainFor_of_name pn_J12) rfl rfl (gbl rfl) fun X => ?_
  show gT G l X mJ12_add cvI r hf 0 [(0, gr a0), (1, gr a1)] [] h (sJ12_add G N a0 a1 h)
  delta sJ12_add
  refine g_aload_n (pc := 0) (x := a0) 0 rfl rfl dJ12_add_0 ?_
  refine g_dup (pc := 1) rfl dJ12_add_1 ?_
  refine g_getfi (pc := 2) k_24 (gblt rfl) lk_J12_63_24 dJ12_add_2 fun v1 => ?_
  refine g_iconst (pc := 5) (v := (1 : Int32)) ic_1 dJ12_add_5 ?_
  refine g_iadd (pc := 6) dJ12_add_6 ?_
  refine g_put (pc := 7) k_24 (gblt rfl) lk_J12_63_24 rfl rfl (gNi _) dJ12_add_7 fun h2 => ?_
  refine g_aload_n (pc := 10) (x := a0) 0 rfl rfl dJ12_add_10 ?_
  refine g_aload_n (pc := 11) (x := a1) 1 rfl rfl dJ12_add_11 ?_
  refine g_aload_n (pc := 12) (x := a0) 0 rfl rfl dJ12_add_12 ?_
  refine g_getfr (pc := 13) k_24 (gblt rfl) lk_J12_9_24 dJ12_add_13 fun v3 => ?_
  refine g_aload_n (pc := 16) (x := a0) 0 rfl rfl dJ12_add_16 ?_
  refine g_getfi (pc := 17) k_24 (gblt rfl) lk_J12_48_24 dJ12_add_17 fun v4 => ?_
  refine g_bVu (pc := 20) (y := yJ12_add_2) (ws := ws_ yJ12_add_2 cJ12_add_2 4 none) (fr := 3) (lo := 64) (as := [gr a1, gr v3, gi v4]) (st := []) (g_no) rfl (fun _ _ _ e => tJ12_add_2 hs e) (fun K _ _ _ hq hM R e1 e2 => g_runV (M := mJ12_add) (pc := 20) (y := yJ12_add_2) (bytes := cJ12_add_2) (maxL := 4) (ret := none) (fr := 3) (lo := 64) (as := [gr a1, gr v3, gi v4]) (st := []) hq (C := "java/util/ArrayList") rfl gy_J12_add_2 (gbl rfl) (gbl rfl) (gbl rfl) q1102 q1104 qs12 dJ12_add_20 K hM R e1 e2) fun v5 h6 => ?_
  refine g_iconst (pc := 23) (v := (1 : Int32)) ic_1 dJ12_add_23 ?_
  exact g_zreturn (pc := 24) rfl dJ12_add_24
/-! FlareSlopes$Register.add(LFlareSlopes$Named;)V -/
noncomputable def sX6_add (G : GG) (N : Nat) (a0 : Option Nat) (a1 : Option Nat) (h : Hp) : Out (Unit) :=
  gFr h a0 13 0 fun v1 =>
  bV h v1 24 (fun q4 => sJ12_add G N (some q4) a1 h) fun v2 h3 =>
  some (.inl (), h3)
abbrev mX6_add : MI := (RX6, cX6_add, 2, none, [], 5, 108, "add")
theorem tX6_add {G : GG} {l : Launch} (hs : l.stackTraces = false) {N : Nat} {a0 : Option Nat} {a1 : Option Nat} {h : Hp} {r : Unit ⊕ Nat} {hf : Hp} (ho : sX6_add G N a0 a1 h = some (r, hf)) : gMet G l yX6_add (ws_ yX6_add cX6_add 2 none) 5 108 [gr a0, gr a1] h cvU r hf := by
  refine gMet.of ho hs (plainFor_of_name pn_X6) rfl rfl (gbl rfl) fun X => ?_
  show gT G l X mX6_add cvU r hf 0 [(0, gr a0), (1, gr a1)] [] h (sX6_add G N a0 a1 h)
  delta sX6_add
  refine g_aload_n (pc := 0) (x := a0) 0 rfl rfl dX6_add_0 ?_
  refine g_getfr (pc := 1) k_13 (gblt rfl) lk_X6_12_13 dX6_add_1 fun v1 => ?_
  refine g_aload_n (pc := 4) (x := a1) 1 rfl rfl dX6_add_4 ?_
  refine g_bVi (pc := 5) (y := yJ12_add) (ws := ws_ yJ12_add cJ12_add 2 (some .boolean)) (fr := 4) (lo := 87) (as := [gr a1]) (st := []) (g_no) rfl (fun _ _ _ e => tJ12_add hs e) (fun K _ _ _ hq hM R e1 e2 => g_runF (x := ⟨"java/util/List", "add", "(Ljava/lang/Object;)Z"⟩) (M := mX6_add) (pc := 5) (y := yJ12_add) (bytes := cJ12_add) (maxL := 2) (ret := (some .boolean)) (fr := 4) (lo := 87) (as := [gr a1]) (st := []) hq (C := "java/util/ArrayList") rfl gy_J12_add rfl (gbl rfl) (gbl rfl) (gbl rfl) q1094 q1096 q1095 q1100 q1098 q971 mhx_java_util_List q1097 q1099 dX6_add_5 K hM R e1 e2) fun v2 h3 => ?_
  refine g_pop (pc := 10) rfl dX6_add_10 ?_
  exact g_return (pc := 11) rfl dX6_add_11
/-! FlareSlopes$Parser.spot(LFlareSlopes$Register;LFlareSlopes$Register;Z)V -/
noncomputable def sX4_spot (G : GG) (N : Nat) (a0 : Option Nat) (a1 : Option Nat) (a2 : Option Nat) (a3 : Int32) (h : Hp) : Out (Unit) :=
  bV h a2 13 (fun q38 => sX6_isFull G N (some q38) h) fun v1 h2 =>
  gJ (fun (x3 : Int32) (h4 : Hp) =>
  bV h4 a0 12 (fun q37 => sX4_check G N (some q37) x3 (4 : Int32) h4) fun v6 h7 =>
  bV h7 a0 12 (fun q36 => sX4_step G N (some q36) h7) fun v8 h9 =>
  bV h9 a0 12 (fun q35 => sX4_name G N (some q35) a2 h9) fun v10 h11 =>
  bV h11 a0 12 (fun q34 => sX4_number G N (some q34) (0 : Int32) (99 : Int32) h11) fun v12 h13 =>
  bV h13 a0 12 (fun q33 => sX4_number G N (some q33) (0 : Int32) (99 : Int32) h13) fun v14 h15 =>
  bV h15 a0 12 (fun q32 => sX4_number G N (some q32) (0 : Int32) (999 : Int32) h15) fun v16 h17 =>
  gNew h17 15 [.null, .int 0, .int 0, .int 0, .int 0] 5 fun v18 h19 =>
  gJ (fun (x20 : Int32) (h21 : Hp) =>
  bI v18 (fun q28 => sX9_init G N (some q28) v10 v12 v14 v16 x20 h21) fun v23 h24 =>
  bV h24 a1 13 (fun q27 => sX6_add G N (some q27) v18 h24) fun v25 h26 =>
  some (.inl (), h26)) fun j22 =>
  if a3 = 0 then (j22 (0 : Int32) h19)
  else bV h19 a0 12 (fun q31 => sX4_number G N (some q31) (0 : Int32) (99 : Int32) h19) fun v29 h30 =>
  j22 v29 h30) fun j5 =>
  if v1 = 0 then (j5 (1 : Int32) h2)
  else j5 (0 : Int32) h2
abbrev mX4_spot : MI := (RX4, cX4_spot, 8, none, [], 8, 177, "spot")
theorem tX4_spot {G : GG} {l : Launch} (hs : l.stackTraces = false) {N : Nat} {a0 : Option Nat} {a1 : Option Nat} {a2 : Option Nat} {a3 : Int32} {h : Hp} {r : Unit ⊕ Nat} {hf : Hp} (ho : sX4_spot G N a0 a1 a2 a3 h = some (r, hf)) : gMet G l yX4_spot (ws_ yX4_spot cX4_spot 8 none) 8 177 [gr a0, gr a1, gr a2, gi a3] h cvU r hf := by
  refine gMet.of ho hs (plainFor_of_name pn_X4) rfl rfl (gbl rfl) fun X => ?_
  show gT G l X mX4_spot cvU r hf 0 [(0, gr a0), (1, gr a1), (2, gr a2), (3, gi a3)] [] h (sX4_spot G N a0 a1 a2 a3 h)
  delta sX4_spot
  refine g_aload_n (pc := 0) (x := a0) 0 rfl rfl dX4_spot_0 ?_
  refine g_aload_n (pc := 1) (x := a2) 2 rfl rfl dX4_spot_1 ?_
  refine g_bVi (pc := 2) (y := yX6_isFull) (ws := ws_ yX6_isFull cX6_isFull 1 (some .boolean)) (fr := 2) (lo := 40) (as := []) (st := [gr a0]) (g_no) rfl (fun _ _ _ e => tX6_isFull hs e) (fun K _ _ _ hq hM R e1 e2 => g_runV (M := mX4_spot) (pc := 2) (y := yX6_isFull) (bytes := cX6_isFull) (maxL := 1) (ret := (some .boolean)) (fr := 2) (lo := 40) (as := []) (st := [gr a0]) hq (C := "FlareSlopes$Register") rfl gy_X6_isFull (gbl rfl) (gbl rfl) (gbl rfl) q959 q960 q961 dX4_spot_2 K hM R e1 e2) fun v1 h2 => ?_
  refine g_join 13 (fun (x3 : Int32) => [(0, gr a0), (1, gr a1), (2, gr a2), (3, gi a3)]) (fun (x3 : Int32) => [gi x3, gr a0]) (fun x3 h4 => ?_) (fun j5 Hj5 => ?_)
  · refine g_iconst (pc := 13) (v := (4 : Int32)) ic_4 dX4_spot_13 ?_
    refine g_bVu (pc := 14) (y := yX4_check) (ws := ws_ yX4_check cX4_check 3 none) (fr := 4) (lo := 82) (as := [gi x3, gi (4 : Int32)]) (st := []) (g_no) rfl (fun _ _ _ e => tX4_check hs e) (fun K _ _ _ hq hM R e1 e2 => g_runV (M := mX4_spot) (pc := 14) (y := yX4_check) (bytes := cX4_check) (maxL := 3) (ret := none) (fr := 4) (lo := 82) (as := [gi x3, gi (4 : Int32)]) (st := []) hq (C := "FlareSlopes$Parser") rfl gy_X4_check (gbl rfl) (gbl rfl) (gbl rfl) q585 q587 qs6 dX4_spot_14 K hM R e1 e2) fun v6 h7 => ?_
    refine g_aload_n (pc := 17) (x := a0) 0 rfl rfl dX4_spot_17 ?_
    refine g_bVu (pc := 18) (y := yX4_step) (ws := ws_ yX4_step cX4_step 3 none) (fr := 2) (lo := 46) (as := []) (st := []) (g_no) rfl (fun _ _ _ e => tX4_step hs e) (fun K _ _ _ hq hM R e1 e2 => g_runV (M := mX4_spot) (pc := 18) (y := yX4_step) (bytes := cX4_step) (maxL := 3) (ret := none) (fr := 2) (lo := 46) (as := []) (st := []) hq (C := "FlareSlopes$Parser") rfl gy_X4_step (gbl rfl) (gbl rfl) (gbl rfl) q537 q539 qs1 dX4_spot_18 K hM R e1 e2) fun v8 h9 => ?_
    refine g_aload_n (pc := 21) (x := a0) 0 rfl rfl dX4_spot_21 ?_
    refine g_aload_n (pc := 22) (x := a2) 2 rfl rfl dX4_spot_22 ?_
    refine g_bVr (pc := 23) (y := yX4_name) (ws := ws_ yX4_name cX4_name 3 (some (.object "java/lang/String"))) (fr := 7) (lo := 155) (as := [gr a2]) (st := []) (g_no) rfl (fun _ _ _ e => tX4_name hs e) (fun K _ _ _ hq hM R e1 e2 => g_runV (M := mX4_spot) (pc := 23) (y := yX4_name) (bytes := cX4_name) (maxL := 3) (ret := (some (.object "java/lang/String"))) (fr := 7) (lo := 155) (as := [gr a2]) (st := []) hq (C := "FlareSlopes$Parser") rfl gy_X4_name (gbl rfl) (gbl rfl) (gbl rfl) q977 q979 qs11 dX4_spot_23 K hM R e1 e2) fun v10 h11 => ?_
    refine g_astore (pc := 26) (lv' := [(4, gr v10), (0, gr a0), (1, gr a1), (3, gi a3)]) [0, 1, 2, 4] rfl (gblt rfl) dX4_spot_26 ?_
    refine g_aload_n (pc := 28) (x := a0) 1 rfl rfl dX4_spot_28 ?_
    refine g_iconst (pc := 29) (v := (0 : Int32)) ic_0 dX4_spot_29 ?_
    refine g_bipush (pc := 30) (v := (99 : Int32)) bc_99 dX4_spot_30 ?_
    refine g_bVi (pc := 32) (y := yX4_number) (ws := ws_ yX4_number cX4_number 4 (some .int)) (fr := 5) (lo := 104) (as := [gi (0 : Int32), gi (99 : Int32)]) (st := []) (g_no) rfl (fun _ _ _ e => tX4_number hs e) (fun K _ _ _ hq hM R e1 e2 => g_runV (M := mX4_spot) (pc := 32) (y := yX4_number) (bytes := cX4_number) (maxL := 4) (ret := (some .int)) (fr := 5) (lo := 104) (as := [gi (0 : Int32), gi (99 : Int32)]) (st := []) hq (C := "FlareSlopes$Parser") rfl gy_X4_number (gbl rfl) (gbl rfl) (gbl rfl) q881 q883 qs8 dX4_spot_32 K hM R e1 e2) fun v12 h13 => ?_
    refine g_istore (pc := 35) (lv' := [(5, gi v12), (4, gr v10), (0, gr a0), (1, gr a1), (3, gi a3)]) [0, 1, 2, 3, 4] rfl (gblt rfl) dX4_spot_35 ?_
    refine g_aload_n (pc := 37) (x := a0) 2 rfl rfl dX4_spot_37 ?_
    refine g_iconst (pc := 38) (v := (0 : Int32)) ic_0 dX4_spot_38 ?_
    refine g_bipush (pc := 39) (v := (99 : Int32)) bc_99 dX4_spot_39 ?_
    refine g_bVi (pc := 41) (y := yX4_number) (ws := ws_ yX4_number cX4_number 4 (some .int)) (fr := 5) (lo := 104) (as := [gi (0 : Int32), gi (99 : Int32)]) (st := []) (g_no) rfl (fun _ _ _ e => tX4_number hs e) (fun K _ _ _ hq hM R e1 e2 => g_runV (M := mX4_spot) (pc := 41) (y := yX4_number) (bytes := cX4_number) (maxL := 4) (ret := (some .int)) (fr := 5) (lo := 104) (as := [gi (0 : Int32), gi (99 : Int32)]) (st := []) hq (C := "FlareSlopes$Parser") rfl gy_X4_number (gbl rfl) (gbl rfl) (gbl rfl) q881 q883 qs8 dX4_spot_41 K hM R e1 e2) fun v14 h15 => ?_
    refine g_istore (pc := 44) (lv' := [(6, gi v14), (5, gi v12), (4, gr v10), (0, gr a0), (1, gr a1), (3, gi a3)]) [0, 1, 2, 3, 4, 5] rfl (gblt rfl) dX4_spot_44 ?_
    refine g_aload_n (pc := 46) (x := a0) 3 rfl rfl dX4_spot_46 ?_
    refine g_iconst (pc := 47) (v := (0 : Int32)) ic_0 dX4_spot_47 ?_
    refine g_sipush (pc := 48) (v := (999 : Int32)) sc_999 dX4_spot_48 ?_
    refine g_bVi (pc := 51) (y := yX4_number) (ws := ws_ yX4_number cX4_number 4 (some .int)) (fr := 5) (lo := 104) (as := [gi (0 : Int32), gi (999 : Int32)]) (st := []) (g_no) rfl (fun _ _ _ e => tX4_number hs e) (fun K _ _ _ hq hM R e1 e2 => g_runV (M := mX4_spot) (pc := 51) (y := yX4_number) (bytes := cX4_number) (maxL := 4) (ret := (some .int)) (fr := 5) (lo := 104) (as := [gi (0 : Int32), gi (999 : Int32)]) (st := []) hq (C := "FlareSlopes$Parser") rfl gy_X4_number (gbl rfl) (gbl rfl) (gbl rfl) q881 q883 qs8 dX4_spot_51 K hM R e1 e2) fun v16 h17 => ?_
    refine g_istore (pc := 54) (lv' := [(7, gi v16), (6, gi v14), (5, gi v12), (4, gr v10), (0, gr a0), (1, gr a1), (3, gi a3)]) [0, 1, 2, 3, 4, 5, 6] rfl (gblt rfl) dX4_spot_54 ?_
    refine g_aload_n (pc := 56) (x := a1) 5 rfl rfl dX4_spot_56 ?_
    refine g_new (pc := 57) k_15 df_15 q1059 q1060 q159 dX4_spot_57 fun v18 h19 => ?_
    refine g_dup (pc := 60) rfl dX4_spot_60 ?_
    refine g_aload (pc := 61) (x := v10) 3 rfl dX4_spot_61 ?_
    refine g_iload (pc := 63) (x := v12) 2 rfl dX4_spot_63 ?_
    refine g_iload (pc := 65) (x := v14) 1 rfl dX4_spot_65 ?_
    refine g_iload (pc := 67) (x := v16) 0 rfl dX4_spot_67 ?_
    refine g_iload_n (pc := 69) (x := a3) 6 rfl rfl dX4_spot_69 ?_
    refine g_join 84 (fun (x20 : Int32) => []) (fun (x20 : Int32) => [gi x20, gi v16, gi v14, gi v12, gr v10, gr v18, gr v18, gr a1]) (fun x20 h21 => ?_) (fun j22 Hj22 => ?_)
    · refine g_bIu (pc := 84) (y := yX9_init) (ws := ws_ yX9_init cX9_init 6 none) (fr := 1) (lo := 12) (as := [gr v10, gi v12, gi v14, gi v16, gi x20]) (st := [gr v18, gr a1]) (g_no) rfl (fun _ _ _ e => tX9_init hs e) (fun K _ _ _ hM R e1 e2 => g_runI (M := mX4_spot) (pc := 84) (y := yX9_init) (bytes := cX9_init) (maxL := 6) (ret := none) (fr := 1) (lo := 12) (as := [gr v10, gi v12, gi v14, gi v16, gi x20]) (st := [gr v18, gr a1]) gy_X9_init (gbl rfl) (gbl rfl) (gbl rfl) rfl q1061 q1062 rfl dX4_spot_84 K hM R e1 e2) fun v23 h24 => ?_
      refine g_bVu (pc := 87) (y := yX6_add) (ws := ws_ yX6_add cX6_add 2 none) (fr := 5) (lo := 108) (as := [gr v18]) (st := []) (g_no) rfl (fun _ _ _ e => tX6_add hs e) (fun K _ _ _ hq hM R e1 e2 => g_runV (M := mX4_spot) (pc := 87) (y := yX6_add) (bytes := cX6_add) (maxL := 2) (ret := none) (fr := 5) (lo := 108) (as := [gr v18]) (st := []) hq (C := "FlareSlopes$Register") rfl gy_X6_add (gbl rfl) (gbl rfl) (gbl rfl) q1089 q1090 q1091 dX4_spot_87 K hM R e1 e2) fun v25 h26 => ?_
      exact g_return (pc := 90) rfl dX4_spot_90
    refine g_if_eq (pc := 70) (tgt := 83) rfl dX4_spot_70 ?_ ?_
    · refine g_iconst (pc := 83) (v := (0 : Int32)) ic_0 dX4_spot_83 ?_
      exact g_sub [] rfl (Hj22 (0 : Int32) h19)
    refine g_aload_n (pc := 73) (x := a0) 4 rfl rfl dX4_spot_73 ?_
    refine g_iconst (pc := 74) (v := (0 : Int32)) ic_0 dX4_spot_74 ?_
    refine g_bipush (pc := 75) (v := (99 : Int32)) bc_99 dX4_spot_75 ?_
    refine g_bVi (pc := 77) (y := yX4_number) (ws := ws_ yX4_number cX4_number 4 (some .int)) (fr := 5) (lo := 104) (as := [gi (0 : Int32), gi (99 : Int32)]) (st := [gi v16, gi v14, gi v12, gr v10, gr v18, gr v18, gr a1]) (g_no) rfl (fun _ _ _ e => tX4_number hs e) (fun K _ _ _ hq hM R e1 e2 => g_runV (M := mX4_spot) (pc := 77) (y := yX4_number) (bytes := cX4_number) (maxL := 4) (ret := (some .int)) (fr := 5) (lo := 104) (as := [gi (0 : Int32), gi (99 : Int32)]) (st := [gi v16, gi v14, gi v12, gr v10, gr v18, gr v18, gr a1]) hq (C := "FlareSlopes$Parser") rfl gy_X4_number (gbl rfl) (gbl rfl) (gbl rfl) q881 q883 qs8 dX4_spot_77 K hM R e1 e2) fun v29 h30 => ?_
    refine g_goto (pc := 80) (tgt := 84) rfl dX4_spot_80 ?_
    exact g_sub [] rfl (Hj22 v29 h30)
  refine g_if_ne (pc := 5) (tgt := 12) rfl dX4_spot_5 ?_ ?_
  rotate_left
  · refine g_iconst (pc := 12) (v := (0 : Int32)) ic_0 dX4_spot_12 ?_
    exact Hj5 (0 : Int32) h2
  refine g_iconst (pc := 8) (v := (1 : Int32)) ic_1 dX4_spot_8 ?_
  refine g_goto (pc := 9) (tgt := 13) rfl dX4_spot_9 ?_
  exact Hj5 (1 : Int32) h2
/-! FlareSlopes$Ridge.<init>(II)V -/
noncomputable def sX10_init (G : GG) (N : Nat) (a0 : Option Nat) (a1 : Int32) (a2 : Int32) (h : Hp) : Out (Unit) :=
  gNN a0 (gP G h a0 14 0 (.int a1) fun h1 =>
  gP G h1 a0 14 1 (.int a2) fun h2 =>
  some (.inl (), h2))
abbrev mX10_init : MI := (RX10, cX10_init, 3, none, [], 1, 12, "<init>")
theorem tX10_init {G : GG} {l : Launch} (hs : l.stackTraces = false) {N : Nat} {a0 : Option Nat} {a1 : Int32} {a2 : Int32} {h : Hp} {r : Unit ⊕ Nat} {hf : Hp} (ho : sX10_init G N a0 a1 a2 h = some (r, hf)) : gMet G l yX10_init (ws_ yX10_init cX10_init 3 none) 1 12 [gr a0, gi a1, gi a2] h cvU r hf := by
  refine gMet.of ho hs (plainFor_of_name pn_X10) rfl rfl (gbl rfl) fun X => ?_
  show gT G l X mX10_init cvU r hf 0 [(0, gr a0), (1, gi a1), (2, gi a2)] [] h (sX10_init G N a0 a1 a2 h)
  delta sX10_init
  refine g_aload_n (pc := 0) (x := a0) 0 rfl rfl dX10_init_0 ?_
  refine g_objInit' (pc := 1) q1185 oi_in oi_code (gbl rfl) (gbl rfl) dX10_init_1 ?_
  refine g_aload_n (pc := 4) (x := a0) 0 rfl rfl dX10_init_4 ?_
  refine g_iload_n (pc := 5) (x := a1) 1 rfl rfl dX10_init_5 ?_
  refine g_putFin (pc := 6) k_14 (gblt rfl) lk_X10_7_14 q1186 rfl rfl rfl rfl (gNi _) dX10_init_6 fun h1 => ?_
  refine g_aload_n (pc := 9) (x := a0) 0 rfl rfl dX10_init_9 ?_
  refine g_iload_n (pc := 10) (x := a2) 2 rfl rfl dX10_init_10 ?_
  refine g_putFin (pc := 11) k_14 (gblt rfl) lk_X10_13_14 q1188 rfl rfl rfl rfl (gNi _) dX10_init_11 fun h2 => ?_
  exact g_return (pc := 14) rfl dX10_init_14
/-! FlareSlopes$Parser.ridge()V -/
noncomputable def sX4_ridge (G : GG) (N : Nat) (a0 : Option Nat) (h : Hp) : Out (Unit) :=
  gFr h a0 12 1 fun v1 =>
  gFr h v1 11 2 fun v2 =>
  bV h v2 24 (fun q30 => sJ12_size G N (some q30) h) fun v3 h4 =>
  gJ (fun (x5 : Int32) (h6 : Hp) =>
  bV h6 a0 12 (fun q29 => sX4_check G N (some q29) x5 (4 : Int32) h6) fun v8 h9 =>
  bV h9 a0 12 (fun q28 => sX4_step G N (some q28) h9) fun v10 h11 =>
  bV h11 a0 12 (fun q27 => sX4_number G N (some q27) (1 : Int32) (99 : Int32) h11) fun v12 h13 =>
  gFr h13 a0 12 1 fun v14 =>
  gFr h13 v14 11 2 fun v15 =>
  gNew h13 14 [.int 0, .int 0] 2 fun v16 h17 =>
  bV h17 a0 12 (fun q26 => sX4_number G N (some q26) (0 : Int32) (999 : Int32) h17) fun v18 h19 =>
  bI v16 (fun q25 => sX10_init G N (some q25) v12 v18 h19) fun v20 h21 =>
  bV h21 v15 24 (fun q24 => sJ12_add G N (some q24) v16 h21) fun v22 h23 =>
  some (.inl (), h23)) fun j7 =>
  if (4 : Int32) ≤ v3 then (j7 (0 : Int32) h4)
  else j7 (1 : Int32) h4
abbrev mX4_ridge : MI := (RX4, cX4_ridge, 2, none, [], 6, 127, "ridge")
theorem tX4_ridge {G : GG} {l : Launch} (hs : l.stackTraces = false) {N : Nat} {a0 : Option Nat} {h : Hp} {r : Unit ⊕ Nat} {hf : Hp} (ho : sX4_ridge G N a0 h = some (r, hf)) : gMet G l yX4_ridge (ws_ yX4_ridge cX4_ridge 2 none) 6 127 [gr a0] h cvU r hf := by
  refine gMet.of ho hs (plainFor_of_name pn_X4) rfl rfl (gbl rfl) fun X => ?_
  show gT G l X mX4_ridge cvU r hf 0 [(0, gr a0)] [] h (sX4_ridge G N a0 h)
  delta sX4_ridge
  refine g_aload_n (pc := 0) (x := a0) 0 rfl rfl dX4_ridge_0 ?_
  refine g_aload_n (pc := 1) (x := a0) 0 rfl rfl dX4_ridge_1 ?_
  refine g_getfr (pc := 2) k_12 (gblt rfl) lk_X4_18_12 dX4_ridge_2 fun v1 => ?_
  refine g_getfr (pc := 5) k_11 (gblt rfl) lk_X4_113_11 dX4_ridge_5 fun v2 => ?_
  refine g_bVi (pc := 8) (y := yJ12_size) (ws := ws_ yJ12_size cJ12_size 1 (some .int)) (fr := 0) (lo := 0) (as := []) (st := [gr a0]) (g_no) rfl (fun _ _ _ e => tJ12_size hs e) (fun K _ _ _ hq hM R e1 e2 => g_runF (x := ⟨"java/util/List", "size", "()I"⟩) (M := mX4_ridge) (pc := 8) (y := yJ12_size) (bytes := cJ12_size) (maxL := 1) (ret := (some .int)) (fr := 0) (lo := 0) (as := []) (st := [gr a0]) hq (C := "java/util/ArrayList") rfl gy_J12_size rfl (gbl rfl) (gbl rfl) (gbl rfl) q1179 q970 q969 q975 q973 q971 mhx_java_util_List q972 q974 dX4_ridge_8 K hM R e1 e2) fun v3 h4 => ?_
  refine g_iconst (pc := 13) (v := (4 : Int32)) ic_4 dX4_ridge_13 ?_
  refine g_join 22 (fun (x5 : Int32) => [(0, gr a0)]) (fun (x5 : Int32) => [gi x5, gr a0]) (fun x5 h6 => ?_) (fun j7 Hj7 => ?_)
  · refine g_iconst (pc := 22) (v := (4 : Int32)) ic_4 dX4_ridge_22 ?_
    refine g_bVu (pc := 23) (y := yX4_check) (ws := ws_ yX4_check cX4_check 3 none) (fr := 4) (lo := 82) (as := [gi x5, gi (4 : Int32)]) (st := []) (g_no) rfl (fun _ _ _ e => tX4_check hs e) (fun K _ _ _ hq hM R e1 e2 => g_runV (M := mX4_ridge) (pc := 23) (y := yX4_check) (bytes := cX4_check) (maxL := 3) (ret := none) (fr := 4) (lo := 82) (as := [gi x5, gi (4 : Int32)]) (st := []) hq (C := "FlareSlopes$Parser") rfl gy_X4_check (gbl rfl) (gbl rfl) (gbl rfl) q585 q587 qs6 dX4_ridge_23 K hM R e1 e2) fun v8 h9 => ?_
    refine g_aload_n (pc := 26) (x := a0) 0 rfl rfl dX4_ridge_26 ?_
    refine g_bVu (pc := 27) (y := yX4_step) (ws := ws_ yX4_step cX4_step 3 none) (fr := 2) (lo := 46) (as := []) (st := []) (g_no) rfl (fun _ _ _ e => tX4_step hs e) (fun K _ _ _ hq hM R e1 e2 => g_runV (M := mX4_ridge) (pc := 27) (y := yX4_step) (bytes := cX4_step) (maxL := 3) (ret := none) (fr := 2) (lo := 46) (as := []) (st := []) hq (C := "FlareSlopes$Parser") rfl gy_X4_step (gbl rfl) (gbl rfl) (gbl rfl) q537 q539 qs1 dX4_ridge_27 K hM R e1 e2) fun v10 h11 => ?_
    refine g_aload_n (pc := 30) (x := a0) 0 rfl rfl dX4_ridge_30 ?_
    refine g_iconst (pc := 31) (v := (1 : Int32)) ic_1 dX4_ridge_31 ?_
    refine g_bipush (pc := 32) (v := (99 : Int32)) bc_99 dX4_ridge_32 ?_
    refine g_bVi (pc := 34) (y := yX4_number) (ws := ws_ yX4_number cX4_number 4 (some .int)) (fr := 5) (lo := 104) (as := [gi (1 : Int32), gi (99 : Int32)]) (st := []) (g_no) rfl (fun _ _ _ e => tX4_number hs e) (fun K _ _ _ hq hM R e1 e2 => g_runV (M := mX4_ridge) (pc := 34) (y := yX4_number) (bytes := cX4_number) (maxL := 4) (ret := (some .int)) (fr := 5) (lo := 104) (as := [gi (1 : Int32), gi (99 : Int32)]) (st := []) hq (C := "FlareSlopes$Parser") rfl gy_X4_number (gbl rfl) (gbl rfl) (gbl rfl) q881 q883 qs8 dX4_ridge_34 K hM R e1 e2) fun v12 h13 => ?_
    refine g_istore_n (pc := 37) (lv' := [(1, gi v12), (0, gr a0)]) [0, 1] rfl rfl (gblt rfl) dX4_ridge_37 ?_
    refine g_aload_n (pc := 38) (x := a0) 1 rfl rfl dX4_ridge_38 ?_
    refine g_getfr (pc := 39) k_12 (gblt rfl) lk_X4_18_12 dX4_ridge_39 fun v14 => ?_
    refine g_getfr (pc := 42) k_11 (gblt rfl) lk_X4_113_11 dX4_ridge_42 fun v15 => ?_
    refine g_new (pc := 45) k_14 df_14 q1180 q1181 q160 dX4_ridge_45 fun v16 h17 => ?_
    refine g_dup (pc := 48) rfl dX4_ridge_48 ?_
    refine g_iload_n (pc := 49) (x := v12) 0 rfl rfl dX4_ridge_49 ?_
    refine g_aload_n (pc := 50) (x := a0) 1 rfl rfl dX4_ridge_50 ?_
    refine g_iconst (pc := 51) (v := (0 : Int32)) ic_0 dX4_ridge_51 ?_
    refine g_sipush (pc := 52) (v := (999 : Int32)) sc_999 dX4_ridge_52 ?_
    refine g_bVi (pc := 55) (y := yX4_number) (ws := ws_ yX4_number cX4_number 4 (some .int)) (fr := 5) (lo := 104) (as := [gi (0 : Int32), gi (999 : Int32)]) (st := [gi v12, gr v16, gr v16, gr v15]) (g_no) rfl (fun _ _ _ e => tX4_number hs e) (fun K _ _ _ hq hM R e1 e2 => g_runV (M := mX4_ridge) (pc := 55) (y := yX4_number) (bytes := cX4_number) (maxL := 4) (ret := (some .int)) (fr := 5) (lo := 104) (as := [gi (0 : Int32), gi (999 : Int32)]) (st := [gi v12, gr v16, gr v16, gr v15]) hq (C := "FlareSlopes$Parser") rfl gy_X4_number (gbl rfl) (gbl rfl) (gbl rfl) q881 q883 qs8 dX4_ridge_55 K hM R e1 e2) fun v18 h19 => ?_
    refine g_bIu (pc := 58) (y := yX10_init) (ws := ws_ yX10_init cX10_init 3 none) (fr := 1) (lo := 12) (as := [gi v12, gi v18]) (st := [gr v16, gr v15]) (g_no) rfl (fun _ _ _ e => tX10_init hs e) (fun K _ _ _ hM R e1 e2 => g_runI (M := mX4_ridge) (pc := 58) (y := yX10_init) (bytes := cX10_init) (maxL := 3) (ret := none) (fr := 1) (lo := 12) (as := [gi v12, gi v18]) (st := [gr v16, gr v15]) gy_X10_init (gbl rfl) (gbl rfl) (gbl rfl) rfl q1182 q1183 rfl dX4_ridge_58 K hM R e1 e2) fun v20 h21 => ?_
    refine g_bVi (pc := 61) (y := yJ12_add) (ws := ws_ yJ12_add cJ12_add 2 (some .boolean)) (fr := 4) (lo := 87) (as := [gr v16]) (st := []) (g_no) rfl (fun _ _ _ e => tJ12_add hs e) (fun K _ _ _ hq hM R e1 e2 => g_runF (x := ⟨"java/util/List", "add", "(Ljava/lang/Object;)Z"⟩) (M := mX4_ridge) (pc := 61) (y := yJ12_add) (bytes := cJ12_add) (maxL := 2) (ret := (some .boolean)) (fr := 4) (lo := 87) (as := [gr v16]) (st := []) hq (C := "java/util/ArrayList") rfl gy_J12_add rfl (gbl rfl) (gbl rfl) (gbl rfl) q1196 q1096 q1095 q1100 q1098 q971 mhx_java_util_List q1097 q1099 dX4_ridge_61 K hM R e1 e2) fun v22 h23 => ?_
    refine g_pop (pc := 66) rfl dX4_ridge_66 ?_
    exact g_return (pc := 67) rfl dX4_ridge_67
  refine g_icmp_ge (pc := 14) (tgt := 21) rfl dX4_ridge_14 ?_ ?_
  · refine g_iconst (pc := 21) (v := (0 : Int32)) ic_0 dX4_ridge_21 ?_
    exact Hj7 (0 : Int32) h4
  refine g_iconst (pc := 17) (v := (1 : Int32)) ic_1 dX4_ridge_17 ?_
  refine g_goto (pc := 18) (tgt := 22) rfl dX4_ridge_18 ?_
  exact Hj7 (1 : Int32) h4
/-! FlareSlopes$Fog.<init>(III)V -/
noncomputable def sX11_init (G : GG) (N : Nat) (a0 : Option Nat) (a1 : Int32) (a2 : Int32) (a3 : Int32) (h : Hp) : Out (Unit) :=
  gNN a0 (gP G h a0 9 0 (.int a1) fun h1 =>
  gP G h1 a0 9 1 (.int a2) fun h2 =>
  gP G h2 a0 9 2 (.int a3) fun h3 =>
  some (.inl (), h3))
abbrev mX11_init : MI := (RX11, cX11_init, 4, none, [], 1, 12, "<init>")
theorem tX11_init {G : GG} {l : Launch} (hs : l.stackTraces = false) {N : Nat} {a0 : Option Nat} {a1 : Int32} {a2 : Int32} {a3 : Int32} {h : Hp} {r : Unit ⊕ Nat} {hf : Hp} (ho : sX11_init G N a0 a1 a2 a3 h = some (r, hf)) : gMet G l yX11_init (ws_ yX11_init cX11_init 4 none) 1 12 [gr a0, gi a1, gi a2, gi a3] h cvU r hf := by
  refine gMet.of ho hs (plainFor_of_name pn_X11) rfl rfl (gbl rfl) fun X => ?_
  show gT G l X mX11_init cvU r hf 0 [(0, gr a0), (1, gi a1), (2, gi a2), (3, gi a3)] [] h (sX11_init G N a0 a1 a2 a3 h)
  delta sX11_init
  refine g_aload_n (pc := 0) (x := a0) 0 rfl rfl dX11_init_0 ?_
  refine g_objInit' (pc := 1) q1206 oi_in oi_code (gbl rfl) (gbl rfl) dX11_init_1 ?_
  refine g_aload_n (pc := 4) (x := a0) 0 rfl rfl dX11_init_4 ?_
  refine g_iload_n (pc := 5) (x := a1) 1 rfl rfl dX11_init_5 ?_
  refine g_putFin (pc := 6) k_9 (gblt rfl) lk_X11_7_9 q1207 rfl rfl rfl rfl (gNi _) dX11_init_6 fun h1 => ?_
  refine g_aload_n (pc := 9) (x := a0) 0 rfl rfl dX11_init_9 ?_
  refine g_iload_n (pc := 10) (x := a2) 2 rfl rfl dX11_init_10 ?_
  refine g_putFin (pc := 11) k_9 (gblt rfl) lk_X11_13_9 q1209 rfl rfl rfl rfl (gNi _) dX11_init_11 fun h2 => ?_
  refine g_aload_n (pc := 14) (x := a0) 0 rfl rfl dX11_init_14 ?_
  refine g_iload_n (pc := 15) (x := a3) 3 rfl rfl dX11_init_15 ?_
  refine g_putFin (pc := 16) k_9 (gblt rfl) lk_X11_16_9 q1211 rfl rfl rfl rfl (gNi _) dX11_init_16 fun h3 => ?_
  exact g_return (pc := 19) rfl dX11_init_19
/-! FlareSlopes$Parser.fog()V -/
noncomputable def sX4_fog (G : GG) (N : Nat) (a0 : Option Nat) (h : Hp) : Out (Unit) :=
  gFr h a0 12 1 fun v1 =>
  gFr h v1 11 3 fun v2 =>
  bV h v2 24 (fun q33 => sJ12_size G N (some q33) h) fun v3 h4 =>
  gJ (fun (x5 : Int32) (h6 : Hp) =>
  bV h6 a0 12 (fun q32 => sX4_check G N (some q32) x5 (4 : Int32) h6) fun v8 h9 =>
  bV h9 a0 12 (fun q31 => sX4_step G N (some q31) h9) fun v10 h11 =>
  bV h11 a0 12 (fun q30 => sX4_number G N (some q30) (0 : Int32) (5000 : Int32) h11) fun v12 h13 =>
  bV h13 a0 12 (fun q29 => sX4_number G N (some q29) v12 (5000 : Int32) h13) fun v14 h15 =>
  gFr h15 a0 12 1 fun v16 =>
  gFr h15 v16 11 3 fun v17 =>
  gNew h15 9 [.int 0, .int 0, .int 0] 3 fun v18 h19 =>
  bV h19 a0 12 (fun q28 => sX4_number G N (some q28) (1 : Int32) (200 : Int32) h19) fun v20 h21 =>
  bI v18 (fun q27 => sX11_init G N (some q27) v12 v14 v20 h21) fun v22 h23 =>
  bV h23 v17 24 (fun q26 => sJ12_add G N (some q26) v18 h23) fun v24 h25 =>
  some (.inl (), h25)) fun j7 =>
  if (6 : Int32) ≤ v3 then (j7 (0 : Int32) h4)
  else j7 (1 : Int32) h4
abbrev mX4_fog : MI := (RX4, cX4_fog, 3, none, [], 6, 127, "fog")
theorem tX4_fog {G : GG} {l : Launch} (hs : l.stackTraces = false) {N : Nat} {a0 : Option Nat} {h : Hp} {r : Unit ⊕ Nat} {hf : Hp} (ho : sX4_fog G N a0 h = some (r, hf)) : gMet G l yX4_fog (ws_ yX4_fog cX4_fog 3 none) 6 127 [gr a0] h cvU r hf := by
  refine gMet.of ho hs (plainFor_of_name pn_X4) rfl rfl (gbl rfl) fun X => ?_
  show gT G l X mX4_fog cvU r hf 0 [(0, gr a0)] [] h (sX4_fog G N a0 h)
  delta sX4_fog
  refine g_aload_n (pc := 0) (x := a0) 0 rfl rfl dX4_fog_0 ?_
  refine g_aload_n (pc := 1) (x := a0) 0 rfl rfl dX4_fog_1 ?_
  refine g_getfr (pc := 2) k_12 (gblt rfl) lk_X4_18_12 dX4_fog_2 fun v1 => ?_
  refine g_getfr (pc := 5) k_11 (gblt rfl) lk_X4_128_11 dX4_fog_5 fun v2 => ?_
  refine g_bVi (pc := 8) (y := yJ12_size) (ws := ws_ yJ12_size cJ12_size 1 (some .int)) (fr := 0) (lo := 0) (as := []) (st := [gr a0]) (g_no) rfl (fun _ _ _ e => tJ12_size hs e) (fun K _ _ _ hq hM R e1 e2 => g_runF (x := ⟨"java/util/List", "size", "()I"⟩) (M := mX4_fog) (pc := 8) (y := yJ12_size) (bytes := cJ12_size) (maxL := 1) (ret := (some .int)) (fr := 0) (lo := 0) (as := []) (st := [gr a0]) hq (C := "java/util/ArrayList") rfl gy_J12_size rfl (gbl rfl) (gbl rfl) (gbl rfl) q1179 q970 q969 q975 q973 q971 mhx_java_util_List q972 q974 dX4_fog_8 K hM R e1 e2) fun v3 h4 => ?_
  refine g_bipush (pc := 13) (v := (6 : Int32)) bc_6 dX4_fog_13 ?_
  refine g_join 23 (fun (x5 : Int32) => [(0, gr a0)]) (fun (x5 : Int32) => [gi x5, gr a0]) (fun x5 h6 => ?_) (fun j7 Hj7 => ?_)
  · refine g_iconst (pc := 23) (v := (4 : Int32)) ic_4 dX4_fog_23 ?_
    refine g_bVu (pc := 24) (y := yX4_check) (ws := ws_ yX4_check cX4_check 3 none) (fr := 4) (lo := 82) (as := [gi x5, gi (4 : Int32)]) (st := []) (g_no) rfl (fun _ _ _ e => tX4_check hs e) (fun K _ _ _ hq hM R e1 e2 => g_runV (M := mX4_fog) (pc := 24) (y := yX4_check) (bytes := cX4_check) (maxL := 3) (ret := none) (fr := 4) (lo := 82) (as := [gi x5, gi (4 : Int32)]) (st := []) hq (C := "FlareSlopes$Parser") rfl gy_X4_check (gbl rfl) (gbl rfl) (gbl rfl) q585 q587 qs6 dX4_fog_24 K hM R e1 e2) fun v8 h9 => ?_
    refine g_aload_n (pc := 27) (x := a0) 0 rfl rfl dX4_fog_27 ?_
    refine g_bVu (pc := 28) (y := yX4_step) (ws := ws_ yX4_step cX4_step 3 none) (fr := 2) (lo := 46) (as := []) (st := []) (g_no) rfl (fun _ _ _ e => tX4_step hs e) (fun K _ _ _ hq hM R e1 e2 => g_runV (M := mX4_fog) (pc := 28) (y := yX4_step) (bytes := cX4_step) (maxL := 3) (ret := none) (fr := 2) (lo := 46) (as := []) (st := []) hq (C := "FlareSlopes$Parser") rfl gy_X4_step (gbl rfl) (gbl rfl) (gbl rfl) q537 q539 qs1 dX4_fog_28 K hM R e1 e2) fun v10 h11 => ?_
    refine g_aload_n (pc := 31) (x := a0) 0 rfl rfl dX4_fog_31 ?_
    refine g_iconst (pc := 32) (v := (0 : Int32)) ic_0 dX4_fog_32 ?_
    refine g_sipush (pc := 33) (v := (5000 : Int32)) sc_5000 dX4_fog_33 ?_
    refine g_bVi (pc := 36) (y := yX4_number) (ws := ws_ yX4_number cX4_number 4 (some .int)) (fr := 5) (lo := 104) (as := [gi (0 : Int32), gi (5000 : Int32)]) (st := []) (g_no) rfl (fun _ _ _ e => tX4_number hs e) (fun K _ _ _ hq hM R e1 e2 => g_runV (M := mX4_fog) (pc := 36) (y := yX4_number) (bytes := cX4_number) (maxL := 4) (ret := (some .int)) (fr := 5) (lo := 104) (as := [gi (0 : Int32), gi (5000 : Int32)]) (st := []) hq (C := "FlareSlopes$Parser") rfl gy_X4_number (gbl rfl) (gbl rfl) (gbl rfl) q881 q883 qs8 dX4_fog_36 K hM R e1 e2) fun v12 h13 => ?_
    refine g_istore_n (pc := 39) (lv' := [(1, gi v12), (0, gr a0)]) [0, 1] rfl rfl (gblt rfl) dX4_fog_39 ?_
    refine g_aload_n (pc := 40) (x := a0) 1 rfl rfl dX4_fog_40 ?_
    refine g_iload_n (pc := 41) (x := v12) 0 rfl rfl dX4_fog_41 ?_
    refine g_sipush (pc := 42) (v := (5000 : Int32)) sc_5000 dX4_fog_42 ?_
    refine g_bVi (pc := 45) (y := yX4_number) (ws := ws_ yX4_number cX4_number 4 (some .int)) (fr := 5) (lo := 104) (as := [gi v12, gi (5000 : Int32)]) (st := []) (g_no) rfl (fun _ _ _ e => tX4_number hs e) (fun K _ _ _ hq hM R e1 e2 => g_runV (M := mX4_fog) (pc := 45) (y := yX4_number) (bytes := cX4_number) (maxL := 4) (ret := (some .int)) (fr := 5) (lo := 104) (as := [gi v12, gi (5000 : Int32)]) (st := []) hq (C := "FlareSlopes$Parser") rfl gy_X4_number (gbl rfl) (gbl rfl) (gbl rfl) q881 q883 qs8 dX4_fog_45 K hM R e1 e2) fun v14 h15 => ?_
    refine g_istore_n (pc := 48) (lv' := [(2, gi v14), (1, gi v12), (0, gr a0)]) [0, 1, 2] rfl rfl (gblt rfl) dX4_fog_48 ?_
    refine g_aload_n (pc := 49) (x := a0) 2 rfl rfl dX4_fog_49 ?_
    refine g_getfr (pc := 50) k_12 (gblt rfl) lk_X4_18_12 dX4_fog_50 fun v16 => ?_
    refine g_getfr (pc := 53) k_11 (gblt rfl) lk_X4_128_11 dX4_fog_53 fun v17 => ?_
    refine g_new (pc := 56) k_9 df_9 q1201 q1202 q161 dX4_fog_56 fun v18 h19 => ?_
    refine g_dup (pc := 59) rfl dX4_fog_59 ?_
    refine g_iload_n (pc := 60) (x := v12) 1 rfl rfl dX4_fog_60 ?_
    refine g_iload_n (pc := 61) (x := v14) 0 rfl rfl dX4_fog_61 ?_
    refine g_aload_n (pc := 62) (x := a0) 2 rfl rfl dX4_fog_62 ?_
    refine g_iconst (pc := 63) (v := (1 : Int32)) ic_1 dX4_fog_63 ?_
    refine g_sipush (pc := 64) (v := (200 : Int32)) sc_200 dX4_fog_64 ?_
    refine g_bVi (pc := 67) (y := yX4_number) (ws := ws_ yX4_number cX4_number 4 (some .int)) (fr := 5) (lo := 104) (as := [gi (1 : Int32), gi (200 : Int32)]) (st := [gi v14, gi v12, gr v18, gr v18, gr v17]) (g_no) rfl (fun _ _ _ e => tX4_number hs e) (fun K _ _ _ hq hM R e1 e2 => g_runV (M := mX4_fog) (pc := 67) (y := yX4_number) (bytes := cX4_number) (maxL := 4) (ret := (some .int)) (fr := 5) (lo := 104) (as := [gi (1 : Int32), gi (200 : Int32)]) (st := [gi v14, gi v12, gr v18, gr v18, gr v17]) hq (C := "FlareSlopes$Parser") rfl gy_X4_number (gbl rfl) (gbl rfl) (gbl rfl) q881 q883 qs8 dX4_fog_67 K hM R e1 e2) fun v20 h21 => ?_
    refine g_bIu (pc := 70) (y := yX11_init) (ws := ws_ yX11_init cX11_init 4 none) (fr := 1) (lo := 12) (as := [gi v12, gi v14, gi v20]) (st := [gr v18, gr v17]) (g_no) rfl (fun _ _ _ e => tX11_init hs e) (fun K _ _ _ hM R e1 e2 => g_runI (M := mX4_fog) (pc := 70) (y := yX11_init) (bytes := cX11_init) (maxL := 4) (ret := none) (fr := 1) (lo := 12) (as := [gi v12, gi v14, gi v20]) (st := [gr v18, gr v17]) gy_X11_init (gbl rfl) (gbl rfl) (gbl rfl) rfl q1203 q1204 rfl dX4_fog_70 K hM R e1 e2) fun v22 h23 => ?_
    refine g_bVi (pc := 73) (y := yJ12_add) (ws := ws_ yJ12_add cJ12_add 2 (some .boolean)) (fr := 4) (lo := 87) (as := [gr v18]) (st := []) (g_no) rfl (fun _ _ _ e => tJ12_add hs e) (fun K _ _ _ hq hM R e1 e2 => g_runF (x := ⟨"java/util/List", "add", "(Ljava/lang/Object;)Z"⟩) (M := mX4_fog) (pc := 73) (y := yJ12_add) (bytes := cJ12_add) (maxL := 2) (ret := (some .boolean)) (fr := 4) (lo := 87) (as := [gr v18]) (st := []) hq (C := "java/util/ArrayList") rfl gy_J12_add rfl (gbl rfl) (gbl rfl) (gbl rfl) q1196 q1096 q1095 q1100 q1098 q971 mhx_java_util_List q1097 q1099 dX4_fog_73 K hM R e1 e2) fun v24 h25 => ?_
    refine g_pop (pc := 78) rfl dX4_fog_78 ?_
    exact g_return (pc := 79) rfl dX4_fog_79
  refine g_icmp_ge (pc := 15) (tgt := 22) rfl dX4_fog_15 ?_ ?_
  · refine g_iconst (pc := 22) (v := (0 : Int32)) ic_0 dX4_fog_22 ?_
    exact Hj7 (0 : Int32) h4
  refine g_iconst (pc := 18) (v := (1 : Int32)) ic_1 dX4_fog_18 ?_
  refine g_goto (pc := 19) (tgt := 23) rfl dX4_fog_19 ?_
  exact Hj7 (1 : Int32) h4
/-! FlareSlopes$Parser.line()V -/
noncomputable def sX4_line (G : GG) (N : Nat) (a0 : Option Nat) (h : Hp) : Out (Unit) :=
  bV h a0 12 (fun q44 => sX4_word G N (some q44) h) fun v1 h2 =>
  bV h2 v1 20 (fun q43 => sJ4_hashCode G N (some q43) h2) fun v3 h4 =>
  gJ (fun (x5 : Int32) (h6 : Hp) =>
  gSel x5 [((0 : Int32), gFr h6 a0 12 1 fun v11 =>
  gFr h6 v11 11 0 fun v12 =>
  gFr h6 a0 12 1 fun v13 =>
  gFr h6 v13 11 0 fun v14 =>
  bV h6 a0 12 (fun q17 => sX4_spot G N (some q17) v12 v14 (1 : Int32) h6) fun v15 h16 =>
  some (.inl (), h16)),
  ((1 : Int32), gFr h6 a0 12 1 fun v18 =>
  gFr h6 v18 11 1 fun v19 =>
  gFr h6 a0 12 1 fun v20 =>
  gFr h6 v20 11 1 fun v21 =>
  bV h6 a0 12 (fun q24 => sX4_spot G N (some q24) v19 v21 (0 : Int32) h6) fun v22 h23 =>
  some (.inl (), h23)),
  ((2 : Int32), bV h6 a0 12 (fun q27 => sX4_ridge G N (some q27) h6) fun v25 h26 =>
  some (.inl (), h26)),
  ((3 : Int32), bV h6 a0 12 (fun q30 => sX4_fog G N (some q30) h6) fun v28 h29 =>
  some (.inl (), h29))] (bV h6 a0 12 (fun q10 => sX4_check G N (some q10) (0 : Int32) (1 : Int32) h6) fun v8 h9 =>
  some (.inl (), h9))) fun j7 =>
  gSel v3 [((101566 : Int32), bV h4 v1 20 (fun q33 => sJ4_equals G N (some q33) (some (G.2.2.2.2 4)) h4) fun v31 h32 =>
  if v31 = 0 then (j7 (-1 : Int32) h32)
  else j7 (3 : Int32) h32),
  ((94415849 : Int32), bV h4 v1 20 (fun q36 => sJ4_equals G N (some q36) (some (G.2.2.2.2 5)) h4) fun v34 h35 =>
  if v34 = 0 then (j7 (-1 : Int32) h35)
  else j7 (0 : Int32) h35),
  ((108508843 : Int32), bV h4 v1 20 (fun q39 => sJ4_equals G N (some q39) (some (G.2.2.2.2 6)) h4) fun v37 h38 =>
  if v37 = 0 then (j7 (-1 : Int32) h38)
  else j7 (2 : Int32) h38),
  ((109532587 : Int32), bV h4 v1 20 (fun q42 => sJ4_equals G N (some q42) (some (G.2.2.2.2 7)) h4) fun v40 h41 =>
  if v40 = 0 then (j7 (-1 : Int32) h41)
  else j7 (1 : Int32) h41)] (j7 (-1 : Int32) h4)
abbrev mX4_line : MI := (RX4, cX4_line, 3, none, [], 9, 204, "line")
theorem tX4_line {G : GG} {l : Launch} (hs : l.stackTraces = false) {N : Nat} {a0 : Option Nat} {h : Hp} {r : Unit ⊕ Nat} {hf : Hp} (ho : sX4_line G N a0 h = some (r, hf)) : gMet G l yX4_line (ws_ yX4_line cX4_line 3 none) 9 204 [gr a0] h cvU r hf := by
  refine gMet.of ho hs (plainFor_of_name pn_X4) rfl rfl (gbl rfl) fun X => ?_
  show gT G l X mX4_line cvU r hf 0 [(0, gr a0)] [] h (sX4_line G N a0 h)
  delta sX4_line
  refine g_aload_n (pc := 0) (x := a0) 0 rfl rfl dX4_line_0 ?_
  refine g_bVr (pc := 1) (y := yX4_word) (ws := ws_ yX4_word cX4_word 3 (some (.object "java/lang/String"))) (fr := 6) (lo := 133) (as := []) (st := []) (g_no) rfl (fun _ _ _ e => tX4_word hs e) (fun K _ _ _ hq hM R e1 e2 => g_runV (M := mX4_line) (pc := 1) (y := yX4_word) (bytes := cX4_word) (maxL := 3) (ret := (some (.object "java/lang/String"))) (fr := 6) (lo := 133) (as := []) (st := []) hq (C := "FlareSlopes$Parser") rfl gy_X4_word (gbl rfl) (gbl rfl) (gbl rfl) q581 q583 qs5 dX4_line_1 K hM R e1 e2) fun v1 h2 => ?_
  refine g_astore_n (pc := 4) (lv' := [(1, gr v1), (0, gr a0)]) [0, 1] rfl rfl (gblt rfl) dX4_line_4 ?_
  refine g_iconst (pc := 5) (v := (-1 : Int32)) ic_m1 dX4_line_5 ?_
  refine g_istore_n (pc := 6) (lv' := [(2, gi (-1 : Int32)), (1, gr v1), (0, gr a0)]) [0, 1, 2] rfl rfl (gblt rfl) dX4_line_6 ?_
  refine g_aload_n (pc := 7) (x := v1) 1 rfl rfl dX4_line_7 ?_
  refine g_bVi (pc := 8) (y := yJ4_hashCode) (ws := ws_ yJ4_hashCode cJ4_hashCode 2 (some .int)) (fr := 3) (lo := 69) (as := []) (st := []) (g_no) rfl (fun _ _ _ e => tJ4_hashCode hs e) (fun K _ _ _ hq hM R e1 e2 => g_runV (M := mX4_line) (pc := 8) (y := yJ4_hashCode) (bytes := cJ4_hashCode) (maxL := 2) (ret := (some .int)) (fr := 3) (lo := 69) (as := []) (st := []) hq (C := "java/lang/String") rfl gy_J4_hashCode (gbl rfl) (gbl rfl) (gbl rfl) q890 q891 q892 dX4_line_8 K hM R e1 e2) fun v3 h4 => ?_
  refine g_join 105 (fun (x5 : Int32) => [(0, gr a0), (2, gi x5)]) (fun (x5 : Int32) => []) (fun x5 h6 => ?_) (fun j7 Hj7 => ?_)
  · refine g_iload_n (pc := 105) (x := x5) 1 rfl rfl dX4_line_105 ?_
    refine g_tableswitch (pc := 106) (td := 194) [((0 : Int32), 136), ((1 : Int32), 158), ((2 : Int32), 180), ((3 : Int32), 187)] (by decide +kernel) dX4_line_106 ?_ (g_all_cons ?_ (g_all_cons ?_ (g_all_cons ?_ (g_all_cons ?_ g_all_nil))))
    · refine g_aload_n (pc := 194) (x := a0) 0 rfl rfl dX4_line_194 ?_
      refine g_iconst (pc := 195) (v := (0 : Int32)) ic_0 dX4_line_195 ?_
      refine g_iconst (pc := 196) (v := (1 : Int32)) ic_1 dX4_line_196 ?_
      refine g_bVu (pc := 197) (y := yX4_check) (ws := ws_ yX4_check cX4_check 3 none) (fr := 4) (lo := 82) (as := [gi (0 : Int32), gi (1 : Int32)]) (st := []) (g_no) rfl (fun _ _ _ e => tX4_check hs e) (fun K _ _ _ hq hM R e1 e2 => g_runV (M := mX4_line) (pc := 197) (y := yX4_check) (bytes := cX4_check) (maxL := 3) (ret := none) (fr := 4) (lo := 82) (as := [gi (0 : Int32), gi (1 : Int32)]) (st := []) hq (C := "FlareSlopes$Parser") rfl gy_X4_check (gbl rfl) (gbl rfl) (gbl rfl) q585 q587 qs6 dX4_line_197 K hM R e1 e2) fun v8 h9 => ?_
      exact g_return (pc := 200) rfl dX4_line_200
    · refine g_aload_n (pc := 136) (x := a0) 0 rfl rfl dX4_line_136 ?_
      refine g_aload_n (pc := 137) (x := a0) 0 rfl rfl dX4_line_137 ?_
      refine g_getfr (pc := 138) k_12 (gblt rfl) lk_X4_18_12 dX4_line_138 fun v11 => ?_
      refine g_getfr (pc := 141) k_11 (gblt rfl) lk_X4_147_11 dX4_line_141 fun v12 => ?_
      refine g_aload_n (pc := 144) (x := a0) 0 rfl rfl dX4_line_144 ?_
      refine g_getfr (pc := 145) k_12 (gblt rfl) lk_X4_18_12 dX4_line_145 fun v13 => ?_
      refine g_getfr (pc := 148) k_11 (gblt rfl) lk_X4_147_11 dX4_line_148 fun v14 => ?_
      refine g_iconst (pc := 151) (v := (1 : Int32)) ic_1 dX4_line_151 ?_
      refine g_bVu (pc := 152) (y := yX4_spot) (ws := ws_ yX4_spot cX4_spot 8 none) (fr := 8) (lo := 177) (as := [gr v12, gr v14, gi (1 : Int32)]) (st := []) (g_no) rfl (fun _ _ _ e => tX4_spot hs e) (fun K _ _ _ hq hM R e1 e2 => g_runV (M := mX4_line) (pc := 152) (y := yX4_spot) (bytes := cX4_spot) (maxL := 8) (ret := none) (fr := 8) (lo := 177) (as := [gr v12, gr v14, gi (1 : Int32)]) (st := []) hq (C := "FlareSlopes$Parser") rfl gy_X4_spot (gbl rfl) (gbl rfl) (gbl rfl) q955 q957 qs10 dX4_line_152 K hM R e1 e2) fun v15 h16 => ?_
      refine g_goto (pc := 155) (tgt := 200) rfl dX4_line_155 ?_
      exact g_return (pc := 200) rfl dX4_line_200
    · refine g_aload_n (pc := 158) (x := a0) 0 rfl rfl dX4_line_158 ?_
      refine g_aload_n (pc := 159) (x := a0) 0 rfl rfl dX4_line_159 ?_
      refine g_getfr (pc := 160) k_12 (gblt rfl) lk_X4_18_12 dX4_line_160 fun v18 => ?_
      refine g_getfr (pc := 163) k_11 (gblt rfl) lk_X4_155_11 dX4_line_163 fun v19 => ?_
      refine g_aload_n (pc := 166) (x := a0) 0 rfl rfl dX4_line_166 ?_
      refine g_getfr (pc := 167) k_12 (gblt rfl) lk_X4_18_12 dX4_line_167 fun v20 => ?_
      refine g_getfr (pc := 170) k_11 (gblt rfl) lk_X4_155_11 dX4_line_170 fun v21 => ?_
      refine g_iconst (pc := 173) (v := (0 : Int32)) ic_0 dX4_line_173 ?_
      refine g_bVu (pc := 174) (y := yX4_spot) (ws := ws_ yX4_spot cX4_spot 8 none) (fr := 8) (lo := 177) (as := [gr v19, gr v21, gi (0 : Int32)]) (st := []) (g_no) rfl (fun _ _ _ e => tX4_spot hs e) (fun K _ _ _ hq hM R e1 e2 => g_runV (M := mX4_line) (pc := 174) (y := yX4_spot) (bytes := cX4_spot) (maxL := 8) (ret := none) (fr := 8) (lo := 177) (as := [gr v19, gr v21, gi (0 : Int32)]) (st := []) hq (C := "FlareSlopes$Parser") rfl gy_X4_spot (gbl rfl) (gbl rfl) (gbl rfl) q955 q957 qs10 dX4_line_174 K hM R e1 e2) fun v22 h23 => ?_
      refine g_goto (pc := 177) (tgt := 200) rfl dX4_line_177 ?_
      exact g_return (pc := 200) rfl dX4_line_200
    · refine g_aload_n (pc := 180) (x := a0) 0 rfl rfl dX4_line_180 ?_
      refine g_bVu (pc := 181) (y := yX4_ridge) (ws := ws_ yX4_ridge cX4_ridge 2 none) (fr := 6) (lo := 127) (as := []) (st := []) (g_no) rfl (fun _ _ _ e => tX4_ridge hs e) (fun K _ _ _ hq hM R e1 e2 => g_runV (M := mX4_line) (pc := 181) (y := yX4_ridge) (bytes := cX4_ridge) (maxL := 2) (ret := none) (fr := 6) (lo := 127) (as := []) (st := []) hq (C := "FlareSlopes$Parser") rfl gy_X4_ridge (gbl rfl) (gbl rfl) (gbl rfl) q1174 q1176 qs15 dX4_line_181 K hM R e1 e2) fun v25 h26 => ?_
      refine g_goto (pc := 184) (tgt := 200) rfl dX4_line_184 ?_
      exact g_return (pc := 200) rfl dX4_line_200
    · refine g_aload_n (pc := 187) (x := a0) 0 rfl rfl dX4_line_187 ?_
      refine g_bVu (pc := 188) (y := yX4_fog) (ws := ws_ yX4_fog cX4_fog 3 none) (fr := 6) (lo := 127) (as := []) (st := []) (g_no) rfl (fun _ _ _ e => tX4_fog hs e) (fun K _ _ _ hq hM R e1 e2 => g_runV (M := mX4_line) (pc := 188) (y := yX4_fog) (bytes := cX4_fog) (maxL := 3) (ret := none) (fr := 6) (lo := 127) (as := []) (st := []) hq (C := "FlareSlopes$Parser") rfl gy_X4_fog (gbl rfl) (gbl rfl) (gbl rfl) q1197 q1199 qs16 dX4_line_188 K hM R e1 e2) fun v28 h29 => ?_
      refine g_goto (pc := 191) (tgt := 200) rfl dX4_line_191 ?_
      exact g_return (pc := 200) rfl dX4_line_200
  refine g_lookupswitch (pc := 11) (td := 105) [((101566 : Int32), 94), ((94415849 : Int32), 52), ((108508843 : Int32), 80), ((109532587 : Int32), 66)] (by decide +kernel) dX4_line_11 ?_ (g_all_cons ?_ (g_all_cons ?_ (g_all_cons ?_ (g_all_cons ?_ g_all_nil))))
  · exact g_sub [2, 0] rfl (Hj7 (-1 : Int32) h4)
  · refine g_aload_n (pc := 94) (x := v1) 1 rfl rfl dX4_line_94 ?_
    refine g_ldcS (pc := 95) srl_0 rfl dX4_line_95 ?_
    refine g_bVi (pc := 97) (y := yJ4_equals) (ws := ws_ yJ4_equals cJ4_equals 3 (some .boolean)) (fr := 1) (lo := 22) (as := [gr (some (G.2.2.2.2 4))]) (st := []) (g_no) rfl (fun _ _ _ e => tJ4_equals hs e) (fun K _ _ _ hq hM R e1 e2 => g_runV (M := mX4_line) (pc := 97) (y := yJ4_equals) (bytes := cJ4_equals) (maxL := 3) (ret := (some .boolean)) (fr := 1) (lo := 22) (as := [gr (some (G.2.2.2.2 4))]) (st := []) hq (C := "java/lang/String") rfl gy_J4_equals (gbl rfl) (gbl rfl) (gbl rfl) q862 q863 q864 dX4_line_97 K hM R e1 e2) fun v31 h32 => ?_
    refine g_if_eq (pc := 100) (tgt := 105) rfl dX4_line_100 ?_ ?_
    · exact g_sub [2, 0] rfl (Hj7 (-1 : Int32) h32)
    refine g_iconst (pc := 103) (v := (3 : Int32)) ic_3 dX4_line_103 ?_
    refine g_istore_n (pc := 104) (lv' := [(2, gi (3 : Int32)), (0, gr a0)]) [0, 2] rfl rfl (gblt rfl) dX4_line_104 ?_
    exact g_sub [1, 0] rfl (Hj7 (3 : Int32) h32)
  · refine g_aload_n (pc := 52) (x := v1) 1 rfl rfl dX4_line_52 ?_
    refine g_ldcS (pc := 53) srl_1 rfl dX4_line_53 ?_
    refine g_bVi (pc := 55) (y := yJ4_equals) (ws := ws_ yJ4_equals cJ4_equals 3 (some .boolean)) (fr := 1) (lo := 22) (as := [gr (some (G.2.2.2.2 5))]) (st := []) (g_no) rfl (fun _ _ _ e => tJ4_equals hs e) (fun K _ _ _ hq hM R e1 e2 => g_runV (M := mX4_line) (pc := 55) (y := yJ4_equals) (bytes := cJ4_equals) (maxL := 3) (ret := (some .boolean)) (fr := 1) (lo := 22) (as := [gr (some (G.2.2.2.2 5))]) (st := []) hq (C := "java/lang/String") rfl gy_J4_equals (gbl rfl) (gbl rfl) (gbl rfl) q862 q863 q864 dX4_line_55 K hM R e1 e2) fun v34 h35 => ?_
    refine g_if_eq (pc := 58) (tgt := 105) rfl dX4_line_58 ?_ ?_
    · exact g_sub [2, 0] rfl (Hj7 (-1 : Int32) h35)
    refine g_iconst (pc := 61) (v := (0 : Int32)) ic_0 dX4_line_61 ?_
    refine g_istore_n (pc := 62) (lv' := [(2, gi (0 : Int32)), (0, gr a0)]) [0, 2] rfl rfl (gblt rfl) dX4_line_62 ?_
    refine g_goto (pc := 63) (tgt := 105) rfl dX4_line_63 ?_
    exact g_sub [1, 0] rfl (Hj7 (0 : Int32) h35)
  · refine g_aload_n (pc := 80) (x := v1) 1 rfl rfl dX4_line_80 ?_
    refine g_ldcS (pc := 81) srl_2 rfl dX4_line_81 ?_
    refine g_bVi (pc := 83) (y := yJ4_equals) (ws := ws_ yJ4_equals cJ4_equals 3 (some .boolean)) (fr := 1) (lo := 22) (as := [gr (some (G.2.2.2.2 6))]) (st := []) (g_no) rfl (fun _ _ _ e => tJ4_equals hs e) (fun K _ _ _ hq hM R e1 e2 => g_runV (M := mX4_line) (pc := 83) (y := yJ4_equals) (bytes := cJ4_equals) (maxL := 3) (ret := (some .boolean)) (fr := 1) (lo := 22) (as := [gr (some (G.2.2.2.2 6))]) (st := []) hq (C := "java/lang/String") rfl gy_J4_equals (gbl rfl) (gbl rfl) (gbl rfl) q862 q863 q864 dX4_line_83 K hM R e1 e2) fun v37 h38 => ?_
    refine g_if_eq (pc := 86) (tgt := 105) rfl dX4_line_86 ?_ ?_
    · exact g_sub [2, 0] rfl (Hj7 (-1 : Int32) h38)
    refine g_iconst (pc := 89) (v := (2 : Int32)) ic_2 dX4_line_89 ?_
    refine g_istore_n (pc := 90) (lv' := [(2, gi (2 : Int32)), (0, gr a0)]) [0, 2] rfl rfl (gblt rfl) dX4_line_90 ?_
    refine g_goto (pc := 91) (tgt := 105) rfl dX4_line_91 ?_
    exact g_sub [1, 0] rfl (Hj7 (2 : Int32) h38)
  · refine g_aload_n (pc := 66) (x := v1) 1 rfl rfl dX4_line_66 ?_
    refine g_ldcS (pc := 67) srl_3 rfl dX4_line_67 ?_
    refine g_bVi (pc := 69) (y := yJ4_equals) (ws := ws_ yJ4_equals cJ4_equals 3 (some .boolean)) (fr := 1) (lo := 22) (as := [gr (some (G.2.2.2.2 7))]) (st := []) (g_no) rfl (fun _ _ _ e => tJ4_equals hs e) (fun K _ _ _ hq hM R e1 e2 => g_runV (M := mX4_line) (pc := 69) (y := yJ4_equals) (bytes := cJ4_equals) (maxL := 3) (ret := (some .boolean)) (fr := 1) (lo := 22) (as := [gr (some (G.2.2.2.2 7))]) (st := []) hq (C := "java/lang/String") rfl gy_J4_equals (gbl rfl) (gbl rfl) (gbl rfl) q862 q863 q864 dX4_line_69 K hM R e1 e2) fun v40 h41 => ?_
    refine g_if_eq (pc := 72) (tgt := 105) rfl dX4_line_72 ?_ ?_
    · exact g_sub [2, 0] rfl (Hj7 (-1 : Int32) h41)
    refine g_iconst (pc := 75) (v := (1 : Int32)) ic_1 dX4_line_75 ?_
    refine g_istore_n (pc := 76) (lv' := [(2, gi (1 : Int32)), (0, gr a0)]) [0, 2] rfl rfl (gblt rfl) dX4_line_76 ?_
    refine g_goto (pc := 77) (tgt := 105) rfl dX4_line_77 ?_
    exact g_sub [1, 0] rfl (Hj7 (1 : Int32) h41)
