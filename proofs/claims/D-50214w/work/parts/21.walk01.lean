set_option maxRecDepth 100000
set_option maxHeartbeats 4000000
/-! FlareSlopes$Parser.parse()LFlareSlopes$Mountain; -/
noncomputable def bX4_parse_75 (G : GG) (N : Nat) (a0 : Option Nat) (j30 : (Unit) → Hp → Out (Option Nat)) (w41 : (Unit) → Hp → Out (Option Nat)) (x39 : Unit) (h40 : Hp) : Out (Option Nat) :=
  gFi h40 a0 12 4 fun v42 =>
  if v42 = (2 : Int32) then (bV h40 a0 12 (fun q48 => sX4_step G N (some q48) h40) fun v43 h44 =>
  bV h44 a0 12 (fun q47 => sX4_line G N (some q47) h44) fun v45 h46 =>
  w41 () h46)
  else j30 () h40
noncomputable def sX4_parse (G : GG) (N : Nat) (a0 : Option Nat) (h : Hp) : Out (Option Nat) :=
  gFr h a0 12 1 fun v1 =>
  gFr h v1 11 4 fun v2 =>
  gSi G h v2 0 (4 : Int32) (30 : Int32) fun h3 =>
  bV h3 a0 12 (fun q58 => sX4_expect G N (some q58) (some (G.2.2.2.2 8)) h3) fun v4 h5 =>
  bV h5 a0 12 (fun q57 => sX4_setting G N (some q57) (0 : Int32) h5) fun v6 h7 =>
  bV h7 a0 12 (fun q56 => sX4_setting G N (some q56) (1 : Int32) h7) fun v8 h9 =>
  gFi h9 a0 12 4 fun v10 =>
  gJ (fun (x11 : Int32) (h12 : Hp) =>
  bV h12 a0 12 (fun q55 => sX4_check G N (some q55) x11 (1 : Int32) h12) fun v14 h15 =>
  bV h15 a0 12 (fun q54 => sX4_step G N (some q54) h15) fun v16 h17 =>
  bV h17 a0 12 (fun q53 => sX4_expect G N (some q53) (some (G.2.2.2.2 9)) h17) fun v18 h19 =>
  bV h19 a0 12 (fun q52 => sX4_setting G N (some q52) (2 : Int32) h19) fun v20 h21 =>
  bV h21 a0 12 (fun q51 => sX4_setting G N (some q51) (3 : Int32) h21) fun v22 h23 =>
  bV h23 a0 12 (fun q50 => sX4_setting G N (some q50) (4 : Int32) h23) fun v24 h25 =>
  bV h25 a0 12 (fun q49 => sX4_setting G N (some q49) (5 : Int32) h25) fun v26 h27 =>
  gJ (fun (x28 : Unit) (h29 : Hp) =>
  gFi h29 a0 12 4 fun v31 =>
  gJ (fun (x32 : Int32) (h33 : Hp) =>
  bV h33 a0 12 (fun q38 => sX4_check G N (some q38) x32 (1 : Int32) h33) fun v35 h36 =>
  gFr h36 a0 12 1 fun v37 =>
  some (.inl v37, h36)) fun j34 =>
  if v31 = (3 : Int32) then (j34 (1 : Int32) h29)
  else j34 (0 : Int32) h29) fun j30 =>
  gLp (bX4_parse_75 G N a0 j30) N () h27) fun j13 =>
  if v10 = (2 : Int32) then (j13 (1 : Int32) h9)
  else j13 (0 : Int32) h9
abbrev mX4_parse : MI := (RX4, cX4_parse, 1, (some (.object "FlareSlopes$Mountain")), [], 10, 226, "parse")
theorem tX4_parse {G : GG} {l : Launch} (hs : l.stackTraces = false) {N : Nat} {a0 : Option Nat} {h : Hp} {r : Option Nat ⊕ Nat} {hf : Hp} (ho : sX4_parse G N a0 h = some (r, hf)) : gMet G l yX4_parse (ws_ yX4_parse cX4_parse 1 (some (.object "FlareSlopes$Mountain"))) 10 226 [gr a0] h cvR r hf := by
  refine gMet.of ho hs (plainFor_of_name pn_X4) rfl rfl (gbl rfl) fun X => ?_
  show gT G l X mX4_parse cvR r hf 0 [(0, gr a0)] [] h (sX4_parse G N a0 h)
  delta sX4_parse
  refine g_aload_n (pc := 0) (x := a0) 0 rfl rfl dX4_parse_0 ?_
  refine g_getfr (pc := 1) k_12 (gblt rfl) lk_X4_18_12 dX4_parse_1 fun v1 => ?_
  refine g_getfr (pc := 4) k_11 (gblt rfl) lk_X4_162_11 dX4_parse_4 fun v2 => ?_
  refine g_iconst (pc := 7) (v := (4 : Int32)) ic_4 dX4_parse_7 ?_
  refine g_bipush (pc := 8) (v := (30 : Int32)) bc_30 dX4_parse_8 ?_
  refine g_iastore (pc := 10) rfl dX4_parse_10 fun h3 => ?_
  refine g_aload_n (pc := 11) (x := a0) 0 rfl rfl dX4_parse_11 ?_
  refine g_ldcS (pc := 12) srl_4 rfl dX4_parse_12 ?_
  refine g_bVu (pc := 14) (y := yX4_expect) (ws := ws_ yX4_expect cX4_expect 2 none) (fr := 7) (lo := 155) (as := [gr (some (G.2.2.2.2 8))]) (st := []) (g_no) rfl (fun _ _ _ e => tX4_expect hs e) (fun K _ _ _ hq hM R e1 e2 => g_runV (M := mX4_parse) (pc := 14) (y := yX4_expect) (bytes := cX4_expect) (maxL := 2) (ret := none) (fr := 7) (lo := 155) (as := [gr (some (G.2.2.2.2 8))]) (st := []) hq (C := "FlareSlopes$Parser") rfl gy_X4_expect (gbl rfl) (gbl rfl) (gbl rfl) q577 q579 qs4 dX4_parse_14 K hM R e1 e2) fun v4 h5 => ?_
  refine g_aload_n (pc := 17) (x := a0) 0 rfl rfl dX4_parse_17 ?_
  refine g_iconst (pc := 18) (v := (0 : Int32)) ic_0 dX4_parse_18 ?_
  refine g_bVu (pc := 19) (y := yX4_setting) (ws := ws_ yX4_setting cX4_setting 2 none) (fr := 6) (lo := 127) (as := [gi (0 : Int32)]) (st := []) (g_no) rfl (fun _ _ _ e => tX4_setting hs e) (fun K _ _ _ hq hM R e1 e2 => g_runV (M := mX4_parse) (pc := 19) (y := yX4_setting) (bytes := cX4_setting) (maxL := 2) (ret := none) (fr := 6) (lo := 127) (as := [gi (0 : Int32)]) (st := []) hq (C := "FlareSlopes$Parser") rfl gy_X4_setting (gbl rfl) (gbl rfl) (gbl rfl) q870 q872 qs7 dX4_parse_19 K hM R e1 e2) fun v6 h7 => ?_
  refine g_aload_n (pc := 22) (x := a0) 0 rfl rfl dX4_parse_22 ?_
  refine g_iconst (pc := 23) (v := (1 : Int32)) ic_1 dX4_parse_23 ?_
  refine g_bVu (pc := 24) (y := yX4_setting) (ws := ws_ yX4_setting cX4_setting 2 none) (fr := 6) (lo := 127) (as := [gi (1 : Int32)]) (st := []) (g_no) rfl (fun _ _ _ e => tX4_setting hs e) (fun K _ _ _ hq hM R e1 e2 => g_runV (M := mX4_parse) (pc := 24) (y := yX4_setting) (bytes := cX4_setting) (maxL := 2) (ret := none) (fr := 6) (lo := 127) (as := [gi (1 : Int32)]) (st := []) hq (C := "FlareSlopes$Parser") rfl gy_X4_setting (gbl rfl) (gbl rfl) (gbl rfl) q870 q872 qs7 dX4_parse_24 K hM R e1 e2) fun v8 h9 => ?_
  refine g_aload_n (pc := 27) (x := a0) 0 rfl rfl dX4_parse_27 ?_
  refine g_aload_n (pc := 28) (x := a0) 0 rfl rfl dX4_parse_28 ?_
  refine g_getfi (pc := 29) k_12 (gblt rfl) lk_X4_47_12 dX4_parse_29 fun v10 => ?_
  refine g_iconst (pc := 32) (v := (2 : Int32)) ic_2 dX4_parse_32 ?_
  refine g_join 41 (fun (x11 : Int32) => [(0, gr a0)]) (fun (x11 : Int32) => [gi x11, gr a0]) (fun x11 h12 => ?_) (fun j13 Hj13 => ?_)
  · refine g_iconst (pc := 41) (v := (1 : Int32)) ic_1 dX4_parse_41 ?_
    refine g_bVu (pc := 42) (y := yX4_check) (ws := ws_ yX4_check cX4_check 3 none) (fr := 4) (lo := 82) (as := [gi x11, gi (1 : Int32)]) (st := []) (g_no) rfl (fun _ _ _ e => tX4_check hs e) (fun K _ _ _ hq hM R e1 e2 => g_runV (M := mX4_parse) (pc := 42) (y := yX4_check) (bytes := cX4_check) (maxL := 3) (ret := none) (fr := 4) (lo := 82) (as := [gi x11, gi (1 : Int32)]) (st := []) hq (C := "FlareSlopes$Parser") rfl gy_X4_check (gbl rfl) (gbl rfl) (gbl rfl) q585 q587 qs6 dX4_parse_42 K hM R e1 e2) fun v14 h15 => ?_
    refine g_aload_n (pc := 45) (x := a0) 0 rfl rfl dX4_parse_45 ?_
    refine g_bVu (pc := 46) (y := yX4_step) (ws := ws_ yX4_step cX4_step 3 none) (fr := 2) (lo := 46) (as := []) (st := []) (g_no) rfl (fun _ _ _ e => tX4_step hs e) (fun K _ _ _ hq hM R e1 e2 => g_runV (M := mX4_parse) (pc := 46) (y := yX4_step) (bytes := cX4_step) (maxL := 3) (ret := none) (fr := 2) (lo := 46) (as := []) (st := []) hq (C := "FlareSlopes$Parser") rfl gy_X4_step (gbl rfl) (gbl rfl) (gbl rfl) q537 q539 qs1 dX4_parse_46 K hM R e1 e2) fun v16 h17 => ?_
    refine g_aload_n (pc := 49) (x := a0) 0 rfl rfl dX4_parse_49 ?_
    refine g_ldcS (pc := 50) srl_5 rfl dX4_parse_50 ?_
    refine g_bVu (pc := 52) (y := yX4_expect) (ws := ws_ yX4_expect cX4_expect 2 none) (fr := 7) (lo := 155) (as := [gr (some (G.2.2.2.2 9))]) (st := []) (g_no) rfl (fun _ _ _ e => tX4_expect hs e) (fun K _ _ _ hq hM R e1 e2 => g_runV (M := mX4_parse) (pc := 52) (y := yX4_expect) (bytes := cX4_expect) (maxL := 2) (ret := none) (fr := 7) (lo := 155) (as := [gr (some (G.2.2.2.2 9))]) (st := []) hq (C := "FlareSlopes$Parser") rfl gy_X4_expect (gbl rfl) (gbl rfl) (gbl rfl) q577 q579 qs4 dX4_parse_52 K hM R e1 e2) fun v18 h19 => ?_
    refine g_aload_n (pc := 55) (x := a0) 0 rfl rfl dX4_parse_55 ?_
    refine g_iconst (pc := 56) (v := (2 : Int32)) ic_2 dX4_parse_56 ?_
    refine g_bVu (pc := 57) (y := yX4_setting) (ws := ws_ yX4_setting cX4_setting 2 none) (fr := 6) (lo := 127) (as := [gi (2 : Int32)]) (st := []) (g_no) rfl (fun _ _ _ e => tX4_setting hs e) (fun K _ _ _ hq hM R e1 e2 => g_runV (M := mX4_parse) (pc := 57) (y := yX4_setting) (bytes := cX4_setting) (maxL := 2) (ret := none) (fr := 6) (lo := 127) (as := [gi (2 : Int32)]) (st := []) hq (C := "FlareSlopes$Parser") rfl gy_X4_setting (gbl rfl) (gbl rfl) (gbl rfl) q870 q872 qs7 dX4_parse_57 K hM R e1 e2) fun v20 h21 => ?_
    refine g_aload_n (pc := 60) (x := a0) 0 rfl rfl dX4_parse_60 ?_
    refine g_iconst (pc := 61) (v := (3 : Int32)) ic_3 dX4_parse_61 ?_
    refine g_bVu (pc := 62) (y := yX4_setting) (ws := ws_ yX4_setting cX4_setting 2 none) (fr := 6) (lo := 127) (as := [gi (3 : Int32)]) (st := []) (g_no) rfl (fun _ _ _ e => tX4_setting hs e) (fun K _ _ _ hq hM R e1 e2 => g_runV (M := mX4_parse) (pc := 62) (y := yX4_setting) (bytes := cX4_setting) (maxL := 2) (ret := none) (fr := 6) (lo := 127) (as := [gi (3 : Int32)]) (st := []) hq (C := "FlareSlopes$Parser") rfl gy_X4_setting (gbl rfl) (gbl rfl) (gbl rfl) q870 q872 qs7 dX4_parse_62 K hM R e1 e2) fun v22 h23 => ?_
    refine g_aload_n (pc := 65) (x := a0) 0 rfl rfl dX4_parse_65 ?_
    refine g_iconst (pc := 66) (v := (4 : Int32)) ic_4 dX4_parse_66 ?_
    refine g_bVu (pc := 67) (y := yX4_setting) (ws := ws_ yX4_setting cX4_setting 2 none) (fr := 6) (lo := 127) (as := [gi (4 : Int32)]) (st := []) (g_no) rfl (fun _ _ _ e => tX4_setting hs e) (fun K _ _ _ hq hM R e1 e2 => g_runV (M := mX4_parse) (pc := 67) (y := yX4_setting) (bytes := cX4_setting) (maxL := 2) (ret := none) (fr := 6) (lo := 127) (as := [gi (4 : Int32)]) (st := []) hq (C := "FlareSlopes$Parser") rfl gy_X4_setting (gbl rfl) (gbl rfl) (gbl rfl) q870 q872 qs7 dX4_parse_67 K hM R e1 e2) fun v24 h25 => ?_
    refine g_aload_n (pc := 70) (x := a0) 0 rfl rfl dX4_parse_70 ?_
    refine g_iconst (pc := 71) (v := (5 : Int32)) ic_5 dX4_parse_71 ?_
    refine g_bVu (pc := 72) (y := yX4_setting) (ws := ws_ yX4_setting cX4_setting 2 none) (fr := 6) (lo := 127) (as := [gi (5 : Int32)]) (st := []) (g_no) rfl (fun _ _ _ e => tX4_setting hs e) (fun K _ _ _ hq hM R e1 e2 => g_runV (M := mX4_parse) (pc := 72) (y := yX4_setting) (bytes := cX4_setting) (maxL := 2) (ret := none) (fr := 6) (lo := 127) (as := [gi (5 : Int32)]) (st := []) hq (C := "FlareSlopes$Parser") rfl gy_X4_setting (gbl rfl) (gbl rfl) (gbl rfl) q870 q872 qs7 dX4_parse_72 K hM R e1 e2) fun v26 h27 => ?_
    refine g_join 94 (fun (x28 : Unit) => [(0, gr a0)]) (fun (x28 : Unit) => []) (fun x28 h29 => ?_) (fun j30 Hj30 => ?_)
    · refine g_aload_n (pc := 94) (x := a0) 0 rfl rfl dX4_parse_94 ?_
      refine g_aload_n (pc := 95) (x := a0) 0 rfl rfl dX4_parse_95 ?_
      refine g_getfi (pc := 96) k_12 (gblt rfl) lk_X4_47_12 dX4_parse_96 fun v31 => ?_
      refine g_iconst (pc := 99) (v := (3 : Int32)) ic_3 dX4_parse_99 ?_
      refine g_join 108 (fun (x32 : Int32) => [(0, gr a0)]) (fun (x32 : Int32) => [gi x32, gr a0]) (fun x32 h33 => ?_) (fun j34 Hj34 => ?_)
      · refine g_iconst (pc := 108) (v := (1 : Int32)) ic_1 dX4_parse_108 ?_
        refine g_bVu (pc := 109) (y := yX4_check) (ws := ws_ yX4_check cX4_check 3 none) (fr := 4) (lo := 82) (as := [gi x32, gi (1 : Int32)]) (st := []) (g_no) rfl (fun _ _ _ e => tX4_check hs e) (fun K _ _ _ hq hM R e1 e2 => g_runV (M := mX4_parse) (pc := 109) (y := yX4_check) (bytes := cX4_check) (maxL := 3) (ret := none) (fr := 4) (lo := 82) (as := [gi x32, gi (1 : Int32)]) (st := []) hq (C := "FlareSlopes$Parser") rfl gy_X4_check (gbl rfl) (gbl rfl) (gbl rfl) q585 q587 qs6 dX4_parse_109 K hM R e1 e2) fun v35 h36 => ?_
        refine g_aload_n (pc := 112) (x := a0) 0 rfl rfl dX4_parse_112 ?_
        refine g_getfr (pc := 113) k_12 (gblt rfl) lk_X4_18_12 dX4_parse_113 fun v37 => ?_
        exact g_areturn (pc := 116) rfl (Or.inl ⟨_, rfl⟩) dX4_parse_116
      refine g_icmp_ne (pc := 100) (tgt := 107) rfl dX4_parse_100 ?_ ?_
      rotate_left
      · refine g_iconst (pc := 107) (v := (0 : Int32)) ic_0 dX4_parse_107 ?_
        exact Hj34 (0 : Int32) h29
      refine g_iconst (pc := 103) (v := (1 : Int32)) ic_1 dX4_parse_103 ?_
      refine g_goto (pc := 104) (tgt := 108) rfl dX4_parse_104 ?_
      exact Hj34 (1 : Int32) h29
    refine g_loop (pc := 75) (fun (x39 : Unit) => [(0, gr a0)]) (fun (_ : Unit) => []) (fun w41 Hw41 x39 h40 => ?_) N () h27
    delta bX4_parse_75
    refine g_aload_n (pc := 75) (x := a0) 0 rfl rfl dX4_parse_75 ?_
    refine g_getfi (pc := 76) k_12 (gblt rfl) lk_X4_47_12 dX4_parse_76 fun v42 => ?_
    refine g_iconst (pc := 79) (v := (2 : Int32)) ic_2 dX4_parse_79 ?_
    refine g_icmp_ne (pc := 80) (tgt := 94) rfl dX4_parse_80 ?_ ?_
    rotate_left
    · exact Hj30 () h40
    refine g_aload_n (pc := 83) (x := a0) 0 rfl rfl dX4_parse_83 ?_
    refine g_bVu (pc := 84) (y := yX4_step) (ws := ws_ yX4_step cX4_step 3 none) (fr := 2) (lo := 46) (as := []) (st := []) (g_no) rfl (fun _ _ _ e => tX4_step hs e) (fun K _ _ _ hq hM R e1 e2 => g_runV (M := mX4_parse) (pc := 84) (y := yX4_step) (bytes := cX4_step) (maxL := 3) (ret := none) (fr := 2) (lo := 46) (as := []) (st := []) hq (C := "FlareSlopes$Parser") rfl gy_X4_step (gbl rfl) (gbl rfl) (gbl rfl) q537 q539 qs1 dX4_parse_84 K hM R e1 e2) fun v43 h44 => ?_
    refine g_aload_n (pc := 87) (x := a0) 0 rfl rfl dX4_parse_87 ?_
    refine g_bVu (pc := 88) (y := yX4_line) (ws := ws_ yX4_line cX4_line 3 none) (fr := 9) (lo := 204) (as := []) (st := []) (g_no) rfl (fun _ _ _ e => tX4_line hs e) (fun K _ _ _ hq hM R e1 e2 => g_runV (M := mX4_parse) (pc := 88) (y := yX4_line) (bytes := cX4_line) (maxL := 3) (ret := none) (fr := 9) (lo := 204) (as := []) (st := []) hq (C := "FlareSlopes$Parser") rfl gy_X4_line (gbl rfl) (gbl rfl) (gbl rfl) q886 q888 qs9 dX4_parse_88 K hM R e1 e2) fun v45 h46 => ?_
    refine g_goto (pc := 91) (tgt := 75) rfl dX4_parse_91 ?_
    exact Hw41 () h46
  refine g_icmp_ne (pc := 33) (tgt := 40) rfl dX4_parse_33 ?_ ?_
  rotate_left
  · refine g_iconst (pc := 40) (v := (0 : Int32)) ic_0 dX4_parse_40 ?_
    exact Hj13 (0 : Int32) h9
  refine g_iconst (pc := 36) (v := (1 : Int32)) ic_1 dX4_parse_36 ?_
  refine g_goto (pc := 37) (tgt := 41) rfl dX4_parse_37 ?_
  exact Hj13 (1 : Int32) h9
/-! java/util/AbstractMap.<init>()V -/
noncomputable def sJ22_init_c26 (G : GG) (N : Nat) (a0 : Option Nat) (h : Hp) : Out (Unit) :=
  gNN a0 (some (.inl (), h))
abbrev mJ22_init_c26 : MI := (RJ22, cJ22_init, 1, none, [], 1, 12, "<init>")
theorem tJ22_init_c26 {G : GG} {l : Launch} (hs : l.stackTraces = false) {N : Nat} {a0 : Option Nat} {h : Hp} {r : Unit ⊕ Nat} {hf : Hp} (ho : sJ22_init_c26 G N a0 h = some (r, hf)) : gMet G l yJ22_init (ws_ yJ22_init cJ22_init 1 none) 1 12 [gr a0] h cvU r hf := by
  refine gMet.of ho hs (plainFor_of_name pn_J22) rfl rfl (gbl rfl) fun X => ?_
  show gT G l X mJ22_init_c26 cvU r hf 0 [(0, gr a0)] [] h (sJ22_init_c26 G N a0 h)
  delta sJ22_init_c26
  refine g_aload_n (pc := 0) (x := a0) 0 rfl rfl dJ22_init_0 ?_
  refine g_objInit' (pc := 1) q1249 oi_in oi_code (gbl rfl) (gbl rfl) dJ22_init_1 ?_
  exact g_return (pc := 4) rfl dJ22_init_4
/-! java/util/HashMap.<init>()V -/
noncomputable def sJ23_init_c26 (G : GG) (N : Nat) (a0 : Option Nat) (h : Hp) : Out (Unit) :=
  bI a0 (fun q4 => sJ22_init_c26 G N (some q4) h) fun v1 h2 =>
  gP G h2 a0 26 5 (.float (1061158912 : UInt32)) fun h3 =>
  some (.inl (), h3)
abbrev mJ23_init_c26 : MI := (RJ23, cJ23_init, 1, none, [], 2, 32, "<init>")
theorem tJ23_init_c26 {G : GG} {l : Launch} (hs : l.stackTraces = false) {N : Nat} {a0 : Option Nat} {h : Hp} {r : Unit ⊕ Nat} {hf : Hp} (ho : sJ23_init_c26 G N a0 h = some (r, hf)) : gMet G l yJ23_init (ws_ yJ23_init cJ23_init 1 none) 2 32 [gr a0] h cvU r hf := by
  refine gMet.of ho hs (plainFor_of_name pn_J23) rfl rfl (gbl rfl) fun X => ?_
  show gT G l X mJ23_init_c26 cvU r hf 0 [(0, gr a0)] [] h (sJ23_init_c26 G N a0 h)
  delta sJ23_init_c26
  refine g_aload_n (pc := 0) (x := a0) 0 rfl rfl dJ23_init_0 ?_
  refine g_bIu (pc := 1) (y := yJ22_init) (ws := ws_ yJ22_init cJ22_init 1 none) (fr := 1) (lo := 12) (as := []) (st := []) (g_no) rfl (fun _ _ _ e => tJ22_init_c26 hs e) (fun K _ _ _ hM R e1 e2 => g_runI (M := mJ23_init_c26) (pc := 1) (y := yJ22_init) (bytes := cJ22_init) (maxL := 1) (ret := none) (fr := 1) (lo := 12) (as := []) (st := []) gy_J22_init (gbl rfl) (gbl rfl) (gbl rfl) rfl q1246 q1247 rfl dJ23_init_1 K hM R e1 e2) fun v1 h2 => ?_
  refine g_aload_n (pc := 4) (x := a0) 0 rfl rfl dJ23_init_4 ?_
  refine g_ldcf (pc := 5) q1250 dJ23_init_5 ?_
  refine g_putFin (pc := 7) k_26 (gblt rfl) lk_J23_81_26 q1273 rfl rfl rfl rfl (gNf _) dJ23_init_7 fun h3 => ?_
  exact g_return (pc := 10) rfl dJ23_init_10
/-! java/util/LinkedHashMap.<init>()V -/
noncomputable def sJ24_init (G : GG) (N : Nat) (a0 : Option Nat) (h : Hp) : Out (Unit) :=
  bI a0 (fun q5 => sJ23_init_c26 G N (some q5) h) fun v1 h2 =>
  gP G h2 a0 26 11 (.int (0 : Int32)) fun h3 =>
  gPz G h3 a0 26 10 (0 : Int32) fun h4 =>
  some (.inl (), h4)
abbrev mJ24_init : MI := (RJ24, cJ24_init, 1, none, [], 3, 52, "<init>")
theorem tJ24_init {G : GG} {l : Launch} (hs : l.stackTraces = false) {N : Nat} {a0 : Option Nat} {h : Hp} {r : Unit ⊕ Nat} {hf : Hp} (ho : sJ24_init G N a0 h = some (r, hf)) : gMet G l yJ24_init (ws_ yJ24_init cJ24_init 1 none) 3 52 [gr a0] h cvU r hf := by
  refine gMet.of ho hs (plainFor_of_name pn_J24) rfl rfl (gbl rfl) fun X => ?_
  show gT G l X mJ24_init cvU r hf 0 [(0, gr a0)] [] h (sJ24_init G N a0 h)
  delta sJ24_init
  refine g_aload_n (pc := 0) (x := a0) 0 rfl rfl dJ24_init_0 ?_
  refine g_bIu (pc := 1) (y := yJ23_init) (ws := ws_ yJ23_init cJ23_init 1 none) (fr := 2) (lo := 32) (as := []) (st := []) (g_no) rfl (fun _ _ _ e => tJ23_init_c26 hs e) (fun K _ _ _ hM R e1 e2 => g_runI (M := mJ24_init) (pc := 1) (y := yJ23_init) (bytes := cJ23_init) (maxL := 1) (ret := none) (fr := 2) (lo := 32) (as := []) (st := []) gy_J23_init (gbl rfl) (gbl rfl) (gbl rfl) rfl q1243 q1244 rfl dJ24_init_1 K hM R e1 e2) fun v1 h2 => ?_
  refine g_aload_n (pc := 4) (x := a0) 0 rfl rfl dJ24_init_4 ?_
  refine g_iconst (pc := 5) (v := (0 : Int32)) ic_0 dJ24_init_5 ?_
  refine g_put (pc := 6) k_26 (gblt rfl) lk_J24_1_26 rfl rfl (gNi _) dJ24_init_6 fun h3 => ?_
  refine g_aload_n (pc := 9) (x := a0) 0 rfl rfl dJ24_init_9 ?_
  refine g_iconst (pc := 10) (v := (0 : Int32)) ic_0 dJ24_init_10 ?_
  refine g_putzFin (pc := 11) k_26 (gblt rfl) lk_J24_64_26 q1255 rfl rfl rfl rfl dJ24_init_11 fun h4 => ?_
  exact g_return (pc := 14) rfl dJ24_init_14
/-! FlareSlopes$Cabin.<init>(LFlareSlopes$Spot;)V -/
noncomputable def sX12_init (G : GG) (N : Nat) (a0 : Option Nat) (a1 : Option Nat) (h : Hp) : Out (Unit) :=
  gNN a0 (gP G h a0 7 3 (.int (100 : Int32)) fun h1 =>
  gP G h1 a0 7 4 (.int (-1 : Int32)) fun h2 =>
  gNA h2 0 z_I (8 : Int32) fun v3 h4 =>
  gP G h4 a0 7 7 (va_rf v3) fun h5 =>
  gNew h5 26 [.null, .null, .int 0, .int 0, .int 0, .float 0, .null, .null, .null, .null, .int 0, .int 0] 12 fun v6 h7 =>
  bI v6 (fun q19 => sJ24_init G N (some q19) h7) fun v8 h9 =>
  gP G h9 a0 7 8 (va_rf v6) fun h10 =>
  gFi h10 a1 15 1 fun v11 =>
  gP G h10 a0 7 0 (.int v11) fun h12 =>
  gFi h12 a1 15 2 fun v13 =>
  gP G h12 a0 7 1 (.int v13) fun h14 =>
  gFi h14 a1 15 3 fun v15 =>
  gP G h14 a0 7 6 (.int v15) fun h16 =>
  gFi h16 a1 15 4 fun v17 =>
  gP G h16 a0 7 2 (.int v17) fun h18 =>
  some (.inl (), h18))
abbrev mX12_init : MI := (RX12, cX12_init, 2, none, [], 4, 72, "<init>")
theorem tX12_init {G : GG} {l : Launch} (hs : l.stackTraces = false) {N : Nat} {a0 : Option Nat} {a1 : Option Nat} {h : Hp} {r : Unit ⊕ Nat} {hf : Hp} (ho : sX12_init G N a0 a1 h = some (r, hf)) : gMet G l yX12_init (ws_ yX12_init cX12_init 2 none) 4 72 [gr a0, gr a1] h cvU r hf := by
  refine gMet.of ho hs (plainFor_of_name pn_X12) rfl rfl (gbl rfl) fun X => ?_
  show gT G l X mX12_init cvU r hf 0 [(0, gr a0), (1, gr a1)] [] h (sX12_init G N a0 a1 h)
  delta sX12_init
  refine g_aload_n (pc := 0) (x := a0) 0 rfl rfl dX12_init_0 ?_
  refine g_objInit' (pc := 1) q1237 oi_in oi_code (gbl rfl) (gbl rfl) dX12_init_1 ?_
  refine g_aload_n (pc := 4) (x := a0) 0 rfl rfl dX12_init_4 ?_
  refine g_bipush (pc := 5) (v := (100 : Int32)) bc_100 dX12_init_5 ?_
  refine g_put (pc := 7) k_7 (gblt rfl) lk_X12_9_7 rfl rfl (gNi _) dX12_init_7 fun h1 => ?_
  refine g_aload_n (pc := 10) (x := a0) 0 rfl rfl dX12_init_10 ?_
  refine g_iconst (pc := 11) (v := (-1 : Int32)) ic_m1 dX12_init_11 ?_
  refine g_put (pc := 12) k_7 (gblt rfl) lk_X12_15_7 rfl rfl (gNi _) dX12_init_12 fun h2 => ?_
  refine g_aload_n (pc := 15) (x := a0) 0 rfl rfl dX12_init_15 ?_
  refine g_bipush (pc := 16) (v := (8 : Int32)) bc_8 dX12_init_16 ?_
  refine g_naI (pc := 18) q298 dX12_init_18 fun v3 h4 => ?_
  refine g_putFin (pc := 20) k_7 (gblt rfl) lk_X12_18_7 q1321 rfl rfl rfl rfl (gNa _ _) dX12_init_20 fun h5 => ?_
  refine g_aload_n (pc := 23) (x := a0) 0 rfl rfl dX12_init_23 ?_
  refine g_new (pc := 24) k_26 df_26 q1238 q1239 q165 dX12_init_24 fun v6 h7 => ?_
  refine g_dup (pc := 27) rfl dX12_init_27 ?_
  refine g_bIu (pc := 28) (y := yJ24_init) (ws := ws_ yJ24_init cJ24_init 1 none) (fr := 3) (lo := 52) (as := []) (st := [gr v6, gr a0]) (g_no) rfl (fun _ _ _ e => tJ24_init hs e) (fun K _ _ _ hM R e1 e2 => g_runI (M := mX12_init) (pc := 28) (y := yJ24_init) (bytes := cJ24_init) (maxL := 1) (ret := none) (fr := 3) (lo := 52) (as := []) (st := [gr v6, gr a0]) gy_J24_init (gbl rfl) (gbl rfl) (gbl rfl) rfl q1240 q1241 rfl dX12_init_28 K hM R e1 e2) fun v8 h9 => ?_
  refine g_putFin (pc := 31) k_7 (gblt rfl) lk_X12_25_7 q1324 rfl rfl rfl rfl (gNr _ _) dX12_init_31 fun h10 => ?_
  refine g_aload_n (pc := 34) (x := a0) 0 rfl rfl dX12_init_34 ?_
  refine g_aload_n (pc := 35) (x := a1) 1 rfl rfl dX12_init_35 ?_
  refine g_getfi (pc := 36) k_15 (gblt rfl) lk_X12_29_15 dX12_init_36 fun v11 => ?_
  refine g_put (pc := 39) k_7 (gblt rfl) lk_X12_34_7 rfl rfl (gNi _) dX12_init_39 fun h12 => ?_
  refine g_aload_n (pc := 42) (x := a0) 0 rfl rfl dX12_init_42 ?_
  refine g_aload_n (pc := 43) (x := a1) 1 rfl rfl dX12_init_43 ?_
  refine g_getfi (pc := 44) k_15 (gblt rfl) lk_X12_35_15 dX12_init_44 fun v13 => ?_
  refine g_put (pc := 47) k_7 (gblt rfl) lk_X12_38_7 rfl rfl (gNi _) dX12_init_47 fun h14 => ?_
  refine g_aload_n (pc := 50) (x := a0) 0 rfl rfl dX12_init_50 ?_
  refine g_aload_n (pc := 51) (x := a1) 1 rfl rfl dX12_init_51 ?_
  refine g_getfi (pc := 52) k_15 (gblt rfl) lk_X12_39_15 dX12_init_52 fun v15 => ?_
  refine g_putFin (pc := 55) k_7 (gblt rfl) lk_X12_42_7 q1319 rfl rfl rfl rfl (gNi _) dX12_init_55 fun h16 => ?_
  refine g_aload_n (pc := 58) (x := a0) 0 rfl rfl dX12_init_58 ?_
  refine g_aload_n (pc := 59) (x := a1) 1 rfl rfl dX12_init_59 ?_
  refine g_getfi (pc := 60) k_15 (gblt rfl) lk_X12_43_15 dX12_init_60 fun v17 => ?_
  refine g_put (pc := 63) k_7 (gblt rfl) lk_X12_46_7 rfl rfl (gNi _) dX12_init_63 fun h18 => ?_
  exact g_return (pc := 66) rfl dX12_init_66
/-! FlareSlopes$State.<init>(LFlareSlopes$Mountain;)V -/
noncomputable def bX3_init_72 (G : GG) (N : Nat) (a0 : Option Nat) (a1 : Option Nat) (w26 : (Int32) → Hp → Out (Unit)) (x24 : Int32) (h25 : Hp) : Out (Unit) :=
  gFr h25 a1 11 0 fun v27 =>
  bV h25 v27 13 (fun q43 => sX6_size G N (some q43) h25) fun v28 h29 =>
  if v28 ≤ x24 then (some (.inl (), h29))
  else gFr h29 a0 16 1 fun v30 =>
  gNew h29 7 [.int 0, .int 0, .int 0, .int 0, .int 0, .int 0, .int 0, .null, .null] 9 fun v31 h32 =>
  gFr h32 a1 11 0 fun v33 =>
  bV h32 v33 13 (fun q42 => sX6_get G N (some q42) x24 h32) fun v34 h35 =>
  gCk h35 v34 [15] (bI v31 (fun q41 => sX12_init G N (some q41) v34 h35) fun v36 h37 =>
  bV h37 v30 24 (fun q40 => sJ12_add G N (some q40) v31 h37) fun v38 h39 =>
  w26 (x24 + (1 : Int32)) h39)
noncomputable def sX3_init (G : GG) (N : Nat) (a0 : Option Nat) (a1 : Option Nat) (h : Hp) : Out (Unit) :=
  gNN a0 (gNew h 24 [.int 0, .null, .int 0] 3 fun v1 h2 =>
  bI v1 (fun q45 => sJ12_init G N (some q45) h2) fun v3 h4 =>
  gP G h4 a0 16 1 (va_rf v1) fun h5 =>
  gNA h5 0 z_I (6 : Int32) fun v6 h7 =>
  gP G h7 a0 16 2 (va_rf v6) fun h8 =>
  gNew h8 22 [.null, .int 0, .int 0] 3 fun v9 h10 =>
  bI v9 (fun q44 => sJ1_init G N (some q44) h10) fun v11 h12 =>
  gP G h12 a0 16 3 (va_rf v9) fun h13 =>
  gNA h13 0 z_I (8 : Int32) fun v14 h15 =>
  gP G h15 a0 16 12 (va_rf v14) fun h16 =>
  gNA h16 0 z_I (8 : Int32) fun v17 h18 =>
  gP G h18 a0 16 13 (va_rf v17) fun h19 =>
  gP G h19 a0 16 0 (va_rf a1) fun h20 =>
  gFr h20 a1 11 4 fun v21 =>
  gFr h20 a0 16 2 fun v22 =>
  gCp G h20 v21 (0 : Int32) v22 (0 : Int32) (6 : Int32) 0 .int fun h23 =>
  gLp (bX3_init_72 G N a0 a1) N (0 : Int32) h23)
abbrev mX3_init : MI := (RX3, cX3_init, 3, none, [], 5, 108, "<init>")
theorem tX3_init {G : GG} {l : Launch} (hs : l.stackTraces = false) {N : Nat} {a0 : Option Nat} {a1 : Option Nat} {h : Hp} {r : Unit ⊕ Nat} {hf : Hp} (ho : sX3_init G N a0 a1 h = some (r, hf)) : gMet G l yX3_init (ws_ yX3_init cX3_init 3 none) 5 108 [gr a0, gr a1] h cvU r hf := by
  refine gMet.of ho hs (plainFor_of_name pn_X3) rfl rfl (gbl rfl) fun X => ?_
  show gT G l X mX3_init cvU r hf 0 [(0, gr a0), (1, gr a1)] [] h (sX3_init G N a0 a1 h)
  delta sX3_init
  refine g_aload_n (pc := 0) (x := a0) 0 rfl rfl dX3_init_0 ?_
  refine g_objInit' (pc := 1) q1223 oi_in oi_code (gbl rfl) (gbl rfl) dX3_init_1 ?_
  refine g_aload_n (pc := 4) (x := a0) 0 rfl rfl dX3_init_4 ?_
  refine g_new (pc := 5) k_24 df_24 q1224 q457 q146 dX3_init_5 fun v1 h2 => ?_
  refine g_dup (pc := 8) rfl dX3_init_8 ?_
  refine g_bIu (pc := 9) (y := yJ12_init) (ws := ws_ yJ12_init cJ12_init 1 none) (fr := 3) (lo := 52) (as := []) (st := [gr v1, gr a0]) (g_no) rfl (fun _ _ _ e => tJ12_init hs e) (fun K _ _ _ hM R e1 e2 => g_runI (M := mX3_init) (pc := 9) (y := yJ12_init) (bytes := cJ12_init) (maxL := 1) (ret := none) (fr := 3) (lo := 52) (as := []) (st := [gr v1, gr a0]) gy_J12_init (gbl rfl) (gbl rfl) (gbl rfl) rfl q1225 q459 rfl dX3_init_9 K hM R e1 e2) fun v3 h4 => ?_
  refine g_putFin (pc := 12) k_16 (gblt rfl) lk_X3_12_16 q1350 rfl rfl rfl rfl (gNr _ _) dX3_init_12 fun h5 => ?_
  refine g_aload_n (pc := 15) (x := a0) 0 rfl rfl dX3_init_15 ?_
  refine g_bipush (pc := 16) (v := (6 : Int32)) bc_6 dX3_init_16 ?_
  refine g_naI (pc := 18) q298 dX3_init_18 fun v6 h7 => ?_
  refine g_putFin (pc := 20) k_16 (gblt rfl) lk_X3_18_16 q1351 rfl rfl rfl rfl (gNa _ _) dX3_init_20 fun h8 => ?_
  refine g_aload_n (pc := 23) (x := a0) 0 rfl rfl dX3_init_23 ?_
  refine g_new (pc := 24) k_22 df_22 q1226 q210 q130 dX3_init_24 fun v9 h10 => ?_
  refine g_dup (pc := 27) rfl dX3_init_27 ?_
  refine g_bIu (pc := 28) (y := yJ1_init) (ws := ws_ yJ1_init cJ1_init 1 none) (fr := 2) (lo := 32) (as := []) (st := [gr v9, gr a0]) (g_no) rfl (fun _ _ _ e => tJ1_init hs e) (fun K _ _ _ hM R e1 e2 => g_runI (M := mX3_init) (pc := 28) (y := yJ1_init) (bytes := cJ1_init) (maxL := 1) (ret := none) (fr := 2) (lo := 32) (as := []) (st := [gr v9, gr a0]) gy_J1_init (gbl rfl) (gbl rfl) (gbl rfl) rfl q1227 q212 rfl dX3_init_28 K hM R e1 e2) fun v11 h12 => ?_
  refine g_putFin (pc := 31) k_16 (gblt rfl) lk_X3_25_16 q1353 rfl rfl rfl rfl (gNr _ _) dX3_init_31 fun h13 => ?_
  refine g_aload_n (pc := 34) (x := a0) 0 rfl rfl dX3_init_34 ?_
  refine g_bipush (pc := 35) (v := (8 : Int32)) bc_8 dX3_init_35 ?_
  refine g_naI (pc := 37) q298 dX3_init_37 fun v14 h15 => ?_
  refine g_putFin (pc := 39) k_16 (gblt rfl) lk_X3_29_16 q1371 rfl rfl rfl rfl (gNa _ _) dX3_init_39 fun h16 => ?_
  refine g_aload_n (pc := 42) (x := a0) 0 rfl rfl dX3_init_42 ?_
  refine g_bipush (pc := 43) (v := (8 : Int32)) bc_8 dX3_init_43 ?_
  refine g_naI (pc := 45) q298 dX3_init_45 fun v17 h18 => ?_
  refine g_putFin (pc := 47) k_16 (gblt rfl) lk_X3_32_16 q1373 rfl rfl rfl rfl (gNa _ _) dX3_init_47 fun h19 => ?_
  refine g_aload_n (pc := 50) (x := a0) 0 rfl rfl dX3_init_50 ?_
  refine g_aload_n (pc := 51) (x := a1) 1 rfl rfl dX3_init_51 ?_
  refine g_putFin (pc := 52) k_16 (gblt rfl) lk_X3_35_16 q1348 rfl rfl rfl rfl (gNr _ _) dX3_init_52 fun h20 => ?_
  refine g_aload_n (pc := 55) (x := a1) 1 rfl rfl dX3_init_55 ?_
  refine g_getfr (pc := 56) k_11 (gblt rfl) lk_X3_39_11 dX3_init_56 fun v21 => ?_
  refine g_iconst (pc := 59) (v := (0 : Int32)) ic_0 dX3_init_59 ?_
  refine g_aload_n (pc := 60) (x := a0) 0 rfl rfl dX3_init_60 ?_
  refine g_getfr (pc := 61) k_16 (gblt rfl) lk_X3_18_16 dX3_init_61 fun v22 => ?_
  refine g_iconst (pc := 64) (v := (0 : Int32)) ic_0 dX3_init_64 ?_
  refine g_bipush (pc := 65) (v := (6 : Int32)) bc_6 dX3_init_65 ?_
  refine g_arraycopy (pc := 67) (t := 0) rfl rfl q1228 ac_nat ac_stat q152 (gbl rfl) (gbl rfl) dX3_init_67 fun h23 => ?_
  refine g_iconst (pc := 70) (v := (0 : Int32)) ic_0 dX3_init_70 ?_
  refine g_istore_n (pc := 71) (lv' := [(2, gi (0 : Int32)), (0, gr a0), (1, gr a1)]) [0, 1, 2] rfl rfl (gblt rfl) dX3_init_71 ?_
  refine g_sub (lv' := [(0, gr a0), (1, gr a1), (2, gi (0 : Int32))]) [1, 2, 0] rfl ?_
  refine g_loop (pc := 72) (fun (x24 : Int32) => [(0, gr a0), (1, gr a1), (2, gi x24)]) (fun (_ : Int32) => []) (fun w26 Hw26 x24 h25 => ?_) N (0 : Int32) h23
  delta bX3_init_72
  refine g_iload_n (pc := 72) (x := x24) 2 rfl rfl dX3_init_72 ?_
  refine g_aload_n (pc := 73) (x := a1) 1 rfl rfl dX3_init_73 ?_
  refine g_getfr (pc := 74) k_11 (gblt rfl) lk_X3_48_11 dX3_init_74 fun v27 => ?_
  refine g_bVi (pc := 77) (y := yX6_size) (ws := ws_ yX6_size cX6_size 1 (some .int)) (fr := 1) (lo := 20) (as := []) (st := [gi x24]) (g_no) rfl (fun _ _ _ e => tX6_size hs e) (fun K _ _ _ hq hM R e1 e2 => g_runV (M := mX3_init) (pc := 77) (y := yX6_size) (bytes := cX6_size) (maxL := 1) (ret := (some .int)) (fr := 1) (lo := 20) (as := []) (st := [gi x24]) hq (C := "FlareSlopes$Register") rfl gy_X6_size (gbl rfl) (gbl rfl) (gbl rfl) q1229 q964 q965 dX3_init_77 K hM R e1 e2) fun v28 h29 => ?_
  refine g_icmp_ge (pc := 80) (tgt := 117) rfl dX3_init_80 ?_ ?_
  · exact g_return (pc := 117) rfl dX3_init_117
  refine g_aload_n (pc := 83) (x := a0) 0 rfl rfl dX3_init_83 ?_
  refine g_getfr (pc := 84) k_16 (gblt rfl) lk_X3_12_16 dX3_init_84 fun v30 => ?_
  refine g_new (pc := 87) k_7 df_7 q1230 q1231 q162 dX3_init_87 fun v31 h32 => ?_
  refine g_dup (pc := 90) rfl dX3_init_90 ?_
  refine g_aload_n (pc := 91) (x := a1) 1 rfl rfl dX3_init_91 ?_
  refine g_getfr (pc := 92) k_11 (gblt rfl) lk_X3_48_11 dX3_init_92 fun v33 => ?_
  refine g_iload_n (pc := 95) (x := x24) 2 rfl rfl dX3_init_95 ?_
  refine g_bVr (pc := 96) (y := yX6_get) (ws := ws_ yX6_get cX6_get 2 (some (.object "FlareSlopes$Named"))) (fr := 3) (lo := 64) (as := [gi x24]) (st := [gr v31, gr v31, gr v30]) (g_no) rfl (fun _ _ _ e => tX6_get hs e) (fun K _ _ _ hq hM R e1 e2 => g_runV (M := mX3_init) (pc := 96) (y := yX6_get) (bytes := cX6_get) (maxL := 2) (ret := (some (.object "FlareSlopes$Named"))) (fr := 3) (lo := 64) (as := [gi x24]) (st := [gr v31, gr v31, gr v30]) hq (C := "FlareSlopes$Register") rfl gy_X6_get (gbl rfl) (gbl rfl) (gbl rfl) q1232 q986 q987 dX3_init_96 K hM R e1 e2) fun v34 h35 => ?_
  refine g_checkcast (pc := 99) q1233 as_15_FlareSlopes_Spot dX3_init_99 ?_
  refine g_bIu (pc := 102) (y := yX12_init) (ws := ws_ yX12_init cX12_init 2 none) (fr := 4) (lo := 72) (as := [gr v34]) (st := [gr v31, gr v30]) (g_no) rfl (fun _ _ _ e => tX12_init hs e) (fun K _ _ _ hM R e1 e2 => g_runI (M := mX3_init) (pc := 102) (y := yX12_init) (bytes := cX12_init) (maxL := 2) (ret := none) (fr := 4) (lo := 72) (as := [gr v34]) (st := [gr v31, gr v30]) gy_X12_init (gbl rfl) (gbl rfl) (gbl rfl) rfl q1234 q1235 rfl dX3_init_102 K hM R e1 e2) fun v36 h37 => ?_
  refine g_bVi (pc := 105) (y := yJ12_add) (ws := ws_ yJ12_add cJ12_add 2 (some .boolean)) (fr := 4) (lo := 87) (as := [gr v31]) (st := []) (g_no) rfl (fun _ _ _ e => tJ12_add hs e) (fun K _ _ _ hq hM R e1 e2 => g_runF (x := ⟨"java/util/List", "add", "(Ljava/lang/Object;)Z"⟩) (M := mX3_init) (pc := 105) (y := yJ12_add) (bytes := cJ12_add) (maxL := 2) (ret := (some .boolean)) (fr := 4) (lo := 87) (as := [gr v31]) (st := []) hq (C := "java/util/ArrayList") rfl gy_J12_add rfl (gbl rfl) (gbl rfl) (gbl rfl) q1347 q1096 q1095 q1100 q1098 q971 mhx_java_util_List q1097 q1099 dX3_init_105 K hM R e1 e2) fun v38 h39 => ?_
  refine g_pop (pc := 110) rfl dX3_init_110 ?_
  refine g_iinc (pc := 111) (v := x24 + (1 : Int32)) 2 rfl (ii_1 _) (lv' := [(2, gi (x24 + (1 : Int32))), (0, gr a0), (1, gr a1)]) [0, 1, 2] rfl (gblt rfl) dX3_init_111 ?_
  refine g_goto (pc := 114) (tgt := 72) rfl dX3_init_114 ?_
  exact g_sub [1, 2, 0] rfl (Hw26 (x24 + (1 : Int32)) h39)
/-! java/util/ArrayDeque.circularClear([Ljava/lang/Object;II)V -/
noncomputable def bJ1_circularClear_12 (G : GG) (N : Nat) (a0 : Option Nat) (a2 : Int32) (j6 : (Unit) → Hp → Out (Unit)) (w9 : (Int32 × Int32) → Hp → Out (Unit)) (x7 : Int32 × Int32) (h8 : Hp) : Out (Unit) :=
  if x7.2 ≤ x7.1 then (if x7.2 = a2 then (j6 () h8)
  else w9 ((0 : Int32), a2) h8)
  else gSr G h8 a0 5 asl_java_lang_Object x7.1 none fun h10 =>
  w9 (x7.1 + (1 : Int32), x7.2) h10
noncomputable def sJ1_circularClear (G : GG) (N : Nat) (a0 : Option Nat) (a1 : Int32) (a2 : Int32) (h : Hp) : Out (Unit) :=
  gJ (fun (x1 : Int32) (h2 : Hp) =>
  gJ (fun (x4 : Unit) (h5 : Hp) =>
  some (.inl (), h5)) fun j6 =>
  gLp (bJ1_circularClear_12 G N a0 a2 j6) N (a1, x1) h2) fun j3 =>
  if a2 < a1 then (gLen h a0 fun v11 =>
  j3 v11 h)
  else j3 a2 h
abbrev mJ1_circularClear : MI := (RJ1, cJ1_circularClear, 4, none, [], 0, 0, "circularClear")
theorem tJ1_circularClear {G : GG} {l : Launch} (hs : l.stackTraces = false) {N : Nat} {a0 : Option Nat} {a1 : Int32} {a2 : Int32} {h : Hp} {r : Unit ⊕ Nat} {hf : Hp} (ho : sJ1_circularClear G N a0 a1 a2 h = some (r, hf)) : gMet G l yJ1_circularClear (ws_ yJ1_circularClear cJ1_circularClear 4 none) 0 0 [gr a0, gi a1, gi a2] h cvU r hf := by
  refine gMet.of ho hs (plainFor_of_name pn_J1) rfl rfl (gbl rfl) fun X => ?_
  show gT G l X mJ1_circularClear cvU r hf 0 [(0, gr a0), (1, gi a1), (2, gi a2)] [] h (sJ1_circularClear G N a0 a1 a2 h)
  delta sJ1_circularClear
  refine g_iload_n (pc := 0) (x := a1) 1 rfl rfl dJ1_circularClear_0 ?_
  refine g_iload_n (pc := 1) (x := a2) 2 rfl rfl dJ1_circularClear_1 ?_
  refine g_join 11 (fun (x1 : Int32) => [(0, gr a0), (1, gi a1), (2, gi a2)]) (fun (x1 : Int32) => [gi x1]) (fun x1 h2 => ?_) (fun j3 Hj3 => ?_)
  · refine g_istore_n (pc := 11) (lv' := [(3, gi x1), (0, gr a0), (1, gi a1), (2, gi a2)]) [0, 1, 2, 3] rfl rfl (gblt rfl) dJ1_circularClear_11 ?_
    refine g_join 32 (fun (x4 : Unit) => []) (fun (x4 : Unit) => []) (fun x4 h5 => ?_) (fun j6 Hj6 => ?_)
    · refine g_goto (pc := 32) (tgt := 42) rfl dJ1_circularClear_32 ?_
      exact g_return (pc := 42) rfl dJ1_circularClear_42
    refine g_sub (lv' := [(0, gr a0), (1, gi a1), (2, gi a2), (3, gi x1)]) [1, 2, 3, 0] rfl ?_
    refine g_loop (pc := 12) (fun (x7 : Int32 × Int32) => [(0, gr a0), (1, gi x7.1), (2, gi a2), (3, gi x7.2)]) (fun (_ : Int32 × Int32) => []) (fun w9 Hw9 x7 h8 => ?_) N (a1, x1) h2
    delta bJ1_circularClear_12
    refine g_iload_n (pc := 12) (x := x7.1) 1 rfl rfl dJ1_circularClear_12 ?_
    refine g_iload_n (pc := 13) (x := x7.2) 3 rfl rfl dJ1_circularClear_13 ?_
    refine g_icmp_ge (pc := 14) (tgt := 27) rfl dJ1_circularClear_14 ?_ ?_
    rotate_left
    · refine g_aload_n (pc := 17) (x := a0) 0 rfl rfl dJ1_circularClear_17 ?_
      refine g_iload_n (pc := 18) (x := x7.1) 1 rfl rfl dJ1_circularClear_18 ?_
      refine g_aconst_null (pc := 19) dJ1_circularClear_19 ?_
      refine g_aastore (pc := 20) rfl asl_java_lang_Object_ok dJ1_circularClear_20 fun h10 => ?_
      refine g_iinc (pc := 21) (v := x7.1 + (1 : Int32)) 1 rfl (ii_1 _) (lv' := [(1, gi (x7.1 + (1 : Int32))), (0, gr a0), (2, gi a2), (3, gi x7.2)]) [0, 1, 2, 3] rfl (gblt rfl) dJ1_circularClear_21 ?_
      refine g_goto (pc := 24) (tgt := 12) rfl dJ1_circularClear_24 ?_
      exact g_sub [1, 0, 2, 3] rfl (Hw9 (x7.1 + (1 : Int32), x7.2) h10)
    refine g_iload_n (pc := 27) (x := x7.2) 3 rfl rfl dJ1_circularClear_27 ?_
    refine g_iload_n (pc := 28) (x := a2) 2 rfl rfl dJ1_circularClear_28 ?_
    refine g_icmp_ne (pc := 29) (tgt := 35) rfl dJ1_circularClear_29 ?_ ?_
    · exact g_sub [] rfl (Hj6 () h8)
    refine g_iconst (pc := 35) (v := (0 : Int32)) ic_0 dJ1_circularClear_35 ?_
    refine g_istore_n (pc := 36) (lv' := [(1, gi (0 : Int32)), (0, gr a0), (2, gi a2)]) [0, 1, 2] rfl rfl (gblt rfl) dJ1_circularClear_36 ?_
    refine g_iload_n (pc := 37) (x := a2) 2 rfl rfl dJ1_circularClear_37 ?_
    refine g_istore_n (pc := 38) (lv' := [(3, gi a2), (1, gi (0 : Int32)), (0, gr a0), (2, gi a2)]) [0, 1, 2, 3] rfl rfl (gblt rfl) dJ1_circularClear_38 ?_
    refine g_goto (pc := 39) (tgt := 12) rfl dJ1_circularClear_39 ?_
    exact g_sub [2, 1, 3, 0] rfl (Hw9 ((0 : Int32), a2) h8)
  refine g_icmp_gt (pc := 2) (tgt := 9) rfl dJ1_circularClear_2 ?_ ?_
  · refine g_aload_n (pc := 9) (x := a0) 0 rfl rfl dJ1_circularClear_9 ?_
    refine g_alen (pc := 10) dJ1_circularClear_10 fun v11 => ?_
    exact Hj3 v11 h
  refine g_iload_n (pc := 5) (x := a2) 2 rfl rfl dJ1_circularClear_5 ?_
  refine g_goto (pc := 6) (tgt := 11) rfl dJ1_circularClear_6 ?_
  exact Hj3 a2 h
/-! java/util/ArrayDeque.clear()V -/
noncomputable def sJ1_clear (G : GG) (N : Nat) (a0 : Option Nat) (h : Hp) : Out (Unit) :=
  gFr h a0 22 0 fun v1 =>
  gFi h a0 22 1 fun v2 =>
  gFi h a0 22 2 fun v3 =>
  bnd (sJ1_circularClear G N v1 v2 v3 h) fun v4 h5 =>
  gP G h5 a0 22 2 (.int (0 : Int32)) fun h6 =>
  gP G h6 a0 22 1 (.int (0 : Int32)) fun h7 =>
  some (.inl (), h7)
abbrev mJ1_clear : MI := (RJ1, cJ1_clear, 1, none, [], 1, 23, "clear")
theorem tJ1_clear {G : GG} {l : Launch} (hs : l.stackTraces = false) {N : Nat} {a0 : Option Nat} {h : Hp} {r : Unit ⊕ Nat} {hf : Hp} (ho : sJ1_clear G N a0 h = some (r, hf)) : gMet G l yJ1_clear (ws_ yJ1_clear cJ1_clear 1 none) 1 23 [gr a0] h cvU r hf := by
  refine gMet.of ho hs (plainFor_of_name pn_J1) rfl rfl (gbl rfl) fun X => ?_
  show gT G l X mJ1_clear cvU r hf 0 [(0, gr a0)] [] h (sJ1_clear G N a0 h)
  delta sJ1_clear
  refine g_aload_n (pc := 0) (x := a0) 0 rfl rfl dJ1_clear_0 ?_
  refine g_getfr (pc := 1) k_22 (gblt rfl) lk_J1_3_22 dJ1_clear_1 fun v1 => ?_
  refine g_aload_n (pc := 4) (x := a0) 0 rfl rfl dJ1_clear_4 ?_
  refine g_getfi (pc := 5) k_22 (gblt rfl) lk_J1_24_22 dJ1_clear_5 fun v2 => ?_
  refine g_aload_n (pc := 8) (x := a0) 0 rfl rfl dJ1_clear_8 ?_
  refine g_getfi (pc := 9) k_22 (gblt rfl) lk_J1_20_22 dJ1_clear_9 fun v3 => ?_
  refine g_bu (pc := 12) (y := yJ1_circularClear) (ws := ws_ yJ1_circularClear cJ1_circularClear 4 none) (fr := 0) (lo := 0) (as := [gr v1, gi v2, gi v3]) (st := []) (g_no) rfl (fun _ _ e => tJ1_circularClear hs e) (fun K _ _ hM R e1 e2 => g_runS (M := mJ1_clear) (pc := 12) (y := yJ1_circularClear) (bytes := cJ1_circularClear) (maxL := 4) (ret := none) (fr := 0) (lo := 0) (as := [gr v1, gi v2, gi v3]) (st := []) gy_J1_circularClear (gbl rfl) (gbl rfl) (gbl rfl) q1408 q1409 dJ1_clear_12 K hM R e1 e2) fun v4 h5 => ?_
  refine g_aload_n (pc := 15) (x := a0) 0 rfl rfl dJ1_clear_15 ?_
  refine g_aload_n (pc := 16) (x := a0) 0 rfl rfl dJ1_clear_16 ?_
  refine g_iconst (pc := 17) (v := (0 : Int32)) ic_0 dJ1_clear_17 ?_
  refine g_dup_x1 (pc := 18) rfl rfl dJ1_clear_18 ?_
  refine g_put (pc := 19) k_22 (gblt rfl) lk_J1_20_22 rfl rfl (gNi _) dJ1_clear_19 fun h6 => ?_
  refine g_put (pc := 22) k_22 (gblt rfl) lk_J1_24_22 rfl rfl (gNi _) dJ1_clear_22 fun h7 => ?_
  exact g_return (pc := 25) rfl dJ1_clear_25
/-! FlareSlopes$State.size()I -/
noncomputable def sX3_size (G : GG) (N : Nat) (a0 : Option Nat) (h : Hp) : Out (Int32) :=
  gFr h a0 16 1 fun v1 =>
  bV h v1 24 (fun q4 => sJ12_size G N (some q4) h) fun v2 h3 =>
  some (.inl v2, h3)
abbrev mX3_size : MI := (RX3, cX3_size, 1, (some .int), [], 1, 20, "size")
theorem tX3_size {G : GG} {l : Launch} (hs : l.stackTraces = false) {N : Nat} {a0 : Option Nat} {h : Hp} {r : Int32 ⊕ Nat} {hf : Hp} (ho : sX3_size G N a0 h = some (r, hf)) : gMet G l yX3_size (ws_ yX3_size cX3_size 1 (some .int)) 1 20 [gr a0] h cvI r hf := by
  refine gMet.of ho hs (plainFor_of_name pn_X3) rfl rfl (gbl rfl) fun X => ?_
  show gT G l X mX3_size cvI r hf 0 [(0, gr a0)] [] h (sX3_size G N a0 h)
  delta sX3_size
  refine g_aload_n (pc := 0) (x := a0) 0 rfl rfl dX3_size_0 ?_
  refine g_getfr (pc := 1) k_16 (gblt rfl) lk_X3_12_16 dX3_size_1 fun v1 => ?_
  refine g_bVi (pc := 4) (y := yJ12_size) (ws := ws_ yJ12_size cJ12_size 1 (some .int)) (fr := 0) (lo := 0) (as := []) (st := []) (g_no) rfl (fun _ _ _ e => tJ12_size hs e) (fun K _ _ _ hq hM R e1 e2 => g_runF (x := ⟨"java/util/List", "size", "()I"⟩) (M := mX3_size) (pc := 4) (y := yJ12_size) (bytes := cJ12_size) (maxL := 1) (ret := (some .int)) (fr := 0) (lo := 0) (as := []) (st := []) hq (C := "java/util/ArrayList") rfl gy_J12_size rfl (gbl rfl) (gbl rfl) (gbl rfl) q1416 q970 q969 q975 q973 q971 mhx_java_util_List q972 q974 dX3_size_4 K hM R e1 e2) fun v2 h3 => ?_
  exact g_ireturn (pc := 9) rfl dX3_size_9
/-! FlareSlopes.load(I)I -/
noncomputable def bX1_load_57 (G : GG) (N : Nat) (a0 : Option Nat) (j23 : (Unit) → Hp → Out (Int32)) (w38 : (Int32) → Hp → Out (Int32)) (x36 : Int32) (h37 : Hp) : Out (Int32) :=
  if (2 : Int32) ≤ x36 then (j23 () h37)
  else gFr h37 a0 3 6 fun v39 =>
  gSr G h37 v39 7 asl_FlareSlopes_State x36 none fun h40 =>
  w38 (x36 + (1 : Int32)) h40
noncomputable def sX1_load (G : GG) (N : Nat) (a0 : Option Nat) (a1 : Int32) (h : Hp) : Out (Int32) :=
  gFi h a0 3 1 fun v1 =>
  bnd (sX1_checkIndex G N a1 (v1 + (1 : Int32)) h) fun v2 h3 =>
  gP G h3 a0 3 1 (.int (0 : Int32)) fun h4 =>
  gP G h4 a0 3 2 (.int (0 : Int32)) fun h5 =>
  gP G h5 a0 3 3 (.int (-1 : Int32)) fun h6 =>
  gNew h6 16 [.null, .null, .null, .null, .int 0, .int 0, .int 0, .int 0, .int 0, .int 0, .int 0, .int 0, .null, .null] 14 fun v7 h8 =>
  gNew h8 12 [.int 0, .null, .int 0, .int 0, .int 0, .int 0, .null] 7 fun v9 h10 =>
  bIX v9 (fun q68 => sX4_init G N (some q68) a0 a1 h10) (fun v11 h12 =>
  bVX h12 v9 12 (fun q59 => sX4_parse G N (some q59) h12) (fun v13 h14 =>
  bIX v7 (fun q50 => sX3_init G N (some q50) v13 h14) (fun v15 h16 =>
  gP G h16 a0 3 4 (va_rf v7) fun h17 =>
  gFr h17 a0 3 5 fun v18 =>
  bVX h17 v18 22 (fun q41 => sJ1_clear G N (some q41) h17) (fun v19 h20 =>
  gJ (fun (x21 : Unit) (h22 : Hp) =>
  gFr h22 a0 3 4 fun v24 =>
  bVX h22 v24 16 (fun q27 => sX3_size G N (some q27) h22) (fun v25 h26 =>
  some (.inl v25, h26)) fun q28 h29 =>
  gSw h29 (some q28) 8 (gFi h29 (some q28) 8 6 fun v30 =>
  gP G h29 a0 3 2 (.int v30) fun h31 =>
  gFi h31 (some q28) 8 7 fun v32 =>
  gP G h31 a0 3 3 (.int v32) fun h33 =>
  gMk h33 1 fun v34 h35 =>
  gThr G v34 h35) (none)) fun j23 =>
  gLp (bX1_load_57 G N a0 j23) N (0 : Int32) h20) fun q42 h43 =>
  gSw h43 (some q42) 8 (gFi h43 (some q42) 8 6 fun v44 =>
  gP G h43 a0 3 2 (.int v44) fun h45 =>
  gFi h45 (some q42) 8 7 fun v46 =>
  gP G h45 a0 3 3 (.int v46) fun h47 =>
  gMk h47 1 fun v48 h49 =>
  gThr G v48 h49) (none)) fun q51 h52 =>
  gSw h52 (some q51) 8 (gFi h52 (some q51) 8 6 fun v53 =>
  gP G h52 a0 3 2 (.int v53) fun h54 =>
  gFi h54 (some q51) 8 7 fun v55 =>
  gP G h54 a0 3 3 (.int v55) fun h56 =>
  gMk h56 1 fun v57 h58 =>
  gThr G v57 h58) (none)) fun q60 h61 =>
  gSw h61 (some q60) 8 (gFi h61 (some q60) 8 6 fun v62 =>
  gP G h61 a0 3 2 (.int v62) fun h63 =>
  gFi h63 (some q60) 8 7 fun v64 =>
  gP G h63 a0 3 3 (.int v64) fun h65 =>
  gMk h65 1 fun v66 h67 =>
  gThr G v66 h67) (none)) fun q69 h70 =>
  gSw h70 (some q69) 8 (gFi h70 (some q69) 8 6 fun v71 =>
  gP G h70 a0 3 2 (.int v71) fun h72 =>
  gFi h72 (some q69) 8 7 fun v73 =>
  gP G h72 a0 3 3 (.int v73) fun h74 =>
  gMk h74 1 fun v75 h76 =>
  gThr G v75 h76) (none)
abbrev mX1_load : MI := (RX1, cX1_load, 3, (some .int), [(25, 82, 83, 111)], 11, 246, "load")
theorem tX1_load {G : GG} {l : Launch} (hs : l.stackTraces = false) {N : Nat} {a0 : Option Nat} {a1 : Int32} {h : Hp} {r : Int32 ⊕ Nat} {hf : Hp} (ho : sX1_load G N a0 a1 h = some (r, hf)) : gMet G l yX1_load (wsW_ yX1_load cX1_load 3 (some .int) [(25, 82, 83, 111)]) 11 246 [gr a0, gi a1] h cvI r hf := by
  refine gMet.ofW ho hs (plainFor_of_name pn_X1) rfl rfl (gbl rfl) fun X => ?_
  show gT G l X mX1_load cvI r hf 0 [(0, gr a0), (1, gi a1)] [] h (sX1_load G N a0 a1 h)
  delta sX1_load
  refine g_iload_n (pc := 0) (x := a1) 1 rfl rfl dX1_load_0 ?_
  refine g_aload_n (pc := 1) (x := a0) 0 rfl rfl dX1_load_1 ?_
  refine g_getfi (pc := 2) k_3 (gblt rfl) lk_X1_90_3 dX1_load_2 fun v1 => ?_
  refine g_iconst (pc := 5) (v := (1 : Int32)) ic_1 dX1_load_5 ?_
  refine g_iadd (pc := 6) dX1_load_6 ?_
  refine g_bu (pc := 7) (y := yX1_checkIndex) (ws := ws_ yX1_checkIndex cX1_checkIndex 2 none) (fr := 6) (lo := 81) (as := [gi a1, gi (v1 + (1 : Int32))]) (st := []) (by decide +kernel) rfl (fun _ _ e => tX1_checkIndex hs e) (fun K _ _ hM R e1 e2 => g_runS (M := mX1_load) (pc := 7) (y := yX1_checkIndex) (bytes := cX1_checkIndex) (maxL := 2) (ret := none) (fr := 6) (lo := 81) (as := [gi a1, gi (v1 + (1 : Int32))]) (st := []) gy_X1_checkIndex (gbl rfl) (gbl rfl) (gbl rfl) q410 q411 dX1_load_7 K hM R e1 e2) fun v2 h3 => ?_
  refine g_aload_n (pc := 10) (x := a0) 0 rfl rfl dX1_load_10 ?_
  refine g_iconst (pc := 11) (v := (0 : Int32)) ic_0 dX1_load_11 ?_
  refine g_put (pc := 12) k_3 (gblt rfl) lk_X1_90_3 rfl rfl (gNi _) dX1_load_12 fun h4 => ?_
  refine g_aload_n (pc := 15) (x := a0) 0 rfl rfl dX1_load_15 ?_
  refine g_iconst (pc := 16) (v := (0 : Int32)) ic_0 dX1_load_16 ?_
  refine g_put (pc := 17) k_3 (gblt rfl) lk_X1_93_3 rfl rfl (gNi _) dX1_load_17 fun h5 => ?_
  refine g_aload_n (pc := 20) (x := a0) 0 rfl rfl dX1_load_20 ?_
  refine g_iconst (pc := 21) (v := (-1 : Int32)) ic_m1 dX1_load_21 ?_
  refine g_put (pc := 22) k_3 (gblt rfl) lk_X1_19_3 rfl rfl (gNi _) dX1_load_22 fun h6 => ?_
  refine g_aload_n (pc := 25) (x := a0) 0 rfl rfl dX1_load_25 ?_
  refine g_new (pc := 26) k_16 df_16 q233 q437 q141 dX1_load_26 fun v7 h8 => ?_
  refine g_dup (pc := 29) rfl dX1_load_29 ?_
  refine g_new (pc := 30) k_12 df_12 q438 q439 q142 dX1_load_30 fun v9 h10 => ?_
  refine g_dup (pc := 33) rfl dX1_load_33 ?_
  refine g_aload_n (pc := 34) (x := a0) 0 rfl rfl dX1_load_34 ?_
  refine g_iload_n (pc := 35) (x := a1) 1 rfl rfl dX1_load_35 ?_
  refine g_bIXu (pc := 36) (y := yX4_init) (ws := ws_ yX4_init cX4_init 3 none) (fr := 6) (lo := 114) (as := [gr a0, gi a1]) (st := [gr v9, gr v7, gr v7, gr a0]) rfl (fun _ _ _ e => tX4_init hs e) (fun K _ _ _ hM R e1 e2 => g_runI (M := mX1_load) (pc := 36) (y := yX4_init) (bytes := cX4_init) (maxL := 3) (ret := none) (fr := 6) (lo := 114) (as := [gr a0, gi a1]) (st := [gr v9, gr v7, gr v7, gr a0]) gy_X4_init (gbl rfl) (gbl rfl) (gbl rfl) rfl q440 q441 rfl dX1_load_36 K hM R e1 e2) (fun v11 h12 => ?_) (fun q69 h70 => ?_)
  · refine g_bVXr (pc := 39) (y := yX4_parse) (ws := ws_ yX4_parse cX4_parse 1 (some (.object "FlareSlopes$Mountain"))) (fr := 10) (lo := 226) (as := []) (st := [gr v7, gr v7, gr a0]) rfl (fun _ _ _ e => tX4_parse hs e) (fun K _ _ _ hq hM R e1 e2 => g_runV (M := mX1_load) (pc := 39) (y := yX4_parse) (bytes := cX4_parse) (maxL := 1) (ret := (some (.object "FlareSlopes$Mountain"))) (fr := 10) (lo := 226) (as := []) (st := [gr v7, gr v7, gr a0]) hq (C := "FlareSlopes$Parser") rfl gy_X4_parse (gbl rfl) (gbl rfl) (gbl rfl) q572 q573 q574 dX1_load_39 K hM R e1 e2) (fun v13 h14 => ?_) (fun q60 h61 => ?_)
    · refine g_bIXu (pc := 42) (y := yX3_init) (ws := ws_ yX3_init cX3_init 3 none) (fr := 5) (lo := 108) (as := [gr v13]) (st := [gr v7, gr a0]) rfl (fun _ _ _ e => tX3_init hs e) (fun K _ _ _ hM R e1 e2 => g_runI (M := mX1_load) (pc := 42) (y := yX3_init) (bytes := cX3_init) (maxL := 3) (ret := none) (fr := 5) (lo := 108) (as := [gr v13]) (st := [gr v7, gr a0]) gy_X3_init (gbl rfl) (gbl rfl) (gbl rfl) rfl q1220 q1221 rfl dX1_load_42 K hM R e1 e2) (fun v15 h16 => ?_) (fun q51 h52 => ?_)
      · refine g_put (pc := 45) k_3 (gblt rfl) lk_X1_56_3 rfl rfl (gNr _ _) dX1_load_45 fun h17 => ?_
        refine g_aload_n (pc := 48) (x := a0) 0 rfl rfl dX1_load_48 ?_
        refine g_getfr (pc := 49) k_3 (gblt rfl) lk_X1_26_3 dX1_load_49 fun v18 => ?_
        refine g_bVXu (pc := 52) (y := yJ1_clear) (ws := ws_ yJ1_clear cJ1_clear 1 none) (fr := 1) (lo := 23) (as := []) (st := []) rfl (fun _ _ _ e => tJ1_clear hs e) (fun K _ _ _ hq hM R e1 e2 => g_runV (M := mX1_load) (pc := 52) (y := yJ1_clear) (bytes := cJ1_clear) (maxL := 1) (ret := none) (fr := 1) (lo := 23) (as := []) (st := []) hq (C := "java/util/ArrayDeque") rfl gy_J1_clear (gbl rfl) (gbl rfl) (gbl rfl) q1404 q1405 q1406 dX1_load_52 K hM R e1 e2) (fun v19 h20 => ?_) (fun q42 h43 => ?_)
        · refine g_iconst (pc := 55) (v := (0 : Int32)) ic_0 dX1_load_55 ?_
          refine g_istore_n (pc := 56) (lv' := [(2, gi (0 : Int32)), (0, gr a0)]) [0, 1] rfl rfl (gblt rfl) dX1_load_56 ?_
          refine g_join 75 (fun (x21 : Unit) => [(0, gr a0)]) (fun (x21 : Unit) => []) (fun x21 h22 => ?_) (fun j23 Hj23 => ?_)
          · refine g_aload_n (pc := 75) (x := a0) 0 rfl rfl dX1_load_75 ?_
            refine g_getfr (pc := 76) k_3 (gblt rfl) lk_X1_56_3 dX1_load_76 fun v24 => ?_
            refine g_bVXi (pc := 79) (y := yX3_size) (ws := ws_ yX3_size cX3_size 1 (some .int)) (fr := 1) (lo := 20) (as := []) (st := []) rfl (fun _ _ _ e => tX3_size hs e) (fun K _ _ _ hq hM R e1 e2 => g_runV (M := mX1_load) (pc := 79) (y := yX3_size) (bytes := cX3_size) (maxL := 1) (ret := (some .int)) (fr := 1) (lo := 20) (as := []) (st := []) hq (C := "FlareSlopes$State") rfl gy_X3_size (gbl rfl) (gbl rfl) (gbl rfl) q1411 q1412 q1413 dX1_load_79 K hM R e1 e2) (fun v25 h26 => ?_) (fun q28 h29 => ?_)
            · exact g_ireturn (pc := 82) rfl dX1_load_82
            refine g_catch (E := "FlareSlopes$Flaw") [] ⟨25, 82, 83, 111⟩ [] rfl rfl (List.forall_mem_nil _) (by decide +kernel) (by decide +kernel) q409 q591 ?_ ?_
            · refine g_astore_n (pc := 83) (lv' := [(2, gr (some q28)), (0, gr a0)]) [0, 1] rfl rfl (gblt rfl) dX1_load_83 ?_
              refine g_aload_n (pc := 84) (x := a0) 1 rfl rfl dX1_load_84 ?_
              refine g_aload_n (pc := 85) (x := (some q28)) 0 rfl rfl dX1_load_85 ?_
              refine g_getfi (pc := 86) k_8 (gblt rfl) lk_X1_113_8 dX1_load_86 fun v30 => ?_
              refine g_put (pc := 89) k_3 (gblt rfl) lk_X1_93_3 rfl rfl (gNi _) dX1_load_89 fun h31 => ?_
              refine g_aload_n (pc := 92) (x := a0) 1 rfl rfl dX1_load_92 ?_
              refine g_aload_n (pc := 93) (x := (some q28)) 0 rfl rfl dX1_load_93 ?_
              refine g_getfi (pc := 94) k_8 (gblt rfl) lk_X1_116_8 dX1_load_94 fun v32 => ?_
              refine g_put (pc := 97) k_3 (gblt rfl) lk_X1_19_3 rfl rfl (gNi _) dX1_load_97 fun h33 => ?_
              refine g_make0 (pc := 100) xw_X1_43_45 rfl dX1_load_100 dX1_load_103 dX1_load_104 (gblt rfl) (gbl rfl) fun v34 h35 => ?_
              exact g_athrow (pc := 107) (by decide +kernel) dX1_load_107
            exact g_noneX
          refine g_sub (lv' := [(0, gr a0), (2, gi (0 : Int32))]) [1, 0] rfl ?_
          refine g_loop (pc := 57) (fun (x36 : Int32) => [(0, gr a0), (2, gi x36)]) (fun (_ : Int32) => []) (fun w38 Hw38 x36 h37 => ?_) N (0 : Int32) h20
          delta bX1_load_57
          refine g_iload_n (pc := 57) (x := x36) 1 rfl rfl dX1_load_57 ?_
          refine g_iconst (pc := 58) (v := (2 : Int32)) ic_2 dX1_load_58 ?_
          refine g_icmp_ge (pc := 59) (tgt := 75) rfl dX1_load_59 ?_ ?_
          · exact g_sub [0] rfl (Hj23 () h37)
          refine g_aload_n (pc := 62) (x := a0) 0 rfl rfl dX1_load_62 ?_
          refine g_getfr (pc := 63) k_3 (gblt rfl) lk_X1_32_3 dX1_load_63 fun v39 => ?_
          refine g_iload_n (pc := 66) (x := x36) 1 rfl rfl dX1_load_66 ?_
          refine g_aconst_null (pc := 67) dX1_load_67 ?_
          refine g_aastore (pc := 68) rfl asl_FlareSlopes_State_ok dX1_load_68 fun h40 => ?_
          refine g_iinc (pc := 69) (v := x36 + (1 : Int32)) 1 rfl (ii_1 _) (lv' := [(2, gi (x36 + (1 : Int32))), (0, gr a0)]) [0, 1] rfl (gblt rfl) dX1_load_69 ?_
          refine g_goto (pc := 72) (tgt := 57) rfl dX1_load_72 ?_
          exact g_sub [1, 0] rfl (Hw38 (x36 + (1 : Int32)) h40)
        refine g_catch (E := "FlareSlopes$Flaw") [] ⟨25, 82, 83, 111⟩ [] rfl rfl (List.forall_mem_nil _) (by decide +kernel) (by decide +kernel) q409 q591 ?_ ?_
        · refine g_astore_n (pc := 83) (lv' := [(2, gr (some q42)), (0, gr a0)]) [0, 1] rfl rfl (gblt rfl) dX1_load_83 ?_
          refine g_aload_n (pc := 84) (x := a0) 1 rfl rfl dX1_load_84 ?_
          refine g_aload_n (pc := 85) (x := (some q42)) 0 rfl rfl dX1_load_85 ?_
          refine g_getfi (pc := 86) k_8 (gblt rfl) lk_X1_113_8 dX1_load_86 fun v44 => ?_
          refine g_put (pc := 89) k_3 (gblt rfl) lk_X1_93_3 rfl rfl (gNi _) dX1_load_89 fun h45 => ?_
          refine g_aload_n (pc := 92) (x := a0) 1 rfl rfl dX1_load_92 ?_
          refine g_aload_n (pc := 93) (x := (some q42)) 0 rfl rfl dX1_load_93 ?_
          refine g_getfi (pc := 94) k_8 (gblt rfl) lk_X1_116_8 dX1_load_94 fun v46 => ?_
          refine g_put (pc := 97) k_3 (gblt rfl) lk_X1_19_3 rfl rfl (gNi _) dX1_load_97 fun h47 => ?_
          refine g_make0 (pc := 100) xw_X1_43_45 rfl dX1_load_100 dX1_load_103 dX1_load_104 (gblt rfl) (gbl rfl) fun v48 h49 => ?_
          exact g_athrow (pc := 107) (by decide +kernel) dX1_load_107
        exact g_noneX
      refine g_catch (E := "FlareSlopes$Flaw") [] ⟨25, 82, 83, 111⟩ [] rfl rfl (List.forall_mem_nil _) (by decide +kernel) (by decide +kernel) q409 q591 ?_ ?_
      · refine g_astore_n (pc := 83) (lv' := [(2, gr (some q51)), (0, gr a0)]) [0, 1] rfl rfl (gblt rfl) dX1_load_83 ?_
        refine g_aload_n (pc := 84) (x := a0) 1 rfl rfl dX1_load_84 ?_
        refine g_aload_n (pc := 85) (x := (some q51)) 0 rfl rfl dX1_load_85 ?_
        refine g_getfi (pc := 86) k_8 (gblt rfl) lk_X1_113_8 dX1_load_86 fun v53 => ?_
        refine g_put (pc := 89) k_3 (gblt rfl) lk_X1_93_3 rfl rfl (gNi _) dX1_load_89 fun h54 => ?_
        refine g_aload_n (pc := 92) (x := a0) 1 rfl rfl dX1_load_92 ?_
        refine g_aload_n (pc := 93) (x := (some q51)) 0 rfl rfl dX1_load_93 ?_
        refine g_getfi (pc := 94) k_8 (gblt rfl) lk_X1_116_8 dX1_load_94 fun v55 => ?_
        refine g_put (pc := 97) k_3 (gblt rfl) lk_X1_19_3 rfl rfl (gNi _) dX1_load_97 fun h56 => ?_
        refine g_make0 (pc := 100) xw_X1_43_45 rfl dX1_load_100 dX1_load_103 dX1_load_104 (gblt rfl) (gbl rfl) fun v57 h58 => ?_
        exact g_athrow (pc := 107) (by decide +kernel) dX1_load_107
      exact g_noneX
    refine g_catch (E := "FlareSlopes$Flaw") [] ⟨25, 82, 83, 111⟩ [] rfl rfl (List.forall_mem_nil _) (by decide +kernel) (by decide +kernel) q409 q591 ?_ ?_
    · refine g_astore_n (pc := 83) (lv' := [(2, gr (some q60)), (0, gr a0)]) [0, 1] rfl rfl (gblt rfl) dX1_load_83 ?_
      refine g_aload_n (pc := 84) (x := a0) 1 rfl rfl dX1_load_84 ?_
      refine g_aload_n (pc := 85) (x := (some q60)) 0 rfl rfl dX1_load_85 ?_
      refine g_getfi (pc := 86) k_8 (gblt rfl) lk_X1_113_8 dX1_load_86 fun v62 => ?_
      refine g_put (pc := 89) k_3 (gblt rfl) lk_X1_93_3 rfl rfl (gNi _) dX1_load_89 fun h63 => ?_
      refine g_aload_n (pc := 92) (x := a0) 1 rfl rfl dX1_load_92 ?_
      refine g_aload_n (pc := 93) (x := (some q60)) 0 rfl rfl dX1_load_93 ?_
      refine g_getfi (pc := 94) k_8 (gblt rfl) lk_X1_116_8 dX1_load_94 fun v64 => ?_
      refine g_put (pc := 97) k_3 (gblt rfl) lk_X1_19_3 rfl rfl (gNi _) dX1_load_97 fun h65 => ?_
      refine g_make0 (pc := 100) xw_X1_43_45 rfl dX1_load_100 dX1_load_103 dX1_load_104 (gblt rfl) (gbl rfl) fun v66 h67 => ?_
      exact g_athrow (pc := 107) (by decide +kernel) dX1_load_107
    exact g_noneX
  refine g_catch (E := "FlareSlopes$Flaw") [] ⟨25, 82, 83, 111⟩ [] rfl rfl (List.forall_mem_nil _) (by decide +kernel) (by decide +kernel) q409 q591 ?_ ?_
  · refine g_astore_n (pc := 83) (lv' := [(2, gr (some q69)), (0, gr a0)]) [0, 1] rfl rfl (gblt rfl) dX1_load_83 ?_
    refine g_aload_n (pc := 84) (x := a0) 1 rfl rfl dX1_load_84 ?_
    refine g_aload_n (pc := 85) (x := (some q69)) 0 rfl rfl dX1_load_85 ?_
    refine g_getfi (pc := 86) k_8 (gblt rfl) lk_X1_113_8 dX1_load_86 fun v71 => ?_
    refine g_put (pc := 89) k_3 (gblt rfl) lk_X1_93_3 rfl rfl (gNi _) dX1_load_89 fun h72 => ?_
    refine g_aload_n (pc := 92) (x := a0) 1 rfl rfl dX1_load_92 ?_
    refine g_aload_n (pc := 93) (x := (some q69)) 0 rfl rfl dX1_load_93 ?_
    refine g_getfi (pc := 94) k_8 (gblt rfl) lk_X1_116_8 dX1_load_94 fun v73 => ?_
    refine g_put (pc := 97) k_3 (gblt rfl) lk_X1_19_3 rfl rfl (gNi _) dX1_load_97 fun h74 => ?_
    refine g_make0 (pc := 100) xw_X1_43_45 rfl dX1_load_100 dX1_load_103 dX1_load_104 (gblt rfl) (gbl rfl) fun v75 h76 => ?_
    exact g_athrow (pc := 107) (by decide +kernel) dX1_load_107
  exact g_noneX
/-! FlareSlopesLaw.load(LFlareSlopes;I[J)I -/
noncomputable def sX0_load (G : GG) (N : Nat) (a0 : Option Nat) (a1 : Int32) (a2 : Option Nat) (h : Hp) : Out (Int32) :=
  bVX h a0 3 (fun q4 => sX1_load G N (some q4) a1 h) (fun v1 h2 =>
  gSl G h2 a2 3 (0 : Int32) (v1.toInt64) fun h3 =>
  some (.inl (0 : Int32), h3)) fun q5 h6 =>
  gSw h6 (some q5) 1 (some (.inl (2 : Int32), h6)) (gSw h6 (some q5) 2 (some (.inl (1 : Int32), h6)) (none))
abbrev mX0_load : MI := (RX0, cX0_load, 4, (some .int), [(0, 9, 12, 13), (0, 9, 15, 15)], 12, 268, "load")
theorem tX0_load {G : GG} {l : Launch} (hs : l.stackTraces = false) {N : Nat} {a0 : Option Nat} {a1 : Int32} {a2 : Option Nat} {h : Hp} {r : Int32 ⊕ Nat} {hf : Hp} (ho : sX0_load G N a0 a1 a2 h = some (r, hf)) : gMet G l yX0_load (wsW_ yX0_load cX0_load 4 (some .int) [(0, 9, 12, 13), (0, 9, 15, 15)]) 12 268 [gr a0, gi a1, gr a2] h cvI r hf := by
  refine gMet.ofW ho hs (plainFor_of_name pn_X0) rfl rfl (gbl rfl) fun X => ?_
  show gT G l X mX0_load cvI r hf 0 [(0, gr a0), (1, gi a1), (2, gr a2)] [] h (sX0_load G N a0 a1 a2 h)
  delta sX0_load
  refine g_aload_n (pc := 0) (x := a2) 2 rfl rfl dX0_load_0 ?_
  refine g_iconst (pc := 1) (v := (0 : Int32)) ic_0 dX0_load_1 ?_
  refine g_aload_n (pc := 2) (x := a0) 0 rfl rfl dX0_load_2 ?_
  refine g_iload_n (pc := 3) (x := a1) 1 rfl rfl dX0_load_3 ?_
  refine g_bVXi (pc := 4) (y := yX1_load) (ws := wsW_ yX1_load cX1_load 3 (some .int) [(25, 82, 83, 111)]) (fr := 11) (lo := 246) (as := [gi a1]) (st := [gi (0 : Int32), gr a2]) rfl (fun _ _ _ e => tX1_load hs e) (fun K _ _ _ hq hM R e1 e2 => g_runVX (M := mX0_load) (pc := 4) (y := yX1_load) (bytes := cX1_load) (maxL := 3) (ret := (some .int)) (hh := [(25, 82, 83, 111)]) (fr := 11) (lo := 246) (as := [gi a1]) (st := [gi (0 : Int32), gr a2]) hq (C := "FlareSlopes") rfl gy_X1_load (gbl rfl) (gbl rfl) (gbl rfl) q405 q406 q407 dX0_load_4 K hM R e1 e2) (fun v1 h2 => ?_) (fun q5 h6 => ?_)
  · refine g_i2l (pc := 7) dX0_load_7 ?_
    refine g_lastore (pc := 8) rfl dX0_load_8 fun h3 => ?_
    refine g_goto (pc := 9) (tgt := 18) rfl dX0_load_9 ?_
    refine g_iconst (pc := 18) (v := (0 : Int32)) ic_0 dX0_load_18 ?_
    exact g_ireturn (pc := 19) rfl dX0_load_19
  refine g_catch (E := "java/lang/IllegalArgumentException") [⟨0, 9, 12, 13⟩] ⟨0, 9, 15, 15⟩ [] rfl rfl (List.forall_mem_cons.mpr ⟨Or.inr ⟨by decide +kernel, _, q325, ncl_java_lang_IllegalArgumentException_java_lang_IndexOutOfBoundsException⟩, List.forall_mem_nil _⟩) (by decide +kernel) (by decide +kernel) q404 q751 ?_ ?_
  · refine g_astore_n (pc := 15) (lv' := []) [] rfl rfl (gblt rfl) dX0_load_15 ?_
    refine g_iconst (pc := 16) (v := (2 : Int32)) ic_2 dX0_load_16 ?_
    exact g_ireturn (pc := 17) rfl dX0_load_17
  refine g_catch (E := "java/lang/IndexOutOfBoundsException") [] ⟨0, 9, 12, 13⟩ [⟨0, 9, 15, 15⟩] rfl rfl (List.forall_mem_nil _) (by decide +kernel) (by decide +kernel) q325 q418 ?_ ?_
  · refine g_astore_n (pc := 12) (lv' := []) [] rfl rfl (gblt rfl) dX0_load_12 ?_
    refine g_iconst (pc := 13) (v := (1 : Int32)) ic_1 dX0_load_13 ?_
    exact g_ireturn (pc := 14) rfl dX0_load_14
  exact g_noneX
/-! FlareSlopesModel.in(III)Z -/
noncomputable def sX2_in (G : GG) (N : Nat) (a0 : Int32) (a1 : Int32) (a2 : Int32) (h : Hp) : Out (Int32) :=
  gJ (fun (x1 : Unit) (h2 : Hp) =>
  gRtZ (0 : Int32) h2) fun j3 =>
  if a0 < a1 then (j3 () h)
  else if a2 < a0 then (j3 () h)
  else gRtZ (1 : Int32) h
abbrev mX2_in : MI := (RX2, cX2_in, 3, (some .boolean), [], 0, 0, "in")
theorem tX2_in {G : GG} {l : Launch} (hs : l.stackTraces = false) {N : Nat} {a0 : Int32} {a1 : Int32} {a2 : Int32} {h : Hp} {r : Int32 ⊕ Nat} {hf : Hp} (ho : sX2_in G N a0 a1 a2 h = some (r, hf)) : gMet G l yX2_in (ws_ yX2_in cX2_in 3 (some .boolean)) 0 0 [gi a0, gi a1, gi a2] h cvI r hf := by
  refine gMet.of ho hs (plainFor_of_name pn_X2) rfl rfl (gbl rfl) fun X => ?_
  show gT G l X mX2_in cvI r hf 0 [(0, gi a0), (1, gi a1), (2, gi a2)] [] h (sX2_in G N a0 a1 a2 h)
  delta sX2_in
  refine g_iload_n (pc := 0) (x := a0) 0 rfl rfl dX2_in_0 ?_
  refine g_iload_n (pc := 1) (x := a1) 1 rfl rfl dX2_in_1 ?_
  refine g_join 14 (fun (x1 : Unit) => []) (fun (x1 : Unit) => []) (fun x1 h2 => ?_) (fun j3 Hj3 => ?_)
  · refine g_iconst (pc := 14) (v := (0 : Int32)) ic_0 dX2_in_14 ?_
    exact g_zreturn (pc := 15) rfl dX2_in_15
  refine g_icmp_lt (pc := 2) (tgt := 14) rfl dX2_in_2 ?_ ?_
  · exact g_sub [] rfl (Hj3 () h)
  refine g_iload_n (pc := 5) (x := a0) 0 rfl rfl dX2_in_5 ?_
  refine g_iload_n (pc := 6) (x := a2) 2 rfl rfl dX2_in_6 ?_
  refine g_icmp_gt (pc := 7) (tgt := 14) rfl dX2_in_7 ?_ ?_
  · exact g_sub [] rfl (Hj3 () h)
  refine g_iconst (pc := 10) (v := (1 : Int32)) ic_1 dX2_in_10 ?_
  refine g_goto (pc := 11) (tgt := 15) rfl dX2_in_11 ?_
  exact g_zreturn (pc := 15) rfl dX2_in_15
/-! FlareSlopesModel.may(ZZZ)Z -/
noncomputable def sX2_may (G : GG) (N : Nat) (a0 : Option Nat) (a1 : Int32) (a2 : Int32) (a3 : Int32) (h : Hp) : Out (Int32) :=
  gJ (fun (x1 : Int32) (h2 : Hp) =>
  gP G h2 a0 18 0 (.int x1) fun h4 =>
  gFi h4 a0 18 0 fun v5 =>
  if v5 = 0 then (gRtZ (1 : Int32) h4)
  else gRtZ (0 : Int32) h4) fun j3 =>
  if a1 = 0 then (j3 (1 : Int32) h)
  else if a2 = 0 then (j3 (2 : Int32) h)
  else if a3 = 0 then (j3 (3 : Int32) h)
  else j3 (0 : Int32) h
abbrev mX2_may : MI := (RX2, cX2_may, 4, (some .boolean), [], 0, 0, "may")
theorem tX2_may {G : GG} {l : Launch} (hs : l.stackTraces = false) {N : Nat} {a0 : Option Nat} {a1 : Int32} {a2 : Int32} {a3 : Int32} {h : Hp} {r : Int32 ⊕ Nat} {hf : Hp} (ho : sX2_may G N a0 a1 a2 a3 h = some (r, hf)) : gMet G l yX2_may (ws_ yX2_may cX2_may 4 (some .boolean)) 0 0 [gr a0, gi a1, gi a2, gi a3] h cvI r hf := by
  refine gMet.of ho hs (plainFor_of_name pn_X2) rfl rfl (gbl rfl) fun X => ?_
  show gT G l X mX2_may cvI r hf 0 [(0, gr a0), (1, gi a1), (2, gi a2), (3, gi a3)] [] h (sX2_may G N a0 a1 a2 a3 h)
  delta sX2_may
  refine g_aload_n (pc := 0) (x := a0) 0 rfl rfl dX2_may_0 ?_
  refine g_iload_n (pc := 1) (x := a1) 1 rfl rfl dX2_may_1 ?_
  refine g_join 26 (fun (x1 : Int32) => [(0, gr a0)]) (fun (x1 : Int32) => [gi x1, gr a0]) (fun x1 h2 => ?_) (fun j3 Hj3 => ?_)
  · refine g_put (pc := 26) k_18 (gblt rfl) lk_X2_44_18 rfl rfl (gNi _) dX2_may_26 fun h4 => ?_
    refine g_aload_n (pc := 29) (x := a0) 0 rfl rfl dX2_may_29 ?_
    refine g_getfi (pc := 30) k_18 (gblt rfl) lk_X2_44_18 dX2_may_30 fun v5 => ?_
    refine g_if_ne (pc := 33) (tgt := 40) rfl dX2_may_33 ?_ ?_
    rotate_left
    · refine g_iconst (pc := 40) (v := (0 : Int32)) ic_0 dX2_may_40 ?_
      exact g_zreturn (pc := 41) rfl dX2_may_41
    refine g_iconst (pc := 36) (v := (1 : Int32)) ic_1 dX2_may_36 ?_
    refine g_goto (pc := 37) (tgt := 41) rfl dX2_may_37 ?_
    exact g_zreturn (pc := 41) rfl dX2_may_41
  refine g_if_ne (pc := 2) (tgt := 9) rfl dX2_may_2 ?_ ?_
  · refine g_iconst (pc := 5) (v := (1 : Int32)) ic_1 dX2_may_5 ?_
    refine g_goto (pc := 6) (tgt := 26) rfl dX2_may_6 ?_
    exact g_sub [0] rfl (Hj3 (1 : Int32) h)
  refine g_iload_n (pc := 9) (x := a2) 2 rfl rfl dX2_may_9 ?_
  refine g_if_ne (pc := 10) (tgt := 17) rfl dX2_may_10 ?_ ?_
  · refine g_iconst (pc := 13) (v := (2 : Int32)) ic_2 dX2_may_13 ?_
    refine g_goto (pc := 14) (tgt := 26) rfl dX2_may_14 ?_
    exact g_sub [0] rfl (Hj3 (2 : Int32) h)
  refine g_iload_n (pc := 17) (x := a3) 3 rfl rfl dX2_may_17 ?_
  refine g_if_eq (pc := 18) (tgt := 25) rfl dX2_may_18 ?_ ?_
  · refine g_iconst (pc := 25) (v := (3 : Int32)) ic_3 dX2_may_25 ?_
    exact g_sub [0] rfl (Hj3 (3 : Int32) h)
  refine g_iconst (pc := 21) (v := (0 : Int32)) ic_0 dX2_may_21 ?_
  refine g_goto (pc := 22) (tgt := 26) rfl dX2_may_22 ?_
  exact g_sub [0] rfl (Hj3 (0 : Int32) h)
/-! FlareSlopesModel.copies([II[II)V -/
noncomputable def bX2_copies_3 (G : GG) (N : Nat) (a0 : Option Nat) (a1 : Int32) (a2 : Option Nat) (a3 : Int32) (w3 : (Int32) → Hp → Out (Unit)) (x1 : Int32) (h2 : Hp) : Out (Unit) :=
  if (1058 : Int32) ≤ x1 then (some (.inl (), h2))
  else gAi h2 a0 0 (a1 + x1) fun v4 =>
  gSi G h2 a2 0 (a3 + x1) v4 fun h5 =>
  w3 (x1 + (1 : Int32)) h5
noncomputable def sX2_copies (G : GG) (N : Nat) (a0 : Option Nat) (a1 : Int32) (a2 : Option Nat) (a3 : Int32) (h : Hp) : Out (Unit) :=
  gLp (bX2_copies_3 G N a0 a1 a2 a3) N (0 : Int32) h
abbrev mX2_copies : MI := (RX2, cX2_copies, 5, none, [], 0, 0, "copies")
theorem tX2_copies {G : GG} {l : Launch} (hs : l.stackTraces = false) {N : Nat} {a0 : Option Nat} {a1 : Int32} {a2 : Option Nat} {a3 : Int32} {h : Hp} {r : Unit ⊕ Nat} {hf : Hp} (ho : sX2_copies G N a0 a1 a2 a3 h = some (r, hf)) : gMet G l yX2_copies (ws_ yX2_copies cX2_copies 5 none) 0 0 [gr a0, gi a1, gr a2, gi a3] h cvU r hf := by
  refine gMet.of ho hs (plainFor_of_name pn_X2) rfl rfl (gbl rfl) fun X => ?_
  show gT G l X mX2_copies cvU r hf 0 [(0, gr a0), (1, gi a1), (2, gr a2), (3, gi a3)] [] h (sX2_copies G N a0 a1 a2 a3 h)
  delta sX2_copies
  refine g_iconst (pc := 0) (v := (0 : Int32)) ic_0 dX2_copies_0 ?_
  refine g_istore (pc := 1) (lv' := [(4, gi (0 : Int32)), (0, gr a0), (1, gi a1), (2, gr a2), (3, gi a3)]) [0, 1, 2, 3, 4] rfl (gblt rfl) dX2_copies_1 ?_
  refine g_sub (lv' := [(0, gr a0), (1, gi a1), (2, gr a2), (3, gi a3), (4, gi (0 : Int32))]) [1, 2, 3, 4, 0] rfl ?_
  refine g_loop (pc := 3) (fun (x1 : Int32) => [(0, gr a0), (1, gi a1), (2, gr a2), (3, gi a3), (4, gi x1)]) (fun (_ : Int32) => []) (fun w3 Hw3 x1 h2 => ?_) N (0 : Int32) h
  delta bX2_copies_3
  refine g_iload (pc := 3) (x := x1) 4 rfl dX2_copies_3 ?_
  refine g_sipush (pc := 5) (v := (1058 : Int32)) sc_1058 dX2_copies_5 ?_
  refine g_icmp_ge (pc := 8) (tgt := 29) rfl dX2_copies_8 ?_ ?_
  · exact g_return (pc := 29) rfl dX2_copies_29
  refine g_aload_n (pc := 11) (x := a2) 2 rfl rfl dX2_copies_11 ?_
  refine g_iload_n (pc := 12) (x := a3) 3 rfl rfl dX2_copies_12 ?_
  refine g_iload (pc := 13) (x := x1) 4 rfl dX2_copies_13 ?_
  refine g_iadd (pc := 15) dX2_copies_15 ?_
  refine g_aload_n (pc := 16) (x := a0) 0 rfl rfl dX2_copies_16 ?_
  refine g_iload_n (pc := 17) (x := a1) 1 rfl rfl dX2_copies_17 ?_
  refine g_iload (pc := 18) (x := x1) 4 rfl dX2_copies_18 ?_
  refine g_iadd (pc := 20) dX2_copies_20 ?_
  refine g_iaload (pc := 21) rfl dX2_copies_21 fun v4 => ?_
  refine g_iastore (pc := 22) rfl dX2_copies_22 fun h5 => ?_
  refine g_iinc (pc := 23) (v := x1 + (1 : Int32)) 4 rfl (ii_1 _) (lv' := [(4, gi (x1 + (1 : Int32))), (0, gr a0), (1, gi a1), (2, gr a2), (3, gi a3)]) [0, 1, 2, 3, 4] rfl (gblt rfl) dX2_copies_23 ?_
  refine g_goto (pc := 26) (tgt := 3) rfl dX2_copies_26 ?_
  exact g_sub [1, 2, 3, 4, 0] rfl (Hw3 (x1 + (1 : Int32)) h5)
/-! FlareSlopesModel.isLetter(I)Z -/
noncomputable def sX2_isLetter (G : GG) (N : Nat) (a0 : Option Nat) (a1 : Int32) (h : Hp) : Out (Int32) :=
  gFi h a0 18 14 fun v1 =>
  gJ (fun (x2 : Unit) (h3 : Hp) =>
  gRtZ (0 : Int32) h3) fun j4 =>
  if v1 ≤ a1 then (j4 () h)
  else gFr h a0 18 10 fun v5 =>
  gAi h v5 1 a1 fun v6 =>
  bnd (sX2_in G N v6 (97 : Int32) (122 : Int32) h) fun v7 h8 =>
  if v7 = 0 then (j4 () h8)
  else gRtZ (1 : Int32) h8
abbrev mX2_isLetter : MI := (RX2, cX2_isLetter, 2, (some .boolean), [], 1, 22, "isLetter")
theorem tX2_isLetter {G : GG} {l : Launch} (hs : l.stackTraces = false) {N : Nat} {a0 : Option Nat} {a1 : Int32} {h : Hp} {r : Int32 ⊕ Nat} {hf : Hp} (ho : sX2_isLetter G N a0 a1 h = some (r, hf)) : gMet G l yX2_isLetter (ws_ yX2_isLetter cX2_isLetter 2 (some .boolean)) 1 22 [gr a0, gi a1] h cvI r hf := by
  refine gMet.of ho hs (plainFor_of_name pn_X2) rfl rfl (gbl rfl) fun X => ?_
  show gT G l X mX2_isLetter cvI r hf 0 [(0, gr a0), (1, gi a1)] [] h (sX2_isLetter G N a0 a1 h)
  delta sX2_isLetter
  refine g_iload_n (pc := 0) (x := a1) 1 rfl rfl dX2_isLetter_0 ?_
  refine g_aload_n (pc := 1) (x := a0) 0 rfl rfl dX2_isLetter_1 ?_
  refine g_getfi (pc := 2) k_18 (gblt rfl) lk_X2_61_18 dX2_isLetter_2 fun v1 => ?_
  refine g_join 28 (fun (x2 : Unit) => []) (fun (x2 : Unit) => []) (fun x2 h3 => ?_) (fun j4 Hj4 => ?_)
  · refine g_iconst (pc := 28) (v := (0 : Int32)) ic_0 dX2_isLetter_28 ?_
    exact g_zreturn (pc := 29) rfl dX2_isLetter_29
  refine g_icmp_ge (pc := 5) (tgt := 28) rfl dX2_isLetter_5 ?_ ?_
  · exact g_sub [] rfl (Hj4 () h)
  refine g_aload_n (pc := 8) (x := a0) 0 rfl rfl dX2_isLetter_8 ?_
  refine g_getfr (pc := 9) k_18 (gblt rfl) lk_X2_33_18 dX2_isLetter_9 fun v5 => ?_
  refine g_iload_n (pc := 12) (x := a1) 1 rfl rfl dX2_isLetter_12 ?_
  refine g_baload (pc := 13) rfl dX2_isLetter_13 fun v6 => ?_
  refine g_bipush (pc := 14) (v := (97 : Int32)) bc_97 dX2_isLetter_14 ?_
  refine g_bipush (pc := 16) (v := (122 : Int32)) bc_122 dX2_isLetter_16 ?_
  refine g_bi (pc := 18) (y := yX2_in) (ws := ws_ yX2_in cX2_in 3 (some .boolean)) (fr := 0) (lo := 0) (as := [gi v6, gi (97 : Int32), gi (122 : Int32)]) (st := []) (g_no) rfl (fun _ _ e => tX2_in hs e) (fun K _ _ hM R e1 e2 => g_runS (M := mX2_isLetter) (pc := 18) (y := yX2_in) (bytes := cX2_in) (maxL := 3) (ret := (some .boolean)) (fr := 0) (lo := 0) (as := [gi v6, gi (97 : Int32), gi (122 : Int32)]) (st := []) gy_X2_in (gbl rfl) (gbl rfl) (gbl rfl) q4037 q4038 dX2_isLetter_18 K hM R e1 e2) fun v7 h8 => ?_
  refine g_if_eq (pc := 21) (tgt := 28) rfl dX2_isLetter_21 ?_ ?_
  · exact g_sub [] rfl (Hj4 () h8)
  refine g_iconst (pc := 24) (v := (1 : Int32)) ic_1 dX2_isLetter_24 ?_
  refine g_goto (pc := 25) (tgt := 29) rfl dX2_isLetter_25 ?_
  exact g_zreturn (pc := 29) rfl dX2_isLetter_29
/-! FlareSlopesModel.wordOf(II)J -/
noncomputable def bX2_wordOf_5 (G : GG) (N : Nat) (a0 : Option Nat) (a2 : Int32) (w3 : (Int64 × Int32) → Hp → Out (Int64)) (x1 : Int64 × Int32) (h2 : Hp) : Out (Int64) :=
  if a2 ≤ x1.2 then (some (.inl x1.1, h2))
  else gFr h2 a0 18 10 fun v4 =>
  gAi h2 v4 1 x1.2 fun v5 =>
  gLet (((((27 : Int64) * x1.1) + (v5.toInt64)) - (97 : Int64)) + (1 : Int64)) fun v6 =>
  w3 (v6, x1.2 + (1 : Int32)) h2
noncomputable def sX2_wordOf (G : GG) (N : Nat) (a0 : Option Nat) (a1 : Int32) (a2 : Int32) (h : Hp) : Out (Int64) :=
  gLp (bX2_wordOf_5 G N a0 a2) N ((0 : Int64), a1) h
abbrev mX2_wordOf : MI := (RX2, cX2_wordOf, 6, (some .long), [], 0, 0, "wordOf")
theorem tX2_wordOf {G : GG} {l : Launch} (hs : l.stackTraces = false) {N : Nat} {a0 : Option Nat} {a1 : Int32} {a2 : Int32} {h : Hp} {r : Int64 ⊕ Nat} {hf : Hp} (ho : sX2_wordOf G N a0 a1 a2 h = some (r, hf)) : gMet G l yX2_wordOf (ws_ yX2_wordOf cX2_wordOf 6 (some .long)) 0 0 [gr a0, gi a1, gi a2] h cvL r hf := by
  refine gMet.of ho hs (plainFor_of_name pn_X2) rfl rfl (gbl rfl) fun X => ?_
  show gT G l X mX2_wordOf cvL r hf 0 [(0, gr a0), (1, gi a1), (2, gi a2)] [] h (sX2_wordOf G N a0 a1 a2 h)
  delta sX2_wordOf
  refine g_lconst (pc := 0) (v := (0 : Int64)) rfl dX2_wordOf_0 ?_
  refine g_lstore_n (pc := 1) (lv' := [(3, gl (0 : Int64)), (0, gr a0), (1, gi a1), (2, gi a2)]) [0, 1, 2, 3] rfl rfl (gblt rfl) dX2_wordOf_1 ?_
  refine g_iload_n (pc := 2) (x := a1) 2 rfl rfl dX2_wordOf_2 ?_
  refine g_istore (pc := 3) (lv' := [(5, gi a1), (3, gl (0 : Int64)), (0, gr a0), (2, gi a2)]) [0, 1, 2, 4] rfl (gblt rfl) dX2_wordOf_3 ?_
  refine g_sub (lv' := [(0, gr a0), (2, gi a2), (3, gl (0 : Int64)), (5, gi a1)]) [2, 3, 1, 0] rfl ?_
  refine g_loop (pc := 5) (fun (x1 : Int64 × Int32) => [(0, gr a0), (2, gi a2), (3, gl x1.1), (5, gi x1.2)]) (fun (_ : Int64 × Int32) => []) (fun w3 Hw3 x1 h2 => ?_) N ((0 : Int64), a1) h
  delta bX2_wordOf_5
  refine g_iload (pc := 5) (x := x1.2) 3 rfl dX2_wordOf_5 ?_
  refine g_iload_n (pc := 7) (x := a2) 1 rfl rfl dX2_wordOf_7 ?_
  refine g_icmp_ge (pc := 8) (tgt := 38) rfl dX2_wordOf_8 ?_ ?_
  · refine g_lload_n (pc := 38) (x := x1.1) 2 rfl rfl dX2_wordOf_38 ?_
    exact g_lreturn (pc := 39) rfl dX2_wordOf_39
  refine g_ldc2 (pc := 11) q4063 dX2_wordOf_11 ?_
  refine g_lload_n (pc := 14) (x := x1.1) 2 rfl rfl dX2_wordOf_14 ?_
  refine g_lmul (pc := 15) dX2_wordOf_15 ?_
  refine g_aload_n (pc := 16) (x := a0) 0 rfl rfl dX2_wordOf_16 ?_
  refine g_getfr (pc := 17) k_18 (gblt rfl) lk_X2_33_18 dX2_wordOf_17 fun v4 => ?_
  refine g_iload (pc := 20) (x := x1.2) 3 rfl dX2_wordOf_20 ?_
  refine g_baload (pc := 22) rfl dX2_wordOf_22 fun v5 => ?_
  refine g_i2l (pc := 23) dX2_wordOf_23 ?_
  refine g_ladd (pc := 24) dX2_wordOf_24 ?_
  refine g_ldc2 (pc := 25) q4064 dX2_wordOf_25 ?_
  refine g_lsub (pc := 28) dX2_wordOf_28 ?_
  refine g_lconst (pc := 29) (v := (1 : Int64)) rfl dX2_wordOf_29 ?_
  refine g_ladd (pc := 30) dX2_wordOf_30 ?_
  refine g_letl fun v6 => ?_
  refine g_lstore_n (pc := 31) (lv' := [(3, gl v6), (0, gr a0), (2, gi a2), (5, gi x1.2)]) [0, 1, 2, 3] rfl rfl (gblt rfl) dX2_wordOf_31 ?_
  refine g_iinc (pc := 32) (v := x1.2 + (1 : Int32)) 3 rfl (ii_1 _) (lv' := [(5, gi (x1.2 + (1 : Int32))), (3, gl v6), (0, gr a0), (2, gi a2)]) [0, 1, 2, 3] rfl (gblt rfl) dX2_wordOf_32 ?_
  refine g_goto (pc := 35) (tgt := 5) rfl dX2_wordOf_35 ?_
  exact g_sub [2, 3, 1, 0] rfl (Hw3 (v6, x1.2 + (1 : Int32)) h2)
/-! FlareSlopesModel.isDigit(I)Z -/
noncomputable def sX2_isDigit (G : GG) (N : Nat) (a0 : Option Nat) (a1 : Int32) (h : Hp) : Out (Int32) :=
  gFi h a0 18 14 fun v1 =>
  gJ (fun (x2 : Unit) (h3 : Hp) =>
  gRtZ (0 : Int32) h3) fun j4 =>
  if v1 ≤ a1 then (j4 () h)
  else gFr h a0 18 10 fun v5 =>
  gAi h v5 1 a1 fun v6 =>
  bnd (sX2_in G N v6 (48 : Int32) (57 : Int32) h) fun v7 h8 =>
  if v7 = 0 then (j4 () h8)
  else gRtZ (1 : Int32) h8
abbrev mX2_isDigit : MI := (RX2, cX2_isDigit, 2, (some .boolean), [], 1, 22, "isDigit")
theorem tX2_isDigit {G : GG} {l : Launch} (hs : l.stackTraces = false) {N : Nat} {a0 : Option Nat} {a1 : Int32} {h : Hp} {r : Int32 ⊕ Nat} {hf : Hp} (ho : sX2_isDigit G N a0 a1 h = some (r, hf)) : gMet G l yX2_isDigit (ws_ yX2_isDigit cX2_isDigit 2 (some .boolean)) 1 22 [gr a0, gi a1] h cvI r hf := by
  refine gMet.of ho hs (plainFor_of_name pn_X2) rfl rfl (gbl rfl) fun X => ?_
  show gT G l X mX2_isDigit cvI r hf 0 [(0, gr a0), (1, gi a1)] [] h (sX2_isDigit G N a0 a1 h)
  delta sX2_isDigit
  refine g_iload_n (pc := 0) (x := a1) 1 rfl rfl dX2_isDigit_0 ?_
  refine g_aload_n (pc := 1) (x := a0) 0 rfl rfl dX2_isDigit_1 ?_
  refine g_getfi (pc := 2) k_18 (gblt rfl) lk_X2_61_18 dX2_isDigit_2 fun v1 => ?_
  refine g_join 28 (fun (x2 : Unit) => []) (fun (x2 : Unit) => []) (fun x2 h3 => ?_) (fun j4 Hj4 => ?_)
  · refine g_iconst (pc := 28) (v := (0 : Int32)) ic_0 dX2_isDigit_28 ?_
    exact g_zreturn (pc := 29) rfl dX2_isDigit_29
  refine g_icmp_ge (pc := 5) (tgt := 28) rfl dX2_isDigit_5 ?_ ?_
  · exact g_sub [] rfl (Hj4 () h)
  refine g_aload_n (pc := 8) (x := a0) 0 rfl rfl dX2_isDigit_8 ?_
  refine g_getfr (pc := 9) k_18 (gblt rfl) lk_X2_33_18 dX2_isDigit_9 fun v5 => ?_
  refine g_iload_n (pc := 12) (x := a1) 1 rfl rfl dX2_isDigit_12 ?_
  refine g_baload (pc := 13) rfl dX2_isDigit_13 fun v6 => ?_
  refine g_bipush (pc := 14) (v := (48 : Int32)) bc_48 dX2_isDigit_14 ?_
  refine g_bipush (pc := 16) (v := (57 : Int32)) bc_57 dX2_isDigit_16 ?_
  refine g_bi (pc := 18) (y := yX2_in) (ws := ws_ yX2_in cX2_in 3 (some .boolean)) (fr := 0) (lo := 0) (as := [gi v6, gi (48 : Int32), gi (57 : Int32)]) (st := []) (g_no) rfl (fun _ _ e => tX2_in hs e) (fun K _ _ hM R e1 e2 => g_runS (M := mX2_isDigit) (pc := 18) (y := yX2_in) (bytes := cX2_in) (maxL := 3) (ret := (some .boolean)) (fr := 0) (lo := 0) (as := [gi v6, gi (48 : Int32), gi (57 : Int32)]) (st := []) gy_X2_in (gbl rfl) (gbl rfl) (gbl rfl) q4037 q4038 dX2_isDigit_18 K hM R e1 e2) fun v7 h8 => ?_
  refine g_if_eq (pc := 21) (tgt := 28) rfl dX2_isDigit_21 ?_ ?_
  · exact g_sub [] rfl (Hj4 () h8)
  refine g_iconst (pc := 24) (v := (1 : Int32)) ic_1 dX2_isDigit_24 ?_
  refine g_goto (pc := 25) (tgt := 29) rfl dX2_isDigit_25 ?_
  exact g_zreturn (pc := 29) rfl dX2_isDigit_29
/-! FlareSlopesModel.next()V -/
noncomputable def bX2_next_170 (G : GG) (N : Nat) (a0 : Option Nat) (j32 : (Unit) → Hp → Out (Unit)) (w41 : (Unit) → Hp → Out (Unit)) (x39 : Unit) (h40 : Hp) : Out (Unit) :=
  gFi h40 a0 18 15 fun v42 =>
  bV h40 a0 18 (fun q57 => sX2_isDigit G N (some q57) v42 h40) fun v43 h44 =>
  if v43 = 0 then (j32 () h44)
  else gFi h44 a0 18 15 fun v45 =>
  gFi h44 a0 18 16 fun v46 =>
  gJ (fun (x47 : Unit) (h48 : Hp) =>
  gFi h48 a0 18 15 fun v50 =>
  gP G h48 a0 18 15 (.int (v50 + (1 : Int32))) fun h51 =>
  w41 () h51) fun j49 =>
  if (4 : Int32) ≤ (v45 - v46) then (j49 () h44)
  else gFi h44 a0 18 18 fun v52 =>
  gFr h44 a0 18 10 fun v53 =>
  gFi h44 a0 18 15 fun v54 =>
  gAi h44 v53 1 v54 fun v55 =>
  gP G h44 a0 18 18 (.int ((((10 : Int32) * v52) + v55) - (48 : Int32))) fun h56 =>
  j49 () h56
noncomputable def bX2_next_94 (G : GG) (N : Nat) (a0 : Option Nat) (j61 : (Unit) → Hp → Out (Unit)) (w73 : (Unit) → Hp → Out (Unit)) (x71 : Unit) (h72 : Hp) : Out (Unit) :=
  gFi h72 a0 18 15 fun v74 =>
  bV h72 a0 18 (fun q79 => sX2_isLetter G N (some q79) v74 h72) fun v75 h76 =>
  if v75 = 0 then (j61 () h76)
  else gFi h76 a0 18 15 fun v77 =>
  gP G h76 a0 18 15 (.int (v77 + (1 : Int32))) fun h78 =>
  w73 () h78
noncomputable def bX2_next_8 (G : GG) (N : Nat) (a0 : Option Nat) (j4 : (Unit) → Hp → Out (Unit)) (w83 : (Unit) → Hp → Out (Unit)) (x81 : Unit) (h82 : Hp) : Out (Unit) :=
  gFi h82 a0 18 15 fun v84 =>
  gFi h82 a0 18 14 fun v85 =>
  if v85 ≤ v84 then (j4 () h82)
  else gFr h82 a0 18 10 fun v86 =>
  gFi h82 a0 18 15 fun v87 =>
  gAi h82 v86 1 v87 fun v88 =>
  if v88 = (32 : Int32) then (gFi h82 a0 18 15 fun v89 =>
  gP G h82 a0 18 15 (.int (v89 + (1 : Int32))) fun h90 =>
  w83 () h90)
  else j4 () h82
noncomputable def sX2_next (G : GG) (N : Nat) (a0 : Option Nat) (h : Hp) : Out (Unit) :=
  gFi h a0 18 12 fun v1 =>
  if v1 ≤ 0 then (gJ (fun (x2 : Unit) (h3 : Hp) =>
  gFi h3 a0 18 15 fun v5 =>
  gP G h3 a0 18 16 (.int v5) fun h6 =>
  gFi h6 a0 18 15 fun v7 =>
  gFi h6 a0 18 14 fun v8 =>
  gJ (fun (x9 : Int32) (h10 : Hp) =>
  gP G h10 a0 18 17 (.int x9) fun h12 =>
  gFi h12 a0 18 17 fun v13 =>
  if v13 = (1 : Int32) then (some (.inl (), h12))
  else gFi h12 a0 18 15 fun v14 =>
  bV h12 a0 18 (fun q80 => sX2_isLetter G N (some q80) v14 h12) fun v15 h16 =>
  if v15 = 0 then (gFi h16 a0 18 15 fun v17 =>
  bV h16 a0 18 (fun q58 => sX2_isDigit G N (some q58) v17 h16) fun v18 h19 =>
  if v18 = 0 then (gFr h19 a0 18 10 fun v20 =>
  gFi h19 a0 18 15 fun v21 =>
  gAi h19 v20 1 v21 fun v22 =>
  gJ (fun (x23 : Unit) (h24 : Hp) =>
  gFi h24 a0 18 15 fun v26 =>
  gP G h24 a0 18 15 (.int (v26 + (1 : Int32))) fun h27 =>
  some (.inl (), h27)) fun j25 =>
  if v22 = (59 : Int32) then (gP G h19 a0 18 17 (.int (4 : Int32)) fun h28 =>
  j25 () h28)
  else j25 () h19)
  else gP G h19 a0 18 18 (.int (0 : Int32)) fun h29 =>
  gJ (fun (x30 : Unit) (h31 : Hp) =>
  gFi h31 a0 18 15 fun v33 =>
  gFi h31 a0 18 16 fun v34 =>
  gJ (fun (x35 : Int32) (h36 : Hp) =>
  gP G h36 a0 18 17 (.int x35) fun h38 =>
  some (.inl (), h38)) fun j37 =>
  if (4 : Int32) < (v33 - v34) then (j37 (0 : Int32) h31)
  else j37 (3 : Int32) h31) fun j32 =>
  gLp (bX2_next_170 G N a0 j32) N () h29)
  else gJ (fun (x59 : Unit) (h60 : Hp) =>
  gFi h60 a0 18 15 fun v62 =>
  gFi h60 a0 18 16 fun v63 =>
  if (6 : Int32) < (v62 - v63) then (some (.inl (), h60))
  else gP G h60 a0 18 17 (.int (2 : Int32)) fun h64 =>
  gFi h64 a0 18 16 fun v65 =>
  gFi h64 a0 18 15 fun v66 =>
  bV h64 a0 18 (fun q70 => sX2_wordOf G N (some q70) v65 v66 h64) fun v67 h68 =>
  gP G h68 a0 18 19 (.long v67) fun h69 =>
  some (.inl (), h69)) fun j61 =>
  gLp (bX2_next_94 G N a0 j61) N () h16) fun j11 =>
  if v7 = v8 then (j11 (1 : Int32) h6)
  else j11 (0 : Int32) h6) fun j4 =>
  gLp (bX2_next_8 G N a0 j4) N () h)
  else some (.inl (), h)
abbrev mX2_next : MI := (RX2, cX2_next, 1, none, [], 2, 43, "next")
theorem tX2_next {G : GG} {l : Launch} (hs : l.stackTraces = false) {N : Nat} {a0 : Option Nat} {h : Hp} {r : Unit ⊕ Nat} {hf : Hp} (ho : sX2_next G N a0 h = some (r, hf)) : gMet G l yX2_next (ws_ yX2_next cX2_next 1 none) 2 43 [gr a0] h cvU r hf := by
  refine gMet.of ho hs (plainFor_of_name pn_X2) rfl rfl (gbl rfl) fun X => ?_
  show gT G l X mX2_next cvU r hf 0 [(0, gr a0)] [] h (sX2_next G N a0 h)
  delta sX2_next
  refine g_aload_n (pc := 0) (x := a0) 0 rfl rfl dX2_next_0 ?_
  refine g_getfi (pc := 1) k_18 (gblt rfl) lk_X2_58_18 dX2_next_1 fun v1 => ?_
  refine g_if_le (pc := 4) (tgt := 8) rfl dX2_next_4 ?_ ?_
  rotate_left
  · exact g_return (pc := 7) rfl dX2_next_7
  refine g_join 46 (fun (x2 : Unit) => [(0, gr a0)]) (fun (x2 : Unit) => []) (fun x2 h3 => ?_) (fun j4 Hj4 => ?_)
  · refine g_aload_n (pc := 46) (x := a0) 0 rfl rfl dX2_next_46 ?_
    refine g_aload_n (pc := 47) (x := a0) 0 rfl rfl dX2_next_47 ?_
    refine g_getfi (pc := 48) k_18 (gblt rfl) lk_X2_72_18 dX2_next_48 fun v5 => ?_
    refine g_put (pc := 51) k_18 (gblt rfl) lk_X2_75_18 rfl rfl (gNi _) dX2_next_51 fun h6 => ?_
    refine g_aload_n (pc := 54) (x := a0) 0 rfl rfl dX2_next_54 ?_
    refine g_aload_n (pc := 55) (x := a0) 0 rfl rfl dX2_next_55 ?_
    refine g_getfi (pc := 56) k_18 (gblt rfl) lk_X2_72_18 dX2_next_56 fun v7 => ?_
    refine g_aload_n (pc := 59) (x := a0) 0 rfl rfl dX2_next_59 ?_
    refine g_getfi (pc := 60) k_18 (gblt rfl) lk_X2_61_18 dX2_next_60 fun v8 => ?_
    refine g_join 71 (fun (x9 : Int32) => [(0, gr a0)]) (fun (x9 : Int32) => [gi x9, gr a0]) (fun x9 h10 => ?_) (fun j11 Hj11 => ?_)
    · refine g_put (pc := 71) k_18 (gblt rfl) lk_X2_78_18 rfl rfl (gNi _) dX2_next_71 fun h12 => ?_
      refine g_aload_n (pc := 74) (x := a0) 0 rfl rfl dX2_next_74 ?_
      refine g_getfi (pc := 75) k_18 (gblt rfl) lk_X2_78_18 dX2_next_75 fun v13 => ?_
      refine g_iconst (pc := 78) (v := (1 : Int32)) ic_1 dX2_next_78 ?_
      refine g_icmp_ne (pc := 79) (tgt := 83) rfl dX2_next_79 ?_ ?_
      · exact g_return (pc := 82) rfl dX2_next_82
      refine g_aload_n (pc := 83) (x := a0) 0 rfl rfl dX2_next_83 ?_
      refine g_aload_n (pc := 84) (x := a0) 0 rfl rfl dX2_next_84 ?_
      refine g_getfi (pc := 85) k_18 (gblt rfl) lk_X2_72_18 dX2_next_85 fun v14 => ?_
      refine g_bVi (pc := 88) (y := yX2_isLetter) (ws := ws_ yX2_isLetter cX2_isLetter 2 (some .boolean)) (fr := 1) (lo := 22) (as := [gi v14]) (st := []) (g_no) rfl (fun _ _ _ e => tX2_isLetter hs e) (fun K _ _ _ hq hM R e1 e2 => g_runV (M := mX2_next) (pc := 88) (y := yX2_isLetter) (bytes := cX2_isLetter) (maxL := 2) (ret := (some .boolean)) (fr := 1) (lo := 22) (as := [gi v14]) (st := []) hq (C := "FlareSlopesModel") rfl gy_X2_isLetter (gbl rfl) (gbl rfl) (gbl rfl) q4055 q4057 qs57 dX2_next_88 K hM R e1 e2) fun v15 h16 => ?_
      refine g_if_eq (pc := 91) (tgt := 154) rfl dX2_next_91 ?_ ?_
      rotate_left
      · refine g_join 118 (fun (x59 : Unit) => [(0, gr a0)]) (fun (x59 : Unit) => []) (fun x59 h60 => ?_) (fun j61 Hj61 => ?_)
        · refine g_aload_n (pc := 118) (x := a0) 0 rfl rfl dX2_next_118 ?_
          refine g_getfi (pc := 119) k_18 (gblt rfl) lk_X2_72_18 dX2_next_119 fun v62 => ?_
          refine g_aload_n (pc := 122) (x := a0) 0 rfl rfl dX2_next_122 ?_
          refine g_getfi (pc := 123) k_18 (gblt rfl) lk_X2_75_18 dX2_next_123 fun v63 => ?_
          refine g_isub (pc := 126) dX2_next_126 ?_
          refine g_bipush (pc := 127) (v := (6 : Int32)) bc_6 dX2_next_127 ?_
          refine g_icmp_gt (pc := 129) (tgt := 153) rfl dX2_next_129 ?_ ?_
          · exact g_return (pc := 153) rfl dX2_next_153
          refine g_aload_n (pc := 132) (x := a0) 0 rfl rfl dX2_next_132 ?_
          refine g_iconst (pc := 133) (v := (2 : Int32)) ic_2 dX2_next_133 ?_
          refine g_put (pc := 134) k_18 (gblt rfl) lk_X2_78_18 rfl rfl (gNi _) dX2_next_134 fun h64 => ?_
          refine g_aload_n (pc := 137) (x := a0) 0 rfl rfl dX2_next_137 ?_
          refine g_aload_n (pc := 138) (x := a0) 0 rfl rfl dX2_next_138 ?_
          refine g_aload_n (pc := 139) (x := a0) 0 rfl rfl dX2_next_139 ?_
          refine g_getfi (pc := 140) k_18 (gblt rfl) lk_X2_75_18 dX2_next_140 fun v65 => ?_
          refine g_aload_n (pc := 143) (x := a0) 0 rfl rfl dX2_next_143 ?_
          refine g_getfi (pc := 144) k_18 (gblt rfl) lk_X2_72_18 dX2_next_144 fun v66 => ?_
          refine g_bVl (pc := 147) (y := yX2_wordOf) (ws := ws_ yX2_wordOf cX2_wordOf 6 (some .long)) (fr := 0) (lo := 0) (as := [gi v65, gi v66]) (st := [gr a0]) (g_no) rfl (fun _ _ _ e => tX2_wordOf hs e) (fun K _ _ _ hq hM R e1 e2 => g_runV (M := mX2_next) (pc := 147) (y := yX2_wordOf) (bytes := cX2_wordOf) (maxL := 6) (ret := (some .long)) (fr := 0) (lo := 0) (as := [gi v65, gi v66]) (st := [gr a0]) hq (C := "FlareSlopesModel") rfl gy_X2_wordOf (gbl rfl) (gbl rfl) (gbl rfl) q4059 q4061 qs58 dX2_next_147 K hM R e1 e2) fun v67 h68 => ?_
          refine g_put (pc := 150) k_18 (gblt rfl) lk_X2_89_18 rfl rfl (gNl _) dX2_next_150 fun h69 => ?_
          exact g_return (pc := 153) rfl dX2_next_153
        refine g_loop (pc := 94) (fun (x71 : Unit) => [(0, gr a0)]) (fun (_ : Unit) => []) (fun w73 Hw73 x71 h72 => ?_) N () h16
        delta bX2_next_94
        refine g_aload_n (pc := 94) (x := a0) 0 rfl rfl dX2_next_94 ?_
        refine g_aload_n (pc := 95) (x := a0) 0 rfl rfl dX2_next_95 ?_
        refine g_getfi (pc := 96) k_18 (gblt rfl) lk_X2_72_18 dX2_next_96 fun v74 => ?_
        refine g_bVi (pc := 99) (y := yX2_isLetter) (ws := ws_ yX2_isLetter cX2_isLetter 2 (some .boolean)) (fr := 1) (lo := 22) (as := [gi v74]) (st := []) (g_no) rfl (fun _ _ _ e => tX2_isLetter hs e) (fun K _ _ _ hq hM R e1 e2 => g_runV (M := mX2_next) (pc := 99) (y := yX2_isLetter) (bytes := cX2_isLetter) (maxL := 2) (ret := (some .boolean)) (fr := 1) (lo := 22) (as := [gi v74]) (st := []) hq (C := "FlareSlopesModel") rfl gy_X2_isLetter (gbl rfl) (gbl rfl) (gbl rfl) q4055 q4057 qs57 dX2_next_99 K hM R e1 e2) fun v75 h76 => ?_
        refine g_if_eq (pc := 102) (tgt := 118) rfl dX2_next_102 ?_ ?_
        · exact Hj61 () h76
        refine g_aload_n (pc := 105) (x := a0) 0 rfl rfl dX2_next_105 ?_
        refine g_dup (pc := 106) rfl dX2_next_106 ?_
        refine g_getfi (pc := 107) k_18 (gblt rfl) lk_X2_72_18 dX2_next_107 fun v77 => ?_
        refine g_iconst (pc := 110) (v := (1 : Int32)) ic_1 dX2_next_110 ?_
        refine g_iadd (pc := 111) dX2_next_111 ?_
        refine g_put (pc := 112) k_18 (gblt rfl) lk_X2_72_18 rfl rfl (gNi _) dX2_next_112 fun h78 => ?_
        refine g_goto (pc := 115) (tgt := 94) rfl dX2_next_115 ?_
        exact Hw73 () h78
      refine g_aload_n (pc := 154) (x := a0) 0 rfl rfl dX2_next_154 ?_
      refine g_aload_n (pc := 155) (x := a0) 0 rfl rfl dX2_next_155 ?_
      refine g_getfi (pc := 156) k_18 (gblt rfl) lk_X2_72_18 dX2_next_156 fun v17 => ?_
      refine g_bVi (pc := 159) (y := yX2_isDigit) (ws := ws_ yX2_isDigit cX2_isDigit 2 (some .boolean)) (fr := 1) (lo := 22) (as := [gi v17]) (st := []) (g_no) rfl (fun _ _ _ e => tX2_isDigit hs e) (fun K _ _ _ hq hM R e1 e2 => g_runV (M := mX2_next) (pc := 159) (y := yX2_isDigit) (bytes := cX2_isDigit) (maxL := 2) (ret := (some .boolean)) (fr := 1) (lo := 22) (as := [gi v17]) (st := []) hq (C := "FlareSlopesModel") rfl gy_X2_isDigit (gbl rfl) (gbl rfl) (gbl rfl) q4065 q4067 qs59 dX2_next_159 K hM R e1 e2) fun v18 h19 => ?_
      refine g_if_eq (pc := 162) (tgt := 254) rfl dX2_next_162 ?_ ?_
      · refine g_aload_n (pc := 254) (x := a0) 0 rfl rfl dX2_next_254 ?_
        refine g_getfr (pc := 255) k_18 (gblt rfl) lk_X2_33_18 dX2_next_255 fun v20 => ?_
        refine g_aload_n (pc := 258) (x := a0) 0 rfl rfl dX2_next_258 ?_
        refine g_getfi (pc := 259) k_18 (gblt rfl) lk_X2_72_18 dX2_next_259 fun v21 => ?_
        refine g_baload (pc := 262) rfl dX2_next_262 fun v22 => ?_
        refine g_bipush (pc := 263) (v := (59 : Int32)) bc_59 dX2_next_263 ?_
        refine g_join 273 (fun (x23 : Unit) => [(0, gr a0)]) (fun (x23 : Unit) => []) (fun x23 h24 => ?_) (fun j25 Hj25 => ?_)
        · refine g_aload_n (pc := 273) (x := a0) 0 rfl rfl dX2_next_273 ?_
          refine g_dup (pc := 274) rfl dX2_next_274 ?_
          refine g_getfi (pc := 275) k_18 (gblt rfl) lk_X2_72_18 dX2_next_275 fun v26 => ?_
          refine g_iconst (pc := 278) (v := (1 : Int32)) ic_1 dX2_next_278 ?_
          refine g_iadd (pc := 279) dX2_next_279 ?_
          refine g_put (pc := 280) k_18 (gblt rfl) lk_X2_72_18 rfl rfl (gNi _) dX2_next_280 fun h27 => ?_
          exact g_return (pc := 283) rfl dX2_next_283
        refine g_icmp_ne (pc := 265) (tgt := 273) rfl dX2_next_265 ?_ ?_
        rotate_left
        · exact Hj25 () h19
        refine g_aload_n (pc := 268) (x := a0) 0 rfl rfl dX2_next_268 ?_
        refine g_iconst (pc := 269) (v := (4 : Int32)) ic_4 dX2_next_269 ?_
        refine g_put (pc := 270) k_18 (gblt rfl) lk_X2_78_18 rfl rfl (gNi _) dX2_next_270 fun h28 => ?_
        exact Hj25 () h28
      refine g_aload_n (pc := 165) (x := a0) 0 rfl rfl dX2_next_165 ?_
      refine g_iconst (pc := 166) (v := (0 : Int32)) ic_0 dX2_next_166 ?_
      refine g_put (pc := 167) k_18 (gblt rfl) lk_X2_96_18 rfl rfl (gNi _) dX2_next_167 fun h29 => ?_
      refine g_join 231 (fun (x30 : Unit) => [(0, gr a0)]) (fun (x30 : Unit) => []) (fun x30 h31 => ?_) (fun j32 Hj32 => ?_)
      · refine g_aload_n (pc := 231) (x := a0) 0 rfl rfl dX2_next_231 ?_
        refine g_aload_n (pc := 232) (x := a0) 0 rfl rfl dX2_next_232 ?_
        refine g_getfi (pc := 233) k_18 (gblt rfl) lk_X2_72_18 dX2_next_233 fun v33 => ?_
        refine g_aload_n (pc := 236) (x := a0) 0 rfl rfl dX2_next_236 ?_
        refine g_getfi (pc := 237) k_18 (gblt rfl) lk_X2_75_18 dX2_next_237 fun v34 => ?_
        refine g_isub (pc := 240) dX2_next_240 ?_
        refine g_iconst (pc := 241) (v := (4 : Int32)) ic_4 dX2_next_241 ?_
        refine g_join 250 (fun (x35 : Int32) => []) (fun (x35 : Int32) => [gi x35, gr a0]) (fun x35 h36 => ?_) (fun j37 Hj37 => ?_)
        · refine g_put (pc := 250) k_18 (gblt rfl) lk_X2_78_18 rfl rfl (gNi _) dX2_next_250 fun h38 => ?_
          exact g_return (pc := 253) rfl dX2_next_253
        refine g_icmp_gt (pc := 242) (tgt := 249) rfl dX2_next_242 ?_ ?_
        · refine g_iconst (pc := 249) (v := (0 : Int32)) ic_0 dX2_next_249 ?_
          exact g_sub [] rfl (Hj37 (0 : Int32) h31)
        refine g_iconst (pc := 245) (v := (3 : Int32)) ic_3 dX2_next_245 ?_
        refine g_goto (pc := 246) (tgt := 250) rfl dX2_next_246 ?_
        exact g_sub [] rfl (Hj37 (3 : Int32) h31)
      refine g_loop (pc := 170) (fun (x39 : Unit) => [(0, gr a0)]) (fun (_ : Unit) => []) (fun w41 Hw41 x39 h40 => ?_) N () h29
      delta bX2_next_170
      refine g_aload_n (pc := 170) (x := a0) 0 rfl rfl dX2_next_170 ?_
      refine g_aload_n (pc := 171) (x := a0) 0 rfl rfl dX2_next_171 ?_
      refine g_getfi (pc := 172) k_18 (gblt rfl) lk_X2_72_18 dX2_next_172 fun v42 => ?_
      refine g_bVi (pc := 175) (y := yX2_isDigit) (ws := ws_ yX2_isDigit cX2_isDigit 2 (some .boolean)) (fr := 1) (lo := 22) (as := [gi v42]) (st := []) (g_no) rfl (fun _ _ _ e => tX2_isDigit hs e) (fun K _ _ _ hq hM R e1 e2 => g_runV (M := mX2_next) (pc := 175) (y := yX2_isDigit) (bytes := cX2_isDigit) (maxL := 2) (ret := (some .boolean)) (fr := 1) (lo := 22) (as := [gi v42]) (st := []) hq (C := "FlareSlopesModel") rfl gy_X2_isDigit (gbl rfl) (gbl rfl) (gbl rfl) q4065 q4067 qs59 dX2_next_175 K hM R e1 e2) fun v43 h44 => ?_
      refine g_if_eq (pc := 178) (tgt := 231) rfl dX2_next_178 ?_ ?_
      · exact Hj32 () h44
      refine g_aload_n (pc := 181) (x := a0) 0 rfl rfl dX2_next_181 ?_
      refine g_getfi (pc := 182) k_18 (gblt rfl) lk_X2_72_18 dX2_next_182 fun v45 => ?_
      refine g_aload_n (pc := 185) (x := a0) 0 rfl rfl dX2_next_185 ?_
      refine g_getfi (pc := 186) k_18 (gblt rfl) lk_X2_75_18 dX2_next_186 fun v46 => ?_
      refine g_isub (pc := 189) dX2_next_189 ?_
      refine g_iconst (pc := 190) (v := (4 : Int32)) ic_4 dX2_next_190 ?_
      refine g_join 218 (fun (x47 : Unit) => [(0, gr a0)]) (fun (x47 : Unit) => []) (fun x47 h48 => ?_) (fun j49 Hj49 => ?_)
      · refine g_aload_n (pc := 218) (x := a0) 0 rfl rfl dX2_next_218 ?_
        refine g_dup (pc := 219) rfl dX2_next_219 ?_
        refine g_getfi (pc := 220) k_18 (gblt rfl) lk_X2_72_18 dX2_next_220 fun v50 => ?_
        refine g_iconst (pc := 223) (v := (1 : Int32)) ic_1 dX2_next_223 ?_
        refine g_iadd (pc := 224) dX2_next_224 ?_
        refine g_put (pc := 225) k_18 (gblt rfl) lk_X2_72_18 rfl rfl (gNi _) dX2_next_225 fun h51 => ?_
        refine g_goto (pc := 228) (tgt := 170) rfl dX2_next_228 ?_
        exact Hw41 () h51
      refine g_icmp_ge (pc := 191) (tgt := 218) rfl dX2_next_191 ?_ ?_
      · exact Hj49 () h44
      refine g_aload_n (pc := 194) (x := a0) 0 rfl rfl dX2_next_194 ?_
      refine g_bipush (pc := 195) (v := (10 : Int32)) bc_10 dX2_next_195 ?_
      refine g_aload_n (pc := 197) (x := a0) 0 rfl rfl dX2_next_197 ?_
      refine g_getfi (pc := 198) k_18 (gblt rfl) lk_X2_96_18 dX2_next_198 fun v52 => ?_
      refine g_imul (pc := 201) dX2_next_201 ?_
      refine g_aload_n (pc := 202) (x := a0) 0 rfl rfl dX2_next_202 ?_
      refine g_getfr (pc := 203) k_18 (gblt rfl) lk_X2_33_18 dX2_next_203 fun v53 => ?_
      refine g_aload_n (pc := 206) (x := a0) 0 rfl rfl dX2_next_206 ?_
      refine g_getfi (pc := 207) k_18 (gblt rfl) lk_X2_72_18 dX2_next_207 fun v54 => ?_
      refine g_baload (pc := 210) rfl dX2_next_210 fun v55 => ?_
      refine g_iadd (pc := 211) dX2_next_211 ?_
      refine g_bipush (pc := 212) (v := (48 : Int32)) bc_48 dX2_next_212 ?_
      refine g_isub (pc := 214) dX2_next_214 ?_
      refine g_put (pc := 215) k_18 (gblt rfl) lk_X2_96_18 rfl rfl (gNi _) dX2_next_215 fun h56 => ?_
      exact Hj49 () h56
    refine g_icmp_ne (pc := 63) (tgt := 70) rfl dX2_next_63 ?_ ?_
    rotate_left
    · refine g_iconst (pc := 70) (v := (0 : Int32)) ic_0 dX2_next_70 ?_
      exact Hj11 (0 : Int32) h6
    refine g_iconst (pc := 66) (v := (1 : Int32)) ic_1 dX2_next_66 ?_
    refine g_goto (pc := 67) (tgt := 71) rfl dX2_next_67 ?_
    exact Hj11 (1 : Int32) h6
  refine g_loop (pc := 8) (fun (x81 : Unit) => [(0, gr a0)]) (fun (_ : Unit) => []) (fun w83 Hw83 x81 h82 => ?_) N () h
  delta bX2_next_8
  refine g_aload_n (pc := 8) (x := a0) 0 rfl rfl dX2_next_8 ?_
  refine g_getfi (pc := 9) k_18 (gblt rfl) lk_X2_72_18 dX2_next_9 fun v84 => ?_
  refine g_aload_n (pc := 12) (x := a0) 0 rfl rfl dX2_next_12 ?_
  refine g_getfi (pc := 13) k_18 (gblt rfl) lk_X2_61_18 dX2_next_13 fun v85 => ?_
  refine g_icmp_ge (pc := 16) (tgt := 46) rfl dX2_next_16 ?_ ?_
  · exact Hj4 () h82
  refine g_aload_n (pc := 19) (x := a0) 0 rfl rfl dX2_next_19 ?_
  refine g_getfr (pc := 20) k_18 (gblt rfl) lk_X2_33_18 dX2_next_20 fun v86 => ?_
  refine g_aload_n (pc := 23) (x := a0) 0 rfl rfl dX2_next_23 ?_
  refine g_getfi (pc := 24) k_18 (gblt rfl) lk_X2_72_18 dX2_next_24 fun v87 => ?_
  refine g_baload (pc := 27) rfl dX2_next_27 fun v88 => ?_
  refine g_bipush (pc := 28) (v := (32 : Int32)) bc_32 dX2_next_28 ?_
  refine g_icmp_ne (pc := 30) (tgt := 46) rfl dX2_next_30 ?_ ?_
  rotate_left
  · exact Hj4 () h82
  refine g_aload_n (pc := 33) (x := a0) 0 rfl rfl dX2_next_33 ?_
  refine g_dup (pc := 34) rfl dX2_next_34 ?_
  refine g_getfi (pc := 35) k_18 (gblt rfl) lk_X2_72_18 dX2_next_35 fun v89 => ?_
  refine g_iconst (pc := 38) (v := (1 : Int32)) ic_1 dX2_next_38 ?_
  refine g_iadd (pc := 39) dX2_next_39 ?_
  refine g_put (pc := 40) k_18 (gblt rfl) lk_X2_72_18 rfl rfl (gNi _) dX2_next_40 fun h90 => ?_
  refine g_goto (pc := 43) (tgt := 8) rfl dX2_next_43 ?_
  exact Hw83 () h90
/-! FlareSlopesModel.is(I)Z -/
noncomputable def sX2_is (G : GG) (N : Nat) (a0 : Option Nat) (a1 : Int32) (h : Hp) : Out (Int32) :=
  gFi h a0 18 12 fun v1 =>
  gJ (fun (x2 : Unit) (h3 : Hp) =>
  gRtZ (0 : Int32) h3) fun j4 =>
  if v1 = 0 then (gFi h a0 18 17 fun v5 =>
  if v5 = a1 then (gRtZ (1 : Int32) h)
  else j4 () h)
  else j4 () h
abbrev mX2_is : MI := (RX2, cX2_is, 2, (some .boolean), [], 0, 0, "is")
theorem tX2_is {G : GG} {l : Launch} (hs : l.stackTraces = false) {N : Nat} {a0 : Option Nat} {a1 : Int32} {h : Hp} {r : Int32 ⊕ Nat} {hf : Hp} (ho : sX2_is G N a0 a1 h = some (r, hf)) : gMet G l yX2_is (ws_ yX2_is cX2_is 2 (some .boolean)) 0 0 [gr a0, gi a1] h cvI r hf := by
  refine gMet.of ho hs (plainFor_of_name pn_X2) rfl rfl (gbl rfl) fun X => ?_
  show gT G l X mX2_is cvI r hf 0 [(0, gr a0), (1, gi a1)] [] h (sX2_is G N a0 a1 h)
  delta sX2_is
  refine g_aload_n (pc := 0) (x := a0) 0 rfl rfl dX2_is_0 ?_
  refine g_getfi (pc := 1) k_18 (gblt rfl) lk_X2_58_18 dX2_is_1 fun v1 => ?_
  refine g_join 19 (fun (x2 : Unit) => []) (fun (x2 : Unit) => []) (fun x2 h3 => ?_) (fun j4 Hj4 => ?_)
  · refine g_iconst (pc := 19) (v := (0 : Int32)) ic_0 dX2_is_19 ?_
    exact g_zreturn (pc := 20) rfl dX2_is_20
  refine g_if_ne (pc := 4) (tgt := 19) rfl dX2_is_4 ?_ ?_
  rotate_left
  · exact g_sub [] rfl (Hj4 () h)
  refine g_aload_n (pc := 7) (x := a0) 0 rfl rfl dX2_is_7 ?_
  refine g_getfi (pc := 8) k_18 (gblt rfl) lk_X2_78_18 dX2_is_8 fun v5 => ?_
  refine g_iload_n (pc := 11) (x := a1) 1 rfl rfl dX2_is_11 ?_
  refine g_icmp_ne (pc := 12) (tgt := 19) rfl dX2_is_12 ?_ ?_
  rotate_left
  · exact g_sub [] rfl (Hj4 () h)
  refine g_iconst (pc := 15) (v := (1 : Int32)) ic_1 dX2_is_15 ?_
  refine g_goto (pc := 16) (tgt := 20) rfl dX2_is_16 ?_
  exact g_zreturn (pc := 20) rfl dX2_is_20
/-! FlareSlopesModel.isWord(Ljava/lang/String;)Z -/
noncomputable def bX2_isWord_28 (G : GG) (N : Nat) (a0 : Option Nat) (a1 : Option Nat) (w9 : (Int32) → Hp → Out (Int32)) (x7 : Int32) (h8 : Hp) : Out (Int32) :=
  bV h8 a1 20 (fun q18 => sJ4_length G N (some q18) h8) fun v10 h11 =>
  if v10 ≤ x7 then (gRtZ (1 : Int32) h11)
  else gFr h11 a0 18 10 fun v12 =>
  gFi h11 a0 18 16 fun v13 =>
  gAi h11 v12 1 (v13 + x7) fun v14 =>
  bV h11 a1 20 (fun q17 => sJ4_charAt G N (some q17) x7 h11) fun v15 h16 =>
  if v14 = v15 then (w9 (x7 + (1 : Int32)) h16)
  else gRtZ (0 : Int32) h16
noncomputable def sX2_isWord (G : GG) (N : Nat) (a0 : Option Nat) (a1 : Option Nat) (h : Hp) : Out (Int32) :=
  bV h a0 18 (fun q20 => sX2_is G N (some q20) (2 : Int32) h) fun v1 h2 =>
  if v1 = 0 then (gRtZ (0 : Int32) h2)
  else gFi h2 a0 18 15 fun v3 =>
  gFi h2 a0 18 16 fun v4 =>
  bV h2 a1 20 (fun q19 => sJ4_length G N (some q19) h2) fun v5 h6 =>
  if (v3 - v4) = v5 then (gLp (bX2_isWord_28 G N a0 a1) N (0 : Int32) h6)
  else gRtZ (0 : Int32) h6
abbrev mX2_isWord : MI := (RX2, cX2_isWord, 3, (some .boolean), [], 4, 85, "isWord")
theorem tX2_isWord {G : GG} {l : Launch} (hs : l.stackTraces = false) {N : Nat} {a0 : Option Nat} {a1 : Option Nat} {h : Hp} {r : Int32 ⊕ Nat} {hf : Hp} (ho : sX2_isWord G N a0 a1 h = some (r, hf)) : gMet G l yX2_isWord (ws_ yX2_isWord cX2_isWord 3 (some .boolean)) 4 85 [gr a0, gr a1] h cvI r hf := by
  refine gMet.of ho hs (plainFor_of_name pn_X2) rfl rfl (gbl rfl) fun X => ?_
  show gT G l X mX2_isWord cvI r hf 0 [(0, gr a0), (1, gr a1)] [] h (sX2_isWord G N a0 a1 h)
  delta sX2_isWord
  refine g_aload_n (pc := 0) (x := a0) 0 rfl rfl dX2_isWord_0 ?_
  refine g_iconst (pc := 1) (v := (2 : Int32)) ic_2 dX2_isWord_1 ?_
  refine g_bVi (pc := 2) (y := yX2_is) (ws := ws_ yX2_is cX2_is 2 (some .boolean)) (fr := 0) (lo := 0) (as := [gi (2 : Int32)]) (st := []) (g_no) rfl (fun _ _ _ e => tX2_is hs e) (fun K _ _ _ hq hM R e1 e2 => g_runV (M := mX2_isWord) (pc := 2) (y := yX2_is) (bytes := cX2_is) (maxL := 2) (ret := (some .boolean)) (fr := 0) (lo := 0) (as := [gi (2 : Int32)]) (st := []) hq (C := "FlareSlopesModel") rfl gy_X2_is (gbl rfl) (gbl rfl) (gbl rfl) q4078 q4080 qs62 dX2_isWord_2 K hM R e1 e2) fun v1 h2 => ?_
  refine g_if_eq (pc := 5) (tgt := 24) rfl dX2_isWord_5 ?_ ?_
  · refine g_iconst (pc := 24) (v := (0 : Int32)) ic_0 dX2_isWord_24 ?_
    exact g_zreturn (pc := 25) rfl dX2_isWord_25
  refine g_aload_n (pc := 8) (x := a0) 0 rfl rfl dX2_isWord_8 ?_
  refine g_getfi (pc := 9) k_18 (gblt rfl) lk_X2_72_18 dX2_isWord_9 fun v3 => ?_
  refine g_aload_n (pc := 12) (x := a0) 0 rfl rfl dX2_isWord_12 ?_
  refine g_getfi (pc := 13) k_18 (gblt rfl) lk_X2_75_18 dX2_isWord_13 fun v4 => ?_
  refine g_isub (pc := 16) dX2_isWord_16 ?_
  refine g_aload_n (pc := 17) (x := a1) 1 rfl rfl dX2_isWord_17 ?_
  refine g_bVi (pc := 18) (y := yJ4_length) (ws := ws_ yJ4_length cJ4_length 1 (some .int)) (fr := 1) (lo := 20) (as := []) (st := [gi (v3 - v4)]) (g_no) rfl (fun _ _ _ e => tJ4_length hs e) (fun K _ _ _ hq hM R e1 e2 => g_runV (M := mX2_isWord) (pc := 18) (y := yJ4_length) (bytes := cJ4_length) (maxL := 1) (ret := (some .int)) (fr := 1) (lo := 20) (as := []) (st := [gi (v3 - v4)]) hq (C := "java/lang/String") rfl gy_J4_length (gbl rfl) (gbl rfl) (gbl rfl) q4082 q810 q811 dX2_isWord_18 K hM R e1 e2) fun v5 h6 => ?_
  refine g_icmp_eq (pc := 21) (tgt := 26) rfl dX2_isWord_21 ?_ ?_
  rotate_left
  · refine g_iconst (pc := 24) (v := (0 : Int32)) ic_0 dX2_isWord_24 ?_
    exact g_zreturn (pc := 25) rfl dX2_isWord_25
  refine g_iconst (pc := 26) (v := (0 : Int32)) ic_0 dX2_isWord_26 ?_
  refine g_istore_n (pc := 27) (lv' := [(2, gi (0 : Int32)), (0, gr a0), (1, gr a1)]) [0, 1, 2] rfl rfl (gblt rfl) dX2_isWord_27 ?_
  refine g_sub (lv' := [(0, gr a0), (1, gr a1), (2, gi (0 : Int32))]) [1, 2, 0] rfl ?_
  refine g_loop (pc := 28) (fun (x7 : Int32) => [(0, gr a0), (1, gr a1), (2, gi x7)]) (fun (_ : Int32) => []) (fun w9 Hw9 x7 h8 => ?_) N (0 : Int32) h6
  delta bX2_isWord_28
  refine g_iload_n (pc := 28) (x := x7) 2 rfl rfl dX2_isWord_28 ?_
  refine g_aload_n (pc := 29) (x := a1) 1 rfl rfl dX2_isWord_29 ?_
  refine g_bVi (pc := 30) (y := yJ4_length) (ws := ws_ yJ4_length cJ4_length 1 (some .int)) (fr := 1) (lo := 20) (as := []) (st := [gi x7]) (g_no) rfl (fun _ _ _ e => tJ4_length hs e) (fun K _ _ _ hq hM R e1 e2 => g_runV (M := mX2_isWord) (pc := 30) (y := yJ4_length) (bytes := cJ4_length) (maxL := 1) (ret := (some .int)) (fr := 1) (lo := 20) (as := []) (st := [gi x7]) hq (C := "java/lang/String") rfl gy_J4_length (gbl rfl) (gbl rfl) (gbl rfl) q4082 q810 q811 dX2_isWord_30 K hM R e1 e2) fun v10 h11 => ?_
  refine g_icmp_ge (pc := 33) (tgt := 63) rfl dX2_isWord_33 ?_ ?_
  · refine g_iconst (pc := 63) (v := (1 : Int32)) ic_1 dX2_isWord_63 ?_
    exact g_zreturn (pc := 64) rfl dX2_isWord_64
  refine g_aload_n (pc := 36) (x := a0) 0 rfl rfl dX2_isWord_36 ?_
  refine g_getfr (pc := 37) k_18 (gblt rfl) lk_X2_33_18 dX2_isWord_37 fun v12 => ?_
  refine g_aload_n (pc := 40) (x := a0) 0 rfl rfl dX2_isWord_40 ?_
  refine g_getfi (pc := 41) k_18 (gblt rfl) lk_X2_75_18 dX2_isWord_41 fun v13 => ?_
  refine g_iload_n (pc := 44) (x := x7) 2 rfl rfl dX2_isWord_44 ?_
  refine g_iadd (pc := 45) dX2_isWord_45 ?_
  refine g_baload (pc := 46) rfl dX2_isWord_46 fun v14 => ?_
  refine g_aload_n (pc := 47) (x := a1) 1 rfl rfl dX2_isWord_47 ?_
  refine g_iload_n (pc := 48) (x := x7) 2 rfl rfl dX2_isWord_48 ?_
  refine g_bVi (pc := 49) (y := yJ4_charAt) (ws := ws_ yJ4_charAt cJ4_charAt 2 (some .char)) (fr := 3) (lo := 64) (as := [gi x7]) (st := [gi v14]) (g_no) rfl (fun _ _ _ e => tJ4_charAt hs e) (fun K _ _ _ hq hM R e1 e2 => g_runV (M := mX2_isWord) (pc := 49) (y := yJ4_charAt) (bytes := cJ4_charAt) (maxL := 2) (ret := (some .char)) (fr := 3) (lo := 64) (as := [gi x7]) (st := [gi v14]) hq (C := "java/lang/String") rfl gy_J4_charAt (gbl rfl) (gbl rfl) (gbl rfl) q4083 q1038 q4635 dX2_isWord_49 K hM R e1 e2) fun v15 h16 => ?_
  refine g_icmp_eq (pc := 52) (tgt := 57) rfl dX2_isWord_52 ?_ ?_
  rotate_left
  · refine g_iconst (pc := 55) (v := (0 : Int32)) ic_0 dX2_isWord_55 ?_
    exact g_zreturn (pc := 56) rfl dX2_isWord_56
  refine g_iinc (pc := 57) (v := x7 + (1 : Int32)) 2 rfl (ii_1 _) (lv' := [(2, gi (x7 + (1 : Int32))), (0, gr a0), (1, gr a1)]) [0, 1, 2] rfl (gblt rfl) dX2_isWord_57 ?_
  refine g_goto (pc := 60) (tgt := 28) rfl dX2_isWord_60 ?_
  exact g_sub [1, 2, 0] rfl (Hw9 (x7 + (1 : Int32)) h16)
/-! FlareSlopesModel.faults(I)V -/
noncomputable def sX2_faults (G : GG) (N : Nat) (a0 : Option Nat) (a1 : Int32) (h : Hp) : Out (Unit) :=
  gFi h a0 18 12 fun v1 =>
  if v1 ≤ 0 then (gP G h a0 18 12 (.int a1) fun h2 =>
  gFi h2 a0 18 16 fun v3 =>
  gP G h2 a0 18 13 (.int v3) fun h4 =>
  some (.inl (), h4))
  else some (.inl (), h)
abbrev mX2_faults : MI := (RX2, cX2_faults, 2, none, [], 0, 0, "faults")
theorem tX2_faults {G : GG} {l : Launch} (hs : l.stackTraces = false) {N : Nat} {a0 : Option Nat} {a1 : Int32} {h : Hp} {r : Unit ⊕ Nat} {hf : Hp} (ho : sX2_faults G N a0 a1 h = some (r, hf)) : gMet G l yX2_faults (ws_ yX2_faults cX2_faults 2 none) 0 0 [gr a0, gi a1] h cvU r hf := by
  refine gMet.of ho hs (plainFor_of_name pn_X2) rfl rfl (gbl rfl) fun X => ?_
  show gT G l X mX2_faults cvU r hf 0 [(0, gr a0), (1, gi a1)] [] h (sX2_faults G N a0 a1 h)
  delta sX2_faults
  refine g_aload_n (pc := 0) (x := a0) 0 rfl rfl dX2_faults_0 ?_
  refine g_getfi (pc := 1) k_18 (gblt rfl) lk_X2_58_18 dX2_faults_1 fun v1 => ?_
  refine g_if_le (pc := 4) (tgt := 8) rfl dX2_faults_4 ?_ ?_
  rotate_left
  · exact g_return (pc := 7) rfl dX2_faults_7
  refine g_aload_n (pc := 8) (x := a0) 0 rfl rfl dX2_faults_8 ?_
  refine g_iload_n (pc := 9) (x := a1) 1 rfl rfl dX2_faults_9 ?_
  refine g_put (pc := 10) k_18 (gblt rfl) lk_X2_58_18 rfl rfl (gNi _) dX2_faults_10 fun h2 => ?_
  refine g_aload_n (pc := 13) (x := a0) 0 rfl rfl dX2_faults_13 ?_
  refine g_aload_n (pc := 14) (x := a0) 0 rfl rfl dX2_faults_14 ?_
  refine g_getfi (pc := 15) k_18 (gblt rfl) lk_X2_75_18 dX2_faults_15 fun v3 => ?_
  refine g_put (pc := 18) k_18 (gblt rfl) lk_X2_37_18 rfl rfl (gNi _) dX2_faults_18 fun h4 => ?_
  exact g_return (pc := 21) rfl dX2_faults_21
/-! FlareSlopesModel.takes(Ljava/lang/String;)V -/
noncomputable def sX2_takes (G : GG) (N : Nat) (a0 : Option Nat) (a1 : Option Nat) (h : Hp) : Out (Unit) :=
  bV h a0 18 (fun q12 => sX2_isWord G N (some q12) a1 h) fun v1 h2 =>
  gJ (fun (x3 : Unit) (h4 : Hp) =>
  bV h4 a0 18 (fun q8 => sX2_next G N (some q8) h4) fun v6 h7 =>
  some (.inl (), h7)) fun j5 =>
  if v1 = 0 then (bV h2 a0 18 (fun q11 => sX2_faults G N (some q11) (1 : Int32) h2) fun v9 h10 =>
  j5 () h10)
  else j5 () h2
abbrev mX2_takes : MI := (RX2, cX2_takes, 2, none, [], 5, 107, "takes")
theorem tX2_takes {G : GG} {l : Launch} (hs : l.stackTraces = false) {N : Nat} {a0 : Option Nat} {a1 : Option Nat} {h : Hp} {r : Unit ⊕ Nat} {hf : Hp} (ho : sX2_takes G N a0 a1 h = some (r, hf)) : gMet G l yX2_takes (ws_ yX2_takes cX2_takes 2 none) 5 107 [gr a0, gr a1] h cvU r hf := by
  refine gMet.of ho hs (plainFor_of_name pn_X2) rfl rfl (gbl rfl) fun X => ?_
  show gT G l X mX2_takes cvU r hf 0 [(0, gr a0), (1, gr a1)] [] h (sX2_takes G N a0 a1 h)
  delta sX2_takes
  refine g_aload_n (pc := 0) (x := a0) 0 rfl rfl dX2_takes_0 ?_
  refine g_aload_n (pc := 1) (x := a1) 1 rfl rfl dX2_takes_1 ?_
  refine g_bVi (pc := 2) (y := yX2_isWord) (ws := ws_ yX2_isWord cX2_isWord 3 (some .boolean)) (fr := 4) (lo := 85) (as := [gr a1]) (st := []) (g_no) rfl (fun _ _ _ e => tX2_isWord hs e) (fun K _ _ _ hq hM R e1 e2 => g_runV (M := mX2_takes) (pc := 2) (y := yX2_isWord) (bytes := cX2_isWord) (maxL := 3) (ret := (some .boolean)) (fr := 4) (lo := 85) (as := [gr a1]) (st := []) hq (C := "FlareSlopesModel") rfl gy_X2_isWord (gbl rfl) (gbl rfl) (gbl rfl) q4074 q4076 qs61 dX2_takes_2 K hM R e1 e2) fun v1 h2 => ?_
  refine g_join 13 (fun (x3 : Unit) => [(0, gr a0)]) (fun (x3 : Unit) => []) (fun x3 h4 => ?_) (fun j5 Hj5 => ?_)
  · refine g_aload_n (pc := 13) (x := a0) 0 rfl rfl dX2_takes_13 ?_
    refine g_bVu (pc := 14) (y := yX2_next) (ws := ws_ yX2_next cX2_next 1 none) (fr := 2) (lo := 43) (as := []) (st := []) (g_no) rfl (fun _ _ _ e => tX2_next hs e) (fun K _ _ _ hq hM R e1 e2 => g_runV (M := mX2_takes) (pc := 14) (y := yX2_next) (bytes := cX2_next) (maxL := 1) (ret := none) (fr := 2) (lo := 43) (as := []) (st := []) hq (C := "FlareSlopesModel") rfl gy_X2_next (gbl rfl) (gbl rfl) (gbl rfl) q4051 q4053 qs56 dX2_takes_14 K hM R e1 e2) fun v6 h7 => ?_
    exact g_return (pc := 17) rfl dX2_takes_17
  refine g_if_ne (pc := 5) (tgt := 13) rfl dX2_takes_5 ?_ ?_
  rotate_left
  · exact g_sub [0] rfl (Hj5 () h2)
  refine g_aload_n (pc := 8) (x := a0) 0 rfl rfl dX2_takes_8 ?_
  refine g_iconst (pc := 9) (v := (1 : Int32)) ic_1 dX2_takes_9 ?_
  refine g_bVu (pc := 10) (y := yX2_faults) (ws := ws_ yX2_faults cX2_faults 2 none) (fr := 0) (lo := 0) (as := [gi (1 : Int32)]) (st := []) (g_no) rfl (fun _ _ _ e => tX2_faults hs e) (fun K _ _ _ hq hM R e1 e2 => g_runV (M := mX2_takes) (pc := 10) (y := yX2_faults) (bytes := cX2_faults) (maxL := 2) (ret := none) (fr := 0) (lo := 0) (as := [gi (1 : Int32)]) (st := []) hq (C := "FlareSlopesModel") rfl gy_X2_faults (gbl rfl) (gbl rfl) (gbl rfl) q4084 q4086 qs63 dX2_takes_10 K hM R e1 e2) fun v9 h10 => ?_
  exact g_sub [0] rfl (Hj5 () h10)
/-! FlareSlopesModel.lowOf(I)I -/
noncomputable def sX2_lowOf (G : GG) (N : Nat) (a0 : Option Nat) (a1 : Int32) (h : Hp) : Out (Int32) :=
  if a1 = (4 : Int32) then (gFr h a0 18 1 fun v1 =>
  gAi h v1 0 (3 : Int32) fun v2 =>
  some (.inl v2, h))
  else if a1 = (5 : Int32) then (some (.inl (0 : Int32), h))
  else some (.inl (1 : Int32), h)
abbrev mX2_lowOf : MI := (RX2, cX2_lowOf, 2, (some .int), [], 0, 0, "lowOf")
theorem tX2_lowOf {G : GG} {l : Launch} (hs : l.stackTraces = false) {N : Nat} {a0 : Option Nat} {a1 : Int32} {h : Hp} {r : Int32 ⊕ Nat} {hf : Hp} (ho : sX2_lowOf G N a0 a1 h = some (r, hf)) : gMet G l yX2_lowOf (ws_ yX2_lowOf cX2_lowOf 2 (some .int)) 0 0 [gr a0, gi a1] h cvI r hf := by
  refine gMet.of ho hs (plainFor_of_name pn_X2) rfl rfl (gbl rfl) fun X => ?_
  show gT G l X mX2_lowOf cvI r hf 0 [(0, gr a0), (1, gi a1)] [] h (sX2_lowOf G N a0 a1 h)
  delta sX2_lowOf
  refine g_iload_n (pc := 0) (x := a1) 1 rfl rfl dX2_lowOf_0 ?_
  refine g_iconst (pc := 1) (v := (4 : Int32)) ic_4 dX2_lowOf_1 ?_
  refine g_icmp_ne (pc := 2) (tgt := 14) rfl dX2_lowOf_2 ?_ ?_
  · refine g_aload_n (pc := 5) (x := a0) 0 rfl rfl dX2_lowOf_5 ?_
    refine g_getfr (pc := 6) k_18 (gblt rfl) lk_X2_9_18 dX2_lowOf_6 fun v1 => ?_
    refine g_iconst (pc := 9) (v := (3 : Int32)) ic_3 dX2_lowOf_9 ?_
    refine g_iaload (pc := 10) rfl dX2_lowOf_10 fun v2 => ?_
    refine g_goto (pc := 11) (tgt := 24) rfl dX2_lowOf_11 ?_
    exact g_ireturn (pc := 24) rfl dX2_lowOf_24
  refine g_iload_n (pc := 14) (x := a1) 1 rfl rfl dX2_lowOf_14 ?_
  refine g_iconst (pc := 15) (v := (5 : Int32)) ic_5 dX2_lowOf_15 ?_
  refine g_icmp_ne (pc := 16) (tgt := 23) rfl dX2_lowOf_16 ?_ ?_
  rotate_left
  · refine g_iconst (pc := 23) (v := (1 : Int32)) ic_1 dX2_lowOf_23 ?_
    exact g_ireturn (pc := 24) rfl dX2_lowOf_24
  refine g_iconst (pc := 19) (v := (0 : Int32)) ic_0 dX2_lowOf_19 ?_
  refine g_goto (pc := 20) (tgt := 24) rfl dX2_lowOf_20 ?_
  exact g_ireturn (pc := 24) rfl dX2_lowOf_24
/-! FlareSlopesModel.highOf(I)I -/
noncomputable def sX2_highOf (G : GG) (N : Nat) (a0 : Option Nat) (a1 : Int32) (h : Hp) : Out (Int32) :=
  gSel a1 [((0 : Int32), some (.inl (200 : Int32), h)),
  ((1 : Int32), some (.inl (99 : Int32), h)),
  ((2 : Int32), some (.inl (100 : Int32), h)),
  ((3 : Int32), some (.inl (9 : Int32), h)),
  ((4 : Int32), some (.inl (30 : Int32), h))] (some (.inl (50 : Int32), h))
abbrev mX2_highOf : MI := (RX2, cX2_highOf, 2, (some .int), [], 0, 0, "highOf")
theorem tX2_highOf {G : GG} {l : Launch} (hs : l.stackTraces = false) {N : Nat} {a0 : Option Nat} {a1 : Int32} {h : Hp} {r : Int32 ⊕ Nat} {hf : Hp} (ho : sX2_highOf G N a0 a1 h = some (r, hf)) : gMet G l yX2_highOf (ws_ yX2_highOf cX2_highOf 2 (some .int)) 0 0 [gr a0, gi a1] h cvI r hf := by
  refine gMet.of ho hs (plainFor_of_name pn_X2) rfl rfl (gbl rfl) fun X => ?_
  show gT G l X mX2_highOf cvI r hf 0 [(0, gr a0), (1, gi a1)] [] h (sX2_highOf G N a0 a1 h)
  delta sX2_highOf
  refine g_iload_n (pc := 0) (x := a1) 1 rfl rfl dX2_highOf_0 ?_
  refine g_tableswitch (pc := 1) (td := 52) [((0 : Int32), 36), ((1 : Int32), 40), ((2 : Int32), 43), ((3 : Int32), 46), ((4 : Int32), 49)] (by decide +kernel) dX2_highOf_1 ?_ (g_all_cons ?_ (g_all_cons ?_ (g_all_cons ?_ (g_all_cons ?_ (g_all_cons ?_ g_all_nil)))))
  · refine g_bipush (pc := 52) (v := (50 : Int32)) bc_50 dX2_highOf_52 ?_
    exact g_ireturn (pc := 54) rfl dX2_highOf_54
  · refine g_sipush (pc := 36) (v := (200 : Int32)) sc_200 dX2_highOf_36 ?_
    exact g_ireturn (pc := 39) rfl dX2_highOf_39
  · refine g_bipush (pc := 40) (v := (99 : Int32)) bc_99 dX2_highOf_40 ?_
    exact g_ireturn (pc := 42) rfl dX2_highOf_42
  · refine g_bipush (pc := 43) (v := (100 : Int32)) bc_100 dX2_highOf_43 ?_
    exact g_ireturn (pc := 45) rfl dX2_highOf_45
  · refine g_bipush (pc := 46) (v := (9 : Int32)) bc_9 dX2_highOf_46 ?_
    exact g_ireturn (pc := 48) rfl dX2_highOf_48
  · refine g_bipush (pc := 49) (v := (30 : Int32)) bc_30 dX2_highOf_49 ?_
    exact g_ireturn (pc := 51) rfl dX2_highOf_51
/-! FlareSlopesModel.number(II)I -/
noncomputable def sX2_number (G : GG) (N : Nat) (a0 : Option Nat) (a1 : Int32) (a2 : Int32) (h : Hp) : Out (Int32) :=
  bV h a0 18 (fun q20 => sX2_is G N (some q20) (3 : Int32) h) fun v1 h2 =>
  gJ (fun (x3 : Unit) (h4 : Hp) =>
  gFi h4 a0 18 18 fun v6 =>
  bV h4 a0 18 (fun q10 => sX2_next G N (some q10) h4) fun v7 h8 =>
  gFi h8 a0 18 12 fun v9 =>
  if v9 ≤ 0 then (some (.inl v6, h8))
  else some (.inl a1, h8)) fun j5 =>
  if v1 = 0 then (bV h2 a0 18 (fun q19 => sX2_faults G N (some q19) (1 : Int32) h2) fun v17 h18 =>
  j5 () h18)
  else gFi h2 a0 18 18 fun v11 =>
  bnd (sX2_in G N v11 a1 a2 h2) fun v12 h13 =>
  if v12 = 0 then (bV h13 a0 18 (fun q16 => sX2_faults G N (some q16) (2 : Int32) h13) fun v14 h15 =>
  j5 () h15)
  else j5 () h13
abbrev mX2_number : MI := (RX2, cX2_number, 4, (some .int), [], 3, 63, "number")
theorem tX2_number {G : GG} {l : Launch} (hs : l.stackTraces = false) {N : Nat} {a0 : Option Nat} {a1 : Int32} {a2 : Int32} {h : Hp} {r : Int32 ⊕ Nat} {hf : Hp} (ho : sX2_number G N a0 a1 a2 h = some (r, hf)) : gMet G l yX2_number (ws_ yX2_number cX2_number 4 (some .int)) 3 63 [gr a0, gi a1, gi a2] h cvI r hf := by
  refine gMet.of ho hs (plainFor_of_name pn_X2) rfl rfl (gbl rfl) fun X => ?_
  show gT G l X mX2_number cvI r hf 0 [(0, gr a0), (1, gi a1), (2, gi a2)] [] h (sX2_number G N a0 a1 a2 h)
  delta sX2_number
  refine g_aload_n (pc := 0) (x := a0) 0 rfl rfl dX2_number_0 ?_
  refine g_iconst (pc := 1) (v := (3 : Int32)) ic_3 dX2_number_1 ?_
  refine g_bVi (pc := 2) (y := yX2_is) (ws := ws_ yX2_is cX2_is 2 (some .boolean)) (fr := 0) (lo := 0) (as := [gi (3 : Int32)]) (st := []) (g_no) rfl (fun _ _ _ e => tX2_is hs e) (fun K _ _ _ hq hM R e1 e2 => g_runV (M := mX2_number) (pc := 2) (y := yX2_is) (bytes := cX2_is) (maxL := 2) (ret := (some .boolean)) (fr := 0) (lo := 0) (as := [gi (3 : Int32)]) (st := []) hq (C := "FlareSlopesModel") rfl gy_X2_is (gbl rfl) (gbl rfl) (gbl rfl) q4078 q4080 qs62 dX2_number_2 K hM R e1 e2) fun v1 h2 => ?_
  refine g_join 33 (fun (x3 : Unit) => [(0, gr a0), (1, gi a1)]) (fun (x3 : Unit) => []) (fun x3 h4 => ?_) (fun j5 Hj5 => ?_)
  · refine g_aload_n (pc := 33) (x := a0) 0 rfl rfl dX2_number_33 ?_
    refine g_getfi (pc := 34) k_18 (gblt rfl) lk_X2_96_18 dX2_number_34 fun v6 => ?_
    refine g_istore_n (pc := 37) (lv' := [(3, gi v6), (0, gr a0), (1, gi a1)]) [0, 1, 2] rfl rfl (gblt rfl) dX2_number_37 ?_
    refine g_aload_n (pc := 38) (x := a0) 1 rfl rfl dX2_number_38 ?_
    refine g_bVu (pc := 39) (y := yX2_next) (ws := ws_ yX2_next cX2_next 1 none) (fr := 2) (lo := 43) (as := []) (st := []) (g_no) rfl (fun _ _ _ e => tX2_next hs e) (fun K _ _ _ hq hM R e1 e2 => g_runV (M := mX2_number) (pc := 39) (y := yX2_next) (bytes := cX2_next) (maxL := 1) (ret := none) (fr := 2) (lo := 43) (as := []) (st := []) hq (C := "FlareSlopesModel") rfl gy_X2_next (gbl rfl) (gbl rfl) (gbl rfl) q4051 q4053 qs56 dX2_number_39 K hM R e1 e2) fun v7 h8 => ?_
    refine g_aload_n (pc := 42) (x := a0) 1 rfl rfl dX2_number_42 ?_
    refine g_getfi (pc := 43) k_18 (gblt rfl) lk_X2_58_18 dX2_number_43 fun v9 => ?_
    refine g_if_le (pc := 46) (tgt := 53) rfl dX2_number_46 ?_ ?_
    · refine g_iload_n (pc := 53) (x := v6) 0 rfl rfl dX2_number_53 ?_
      exact g_ireturn (pc := 54) rfl dX2_number_54
    refine g_iload_n (pc := 49) (x := a1) 2 rfl rfl dX2_number_49 ?_
    refine g_goto (pc := 50) (tgt := 54) rfl dX2_number_50 ?_
    exact g_ireturn (pc := 54) rfl dX2_number_54
  refine g_if_ne (pc := 5) (tgt := 16) rfl dX2_number_5 ?_ ?_
  · refine g_aload_n (pc := 8) (x := a0) 0 rfl rfl dX2_number_8 ?_
    refine g_iconst (pc := 9) (v := (1 : Int32)) ic_1 dX2_number_9 ?_
    refine g_bVu (pc := 10) (y := yX2_faults) (ws := ws_ yX2_faults cX2_faults 2 none) (fr := 0) (lo := 0) (as := [gi (1 : Int32)]) (st := []) (g_no) rfl (fun _ _ _ e => tX2_faults hs e) (fun K _ _ _ hq hM R e1 e2 => g_runV (M := mX2_number) (pc := 10) (y := yX2_faults) (bytes := cX2_faults) (maxL := 2) (ret := none) (fr := 0) (lo := 0) (as := [gi (1 : Int32)]) (st := []) hq (C := "FlareSlopesModel") rfl gy_X2_faults (gbl rfl) (gbl rfl) (gbl rfl) q4084 q4086 qs63 dX2_number_10 K hM R e1 e2) fun v17 h18 => ?_
    refine g_goto (pc := 13) (tgt := 33) rfl dX2_number_13 ?_
    exact g_sub [0, 1] rfl (Hj5 () h18)
  refine g_aload_n (pc := 16) (x := a0) 0 rfl rfl dX2_number_16 ?_
  refine g_getfi (pc := 17) k_18 (gblt rfl) lk_X2_96_18 dX2_number_17 fun v11 => ?_
  refine g_iload_n (pc := 20) (x := a1) 1 rfl rfl dX2_number_20 ?_
  refine g_iload_n (pc := 21) (x := a2) 2 rfl rfl dX2_number_21 ?_
  refine g_bi (pc := 22) (y := yX2_in) (ws := ws_ yX2_in cX2_in 3 (some .boolean)) (fr := 0) (lo := 0) (as := [gi v11, gi a1, gi a2]) (st := []) (g_no) rfl (fun _ _ e => tX2_in hs e) (fun K _ _ hM R e1 e2 => g_runS (M := mX2_number) (pc := 22) (y := yX2_in) (bytes := cX2_in) (maxL := 3) (ret := (some .boolean)) (fr := 0) (lo := 0) (as := [gi v11, gi a1, gi a2]) (st := []) gy_X2_in (gbl rfl) (gbl rfl) (gbl rfl) q4037 q4038 dX2_number_22 K hM R e1 e2) fun v12 h13 => ?_
  refine g_if_ne (pc := 25) (tgt := 33) rfl dX2_number_25 ?_ ?_
  rotate_left
  · exact g_sub [0, 1] rfl (Hj5 () h13)
  refine g_aload_n (pc := 28) (x := a0) 0 rfl rfl dX2_number_28 ?_
  refine g_iconst (pc := 29) (v := (2 : Int32)) ic_2 dX2_number_29 ?_
  refine g_bVu (pc := 30) (y := yX2_faults) (ws := ws_ yX2_faults cX2_faults 2 none) (fr := 0) (lo := 0) (as := [gi (2 : Int32)]) (st := []) (g_no) rfl (fun _ _ _ e => tX2_faults hs e) (fun K _ _ _ hq hM R e1 e2 => g_runV (M := mX2_number) (pc := 30) (y := yX2_faults) (bytes := cX2_faults) (maxL := 2) (ret := none) (fr := 0) (lo := 0) (as := [gi (2 : Int32)]) (st := []) hq (C := "FlareSlopesModel") rfl gy_X2_faults (gbl rfl) (gbl rfl) (gbl rfl) q4084 q4086 qs63 dX2_number_30 K hM R e1 e2) fun v14 h15 => ?_
  exact g_sub [0, 1] rfl (Hj5 () h15)
/-! FlareSlopesModel.readsSettings(II)V -/
noncomputable def bX2_readsSettings_2 (G : GG) (N : Nat) (a0 : Option Nat) (a2 : Int32) (w3 : (Int32) → Hp → Out (Unit)) (x1 : Int32) (h2 : Hp) : Out (Unit) :=
  if a2 < x1 then (some (.inl (), h2))
  else gFr h2 a0 18 1 fun v4 =>
  bV h2 a0 18 (fun q14 => sX2_lowOf G N (some q14) x1 h2) fun v5 h6 =>
  bV h6 a0 18 (fun q13 => sX2_highOf G N (some q13) x1 h6) fun v7 h8 =>
  bV h8 a0 18 (fun q12 => sX2_number G N (some q12) v5 v7 h8) fun v9 h10 =>
  gSi G h10 v4 0 x1 v9 fun h11 =>
  w3 (x1 + (1 : Int32)) h11
noncomputable def sX2_readsSettings (G : GG) (N : Nat) (a0 : Option Nat) (a1 : Int32) (a2 : Int32) (h : Hp) : Out (Unit) :=
  gLp (bX2_readsSettings_2 G N a0 a2) N a1 h
abbrev mX2_readsSettings : MI := (RX2, cX2_readsSettings, 4, none, [], 4, 86, "readsSettings")
theorem tX2_readsSettings {G : GG} {l : Launch} (hs : l.stackTraces = false) {N : Nat} {a0 : Option Nat} {a1 : Int32} {a2 : Int32} {h : Hp} {r : Unit ⊕ Nat} {hf : Hp} (ho : sX2_readsSettings G N a0 a1 a2 h = some (r, hf)) : gMet G l yX2_readsSettings (ws_ yX2_readsSettings cX2_readsSettings 4 none) 4 86 [gr a0, gi a1, gi a2] h cvU r hf := by
  refine gMet.of ho hs (plainFor_of_name pn_X2) rfl rfl (gbl rfl) fun X => ?_
  show gT G l X mX2_readsSettings cvU r hf 0 [(0, gr a0), (1, gi a1), (2, gi a2)] [] h (sX2_readsSettings G N a0 a1 a2 h)
  delta sX2_readsSettings
  refine g_iload_n (pc := 0) (x := a1) 1 rfl rfl dX2_readsSettings_0 ?_
  refine g_istore_n (pc := 1) (lv' := [(3, gi a1), (0, gr a0), (2, gi a2)]) [0, 1, 3] rfl rfl (gblt rfl) dX2_readsSettings_1 ?_
  refine g_sub (lv' := [(0, gr a0), (2, gi a2), (3, gi a1)]) [1, 2, 0] rfl ?_
  refine g_loop (pc := 2) (fun (x1 : Int32) => [(0, gr a0), (2, gi a2), (3, gi x1)]) (fun (_ : Int32) => []) (fun w3 Hw3 x1 h2 => ?_) N a1 h
  delta bX2_readsSettings_2
  refine g_iload_n (pc := 2) (x := x1) 2 rfl rfl dX2_readsSettings_2 ?_
  refine g_iload_n (pc := 3) (x := a2) 1 rfl rfl dX2_readsSettings_3 ?_
  refine g_icmp_gt (pc := 4) (tgt := 33) rfl dX2_readsSettings_4 ?_ ?_
  · exact g_return (pc := 33) rfl dX2_readsSettings_33
  refine g_aload_n (pc := 7) (x := a0) 0 rfl rfl dX2_readsSettings_7 ?_
  refine g_getfr (pc := 8) k_18 (gblt rfl) lk_X2_9_18 dX2_readsSettings_8 fun v4 => ?_
  refine g_iload_n (pc := 11) (x := x1) 2 rfl rfl dX2_readsSettings_11 ?_
  refine g_aload_n (pc := 12) (x := a0) 0 rfl rfl dX2_readsSettings_12 ?_
  refine g_aload_n (pc := 13) (x := a0) 0 rfl rfl dX2_readsSettings_13 ?_
  refine g_iload_n (pc := 14) (x := x1) 2 rfl rfl dX2_readsSettings_14 ?_
  refine g_bVi (pc := 15) (y := yX2_lowOf) (ws := ws_ yX2_lowOf cX2_lowOf 2 (some .int)) (fr := 0) (lo := 0) (as := [gi x1]) (st := [gr a0, gi x1, gr v4]) (g_no) rfl (fun _ _ _ e => tX2_lowOf hs e) (fun K _ _ _ hq hM R e1 e2 => g_runV (M := mX2_readsSettings) (pc := 15) (y := yX2_lowOf) (bytes := cX2_lowOf) (maxL := 2) (ret := (some .int)) (fr := 0) (lo := 0) (as := [gi x1]) (st := [gr a0, gi x1, gr v4]) hq (C := "FlareSlopesModel") rfl gy_X2_lowOf (gbl rfl) (gbl rfl) (gbl rfl) q4092 q4094 qs65 dX2_readsSettings_15 K hM R e1 e2) fun v5 h6 => ?_
  refine g_aload_n (pc := 18) (x := a0) 0 rfl rfl dX2_readsSettings_18 ?_
  refine g_iload_n (pc := 19) (x := x1) 2 rfl rfl dX2_readsSettings_19 ?_
  refine g_bVi (pc := 20) (y := yX2_highOf) (ws := ws_ yX2_highOf cX2_highOf 2 (some .int)) (fr := 0) (lo := 0) (as := [gi x1]) (st := [gi v5, gr a0, gi x1, gr v4]) (g_no) rfl (fun _ _ _ e => tX2_highOf hs e) (fun K _ _ _ hq hM R e1 e2 => g_runV (M := mX2_readsSettings) (pc := 20) (y := yX2_highOf) (bytes := cX2_highOf) (maxL := 2) (ret := (some .int)) (fr := 0) (lo := 0) (as := [gi x1]) (st := [gi v5, gr a0, gi x1, gr v4]) hq (C := "FlareSlopesModel") rfl gy_X2_highOf (gbl rfl) (gbl rfl) (gbl rfl) q4096 q4098 qs66 dX2_readsSettings_20 K hM R e1 e2) fun v7 h8 => ?_
  refine g_bVi (pc := 23) (y := yX2_number) (ws := ws_ yX2_number cX2_number 4 (some .int)) (fr := 3) (lo := 63) (as := [gi v5, gi v7]) (st := [gi x1, gr v4]) (g_no) rfl (fun _ _ _ e => tX2_number hs e) (fun K _ _ _ hq hM R e1 e2 => g_runV (M := mX2_readsSettings) (pc := 23) (y := yX2_number) (bytes := cX2_number) (maxL := 4) (ret := (some .int)) (fr := 3) (lo := 63) (as := [gi v5, gi v7]) (st := [gi x1, gr v4]) hq (C := "FlareSlopesModel") rfl gy_X2_number (gbl rfl) (gbl rfl) (gbl rfl) q4100 q4102 qs67 dX2_readsSettings_23 K hM R e1 e2) fun v9 h10 => ?_
  refine g_iastore (pc := 26) rfl dX2_readsSettings_26 fun h11 => ?_
  refine g_iinc (pc := 27) (v := x1 + (1 : Int32)) 2 rfl (ii_1 _) (lv' := [(3, gi (x1 + (1 : Int32))), (0, gr a0), (2, gi a2)]) [0, 1, 2] rfl (gblt rfl) dX2_readsSettings_27 ?_
  refine g_goto (pc := 30) (tgt := 2) rfl dX2_readsSettings_30 ?_
  exact g_sub [1, 2, 0] rfl (Hw3 (x1 + (1 : Int32)) h11)
/-! FlareSlopesModel.takesSemi()V -/
noncomputable def sX2_takesSemi (G : GG) (N : Nat) (a0 : Option Nat) (h : Hp) : Out (Unit) :=
  bV h a0 18 (fun q12 => sX2_is G N (some q12) (4 : Int32) h) fun v1 h2 =>
  gJ (fun (x3 : Unit) (h4 : Hp) =>
  bV h4 a0 18 (fun q8 => sX2_next G N (some q8) h4) fun v6 h7 =>
  some (.inl (), h7)) fun j5 =>
  if v1 = 0 then (bV h2 a0 18 (fun q11 => sX2_faults G N (some q11) (1 : Int32) h2) fun v9 h10 =>
  j5 () h10)
  else j5 () h2
abbrev mX2_takesSemi : MI := (RX2, cX2_takesSemi, 1, none, [], 3, 63, "takesSemi")
theorem tX2_takesSemi {G : GG} {l : Launch} (hs : l.stackTraces = false) {N : Nat} {a0 : Option Nat} {h : Hp} {r : Unit ⊕ Nat} {hf : Hp} (ho : sX2_takesSemi G N a0 h = some (r, hf)) : gMet G l yX2_takesSemi (ws_ yX2_takesSemi cX2_takesSemi 1 none) 3 63 [gr a0] h cvU r hf := by
  refine gMet.of ho hs (plainFor_of_name pn_X2) rfl rfl (gbl rfl) fun X => ?_
  show gT G l X mX2_takesSemi cvU r hf 0 [(0, gr a0)] [] h (sX2_takesSemi G N a0 h)
  delta sX2_takesSemi
  refine g_aload_n (pc := 0) (x := a0) 0 rfl rfl dX2_takesSemi_0 ?_
  refine g_iconst (pc := 1) (v := (4 : Int32)) ic_4 dX2_takesSemi_1 ?_
  refine g_bVi (pc := 2) (y := yX2_is) (ws := ws_ yX2_is cX2_is 2 (some .boolean)) (fr := 0) (lo := 0) (as := [gi (4 : Int32)]) (st := []) (g_no) rfl (fun _ _ _ e => tX2_is hs e) (fun K _ _ _ hq hM R e1 e2 => g_runV (M := mX2_takesSemi) (pc := 2) (y := yX2_is) (bytes := cX2_is) (maxL := 2) (ret := (some .boolean)) (fr := 0) (lo := 0) (as := [gi (4 : Int32)]) (st := []) hq (C := "FlareSlopesModel") rfl gy_X2_is (gbl rfl) (gbl rfl) (gbl rfl) q4078 q4080 qs62 dX2_takesSemi_2 K hM R e1 e2) fun v1 h2 => ?_
  refine g_join 13 (fun (x3 : Unit) => [(0, gr a0)]) (fun (x3 : Unit) => []) (fun x3 h4 => ?_) (fun j5 Hj5 => ?_)
  · refine g_aload_n (pc := 13) (x := a0) 0 rfl rfl dX2_takesSemi_13 ?_
    refine g_bVu (pc := 14) (y := yX2_next) (ws := ws_ yX2_next cX2_next 1 none) (fr := 2) (lo := 43) (as := []) (st := []) (g_no) rfl (fun _ _ _ e => tX2_next hs e) (fun K _ _ _ hq hM R e1 e2 => g_runV (M := mX2_takesSemi) (pc := 14) (y := yX2_next) (bytes := cX2_next) (maxL := 1) (ret := none) (fr := 2) (lo := 43) (as := []) (st := []) hq (C := "FlareSlopesModel") rfl gy_X2_next (gbl rfl) (gbl rfl) (gbl rfl) q4051 q4053 qs56 dX2_takesSemi_14 K hM R e1 e2) fun v6 h7 => ?_
    exact g_return (pc := 17) rfl dX2_takesSemi_17
  refine g_if_ne (pc := 5) (tgt := 13) rfl dX2_takesSemi_5 ?_ ?_
  rotate_left
  · exact Hj5 () h2
  refine g_aload_n (pc := 8) (x := a0) 0 rfl rfl dX2_takesSemi_8 ?_
  refine g_iconst (pc := 9) (v := (1 : Int32)) ic_1 dX2_takesSemi_9 ?_
  refine g_bVu (pc := 10) (y := yX2_faults) (ws := ws_ yX2_faults cX2_faults 2 none) (fr := 0) (lo := 0) (as := [gi (1 : Int32)]) (st := []) (g_no) rfl (fun _ _ _ e => tX2_faults hs e) (fun K _ _ _ hq hM R e1 e2 => g_runV (M := mX2_takesSemi) (pc := 10) (y := yX2_faults) (bytes := cX2_faults) (maxL := 2) (ret := none) (fr := 0) (lo := 0) (as := [gi (1 : Int32)]) (st := []) hq (C := "FlareSlopesModel") rfl gy_X2_faults (gbl rfl) (gbl rfl) (gbl rfl) q4084 q4086 qs63 dX2_takesSemi_10 K hM R e1 e2) fun v9 h10 => ?_
  exact Hj5 () h10
/-! FlareSlopesModel.begins(II)V -/
noncomputable def sX2_begins (G : GG) (N : Nat) (a0 : Option Nat) (a1 : Int32) (a2 : Int32) (h : Hp) : Out (Unit) :=
  gFr h a0 18 1 fun v1 =>
  gAi h v1 0 a1 fun v2 =>
  gJ (fun (x3 : Unit) (h4 : Hp) =>
  bV h4 a0 18 (fun q8 => sX2_next G N (some q8) h4) fun v6 h7 =>
  some (.inl (), h7)) fun j5 =>
  if v2 = a2 then (bV h a0 18 (fun q11 => sX2_faults G N (some q11) (4 : Int32) h) fun v9 h10 =>
  j5 () h10)
  else j5 () h
abbrev mX2_begins : MI := (RX2, cX2_begins, 3, none, [], 3, 63, "begins")
theorem tX2_begins {G : GG} {l : Launch} (hs : l.stackTraces = false) {N : Nat} {a0 : Option Nat} {a1 : Int32} {a2 : Int32} {h : Hp} {r : Unit ⊕ Nat} {hf : Hp} (ho : sX2_begins G N a0 a1 a2 h = some (r, hf)) : gMet G l yX2_begins (ws_ yX2_begins cX2_begins 3 none) 3 63 [gr a0, gi a1, gi a2] h cvU r hf := by
  refine gMet.of ho hs (plainFor_of_name pn_X2) rfl rfl (gbl rfl) fun X => ?_
  show gT G l X mX2_begins cvU r hf 0 [(0, gr a0), (1, gi a1), (2, gi a2)] [] h (sX2_begins G N a0 a1 a2 h)
  delta sX2_begins
  refine g_aload_n (pc := 0) (x := a0) 0 rfl rfl dX2_begins_0 ?_
  refine g_getfr (pc := 1) k_18 (gblt rfl) lk_X2_9_18 dX2_begins_1 fun v1 => ?_
  refine g_iload_n (pc := 4) (x := a1) 1 rfl rfl dX2_begins_4 ?_
  refine g_iaload (pc := 5) rfl dX2_begins_5 fun v2 => ?_
  refine g_iload_n (pc := 6) (x := a2) 2 rfl rfl dX2_begins_6 ?_
  refine g_join 15 (fun (x3 : Unit) => [(0, gr a0)]) (fun (x3 : Unit) => []) (fun x3 h4 => ?_) (fun j5 Hj5 => ?_)
  · refine g_aload_n (pc := 15) (x := a0) 0 rfl rfl dX2_begins_15 ?_
    refine g_bVu (pc := 16) (y := yX2_next) (ws := ws_ yX2_next cX2_next 1 none) (fr := 2) (lo := 43) (as := []) (st := []) (g_no) rfl (fun _ _ _ e => tX2_next hs e) (fun K _ _ _ hq hM R e1 e2 => g_runV (M := mX2_begins) (pc := 16) (y := yX2_next) (bytes := cX2_next) (maxL := 1) (ret := none) (fr := 2) (lo := 43) (as := []) (st := []) hq (C := "FlareSlopesModel") rfl gy_X2_next (gbl rfl) (gbl rfl) (gbl rfl) q4051 q4053 qs56 dX2_begins_16 K hM R e1 e2) fun v6 h7 => ?_
    exact g_return (pc := 19) rfl dX2_begins_19
  refine g_icmp_ne (pc := 7) (tgt := 15) rfl dX2_begins_7 ?_ ?_
  rotate_left
  · exact g_sub [0] rfl (Hj5 () h)
  refine g_aload_n (pc := 10) (x := a0) 0 rfl rfl dX2_begins_10 ?_
  refine g_iconst (pc := 11) (v := (4 : Int32)) ic_4 dX2_begins_11 ?_
  refine g_bVu (pc := 12) (y := yX2_faults) (ws := ws_ yX2_faults cX2_faults 2 none) (fr := 0) (lo := 0) (as := [gi (4 : Int32)]) (st := []) (g_no) rfl (fun _ _ _ e => tX2_faults hs e) (fun K _ _ _ hq hM R e1 e2 => g_runV (M := mX2_begins) (pc := 12) (y := yX2_faults) (bytes := cX2_faults) (maxL := 2) (ret := none) (fr := 0) (lo := 0) (as := [gi (4 : Int32)]) (st := []) hq (C := "FlareSlopesModel") rfl gy_X2_faults (gbl rfl) (gbl rfl) (gbl rfl) q4084 q4086 qs63 dX2_begins_12 K hM R e1 e2) fun v9 h10 => ?_
  exact g_sub [0] rfl (Hj5 () h10)
/-! FlareSlopesModel.newName(II)J -/
noncomputable def bX2_newName_15 (G : GG) (N : Nat) (a0 : Option Nat) (a1 : Int32) (a2 : Int32) (j8 : (Unit) → Hp → Out (Int64)) (w15 : (Int32) → Hp → Out (Int64)) (x13 : Int32) (h14 : Hp) : Out (Int64) :=
  if (a1 + a2) ≤ x13 then (j8 () h14)
  else bV h14 a0 18 (fun q27 => sX2_is G N (some q27) (2 : Int32) h14) fun v16 h17 =>
  gJ (fun (x18 : Unit) (h19 : Hp) =>
  w15 (x13 + (1 : Int32)) h19) fun j20 =>
  if v16 = 0 then (j20 () h17)
  else gFr h17 a0 18 7 fun v21 =>
  gAl h17 v21 3 x13 fun v22 =>
  gFl h17 a0 18 19 fun v23 =>
  if (lg_cmp v22 v23) = 0 then (bV h17 a0 18 (fun q26 => sX2_faults G N (some q26) (3 : Int32) h17) fun v24 h25 =>
  j20 () h25)
  else j20 () h17
noncomputable def sX2_newName (G : GG) (N : Nat) (a0 : Option Nat) (a1 : Int32) (a2 : Int32) (h : Hp) : Out (Int64) :=
  bV h a0 18 (fun q31 => sX2_is G N (some q31) (2 : Int32) h) fun v1 h2 =>
  gJ (fun (x3 : Unit) (h4 : Hp) =>
  gJ (fun (x6 : Unit) (h7 : Hp) =>
  gFl h7 a0 18 19 fun v9 =>
  bV h7 a0 18 (fun q12 => sX2_next G N (some q12) h7) fun v10 h11 =>
  some (.inl v9, h11)) fun j8 =>
  gLp (bX2_newName_15 G N a0 a1 a2 j8) N a1 h4) fun j5 =>
  if v1 = 0 then (bV h2 a0 18 (fun q30 => sX2_faults G N (some q30) (1 : Int32) h2) fun v28 h29 =>
  j5 () h29)
  else j5 () h2
abbrev mX2_newName : MI := (RX2, cX2_newName, 5, (some .long), [], 3, 63, "newName")
theorem tX2_newName {G : GG} {l : Launch} (hs : l.stackTraces = false) {N : Nat} {a0 : Option Nat} {a1 : Int32} {a2 : Int32} {h : Hp} {r : Int64 ⊕ Nat} {hf : Hp} (ho : sX2_newName G N a0 a1 a2 h = some (r, hf)) : gMet G l yX2_newName (ws_ yX2_newName cX2_newName 5 (some .long)) 3 63 [gr a0, gi a1, gi a2] h cvL r hf := by
  refine gMet.of ho hs (plainFor_of_name pn_X2) rfl rfl (gbl rfl) fun X => ?_
  show gT G l X mX2_newName cvL r hf 0 [(0, gr a0), (1, gi a1), (2, gi a2)] [] h (sX2_newName G N a0 a1 a2 h)
  delta sX2_newName
  refine g_aload_n (pc := 0) (x := a0) 0 rfl rfl dX2_newName_0 ?_
  refine g_iconst (pc := 1) (v := (2 : Int32)) ic_2 dX2_newName_1 ?_
  refine g_bVi (pc := 2) (y := yX2_is) (ws := ws_ yX2_is cX2_is 2 (some .boolean)) (fr := 0) (lo := 0) (as := [gi (2 : Int32)]) (st := []) (g_no) rfl (fun _ _ _ e => tX2_is hs e) (fun K _ _ _ hq hM R e1 e2 => g_runV (M := mX2_newName) (pc := 2) (y := yX2_is) (bytes := cX2_is) (maxL := 2) (ret := (some .boolean)) (fr := 0) (lo := 0) (as := [gi (2 : Int32)]) (st := []) hq (C := "FlareSlopesModel") rfl gy_X2_is (gbl rfl) (gbl rfl) (gbl rfl) q4078 q4080 qs62 dX2_newName_2 K hM R e1 e2) fun v1 h2 => ?_
  refine g_join 13 (fun (x3 : Unit) => [(0, gr a0), (1, gi a1), (2, gi a2)]) (fun (x3 : Unit) => []) (fun x3 h4 => ?_) (fun j5 Hj5 => ?_)
  · refine g_iload_n (pc := 13) (x := a1) 1 rfl rfl dX2_newName_13 ?_
    refine g_istore_n (pc := 14) (lv' := [(3, gi a1), (0, gr a0), (1, gi a1), (2, gi a2)]) [0, 1, 2, 3] rfl rfl (gblt rfl) dX2_newName_14 ?_
    refine g_join 55 (fun (x6 : Unit) => [(0, gr a0)]) (fun (x6 : Unit) => []) (fun x6 h7 => ?_) (fun j8 Hj8 => ?_)
    · refine g_aload_n (pc := 55) (x := a0) 0 rfl rfl dX2_newName_55 ?_
      refine g_getfl (pc := 56) k_18 (gblt rfl) lk_X2_89_18 dX2_newName_56 fun v9 => ?_
      refine g_lstore_n (pc := 59) (lv' := [(3, gl v9), (0, gr a0)]) [0, 1] rfl rfl (gblt rfl) dX2_newName_59 ?_
      refine g_aload_n (pc := 60) (x := a0) 1 rfl rfl dX2_newName_60 ?_
      refine g_bVu (pc := 61) (y := yX2_next) (ws := ws_ yX2_next cX2_next 1 none) (fr := 2) (lo := 43) (as := []) (st := []) (g_no) rfl (fun _ _ _ e => tX2_next hs e) (fun K _ _ _ hq hM R e1 e2 => g_runV (M := mX2_newName) (pc := 61) (y := yX2_next) (bytes := cX2_next) (maxL := 1) (ret := none) (fr := 2) (lo := 43) (as := []) (st := []) hq (C := "FlareSlopesModel") rfl gy_X2_next (gbl rfl) (gbl rfl) (gbl rfl) q4051 q4053 qs56 dX2_newName_61 K hM R e1 e2) fun v10 h11 => ?_
      refine g_lload_n (pc := 64) (x := v9) 0 rfl rfl dX2_newName_64 ?_
      exact g_lreturn (pc := 65) rfl dX2_newName_65
    refine g_sub (lv' := [(0, gr a0), (1, gi a1), (2, gi a2), (3, gi a1)]) [1, 2, 3, 0] rfl ?_
    refine g_loop (pc := 15) (fun (x13 : Int32) => [(0, gr a0), (1, gi a1), (2, gi a2), (3, gi x13)]) (fun (_ : Int32) => []) (fun w15 Hw15 x13 h14 => ?_) N a1 h4
    delta bX2_newName_15
    refine g_iload_n (pc := 15) (x := x13) 3 rfl rfl dX2_newName_15 ?_
    refine g_iload_n (pc := 16) (x := a1) 1 rfl rfl dX2_newName_16 ?_
    refine g_iload_n (pc := 17) (x := a2) 2 rfl rfl dX2_newName_17 ?_
    refine g_iadd (pc := 18) dX2_newName_18 ?_
    refine g_icmp_ge (pc := 19) (tgt := 55) rfl dX2_newName_19 ?_ ?_
    · exact g_sub [0] rfl (Hj8 () h14)
    refine g_aload_n (pc := 22) (x := a0) 0 rfl rfl dX2_newName_22 ?_
    refine g_iconst (pc := 23) (v := (2 : Int32)) ic_2 dX2_newName_23 ?_
    refine g_bVi (pc := 24) (y := yX2_is) (ws := ws_ yX2_is cX2_is 2 (some .boolean)) (fr := 0) (lo := 0) (as := [gi (2 : Int32)]) (st := []) (g_no) rfl (fun _ _ _ e => tX2_is hs e) (fun K _ _ _ hq hM R e1 e2 => g_runV (M := mX2_newName) (pc := 24) (y := yX2_is) (bytes := cX2_is) (maxL := 2) (ret := (some .boolean)) (fr := 0) (lo := 0) (as := [gi (2 : Int32)]) (st := []) hq (C := "FlareSlopesModel") rfl gy_X2_is (gbl rfl) (gbl rfl) (gbl rfl) q4078 q4080 qs62 dX2_newName_24 K hM R e1 e2) fun v16 h17 => ?_
    refine g_join 49 (fun (x18 : Unit) => [(0, gr a0), (1, gi a1), (2, gi a2), (3, gi x13)]) (fun (x18 : Unit) => []) (fun x18 h19 => ?_) (fun j20 Hj20 => ?_)
    · refine g_iinc (pc := 49) (v := x13 + (1 : Int32)) 3 rfl (ii_1 _) (lv' := [(3, gi (x13 + (1 : Int32))), (0, gr a0), (1, gi a1), (2, gi a2)]) [0, 1, 2, 3] rfl (gblt rfl) dX2_newName_49 ?_
      refine g_goto (pc := 52) (tgt := 15) rfl dX2_newName_52 ?_
      exact g_sub [1, 2, 3, 0] rfl (Hw15 (x13 + (1 : Int32)) h19)
    refine g_if_eq (pc := 27) (tgt := 49) rfl dX2_newName_27 ?_ ?_
    · exact Hj20 () h17
    refine g_aload_n (pc := 30) (x := a0) 0 rfl rfl dX2_newName_30 ?_
    refine g_getfr (pc := 31) k_18 (gblt rfl) lk_X2_30_18 dX2_newName_31 fun v21 => ?_
    refine g_iload_n (pc := 34) (x := x13) 3 rfl rfl dX2_newName_34 ?_
    refine g_laload (pc := 35) rfl dX2_newName_35 fun v22 => ?_
    refine g_aload_n (pc := 36) (x := a0) 0 rfl rfl dX2_newName_36 ?_
    refine g_getfl (pc := 37) k_18 (gblt rfl) lk_X2_89_18 dX2_newName_37 fun v23 => ?_
    refine g_lcmp (pc := 40) dX2_newName_40 ?_
    refine g_if_ne (pc := 41) (tgt := 49) rfl dX2_newName_41 ?_ ?_
    rotate_left
    · exact Hj20 () h17
    refine g_aload_n (pc := 44) (x := a0) 0 rfl rfl dX2_newName_44 ?_
    refine g_iconst (pc := 45) (v := (3 : Int32)) ic_3 dX2_newName_45 ?_
    refine g_bVu (pc := 46) (y := yX2_faults) (ws := ws_ yX2_faults cX2_faults 2 none) (fr := 0) (lo := 0) (as := [gi (3 : Int32)]) (st := []) (g_no) rfl (fun _ _ _ e => tX2_faults hs e) (fun K _ _ _ hq hM R e1 e2 => g_runV (M := mX2_newName) (pc := 46) (y := yX2_faults) (bytes := cX2_faults) (maxL := 2) (ret := none) (fr := 0) (lo := 0) (as := [gi (3 : Int32)]) (st := []) hq (C := "FlareSlopesModel") rfl gy_X2_faults (gbl rfl) (gbl rfl) (gbl rfl) q4084 q4086 qs63 dX2_newName_46 K hM R e1 e2) fun v24 h25 => ?_
    exact Hj20 () h25
  refine g_if_ne (pc := 5) (tgt := 13) rfl dX2_newName_5 ?_ ?_
  rotate_left
  · exact Hj5 () h2
  refine g_aload_n (pc := 8) (x := a0) 0 rfl rfl dX2_newName_8 ?_
  refine g_iconst (pc := 9) (v := (1 : Int32)) ic_1 dX2_newName_9 ?_
  refine g_bVu (pc := 10) (y := yX2_faults) (ws := ws_ yX2_faults cX2_faults 2 none) (fr := 0) (lo := 0) (as := [gi (1 : Int32)]) (st := []) (g_no) rfl (fun _ _ _ e => tX2_faults hs e) (fun K _ _ _ hq hM R e1 e2 => g_runV (M := mX2_newName) (pc := 10) (y := yX2_faults) (bytes := cX2_faults) (maxL := 2) (ret := none) (fr := 0) (lo := 0) (as := [gi (1 : Int32)]) (st := []) hq (C := "FlareSlopesModel") rfl gy_X2_faults (gbl rfl) (gbl rfl) (gbl rfl) q4084 q4086 qs63 dX2_newName_10 K hM R e1 e2) fun v28 h29 => ?_
  exact Hj5 () h29
/-! FlareSlopesModel.readsPlace(I)V -/
noncomputable def sX2_readsPlace (G : GG) (N : Nat) (a0 : Option Nat) (a1 : Int32) (h : Hp) : Out (Unit) :=
  gFr h a0 18 1 fun v1 =>
  bV h a0 18 (fun q15 => sX2_number G N (some q15) (0 : Int32) (99 : Int32) h) fun v2 h3 =>
  gSi G h3 v1 0 a1 v2 fun h4 =>
  gFr h4 a0 18 1 fun v5 =>
  bV h4 a0 18 (fun q14 => sX2_number G N (some q14) (0 : Int32) (99 : Int32) h4) fun v6 h7 =>
  gSi G h7 v5 0 (a1 + (1 : Int32)) v6 fun h8 =>
  gFr h8 a0 18 1 fun v9 =>
  bV h8 a0 18 (fun q13 => sX2_number G N (some q13) (0 : Int32) (999 : Int32) h8) fun v10 h11 =>
  gSi G h11 v9 0 (a1 + (2 : Int32)) v10 fun h12 =>
  some (.inl (), h12)
abbrev mX2_readsPlace : MI := (RX2, cX2_readsPlace, 2, none, [], 4, 86, "readsPlace")
theorem tX2_readsPlace {G : GG} {l : Launch} (hs : l.stackTraces = false) {N : Nat} {a0 : Option Nat} {a1 : Int32} {h : Hp} {r : Unit ⊕ Nat} {hf : Hp} (ho : sX2_readsPlace G N a0 a1 h = some (r, hf)) : gMet G l yX2_readsPlace (ws_ yX2_readsPlace cX2_readsPlace 2 none) 4 86 [gr a0, gi a1] h cvU r hf := by
  refine gMet.of ho hs (plainFor_of_name pn_X2) rfl rfl (gbl rfl) fun X => ?_
  show gT G l X mX2_readsPlace cvU r hf 0 [(0, gr a0), (1, gi a1)] [] h (sX2_readsPlace G N a0 a1 h)
  delta sX2_readsPlace
  refine g_aload_n (pc := 0) (x := a0) 0 rfl rfl dX2_readsPlace_0 ?_
  refine g_getfr (pc := 1) k_18 (gblt rfl) lk_X2_9_18 dX2_readsPlace_1 fun v1 => ?_
  refine g_iload_n (pc := 4) (x := a1) 1 rfl rfl dX2_readsPlace_4 ?_
  refine g_aload_n (pc := 5) (x := a0) 0 rfl rfl dX2_readsPlace_5 ?_
  refine g_iconst (pc := 6) (v := (0 : Int32)) ic_0 dX2_readsPlace_6 ?_
  refine g_bipush (pc := 7) (v := (99 : Int32)) bc_99 dX2_readsPlace_7 ?_
  refine g_bVi (pc := 9) (y := yX2_number) (ws := ws_ yX2_number cX2_number 4 (some .int)) (fr := 3) (lo := 63) (as := [gi (0 : Int32), gi (99 : Int32)]) (st := [gi a1, gr v1]) (g_no) rfl (fun _ _ _ e => tX2_number hs e) (fun K _ _ _ hq hM R e1 e2 => g_runV (M := mX2_readsPlace) (pc := 9) (y := yX2_number) (bytes := cX2_number) (maxL := 4) (ret := (some .int)) (fr := 3) (lo := 63) (as := [gi (0 : Int32), gi (99 : Int32)]) (st := [gi a1, gr v1]) hq (C := "FlareSlopesModel") rfl gy_X2_number (gbl rfl) (gbl rfl) (gbl rfl) q4100 q4102 qs67 dX2_readsPlace_9 K hM R e1 e2) fun v2 h3 => ?_
  refine g_iastore (pc := 12) rfl dX2_readsPlace_12 fun h4 => ?_
  refine g_aload_n (pc := 13) (x := a0) 0 rfl rfl dX2_readsPlace_13 ?_
  refine g_getfr (pc := 14) k_18 (gblt rfl) lk_X2_9_18 dX2_readsPlace_14 fun v5 => ?_
  refine g_iload_n (pc := 17) (x := a1) 1 rfl rfl dX2_readsPlace_17 ?_
  refine g_iconst (pc := 18) (v := (1 : Int32)) ic_1 dX2_readsPlace_18 ?_
  refine g_iadd (pc := 19) dX2_readsPlace_19 ?_
  refine g_aload_n (pc := 20) (x := a0) 0 rfl rfl dX2_readsPlace_20 ?_
  refine g_iconst (pc := 21) (v := (0 : Int32)) ic_0 dX2_readsPlace_21 ?_
  refine g_bipush (pc := 22) (v := (99 : Int32)) bc_99 dX2_readsPlace_22 ?_
  refine g_bVi (pc := 24) (y := yX2_number) (ws := ws_ yX2_number cX2_number 4 (some .int)) (fr := 3) (lo := 63) (as := [gi (0 : Int32), gi (99 : Int32)]) (st := [gi (a1 + (1 : Int32)), gr v5]) (g_no) rfl (fun _ _ _ e => tX2_number hs e) (fun K _ _ _ hq hM R e1 e2 => g_runV (M := mX2_readsPlace) (pc := 24) (y := yX2_number) (bytes := cX2_number) (maxL := 4) (ret := (some .int)) (fr := 3) (lo := 63) (as := [gi (0 : Int32), gi (99 : Int32)]) (st := [gi (a1 + (1 : Int32)), gr v5]) hq (C := "FlareSlopesModel") rfl gy_X2_number (gbl rfl) (gbl rfl) (gbl rfl) q4100 q4102 qs67 dX2_readsPlace_24 K hM R e1 e2) fun v6 h7 => ?_
  refine g_iastore (pc := 27) rfl dX2_readsPlace_27 fun h8 => ?_
  refine g_aload_n (pc := 28) (x := a0) 0 rfl rfl dX2_readsPlace_28 ?_
  refine g_getfr (pc := 29) k_18 (gblt rfl) lk_X2_9_18 dX2_readsPlace_29 fun v9 => ?_
  refine g_iload_n (pc := 32) (x := a1) 1 rfl rfl dX2_readsPlace_32 ?_
  refine g_iconst (pc := 33) (v := (2 : Int32)) ic_2 dX2_readsPlace_33 ?_
  refine g_iadd (pc := 34) dX2_readsPlace_34 ?_
  refine g_aload_n (pc := 35) (x := a0) 0 rfl rfl dX2_readsPlace_35 ?_
  refine g_iconst (pc := 36) (v := (0 : Int32)) ic_0 dX2_readsPlace_36 ?_
  refine g_sipush (pc := 37) (v := (999 : Int32)) sc_999 dX2_readsPlace_37 ?_
  refine g_bVi (pc := 40) (y := yX2_number) (ws := ws_ yX2_number cX2_number 4 (some .int)) (fr := 3) (lo := 63) (as := [gi (0 : Int32), gi (999 : Int32)]) (st := [gi (a1 + (2 : Int32)), gr v9]) (g_no) rfl (fun _ _ _ e => tX2_number hs e) (fun K _ _ _ hq hM R e1 e2 => g_runV (M := mX2_readsPlace) (pc := 40) (y := yX2_number) (bytes := cX2_number) (maxL := 4) (ret := (some .int)) (fr := 3) (lo := 63) (as := [gi (0 : Int32), gi (999 : Int32)]) (st := [gi (a1 + (2 : Int32)), gr v9]) hq (C := "FlareSlopesModel") rfl gy_X2_number (gbl rfl) (gbl rfl) (gbl rfl) q4100 q4102 qs67 dX2_readsPlace_40 K hM R e1 e2) fun v10 h11 => ?_
  refine g_iastore (pc := 43) rfl dX2_readsPlace_43 fun h12 => ?_
  exact g_return (pc := 44) rfl dX2_readsPlace_44
/-! FlareSlopesModel.readsCabin()V -/
noncomputable def sX2_readsCabin (G : GG) (N : Nat) (a0 : Option Nat) (h : Hp) : Out (Unit) :=
  bV h a0 18 (fun q26 => sX2_begins G N (some q26) (6 : Int32) (10 : Int32) h) fun v1 h2 =>
  gFr h2 a0 18 1 fun v3 =>
  gAi h2 v3 0 (6 : Int32) fun v4 =>
  gFi h2 a0 18 12 fun v5 =>
  if v5 ≤ 0 then (gFr h2 a0 18 7 fun v6 =>
  bV h2 a0 18 (fun q25 => sX2_newName G N (some q25) (0 : Int32) v4 h2) fun v7 h8 =>
  gSl G h8 v6 3 v4 v7 fun h9 =>
  bV h9 a0 18 (fun q24 => sX2_readsPlace G N (some q24) ((10 : Int32) + ((3 : Int32) * v4)) h9) fun v10 h11 =>
  gFr h11 a0 18 1 fun v12 =>
  bV h11 a0 18 (fun q23 => sX2_number G N (some q23) (0 : Int32) (99 : Int32) h11) fun v13 h14 =>
  gSi G h14 v12 0 ((148 : Int32) + v4) v13 fun h15 =>
  gFr h15 a0 18 1 fun v16 =>
  gSi G h15 v16 0 ((158 : Int32) + v4) (100 : Int32) fun h17 =>
  gFr h17 a0 18 1 fun v18 =>
  gSi G h17 v18 0 ((168 : Int32) + v4) (-1 : Int32) fun h19 =>
  gFr h19 a0 18 1 fun v20 =>
  gAi h19 v20 0 (6 : Int32) fun v21 =>
  gSi G h19 v20 0 (6 : Int32) (v21 + (1 : Int32)) fun h22 =>
  some (.inl (), h22))
  else some (.inl (), h2)
abbrev mX2_readsCabin : MI := (RX2, cX2_readsCabin, 2, none, [], 5, 107, "readsCabin")
theorem tX2_readsCabin {G : GG} {l : Launch} (hs : l.stackTraces = false) {N : Nat} {a0 : Option Nat} {h : Hp} {r : Unit ⊕ Nat} {hf : Hp} (ho : sX2_readsCabin G N a0 h = some (r, hf)) : gMet G l yX2_readsCabin (ws_ yX2_readsCabin cX2_readsCabin 2 none) 5 107 [gr a0] h cvU r hf := by
  refine gMet.of ho hs (plainFor_of_name pn_X2) rfl rfl (gbl rfl) fun X => ?_
  show gT G l X mX2_readsCabin cvU r hf 0 [(0, gr a0)] [] h (sX2_readsCabin G N a0 h)
  delta sX2_readsCabin
  refine g_aload_n (pc := 0) (x := a0) 0 rfl rfl dX2_readsCabin_0 ?_
  refine g_bipush (pc := 1) (v := (6 : Int32)) bc_6 dX2_readsCabin_1 ?_
  refine g_bipush (pc := 3) (v := (10 : Int32)) bc_10 dX2_readsCabin_3 ?_
  refine g_bVu (pc := 5) (y := yX2_begins) (ws := ws_ yX2_begins cX2_begins 3 none) (fr := 3) (lo := 63) (as := [gi (6 : Int32), gi (10 : Int32)]) (st := []) (g_no) rfl (fun _ _ _ e => tX2_begins hs e) (fun K _ _ _ hq hM R e1 e2 => g_runV (M := mX2_readsCabin) (pc := 5) (y := yX2_begins) (bytes := cX2_begins) (maxL := 3) (ret := none) (fr := 3) (lo := 63) (as := [gi (6 : Int32), gi (10 : Int32)]) (st := []) hq (C := "FlareSlopesModel") rfl gy_X2_begins (gbl rfl) (gbl rfl) (gbl rfl) q4114 q4116 qs70 dX2_readsCabin_5 K hM R e1 e2) fun v1 h2 => ?_
  refine g_aload_n (pc := 8) (x := a0) 0 rfl rfl dX2_readsCabin_8 ?_
  refine g_getfr (pc := 9) k_18 (gblt rfl) lk_X2_9_18 dX2_readsCabin_9 fun v3 => ?_
  refine g_bipush (pc := 12) (v := (6 : Int32)) bc_6 dX2_readsCabin_12 ?_
  refine g_iaload (pc := 14) rfl dX2_readsCabin_14 fun v4 => ?_
  refine g_istore_n (pc := 15) (lv' := [(1, gi v4), (0, gr a0)]) [0, 1] rfl rfl (gblt rfl) dX2_readsCabin_15 ?_
  refine g_aload_n (pc := 16) (x := a0) 1 rfl rfl dX2_readsCabin_16 ?_
  refine g_getfi (pc := 17) k_18 (gblt rfl) lk_X2_58_18 dX2_readsCabin_17 fun v5 => ?_
  refine g_if_le (pc := 20) (tgt := 24) rfl dX2_readsCabin_20 ?_ ?_
  rotate_left
  · exact g_return (pc := 23) rfl dX2_readsCabin_23
  refine g_aload_n (pc := 24) (x := a0) 1 rfl rfl dX2_readsCabin_24 ?_
  refine g_getfr (pc := 25) k_18 (gblt rfl) lk_X2_30_18 dX2_readsCabin_25 fun v6 => ?_
  refine g_iload_n (pc := 28) (x := v4) 0 rfl rfl dX2_readsCabin_28 ?_
  refine g_aload_n (pc := 29) (x := a0) 1 rfl rfl dX2_readsCabin_29 ?_
  refine g_iconst (pc := 30) (v := (0 : Int32)) ic_0 dX2_readsCabin_30 ?_
  refine g_iload_n (pc := 31) (x := v4) 0 rfl rfl dX2_readsCabin_31 ?_
  refine g_bVl (pc := 32) (y := yX2_newName) (ws := ws_ yX2_newName cX2_newName 5 (some .long)) (fr := 3) (lo := 63) (as := [gi (0 : Int32), gi v4]) (st := [gi v4, gr v6]) (g_no) rfl (fun _ _ _ e => tX2_newName hs e) (fun K _ _ _ hq hM R e1 e2 => g_runV (M := mX2_readsCabin) (pc := 32) (y := yX2_newName) (bytes := cX2_newName) (maxL := 5) (ret := (some .long)) (fr := 3) (lo := 63) (as := [gi (0 : Int32), gi v4]) (st := [gi v4, gr v6]) hq (C := "FlareSlopesModel") rfl gy_X2_newName (gbl rfl) (gbl rfl) (gbl rfl) q4118 q4120 qs71 dX2_readsCabin_32 K hM R e1 e2) fun v7 h8 => ?_
  refine g_lastore (pc := 35) rfl dX2_readsCabin_35 fun h9 => ?_
  refine g_aload_n (pc := 36) (x := a0) 1 rfl rfl dX2_readsCabin_36 ?_
  refine g_bipush (pc := 37) (v := (10 : Int32)) bc_10 dX2_readsCabin_37 ?_
  refine g_iconst (pc := 39) (v := (3 : Int32)) ic_3 dX2_readsCabin_39 ?_
  refine g_iload_n (pc := 40) (x := v4) 0 rfl rfl dX2_readsCabin_40 ?_
  refine g_imul (pc := 41) dX2_readsCabin_41 ?_
  refine g_iadd (pc := 42) dX2_readsCabin_42 ?_
  refine g_bVu (pc := 43) (y := yX2_readsPlace) (ws := ws_ yX2_readsPlace cX2_readsPlace 2 none) (fr := 4) (lo := 86) (as := [gi ((10 : Int32) + ((3 : Int32) * v4))]) (st := []) (g_no) rfl (fun _ _ _ e => tX2_readsPlace hs e) (fun K _ _ _ hq hM R e1 e2 => g_runV (M := mX2_readsCabin) (pc := 43) (y := yX2_readsPlace) (bytes := cX2_readsPlace) (maxL := 2) (ret := none) (fr := 4) (lo := 86) (as := [gi ((10 : Int32) + ((3 : Int32) * v4))]) (st := []) hq (C := "FlareSlopesModel") rfl gy_X2_readsPlace (gbl rfl) (gbl rfl) (gbl rfl) q4122 q4124 qs72 dX2_readsCabin_43 K hM R e1 e2) fun v10 h11 => ?_
  refine g_aload_n (pc := 46) (x := a0) 1 rfl rfl dX2_readsCabin_46 ?_
  refine g_getfr (pc := 47) k_18 (gblt rfl) lk_X2_9_18 dX2_readsCabin_47 fun v12 => ?_
  refine g_sipush (pc := 50) (v := (148 : Int32)) sc_148 dX2_readsCabin_50 ?_
  refine g_iload_n (pc := 53) (x := v4) 0 rfl rfl dX2_readsCabin_53 ?_
  refine g_iadd (pc := 54) dX2_readsCabin_54 ?_
  refine g_aload_n (pc := 55) (x := a0) 1 rfl rfl dX2_readsCabin_55 ?_
  refine g_iconst (pc := 56) (v := (0 : Int32)) ic_0 dX2_readsCabin_56 ?_
  refine g_bipush (pc := 57) (v := (99 : Int32)) bc_99 dX2_readsCabin_57 ?_
  refine g_bVi (pc := 59) (y := yX2_number) (ws := ws_ yX2_number cX2_number 4 (some .int)) (fr := 3) (lo := 63) (as := [gi (0 : Int32), gi (99 : Int32)]) (st := [gi ((148 : Int32) + v4), gr v12]) (g_no) rfl (fun _ _ _ e => tX2_number hs e) (fun K _ _ _ hq hM R e1 e2 => g_runV (M := mX2_readsCabin) (pc := 59) (y := yX2_number) (bytes := cX2_number) (maxL := 4) (ret := (some .int)) (fr := 3) (lo := 63) (as := [gi (0 : Int32), gi (99 : Int32)]) (st := [gi ((148 : Int32) + v4), gr v12]) hq (C := "FlareSlopesModel") rfl gy_X2_number (gbl rfl) (gbl rfl) (gbl rfl) q4100 q4102 qs67 dX2_readsCabin_59 K hM R e1 e2) fun v13 h14 => ?_
  refine g_iastore (pc := 62) rfl dX2_readsCabin_62 fun h15 => ?_
  refine g_aload_n (pc := 63) (x := a0) 1 rfl rfl dX2_readsCabin_63 ?_
  refine g_getfr (pc := 64) k_18 (gblt rfl) lk_X2_9_18 dX2_readsCabin_64 fun v16 => ?_
  refine g_sipush (pc := 67) (v := (158 : Int32)) sc_158 dX2_readsCabin_67 ?_
  refine g_iload_n (pc := 70) (x := v4) 0 rfl rfl dX2_readsCabin_70 ?_
  refine g_iadd (pc := 71) dX2_readsCabin_71 ?_
  refine g_bipush (pc := 72) (v := (100 : Int32)) bc_100 dX2_readsCabin_72 ?_
  refine g_iastore (pc := 74) rfl dX2_readsCabin_74 fun h17 => ?_
  refine g_aload_n (pc := 75) (x := a0) 1 rfl rfl dX2_readsCabin_75 ?_
  refine g_getfr (pc := 76) k_18 (gblt rfl) lk_X2_9_18 dX2_readsCabin_76 fun v18 => ?_
  refine g_sipush (pc := 79) (v := (168 : Int32)) sc_168 dX2_readsCabin_79 ?_
  refine g_iload_n (pc := 82) (x := v4) 0 rfl rfl dX2_readsCabin_82 ?_
  refine g_iadd (pc := 83) dX2_readsCabin_83 ?_
  refine g_iconst (pc := 84) (v := (-1 : Int32)) ic_m1 dX2_readsCabin_84 ?_
  refine g_iastore (pc := 85) rfl dX2_readsCabin_85 fun h19 => ?_
  refine g_aload_n (pc := 86) (x := a0) 1 rfl rfl dX2_readsCabin_86 ?_
  refine g_getfr (pc := 87) k_18 (gblt rfl) lk_X2_9_18 dX2_readsCabin_87 fun v20 => ?_
  refine g_bipush (pc := 90) (v := (6 : Int32)) bc_6 dX2_readsCabin_90 ?_
  refine g_dup2 (pc := 92) rfl rfl dX2_readsCabin_92 ?_
  refine g_iaload (pc := 93) rfl dX2_readsCabin_93 fun v21 => ?_
  refine g_iconst (pc := 94) (v := (1 : Int32)) ic_1 dX2_readsCabin_94 ?_
  refine g_iadd (pc := 95) dX2_readsCabin_95 ?_
  refine g_iastore (pc := 96) rfl dX2_readsCabin_96 fun h22 => ?_
  exact g_return (pc := 97) rfl dX2_readsCabin_97
/-! FlareSlopesModel.readsSlope()V -/
noncomputable def sX2_readsSlope (G : GG) (N : Nat) (a0 : Option Nat) (h : Hp) : Out (Unit) :=
  bV h a0 18 (fun q17 => sX2_begins G N (some q17) (7 : Int32) (8 : Int32) h) fun v1 h2 =>
  gFr h2 a0 18 1 fun v3 =>
  gAi h2 v3 0 (7 : Int32) fun v4 =>
  gFi h2 a0 18 12 fun v5 =>
  if v5 ≤ 0 then (gFr h2 a0 18 7 fun v6 =>
  bV h2 a0 18 (fun q16 => sX2_newName G N (some q16) (10 : Int32) v4 h2) fun v7 h8 =>
  gSl G h8 v6 3 ((10 : Int32) + v4) v7 fun h9 =>
  bV h9 a0 18 (fun q15 => sX2_readsPlace G N (some q15) ((40 : Int32) + ((3 : Int32) * v4)) h9) fun v10 h11 =>
  gFr h11 a0 18 1 fun v12 =>
  gAi h11 v12 0 (7 : Int32) fun v13 =>
  gSi G h11 v12 0 (7 : Int32) (v13 + (1 : Int32)) fun h14 =>
  some (.inl (), h14))
  else some (.inl (), h2)
abbrev mX2_readsSlope : MI := (RX2, cX2_readsSlope, 2, none, [], 5, 107, "readsSlope")
theorem tX2_readsSlope {G : GG} {l : Launch} (hs : l.stackTraces = false) {N : Nat} {a0 : Option Nat} {h : Hp} {r : Unit ⊕ Nat} {hf : Hp} (ho : sX2_readsSlope G N a0 h = some (r, hf)) : gMet G l yX2_readsSlope (ws_ yX2_readsSlope cX2_readsSlope 2 none) 5 107 [gr a0] h cvU r hf := by
  refine gMet.of ho hs (plainFor_of_name pn_X2) rfl rfl (gbl rfl) fun X => ?_
  show gT G l X mX2_readsSlope cvU r hf 0 [(0, gr a0)] [] h (sX2_readsSlope G N a0 h)
  delta sX2_readsSlope
  refine g_aload_n (pc := 0) (x := a0) 0 rfl rfl dX2_readsSlope_0 ?_
  refine g_bipush (pc := 1) (v := (7 : Int32)) bc_7 dX2_readsSlope_1 ?_
  refine g_bipush (pc := 3) (v := (8 : Int32)) bc_8 dX2_readsSlope_3 ?_
  refine g_bVu (pc := 5) (y := yX2_begins) (ws := ws_ yX2_begins cX2_begins 3 none) (fr := 3) (lo := 63) (as := [gi (7 : Int32), gi (8 : Int32)]) (st := []) (g_no) rfl (fun _ _ _ e => tX2_begins hs e) (fun K _ _ _ hq hM R e1 e2 => g_runV (M := mX2_readsSlope) (pc := 5) (y := yX2_begins) (bytes := cX2_begins) (maxL := 3) (ret := none) (fr := 3) (lo := 63) (as := [gi (7 : Int32), gi (8 : Int32)]) (st := []) hq (C := "FlareSlopesModel") rfl gy_X2_begins (gbl rfl) (gbl rfl) (gbl rfl) q4114 q4116 qs70 dX2_readsSlope_5 K hM R e1 e2) fun v1 h2 => ?_
  refine g_aload_n (pc := 8) (x := a0) 0 rfl rfl dX2_readsSlope_8 ?_
  refine g_getfr (pc := 9) k_18 (gblt rfl) lk_X2_9_18 dX2_readsSlope_9 fun v3 => ?_
  refine g_bipush (pc := 12) (v := (7 : Int32)) bc_7 dX2_readsSlope_12 ?_
  refine g_iaload (pc := 14) rfl dX2_readsSlope_14 fun v4 => ?_
  refine g_istore_n (pc := 15) (lv' := [(1, gi v4), (0, gr a0)]) [0, 1] rfl rfl (gblt rfl) dX2_readsSlope_15 ?_
  refine g_aload_n (pc := 16) (x := a0) 1 rfl rfl dX2_readsSlope_16 ?_
  refine g_getfi (pc := 17) k_18 (gblt rfl) lk_X2_58_18 dX2_readsSlope_17 fun v5 => ?_
  refine g_if_le (pc := 20) (tgt := 24) rfl dX2_readsSlope_20 ?_ ?_
  rotate_left
  · exact g_return (pc := 23) rfl dX2_readsSlope_23
  refine g_aload_n (pc := 24) (x := a0) 1 rfl rfl dX2_readsSlope_24 ?_
  refine g_getfr (pc := 25) k_18 (gblt rfl) lk_X2_30_18 dX2_readsSlope_25 fun v6 => ?_
  refine g_bipush (pc := 28) (v := (10 : Int32)) bc_10 dX2_readsSlope_28 ?_
  refine g_iload_n (pc := 30) (x := v4) 0 rfl rfl dX2_readsSlope_30 ?_
  refine g_iadd (pc := 31) dX2_readsSlope_31 ?_
  refine g_aload_n (pc := 32) (x := a0) 1 rfl rfl dX2_readsSlope_32 ?_
  refine g_bipush (pc := 33) (v := (10 : Int32)) bc_10 dX2_readsSlope_33 ?_
  refine g_iload_n (pc := 35) (x := v4) 0 rfl rfl dX2_readsSlope_35 ?_
  refine g_bVl (pc := 36) (y := yX2_newName) (ws := ws_ yX2_newName cX2_newName 5 (some .long)) (fr := 3) (lo := 63) (as := [gi (10 : Int32), gi v4]) (st := [gi ((10 : Int32) + v4), gr v6]) (g_no) rfl (fun _ _ _ e => tX2_newName hs e) (fun K _ _ _ hq hM R e1 e2 => g_runV (M := mX2_readsSlope) (pc := 36) (y := yX2_newName) (bytes := cX2_newName) (maxL := 5) (ret := (some .long)) (fr := 3) (lo := 63) (as := [gi (10 : Int32), gi v4]) (st := [gi ((10 : Int32) + v4), gr v6]) hq (C := "FlareSlopesModel") rfl gy_X2_newName (gbl rfl) (gbl rfl) (gbl rfl) q4118 q4120 qs71 dX2_readsSlope_36 K hM R e1 e2) fun v7 h8 => ?_
  refine g_lastore (pc := 39) rfl dX2_readsSlope_39 fun h9 => ?_
  refine g_aload_n (pc := 40) (x := a0) 1 rfl rfl dX2_readsSlope_40 ?_
  refine g_bipush (pc := 41) (v := (40 : Int32)) bc_40 dX2_readsSlope_41 ?_
  refine g_iconst (pc := 43) (v := (3 : Int32)) ic_3 dX2_readsSlope_43 ?_
  refine g_iload_n (pc := 44) (x := v4) 0 rfl rfl dX2_readsSlope_44 ?_
  refine g_imul (pc := 45) dX2_readsSlope_45 ?_
  refine g_iadd (pc := 46) dX2_readsSlope_46 ?_
  refine g_bVu (pc := 47) (y := yX2_readsPlace) (ws := ws_ yX2_readsPlace cX2_readsPlace 2 none) (fr := 4) (lo := 86) (as := [gi ((40 : Int32) + ((3 : Int32) * v4))]) (st := []) (g_no) rfl (fun _ _ _ e => tX2_readsPlace hs e) (fun K _ _ _ hq hM R e1 e2 => g_runV (M := mX2_readsSlope) (pc := 47) (y := yX2_readsPlace) (bytes := cX2_readsPlace) (maxL := 2) (ret := none) (fr := 4) (lo := 86) (as := [gi ((40 : Int32) + ((3 : Int32) * v4))]) (st := []) hq (C := "FlareSlopesModel") rfl gy_X2_readsPlace (gbl rfl) (gbl rfl) (gbl rfl) q4122 q4124 qs72 dX2_readsSlope_47 K hM R e1 e2) fun v10 h11 => ?_
  refine g_aload_n (pc := 50) (x := a0) 1 rfl rfl dX2_readsSlope_50 ?_
  refine g_getfr (pc := 51) k_18 (gblt rfl) lk_X2_9_18 dX2_readsSlope_51 fun v12 => ?_
  refine g_bipush (pc := 54) (v := (7 : Int32)) bc_7 dX2_readsSlope_54 ?_
  refine g_dup2 (pc := 56) rfl rfl dX2_readsSlope_56 ?_
  refine g_iaload (pc := 57) rfl dX2_readsSlope_57 fun v13 => ?_
  refine g_iconst (pc := 58) (v := (1 : Int32)) ic_1 dX2_readsSlope_58 ?_
  refine g_iadd (pc := 59) dX2_readsSlope_59 ?_
  refine g_iastore (pc := 60) rfl dX2_readsSlope_60 fun h14 => ?_
  exact g_return (pc := 61) rfl dX2_readsSlope_61
/-! FlareSlopesModel.readsRidge()V -/
noncomputable def sX2_readsRidge (G : GG) (N : Nat) (a0 : Option Nat) (h : Hp) : Out (Unit) :=
  bV h a0 18 (fun q20 => sX2_begins G N (some q20) (8 : Int32) (4 : Int32) h) fun v1 h2 =>
  gFr h2 a0 18 1 fun v3 =>
  gAi h2 v3 0 (8 : Int32) fun v4 =>
  gLet ((64 : Int32) + ((2 : Int32) * v4)) fun v5 =>
  gFi h2 a0 18 12 fun v6 =>
  if v6 ≤ 0 then (gFr h2 a0 18 1 fun v7 =>
  bV h2 a0 18 (fun q19 => sX2_number G N (some q19) (1 : Int32) (99 : Int32) h2) fun v8 h9 =>
  gSi G h9 v7 0 v5 v8 fun h10 =>
  gFr h10 a0 18 1 fun v11 =>
  bV h10 a0 18 (fun q18 => sX2_number G N (some q18) (0 : Int32) (999 : Int32) h10) fun v12 h13 =>
  gSi G h13 v11 0 (v5 + (1 : Int32)) v12 fun h14 =>
  gFr h14 a0 18 1 fun v15 =>
  gAi h14 v15 0 (8 : Int32) fun v16 =>
  gSi G h14 v15 0 (8 : Int32) (v16 + (1 : Int32)) fun h17 =>
  some (.inl (), h17))
  else some (.inl (), h2)
abbrev mX2_readsRidge : MI := (RX2, cX2_readsRidge, 2, none, [], 4, 86, "readsRidge")
theorem tX2_readsRidge {G : GG} {l : Launch} (hs : l.stackTraces = false) {N : Nat} {a0 : Option Nat} {h : Hp} {r : Unit ⊕ Nat} {hf : Hp} (ho : sX2_readsRidge G N a0 h = some (r, hf)) : gMet G l yX2_readsRidge (ws_ yX2_readsRidge cX2_readsRidge 2 none) 4 86 [gr a0] h cvU r hf := by
  refine gMet.of ho hs (plainFor_of_name pn_X2) rfl rfl (gbl rfl) fun X => ?_
  show gT G l X mX2_readsRidge cvU r hf 0 [(0, gr a0)] [] h (sX2_readsRidge G N a0 h)
  delta sX2_readsRidge
  refine g_aload_n (pc := 0) (x := a0) 0 rfl rfl dX2_readsRidge_0 ?_
  refine g_bipush (pc := 1) (v := (8 : Int32)) bc_8 dX2_readsRidge_1 ?_
  refine g_iconst (pc := 3) (v := (4 : Int32)) ic_4 dX2_readsRidge_3 ?_
  refine g_bVu (pc := 4) (y := yX2_begins) (ws := ws_ yX2_begins cX2_begins 3 none) (fr := 3) (lo := 63) (as := [gi (8 : Int32), gi (4 : Int32)]) (st := []) (g_no) rfl (fun _ _ _ e => tX2_begins hs e) (fun K _ _ _ hq hM R e1 e2 => g_runV (M := mX2_readsRidge) (pc := 4) (y := yX2_begins) (bytes := cX2_begins) (maxL := 3) (ret := none) (fr := 3) (lo := 63) (as := [gi (8 : Int32), gi (4 : Int32)]) (st := []) hq (C := "FlareSlopesModel") rfl gy_X2_begins (gbl rfl) (gbl rfl) (gbl rfl) q4114 q4116 qs70 dX2_readsRidge_4 K hM R e1 e2) fun v1 h2 => ?_
  refine g_bipush (pc := 7) (v := (64 : Int32)) bc_64 dX2_readsRidge_7 ?_
  refine g_iconst (pc := 9) (v := (2 : Int32)) ic_2 dX2_readsRidge_9 ?_
  refine g_aload_n (pc := 10) (x := a0) 0 rfl rfl dX2_readsRidge_10 ?_
  refine g_getfr (pc := 11) k_18 (gblt rfl) lk_X2_9_18 dX2_readsRidge_11 fun v3 => ?_
  refine g_bipush (pc := 14) (v := (8 : Int32)) bc_8 dX2_readsRidge_14 ?_
  refine g_iaload (pc := 16) rfl dX2_readsRidge_16 fun v4 => ?_
  refine g_imul (pc := 17) dX2_readsRidge_17 ?_
  refine g_iadd (pc := 18) dX2_readsRidge_18 ?_
  refine g_leti fun v5 => ?_
  refine g_istore_n (pc := 19) (lv' := [(1, gi v5), (0, gr a0)]) [0, 1] rfl rfl (gblt rfl) dX2_readsRidge_19 ?_
  refine g_aload_n (pc := 20) (x := a0) 1 rfl rfl dX2_readsRidge_20 ?_
  refine g_getfi (pc := 21) k_18 (gblt rfl) lk_X2_58_18 dX2_readsRidge_21 fun v6 => ?_
  refine g_if_le (pc := 24) (tgt := 28) rfl dX2_readsRidge_24 ?_ ?_
  rotate_left
  · exact g_return (pc := 27) rfl dX2_readsRidge_27
  refine g_aload_n (pc := 28) (x := a0) 1 rfl rfl dX2_readsRidge_28 ?_
  refine g_getfr (pc := 29) k_18 (gblt rfl) lk_X2_9_18 dX2_readsRidge_29 fun v7 => ?_
  refine g_iload_n (pc := 32) (x := v5) 0 rfl rfl dX2_readsRidge_32 ?_
  refine g_aload_n (pc := 33) (x := a0) 1 rfl rfl dX2_readsRidge_33 ?_
  refine g_iconst (pc := 34) (v := (1 : Int32)) ic_1 dX2_readsRidge_34 ?_
  refine g_bipush (pc := 35) (v := (99 : Int32)) bc_99 dX2_readsRidge_35 ?_
  refine g_bVi (pc := 37) (y := yX2_number) (ws := ws_ yX2_number cX2_number 4 (some .int)) (fr := 3) (lo := 63) (as := [gi (1 : Int32), gi (99 : Int32)]) (st := [gi v5, gr v7]) (g_no) rfl (fun _ _ _ e => tX2_number hs e) (fun K _ _ _ hq hM R e1 e2 => g_runV (M := mX2_readsRidge) (pc := 37) (y := yX2_number) (bytes := cX2_number) (maxL := 4) (ret := (some .int)) (fr := 3) (lo := 63) (as := [gi (1 : Int32), gi (99 : Int32)]) (st := [gi v5, gr v7]) hq (C := "FlareSlopesModel") rfl gy_X2_number (gbl rfl) (gbl rfl) (gbl rfl) q4100 q4102 qs67 dX2_readsRidge_37 K hM R e1 e2) fun v8 h9 => ?_
  refine g_iastore (pc := 40) rfl dX2_readsRidge_40 fun h10 => ?_
  refine g_aload_n (pc := 41) (x := a0) 1 rfl rfl dX2_readsRidge_41 ?_
  refine g_getfr (pc := 42) k_18 (gblt rfl) lk_X2_9_18 dX2_readsRidge_42 fun v11 => ?_
  refine g_iload_n (pc := 45) (x := v5) 0 rfl rfl dX2_readsRidge_45 ?_
  refine g_iconst (pc := 46) (v := (1 : Int32)) ic_1 dX2_readsRidge_46 ?_
  refine g_iadd (pc := 47) dX2_readsRidge_47 ?_
  refine g_aload_n (pc := 48) (x := a0) 1 rfl rfl dX2_readsRidge_48 ?_
  refine g_iconst (pc := 49) (v := (0 : Int32)) ic_0 dX2_readsRidge_49 ?_
  refine g_sipush (pc := 50) (v := (999 : Int32)) sc_999 dX2_readsRidge_50 ?_
  refine g_bVi (pc := 53) (y := yX2_number) (ws := ws_ yX2_number cX2_number 4 (some .int)) (fr := 3) (lo := 63) (as := [gi (0 : Int32), gi (999 : Int32)]) (st := [gi (v5 + (1 : Int32)), gr v11]) (g_no) rfl (fun _ _ _ e => tX2_number hs e) (fun K _ _ _ hq hM R e1 e2 => g_runV (M := mX2_readsRidge) (pc := 53) (y := yX2_number) (bytes := cX2_number) (maxL := 4) (ret := (some .int)) (fr := 3) (lo := 63) (as := [gi (0 : Int32), gi (999 : Int32)]) (st := [gi (v5 + (1 : Int32)), gr v11]) hq (C := "FlareSlopesModel") rfl gy_X2_number (gbl rfl) (gbl rfl) (gbl rfl) q4100 q4102 qs67 dX2_readsRidge_53 K hM R e1 e2) fun v12 h13 => ?_
  refine g_iastore (pc := 56) rfl dX2_readsRidge_56 fun h14 => ?_
  refine g_aload_n (pc := 57) (x := a0) 1 rfl rfl dX2_readsRidge_57 ?_
  refine g_getfr (pc := 58) k_18 (gblt rfl) lk_X2_9_18 dX2_readsRidge_58 fun v15 => ?_
  refine g_bipush (pc := 61) (v := (8 : Int32)) bc_8 dX2_readsRidge_61 ?_
  refine g_dup2 (pc := 63) rfl rfl dX2_readsRidge_63 ?_
  refine g_iaload (pc := 64) rfl dX2_readsRidge_64 fun v16 => ?_
  refine g_iconst (pc := 65) (v := (1 : Int32)) ic_1 dX2_readsRidge_65 ?_
  refine g_iadd (pc := 66) dX2_readsRidge_66 ?_
  refine g_iastore (pc := 67) rfl dX2_readsRidge_67 fun h17 => ?_
  exact g_return (pc := 68) rfl dX2_readsRidge_68
/-! FlareSlopesModel.readsFog()V -/
noncomputable def sX2_readsFog (G : GG) (N : Nat) (a0 : Option Nat) (h : Hp) : Out (Unit) :=
  bV h a0 18 (fun q27 => sX2_begins G N (some q27) (9 : Int32) (6 : Int32) h) fun v1 h2 =>
  gFr h2 a0 18 1 fun v3 =>
  gAi h2 v3 0 (9 : Int32) fun v4 =>
  gLet ((72 : Int32) + ((3 : Int32) * v4)) fun v5 =>
  gFi h2 a0 18 12 fun v6 =>
  if v6 ≤ 0 then (gFr h2 a0 18 1 fun v7 =>
  bV h2 a0 18 (fun q26 => sX2_number G N (some q26) (0 : Int32) (5000 : Int32) h2) fun v8 h9 =>
  gSi G h9 v7 0 v5 v8 fun h10 =>
  gFr h10 a0 18 1 fun v11 =>
  gFr h10 a0 18 1 fun v12 =>
  gAi h10 v12 0 v5 fun v13 =>
  bV h10 a0 18 (fun q25 => sX2_number G N (some q25) v13 (5000 : Int32) h10) fun v14 h15 =>
  gSi G h15 v11 0 (v5 + (1 : Int32)) v14 fun h16 =>
  gFr h16 a0 18 1 fun v17 =>
  bV h16 a0 18 (fun q24 => sX2_number G N (some q24) (1 : Int32) (200 : Int32) h16) fun v18 h19 =>
  gSi G h19 v17 0 (v5 + (2 : Int32)) v18 fun h20 =>
  gFr h20 a0 18 1 fun v21 =>
  gAi h20 v21 0 (9 : Int32) fun v22 =>
  gSi G h20 v21 0 (9 : Int32) (v22 + (1 : Int32)) fun h23 =>
  some (.inl (), h23))
  else some (.inl (), h2)
abbrev mX2_readsFog : MI := (RX2, cX2_readsFog, 2, none, [], 4, 86, "readsFog")
theorem tX2_readsFog {G : GG} {l : Launch} (hs : l.stackTraces = false) {N : Nat} {a0 : Option Nat} {h : Hp} {r : Unit ⊕ Nat} {hf : Hp} (ho : sX2_readsFog G N a0 h = some (r, hf)) : gMet G l yX2_readsFog (ws_ yX2_readsFog cX2_readsFog 2 none) 4 86 [gr a0] h cvU r hf := by
  refine gMet.of ho hs (plainFor_of_name pn_X2) rfl rfl (gbl rfl) fun X => ?_
  show gT G l X mX2_readsFog cvU r hf 0 [(0, gr a0)] [] h (sX2_readsFog G N a0 h)
  delta sX2_readsFog
  refine g_aload_n (pc := 0) (x := a0) 0 rfl rfl dX2_readsFog_0 ?_
  refine g_bipush (pc := 1) (v := (9 : Int32)) bc_9 dX2_readsFog_1 ?_
  refine g_bipush (pc := 3) (v := (6 : Int32)) bc_6 dX2_readsFog_3 ?_
  refine g_bVu (pc := 5) (y := yX2_begins) (ws := ws_ yX2_begins cX2_begins 3 none) (fr := 3) (lo := 63) (as := [gi (9 : Int32), gi (6 : Int32)]) (st := []) (g_no) rfl (fun _ _ _ e => tX2_begins hs e) (fun K _ _ _ hq hM R e1 e2 => g_runV (M := mX2_readsFog) (pc := 5) (y := yX2_begins) (bytes := cX2_begins) (maxL := 3) (ret := none) (fr := 3) (lo := 63) (as := [gi (9 : Int32), gi (6 : Int32)]) (st := []) hq (C := "FlareSlopesModel") rfl gy_X2_begins (gbl rfl) (gbl rfl) (gbl rfl) q4114 q4116 qs70 dX2_readsFog_5 K hM R e1 e2) fun v1 h2 => ?_
  refine g_bipush (pc := 8) (v := (72 : Int32)) bc_72 dX2_readsFog_8 ?_
  refine g_iconst (pc := 10) (v := (3 : Int32)) ic_3 dX2_readsFog_10 ?_
  refine g_aload_n (pc := 11) (x := a0) 0 rfl rfl dX2_readsFog_11 ?_
  refine g_getfr (pc := 12) k_18 (gblt rfl) lk_X2_9_18 dX2_readsFog_12 fun v3 => ?_
  refine g_bipush (pc := 15) (v := (9 : Int32)) bc_9 dX2_readsFog_15 ?_
  refine g_iaload (pc := 17) rfl dX2_readsFog_17 fun v4 => ?_
  refine g_imul (pc := 18) dX2_readsFog_18 ?_
  refine g_iadd (pc := 19) dX2_readsFog_19 ?_
  refine g_leti fun v5 => ?_
  refine g_istore_n (pc := 20) (lv' := [(1, gi v5), (0, gr a0)]) [0, 1] rfl rfl (gblt rfl) dX2_readsFog_20 ?_
  refine g_aload_n (pc := 21) (x := a0) 1 rfl rfl dX2_readsFog_21 ?_
  refine g_getfi (pc := 22) k_18 (gblt rfl) lk_X2_58_18 dX2_readsFog_22 fun v6 => ?_
  refine g_if_le (pc := 25) (tgt := 29) rfl dX2_readsFog_25 ?_ ?_
  rotate_left
  · exact g_return (pc := 28) rfl dX2_readsFog_28
  refine g_aload_n (pc := 29) (x := a0) 1 rfl rfl dX2_readsFog_29 ?_
  refine g_getfr (pc := 30) k_18 (gblt rfl) lk_X2_9_18 dX2_readsFog_30 fun v7 => ?_
  refine g_iload_n (pc := 33) (x := v5) 0 rfl rfl dX2_readsFog_33 ?_
  refine g_aload_n (pc := 34) (x := a0) 1 rfl rfl dX2_readsFog_34 ?_
  refine g_iconst (pc := 35) (v := (0 : Int32)) ic_0 dX2_readsFog_35 ?_
  refine g_sipush (pc := 36) (v := (5000 : Int32)) sc_5000 dX2_readsFog_36 ?_
  refine g_bVi (pc := 39) (y := yX2_number) (ws := ws_ yX2_number cX2_number 4 (some .int)) (fr := 3) (lo := 63) (as := [gi (0 : Int32), gi (5000 : Int32)]) (st := [gi v5, gr v7]) (g_no) rfl (fun _ _ _ e => tX2_number hs e) (fun K _ _ _ hq hM R e1 e2 => g_runV (M := mX2_readsFog) (pc := 39) (y := yX2_number) (bytes := cX2_number) (maxL := 4) (ret := (some .int)) (fr := 3) (lo := 63) (as := [gi (0 : Int32), gi (5000 : Int32)]) (st := [gi v5, gr v7]) hq (C := "FlareSlopesModel") rfl gy_X2_number (gbl rfl) (gbl rfl) (gbl rfl) q4100 q4102 qs67 dX2_readsFog_39 K hM R e1 e2) fun v8 h9 => ?_
  refine g_iastore (pc := 42) rfl dX2_readsFog_42 fun h10 => ?_
  refine g_aload_n (pc := 43) (x := a0) 1 rfl rfl dX2_readsFog_43 ?_
  refine g_getfr (pc := 44) k_18 (gblt rfl) lk_X2_9_18 dX2_readsFog_44 fun v11 => ?_
  refine g_iload_n (pc := 47) (x := v5) 0 rfl rfl dX2_readsFog_47 ?_
  refine g_iconst (pc := 48) (v := (1 : Int32)) ic_1 dX2_readsFog_48 ?_
  refine g_iadd (pc := 49) dX2_readsFog_49 ?_
  refine g_aload_n (pc := 50) (x := a0) 1 rfl rfl dX2_readsFog_50 ?_
  refine g_aload_n (pc := 51) (x := a0) 1 rfl rfl dX2_readsFog_51 ?_
  refine g_getfr (pc := 52) k_18 (gblt rfl) lk_X2_9_18 dX2_readsFog_52 fun v12 => ?_
  refine g_iload_n (pc := 55) (x := v5) 0 rfl rfl dX2_readsFog_55 ?_
  refine g_iaload (pc := 56) rfl dX2_readsFog_56 fun v13 => ?_
  refine g_sipush (pc := 57) (v := (5000 : Int32)) sc_5000 dX2_readsFog_57 ?_
  refine g_bVi (pc := 60) (y := yX2_number) (ws := ws_ yX2_number cX2_number 4 (some .int)) (fr := 3) (lo := 63) (as := [gi v13, gi (5000 : Int32)]) (st := [gi (v5 + (1 : Int32)), gr v11]) (g_no) rfl (fun _ _ _ e => tX2_number hs e) (fun K _ _ _ hq hM R e1 e2 => g_runV (M := mX2_readsFog) (pc := 60) (y := yX2_number) (bytes := cX2_number) (maxL := 4) (ret := (some .int)) (fr := 3) (lo := 63) (as := [gi v13, gi (5000 : Int32)]) (st := [gi (v5 + (1 : Int32)), gr v11]) hq (C := "FlareSlopesModel") rfl gy_X2_number (gbl rfl) (gbl rfl) (gbl rfl) q4100 q4102 qs67 dX2_readsFog_60 K hM R e1 e2) fun v14 h15 => ?_
  refine g_iastore (pc := 63) rfl dX2_readsFog_63 fun h16 => ?_
  refine g_aload_n (pc := 64) (x := a0) 1 rfl rfl dX2_readsFog_64 ?_
  refine g_getfr (pc := 65) k_18 (gblt rfl) lk_X2_9_18 dX2_readsFog_65 fun v17 => ?_
  refine g_iload_n (pc := 68) (x := v5) 0 rfl rfl dX2_readsFog_68 ?_
  refine g_iconst (pc := 69) (v := (2 : Int32)) ic_2 dX2_readsFog_69 ?_
  refine g_iadd (pc := 70) dX2_readsFog_70 ?_
  refine g_aload_n (pc := 71) (x := a0) 1 rfl rfl dX2_readsFog_71 ?_
  refine g_iconst (pc := 72) (v := (1 : Int32)) ic_1 dX2_readsFog_72 ?_
  refine g_sipush (pc := 73) (v := (200 : Int32)) sc_200 dX2_readsFog_73 ?_
  refine g_bVi (pc := 76) (y := yX2_number) (ws := ws_ yX2_number cX2_number 4 (some .int)) (fr := 3) (lo := 63) (as := [gi (1 : Int32), gi (200 : Int32)]) (st := [gi (v5 + (2 : Int32)), gr v17]) (g_no) rfl (fun _ _ _ e => tX2_number hs e) (fun K _ _ _ hq hM R e1 e2 => g_runV (M := mX2_readsFog) (pc := 76) (y := yX2_number) (bytes := cX2_number) (maxL := 4) (ret := (some .int)) (fr := 3) (lo := 63) (as := [gi (1 : Int32), gi (200 : Int32)]) (st := [gi (v5 + (2 : Int32)), gr v17]) hq (C := "FlareSlopesModel") rfl gy_X2_number (gbl rfl) (gbl rfl) (gbl rfl) q4100 q4102 qs67 dX2_readsFog_76 K hM R e1 e2) fun v18 h19 => ?_
  refine g_iastore (pc := 79) rfl dX2_readsFog_79 fun h20 => ?_
  refine g_aload_n (pc := 80) (x := a0) 1 rfl rfl dX2_readsFog_80 ?_
  refine g_getfr (pc := 81) k_18 (gblt rfl) lk_X2_9_18 dX2_readsFog_81 fun v21 => ?_
  refine g_bipush (pc := 84) (v := (9 : Int32)) bc_9 dX2_readsFog_84 ?_
  refine g_dup2 (pc := 86) rfl rfl dX2_readsFog_86 ?_
  refine g_iaload (pc := 87) rfl dX2_readsFog_87 fun v22 => ?_
  refine g_iconst (pc := 88) (v := (1 : Int32)) ic_1 dX2_readsFog_88 ?_
  refine g_iadd (pc := 89) dX2_readsFog_89 ?_
  refine g_iastore (pc := 90) rfl dX2_readsFog_90 fun h23 => ?_
  exact g_return (pc := 91) rfl dX2_readsFog_91
/-! FlareSlopesModel.reads()V -/
noncomputable def bX2_reads_32 (G : GG) (N : Nat) (a0 : Option Nat) (j15 : (Unit) → Hp → Out (Unit)) (w24 : (Unit) → Hp → Out (Unit)) (x22 : Unit) (h23 : Hp) : Out (Unit) :=
  bV h23 a0 18 (fun q57 => sX2_is G N (some q57) (4 : Int32) h23) fun v25 h26 =>
  if v25 = 0 then (j15 () h26)
  else bV h26 a0 18 (fun q56 => sX2_next G N (some q56) h26) fun v27 h28 =>
  bV h28 a0 18 (fun q55 => sX2_isWord G N (some q55) (some (G.2.2.2.2 5)) h28) fun v29 h30 =>
  if v29 = 0 then (bV h30 a0 18 (fun q51 => sX2_isWord G N (some q51) (some (G.2.2.2.2 7)) h30) fun v31 h32 =>
  if v31 = 0 then (bV h32 a0 18 (fun q47 => sX2_isWord G N (some q47) (some (G.2.2.2.2 6)) h32) fun v33 h34 =>
  if v33 = 0 then (bV h34 a0 18 (fun q43 => sX2_isWord G N (some q43) (some (G.2.2.2.2 4)) h34) fun v35 h36 =>
  if v35 = 0 then (bV h36 a0 18 (fun q39 => sX2_faults G N (some q39) (1 : Int32) h36) fun v37 h38 =>
  w24 () h38)
  else bV h36 a0 18 (fun q42 => sX2_readsFog G N (some q42) h36) fun v40 h41 =>
  w24 () h41)
  else bV h34 a0 18 (fun q46 => sX2_readsRidge G N (some q46) h34) fun v44 h45 =>
  w24 () h45)
  else bV h32 a0 18 (fun q50 => sX2_readsSlope G N (some q50) h32) fun v48 h49 =>
  w24 () h49)
  else bV h30 a0 18 (fun q54 => sX2_readsCabin G N (some q54) h30) fun v52 h53 =>
  w24 () h53
noncomputable def sX2_reads (G : GG) (N : Nat) (a0 : Option Nat) (h : Hp) : Out (Unit) :=
  bV h a0 18 (fun q63 => sX2_next G N (some q63) h) fun v1 h2 =>
  bV h2 a0 18 (fun q62 => sX2_takes G N (some q62) (some (G.2.2.2.2 8)) h2) fun v3 h4 =>
  bV h4 a0 18 (fun q61 => sX2_readsSettings G N (some q61) (0 : Int32) (1 : Int32) h4) fun v5 h6 =>
  bV h6 a0 18 (fun q60 => sX2_takesSemi G N (some q60) h6) fun v7 h8 =>
  bV h8 a0 18 (fun q59 => sX2_takes G N (some q59) (some (G.2.2.2.2 9)) h8) fun v9 h10 =>
  bV h10 a0 18 (fun q58 => sX2_readsSettings G N (some q58) (2 : Int32) (5 : Int32) h10) fun v11 h12 =>
  gJ (fun (x13 : Unit) (h14 : Hp) =>
  bV h14 a0 18 (fun q21 => sX2_is G N (some q21) (1 : Int32) h14) fun v16 h17 =>
  if v16 = 0 then (bV h17 a0 18 (fun q20 => sX2_faults G N (some q20) (1 : Int32) h17) fun v18 h19 =>
  some (.inl (), h19))
  else some (.inl (), h17)) fun j15 =>
  gLp (bX2_reads_32 G N a0 j15) N () h12
abbrev mX2_reads : MI := (RX2, cX2_reads, 1, none, [], 6, 128, "reads")
theorem tX2_reads {G : GG} {l : Launch} (hs : l.stackTraces = false) {N : Nat} {a0 : Option Nat} {h : Hp} {r : Unit ⊕ Nat} {hf : Hp} (ho : sX2_reads G N a0 h = some (r, hf)) : gMet G l yX2_reads (ws_ yX2_reads cX2_reads 1 none) 6 128 [gr a0] h cvU r hf := by
  refine gMet.of ho hs (plainFor_of_name pn_X2) rfl rfl (gbl rfl) fun X => ?_
  show gT G l X mX2_reads cvU r hf 0 [(0, gr a0)] [] h (sX2_reads G N a0 h)
  delta sX2_reads
  refine g_aload_n (pc := 0) (x := a0) 0 rfl rfl dX2_reads_0 ?_
  refine g_bVu (pc := 1) (y := yX2_next) (ws := ws_ yX2_next cX2_next 1 none) (fr := 2) (lo := 43) (as := []) (st := []) (g_no) rfl (fun _ _ _ e => tX2_next hs e) (fun K _ _ _ hq hM R e1 e2 => g_runV (M := mX2_reads) (pc := 1) (y := yX2_next) (bytes := cX2_next) (maxL := 1) (ret := none) (fr := 2) (lo := 43) (as := []) (st := []) hq (C := "FlareSlopesModel") rfl gy_X2_next (gbl rfl) (gbl rfl) (gbl rfl) q4051 q4053 qs56 dX2_reads_1 K hM R e1 e2) fun v1 h2 => ?_
  refine g_aload_n (pc := 4) (x := a0) 0 rfl rfl dX2_reads_4 ?_
  refine g_ldcS (pc := 5) srl_6 rfl dX2_reads_5 ?_
  refine g_bVu (pc := 7) (y := yX2_takes) (ws := ws_ yX2_takes cX2_takes 2 none) (fr := 5) (lo := 107) (as := [gr (some (G.2.2.2.2 8))]) (st := []) (g_no) rfl (fun _ _ _ e => tX2_takes hs e) (fun K _ _ _ hq hM R e1 e2 => g_runV (M := mX2_reads) (pc := 7) (y := yX2_takes) (bytes := cX2_takes) (maxL := 2) (ret := none) (fr := 5) (lo := 107) (as := [gr (some (G.2.2.2.2 8))]) (st := []) hq (C := "FlareSlopesModel") rfl gy_X2_takes (gbl rfl) (gbl rfl) (gbl rfl) q4070 q4072 qs60 dX2_reads_7 K hM R e1 e2) fun v3 h4 => ?_
  refine g_aload_n (pc := 10) (x := a0) 0 rfl rfl dX2_reads_10 ?_
  refine g_iconst (pc := 11) (v := (0 : Int32)) ic_0 dX2_reads_11 ?_
  refine g_iconst (pc := 12) (v := (1 : Int32)) ic_1 dX2_reads_12 ?_
  refine g_bVu (pc := 13) (y := yX2_readsSettings) (ws := ws_ yX2_readsSettings cX2_readsSettings 4 none) (fr := 4) (lo := 86) (as := [gi (0 : Int32), gi (1 : Int32)]) (st := []) (g_no) rfl (fun _ _ _ e => tX2_readsSettings hs e) (fun K _ _ _ hq hM R e1 e2 => g_runV (M := mX2_reads) (pc := 13) (y := yX2_readsSettings) (bytes := cX2_readsSettings) (maxL := 4) (ret := none) (fr := 4) (lo := 86) (as := [gi (0 : Int32), gi (1 : Int32)]) (st := []) hq (C := "FlareSlopesModel") rfl gy_X2_readsSettings (gbl rfl) (gbl rfl) (gbl rfl) q4088 q4090 qs64 dX2_reads_13 K hM R e1 e2) fun v5 h6 => ?_
  refine g_aload_n (pc := 16) (x := a0) 0 rfl rfl dX2_reads_16 ?_
  refine g_bVu (pc := 17) (y := yX2_takesSemi) (ws := ws_ yX2_takesSemi cX2_takesSemi 1 none) (fr := 3) (lo := 63) (as := []) (st := []) (g_no) rfl (fun _ _ _ e => tX2_takesSemi hs e) (fun K _ _ _ hq hM R e1 e2 => g_runV (M := mX2_reads) (pc := 17) (y := yX2_takesSemi) (bytes := cX2_takesSemi) (maxL := 1) (ret := none) (fr := 3) (lo := 63) (as := []) (st := []) hq (C := "FlareSlopesModel") rfl gy_X2_takesSemi (gbl rfl) (gbl rfl) (gbl rfl) q4104 q4106 qs68 dX2_reads_17 K hM R e1 e2) fun v7 h8 => ?_
  refine g_aload_n (pc := 20) (x := a0) 0 rfl rfl dX2_reads_20 ?_
  refine g_ldcS (pc := 21) srl_7 rfl dX2_reads_21 ?_
  refine g_bVu (pc := 23) (y := yX2_takes) (ws := ws_ yX2_takes cX2_takes 2 none) (fr := 5) (lo := 107) (as := [gr (some (G.2.2.2.2 9))]) (st := []) (g_no) rfl (fun _ _ _ e => tX2_takes hs e) (fun K _ _ _ hq hM R e1 e2 => g_runV (M := mX2_reads) (pc := 23) (y := yX2_takes) (bytes := cX2_takes) (maxL := 2) (ret := none) (fr := 5) (lo := 107) (as := [gr (some (G.2.2.2.2 9))]) (st := []) hq (C := "FlareSlopesModel") rfl gy_X2_takes (gbl rfl) (gbl rfl) (gbl rfl) q4070 q4072 qs60 dX2_reads_23 K hM R e1 e2) fun v9 h10 => ?_
  refine g_aload_n (pc := 26) (x := a0) 0 rfl rfl dX2_reads_26 ?_
  refine g_iconst (pc := 27) (v := (2 : Int32)) ic_2 dX2_reads_27 ?_
  refine g_iconst (pc := 28) (v := (5 : Int32)) ic_5 dX2_reads_28 ?_
  refine g_bVu (pc := 29) (y := yX2_readsSettings) (ws := ws_ yX2_readsSettings cX2_readsSettings 4 none) (fr := 4) (lo := 86) (as := [gi (2 : Int32), gi (5 : Int32)]) (st := []) (g_no) rfl (fun _ _ _ e => tX2_readsSettings hs e) (fun K _ _ _ hq hM R e1 e2 => g_runV (M := mX2_reads) (pc := 29) (y := yX2_readsSettings) (bytes := cX2_readsSettings) (maxL := 4) (ret := none) (fr := 4) (lo := 86) (as := [gi (2 : Int32), gi (5 : Int32)]) (st := []) hq (C := "FlareSlopesModel") rfl gy_X2_readsSettings (gbl rfl) (gbl rfl) (gbl rfl) q4088 q4090 qs64 dX2_reads_29 K hM R e1 e2) fun v11 h12 => ?_
  refine g_join 116 (fun (x13 : Unit) => [(0, gr a0)]) (fun (x13 : Unit) => []) (fun x13 h14 => ?_) (fun j15 Hj15 => ?_)
  · refine g_aload_n (pc := 116) (x := a0) 0 rfl rfl dX2_reads_116 ?_
    refine g_iconst (pc := 117) (v := (1 : Int32)) ic_1 dX2_reads_117 ?_
    refine g_bVi (pc := 118) (y := yX2_is) (ws := ws_ yX2_is cX2_is 2 (some .boolean)) (fr := 0) (lo := 0) (as := [gi (1 : Int32)]) (st := []) (g_no) rfl (fun _ _ _ e => tX2_is hs e) (fun K _ _ _ hq hM R e1 e2 => g_runV (M := mX2_reads) (pc := 118) (y := yX2_is) (bytes := cX2_is) (maxL := 2) (ret := (some .boolean)) (fr := 0) (lo := 0) (as := [gi (1 : Int32)]) (st := []) hq (C := "FlareSlopesModel") rfl gy_X2_is (gbl rfl) (gbl rfl) (gbl rfl) q4078 q4080 qs62 dX2_reads_118 K hM R e1 e2) fun v16 h17 => ?_
    refine g_if_ne (pc := 121) (tgt := 129) rfl dX2_reads_121 ?_ ?_
    rotate_left
    · exact g_return (pc := 129) rfl dX2_reads_129
    refine g_aload_n (pc := 124) (x := a0) 0 rfl rfl dX2_reads_124 ?_
    refine g_iconst (pc := 125) (v := (1 : Int32)) ic_1 dX2_reads_125 ?_
    refine g_bVu (pc := 126) (y := yX2_faults) (ws := ws_ yX2_faults cX2_faults 2 none) (fr := 0) (lo := 0) (as := [gi (1 : Int32)]) (st := []) (g_no) rfl (fun _ _ _ e => tX2_faults hs e) (fun K _ _ _ hq hM R e1 e2 => g_runV (M := mX2_reads) (pc := 126) (y := yX2_faults) (bytes := cX2_faults) (maxL := 2) (ret := none) (fr := 0) (lo := 0) (as := [gi (1 : Int32)]) (st := []) hq (C := "FlareSlopesModel") rfl gy_X2_faults (gbl rfl) (gbl rfl) (gbl rfl) q4084 q4086 qs63 dX2_reads_126 K hM R e1 e2) fun v18 h19 => ?_
    exact g_return (pc := 129) rfl dX2_reads_129
  refine g_loop (pc := 32) (fun (x22 : Unit) => [(0, gr a0)]) (fun (_ : Unit) => []) (fun w24 Hw24 x22 h23 => ?_) N () h12
  delta bX2_reads_32
  refine g_aload_n (pc := 32) (x := a0) 0 rfl rfl dX2_reads_32 ?_
  refine g_iconst (pc := 33) (v := (4 : Int32)) ic_4 dX2_reads_33 ?_
  refine g_bVi (pc := 34) (y := yX2_is) (ws := ws_ yX2_is cX2_is 2 (some .boolean)) (fr := 0) (lo := 0) (as := [gi (4 : Int32)]) (st := []) (g_no) rfl (fun _ _ _ e => tX2_is hs e) (fun K _ _ _ hq hM R e1 e2 => g_runV (M := mX2_reads) (pc := 34) (y := yX2_is) (bytes := cX2_is) (maxL := 2) (ret := (some .boolean)) (fr := 0) (lo := 0) (as := [gi (4 : Int32)]) (st := []) hq (C := "FlareSlopesModel") rfl gy_X2_is (gbl rfl) (gbl rfl) (gbl rfl) q4078 q4080 qs62 dX2_reads_34 K hM R e1 e2) fun v25 h26 => ?_
  refine g_if_eq (pc := 37) (tgt := 116) rfl dX2_reads_37 ?_ ?_
  · exact Hj15 () h26
  refine g_aload_n (pc := 40) (x := a0) 0 rfl rfl dX2_reads_40 ?_
  refine g_bVu (pc := 41) (y := yX2_next) (ws := ws_ yX2_next cX2_next 1 none) (fr := 2) (lo := 43) (as := []) (st := []) (g_no) rfl (fun _ _ _ e => tX2_next hs e) (fun K _ _ _ hq hM R e1 e2 => g_runV (M := mX2_reads) (pc := 41) (y := yX2_next) (bytes := cX2_next) (maxL := 1) (ret := none) (fr := 2) (lo := 43) (as := []) (st := []) hq (C := "FlareSlopesModel") rfl gy_X2_next (gbl rfl) (gbl rfl) (gbl rfl) q4051 q4053 qs56 dX2_reads_41 K hM R e1 e2) fun v27 h28 => ?_
  refine g_aload_n (pc := 44) (x := a0) 0 rfl rfl dX2_reads_44 ?_
  refine g_ldcS (pc := 45) srl_8 rfl dX2_reads_45 ?_
  refine g_bVi (pc := 47) (y := yX2_isWord) (ws := ws_ yX2_isWord cX2_isWord 3 (some .boolean)) (fr := 4) (lo := 85) (as := [gr (some (G.2.2.2.2 5))]) (st := []) (g_no) rfl (fun _ _ _ e => tX2_isWord hs e) (fun K _ _ _ hq hM R e1 e2 => g_runV (M := mX2_reads) (pc := 47) (y := yX2_isWord) (bytes := cX2_isWord) (maxL := 3) (ret := (some .boolean)) (fr := 4) (lo := 85) (as := [gr (some (G.2.2.2.2 5))]) (st := []) hq (C := "FlareSlopesModel") rfl gy_X2_isWord (gbl rfl) (gbl rfl) (gbl rfl) q4074 q4076 qs61 dX2_reads_47 K hM R e1 e2) fun v29 h30 => ?_
  refine g_if_eq (pc := 50) (tgt := 60) rfl dX2_reads_50 ?_ ?_
  rotate_left
  · refine g_aload_n (pc := 53) (x := a0) 0 rfl rfl dX2_reads_53 ?_
    refine g_bVu (pc := 54) (y := yX2_readsCabin) (ws := ws_ yX2_readsCabin cX2_readsCabin 2 none) (fr := 5) (lo := 107) (as := []) (st := []) (g_no) rfl (fun _ _ _ e => tX2_readsCabin hs e) (fun K _ _ _ hq hM R e1 e2 => g_runV (M := mX2_reads) (pc := 54) (y := yX2_readsCabin) (bytes := cX2_readsCabin) (maxL := 2) (ret := none) (fr := 5) (lo := 107) (as := []) (st := []) hq (C := "FlareSlopesModel") rfl gy_X2_readsCabin (gbl rfl) (gbl rfl) (gbl rfl) q4110 q4112 qs69 dX2_reads_54 K hM R e1 e2) fun v52 h53 => ?_
    refine g_goto (pc := 57) (tgt := 32) rfl dX2_reads_57 ?_
    exact Hw24 () h53
  refine g_aload_n (pc := 60) (x := a0) 0 rfl rfl dX2_reads_60 ?_
  refine g_ldcS (pc := 61) srl_9 rfl dX2_reads_61 ?_
  refine g_bVi (pc := 63) (y := yX2_isWord) (ws := ws_ yX2_isWord cX2_isWord 3 (some .boolean)) (fr := 4) (lo := 85) (as := [gr (some (G.2.2.2.2 7))]) (st := []) (g_no) rfl (fun _ _ _ e => tX2_isWord hs e) (fun K _ _ _ hq hM R e1 e2 => g_runV (M := mX2_reads) (pc := 63) (y := yX2_isWord) (bytes := cX2_isWord) (maxL := 3) (ret := (some .boolean)) (fr := 4) (lo := 85) (as := [gr (some (G.2.2.2.2 7))]) (st := []) hq (C := "FlareSlopesModel") rfl gy_X2_isWord (gbl rfl) (gbl rfl) (gbl rfl) q4074 q4076 qs61 dX2_reads_63 K hM R e1 e2) fun v31 h32 => ?_
  refine g_if_eq (pc := 66) (tgt := 76) rfl dX2_reads_66 ?_ ?_
  rotate_left
  · refine g_aload_n (pc := 69) (x := a0) 0 rfl rfl dX2_reads_69 ?_
    refine g_bVu (pc := 70) (y := yX2_readsSlope) (ws := ws_ yX2_readsSlope cX2_readsSlope 2 none) (fr := 5) (lo := 107) (as := []) (st := []) (g_no) rfl (fun _ _ _ e => tX2_readsSlope hs e) (fun K _ _ _ hq hM R e1 e2 => g_runV (M := mX2_reads) (pc := 70) (y := yX2_readsSlope) (bytes := cX2_readsSlope) (maxL := 2) (ret := none) (fr := 5) (lo := 107) (as := []) (st := []) hq (C := "FlareSlopesModel") rfl gy_X2_readsSlope (gbl rfl) (gbl rfl) (gbl rfl) q4127 q4129 qs73 dX2_reads_70 K hM R e1 e2) fun v48 h49 => ?_
    refine g_goto (pc := 73) (tgt := 32) rfl dX2_reads_73 ?_
    exact Hw24 () h49
  refine g_aload_n (pc := 76) (x := a0) 0 rfl rfl dX2_reads_76 ?_
  refine g_ldcS (pc := 77) srl_10 rfl dX2_reads_77 ?_
  refine g_bVi (pc := 79) (y := yX2_isWord) (ws := ws_ yX2_isWord cX2_isWord 3 (some .boolean)) (fr := 4) (lo := 85) (as := [gr (some (G.2.2.2.2 6))]) (st := []) (g_no) rfl (fun _ _ _ e => tX2_isWord hs e) (fun K _ _ _ hq hM R e1 e2 => g_runV (M := mX2_reads) (pc := 79) (y := yX2_isWord) (bytes := cX2_isWord) (maxL := 3) (ret := (some .boolean)) (fr := 4) (lo := 85) (as := [gr (some (G.2.2.2.2 6))]) (st := []) hq (C := "FlareSlopesModel") rfl gy_X2_isWord (gbl rfl) (gbl rfl) (gbl rfl) q4074 q4076 qs61 dX2_reads_79 K hM R e1 e2) fun v33 h34 => ?_
  refine g_if_eq (pc := 82) (tgt := 92) rfl dX2_reads_82 ?_ ?_
  rotate_left
  · refine g_aload_n (pc := 85) (x := a0) 0 rfl rfl dX2_reads_85 ?_
    refine g_bVu (pc := 86) (y := yX2_readsRidge) (ws := ws_ yX2_readsRidge cX2_readsRidge 2 none) (fr := 4) (lo := 86) (as := []) (st := []) (g_no) rfl (fun _ _ _ e => tX2_readsRidge hs e) (fun K _ _ _ hq hM R e1 e2 => g_runV (M := mX2_reads) (pc := 86) (y := yX2_readsRidge) (bytes := cX2_readsRidge) (maxL := 2) (ret := none) (fr := 4) (lo := 86) (as := []) (st := []) hq (C := "FlareSlopesModel") rfl gy_X2_readsRidge (gbl rfl) (gbl rfl) (gbl rfl) q4132 q4134 qs74 dX2_reads_86 K hM R e1 e2) fun v44 h45 => ?_
    refine g_goto (pc := 89) (tgt := 32) rfl dX2_reads_89 ?_
    exact Hw24 () h45
  refine g_aload_n (pc := 92) (x := a0) 0 rfl rfl dX2_reads_92 ?_
  refine g_ldcS (pc := 93) srl_11 rfl dX2_reads_93 ?_
  refine g_bVi (pc := 95) (y := yX2_isWord) (ws := ws_ yX2_isWord cX2_isWord 3 (some .boolean)) (fr := 4) (lo := 85) (as := [gr (some (G.2.2.2.2 4))]) (st := []) (g_no) rfl (fun _ _ _ e => tX2_isWord hs e) (fun K _ _ _ hq hM R e1 e2 => g_runV (M := mX2_reads) (pc := 95) (y := yX2_isWord) (bytes := cX2_isWord) (maxL := 3) (ret := (some .boolean)) (fr := 4) (lo := 85) (as := [gr (some (G.2.2.2.2 4))]) (st := []) hq (C := "FlareSlopesModel") rfl gy_X2_isWord (gbl rfl) (gbl rfl) (gbl rfl) q4074 q4076 qs61 dX2_reads_95 K hM R e1 e2) fun v35 h36 => ?_
  refine g_if_eq (pc := 98) (tgt := 108) rfl dX2_reads_98 ?_ ?_
  rotate_left
  · refine g_aload_n (pc := 101) (x := a0) 0 rfl rfl dX2_reads_101 ?_
    refine g_bVu (pc := 102) (y := yX2_readsFog) (ws := ws_ yX2_readsFog cX2_readsFog 2 none) (fr := 4) (lo := 86) (as := []) (st := []) (g_no) rfl (fun _ _ _ e => tX2_readsFog hs e) (fun K _ _ _ hq hM R e1 e2 => g_runV (M := mX2_reads) (pc := 102) (y := yX2_readsFog) (bytes := cX2_readsFog) (maxL := 2) (ret := none) (fr := 4) (lo := 86) (as := []) (st := []) hq (C := "FlareSlopesModel") rfl gy_X2_readsFog (gbl rfl) (gbl rfl) (gbl rfl) q4137 q4139 qs75 dX2_reads_102 K hM R e1 e2) fun v40 h41 => ?_
    refine g_goto (pc := 105) (tgt := 32) rfl dX2_reads_105 ?_
    exact Hw24 () h41
  refine g_aload_n (pc := 108) (x := a0) 0 rfl rfl dX2_reads_108 ?_
  refine g_iconst (pc := 109) (v := (1 : Int32)) ic_1 dX2_reads_109 ?_
  refine g_bVu (pc := 110) (y := yX2_faults) (ws := ws_ yX2_faults cX2_faults 2 none) (fr := 0) (lo := 0) (as := [gi (1 : Int32)]) (st := []) (g_no) rfl (fun _ _ _ e => tX2_faults hs e) (fun K _ _ _ hq hM R e1 e2 => g_runV (M := mX2_reads) (pc := 110) (y := yX2_faults) (bytes := cX2_faults) (maxL := 2) (ret := none) (fr := 0) (lo := 0) (as := [gi (1 : Int32)]) (st := []) hq (C := "FlareSlopesModel") rfl gy_X2_faults (gbl rfl) (gbl rfl) (gbl rfl) q4084 q4086 qs63 dX2_reads_110 K hM R e1 e2) fun v37 h38 => ?_
  refine g_goto (pc := 113) (tgt := 32) rfl dX2_reads_113 ?_
  exact Hw24 () h38
/-! FlareSlopesModel.load(I)I -/
noncomputable def bX2_load_113 (G : GG) (N : Nat) (a0 : Option Nat) (j23 : (Unit) → Hp → Out (Int32)) (w34 : (Int32) → Hp → Out (Int32)) (x32 : Int32) (h33 : Hp) : Out (Int32) :=
  if (18 : Int32) ≤ x32 then (j23 () h33)
  else gFr h33 a0 18 6 fun v35 =>
  gFr h33 a0 18 7 fun v36 =>
  gAl h33 v36 3 x32 fun v37 =>
  gSl G h33 v35 3 x32 v37 fun h38 =>
  w34 (x32 + (1 : Int32)) h38
noncomputable def bX2_load_60 (G : GG) (N : Nat) (a0 : Option Nat) (j17 : (Unit) → Hp → Out (Int32)) (w47 : (Int32) → Hp → Out (Int32)) (x45 : Int32) (h46 : Hp) : Out (Int32) :=
  if (1058 : Int32) ≤ x45 then (j17 () h46)
  else gFr h46 a0 18 1 fun v48 =>
  gSi G h46 v48 0 x45 (0 : Int32) fun h49 =>
  w47 (x45 + (1 : Int32)) h49
noncomputable def sX2_load (G : GG) (N : Nat) (a0 : Option Nat) (a1 : Int32) (h : Hp) : Out (Int32) :=
  gFi h a0 18 11 fun v1 =>
  bnd (sX2_in G N a1 (0 : Int32) v1 h) fun v2 h3 =>
  bV h3 a0 18 (fun q50 => sX2_may G N (some q50) v2 (1 : Int32) (1 : Int32) h3) fun v4 h5 =>
  if v4 = 0 then (some (.inl (0 : Int32), h5))
  else gP G h5 a0 18 14 (.int a1) fun h6 =>
  gP G h6 a0 18 15 (.int (0 : Int32)) fun h7 =>
  gP G h7 a0 18 11 (.int (0 : Int32)) fun h8 =>
  gP G h8 a0 18 12 (.int (0 : Int32)) fun h9 =>
  gP G h9 a0 18 13 (.int (-1 : Int32)) fun h10 =>
  gFr h10 a0 18 1 fun v11 =>
  gFr h10 a0 18 2 fun v12 =>
  bnd (sX2_copies G N v11 (0 : Int32) v12 (0 : Int32) h10) fun v13 h14 =>
  gJ (fun (x15 : Unit) (h16 : Hp) =>
  bV h16 a0 18 (fun q44 => sX2_reads G N (some q44) h16) fun v18 h19 =>
  gFi h19 a0 18 12 fun v20 =>
  if v20 ≤ 0 then (gJ (fun (x21 : Unit) (h22 : Hp) =>
  gPz G h22 a0 18 8 (1 : Int32) fun h24 =>
  gP G h24 a0 18 9 (.int (0 : Int32)) fun h25 =>
  gFr h25 a0 18 5 fun v26 =>
  gSz G h25 v26 2 (0 : Int32) (0 : Int32) fun h27 =>
  gFr h27 a0 18 5 fun v28 =>
  gSz G h27 v28 2 (1 : Int32) (0 : Int32) fun h29 =>
  gFr h29 a0 18 1 fun v30 =>
  gAi h29 v30 0 (6 : Int32) fun v31 =>
  some (.inl v31, h29)) fun j23 =>
  gLp (bX2_load_113 G N a0 j23) N (0 : Int32) h19)
  else gFr h19 a0 18 2 fun v39 =>
  gFr h19 a0 18 1 fun v40 =>
  bnd (sX2_copies G N v39 (0 : Int32) v40 (0 : Int32) h19) fun v41 h42 =>
  gP G h42 a0 18 0 (.int (2 : Int32)) fun h43 =>
  some (.inl (0 : Int32), h43)) fun j17 =>
  gLp (bX2_load_60 G N a0 j17) N (0 : Int32) h14
abbrev mX2_load : MI := (RX2, cX2_load, 3, (some .int), [], 7, 148, "load")
theorem tX2_load {G : GG} {l : Launch} (hs : l.stackTraces = false) {N : Nat} {a0 : Option Nat} {a1 : Int32} {h : Hp} {r : Int32 ⊕ Nat} {hf : Hp} (ho : sX2_load G N a0 a1 h = some (r, hf)) : gMet G l yX2_load (ws_ yX2_load cX2_load 3 (some .int)) 7 148 [gr a0, gi a1] h cvI r hf := by
  refine gMet.of ho hs (plainFor_of_name pn_X2) rfl rfl (gbl rfl) fun X => ?_
  show gT G l X mX2_load cvI r hf 0 [(0, gr a0), (1, gi a1)] [] h (sX2_load G N a0 a1 h)
  delta sX2_load
  refine g_aload_n (pc := 0) (x := a0) 0 rfl rfl dX2_load_0 ?_
  refine g_iload_n (pc := 1) (x := a1) 1 rfl rfl dX2_load_1 ?_
  refine g_iconst (pc := 2) (v := (0 : Int32)) ic_0 dX2_load_2 ?_
  refine g_aload_n (pc := 3) (x := a0) 0 rfl rfl dX2_load_3 ?_
  refine g_getfi (pc := 4) k_18 (gblt rfl) lk_X2_51_18 dX2_load_4 fun v1 => ?_
  refine g_bi (pc := 7) (y := yX2_in) (ws := ws_ yX2_in cX2_in 3 (some .boolean)) (fr := 0) (lo := 0) (as := [gi a1, gi (0 : Int32), gi v1]) (st := [gr a0]) (g_no) rfl (fun _ _ e => tX2_in hs e) (fun K _ _ hM R e1 e2 => g_runS (M := mX2_load) (pc := 7) (y := yX2_in) (bytes := cX2_in) (maxL := 3) (ret := (some .boolean)) (fr := 0) (lo := 0) (as := [gi a1, gi (0 : Int32), gi v1]) (st := [gr a0]) gy_X2_in (gbl rfl) (gbl rfl) (gbl rfl) q4037 q4038 dX2_load_7 K hM R e1 e2) fun v2 h3 => ?_
  refine g_iconst (pc := 10) (v := (1 : Int32)) ic_1 dX2_load_10 ?_
  refine g_iconst (pc := 11) (v := (1 : Int32)) ic_1 dX2_load_11 ?_
  refine g_bVi (pc := 12) (y := yX2_may) (ws := ws_ yX2_may cX2_may 4 (some .boolean)) (fr := 0) (lo := 0) (as := [gi v2, gi (1 : Int32), gi (1 : Int32)]) (st := []) (g_no) rfl (fun _ _ _ e => tX2_may hs e) (fun K _ _ _ hq hM R e1 e2 => g_runV (M := mX2_load) (pc := 12) (y := yX2_may) (bytes := cX2_may) (maxL := 4) (ret := (some .boolean)) (fr := 0) (lo := 0) (as := [gi v2, gi (1 : Int32), gi (1 : Int32)]) (st := []) hq (C := "FlareSlopesModel") rfl gy_X2_may (gbl rfl) (gbl rfl) (gbl rfl) q4040 q4042 qs54 dX2_load_12 K hM R e1 e2) fun v4 h5 => ?_
  refine g_if_ne (pc := 15) (tgt := 20) rfl dX2_load_15 ?_ ?_
  · refine g_iconst (pc := 18) (v := (0 : Int32)) ic_0 dX2_load_18 ?_
    exact g_ireturn (pc := 19) rfl dX2_load_19
  refine g_aload_n (pc := 20) (x := a0) 0 rfl rfl dX2_load_20 ?_
  refine g_iload_n (pc := 21) (x := a1) 1 rfl rfl dX2_load_21 ?_
  refine g_put (pc := 22) k_18 (gblt rfl) lk_X2_61_18 rfl rfl (gNi _) dX2_load_22 fun h6 => ?_
  refine g_aload_n (pc := 25) (x := a0) 0 rfl rfl dX2_load_25 ?_
  refine g_iconst (pc := 26) (v := (0 : Int32)) ic_0 dX2_load_26 ?_
  refine g_put (pc := 27) k_18 (gblt rfl) lk_X2_72_18 rfl rfl (gNi _) dX2_load_27 fun h7 => ?_
  refine g_aload_n (pc := 30) (x := a0) 0 rfl rfl dX2_load_30 ?_
  refine g_iconst (pc := 31) (v := (0 : Int32)) ic_0 dX2_load_31 ?_
  refine g_put (pc := 32) k_18 (gblt rfl) lk_X2_51_18 rfl rfl (gNi _) dX2_load_32 fun h8 => ?_
  refine g_aload_n (pc := 35) (x := a0) 0 rfl rfl dX2_load_35 ?_
  refine g_iconst (pc := 36) (v := (0 : Int32)) ic_0 dX2_load_36 ?_
  refine g_put (pc := 37) k_18 (gblt rfl) lk_X2_58_18 rfl rfl (gNi _) dX2_load_37 fun h9 => ?_
  refine g_aload_n (pc := 40) (x := a0) 0 rfl rfl dX2_load_40 ?_
  refine g_iconst (pc := 41) (v := (-1 : Int32)) ic_m1 dX2_load_41 ?_
  refine g_put (pc := 42) k_18 (gblt rfl) lk_X2_37_18 rfl rfl (gNi _) dX2_load_42 fun h10 => ?_
  refine g_aload_n (pc := 45) (x := a0) 0 rfl rfl dX2_load_45 ?_
  refine g_getfr (pc := 46) k_18 (gblt rfl) lk_X2_9_18 dX2_load_46 fun v11 => ?_
  refine g_iconst (pc := 49) (v := (0 : Int32)) ic_0 dX2_load_49 ?_
  refine g_aload_n (pc := 50) (x := a0) 0 rfl rfl dX2_load_50 ?_
  refine g_getfr (pc := 51) k_18 (gblt rfl) lk_X2_13_18 dX2_load_51 fun v12 => ?_
  refine g_iconst (pc := 54) (v := (0 : Int32)) ic_0 dX2_load_54 ?_
  refine g_bu (pc := 55) (y := yX2_copies) (ws := ws_ yX2_copies cX2_copies 5 none) (fr := 0) (lo := 0) (as := [gr v11, gi (0 : Int32), gr v12, gi (0 : Int32)]) (st := []) (g_no) rfl (fun _ _ e => tX2_copies hs e) (fun K _ _ hM R e1 e2 => g_runS (M := mX2_load) (pc := 55) (y := yX2_copies) (bytes := cX2_copies) (maxL := 5) (ret := none) (fr := 0) (lo := 0) (as := [gr v11, gi (0 : Int32), gr v12, gi (0 : Int32)]) (st := []) gy_X2_copies (gbl rfl) (gbl rfl) (gbl rfl) q4044 q4045 dX2_load_55 K hM R e1 e2) fun v13 h14 => ?_
  refine g_iconst (pc := 58) (v := (0 : Int32)) ic_0 dX2_load_58 ?_
  refine g_istore_n (pc := 59) (lv' := [(2, gi (0 : Int32)), (0, gr a0)]) [0, 1] rfl rfl (gblt rfl) dX2_load_59 ?_
  refine g_join 80 (fun (x15 : Unit) => [(0, gr a0)]) (fun (x15 : Unit) => []) (fun x15 h16 => ?_) (fun j17 Hj17 => ?_)
  · refine g_aload_n (pc := 80) (x := a0) 0 rfl rfl dX2_load_80 ?_
    refine g_bVu (pc := 81) (y := yX2_reads) (ws := ws_ yX2_reads cX2_reads 1 none) (fr := 6) (lo := 128) (as := []) (st := []) (g_no) rfl (fun _ _ _ e => tX2_reads hs e) (fun K _ _ _ hq hM R e1 e2 => g_runV (M := mX2_load) (pc := 81) (y := yX2_reads) (bytes := cX2_reads) (maxL := 1) (ret := none) (fr := 6) (lo := 128) (as := []) (st := []) hq (C := "FlareSlopesModel") rfl gy_X2_reads (gbl rfl) (gbl rfl) (gbl rfl) q4047 q4049 qs55 dX2_load_81 K hM R e1 e2) fun v18 h19 => ?_
    refine g_aload_n (pc := 84) (x := a0) 0 rfl rfl dX2_load_84 ?_
    refine g_getfi (pc := 85) k_18 (gblt rfl) lk_X2_58_18 dX2_load_85 fun v20 => ?_
    refine g_if_le (pc := 88) (tgt := 111) rfl dX2_load_88 ?_ ?_
    rotate_left
    · refine g_aload_n (pc := 91) (x := a0) 0 rfl rfl dX2_load_91 ?_
      refine g_getfr (pc := 92) k_18 (gblt rfl) lk_X2_13_18 dX2_load_92 fun v39 => ?_
      refine g_iconst (pc := 95) (v := (0 : Int32)) ic_0 dX2_load_95 ?_
      refine g_aload_n (pc := 96) (x := a0) 0 rfl rfl dX2_load_96 ?_
      refine g_getfr (pc := 97) k_18 (gblt rfl) lk_X2_9_18 dX2_load_97 fun v40 => ?_
      refine g_iconst (pc := 100) (v := (0 : Int32)) ic_0 dX2_load_100 ?_
      refine g_bu (pc := 101) (y := yX2_copies) (ws := ws_ yX2_copies cX2_copies 5 none) (fr := 0) (lo := 0) (as := [gr v39, gi (0 : Int32), gr v40, gi (0 : Int32)]) (st := []) (g_no) rfl (fun _ _ e => tX2_copies hs e) (fun K _ _ hM R e1 e2 => g_runS (M := mX2_load) (pc := 101) (y := yX2_copies) (bytes := cX2_copies) (maxL := 5) (ret := none) (fr := 0) (lo := 0) (as := [gr v39, gi (0 : Int32), gr v40, gi (0 : Int32)]) (st := []) gy_X2_copies (gbl rfl) (gbl rfl) (gbl rfl) q4044 q4045 dX2_load_101 K hM R e1 e2) fun v41 h42 => ?_
      refine g_aload_n (pc := 104) (x := a0) 0 rfl rfl dX2_load_104 ?_
      refine g_iconst (pc := 105) (v := (2 : Int32)) ic_2 dX2_load_105 ?_
      refine g_put (pc := 106) k_18 (gblt rfl) lk_X2_44_18 rfl rfl (gNi _) dX2_load_106 fun h43 => ?_
      refine g_iconst (pc := 109) (v := (0 : Int32)) ic_0 dX2_load_109 ?_
      exact g_ireturn (pc := 110) rfl dX2_load_110
    refine g_iconst (pc := 111) (v := (0 : Int32)) ic_0 dX2_load_111 ?_
    refine g_istore_n (pc := 112) (lv' := [(2, gi (0 : Int32)), (0, gr a0)]) [0, 1] rfl rfl (gblt rfl) dX2_load_112 ?_
    refine g_join 137 (fun (x21 : Unit) => [(0, gr a0)]) (fun (x21 : Unit) => []) (fun x21 h22 => ?_) (fun j23 Hj23 => ?_)
    · refine g_aload_n (pc := 137) (x := a0) 0 rfl rfl dX2_load_137 ?_
      refine g_iconst (pc := 138) (v := (1 : Int32)) ic_1 dX2_load_138 ?_
      refine g_putz (pc := 139) k_18 (gblt rfl) lk_X2_184_18 rfl rfl dX2_load_139 fun h24 => ?_
      refine g_aload_n (pc := 142) (x := a0) 0 rfl rfl dX2_load_142 ?_
      refine g_iconst (pc := 143) (v := (0 : Int32)) ic_0 dX2_load_143 ?_
      refine g_put (pc := 144) k_18 (gblt rfl) lk_X2_188_18 rfl rfl (gNi _) dX2_load_144 fun h25 => ?_
      refine g_aload_n (pc := 147) (x := a0) 0 rfl rfl dX2_load_147 ?_
      refine g_getfr (pc := 148) k_18 (gblt rfl) lk_X2_22_18 dX2_load_148 fun v26 => ?_
      refine g_iconst (pc := 151) (v := (0 : Int32)) ic_0 dX2_load_151 ?_
      refine g_iconst (pc := 152) (v := (0 : Int32)) ic_0 dX2_load_152 ?_
      refine g_zastore (pc := 153) rfl dX2_load_153 fun h27 => ?_
      refine g_aload_n (pc := 154) (x := a0) 0 rfl rfl dX2_load_154 ?_
      refine g_getfr (pc := 155) k_18 (gblt rfl) lk_X2_22_18 dX2_load_155 fun v28 => ?_
      refine g_iconst (pc := 158) (v := (1 : Int32)) ic_1 dX2_load_158 ?_
      refine g_iconst (pc := 159) (v := (0 : Int32)) ic_0 dX2_load_159 ?_
      refine g_zastore (pc := 160) rfl dX2_load_160 fun h29 => ?_
      refine g_aload_n (pc := 161) (x := a0) 0 rfl rfl dX2_load_161 ?_
      refine g_getfr (pc := 162) k_18 (gblt rfl) lk_X2_9_18 dX2_load_162 fun v30 => ?_
      refine g_bipush (pc := 165) (v := (6 : Int32)) bc_6 dX2_load_165 ?_
      refine g_iaload (pc := 167) rfl dX2_load_167 fun v31 => ?_
      exact g_ireturn (pc := 168) rfl dX2_load_168
    refine g_sub (lv' := [(0, gr a0), (2, gi (0 : Int32))]) [1, 0] rfl ?_
    refine g_loop (pc := 113) (fun (x32 : Int32) => [(0, gr a0), (2, gi x32)]) (fun (_ : Int32) => []) (fun w34 Hw34 x32 h33 => ?_) N (0 : Int32) h19
    delta bX2_load_113
    refine g_iload_n (pc := 113) (x := x32) 1 rfl rfl dX2_load_113 ?_
    refine g_bipush (pc := 114) (v := (18 : Int32)) bc_18 dX2_load_114 ?_
    refine g_icmp_ge (pc := 116) (tgt := 137) rfl dX2_load_116 ?_ ?_
    · exact g_sub [0] rfl (Hj23 () h33)
    refine g_aload_n (pc := 119) (x := a0) 0 rfl rfl dX2_load_119 ?_
    refine g_getfr (pc := 120) k_18 (gblt rfl) lk_X2_26_18 dX2_load_120 fun v35 => ?_
    refine g_iload_n (pc := 123) (x := x32) 1 rfl rfl dX2_load_123 ?_
    refine g_aload_n (pc := 124) (x := a0) 0 rfl rfl dX2_load_124 ?_
    refine g_getfr (pc := 125) k_18 (gblt rfl) lk_X2_30_18 dX2_load_125 fun v36 => ?_
    refine g_iload_n (pc := 128) (x := x32) 1 rfl rfl dX2_load_128 ?_
    refine g_laload (pc := 129) rfl dX2_load_129 fun v37 => ?_
    refine g_lastore (pc := 130) rfl dX2_load_130 fun h38 => ?_
    refine g_iinc (pc := 131) (v := x32 + (1 : Int32)) 1 rfl (ii_1 _) (lv' := [(2, gi (x32 + (1 : Int32))), (0, gr a0)]) [0, 1] rfl (gblt rfl) dX2_load_131 ?_
    refine g_goto (pc := 134) (tgt := 113) rfl dX2_load_134 ?_
    exact g_sub [1, 0] rfl (Hw34 (x32 + (1 : Int32)) h38)
  refine g_sub (lv' := [(0, gr a0), (2, gi (0 : Int32))]) [1, 0] rfl ?_
  refine g_loop (pc := 60) (fun (x45 : Int32) => [(0, gr a0), (2, gi x45)]) (fun (_ : Int32) => []) (fun w47 Hw47 x45 h46 => ?_) N (0 : Int32) h14
  delta bX2_load_60
  refine g_iload_n (pc := 60) (x := x45) 1 rfl rfl dX2_load_60 ?_
  refine g_sipush (pc := 61) (v := (1058 : Int32)) sc_1058 dX2_load_61 ?_
  refine g_icmp_ge (pc := 64) (tgt := 80) rfl dX2_load_64 ?_ ?_
  · exact g_sub [0] rfl (Hj17 () h46)
  refine g_aload_n (pc := 67) (x := a0) 0 rfl rfl dX2_load_67 ?_
  refine g_getfr (pc := 68) k_18 (gblt rfl) lk_X2_9_18 dX2_load_68 fun v48 => ?_
  refine g_iload_n (pc := 71) (x := x45) 1 rfl rfl dX2_load_71 ?_
  refine g_iconst (pc := 72) (v := (0 : Int32)) ic_0 dX2_load_72 ?_
  refine g_iastore (pc := 73) rfl dX2_load_73 fun h49 => ?_
  refine g_iinc (pc := 74) (v := x45 + (1 : Int32)) 1 rfl (ii_1 _) (lv' := [(2, gi (x45 + (1 : Int32))), (0, gr a0)]) [0, 1] rfl (gblt rfl) dX2_load_74 ?_
  refine g_goto (pc := 77) (tgt := 60) rfl dX2_load_77 ?_
  exact g_sub [1, 0] rfl (Hw47 (x45 + (1 : Int32)) h49)
/-! FlareSlopesModel.thrown()I -/
noncomputable def sX2_thrown (G : GG) (N : Nat) (a0 : Option Nat) (h : Hp) : Out (Int32) :=
  gFi h a0 18 0 fun v1 =>
  some (.inl v1, h)
abbrev mX2_thrown : MI := (RX2, cX2_thrown, 1, (some .int), [], 0, 0, "thrown")
theorem tX2_thrown {G : GG} {l : Launch} (hs : l.stackTraces = false) {N : Nat} {a0 : Option Nat} {h : Hp} {r : Int32 ⊕ Nat} {hf : Hp} (ho : sX2_thrown G N a0 h = some (r, hf)) : gMet G l yX2_thrown (ws_ yX2_thrown cX2_thrown 1 (some .int)) 0 0 [gr a0] h cvI r hf := by
  refine gMet.of ho hs (plainFor_of_name pn_X2) rfl rfl (gbl rfl) fun X => ?_
  show gT G l X mX2_thrown cvI r hf 0 [(0, gr a0)] [] h (sX2_thrown G N a0 h)
  delta sX2_thrown
  refine g_aload_n (pc := 0) (x := a0) 0 rfl rfl dX2_thrown_0 ?_
  refine g_getfi (pc := 1) k_18 (gblt rfl) lk_X2_44_18 dX2_thrown_1 fun v1 => ?_
  exact g_ireturn (pc := 4) rfl dX2_thrown_4
/-! FlareSlopes.parseError()I -/
noncomputable def sX1_parseError (G : GG) (N : Nat) (a0 : Option Nat) (h : Hp) : Out (Int32) :=
  gFi h a0 3 2 fun v1 =>
  some (.inl v1, h)
abbrev mX1_parseError : MI := (RX1, cX1_parseError, 1, (some .int), [], 0, 0, "parseError")
theorem tX1_parseError {G : GG} {l : Launch} (hs : l.stackTraces = false) {N : Nat} {a0 : Option Nat} {h : Hp} {r : Int32 ⊕ Nat} {hf : Hp} (ho : sX1_parseError G N a0 h = some (r, hf)) : gMet G l yX1_parseError (ws_ yX1_parseError cX1_parseError 1 (some .int)) 0 0 [gr a0] h cvI r hf := by
  refine gMet.of ho hs (plainFor_of_name pn_X1) rfl rfl (gbl rfl) fun X => ?_
  show gT G l X mX1_parseError cvI r hf 0 [(0, gr a0)] [] h (sX1_parseError G N a0 h)
  delta sX1_parseError
  refine g_aload_n (pc := 0) (x := a0) 0 rfl rfl dX1_parseError_0 ?_
  refine g_getfi (pc := 1) k_3 (gblt rfl) lk_X1_93_3 dX1_parseError_1 fun v1 => ?_
  exact g_ireturn (pc := 4) rfl dX1_parseError_4
/-! FlareSlopesModel.parseError()I -/
noncomputable def sX2_parseError (G : GG) (N : Nat) (a0 : Option Nat) (h : Hp) : Out (Int32) :=
  gP G h a0 18 0 (.int (0 : Int32)) fun h1 =>
  gFi h1 a0 18 12 fun v2 =>
  some (.inl v2, h1)
abbrev mX2_parseError : MI := (RX2, cX2_parseError, 1, (some .int), [], 0, 0, "parseError")
theorem tX2_parseError {G : GG} {l : Launch} (hs : l.stackTraces = false) {N : Nat} {a0 : Option Nat} {h : Hp} {r : Int32 ⊕ Nat} {hf : Hp} (ho : sX2_parseError G N a0 h = some (r, hf)) : gMet G l yX2_parseError (ws_ yX2_parseError cX2_parseError 1 (some .int)) 0 0 [gr a0] h cvI r hf := by
  refine gMet.of ho hs (plainFor_of_name pn_X2) rfl rfl (gbl rfl) fun X => ?_
  show gT G l X mX2_parseError cvI r hf 0 [(0, gr a0)] [] h (sX2_parseError G N a0 h)
  delta sX2_parseError
  refine g_aload_n (pc := 0) (x := a0) 0 rfl rfl dX2_parseError_0 ?_
  refine g_iconst (pc := 1) (v := (0 : Int32)) ic_0 dX2_parseError_1 ?_
  refine g_put (pc := 2) k_18 (gblt rfl) lk_X2_44_18 rfl rfl (gNi _) dX2_parseError_2 fun h1 => ?_
  refine g_aload_n (pc := 5) (x := a0) 0 rfl rfl dX2_parseError_5 ?_
  refine g_getfi (pc := 6) k_18 (gblt rfl) lk_X2_58_18 dX2_parseError_6 fun v2 => ?_
  exact g_ireturn (pc := 9) rfl dX2_parseError_9
/-! FlareSlopes.errorPosition()I -/
noncomputable def sX1_errorPosition (G : GG) (N : Nat) (a0 : Option Nat) (h : Hp) : Out (Int32) :=
  gFi h a0 3 3 fun v1 =>
  some (.inl v1, h)
abbrev mX1_errorPosition : MI := (RX1, cX1_errorPosition, 1, (some .int), [], 0, 0, "errorPosition")
theorem tX1_errorPosition {G : GG} {l : Launch} (hs : l.stackTraces = false) {N : Nat} {a0 : Option Nat} {h : Hp} {r : Int32 ⊕ Nat} {hf : Hp} (ho : sX1_errorPosition G N a0 h = some (r, hf)) : gMet G l yX1_errorPosition (ws_ yX1_errorPosition cX1_errorPosition 1 (some .int)) 0 0 [gr a0] h cvI r hf := by
  refine gMet.of ho hs (plainFor_of_name pn_X1) rfl rfl (gbl rfl) fun X => ?_
  show gT G l X mX1_errorPosition cvI r hf 0 [(0, gr a0)] [] h (sX1_errorPosition G N a0 h)
  delta sX1_errorPosition
  refine g_aload_n (pc := 0) (x := a0) 0 rfl rfl dX1_errorPosition_0 ?_
  refine g_getfi (pc := 1) k_3 (gblt rfl) lk_X1_19_3 dX1_errorPosition_1 fun v1 => ?_
  exact g_ireturn (pc := 4) rfl dX1_errorPosition_4
/-! FlareSlopesModel.errorPosition()I -/
noncomputable def sX2_errorPosition (G : GG) (N : Nat) (a0 : Option Nat) (h : Hp) : Out (Int32) :=
  gP G h a0 18 0 (.int (0 : Int32)) fun h1 =>
  gFi h1 a0 18 13 fun v2 =>
  some (.inl v2, h1)
abbrev mX2_errorPosition : MI := (RX2, cX2_errorPosition, 1, (some .int), [], 0, 0, "errorPosition")
theorem tX2_errorPosition {G : GG} {l : Launch} (hs : l.stackTraces = false) {N : Nat} {a0 : Option Nat} {h : Hp} {r : Int32 ⊕ Nat} {hf : Hp} (ho : sX2_errorPosition G N a0 h = some (r, hf)) : gMet G l yX2_errorPosition (ws_ yX2_errorPosition cX2_errorPosition 1 (some .int)) 0 0 [gr a0] h cvI r hf := by
  refine gMet.of ho hs (plainFor_of_name pn_X2) rfl rfl (gbl rfl) fun X => ?_
  show gT G l X mX2_errorPosition cvI r hf 0 [(0, gr a0)] [] h (sX2_errorPosition G N a0 h)
  delta sX2_errorPosition
  refine g_aload_n (pc := 0) (x := a0) 0 rfl rfl dX2_errorPosition_0 ?_
  refine g_iconst (pc := 1) (v := (0 : Int32)) ic_0 dX2_errorPosition_1 ?_
  refine g_put (pc := 2) k_18 (gblt rfl) lk_X2_44_18 rfl rfl (gNi _) dX2_errorPosition_2 fun h1 => ?_
  refine g_aload_n (pc := 5) (x := a0) 0 rfl rfl dX2_errorPosition_5 ?_
  refine g_getfi (pc := 6) k_18 (gblt rfl) lk_X2_37_18 dX2_errorPosition_6 fun v2 => ?_
  exact g_ireturn (pc := 9) rfl dX2_errorPosition_9
/-! FlareSlopes.buffered()I -/
noncomputable def sX1_buffered (G : GG) (N : Nat) (a0 : Option Nat) (h : Hp) : Out (Int32) :=
  gFi h a0 3 1 fun v1 =>
  some (.inl v1, h)
abbrev mX1_buffered : MI := (RX1, cX1_buffered, 1, (some .int), [], 0, 0, "buffered")
theorem tX1_buffered {G : GG} {l : Launch} (hs : l.stackTraces = false) {N : Nat} {a0 : Option Nat} {h : Hp} {r : Int32 ⊕ Nat} {hf : Hp} (ho : sX1_buffered G N a0 h = some (r, hf)) : gMet G l yX1_buffered (ws_ yX1_buffered cX1_buffered 1 (some .int)) 0 0 [gr a0] h cvI r hf := by
  refine gMet.of ho hs (plainFor_of_name pn_X1) rfl rfl (gbl rfl) fun X => ?_
  show gT G l X mX1_buffered cvI r hf 0 [(0, gr a0)] [] h (sX1_buffered G N a0 h)
  delta sX1_buffered
  refine g_aload_n (pc := 0) (x := a0) 0 rfl rfl dX1_buffered_0 ?_
  refine g_getfi (pc := 1) k_3 (gblt rfl) lk_X1_90_3 dX1_buffered_1 fun v1 => ?_
  exact g_ireturn (pc := 4) rfl dX1_buffered_4
/-! FlareSlopesModel.buffered()I -/
noncomputable def sX2_buffered (G : GG) (N : Nat) (a0 : Option Nat) (h : Hp) : Out (Int32) :=
  gP G h a0 18 0 (.int (0 : Int32)) fun h1 =>
  gFi h1 a0 18 11 fun v2 =>
  some (.inl v2, h1)
abbrev mX2_buffered : MI := (RX2, cX2_buffered, 1, (some .int), [], 0, 0, "buffered")
theorem tX2_buffered {G : GG} {l : Launch} (hs : l.stackTraces = false) {N : Nat} {a0 : Option Nat} {h : Hp} {r : Int32 ⊕ Nat} {hf : Hp} (ho : sX2_buffered G N a0 h = some (r, hf)) : gMet G l yX2_buffered (ws_ yX2_buffered cX2_buffered 1 (some .int)) 0 0 [gr a0] h cvI r hf := by
  refine gMet.of ho hs (plainFor_of_name pn_X2) rfl rfl (gbl rfl) fun X => ?_
  show gT G l X mX2_buffered cvI r hf 0 [(0, gr a0)] [] h (sX2_buffered G N a0 h)
  delta sX2_buffered
  refine g_aload_n (pc := 0) (x := a0) 0 rfl rfl dX2_buffered_0 ?_
  refine g_iconst (pc := 1) (v := (0 : Int32)) ic_0 dX2_buffered_1 ?_
  refine g_put (pc := 2) k_18 (gblt rfl) lk_X2_44_18 rfl rfl (gNi _) dX2_buffered_2 fun h1 => ?_
  refine g_aload_n (pc := 5) (x := a0) 0 rfl rfl dX2_buffered_5 ?_
  refine g_getfi (pc := 6) k_18 (gblt rfl) lk_X2_51_18 dX2_buffered_6 fun v2 => ?_
  exact g_ireturn (pc := 9) rfl dX2_buffered_9
/-! FlareSlopes.checkState(Z)V -/
noncomputable def sX1_checkState (G : GG) (N : Nat) (a0 : Int32) (h : Hp) : Out (Unit) :=
  if a0 = 0 then (gMk h 0 fun v1 h2 =>
  gThr G v1 h2)
  else some (.inl (), h)
abbrev mX1_checkState : MI := (RX1, cX1_checkState, 1, none, [], 6, 81, "checkState")
theorem tX1_checkState {G : GG} {l : Launch} (hs : l.stackTraces = false) {N : Nat} {a0 : Int32} {h : Hp} {r : Unit ⊕ Nat} {hf : Hp} (ho : sX1_checkState G N a0 h = some (r, hf)) : gMet G l yX1_checkState (ws_ yX1_checkState cX1_checkState 1 none) 6 81 [gi a0] h cvU r hf := by
  refine gMet.of ho hs (plainFor_of_name pn_X1) rfl rfl (gbl rfl) fun X => ?_
  show gT G l X mX1_checkState cvU r hf 0 [(0, gi a0)] [] h (sX1_checkState G N a0 h)
  delta sX1_checkState
  refine g_iload_n (pc := 0) (x := a0) 0 rfl rfl dX1_checkState_0 ?_
  refine g_if_ne (pc := 1) (tgt := 12) rfl dX1_checkState_1 ?_ ?_
  rotate_left
  · exact g_return (pc := 12) rfl dX1_checkState_12
  refine g_make0 (pc := 4) xw_X1_53_55 rfl dX1_checkState_4 dX1_checkState_7 dX1_checkState_8 (gblt rfl) (gbl rfl) fun v1 h2 => ?_
  exact g_athrow (pc := 11) (g_no) dX1_checkState_11
/-! FlareSlopes.loaded()LFlareSlopes$State; -/
noncomputable def sX1_loaded (G : GG) (N : Nat) (a0 : Option Nat) (h : Hp) : Out (Option Nat) :=
  gFr h a0 3 4 fun v1 =>
  gJ (fun (x2 : Int32) (h3 : Hp) =>
  bnd (sX1_checkState G N x2 h3) fun v5 h6 =>
  gFr h6 a0 3 4 fun v7 =>
  some (.inl v7, h6)) fun j4 =>
  if v1 = none then (j4 (0 : Int32) h)
  else j4 (1 : Int32) h
abbrev mX1_loaded : MI := (RX1, cX1_loaded, 1, (some (.object "FlareSlopes$State")), [], 7, 101, "loaded")
theorem tX1_loaded {G : GG} {l : Launch} (hs : l.stackTraces = false) {N : Nat} {a0 : Option Nat} {h : Hp} {r : Option Nat ⊕ Nat} {hf : Hp} (ho : sX1_loaded G N a0 h = some (r, hf)) : gMet G l yX1_loaded (ws_ yX1_loaded cX1_loaded 1 (some (.object "FlareSlopes$State"))) 7 101 [gr a0] h cvR r hf := by
  refine gMet.of ho hs (plainFor_of_name pn_X1) rfl rfl (gbl rfl) fun X => ?_
  show gT G l X mX1_loaded cvR r hf 0 [(0, gr a0)] [] h (sX1_loaded G N a0 h)
  delta sX1_loaded
  refine g_aload_n (pc := 0) (x := a0) 0 rfl rfl dX1_loaded_0 ?_
  refine g_getfr (pc := 1) k_3 (gblt rfl) lk_X1_56_3 dX1_loaded_1 fun v1 => ?_
  refine g_join 12 (fun (x2 : Int32) => [(0, gr a0)]) (fun (x2 : Int32) => [gi x2]) (fun x2 h3 => ?_) (fun j4 Hj4 => ?_)
  · refine g_bu (pc := 12) (y := yX1_checkState) (ws := ws_ yX1_checkState cX1_checkState 1 none) (fr := 6) (lo := 81) (as := [gi x2]) (st := []) (g_no) rfl (fun _ _ e => tX1_checkState hs e) (fun K _ _ hM R e1 e2 => g_runS (M := mX1_loaded) (pc := 12) (y := yX1_checkState) (bytes := cX1_checkState) (maxL := 1) (ret := none) (fr := 6) (lo := 81) (as := [gi x2]) (st := []) gy_X1_checkState (gbl rfl) (gbl rfl) (gbl rfl) q1434 q1435 dX1_loaded_12 K hM R e1 e2) fun v5 h6 => ?_
    refine g_aload_n (pc := 15) (x := a0) 0 rfl rfl dX1_loaded_15 ?_
    refine g_getfr (pc := 16) k_3 (gblt rfl) lk_X1_56_3 dX1_loaded_16 fun v7 => ?_
    exact g_areturn (pc := 19) rfl (Or.inl ⟨_, rfl⟩) dX1_loaded_19
  refine g_ifnull (pc := 4) (tgt := 11) rfl dX1_loaded_4 ?_ ?_
  · refine g_iconst (pc := 11) (v := (0 : Int32)) ic_0 dX1_loaded_11 ?_
    exact Hj4 (0 : Int32) h
  refine g_iconst (pc := 7) (v := (1 : Int32)) ic_1 dX1_loaded_7 ?_
  refine g_goto (pc := 8) (tgt := 12) rfl dX1_loaded_8 ?_
  exact Hj4 (1 : Int32) h
/-! FlareSlopes.number(LFlareSlopes$Register;Ljava/lang/CharSequence;)I -/
noncomputable def sX1_number (G : GG) (N : Nat) (a0 : Option Nat) (a1 : Option Nat) (h : Hp) : Out (Int32) :=
  bV h a0 13 (fun q3 => sX6_find G N (some q3) a1 h) fun v1 h2 =>
  some (.inl v1, h2)
abbrev mX1_number : MI := (RX1, cX1_number, 2, (some .int), [], 6, 133, "number")
theorem tX1_number {G : GG} {l : Launch} (hs : l.stackTraces = false) {N : Nat} {a0 : Option Nat} {a1 : Option Nat} {h : Hp} {r : Int32 ⊕ Nat} {hf : Hp} (ho : sX1_number G N a0 a1 h = some (r, hf)) : gMet G l yX1_number (ws_ yX1_number cX1_number 2 (some .int)) 6 133 [gr a0, gr a1] h cvI r hf := by
  refine gMet.of ho hs (plainFor_of_name pn_X1) rfl rfl (gbl rfl) fun X => ?_
  show gT G l X mX1_number cvI r hf 0 [(0, gr a0), (1, gr a1)] [] h (sX1_number G N a0 a1 h)
  delta sX1_number
  refine g_aload_n (pc := 0) (x := a0) 0 rfl rfl dX1_number_0 ?_
  refine g_aload_n (pc := 1) (x := a1) 1 rfl rfl dX1_number_1 ?_
  refine g_bVi (pc := 2) (y := yX6_find) (ws := ws_ yX6_find cX6_find 3 (some .int)) (fr := 5) (lo := 111) (as := [gr a1]) (st := []) (g_no) rfl (fun _ _ _ e => tX6_find hs e) (fun K _ _ _ hq hM R e1 e2 => g_runV (M := mX1_number) (pc := 2) (y := yX6_find) (bytes := cX6_find) (maxL := 3) (ret := (some .int)) (fr := 5) (lo := 111) (as := [gr a1]) (st := []) hq (C := "FlareSlopes$Register") rfl gy_X6_find (gbl rfl) (gbl rfl) (gbl rfl) q1456 q982 q983 dX1_number_2 K hM R e1 e2) fun v1 h2 => ?_
  exact g_ireturn (pc := 5) rfl dX1_number_5
/-! FlareSlopes.find(IZ)I -/
noncomputable def bX1_find_27 (G : GG) (N : Nat) (a0 : Option Nat) (a1 : Int32) (v6 : Option Nat) (j12 : (Unit) → Hp → Out (Int32)) (w25 : (Int32) → Hp → Out (Int32)) (x23 : Int32) (h24 : Hp) : Out (Int32) :=
  if a1 ≤ x23 then (j12 () h24)
  else gFr h24 a0 3 0 fun v26 =>
  gAi h24 v26 1 x23 fun v27 =>
  bV h24 v6 21 (fun q30 => sJ3_append G N (some q30) (((v27 &&& (255 : Int32)).toUInt32 % 65536).toInt32) h24) fun v28 h29 =>
  w25 (x23 + (1 : Int32)) h29
noncomputable def sX1_find (G : GG) (N : Nat) (a0 : Option Nat) (a1 : Int32) (a2 : Int32) (h : Hp) : Out (Int32) :=
  bV h a0 3 (fun q32 => sX1_loaded G N (some q32) h) fun v1 h2 =>
  gFi h2 a0 3 1 fun v3 =>
  bnd (sX1_checkIndex G N a1 (v3 + (1 : Int32)) h2) fun v4 h5 =>
  gNew h5 21 [.null, .int 0, .int 0, .int 0] 4 fun v6 h7 =>
  bI v6 (fun q31 => sJ3_init G N (some q31) h7) fun v8 h9 =>
  gJ (fun (x10 : Unit) (h11 : Hp) =>
  gP G h11 a0 3 1 (.int (0 : Int32)) fun h13 =>
  gJ (fun (x14 : Option Nat) (h15 : Hp) =>
  bnd (sX1_number G N x14 v6 h15) fun v17 h18 =>
  some (.inl v17, h18)) fun j16 =>
  if a2 = 0 then (gFr h13 v1 16 0 fun v19 =>
  gFr h13 v19 11 0 fun v20 =>
  j16 v20 h13)
  else gFr h13 v1 16 0 fun v21 =>
  gFr h13 v21 11 1 fun v22 =>
  j16 v22 h13) fun j12 =>
  gLp (bX1_find_27 G N a0 a1 v6 j12) N (0 : Int32) h9
abbrev mX1_find : MI := (RX1, cX1_find, 6, (some .int), [], 8, 154, "find")
theorem tX1_find {G : GG} {l : Launch} (hs : l.stackTraces = false) {N : Nat} {a0 : Option Nat} {a1 : Int32} {a2 : Int32} {h : Hp} {r : Int32 ⊕ Nat} {hf : Hp} (ho : sX1_find G N a0 a1 a2 h = some (r, hf)) : gMet G l yX1_find (ws_ yX1_find cX1_find 6 (some .int)) 8 154 [gr a0, gi a1, gi a2] h cvI r hf := by
  refine gMet.of ho hs (plainFor_of_name pn_X1) rfl rfl (gbl rfl) fun X => ?_
  show gT G l X mX1_find cvI r hf 0 [(0, gr a0), (1, gi a1), (2, gi a2)] [] h (sX1_find G N a0 a1 a2 h)
  delta sX1_find
  refine g_aload_n (pc := 0) (x := a0) 0 rfl rfl dX1_find_0 ?_
  refine g_bVr (pc := 1) (y := yX1_loaded) (ws := ws_ yX1_loaded cX1_loaded 1 (some (.object "FlareSlopes$State"))) (fr := 7) (lo := 101) (as := []) (st := []) (g_no) rfl (fun _ _ _ e => tX1_loaded hs e) (fun K _ _ _ hq hM R e1 e2 => g_runV (M := mX1_find) (pc := 1) (y := yX1_loaded) (bytes := cX1_loaded) (maxL := 1) (ret := (some (.object "FlareSlopes$State"))) (fr := 7) (lo := 101) (as := []) (st := []) hq (C := "FlareSlopes") rfl gy_X1_loaded (gbl rfl) (gbl rfl) (gbl rfl) q1430 q1432 qs17 dX1_find_1 K hM R e1 e2) fun v1 h2 => ?_
  refine g_astore_n (pc := 4) (lv' := [(3, gr v1), (0, gr a0), (1, gi a1), (2, gi a2)]) [0, 1, 2, 3] rfl rfl (gblt rfl) dX1_find_4 ?_
  refine g_iload_n (pc := 5) (x := a1) 2 rfl rfl dX1_find_5 ?_
  refine g_aload_n (pc := 6) (x := a0) 1 rfl rfl dX1_find_6 ?_
  refine g_getfi (pc := 7) k_3 (gblt rfl) lk_X1_90_3 dX1_find_7 fun v3 => ?_
  refine g_iconst (pc := 10) (v := (1 : Int32)) ic_1 dX1_find_10 ?_
  refine g_iadd (pc := 11) dX1_find_11 ?_
  refine g_bu (pc := 12) (y := yX1_checkIndex) (ws := ws_ yX1_checkIndex cX1_checkIndex 2 none) (fr := 6) (lo := 81) (as := [gi a1, gi (v3 + (1 : Int32))]) (st := []) (g_no) rfl (fun _ _ e => tX1_checkIndex hs e) (fun K _ _ hM R e1 e2 => g_runS (M := mX1_find) (pc := 12) (y := yX1_checkIndex) (bytes := cX1_checkIndex) (maxL := 2) (ret := none) (fr := 6) (lo := 81) (as := [gi a1, gi (v3 + (1 : Int32))]) (st := []) gy_X1_checkIndex (gbl rfl) (gbl rfl) (gbl rfl) q410 q411 dX1_find_12 K hM R e1 e2) fun v4 h5 => ?_
  refine g_new (pc := 15) k_21 df_21 q235 q236 q132 dX1_find_15 fun v6 h7 => ?_
  refine g_dup (pc := 18) rfl dX1_find_18 ?_
  refine g_bIu (pc := 19) (y := yJ3_init) (ws := ws_ yJ3_init cJ3_init 1 none) (fr := 2) (lo := 33) (as := []) (st := [gr v6]) (g_no) rfl (fun _ _ _ e => tJ3_init hs e) (fun K _ _ _ hM R e1 e2 => g_runI (M := mX1_find) (pc := 19) (y := yJ3_init) (bytes := cJ3_init) (maxL := 1) (ret := none) (fr := 2) (lo := 33) (as := []) (st := [gr v6]) gy_J3_init (gbl rfl) (gbl rfl) (gbl rfl) rfl q237 q238 rfl dX1_find_19 K hM R e1 e2) fun v8 h9 => ?_
  refine g_astore (pc := 22) (lv' := [(4, gr v6), (3, gr v1), (0, gr a0), (1, gi a1), (2, gi a2)]) [0, 1, 2, 3, 4] rfl (gblt rfl) dX1_find_22 ?_
  refine g_iconst (pc := 24) (v := (0 : Int32)) ic_0 dX1_find_24 ?_
  refine g_istore (pc := 25) (lv' := [(5, gi (0 : Int32)), (4, gr v6), (3, gr v1), (0, gr a0), (1, gi a1), (2, gi a2)]) [0, 1, 2, 3, 4, 5] rfl (gblt rfl) dX1_find_25 ?_
  refine g_join 57 (fun (x10 : Unit) => [(0, gr a0), (2, gi a2), (3, gr v1), (4, gr v6)]) (fun (x10 : Unit) => []) (fun x10 h11 => ?_) (fun j12 Hj12 => ?_)
  · refine g_aload_n (pc := 57) (x := a0) 0 rfl rfl dX1_find_57 ?_
    refine g_iconst (pc := 58) (v := (0 : Int32)) ic_0 dX1_find_58 ?_
    refine g_put (pc := 59) k_3 (gblt rfl) lk_X1_90_3 rfl rfl (gNi _) dX1_find_59 fun h13 => ?_
    refine g_iload_n (pc := 62) (x := a2) 1 rfl rfl dX1_find_62 ?_
    refine g_join 83 (fun (x14 : Option Nat) => [(4, gr v6)]) (fun (x14 : Option Nat) => [gr x14]) (fun x14 h15 => ?_) (fun j16 Hj16 => ?_)
    · refine g_aload (pc := 83) (x := v6) 0 rfl dX1_find_83 ?_
      refine g_bi (pc := 85) (y := yX1_number) (ws := ws_ yX1_number cX1_number 2 (some .int)) (fr := 6) (lo := 133) (as := [gr x14, gr v6]) (st := []) (g_no) rfl (fun _ _ e => tX1_number hs e) (fun K _ _ hM R e1 e2 => g_runS (M := mX1_find) (pc := 85) (y := yX1_number) (bytes := cX1_number) (maxL := 2) (ret := (some .int)) (fr := 6) (lo := 133) (as := [gr x14, gr v6]) (st := []) gy_X1_number (gbl rfl) (gbl rfl) (gbl rfl) q1453 q1454 dX1_find_85 K hM R e1 e2) fun v17 h18 => ?_
      exact g_ireturn (pc := 88) rfl dX1_find_88
    refine g_if_eq (pc := 63) (tgt := 76) rfl dX1_find_63 ?_ ?_
    · refine g_aload_n (pc := 76) (x := v1) 2 rfl rfl dX1_find_76 ?_
      refine g_getfr (pc := 77) k_16 (gblt rfl) lk_X1_129_16 dX1_find_77 fun v19 => ?_
      refine g_getfr (pc := 80) k_11 (gblt rfl) lk_X1_138_11 dX1_find_80 fun v20 => ?_
      exact g_sub [3] rfl (Hj16 v20 h13)
    refine g_aload_n (pc := 66) (x := v1) 2 rfl rfl dX1_find_66 ?_
    refine g_getfr (pc := 67) k_16 (gblt rfl) lk_X1_129_16 dX1_find_67 fun v21 => ?_
    refine g_getfr (pc := 70) k_11 (gblt rfl) lk_X1_133_11 dX1_find_70 fun v22 => ?_
    refine g_goto (pc := 73) (tgt := 83) rfl dX1_find_73 ?_
    exact g_sub [3] rfl (Hj16 v22 h13)
  refine g_sub (lv' := [(0, gr a0), (1, gi a1), (2, gi a2), (3, gr v1), (4, gr v6), (5, gi (0 : Int32))]) [3, 4, 5, 2, 1, 0] rfl ?_
  refine g_loop (pc := 27) (fun (x23 : Int32) => [(0, gr a0), (1, gi a1), (2, gi a2), (3, gr v1), (4, gr v6), (5, gi x23)]) (fun (_ : Int32) => []) (fun w25 Hw25 x23 h24 => ?_) N (0 : Int32) h9
  delta bX1_find_27
  refine g_iload (pc := 27) (x := x23) 5 rfl dX1_find_27 ?_
  refine g_iload_n (pc := 29) (x := a1) 1 rfl rfl dX1_find_29 ?_
  refine g_icmp_ge (pc := 30) (tgt := 57) rfl dX1_find_30 ?_ ?_
  · exact g_sub [0, 2, 3, 4] rfl (Hj12 () h24)
  refine g_aload (pc := 33) (x := v6) 4 rfl dX1_find_33 ?_
  refine g_aload_n (pc := 35) (x := a0) 0 rfl rfl dX1_find_35 ?_
  refine g_getfr (pc := 36) k_3 (gblt rfl) lk_X1_15_3 dX1_find_36 fun v26 => ?_
  refine g_iload (pc := 39) (x := x23) 5 rfl dX1_find_39 ?_
  refine g_baload (pc := 41) rfl dX1_find_41 fun v27 => ?_
  refine g_sipush (pc := 42) (v := (255 : Int32)) sc_255 dX1_find_42 ?_
  refine g_iand (pc := 45) dX1_find_45 ?_
  refine g_i2c (pc := 46) dX1_find_46 ?_
  refine g_bVr (pc := 47) (y := yJ3_append) (ws := ws_ yJ3_append cJ3_append 2 (some (.object "java/lang/StringBuilder"))) (fr := 5) (lo := 112) (as := [gi (((v27 &&& (255 : Int32)).toUInt32 % 65536).toInt32)]) (st := []) (g_no) rfl (fun _ _ _ e => tJ3_append hs e) (fun K _ _ _ hq hM R e1 e2 => g_runV (M := mX1_find) (pc := 47) (y := yJ3_append) (bytes := cJ3_append) (maxL := 2) (ret := (some (.object "java/lang/StringBuilder"))) (fr := 5) (lo := 112) (as := [gi (((v27 &&& (255 : Int32)).toUInt32 % 65536).toInt32)]) (st := []) hq (C := "java/lang/StringBuilder") rfl gy_J3_append (gbl rfl) (gbl rfl) (gbl rfl) q1452 q620 q621 dX1_find_47 K hM R e1 e2) fun v28 h29 => ?_
  refine g_pop (pc := 50) rfl dX1_find_50 ?_
  refine g_iinc (pc := 51) (v := x23 + (1 : Int32)) 5 rfl (ii_1 _) (lv' := [(5, gi (x23 + (1 : Int32))), (0, gr a0), (1, gi a1), (2, gi a2), (3, gr v1), (4, gr v6)]) [0, 1, 2, 3, 4, 5] rfl (gblt rfl) dX1_find_51 ?_
  refine g_goto (pc := 54) (tgt := 27) rfl dX1_find_54 ?_
  exact g_sub [1, 2, 3, 4, 5, 0] rfl (Hw25 (x23 + (1 : Int32)) h29)
/-! FlareSlopesLaw.find(LFlareSlopes;IZ[J)I -/
noncomputable def sX0_find (G : GG) (N : Nat) (a0 : Option Nat) (a1 : Int32) (a2 : Int32) (a3 : Option Nat) (h : Hp) : Out (Int32) :=
  bVX h a0 3 (fun q4 => sX1_find G N (some q4) a1 a2 h) (fun v1 h2 =>
  gSl G h2 a3 3 (0 : Int32) (v1.toInt64) fun h3 =>
  some (.inl (0 : Int32), h3)) fun q5 h6 =>
  gSw h6 (some q5) 0 (some (.inl (1 : Int32), h6)) (gSw h6 (some q5) 2 (some (.inl (2 : Int32), h6)) (none))
abbrev mX0_find : MI := (RX0, cX0_find, 5, (some .int), [(0, 10, 13, 21), (0, 10, 17, 13)], 9, 179, "find")
theorem tX0_find {G : GG} {l : Launch} (hs : l.stackTraces = false) {N : Nat} {a0 : Option Nat} {a1 : Int32} {a2 : Int32} {a3 : Option Nat} {h : Hp} {r : Int32 ⊕ Nat} {hf : Hp} (ho : sX0_find G N a0 a1 a2 a3 h = some (r, hf)) : gMet G l yX0_find (wsW_ yX0_find cX0_find 5 (some .int) [(0, 10, 13, 21), (0, 10, 17, 13)]) 9 179 [gr a0, gi a1, gi a2, gr a3] h cvI r hf := by
  refine gMet.ofW ho hs (plainFor_of_name pn_X0) rfl rfl (gbl rfl) fun X => ?_
  show gT G l X mX0_find cvI r hf 0 [(0, gr a0), (1, gi a1), (2, gi a2), (3, gr a3)] [] h (sX0_find G N a0 a1 a2 a3 h)
  delta sX0_find
  refine g_aload_n (pc := 0) (x := a3) 3 rfl rfl dX0_find_0 ?_
  refine g_iconst (pc := 1) (v := (0 : Int32)) ic_0 dX0_find_1 ?_
  refine g_aload_n (pc := 2) (x := a0) 0 rfl rfl dX0_find_2 ?_
  refine g_iload_n (pc := 3) (x := a1) 1 rfl rfl dX0_find_3 ?_
  refine g_iload_n (pc := 4) (x := a2) 2 rfl rfl dX0_find_4 ?_
  refine g_bVXi (pc := 5) (y := yX1_find) (ws := ws_ yX1_find cX1_find 6 (some .int)) (fr := 8) (lo := 154) (as := [gi a1, gi a2]) (st := [gi (0 : Int32), gr a3]) rfl (fun _ _ _ e => tX1_find hs e) (fun K _ _ _ hq hM R e1 e2 => g_runV (M := mX0_find) (pc := 5) (y := yX1_find) (bytes := cX1_find) (maxL := 6) (ret := (some .int)) (fr := 8) (lo := 154) (as := [gi a1, gi a2]) (st := [gi (0 : Int32), gr a3]) hq (C := "FlareSlopes") rfl gy_X1_find (gbl rfl) (gbl rfl) (gbl rfl) q1426 q1427 q1428 dX0_find_5 K hM R e1 e2) (fun v1 h2 => ?_) (fun q5 h6 => ?_)
  · refine g_i2l (pc := 8) dX0_find_8 ?_
    refine g_lastore (pc := 9) rfl dX0_find_9 fun h3 => ?_
    refine g_goto (pc := 10) (tgt := 21) rfl dX0_find_10 ?_
    refine g_iconst (pc := 21) (v := (0 : Int32)) ic_0 dX0_find_21 ?_
    exact g_ireturn (pc := 22) rfl dX0_find_22
  refine g_catch (E := "java/lang/IllegalStateException") [] ⟨0, 10, 13, 21⟩ [⟨0, 10, 17, 13⟩] rfl rfl (List.forall_mem_nil _) (by decide +kernel) (by decide +kernel) q1425 q1439 ?_ ?_
  · refine g_astore (pc := 13) (lv' := []) [] rfl (gblt rfl) dX0_find_13 ?_
    refine g_iconst (pc := 15) (v := (1 : Int32)) ic_1 dX0_find_15 ?_
    exact g_ireturn (pc := 16) rfl dX0_find_16
  refine g_catch (E := "java/lang/IndexOutOfBoundsException") [⟨0, 10, 13, 21⟩] ⟨0, 10, 17, 13⟩ [] rfl rfl (List.forall_mem_cons.mpr ⟨Or.inr ⟨by decide +kernel, _, q1425, ncl_java_lang_IndexOutOfBoundsException_java_lang_IllegalStateException⟩, List.forall_mem_nil _⟩) (by decide +kernel) (by decide +kernel) q325 q418 ?_ ?_
  · refine g_astore (pc := 17) (lv' := []) [] rfl (gblt rfl) dX0_find_17 ?_
    refine g_iconst (pc := 19) (v := (2 : Int32)) ic_2 dX0_find_19 ?_
    exact g_ireturn (pc := 20) rfl dX0_find_20
  exact g_noneX
/-! FlareSlopesModel.mayTwo(ZZ)Z -/
noncomputable def sX2_mayTwo (G : GG) (N : Nat) (a0 : Option Nat) (a1 : Int32) (a2 : Int32) (h : Hp) : Out (Int32) :=
  bV h a0 18 (fun q3 => sX2_may G N (some q3) a1 a2 (1 : Int32) h) fun v1 h2 =>
  gRtZ v1 h2
abbrev mX2_mayTwo : MI := (RX2, cX2_mayTwo, 3, (some .boolean), [], 1, 23, "mayTwo")
theorem tX2_mayTwo {G : GG} {l : Launch} (hs : l.stackTraces = false) {N : Nat} {a0 : Option Nat} {a1 : Int32} {a2 : Int32} {h : Hp} {r : Int32 ⊕ Nat} {hf : Hp} (ho : sX2_mayTwo G N a0 a1 a2 h = some (r, hf)) : gMet G l yX2_mayTwo (ws_ yX2_mayTwo cX2_mayTwo 3 (some .boolean)) 1 23 [gr a0, gi a1, gi a2] h cvI r hf := by
  refine gMet.of ho hs (plainFor_of_name pn_X2) rfl rfl (gbl rfl) fun X => ?_
  show gT G l X mX2_mayTwo cvI r hf 0 [(0, gr a0), (1, gi a1), (2, gi a2)] [] h (sX2_mayTwo G N a0 a1 a2 h)
  delta sX2_mayTwo
  refine g_aload_n (pc := 0) (x := a0) 0 rfl rfl dX2_mayTwo_0 ?_
  refine g_iload_n (pc := 1) (x := a1) 1 rfl rfl dX2_mayTwo_1 ?_
  refine g_iload_n (pc := 2) (x := a2) 2 rfl rfl dX2_mayTwo_2 ?_
  refine g_iconst (pc := 3) (v := (1 : Int32)) ic_1 dX2_mayTwo_3 ?_
  refine g_bVi (pc := 4) (y := yX2_may) (ws := ws_ yX2_may cX2_may 4 (some .boolean)) (fr := 0) (lo := 0) (as := [gi a1, gi a2, gi (1 : Int32)]) (st := []) (g_no) rfl (fun _ _ _ e => tX2_may hs e) (fun K _ _ _ hq hM R e1 e2 => g_runV (M := mX2_mayTwo) (pc := 4) (y := yX2_may) (bytes := cX2_may) (maxL := 4) (ret := (some .boolean)) (fr := 0) (lo := 0) (as := [gi a1, gi a2, gi (1 : Int32)]) (st := []) hq (C := "FlareSlopesModel") rfl gy_X2_may (gbl rfl) (gbl rfl) (gbl rfl) q4040 q4042 qs54 dX2_mayTwo_4 K hM R e1 e2) fun v1 h2 => ?_
  exact g_zreturn (pc := 7) rfl dX2_mayTwo_7
/-! FlareSlopesModel.named(III)I -/
noncomputable def bX2_named_49 (G : GG) (N : Nat) (a0 : Option Nat) (a1 : Int32) (a2 : Int32) (a3 : Int32) (w8 : (Int32) → Hp → Out (Int32)) (x6 : Int32) (h7 : Hp) : Out (Int32) :=
  if a3 ≤ x6 then (some (.inl (-1 : Int32), h7))
  else gFr h7 a0 18 6 fun v9 =>
  gAl h7 v9 3 (a2 + x6) fun v10 =>
  bV h7 a0 18 (fun q13 => sX2_wordOf G N (some q13) (0 : Int32) a1 h7) fun v11 h12 =>
  if (lg_cmp v10 v11) = 0 then (some (.inl x6, h12))
  else w8 (x6 + (1 : Int32)) h12
noncomputable def bX2_named_15 (G : GG) (N : Nat) (a0 : Option Nat) (a1 : Int32) (j5 : (Unit) → Hp → Out (Int32)) (w16 : (Int32) → Hp → Out (Int32)) (x14 : Int32) (h15 : Hp) : Out (Int32) :=
  if a1 ≤ x14 then (j5 () h15)
  else gFr h15 a0 18 10 fun v17 =>
  gAi h15 v17 1 x14 fun v18 =>
  bnd (sX2_in G N v18 (97 : Int32) (122 : Int32) h15) fun v19 h20 =>
  if v19 = 0 then (some (.inl (-1 : Int32), h20))
  else w16 (x14 + (1 : Int32)) h20
noncomputable def sX2_named (G : GG) (N : Nat) (a0 : Option Nat) (a1 : Int32) (a2 : Int32) (a3 : Int32) (h : Hp) : Out (Int32) :=
  bnd (sX2_in G N a1 (1 : Int32) (6 : Int32) h) fun v1 h2 =>
  if v1 = 0 then (some (.inl (-1 : Int32), h2))
  else gJ (fun (x3 : Unit) (h4 : Hp) =>
  gLp (bX2_named_49 G N a0 a1 a2 a3) N (0 : Int32) h4) fun j5 =>
  gLp (bX2_named_15 G N a0 a1 j5) N (0 : Int32) h2
abbrev mX2_named : MI := (RX2, cX2_named, 5, (some .int), [], 1, 25, "named")
theorem tX2_named {G : GG} {l : Launch} (hs : l.stackTraces = false) {N : Nat} {a0 : Option Nat} {a1 : Int32} {a2 : Int32} {a3 : Int32} {h : Hp} {r : Int32 ⊕ Nat} {hf : Hp} (ho : sX2_named G N a0 a1 a2 a3 h = some (r, hf)) : gMet G l yX2_named (ws_ yX2_named cX2_named 5 (some .int)) 1 25 [gr a0, gi a1, gi a2, gi a3] h cvI r hf := by
  refine gMet.of ho hs (plainFor_of_name pn_X2) rfl rfl (gbl rfl) fun X => ?_
  show gT G l X mX2_named cvI r hf 0 [(0, gr a0), (1, gi a1), (2, gi a2), (3, gi a3)] [] h (sX2_named G N a0 a1 a2 a3 h)
  delta sX2_named
  refine g_iload_n (pc := 0) (x := a1) 1 rfl rfl dX2_named_0 ?_
  refine g_iconst (pc := 1) (v := (1 : Int32)) ic_1 dX2_named_1 ?_
  refine g_bipush (pc := 2) (v := (6 : Int32)) bc_6 dX2_named_2 ?_
  refine g_bi (pc := 4) (y := yX2_in) (ws := ws_ yX2_in cX2_in 3 (some .boolean)) (fr := 0) (lo := 0) (as := [gi a1, gi (1 : Int32), gi (6 : Int32)]) (st := []) (g_no) rfl (fun _ _ e => tX2_in hs e) (fun K _ _ hM R e1 e2 => g_runS (M := mX2_named) (pc := 4) (y := yX2_in) (bytes := cX2_in) (maxL := 3) (ret := (some .boolean)) (fr := 0) (lo := 0) (as := [gi a1, gi (1 : Int32), gi (6 : Int32)]) (st := []) gy_X2_in (gbl rfl) (gbl rfl) (gbl rfl) q4037 q4038 dX2_named_4 K hM R e1 e2) fun v1 h2 => ?_
  refine g_if_ne (pc := 7) (tgt := 12) rfl dX2_named_7 ?_ ?_
  · refine g_iconst (pc := 10) (v := (-1 : Int32)) ic_m1 dX2_named_10 ?_
    exact g_ireturn (pc := 11) rfl dX2_named_11
  refine g_iconst (pc := 12) (v := (0 : Int32)) ic_0 dX2_named_12 ?_
  refine g_istore (pc := 13) (lv' := [(4, gi (0 : Int32)), (0, gr a0), (1, gi a1), (2, gi a2), (3, gi a3)]) [0, 1, 2, 3, 4] rfl (gblt rfl) dX2_named_13 ?_
  refine g_join 46 (fun (x3 : Unit) => [(0, gr a0), (1, gi a1), (2, gi a2), (3, gi a3)]) (fun (x3 : Unit) => []) (fun x3 h4 => ?_) (fun j5 Hj5 => ?_)
  · refine g_iconst (pc := 46) (v := (0 : Int32)) ic_0 dX2_named_46 ?_
    refine g_istore (pc := 47) (lv' := [(4, gi (0 : Int32)), (0, gr a0), (1, gi a1), (2, gi a2), (3, gi a3)]) [0, 1, 2, 3, 4] rfl (gblt rfl) dX2_named_47 ?_
    refine g_sub (lv' := [(0, gr a0), (1, gi a1), (2, gi a2), (3, gi a3), (4, gi (0 : Int32))]) [1, 2, 3, 4, 0] rfl ?_
    refine g_loop (pc := 49) (fun (x6 : Int32) => [(0, gr a0), (1, gi a1), (2, gi a2), (3, gi a3), (4, gi x6)]) (fun (_ : Int32) => []) (fun w8 Hw8 x6 h7 => ?_) N (0 : Int32) h4
    delta bX2_named_49
    refine g_iload (pc := 49) (x := x6) 4 rfl dX2_named_49 ?_
    refine g_iload_n (pc := 51) (x := a3) 3 rfl rfl dX2_named_51 ?_
    refine g_icmp_ge (pc := 52) (tgt := 83) rfl dX2_named_52 ?_ ?_
    · refine g_iconst (pc := 83) (v := (-1 : Int32)) ic_m1 dX2_named_83 ?_
      exact g_ireturn (pc := 84) rfl dX2_named_84
    refine g_aload_n (pc := 55) (x := a0) 0 rfl rfl dX2_named_55 ?_
    refine g_getfr (pc := 56) k_18 (gblt rfl) lk_X2_26_18 dX2_named_56 fun v9 => ?_
    refine g_iload_n (pc := 59) (x := a2) 2 rfl rfl dX2_named_59 ?_
    refine g_iload (pc := 60) (x := x6) 4 rfl dX2_named_60 ?_
    refine g_iadd (pc := 62) dX2_named_62 ?_
    refine g_laload (pc := 63) rfl dX2_named_63 fun v10 => ?_
    refine g_aload_n (pc := 64) (x := a0) 0 rfl rfl dX2_named_64 ?_
    refine g_iconst (pc := 65) (v := (0 : Int32)) ic_0 dX2_named_65 ?_
    refine g_iload_n (pc := 66) (x := a1) 1 rfl rfl dX2_named_66 ?_
    refine g_bVl (pc := 67) (y := yX2_wordOf) (ws := ws_ yX2_wordOf cX2_wordOf 6 (some .long)) (fr := 0) (lo := 0) (as := [gi (0 : Int32), gi a1]) (st := [gl v10]) (g_no) rfl (fun _ _ _ e => tX2_wordOf hs e) (fun K _ _ _ hq hM R e1 e2 => g_runV (M := mX2_named) (pc := 67) (y := yX2_wordOf) (bytes := cX2_wordOf) (maxL := 6) (ret := (some .long)) (fr := 0) (lo := 0) (as := [gi (0 : Int32), gi a1]) (st := [gl v10]) hq (C := "FlareSlopesModel") rfl gy_X2_wordOf (gbl rfl) (gbl rfl) (gbl rfl) q4059 q4061 qs58 dX2_named_67 K hM R e1 e2) fun v11 h12 => ?_
    refine g_lcmp (pc := 70) dX2_named_70 ?_
    refine g_if_ne (pc := 71) (tgt := 77) rfl dX2_named_71 ?_ ?_
    · refine g_iload (pc := 74) (x := x6) 4 rfl dX2_named_74 ?_
      exact g_ireturn (pc := 76) rfl dX2_named_76
    refine g_iinc (pc := 77) (v := x6 + (1 : Int32)) 4 rfl (ii_1 _) (lv' := [(4, gi (x6 + (1 : Int32))), (0, gr a0), (1, gi a1), (2, gi a2), (3, gi a3)]) [0, 1, 2, 3, 4] rfl (gblt rfl) dX2_named_77 ?_
    refine g_goto (pc := 80) (tgt := 49) rfl dX2_named_80 ?_
    exact g_sub [1, 2, 3, 4, 0] rfl (Hw8 (x6 + (1 : Int32)) h12)
  refine g_sub (lv' := [(0, gr a0), (1, gi a1), (2, gi a2), (3, gi a3), (4, gi (0 : Int32))]) [1, 2, 3, 4, 0] rfl ?_
  refine g_loop (pc := 15) (fun (x14 : Int32) => [(0, gr a0), (1, gi a1), (2, gi a2), (3, gi a3), (4, gi x14)]) (fun (_ : Int32) => []) (fun w16 Hw16 x14 h15 => ?_) N (0 : Int32) h2
  delta bX2_named_15
  refine g_iload (pc := 15) (x := x14) 4 rfl dX2_named_15 ?_
  refine g_iload_n (pc := 17) (x := a1) 1 rfl rfl dX2_named_17 ?_
  refine g_icmp_ge (pc := 18) (tgt := 46) rfl dX2_named_18 ?_ ?_
  · exact g_sub [0, 1, 2, 3] rfl (Hj5 () h15)
  refine g_aload_n (pc := 21) (x := a0) 0 rfl rfl dX2_named_21 ?_
  refine g_getfr (pc := 22) k_18 (gblt rfl) lk_X2_33_18 dX2_named_22 fun v17 => ?_
  refine g_iload (pc := 25) (x := x14) 4 rfl dX2_named_25 ?_
  refine g_baload (pc := 27) rfl dX2_named_27 fun v18 => ?_
  refine g_bipush (pc := 28) (v := (97 : Int32)) bc_97 dX2_named_28 ?_
  refine g_bipush (pc := 30) (v := (122 : Int32)) bc_122 dX2_named_30 ?_
  refine g_bi (pc := 32) (y := yX2_in) (ws := ws_ yX2_in cX2_in 3 (some .boolean)) (fr := 0) (lo := 0) (as := [gi v18, gi (97 : Int32), gi (122 : Int32)]) (st := []) (g_no) rfl (fun _ _ e => tX2_in hs e) (fun K _ _ hM R e1 e2 => g_runS (M := mX2_named) (pc := 32) (y := yX2_in) (bytes := cX2_in) (maxL := 3) (ret := (some .boolean)) (fr := 0) (lo := 0) (as := [gi v18, gi (97 : Int32), gi (122 : Int32)]) (st := []) gy_X2_in (gbl rfl) (gbl rfl) (gbl rfl) q4037 q4038 dX2_named_32 K hM R e1 e2) fun v19 h20 => ?_
  refine g_if_ne (pc := 35) (tgt := 40) rfl dX2_named_35 ?_ ?_
  · refine g_iconst (pc := 38) (v := (-1 : Int32)) ic_m1 dX2_named_38 ?_
    exact g_ireturn (pc := 39) rfl dX2_named_39
  refine g_iinc (pc := 40) (v := x14 + (1 : Int32)) 4 rfl (ii_1 _) (lv' := [(4, gi (x14 + (1 : Int32))), (0, gr a0), (1, gi a1), (2, gi a2), (3, gi a3)]) [0, 1, 2, 3, 4] rfl (gblt rfl) dX2_named_40 ?_
  refine g_goto (pc := 43) (tgt := 15) rfl dX2_named_43 ?_
  exact g_sub [1, 2, 3, 4, 0] rfl (Hw16 (x14 + (1 : Int32)) h20)
/-! FlareSlopesModel.find(IZ)I -/
noncomputable def sX2_find (G : GG) (N : Nat) (a0 : Option Nat) (a1 : Int32) (a2 : Int32) (h : Hp) : Out (Int32) :=
  gFi h a0 18 8 fun v1 =>
  gFi h a0 18 11 fun v2 =>
  bnd (sX2_in G N a1 (0 : Int32) v2 h) fun v3 h4 =>
  bV h4 a0 18 (fun q18 => sX2_mayTwo G N (some q18) v1 v3 h4) fun v5 h6 =>
  if v5 = 0 then (some (.inl (0 : Int32), h6))
  else gP G h6 a0 18 11 (.int (0 : Int32)) fun h7 =>
  if a2 = 0 then (gFr h7 a0 18 1 fun v8 =>
  gAi h7 v8 0 (6 : Int32) fun v9 =>
  bV h7 a0 18 (fun q12 => sX2_named G N (some q12) a1 (0 : Int32) v9 h7) fun v10 h11 =>
  some (.inl v10, h11))
  else gFr h7 a0 18 1 fun v13 =>
  gAi h7 v13 0 (7 : Int32) fun v14 =>
  bV h7 a0 18 (fun q17 => sX2_named G N (some q17) a1 (10 : Int32) v14 h7) fun v15 h16 =>
  some (.inl v15, h16)
abbrev mX2_find : MI := (RX2, cX2_find, 3, (some .int), [], 2, 49, "find")
theorem tX2_find {G : GG} {l : Launch} (hs : l.stackTraces = false) {N : Nat} {a0 : Option Nat} {a1 : Int32} {a2 : Int32} {h : Hp} {r : Int32 ⊕ Nat} {hf : Hp} (ho : sX2_find G N a0 a1 a2 h = some (r, hf)) : gMet G l yX2_find (ws_ yX2_find cX2_find 3 (some .int)) 2 49 [gr a0, gi a1, gi a2] h cvI r hf := by
  refine gMet.of ho hs (plainFor_of_name pn_X2) rfl rfl (gbl rfl) fun X => ?_
  show gT G l X mX2_find cvI r hf 0 [(0, gr a0), (1, gi a1), (2, gi a2)] [] h (sX2_find G N a0 a1 a2 h)
  delta sX2_find
  refine g_aload_n (pc := 0) (x := a0) 0 rfl rfl dX2_find_0 ?_
  refine g_aload_n (pc := 1) (x := a0) 0 rfl rfl dX2_find_1 ?_
  refine g_getfi (pc := 2) k_18 (gblt rfl) lk_X2_184_18 dX2_find_2 fun v1 => ?_
  refine g_iload_n (pc := 5) (x := a1) 1 rfl rfl dX2_find_5 ?_
  refine g_iconst (pc := 6) (v := (0 : Int32)) ic_0 dX2_find_6 ?_
  refine g_aload_n (pc := 7) (x := a0) 0 rfl rfl dX2_find_7 ?_
  refine g_getfi (pc := 8) k_18 (gblt rfl) lk_X2_51_18 dX2_find_8 fun v2 => ?_
  refine g_bi (pc := 11) (y := yX2_in) (ws := ws_ yX2_in cX2_in 3 (some .boolean)) (fr := 0) (lo := 0) (as := [gi a1, gi (0 : Int32), gi v2]) (st := [gi v1, gr a0]) (g_no) rfl (fun _ _ e => tX2_in hs e) (fun K _ _ hM R e1 e2 => g_runS (M := mX2_find) (pc := 11) (y := yX2_in) (bytes := cX2_in) (maxL := 3) (ret := (some .boolean)) (fr := 0) (lo := 0) (as := [gi a1, gi (0 : Int32), gi v2]) (st := [gi v1, gr a0]) gy_X2_in (gbl rfl) (gbl rfl) (gbl rfl) q4037 q4038 dX2_find_11 K hM R e1 e2) fun v3 h4 => ?_
  refine g_bVi (pc := 14) (y := yX2_mayTwo) (ws := ws_ yX2_mayTwo cX2_mayTwo 3 (some .boolean)) (fr := 1) (lo := 23) (as := [gi v1, gi v3]) (st := []) (g_no) rfl (fun _ _ _ e => tX2_mayTwo hs e) (fun K _ _ _ hq hM R e1 e2 => g_runV (M := mX2_find) (pc := 14) (y := yX2_mayTwo) (bytes := cX2_mayTwo) (maxL := 3) (ret := (some .boolean)) (fr := 1) (lo := 23) (as := [gi v1, gi v3]) (st := []) hq (C := "FlareSlopesModel") rfl gy_X2_mayTwo (gbl rfl) (gbl rfl) (gbl rfl) q4145 q4147 qs76 dX2_find_14 K hM R e1 e2) fun v5 h6 => ?_
  refine g_if_ne (pc := 17) (tgt := 22) rfl dX2_find_17 ?_ ?_
  · refine g_iconst (pc := 20) (v := (0 : Int32)) ic_0 dX2_find_20 ?_
    exact g_ireturn (pc := 21) rfl dX2_find_21
  refine g_aload_n (pc := 22) (x := a0) 0 rfl rfl dX2_find_22 ?_
  refine g_iconst (pc := 23) (v := (0 : Int32)) ic_0 dX2_find_23 ?_
  refine g_put (pc := 24) k_18 (gblt rfl) lk_X2_51_18 rfl rfl (gNi _) dX2_find_24 fun h7 => ?_
  refine g_iload_n (pc := 27) (x := a2) 2 rfl rfl dX2_find_27 ?_
  refine g_if_eq (pc := 28) (tgt := 48) rfl dX2_find_28 ?_ ?_
  · refine g_aload_n (pc := 48) (x := a0) 0 rfl rfl dX2_find_48 ?_
    refine g_iload_n (pc := 49) (x := a1) 1 rfl rfl dX2_find_49 ?_
    refine g_iconst (pc := 50) (v := (0 : Int32)) ic_0 dX2_find_50 ?_
    refine g_aload_n (pc := 51) (x := a0) 0 rfl rfl dX2_find_51 ?_
    refine g_getfr (pc := 52) k_18 (gblt rfl) lk_X2_9_18 dX2_find_52 fun v8 => ?_
    refine g_bipush (pc := 55) (v := (6 : Int32)) bc_6 dX2_find_55 ?_
    refine g_iaload (pc := 57) rfl dX2_find_57 fun v9 => ?_
    refine g_bVi (pc := 58) (y := yX2_named) (ws := ws_ yX2_named cX2_named 5 (some .int)) (fr := 1) (lo := 25) (as := [gi a1, gi (0 : Int32), gi v9]) (st := []) (g_no) rfl (fun _ _ _ e => tX2_named hs e) (fun K _ _ _ hq hM R e1 e2 => g_runV (M := mX2_find) (pc := 58) (y := yX2_named) (bytes := cX2_named) (maxL := 5) (ret := (some .int)) (fr := 1) (lo := 25) (as := [gi a1, gi (0 : Int32), gi v9]) (st := []) hq (C := "FlareSlopesModel") rfl gy_X2_named (gbl rfl) (gbl rfl) (gbl rfl) q4149 q4151 qs77 dX2_find_58 K hM R e1 e2) fun v10 h11 => ?_
    exact g_ireturn (pc := 61) rfl dX2_find_61
  refine g_aload_n (pc := 31) (x := a0) 0 rfl rfl dX2_find_31 ?_
  refine g_iload_n (pc := 32) (x := a1) 1 rfl rfl dX2_find_32 ?_
  refine g_bipush (pc := 33) (v := (10 : Int32)) bc_10 dX2_find_33 ?_
  refine g_aload_n (pc := 35) (x := a0) 0 rfl rfl dX2_find_35 ?_
  refine g_getfr (pc := 36) k_18 (gblt rfl) lk_X2_9_18 dX2_find_36 fun v13 => ?_
  refine g_bipush (pc := 39) (v := (7 : Int32)) bc_7 dX2_find_39 ?_
  refine g_iaload (pc := 41) rfl dX2_find_41 fun v14 => ?_
  refine g_bVi (pc := 42) (y := yX2_named) (ws := ws_ yX2_named cX2_named 5 (some .int)) (fr := 1) (lo := 25) (as := [gi a1, gi (10 : Int32), gi v14]) (st := []) (g_no) rfl (fun _ _ _ e => tX2_named hs e) (fun K _ _ _ hq hM R e1 e2 => g_runV (M := mX2_find) (pc := 42) (y := yX2_named) (bytes := cX2_named) (maxL := 5) (ret := (some .int)) (fr := 1) (lo := 25) (as := [gi a1, gi (10 : Int32), gi v14]) (st := []) hq (C := "FlareSlopesModel") rfl gy_X2_named (gbl rfl) (gbl rfl) (gbl rfl) q4149 q4151 qs77 dX2_find_42 K hM R e1 e2) fun v15 h16 => ?_
  refine g_goto (pc := 45) (tgt := 61) rfl dX2_find_45 ?_
  exact g_ireturn (pc := 61) rfl dX2_find_61
/-! FlareSlopes$State.slopes()I -/
noncomputable def sX3_slopes (G : GG) (N : Nat) (a0 : Option Nat) (h : Hp) : Out (Int32) :=
  gFr h a0 16 0 fun v1 =>
  gFr h v1 11 1 fun v2 =>
  bV h v2 13 (fun q5 => sX6_size G N (some q5) h) fun v3 h4 =>
  some (.inl v3, h4)
abbrev mX3_slopes : MI := (RX3, cX3_slopes, 1, (some .int), [], 2, 40, "slopes")
theorem tX3_slopes {G : GG} {l : Launch} (hs : l.stackTraces = false) {N : Nat} {a0 : Option Nat} {h : Hp} {r : Int32 ⊕ Nat} {hf : Hp} (ho : sX3_slopes G N a0 h = some (r, hf)) : gMet G l yX3_slopes (ws_ yX3_slopes cX3_slopes 1 (some .int)) 2 40 [gr a0] h cvI r hf := by
  refine gMet.of ho hs (plainFor_of_name pn_X3) rfl rfl (gbl rfl) fun X => ?_
  show gT G l X mX3_slopes cvI r hf 0 [(0, gr a0)] [] h (sX3_slopes G N a0 h)
  delta sX3_slopes
  refine g_aload_n (pc := 0) (x := a0) 0 rfl rfl dX3_slopes_0 ?_
  refine g_getfr (pc := 1) k_16 (gblt rfl) lk_X3_35_16 dX3_slopes_1 fun v1 => ?_
  refine g_getfr (pc := 4) k_11 (gblt rfl) lk_X3_124_11 dX3_slopes_4 fun v2 => ?_
  refine g_bVi (pc := 7) (y := yX6_size) (ws := ws_ yX6_size cX6_size 1 (some .int)) (fr := 1) (lo := 20) (as := []) (st := []) (g_no) rfl (fun _ _ _ e => tX6_size hs e) (fun K _ _ _ hq hM R e1 e2 => g_runV (M := mX3_slopes) (pc := 7) (y := yX6_size) (bytes := cX6_size) (maxL := 1) (ret := (some .int)) (fr := 1) (lo := 20) (as := []) (st := []) hq (C := "FlareSlopes$Register") rfl gy_X6_size (gbl rfl) (gbl rfl) (gbl rfl) q1229 q964 q965 dX3_slopes_7 K hM R e1 e2) fun v3 h4 => ?_
  exact g_ireturn (pc := 10) rfl dX3_slopes_10
/-! java/util/ArrayList$Itr.<init>(Ljava/util/ArrayList;)V -/
noncomputable def sJ26_init (G : GG) (N : Nat) (a0 : Option Nat) (a1 : Option Nat) (h : Hp) : Out (Unit) :=
  gP G h a0 25 3 (va_rf a1) fun h1 =>
  gNN a0 (gP G h1 a0 25 1 (.int (-1 : Int32)) fun h2 =>
  gFr h2 a0 25 3 fun v3 =>
  gFi h2 v3 24 0 fun v4 =>
  gP G h2 a0 25 2 (.int v4) fun h5 =>
  some (.inl (), h5))
abbrev mJ26_init : MI := (RJ26, cJ26_init, 2, none, [], 1, 12, "<init>")
theorem tJ26_init {G : GG} {l : Launch} (hs : l.stackTraces = false) {N : Nat} {a0 : Option Nat} {a1 : Option Nat} {h : Hp} {r : Unit ⊕ Nat} {hf : Hp} (ho : sJ26_init G N a0 a1 h = some (r, hf)) : gMet G l yJ26_init (ws_ yJ26_init cJ26_init 2 none) 1 12 [gr a0, gr a1] h cvU r hf := by
  refine gMet.of ho hs (plainFor_of_name pn_J26) rfl rfl (gbl rfl) fun X => ?_
  show gT G l X mJ26_init cvU r hf 0 [(0, gr a0), (1, gr a1)] [] h (sJ26_init G N a0 a1 h)
  delta sJ26_init
  refine g_aload_n (pc := 0) (x := a0) 0 rfl rfl dJ26_init_0 ?_
  refine g_aload_n (pc := 1) (x := a1) 1 rfl rfl dJ26_init_1 ?_
  refine g_putFin (pc := 2) k_25 (gblt rfl) lk_J26_1_25 q1492 rfl rfl rfl rfl (gNr _ _) dJ26_init_2 fun h1 => ?_
  refine g_aload_n (pc := 5) (x := a0) 0 rfl rfl dJ26_init_5 ?_
  refine g_objInit' (pc := 6) q1488 oi_in oi_code (gbl rfl) (gbl rfl) dJ26_init_6 ?_
  refine g_aload_n (pc := 9) (x := a0) 0 rfl rfl dJ26_init_9 ?_
  refine g_iconst (pc := 10) (v := (-1 : Int32)) ic_m1 dJ26_init_10 ?_
  refine g_put (pc := 11) k_25 (gblt rfl) lk_J26_13_25 rfl rfl (gNi _) dJ26_init_11 fun h2 => ?_
  refine g_aload_n (pc := 14) (x := a0) 0 rfl rfl dJ26_init_14 ?_
  refine g_aload_n (pc := 15) (x := a0) 0 rfl rfl dJ26_init_15 ?_
  refine g_getfr (pc := 16) k_25 (gblt rfl) lk_J26_1_25 dJ26_init_16 fun v3 => ?_
  refine g_getfi (pc := 19) k_24 (gblt rfl) lk_J26_17_24 dJ26_init_19 fun v4 => ?_
  refine g_put (pc := 22) k_25 (gblt rfl) lk_J26_22_25 rfl rfl (gNi _) dJ26_init_22 fun h5 => ?_
  exact g_return (pc := 25) rfl dJ26_init_25
/-! java/util/ArrayList.iterator()Ljava/util/Iterator; -/
noncomputable def sJ12_iterator (G : GG) (N : Nat) (a0 : Option Nat) (h : Hp) : Out (Option Nat) :=
  gNew h 25 [.int 0, .int 0, .int 0, .null] 4 fun v1 h2 =>
  bI v1 (fun q5 => sJ26_init G N (some q5) a0 h2) fun v3 h4 =>
  some (.inl v1, h4)
abbrev mJ12_iterator : MI := (RJ12, cJ12_iterator, 1, (some (.object "java/util/Iterator")), [], 2, 33, "iterator")
theorem tJ12_iterator {G : GG} {l : Launch} (hs : l.stackTraces = false) {N : Nat} {a0 : Option Nat} {h : Hp} {r : Option Nat ⊕ Nat} {hf : Hp} (ho : sJ12_iterator G N a0 h = some (r, hf)) : gMet G l yJ12_iterator (ws_ yJ12_iterator cJ12_iterator 1 (some (.object "java/util/Iterator"))) 2 33 [gr a0] h cvR r hf := by
  refine gMet.of ho hs (plainFor_of_name pn_J12) rfl rfl (gbl rfl) fun X => ?_
  show gT G l X mJ12_iterator cvR r hf 0 [(0, gr a0)] [] h (sJ12_iterator G N a0 h)
  delta sJ12_iterator
  refine g_new (pc := 0) k_25 df_25 q1483 q1484 q167 dJ12_iterator_0 fun v1 h2 => ?_
  refine g_dup (pc := 3) rfl dJ12_iterator_3 ?_
  refine g_aload_n (pc := 4) (x := a0) 0 rfl rfl dJ12_iterator_4 ?_
  refine g_bIu (pc := 5) (y := yJ26_init) (ws := ws_ yJ26_init cJ26_init 2 none) (fr := 1) (lo := 12) (as := [gr a0]) (st := [gr v1]) (g_no) rfl (fun _ _ _ e => tJ26_init hs e) (fun K _ _ _ hM R e1 e2 => g_runI (M := mJ12_iterator) (pc := 5) (y := yJ26_init) (bytes := cJ26_init) (maxL := 2) (ret := none) (fr := 1) (lo := 12) (as := [gr a0]) (st := [gr v1]) gy_J26_init (gbl rfl) (gbl rfl) (gbl rfl) rfl q1485 q1486 rfl dJ12_iterator_5 K hM R e1 e2) fun v3 h4 => ?_
  exact g_areturn (pc := 8) rfl (Or.inl ⟨_, rfl⟩) dJ12_iterator_8
/-! java/util/ArrayList$Itr.hasNext()Z -/
noncomputable def sJ26_hasNext (G : GG) (N : Nat) (a0 : Option Nat) (h : Hp) : Out (Int32) :=
  gFi h a0 25 0 fun v1 =>
  gFr h a0 25 3 fun v2 =>
  gFi h v2 24 2 fun v3 =>
  if v1 = v3 then (gRtZ (0 : Int32) h)
  else gRtZ (1 : Int32) h
abbrev mJ26_hasNext : MI := (RJ26, cJ26_hasNext, 1, (some .boolean), [], 0, 0, "hasNext")
theorem tJ26_hasNext {G : GG} {l : Launch} (hs : l.stackTraces = false) {N : Nat} {a0 : Option Nat} {h : Hp} {r : Int32 ⊕ Nat} {hf : Hp} (ho : sJ26_hasNext G N a0 h = some (r, hf)) : gMet G l yJ26_hasNext (ws_ yJ26_hasNext cJ26_hasNext 1 (some .boolean)) 0 0 [gr a0] h cvI r hf := by
  refine gMet.of ho hs (plainFor_of_name pn_J26) rfl rfl (gbl rfl) fun X => ?_
  show gT G l X mJ26_hasNext cvI r hf 0 [(0, gr a0)] [] h (sJ26_hasNext G N a0 h)
  delta sJ26_hasNext
  refine g_aload_n (pc := 0) (x := a0) 0 rfl rfl dJ26_hasNext_0 ?_
  refine g_getfi (pc := 1) k_25 (gblt rfl) lk_J26_25_25 dJ26_hasNext_1 fun v1 => ?_
  refine g_aload_n (pc := 4) (x := a0) 0 rfl rfl dJ26_hasNext_4 ?_
  refine g_getfr (pc := 5) k_25 (gblt rfl) lk_J26_1_25 dJ26_hasNext_5 fun v2 => ?_
  refine g_getfi (pc := 8) k_24 (gblt rfl) lk_J26_28_24 dJ26_hasNext_8 fun v3 => ?_
  refine g_icmp_eq (pc := 11) (tgt := 18) rfl dJ26_hasNext_11 ?_ ?_
  · refine g_iconst (pc := 18) (v := (0 : Int32)) ic_0 dJ26_hasNext_18 ?_
    exact g_zreturn (pc := 19) rfl dJ26_hasNext_19
  refine g_iconst (pc := 14) (v := (1 : Int32)) ic_1 dJ26_hasNext_14 ?_
  refine g_goto (pc := 15) (tgt := 19) rfl dJ26_hasNext_15 ?_
  exact g_zreturn (pc := 19) rfl dJ26_hasNext_19
/-! java/util/ArrayList$Itr.checkForComodification()V -/
noncomputable def sJ26_checkForComodification (G : GG) (N : Nat) (a0 : Option Nat) (h : Hp) : Out (Unit) :=
  gFr h a0 25 3 fun v1 =>
  gFi h v1 24 0 fun v2 =>
  gFi h a0 25 2 fun v3 =>
  if v2 = v3 then (some (.inl (), h))
  else none
abbrev mJ26_checkForComodification : MI := (RJ26, cJ26_checkForComodification, 1, none, [], 0, 0, "checkForComodification")
theorem tJ26_checkForComodification {G : GG} {l : Launch} (hs : l.stackTraces = false) {N : Nat} {a0 : Option Nat} {h : Hp} {r : Unit ⊕ Nat} {hf : Hp} (ho : sJ26_checkForComodification G N a0 h = some (r, hf)) : gMet G l yJ26_checkForComodification (ws_ yJ26_checkForComodification cJ26_checkForComodification 1 none) 0 0 [gr a0] h cvU r hf := by
  refine gMet.of ho hs (plainFor_of_name pn_J26) rfl rfl (gbl rfl) fun X => ?_
  show gT G l X mJ26_checkForComodification cvU r hf 0 [(0, gr a0)] [] h (sJ26_checkForComodification G N a0 h)
  delta sJ26_checkForComodification
  refine g_aload_n (pc := 0) (x := a0) 0 rfl rfl dJ26_checkForComodification_0 ?_
  refine g_getfr (pc := 1) k_25 (gblt rfl) lk_J26_1_25 dJ26_checkForComodification_1 fun v1 => ?_
  refine g_getfi (pc := 4) k_24 (gblt rfl) lk_J26_17_24 dJ26_checkForComodification_4 fun v2 => ?_
  refine g_aload_n (pc := 7) (x := a0) 0 rfl rfl dJ26_checkForComodification_7 ?_
  refine g_getfi (pc := 8) k_25 (gblt rfl) lk_J26_22_25 dJ26_checkForComodification_8 fun v3 => ?_
  refine g_icmp_eq (pc := 11) (tgt := 22) rfl dJ26_checkForComodification_11 ?_ ?_
  · exact g_return (pc := 22) rfl dJ26_checkForComodification_22
  exact g_none
/-! java/util/ArrayList$Itr.next()Ljava/lang/Object; -/
noncomputable def sJ26_next (G : GG) (N : Nat) (a0 : Option Nat) (h : Hp) : Out (Option Nat) :=
  bV h a0 25 (fun q12 => sJ26_checkForComodification G N (some q12) h) fun v1 h2 =>
  gFi h2 a0 25 0 fun v3 =>
  gFr h2 a0 25 3 fun v4 =>
  gFi h2 v4 24 2 fun v5 =>
  if v3 < v5 then (gFr h2 a0 25 3 fun v6 =>
  gFr h2 v6 24 1 fun v7 =>
  gLen h2 v7 fun v8 =>
  if v3 < v8 then (gP G h2 a0 25 0 (.int (v3 + (1 : Int32))) fun h9 =>
  gP G h9 a0 25 1 (.int v3) fun h10 =>
  gAr h10 v7 5 v3 fun v11 =>
  some (.inl v11, h10))
  else none)
  else none
abbrev mJ26_next : MI := (RJ26, cJ26_next, 3, (some (.object "java/lang/Object")), [], 1, 20, "next")
theorem tJ26_next {G : GG} {l : Launch} (hs : l.stackTraces = false) {N : Nat} {a0 : Option Nat} {h : Hp} {r : Option Nat ⊕ Nat} {hf : Hp} (ho : sJ26_next G N a0 h = some (r, hf)) : gMet G l yJ26_next (ws_ yJ26_next cJ26_next 3 (some (.object "java/lang/Object"))) 1 20 [gr a0] h cvR r hf := by
  refine gMet.of ho hs (plainFor_of_name pn_J26) rfl rfl (gbl rfl) fun X => ?_
  show gT G l X mJ26_next cvR r hf 0 [(0, gr a0)] [] h (sJ26_next G N a0 h)
  delta sJ26_next
  refine g_aload_n (pc := 0) (x := a0) 0 rfl rfl dJ26_next_0 ?_
  refine g_bVu (pc := 1) (y := yJ26_checkForComodification) (ws := ws_ yJ26_checkForComodification cJ26_checkForComodification 1 none) (fr := 0) (lo := 0) (as := []) (st := []) (g_no) rfl (fun _ _ _ e => tJ26_checkForComodification hs e) (fun K _ _ _ hq hM R e1 e2 => g_runV (M := mJ26_next) (pc := 1) (y := yJ26_checkForComodification) (bytes := cJ26_checkForComodification) (maxL := 1) (ret := none) (fr := 0) (lo := 0) (as := []) (st := []) hq (C := "java/util/ArrayList$Itr") rfl gy_J26_checkForComodification (gbl rfl) (gbl rfl) (gbl rfl) q1556 q1557 q1558 dJ26_next_1 K hM R e1 e2) fun v1 h2 => ?_
  refine g_aload_n (pc := 4) (x := a0) 0 rfl rfl dJ26_next_4 ?_
  refine g_getfi (pc := 5) k_25 (gblt rfl) lk_J26_25_25 dJ26_next_5 fun v3 => ?_
  refine g_istore_n (pc := 8) (lv' := [(1, gi v3), (0, gr a0)]) [0, 1] rfl rfl (gblt rfl) dJ26_next_8 ?_
  refine g_iload_n (pc := 9) (x := v3) 0 rfl rfl dJ26_next_9 ?_
  refine g_aload_n (pc := 10) (x := a0) 1 rfl rfl dJ26_next_10 ?_
  refine g_getfr (pc := 11) k_25 (gblt rfl) lk_J26_1_25 dJ26_next_11 fun v4 => ?_
  refine g_getfi (pc := 14) k_24 (gblt rfl) lk_J26_28_24 dJ26_next_14 fun v5 => ?_
  refine g_icmp_lt (pc := 17) (tgt := 28) rfl dJ26_next_17 ?_ ?_
  rotate_left
  · exact g_none
  refine g_aload_n (pc := 28) (x := a0) 1 rfl rfl dJ26_next_28 ?_
  refine g_getfr (pc := 29) k_25 (gblt rfl) lk_J26_1_25 dJ26_next_29 fun v6 => ?_
  refine g_getfr (pc := 32) k_24 (gblt rfl) lk_J26_37_24 dJ26_next_32 fun v7 => ?_
  refine g_astore_n (pc := 35) (lv' := [(2, gr v7), (1, gi v3), (0, gr a0)]) [0, 1, 2] rfl rfl (gblt rfl) dJ26_next_35 ?_
  refine g_iload_n (pc := 36) (x := v3) 1 rfl rfl dJ26_next_36 ?_
  refine g_aload_n (pc := 37) (x := v7) 0 rfl rfl dJ26_next_37 ?_
  refine g_alen (pc := 38) dJ26_next_38 fun v8 => ?_
  refine g_icmp_lt (pc := 39) (tgt := 50) rfl dJ26_next_39 ?_ ?_
  rotate_left
  · exact g_none
  refine g_aload_n (pc := 50) (x := a0) 2 rfl rfl dJ26_next_50 ?_
  refine g_iload_n (pc := 51) (x := v3) 1 rfl rfl dJ26_next_51 ?_
  refine g_iconst (pc := 52) (v := (1 : Int32)) ic_1 dJ26_next_52 ?_
  refine g_iadd (pc := 53) dJ26_next_53 ?_
  refine g_put (pc := 54) k_25 (gblt rfl) lk_J26_25_25 rfl rfl (gNi _) dJ26_next_54 fun h9 => ?_
  refine g_aload_n (pc := 57) (x := v7) 0 rfl rfl dJ26_next_57 ?_
  refine g_aload_n (pc := 58) (x := a0) 2 rfl rfl dJ26_next_58 ?_
  refine g_iload_n (pc := 59) (x := v3) 1 rfl rfl dJ26_next_59 ?_
  refine g_dup_x1 (pc := 60) rfl rfl dJ26_next_60 ?_
  refine g_put (pc := 61) k_25 (gblt rfl) lk_J26_13_25 rfl rfl (gNi _) dJ26_next_61 fun h10 => ?_
  refine g_aaload (pc := 64) rfl dJ26_next_64 fun v11 => ?_
  exact g_areturn (pc := 65) rfl (Or.inl ⟨_, rfl⟩) dJ26_next_65
/-! java/util/HashMap.size()I -/
noncomputable def sJ23_size_c26 (G : GG) (N : Nat) (a0 : Option Nat) (h : Hp) : Out (Int32) :=
  gFi h a0 26 2 fun v1 =>
  some (.inl v1, h)
abbrev mJ23_size_c26 : MI := (RJ23, cJ23_size, 1, (some .int), [], 0, 0, "size")
theorem tJ23_size_c26 {G : GG} {l : Launch} (hs : l.stackTraces = false) {N : Nat} {a0 : Option Nat} {h : Hp} {r : Int32 ⊕ Nat} {hf : Hp} (ho : sJ23_size_c26 G N a0 h = some (r, hf)) : gMet G l yJ23_size (ws_ yJ23_size cJ23_size 1 (some .int)) 0 0 [gr a0] h cvI r hf := by
  refine gMet.of ho hs (plainFor_of_name pn_J23) rfl rfl (gbl rfl) fun X => ?_
  show gT G l X mJ23_size_c26 cvI r hf 0 [(0, gr a0)] [] h (sJ23_size_c26 G N a0 h)
  delta sJ23_size_c26
  refine g_aload_n (pc := 0) (x := a0) 0 rfl rfl dJ23_size_0 ?_
  refine g_getfi (pc := 1) k_26 (gblt rfl) lk_J23_156_26 dJ23_size_1 fun v1 => ?_
  exact g_ireturn (pc := 4) rfl dJ23_size_4
/-! FlareSlopes$State.remembered()I -/
noncomputable def bX3_remembered_12 (G : GG) (N : Nat) (v2 : Option Nat) (w6 : (Int32) → Hp → Out (Int32)) (x4 : Int32) (h5 : Hp) : Out (Int32) :=
  bV h5 v2 25 (fun q17 => sJ26_hasNext G N (some q17) h5) fun v7 h8 =>
  if v7 = 0 then (some (.inl x4, h8))
  else bV h8 v2 25 (fun q16 => sJ26_next G N (some q16) h8) fun v9 h10 =>
  gCk h10 v9 [7] (gFr h10 v9 7 8 fun v11 =>
  bV h10 v11 26 (fun q15 => sJ23_size_c26 G N (some q15) h10) fun v12 h13 =>
  gLet (x4 + v12) fun v14 =>
  w6 v14 h13)
noncomputable def sX3_remembered (G : GG) (N : Nat) (a0 : Option Nat) (h : Hp) : Out (Int32) :=
  gFr h a0 16 1 fun v1 =>
  bV h v1 24 (fun q18 => sJ12_iterator G N (some q18) h) fun v2 h3 =>
  gLp (bX3_remembered_12 G N v2) N (0 : Int32) h3
abbrev mX3_remembered : MI := (RX3, cX3_remembered, 4, (some .int), [], 3, 53, "remembered")
theorem tX3_remembered {G : GG} {l : Launch} (hs : l.stackTraces = false) {N : Nat} {a0 : Option Nat} {h : Hp} {r : Int32 ⊕ Nat} {hf : Hp} (ho : sX3_remembered G N a0 h = some (r, hf)) : gMet G l yX3_remembered (ws_ yX3_remembered cX3_remembered 4 (some .int)) 3 53 [gr a0] h cvI r hf := by
  refine gMet.of ho hs (plainFor_of_name pn_X3) rfl rfl (gbl rfl) fun X => ?_
  show gT G l X mX3_remembered cvI r hf 0 [(0, gr a0)] [] h (sX3_remembered G N a0 h)
  delta sX3_remembered
  refine g_iconst (pc := 0) (v := (0 : Int32)) ic_0 dX3_remembered_0 ?_
  refine g_istore_n (pc := 1) (lv' := [(1, gi (0 : Int32)), (0, gr a0)]) [0, 1] rfl rfl (gblt rfl) dX3_remembered_1 ?_
  refine g_aload_n (pc := 2) (x := a0) 1 rfl rfl dX3_remembered_2 ?_
  refine g_getfr (pc := 3) k_16 (gblt rfl) lk_X3_12_16 dX3_remembered_3 fun v1 => ?_
  refine g_bVr (pc := 6) (y := yJ12_iterator) (ws := ws_ yJ12_iterator cJ12_iterator 1 (some (.object "java/util/Iterator"))) (fr := 2) (lo := 33) (as := []) (st := []) (g_no) rfl (fun _ _ _ e => tJ12_iterator hs e) (fun K _ _ _ hq hM R e1 e2 => g_runF (x := ⟨"java/util/List", "iterator", "()Ljava/util/Iterator;"⟩) (M := mX3_remembered) (pc := 6) (y := yJ12_iterator) (bytes := cJ12_iterator) (maxL := 1) (ret := (some (.object "java/util/Iterator"))) (fr := 2) (lo := 33) (as := []) (st := []) hq (C := "java/util/ArrayList") rfl gy_J12_iterator rfl (gbl rfl) (gbl rfl) (gbl rfl) q1475 q1477 q1476 q1481 q1479 q971 mhx_java_util_List q1478 q1480 dX3_remembered_6 K hM R e1 e2) fun v2 h3 => ?_
  refine g_astore_n (pc := 11) (lv' := [(2, gr v2), (1, gi (0 : Int32))]) [0, 1] rfl rfl (gblt rfl) dX3_remembered_11 ?_
  refine g_sub (lv' := [(1, gi (0 : Int32)), (2, gr v2)]) [1, 0] rfl ?_
  refine g_loop (pc := 12) (fun (x4 : Int32) => [(1, gi x4), (2, gr v2)]) (fun (_ : Int32) => []) (fun w6 Hw6 x4 h5 => ?_) N (0 : Int32) h3
  delta bX3_remembered_12
  refine g_aload_n (pc := 12) (x := v2) 1 rfl rfl dX3_remembered_12 ?_
  refine g_bVi (pc := 13) (y := yJ26_hasNext) (ws := ws_ yJ26_hasNext cJ26_hasNext 1 (some .boolean)) (fr := 0) (lo := 0) (as := []) (st := []) (g_no) rfl (fun _ _ _ e => tJ26_hasNext hs e) (fun K _ _ _ hq hM R e1 e2 => g_runF (x := ⟨"java/util/Iterator", "hasNext", "()Z"⟩) (M := mX3_remembered) (pc := 13) (y := yJ26_hasNext) (bytes := cJ26_hasNext) (maxL := 1) (ret := (some .boolean)) (fr := 0) (lo := 0) (as := []) (st := []) hq (C := "java/util/ArrayList$Itr") rfl gy_J26_hasNext rfl (gbl rfl) (gbl rfl) (gbl rfl) q1503 q1505 q1504 q1516 q1514 q1512 mhx_java_util_Iterator q1513 q1515 dX3_remembered_13 K hM R e1 e2) fun v7 h8 => ?_
  refine g_if_eq (pc := 18) (tgt := 46) rfl dX3_remembered_18 ?_ ?_
  · refine g_iload_n (pc := 46) (x := x4) 0 rfl rfl dX3_remembered_46 ?_
    exact g_ireturn (pc := 47) rfl dX3_remembered_47
  refine g_aload_n (pc := 21) (x := v2) 1 rfl rfl dX3_remembered_21 ?_
  refine g_bVr (pc := 22) (y := yJ26_next) (ws := ws_ yJ26_next cJ26_next 3 (some (.object "java/lang/Object"))) (fr := 1) (lo := 20) (as := []) (st := []) (g_no) rfl (fun _ _ _ e => tJ26_next hs e) (fun K _ _ _ hq hM R e1 e2 => g_runF (x := ⟨"java/util/Iterator", "next", "()Ljava/lang/Object;"⟩) (M := mX3_remembered) (pc := 22) (y := yJ26_next) (bytes := cJ26_next) (maxL := 3) (ret := (some (.object "java/lang/Object"))) (fr := 1) (lo := 20) (as := []) (st := []) hq (C := "java/util/ArrayList$Itr") rfl gy_J26_next rfl (gbl rfl) (gbl rfl) (gbl rfl) q1537 q1539 q1538 q1554 q1552 q1512 mhx_java_util_Iterator q1551 q1553 dX3_remembered_22 K hM R e1 e2) fun v9 h10 => ?_
  refine g_checkcast (pc := 27) q1230 as_7_FlareSlopes_Cabin dX3_remembered_27 ?_
  refine g_astore_n (pc := 30) (lv' := [(3, gr v9), (1, gi x4), (2, gr v2)]) [0, 1, 2] rfl rfl (gblt rfl) dX3_remembered_30 ?_
  refine g_iload_n (pc := 31) (x := x4) 1 rfl rfl dX3_remembered_31 ?_
  refine g_aload_n (pc := 32) (x := v9) 0 rfl rfl dX3_remembered_32 ?_
  refine g_getfr (pc := 33) k_7 (gblt rfl) lk_X3_188_7 dX3_remembered_33 fun v11 => ?_
  refine g_bVi (pc := 36) (y := yJ23_size) (ws := ws_ yJ23_size cJ23_size 1 (some .int)) (fr := 0) (lo := 0) (as := []) (st := [gi x4]) (g_no) rfl (fun _ _ _ e => tJ23_size_c26 hs e) (fun K _ _ _ hq hM R e1 e2 => g_runF (x := ⟨"java/util/Map", "size", "()I"⟩) (M := mX3_remembered) (pc := 36) (y := yJ23_size) (bytes := cJ23_size) (maxL := 1) (ret := (some .int)) (fr := 0) (lo := 0) (as := []) (st := [gi x4]) hq (C := "java/util/LinkedHashMap") rfl gy_J23_size rfl (gbl rfl) (gbl rfl) (gbl rfl) q1610 q1612 q1611 q1617 q1615 q1613 mhx_java_util_Map q1614 q1616 dX3_remembered_36 K hM R e1 e2) fun v12 h13 => ?_
  refine g_iadd (pc := 41) dX3_remembered_41 ?_
  refine g_leti fun v14 => ?_
  refine g_istore_n (pc := 42) (lv' := [(1, gi v14), (2, gr v2)]) [0, 2] rfl rfl (gblt rfl) dX3_remembered_42 ?_
  refine g_goto (pc := 43) (tgt := 12) rfl dX3_remembered_43 ?_
  exact Hw6 v14 h13
/-! java/lang/Integer.bitCount(I)I -/
noncomputable def sJ20_bitCount (G : GG) (N : Nat) (a0 : Int32) (h : Hp) : Out (Int32) :=
  gLet (a0 - (((a0.toUInt32 >>> ((1 : Int32).toUInt32 &&& Int32.toUInt32 31)).toInt32) &&& (1431655765 : Int32))) fun v1 =>
  gLet ((v1 &&& (858993459 : Int32)) + (((v1.toUInt32 >>> ((2 : Int32).toUInt32 &&& Int32.toUInt32 31)).toInt32) &&& (858993459 : Int32))) fun v2 =>
  gLet ((v2 + ((v2.toUInt32 >>> ((4 : Int32).toUInt32 &&& Int32.toUInt32 31)).toInt32)) &&& (252645135 : Int32)) fun v3 =>
  gLet (v3 + ((v3.toUInt32 >>> ((8 : Int32).toUInt32 &&& Int32.toUInt32 31)).toInt32)) fun v4 =>
  gLet (v4 + ((v4.toUInt32 >>> ((16 : Int32).toUInt32 &&& Int32.toUInt32 31)).toInt32)) fun v5 =>
  some (.inl (v5 &&& (63 : Int32)), h)
abbrev mJ20_bitCount : MI := (RJ20, cJ20_bitCount, 1, (some .int), [], 0, 0, "bitCount")
theorem tJ20_bitCount {G : GG} {l : Launch} (hs : l.stackTraces = false) {N : Nat} {a0 : Int32} {h : Hp} {r : Int32 ⊕ Nat} {hf : Hp} (ho : sJ20_bitCount G N a0 h = some (r, hf)) : gMet G l yJ20_bitCount (ws_ yJ20_bitCount cJ20_bitCount 1 (some .int)) 0 0 [gi a0] h cvI r hf := by
  refine gMet.of ho hs (plainFor_of_name pn_J20) rfl rfl (gbl rfl) fun X => ?_
  show gT G l X mJ20_bitCount cvI r hf 0 [(0, gi a0)] [] h (sJ20_bitCount G N a0 h)
  delta sJ20_bitCount
  refine g_iload_n (pc := 0) (x := a0) 0 rfl rfl dJ20_bitCount_0 ?_
  refine g_iload_n (pc := 1) (x := a0) 0 rfl rfl dJ20_bitCount_1 ?_
  refine g_iconst (pc := 2) (v := (1 : Int32)) ic_1 dJ20_bitCount_2 ?_
  refine g_iushr (pc := 3) dJ20_bitCount_3 ?_
  refine g_ldcw (pc := 4) q1622 dJ20_bitCount_4 ?_
  refine g_iand (pc := 7) dJ20_bitCount_7 ?_
  refine g_isub (pc := 8) dJ20_bitCount_8 ?_
  refine g_leti fun v1 => ?_
  refine g_istore_n (pc := 9) (lv' := [(0, gi v1)]) [0] rfl rfl (gblt rfl) dJ20_bitCount_9 ?_
  refine g_iload_n (pc := 10) (x := v1) 0 rfl rfl dJ20_bitCount_10 ?_
  refine g_ldcw (pc := 11) q1623 dJ20_bitCount_11 ?_
  refine g_iand (pc := 14) dJ20_bitCount_14 ?_
  refine g_iload_n (pc := 15) (x := v1) 0 rfl rfl dJ20_bitCount_15 ?_
  refine g_iconst (pc := 16) (v := (2 : Int32)) ic_2 dJ20_bitCount_16 ?_
  refine g_iushr (pc := 17) dJ20_bitCount_17 ?_
  refine g_ldcw (pc := 18) q1623 dJ20_bitCount_18 ?_
  refine g_iand (pc := 21) dJ20_bitCount_21 ?_
  refine g_iadd (pc := 22) dJ20_bitCount_22 ?_
  refine g_leti fun v2 => ?_
  refine g_istore_n (pc := 23) (lv' := [(0, gi v2)]) [0] rfl rfl (gblt rfl) dJ20_bitCount_23 ?_
  refine g_iload_n (pc := 24) (x := v2) 0 rfl rfl dJ20_bitCount_24 ?_
  refine g_iload_n (pc := 25) (x := v2) 0 rfl rfl dJ20_bitCount_25 ?_
  refine g_iconst (pc := 26) (v := (4 : Int32)) ic_4 dJ20_bitCount_26 ?_
  refine g_iushr (pc := 27) dJ20_bitCount_27 ?_
  refine g_iadd (pc := 28) dJ20_bitCount_28 ?_
  refine g_ldcw (pc := 29) q1624 dJ20_bitCount_29 ?_
  refine g_iand (pc := 32) dJ20_bitCount_32 ?_
  refine g_leti fun v3 => ?_
  refine g_istore_n (pc := 33) (lv' := [(0, gi v3)]) [0] rfl rfl (gblt rfl) dJ20_bitCount_33 ?_
  refine g_iload_n (pc := 34) (x := v3) 0 rfl rfl dJ20_bitCount_34 ?_
  refine g_iload_n (pc := 35) (x := v3) 0 rfl rfl dJ20_bitCount_35 ?_
  refine g_bipush (pc := 36) (v := (8 : Int32)) bc_8 dJ20_bitCount_36 ?_
  refine g_iushr (pc := 38) dJ20_bitCount_38 ?_
  refine g_iadd (pc := 39) dJ20_bitCount_39 ?_
  refine g_leti fun v4 => ?_
  refine g_istore_n (pc := 40) (lv' := [(0, gi v4)]) [0] rfl rfl (gblt rfl) dJ20_bitCount_40 ?_
  refine g_iload_n (pc := 41) (x := v4) 0 rfl rfl dJ20_bitCount_41 ?_
  refine g_iload_n (pc := 42) (x := v4) 0 rfl rfl dJ20_bitCount_42 ?_
  refine g_bipush (pc := 43) (v := (16 : Int32)) bc_16 dJ20_bitCount_43 ?_
  refine g_iushr (pc := 45) dJ20_bitCount_45 ?_
  refine g_iadd (pc := 46) dJ20_bitCount_46 ?_
  refine g_leti fun v5 => ?_
  refine g_istore_n (pc := 47) (lv' := [(0, gi v5)]) [0] rfl rfl (gblt rfl) dJ20_bitCount_47 ?_
  refine g_iload_n (pc := 48) (x := v5) 0 rfl rfl dJ20_bitCount_48 ?_
  refine g_bipush (pc := 49) (v := (63 : Int32)) bc_63 dJ20_bitCount_49 ?_
  refine g_iand (pc := 51) dJ20_bitCount_51 ?_
  exact g_ireturn (pc := 52) rfl dJ20_bitCount_52
/-! FlareSlopes$State.cabin(I)LFlareSlopes$Cabin; -/
noncomputable def sX3_cabin (G : GG) (N : Nat) (a0 : Option Nat) (a1 : Int32) (h : Hp) : Out (Option Nat) :=
  gFr h a0 16 1 fun v1 =>
  bV h v1 24 (fun q4 => sJ12_get G N (some q4) a1 h) fun v2 h3 =>
  gCk h3 v2 [7] (some (.inl v2, h3))
abbrev mX3_cabin : MI := (RX3, cX3_cabin, 2, (some (.object "FlareSlopes$Cabin")), [], 3, 64, "cabin")
theorem tX3_cabin {G : GG} {l : Launch} (hs : l.stackTraces = false) {N : Nat} {a0 : Option Nat} {a1 : Int32} {h : Hp} {r : Option Nat ⊕ Nat} {hf : Hp} (ho : sX3_cabin G N a0 a1 h = some (r, hf)) : gMet G l yX3_cabin (ws_ yX3_cabin cX3_cabin 2 (some (.object "FlareSlopes$Cabin"))) 3 64 [gr a0, gi a1] h cvR r hf := by
  refine gMet.of ho hs (plainFor_of_name pn_X3) rfl rfl (gbl rfl) fun X => ?_
  show gT G l X mX3_cabin cvR r hf 0 [(0, gr a0), (1, gi a1)] [] h (sX3_cabin G N a0 a1 h)
  delta sX3_cabin
  refine g_aload_n (pc := 0) (x := a0) 0 rfl rfl dX3_cabin_0 ?_
  refine g_getfr (pc := 1) k_16 (gblt rfl) lk_X3_12_16 dX3_cabin_1 fun v1 => ?_
  refine g_iload_n (pc := 4) (x := a1) 1 rfl rfl dX3_cabin_4 ?_
  refine g_bVr (pc := 5) (y := yJ12_get) (ws := ws_ yJ12_get cJ12_get 2 (some (.object "java/lang/Object"))) (fr := 2) (lo := 43) (as := [gi a1]) (st := []) (g_no) rfl (fun _ _ _ e => tJ12_get hs e) (fun K _ _ _ hq hM R e1 e2 => g_runF (x := ⟨"java/util/List", "get", "(I)Ljava/lang/Object;"⟩) (M := mX3_cabin) (pc := 5) (y := yJ12_get) (bytes := cJ12_get) (maxL := 2) (ret := (some (.object "java/lang/Object"))) (fr := 2) (lo := 43) (as := [gi a1]) (st := []) hq (C := "java/util/ArrayList") rfl gy_J12_get rfl (gbl rfl) (gbl rfl) (gbl rfl) q1643 q992 q991 q996 q994 q971 mhx_java_util_List q993 q995 dX3_cabin_5 K hM R e1 e2) fun v2 h3 => ?_
  refine g_checkcast (pc := 10) q1230 as_7_FlareSlopes_Cabin dX3_cabin_10 ?_
  exact g_areturn (pc := 13) rfl (Or.inl ⟨_, rfl⟩) dX3_cabin_13
/-! FlareSlopes$Fog.at(I)I -/
noncomputable def sX11_at (G : GG) (N : Nat) (a0 : Option Nat) (a1 : Int32) (h : Hp) : Out (Int32) :=
  gFi h a0 9 0 fun v1 =>
  gFi h a0 9 1 fun v2 =>
  bnd (sX1_in G N a1 v1 v2 h) fun v3 h4 =>
  if v3 = 0 then (some (.inl (0 : Int32), h4))
  else gFi h4 a0 9 2 fun v5 =>
  some (.inl v5, h4)
abbrev mX11_at : MI := (RX11, cX11_at, 2, (some .int), [], 1, 22, "at")
theorem tX11_at {G : GG} {l : Launch} (hs : l.stackTraces = false) {N : Nat} {a0 : Option Nat} {a1 : Int32} {h : Hp} {r : Int32 ⊕ Nat} {hf : Hp} (ho : sX11_at G N a0 a1 h = some (r, hf)) : gMet G l yX11_at (ws_ yX11_at cX11_at 2 (some .int)) 1 22 [gr a0, gi a1] h cvI r hf := by
  refine gMet.of ho hs (plainFor_of_name pn_X11) rfl rfl (gbl rfl) fun X => ?_
  show gT G l X mX11_at cvI r hf 0 [(0, gr a0), (1, gi a1)] [] h (sX11_at G N a0 a1 h)
  delta sX11_at
  refine g_iload_n (pc := 0) (x := a1) 1 rfl rfl dX11_at_0 ?_
  refine g_aload_n (pc := 1) (x := a0) 0 rfl rfl dX11_at_1 ?_
  refine g_getfi (pc := 2) k_9 (gblt rfl) lk_X11_7_9 dX11_at_2 fun v1 => ?_
  refine g_aload_n (pc := 5) (x := a0) 0 rfl rfl dX11_at_5 ?_
  refine g_getfi (pc := 6) k_9 (gblt rfl) lk_X11_13_9 dX11_at_6 fun v2 => ?_
  refine g_bi (pc := 9) (y := yX1_in) (ws := ws_ yX1_in cX1_in 3 (some .boolean)) (fr := 0) (lo := 0) (as := [gi a1, gi v1, gi v2]) (st := []) (g_no) rfl (fun _ _ e => tX1_in hs e) (fun K _ _ hM R e1 e2 => g_runSN (M := mX11_at) (pc := 9) (y := yX1_in) (bytes := cX1_in) (maxL := 3) (ret := (some .boolean)) (fr := 0) (lo := 0) (as := [gi a1, gi v1, gi v2]) (st := []) gy_X1_in (gbl rfl) (gbl rfl) (gbl rfl) q1665 q414 dX11_at_9 K hM R e1 e2) fun v3 h4 => ?_
  refine g_if_eq (pc := 12) (tgt := 22) rfl dX11_at_12 ?_ ?_
  · refine g_iconst (pc := 22) (v := (0 : Int32)) ic_0 dX11_at_22 ?_
    exact g_ireturn (pc := 23) rfl dX11_at_23
  refine g_aload_n (pc := 15) (x := a0) 0 rfl rfl dX11_at_15 ?_
  refine g_getfi (pc := 16) k_9 (gblt rfl) lk_X11_16_9 dX11_at_16 fun v5 => ?_
  refine g_goto (pc := 19) (tgt := 23) rfl dX11_at_19 ?_
  exact g_ireturn (pc := 23) rfl dX11_at_23
